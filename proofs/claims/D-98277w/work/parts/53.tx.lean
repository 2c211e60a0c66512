/-! LAYER 2: the twin's worths: corners, asks -/
set_option maxRecDepth 100000
section TX_
variable {W : Nat → Int} {S : Nat → Nat → Int} {V m Tp : Nat → Int} {RC : Nat → List (Nat × Int)} {τ : TS} {T : Int} {nf : Nat} {k : Nat} {wst : Bool} {wat sh : Int} {R : Nat → Nat → Int → Int}
theorem t_seen (hn : 1200 ≤ nf) (hW : TW W) (hR : Rb W R) (hE : ExA W RC) (hk : (k : Int) < 4 + W 8) {rc : Int32 → Int32 → Int32 → TS → Option (Int32 × TS)} {x y : Nat} (hx : (x : Int) < W 0) (hy : (y : Int) < W 1) (hrc : RcN W S V m Tp RC k wst wat sh R rc x y) {t lt : Int} (h0 : 0 ≤ t) (h1 : t ≤ 1800000000) (l0 : 0 ≤ lt) (l1 : lt ≤ 1900000000) (tb : TB W S V m Tp RC τ) (hc : Cc W k wst wat sh R τ) : Ok (T_worthSeen nf rc (i32 x) (i32 y) (i32 t) (i32 lt) τ) fun p => p.1 = i32 (snN W k (goR RC) (scN wst) R x y t lt) ∧ Cc W k wst wat sh R p.2 ∧ Tw τ p.2 := by
  have hs := scN_b wst
  have w2 := hW.2.2.1
  obtain ⟨z1, z2⟩ := wyT_sn (W := W) (k := k) (rv := goR RC) (sc := scN wst) (R := R) (x := x) (y := y) (t := t) (lt := lt) hs.1 w2.1
  unfold T_worthSeen
  refine ok_2 (t_wayOf hn hW hR hE hk hx hy (fun _ => hrc) h0 h1 l0 l1 tb hc) fun v τ1 hv => ?_
  have v1 : v = _ := hv.1
  have tb1 := tb.q hv.2.2.q'
  rw [v1, z2]
  have hcg : ∀ w, 0 ≤ byN W (scN wst) R x y w t (wtN W x y w lt) ∨ cgA W x y w = true ∨ wtN W x y w lt < 0 := fun w => by
    by_cases q : wtN W x y w lt < 0
    · exact .inr (.inr q)
    · exact .inr (.inl (wtN_cg q))
  rcases z1 with e | e | e
  · rw [e, if_neg (by decide), if_pos (by decide)]
    exact ok_s ⟨rfl, hv.2.1, hv.2.2⟩
  · have hw : cgA W x y false = true := by
      have e2 := e
      unfold wyT at e2
      by_cases q : wtN W x y false lt < 0
      · exfalso
        have eb : byN W (scN wst) R x y false t (wtN W x y false lt) = -1 := by unfold byN; rw [if_pos q]
        by_cases q3 : k = 3
        · rw [if_pos q3, eb] at e2
          unfold btr at e2
          split at e2
          · omega
          · rw [if_pos (decide_eq_true (.inl (by omega)))] at e2
            omega
        · have eg : gsel k (goR RC) (wtN W x y false lt) (wtN W x y true lt) (lfA W x) (upA W y) = true := by unfold gsel; rw [if_pos q]
          rw [if_neg q3, eg, if_pos rfl] at e2
          split at e2 <;> omega
      · exact wtN_cg q
    rw [e, if_pos (by decide), if_neg (by decide), if_neg (by decide)]
    refine ok_2 (t_worthBy (w := false) (by omega) hW hR hx hy hw hrc h0 h1 l0 l1 tb1 hv.2.1) fun u τ2 hu => ?_
    exact ok_s ⟨hu.1, hu.2.1, hv.2.2.tr hu.2.2⟩
  · have hw : cgA W x y true = true := by
      have e2 := e
      unfold wyT at e2
      by_cases q : wtN W x y true lt < 0
      · exfalso
        have eb : byN W (scN wst) R x y true t (wtN W x y true lt) = -1 := by unfold byN; rw [if_pos q]
        by_cases q3 : k = 3
        · rw [if_pos q3, eb] at e2
          unfold btr at e2
          split at e2
          · omega
          · rename_i q4
            rw [if_neg] at e2
            · omega
            · intro z
              have z := of_decide_eq_true z
              omega
        · rw [if_neg q3] at e2
          by_cases q5 : wtN W x y false lt < 0
          · rw [if_pos ⟨q5, q⟩] at e2
            omega
          · have eg : gsel k (goR RC) (wtN W x y false lt) (wtN W x y true lt) (lfA W x) (upA W y) = false := by unfold gsel; rw [if_neg q5, if_pos q]
            rw [eg, if_neg (show ¬ false = true by decide)] at e2
            split at e2 <;> omega
      · exact wtN_cg q
    rw [e, if_pos (by decide), if_neg (by decide), if_pos rfl]
    refine ok_2 (t_worthBy (w := true) (by omega) hW hR hx hy hw hrc h0 h1 l0 l1 tb1 hv.2.1) fun u τ2 hu => ?_
    exact ok_s ⟨hu.1, hu.2.1, hv.2.2.tr hu.2.2⟩
theorem th_loop (hn : 1200 ≤ nf) (hW : TW W) (hR : Rb W R) (hE : ExA W RC) (hk : (k : Int) < 4 + W 8) {rc : Int32 → Int32 → Int32 → TS → Option (Int32 × TS)} {x y : Nat} (hx : (x : Int) < W 0) (hy : (y : Int) < W 1) (hrc : RcN W S V m Tp RC k wst wat sh R rc x y) {t : Int} (h0 : 0 ≤ t) (h1 : t ≤ 1800000000) {rd : Nat} (hr : 0 < rd ∧ rd ≤ 60) {τ0 : TS} (tb0 : TB W S V m Tp RC τ0) : ∀ (d n i : Nat) (τ : TS), i + d = rd → d < n → anyN (fun j : Nat => snN W k (goR RC) (scN wst) R x y t j) i = false → Tw τ0 τ → Cc W k wst wat sh R τ → Ok (T_worthHidden_b18 nf rc n (i32 x) (i32 y) (i32 t) (i64 (smN (fun j : Nat => snN W k (goR RC) (scN wst) R x y t j) i)) (i32 (mxN (fun j : Nat => snN W k (goR RC) (scN wst) R x y t j) i)) (i32 rd) (i32 i) τ) fun p => p.1 = i32 (hdN wst (fun j : Nat => snN W k (goR RC) (scN wst) R x y t j) rd) ∧ Cc W k wst wat sh R p.2 ∧ Tw τ0 p.2 := by
  obtain ⟨f, hf⟩ : ∃ f, f = fun j : Nat => snN W k (goR RC) (scN wst) R x y t j := ⟨_, rfl⟩
  rw [← hf]
  have hfb : ∀ i : Nat, -1 ≤ f i ∧ f i ≤ 1260000 := fun i => by
    have e : f i = snN W k (goR RC) (scN wst) R x y t (i : Int) := by rw [hf]
    rw [e]
    have hsc := scN_b wst
    have := snN_b (k := k) (rv := goR RC) (sc := scN wst) (R := R) (x := x) (y := y) (t := t) (lt := i) (B := 1170000) hW hx hy hsc (fun w hw t' => by
      have := th_in (cg_ev hw).1 hx hy
      exact (hR _ _ _ this.1 this.2.1).2) (by omega)
    constructor
    · exact this.1
    · have := this.2
      omega
  have hsum : ∀ i, i ≤ 60 → anyN f i = false → 0 ≤ smN f i ∧ smN f i ≤ 1260000 * (i : Int) ∧ 0 ≤ mxN f i ∧ mxN f i ≤ 1260000 := by
    intro i
    induction i with
    | zero => intro _ _; exact ⟨Int.le_refl 0, Int.le_refl 0, Int.le_refl 0, by show (0 : Int) ≤ 1260000; omega⟩
    | succ i ih =>
      intro hi ha
      have ha : (anyN f i || decide (f i < 0)) = false := ha
      have ha := Bool.or_eq_false_iff.mp ha
      obtain ⟨e1, e2, e3, e4⟩ := ih (by omega) ha.1
      have hfi := hfb i
      have hneg := of_decide_eq_false ha.2
      refine ⟨?_, ?_, ?_, ?_⟩
      · show 0 ≤ smN f i + f i
        omega
      · show smN f i + f i ≤ 1260000 * ((i + 1 : Nat) : Int)
        omega
      · show 0 ≤ (if mxN f i < f i then f i else mxN f i)
        split <;> omega
      · show (if mxN f i < f i then f i else mxN f i) ≤ 1260000
        split <;> omega
  intro d
  induction d with
  | zero =>
    intro n i τ hd hn2 ha hq hc
    obtain ⟨n, rfl⟩ : ∃ q, n = q + 1 := ⟨n - 1, by omega⟩
    have ei : i = rd := by omega
    subst ei
    obtain ⟨e1, e2, e3, e4⟩ := hsum i (by omega) ha
    rw [show T_worthHidden_b18 nf rc (n + 1) = T_worthHidden_b18_s nf rc (T_worthHidden_b18 nf rc n) from rfl]
    unfold T_worthHidden_b18_s
    refine ok_le ⟨by omega, by omega⟩ ⟨by omega, by omega⟩ (fun _ => ?_) (fun z => by omega)
    rw [hc.2.1]
    cases wst with
    | true =>
      rw [if_neg (show ¬ bi true = (0 : Int32) by decide)]
      refine ok_s ⟨?_, hc, hq⟩
      unfold hdN
      rw [ha, if_neg (by decide), if_pos rfl]
    | false =>
      have hq1 : 0 ≤ smN f i / (i : Int) := Int.ediv_nonneg e1 (by omega)
      have hq2 : smN f i / (i : Int) ≤ smN f i := Int.ediv_le_self _ e1
      rw [if_pos (show bi false = (0 : Int32) from rfl), i32_long ⟨by omega, by omega⟩, d64_n ⟨by omega, by omega⟩ (by omega), i64_div ⟨by omega, by omega⟩ ⟨by omega, by omega⟩ e1 (by omega), i64_int ⟨by omega, by omega⟩]
      refine ok_s ⟨?_, hc, hq⟩
      unfold hdN
      rw [ha, if_neg (by decide), if_neg (by decide)]
  | succ d ih =>
    intro n i τ hd hn2 ha hq hc
    obtain ⟨n, rfl⟩ : ∃ q, n = q + 1 := ⟨n - 1, by omega⟩
    obtain ⟨e1, e2, e3, e4⟩ := hsum i (by omega) ha
    rw [show T_worthHidden_b18 nf rc (n + 1) = T_worthHidden_b18_s nf rc (T_worthHidden_b18 nf rc n) from rfl]
    unfold T_worthHidden_b18_s
    refine ok_le ⟨by omega, by omega⟩ ⟨by omega, by omega⟩ (fun z => by omega) (fun _ => ?_)
    refine ok_2 (t_seen hn hW hR hE hk hx hy hrc h0 h1 (lt := (i : Int)) (by omega) (by omega) (tb0.q hq.q') hc) fun v τ1 hv => ?_
    have v1 : v = i32 (f i) := by rw [hf]; exact hv.1
    have hfi := hfb i
    rw [v1, show (0 : Int32) = i32 0 from rfl]
    have est : mxN f (i + 1) = if mxN f i < f i then f i else mxN f i := rfl
    have ess : smN f (i + 1) = smN f i + f i := rfl
    refine ok_le ⟨by omega, by omega⟩ ⟨by omega, by omega⟩ (fun z => ?_) (fun z => ?_)
    · rw [i32_long ⟨by omega, by omega⟩, nm_eq, i64_add, show (1 : Int32) = i32 1 from rfl, i32_add, ← ess]
      have K := ih n (i + 1) τ1 (by omega) (by omega) (by show (anyN f i || decide (f i < 0)) = false; rw [ha, decide_eq_false (by omega)]; rfl) (hq.tr hv.2.2) hv.2.1
      rw [est] at K
      refine ok_le ⟨by omega, by omega⟩ ⟨by omega, by omega⟩ (fun q => ?_) (fun q => ?_)
      · rw [if_neg (show ¬ mxN f i < f i by omega)] at K
        exact K
      · rw [if_pos q] at K
        exact K
    · refine ok_s ⟨?_, hv.2.1, hq.tr hv.2.2⟩
      unfold hdN
      rw [anyN_lt (f := f) (i := i) (by omega) z, if_pos rfl]
      rfl
theorem Cc.put (hW : TW W) {x y : Nat} {t : Int} (hx : (x : Int) < W 0) (hy : (y : Int) < W 1) (h0 : 0 ≤ t) (h1 : t < W 9) (hc : Cc W k wst wat sh R τ) : Cc W k wst wat sh R (sA (sA τ 23 (wIx x y t) (i32 (R x y t))) 24 (wIx x y t) (tI τ 25)) := by
  have w0 := hW.1
  have w9 := hW.2.2.2.2.2.2.2.2.2.1
  obtain ⟨c1, c2, c3, c4, c5, c6⟩ := hc
  refine ⟨c1, c2, c3, c4, fun i hi => ?_, fun x' y' t' hx' hy' h0' h1' e => ?_⟩
  · have e24 : tA (sA (sA τ 23 (wIx x y t) (i32 (R x y t))) 24 (wIx x y t) (tI τ 25)) 24 = upd (tA τ 24) (wIx x y t) (tI τ 25) := rfl
    show (tA (sA (sA τ 23 (wIx x y t) (i32 (R x y t))) 24 (wIx x y t) (tI τ 25)) 24 i).toInt ≤ (tI τ 25).toInt
    rw [e24]
    by_cases q : i = wIx x y t
    · rw [q, upd_e]
      exact Int.le_refl _
    · rw [upd_n _ _ q]
      exact c5 i hi
  · have e24 : tA (sA (sA τ 23 (wIx x y t) (i32 (R x y t))) 24 (wIx x y t) (tI τ 25)) 24 = upd (tA τ 24) (wIx x y t) (tI τ 25) := rfl
    have e23 : tA (sA (sA τ 23 (wIx x y t) (i32 (R x y t))) 24 (wIx x y t) (tI τ 25)) 23 = upd (tA τ 23) (wIx x y t) (i32 (R x y t)) := rfl
    have e : tA (sA (sA τ 23 (wIx x y t) (i32 (R x y t))) 24 (wIx x y t) (tI τ 25)) 24 (wIx x' y' t') = tI τ 25 := e
    rw [e24] at e
    rw [e23]
    by_cases q : wIx x' y' t' = wIx x y t
    · obtain ⟨rfl, rfl, rfl⟩ := wIx_i (by omega) (by omega) h0' (by omega) h0 (by omega) q
      rw [upd_e]
    · rw [upd_n _ _ q]
      rw [upd_n _ _ q] at e
      exact c6 x' y' t' hx' hy' h0' h1' e
theorem t_from (hn : 1200 ≤ nf) (hW : TW W) (hS : SW W T (S 0)) (hE : ExA W RC) (hk : (k : Int) < 4 + W 8) (hwa : -1 ≤ wat ∧ wat < 54) (hsh : 0 ≤ sh ∧ sh ≤ 100000) (hV : VS W (S 0) k (goR RC) wst false wat sh R) : ∀ (d dp x y : Nat), (x : Int) < W 0 → (y : Int) < W 1 → dsA W x y = d → d < dp → RcO W S V m Tp RC k wst wat sh R (T_worthFrom nf dp) x y := by
  have w0 := hW.1
  have w1 := hW.2.1
  have w9 := hW.2.2.2.2.2.2.2.2.2.1
  have hR := VS_Rb hW hV
  intro d
  induction d with
  | zero =>
    intro dp x y hx hy hd hdp t τ h0 h1 tb hc
    obtain ⟨dp, rfl⟩ : ∃ q, dp = q + 1 := ⟨dp - 1, by omega⟩
    have hh : hmA W x y = true := by unfold hmA; unfold dsA at hd; exact decide_eq_true (by omega)
    show Ok (T_worthFrom_s nf (T_worthFrom nf dp) _ _ _ τ) _
    unfold T_worthFrom_s
    refine ok_be (s_isHome hW tb.1 (by omega) (by omega)) ?_
    rw [hh, if_neg (show ¬ bi true = (0 : Int32) by decide), hV x y _ hx hy (wtN_ev hW).1 (wtN_ev hW).2, if_pos hh]
    exact ok_s ⟨rfl, hc, Tm.rf⟩
  | succ d ih =>
    intro dp x y hx hy hd hdp t τ h0 h1 tb hc
    obtain ⟨dp, rfl⟩ : ∃ q, dp = q + 1 := ⟨dp - 1, by omega⟩
    have hh : hmA W x y = false := by unfold hmA; unfold dsA at hd; exact decide_eq_false (by omega)
    have hm := wtN_ev hW (t := t)
    have hrc : RcN W S V m Tp RC k wst wat sh R (T_worthFrom nf dp) x y := fun w hw => by
      have := th_in hw hx hy
      exact ih dp _ _ this.1 this.2.1 (by omega) (by omega)
    have hVt := hV x y (t % W 9) hx hy hm.1 hm.2
    rw [hh, if_neg (by decide)] at hVt
    show Ok (T_worthFrom_s nf (T_worthFrom nf dp) _ _ _ τ) _
    unfold T_worthFrom_s
    refine ok_be (s_isHome hW tb.1 (by omega) (by omega)) ?_
    rw [hh, if_pos (show bi false = (0 : Int32) from rfl), show (9 : Int32) = i32 ((9 : Nat) : Int) from rfl, s_ld τ tb.1 (by omega)]
    refine ok_d32 (by omega) (by omega) ?_
    rw [nm_eq, nm_eq, rem_c h0 (by omega) (by omega) (by omega), show (1200 : Int32) = i32 1200 from rfl, show (6 : Int32) = i32 6 from rfl, i32_mul, i32_add, i32_mul, i32_add]
    have hix : (1200 * (6 * (y : Int) + (x : Int)) + t % W 9).toNat = wIx x y (t % W 9) := rfl
    refine ok_ld (by omega) (by show _ < ((64800 : Nat) : Int); omega) (by decide) ?_
    rw [hix]
    refine ok_if (fun q => ?_) (fun q => ?_)
    · refine ok_ld (by omega) (by show _ < ((64800 : Nat) : Int); omega) (by decide) ?_
      rw [hix]
      exact ok_s ⟨hc.2.2.2.2.2 x y _ hx hy hm.1 hm.2 q, hc, Tm.rf⟩
    · have fin : ∀ v τ1, v = i32 (R x y (t % W 9)) → Cc W k wst wat sh R τ1 → Tw τ τ1 → Ok (T_worthFrom_b104 nf (T_worthFrom nf dp) (i32 (1200 * (6 * (y : Int) + (x : Int)) + t % W 9)) v τ1) fun p => p.1 = i32 (R x y (t % W 9)) ∧ Cc W k wst wat sh R p.2 ∧ Tw τ p.2 := fun v τ1 hv hc1 hq => by
        unfold T_worthFrom_b104
        refine ok_sA (by omega) (by show _ < ((64800 : Nat) : Int); omega) (by decide) (ok_sA (by omega) (by show _ < ((64800 : Nat) : Int); omega) (by decide) (ok_ld (by omega) (by show _ < ((64800 : Nat) : Int); omega) (by decide) ?_))
        rw [hix, hv]
        refine ok_s ⟨?_, hc1.put hW hx hy hm.1 hm.2, (hq.tr (Tm.sA rfl)).tr (Tm.sA rfl)⟩
        have e23 : tA (sA (sA τ1 23 (wIx x y (t % W 9)) (i32 (R x y (t % W 9)))) 24 (wIx x y (t % W 9)) (tI (sA τ1 23 (wIx x y (t % W 9)) (i32 (R x y (t % W 9)))) 25)) 23 = upd (tA τ1 23) (wIx x y (t % W 9)) (i32 (R x y (t % W 9))) := rfl
        show tA (sA (sA τ1 23 (wIx x y (t % W 9)) (i32 (R x y (t % W 9)))) 24 (wIx x y (t % W 9)) (tI (sA τ1 23 (wIx x y (t % W 9)) (i32 (R x y (t % W 9)))) 25)) 23 (wIx x y (t % W 9)) = _
        rw [e23, upd_e]
      refine ok_be (s_isUnknown tb (by omega) (by omega) hW hS (w := wat) ⟨by omega, by omega⟩ hc.2.2.1) ?_
      unfold stN at hVt
      by_cases qu : unA W (S 0) (6 * y + x) = true ∧ ¬ wat = ((6 * y + x : Nat) : Int)
      · rw [if_neg (fun z => qu.2 z.symm), if_pos ⟨rfl, qu.1⟩] at hVt
        rw [decide_eq_true qu, if_neg (show ¬ bi true = (0 : Int32) by decide)]
        have hr := un_rd hW (c := 6 * y + x) (by omega) qu.1
        unfold T_worthHidden
        have el : T_lightAt τ (i32 x) (i32 y) 1 = some (i32 (W (11 + 4 * (6 * y + x)))) := by
          have := s_lightAt (what := 1) tb.1 (x := x) (y := y) (by omega) (by omega) (by omega)
          unfold ltA at this
          rw [show 10 + 4 * (6 * y + x) + 1 = 11 + 4 * (6 * y + x) by omega] at this
          exact this
        have L := th_loop (nf := nf) hn hW hR hE hk hx hy hrc hm.1 (by omega) (rd := (W (11 + 4 * (6 * y + x))).toNat) (by omega) tb (W (11 + 4 * (6 * y + x))).toNat nf 0 τ (by omega) (by omega) rfl Tm.rf hc
        rw [Int.toNat_of_nonneg (by omega)] at L
        refine ok_2 (ok_be el L) fun v τ1 hv => ?_
        exact fin v τ1 (by rw [hVt]; exact hv.1) hv.2.1 hv.2.2
      · rw [decide_eq_false qu, if_pos (show bi false = (0 : Int32) from rfl), hc.2.2.1]
        refine ok_q ⟨by omega, by omega⟩ ⟨by omega, by omega⟩ (fun qw => ?_) (fun qw => ?_)
        · rw [if_pos (by omega)] at hVt
          rw [hc.2.2.2.1, i32_add]
          refine ok_2 (t_seen hn hW hR hE hk hx hy hrc hm.1 (by omega) (by omega) (by omega) tb hc) fun v τ1 hv => ?_
          exact fin v τ1 (by rw [hVt]; exact hv.1) hv.2.1 hv.2.2
        · rw [if_neg (by omega), if_neg (fun z => qu ⟨z.2, by omega⟩)] at hVt
          refine ok_2 (t_seen hn hW hR hE hk hx hy hrc hm.1 (by omega) hm.1 (by omega) tb hc) fun v τ1 hv => ?_
          exact fin v τ1 (by rw [hVt]; exact hv.1) hv.2.1 hv.2.2
/-- what the twin keeps is right for whom it is kept -/
def Cv (W σ : Nat → Int) (RC : Nat → List (Nat × Int)) (N : Int) (τ : TS) : Prop := (∀ i, i < 64800 → (tA τ 24 i).toInt ≤ (tI τ 25).toInt) ∧ (0 ≤ (tI τ 25).toInt ∧ (tI τ 25).toInt ≤ N) ∧ (0 ≤ (tI τ 28).toInt ∧ (tI τ 28).toInt ≤ (tI τ 22).toInt ∧ (tI τ 22).toInt ≤ N) ∧ (tI τ 28 = tI τ 22 → ∀ (k : Nat) (wst : Bool) (wat sh : Int), k ≤ 7 → (-1 ≤ wat ∧ wat < 54) → (0 ≤ sh ∧ sh ≤ 100000) → tI τ 26 = i32 (k : Int) → tI τ 27 = bi wst → tI τ 29 = i32 wat → tI τ 30 = i32 sh → Kp W (vT W σ k (goR RC) wst false wat sh) τ) ∧ (∀ i, i < 64800 → (tA τ 32 i).toInt ≤ (tI τ 33).toInt) ∧ 0 ≤ (tI τ 33).toInt ∧ (tI τ 33).toInt ≤ N
theorem bi_inj {p q : Bool} (h : bi p = bi q) : p = q := by
  cases p <;> cases q <;> first | rfl | exact absurd h (by decide)
theorem Cv.of {N : Int} {σ : Nat → Int} (hk : k ≤ 7) (hwa : -1 ≤ wat ∧ wat < 54) (hsh : 0 ≤ sh ∧ sh ≤ 100000) {τ' : TS} (h : Cv W σ RC N τ) (hq : Tw τ τ') (hc : Cc W k wst wat sh (vT W σ k (goR RC) wst false wat sh) τ') : Cv W σ RC N τ' := by
  obtain ⟨h1, h2, h3, h4, h5, h6⟩ := h
  refine ⟨hc.2.2.2.2.1, by rw [hq.1]; exact h2, by rw [hq.1, hq.1]; exact h3, fun _ k' wst' wat' sh' a1 a2 a3 a4 a5 a6 a7 => ?_, ?_, by rw [hq.1]; exact h6⟩
  · have e1 : k' = k := by
      rw [hc.1] at a4
      have := (i32_eq ⟨by omega, by omega⟩ ⟨by omega, by omega⟩).mp a4
      omega
    have e2 : wst' = wst := by
      rw [hc.2.1] at a5
      exact (bi_inj a5).symm
    have e3 : wat' = wat := by
      rw [hc.2.2.1] at a6
      exact ((i32_eq ⟨by omega, by omega⟩ ⟨by omega, by omega⟩).mp a6).symm
    have e4 : sh' = sh := by
      rw [hc.2.2.2.1] at a7
      exact ((i32_eq ⟨by omega, by omega⟩ ⟨by omega, by omega⟩).mp a7).symm
    subst e1 e2 e3 e4
    exact hc.2.2.2.2.2
  · rw [hq.1, hq.2.2.2 32 rfl]
    exact h5
/-- but the twin's kept things nothing changed -/
def Tz (τ τ' : TS) : Prop := (∀ k, [25, 26, 27, 28, 29, 30].contains k = false → tI τ' k = tI τ k) ∧ (∀ k, tL τ' k = tL τ k) ∧ (∀ k, tB τ' k = tB τ k) ∧ ∀ k, [17, 18, 23, 24].contains k = false → tA τ' k = tA τ k
theorem Tz.rf : Tz τ τ := ⟨fun _ _ => rfl, fun _ => rfl, fun _ => rfl, fun _ _ => rfl⟩
theorem Tz.tr {τ1 τ2 : TS} (h : Tz τ τ1) (k : Tz τ1 τ2) : Tz τ τ2 := ⟨fun j q => (k.1 j q).trans (h.1 j q), fun j => (k.2.1 j).trans (h.2.1 j), fun j => (k.2.2.1 j).trans (h.2.2.1 j), fun j q => (k.2.2.2 j q).trans (h.2.2.2 j q)⟩
theorem Tz.w {τ1 : TS} (h : Tw τ τ1) : Tz τ τ1 := ⟨fun j _ => h.1 j, h.2.1, h.2.2.1, h.2.2.2⟩
theorem Tz.q {τ1 : TS} (h : Tz τ τ1) : Tq τ τ1 := by
  refine ⟨fun j e => h.1 j ?_, fun j e => h.2.2.2 j ?_, h.2.2.1 9⟩
  · unfold tsI at e
    cases e2 : [25, 26, 27, 28, 29, 30].contains j with
    | false => rfl
    | true =>
      simp only [List.contains_cons, Bool.or_eq_true, beq_iff_eq, List.contains_nil, or_false, Bool.false_eq_true] at e2
      rcases e2 with rfl | rfl | rfl | rfl | rfl | rfl <;> cases e
  · unfold tsA at e
    cases e2 : [17, 18, 23, 24].contains j with
    | false => rfl
    | true =>
      simp only [List.contains_cons, Bool.or_eq_true, beq_iff_eq, List.contains_nil, or_false, Bool.false_eq_true] at e2
      rcases e2 with rfl | rfl | rfl | rfl <;> cases e
theorem t_asks {N : Int} {σ : Nat → Int} (hW : TW W) (hN : N < 2000000000) (hk : k ≤ 7) (hwa : -1 ≤ wat ∧ wat < 54) (hsh : 0 ≤ sh ∧ sh ≤ 100000) (h : Cv W σ RC N τ) : Ok (T_asks (i32 (k : Int)) (bi wst) (i32 wat) (i32 sh) τ) fun τ' => Cc W k wst wat sh (vT W σ k (goR RC) wst false wat sh) τ' ∧ Tz τ τ' ∧ Cv W σ RC (N + 1) τ' := by
  obtain ⟨h1, h2, h3, h4, h5, h6⟩ := id h
  have go : Ok (T_asks_b44 (i32 (k : Int)) (bi wst) (i32 wat) (i32 sh) τ) fun τ' => Cc W k wst wat sh (vT W σ k (goR RC) wst false wat sh) τ' ∧ Tz τ τ' ∧ Cv W σ RC (N + 1) τ' := by
    unfold T_asks_b44
    rw [nm_eq, gd_t (isb_bi wst), nm_eq, nm_eq, nm_eq, nm_eq, nm_eq]
    obtain ⟨τ', hτ⟩ : ∃ τ', τ' = sI (sI (sI (sI (sI (sI τ 26 (i32 (k : Int))) 27 (bi wst)) 28 (tI (sI (sI τ 26 (i32 (k : Int))) 27 (bi wst)) 22)) 29 (i32 wat)) 30 (i32 sh)) 25 (tI (sI (sI (sI (sI (sI τ 26 (i32 (k : Int))) 27 (bi wst)) 28 (tI (sI (sI τ 26 (i32 (k : Int))) 27 (bi wst)) 22)) 29 (i32 wat)) 30 (i32 sh)) 25 + 1) := ⟨_, rfl⟩
    rw [← hτ]
    have g25 : tI τ' 25 = tI τ 25 + 1 := by rw [hτ]; rfl
    have g26 : tI τ' 26 = i32 (k : Int) := by rw [hτ]; rfl
    have g27 : tI τ' 27 = bi wst := by rw [hτ]; rfl
    have g28 : tI τ' 28 = tI τ 22 := by rw [hτ]; rfl
    have g22 : tI τ' 22 = tI τ 22 := by rw [hτ]; rfl
    have g29 : tI τ' 29 = i32 wat := by rw [hτ]; rfl
    have g30 : tI τ' 30 = i32 sh := by rw [hτ]; rfl
    have g33 : tI τ' 33 = tI τ 33 := by rw [hτ]; rfl
    have gA : ∀ j, tA τ' j = tA τ j := fun j => by rw [hτ]; rfl
    have e25 : (tI τ' 25).toInt = (tI τ 25).toInt + 1 := by
      rw [g25, ← i32_of (tI τ 25), show (1 : Int32) = i32 1 from rfl, i32_add, i32_toInt ⟨by omega, by omega⟩, i32_toInt ⟨by omega, by omega⟩]
    have hKp : ∀ R, Kp W R τ' := fun R x y t hx hy h0 h1' e => by
      exfalso
      have e2 := congrArg Int32.toInt e
      rw [gA, e25] at e2
      have w0 := hW.1
      have w1 := hW.2.1
      have w9 := hW.2.2.2.2.2.2.2.2.2.1
      have := h1 (wIx x y t) (by unfold wIx; omega)
      omega
    have hcc : Cc W k wst wat sh (vT W σ k (goR RC) wst false wat sh) τ' := ⟨g26, g27, g29, g30, fun i hi => by rw [gA, e25]; have := h1 i hi; omega, hKp _⟩
    refine ok_s ⟨hcc, ⟨fun j q => ?_, fun j => by rw [hτ]; rfl, fun j => by rw [hτ]; rfl, fun j _ => gA j⟩, ⟨hcc.2.2.2.2.1, by rw [e25]; omega, by rw [g28, g22]; omega, fun _ k' wst' wat' sh' _ _ _ _ _ _ _ => hKp _, by rw [gA, g33]; exact h5, by rw [g33]; omega⟩⟩
    rw [hτ]
    simp only [tI_sI]
    simp only [List.contains_cons, Bool.or_eq_false_iff, beq_eq_false_iff_ne, ne_eq, List.contains_nil] at q
    obtain ⟨q1, q2, q3, q4, q5, q6, -⟩ := q
    rw [if_neg q1, if_neg q6, if_neg q5, if_neg q4, if_neg q3, if_neg q2]
  unfold T_asks
  refine ok_if (fun e26 => ?_) (fun _ => go)
  refine ok_if (fun e27 => ?_) (fun _ => go)
  refine ok_if (fun e28 => ?_) (fun _ => go)
  refine ok_if (fun e29 => ?_) (fun _ => go)
  refine ok_if (fun e30 => ?_) (fun _ => go)
  refine ok_s ⟨⟨e26, e27, e29, e30, h1, h4 e28 k wst wat sh hk hwa hsh e26 e27 e29 e30⟩, Tz.rf, ⟨h1, by omega, by omega, h4, h5, by omega⟩⟩
end TX_
