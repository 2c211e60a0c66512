/-! LAYER 2: paces along a walk: the twin -/
set_option maxRecDepth 100000
def wvP (v : Int) : Int := if v = 100000000 then 2000000000 else v + 1
def stW (wt : Int) : Int := if 0 < wt then 100000 else 0
def gW (wt v : Int) : Int := if v = 100000000 then 2000000000 else v + 1 + stW wt
def pcP (v : Int) : Prop := v = 100000000 ∨ (0 ≤ v ∧ v ≤ 2000000)
theorem stW_b {wt : Int} : 0 ≤ stW wt ∧ stW wt ≤ 100000 := by
  unfold stW
  split <;> omega
theorem gW_mn {wt a b : Int} (ha : pcP a) (hb : pcP b) : mn2 (gW wt a) (gW wt b) = gW wt (mn2 a b) := by
  have hs := stW_b (wt := wt)
  unfold pcP at ha hb
  have ea : gW wt a = if a = 100000000 then 2000000000 else a + 1 + stW wt := rfl
  have eb : gW wt b = if b = 100000000 then 2000000000 else b + 1 + stW wt := rfl
  by_cases q : b < a
  · have e : mn2 a b = b := if_pos q
    rw [e]
    have : gW wt b < gW wt a := by
      rw [ea, eb, if_neg (show ¬ b = 100000000 by omega)]
      split <;> omega
    exact if_pos this
  · have e : mn2 a b = a := if_neg q
    rw [e]
    have : ¬ gW wt b < gW wt a := by
      rw [ea, eb]
      split
      · split <;> omega
      · split <;> omega
    exact if_neg this
theorem mn_P {a b : Int} (ha : pcP a) (hb : pcP b) : pcP (mn2 a b) := by
  rcases (mn2_le (a := a) (b := b)).2.2 with z | z <;> rw [z] <;> assumption
/-- the twin's place -/
def tIp (k t r : Nat) : Nat := (k * 1200 + t) * 10 + r
/-- its memo holds what it is of -/
def Mpc (W V : Nat → Int) (sec : Int) (τ : TS) : Prop := tI τ 37 = i32 sec ∧ ∀ k t r : Nat, (k : Int) < V 0 → t ≤ 90 * k → (r : Int) ≤ rsA W → tA τ 36 (tIp k t r) = i32 0 ∨ tA τ 36 (tIp k t r) = i32 (wvP (pcN W V sec ((V 0).toNat - k) k t r))
/-- by so many seconds, the twin's -/
def hF (W V : Nat → Int) (sec : Int) (k t r : Nat) (x : Int) : Int := if cgA W (xW V k) (k - xW V k) (wV V k) = true then gW (wtV W V sec k t) (pF W V sec k t r x) else 2000000000
section PT
variable {W : Nat → Int} {S : Nat → Nat → Int} {V m Tp : Nat → Int} {RC : Nat → List (Nat × Int)} {τ : TS} {T : Int} {nf : Nat} {sec : Int}
theorem pF_P (hW : TW W) (hV : VW W V) {k t r : Nat} {x : Int} (hk : (k : Int) < V 0) (hc : cgA W (xW V k) (k - xW V k) (wV V k) = true) (ht : t ≤ 90 * k) (hx : 1 ≤ x ∧ x ≤ 30) : pcP (pF W V sec k t r x) := by
  have hwt := wtV_b (sec := sec) (t := (t : Int)) hW hV hk hc
  have := pcF_b (sec := sec) (d := (V 0).toNat - (k + 1)) (k := k) (t := t) (wt := wtV W V sec k t) hW hV (r := r) (x := x) (by omega) hwt ht hx
  have : 0 ≤ pF W V sec k t r x ∧ (pF W V sec k t r x = 100000000 ∨ pF W V sec k t r x ≤ 2000000) := this
  unfold pcP
  omega
theorem hF_b (hW : TW W) (hV : VW W V) {k t r : Nat} {x : Int} (hk : (k : Int) < V 0) (ht : t ≤ 90 * k) (hx : 1 ≤ x ∧ x ≤ 30) : 1 ≤ hF W V sec k t r x ∧ hF W V sec k t r x ≤ 2000000000 := by
  have hs := stW_b (wt := wtV W V sec k t)
  unfold hF
  by_cases q : cgA W (xW V k) (k - xW V k) (wV V k) = true
  · have := pF_P (sec := sec) (r := r) hW hV hk q ht hx
    unfold pcP at this
    rw [if_pos q]
    unfold gW
    split <;> omega
  · rw [if_neg q]
    omega
theorem tw_b (hW : TW W) (hV : VW W V) {k t r : Nat} (hk : (k : Int) ≤ V 0) (ht : t ≤ 90 * k) : 1 ≤ wvP (pcN W V sec ((V 0).toNat - k) k t r) ∧ wvP (pcN W V sec ((V 0).toNat - k) k t r) ≤ 2000000000 := by
  have v0 := hV.1
  have hb := pcN_b (sec := sec) hW hV ((V 0).toNat - k) k t r (by omega) (by omega)
  unfold pcB at hb
  unfold wvP
  split <;> omega
theorem mn_const : ∀ (n : Nat) (s : Int) (h : Int → Int), (∀ i, s ≤ i → i < s + n → h i = 2000000000) → mnR h n s 2000000000 = 2000000000 := by
  intro n
  induction n with
  | zero => intro s h _; rfl
  | succ n ih =>
    intro s h hh
    show mnR h n (s + 1) (mn2 2000000000 (h s)) = _
    rw [hh s (by omega) (by omega)]
    exact ih (s + 1) h (fun i a b => hh i (by omega) (by omega))
/-- the least of them is what it comes to -/
theorem hF_mn (hW : TW W) (hV : VW W V) {k t r : Nat} (hk : (k : Int) < V 0) (ht : t ≤ 90 * k) : mnR (hF W V sec k t r) (nsA W) (fsA W) 2000000000 = wvP (pcN W V sec ((V 0).toNat - k) k t r) := by
  have hf := fs_b hW
  have e1 : (V 0).toNat - k = ((V 0).toNat - (k + 1)) + 1 := by omega
  have e2 : pcN W V sec ((V 0).toNat - k) k t r = if cgA W (xW V k) (k - xW V k) (wV V k) = true then stF (wtV W V sec k t) (pM W V sec k t r) else 100000000 := by
    rw [e1]
    rfl
  rw [e2]
  by_cases q : cgA W (xW V k) (k - xW V k) (wV V k) = true
  · rw [if_pos q]
    have L := mnR_map (f := pF W V sec k t r) (g := gW (wtV W V sec k t)) (h := hF W V sec k t r) (P := pcP) (fun a b => gW_mn) (fun a b => mn_P) (nsA W) (fsA W) 100000000 (.inl rfl) (fun i a b => pF_P hW hV hk q ht (by omega)) (fun i a b => by unfold hF; rw [if_pos q])
    have e3 : gW (wtV W V sec k t) 100000000 = 2000000000 := if_pos rfl
    rw [e3] at L
    rw [L]
    show gW (wtV W V sec k t) (pM W V sec k t r) = _
    have hs := stW_b (wt := wtV W V sec k t)
    have hP : pcP (pM W V sec k t r) := by
      rcases (mnR_sp (f := pF W V sec k t r) (nsA W) (fsA W) 100000000).2.2 with z | ⟨i, a1, a2, a3⟩
      · exact .inl z
      · have : pM W V sec k t r = pF W V sec k t r i := a3
        rw [this]
        exact pF_P hW hV hk q ht (by omega)
    unfold pcP at hP
    unfold gW wvP stF
    by_cases q2 : pM W V sec k t r = 100000000
    · rw [if_pos q2, if_pos q2, if_pos rfl]
    · rw [if_neg q2, if_neg q2]
      show pM W V sec k t r + 1 + stW (wtV W V sec k t) = if pM W V sec k t r + stW (wtV W V sec k t) = 100000000 then 2000000000 else pM W V sec k t r + stW (wtV W V sec k t) + 1
      rw [if_neg (by omega)]
      omega
  · rw [if_neg q]
    have := mn_const (nsA W) (fsA W) (hF W V sec k t r) (fun i a b => by unfold hF; rw [if_neg q])
    rw [this]
    rfl
/-- one street, the twin's -/
theorem t_paceBy (hn : 100 ≤ nf) (tb : TB W S V m Tp RC τ) (hW : TW W) (hV : VW W V) (hs : 0 ≤ sec ∧ sec ≤ 1000000) {k t r : Nat} {x : Int} {rc : Int32 → Int32 → Int32 → TS → Option (Int32 × TS)} (hM : Mpc W V sec τ) (hk : (k : Int) < V 0) (ht : t ≤ 90 * k) (hr : (r : Int) ≤ rsA W) (hx : 1 ≤ x ∧ x ≤ 30) (hrc : ∀ t2 r2 : Nat, t2 ≤ 90 * (k + 1) → (r2 : Int) ≤ rsA W → Ok (rc (i32 ((k + 1 : Nat) : Int)) (i32 t2) (i32 r2) τ) fun p => p.1 = i32 (wvP (pcN W V sec ((V 0).toNat - (k + 1)) (k + 1) t2 r2)) ∧ Tk τ p.2 ∧ Mpc W V sec p.2) : Ok (T_paceBy nf rc (i32 k) (i32 t) (i32 r) (i32 x) τ) fun p => p.1 = i32 (hF W V sec k t r x) ∧ Tk τ p.2 ∧ Mpc W V sec p.2 := by
  have v0 := hV.1
  have w2 := hW.2.2.1
  have hrs := rs_b hW
  obtain ⟨k1, k2, k3, k4, k5⟩ := vw_k hW hV hk
  have hle := (hV.2 k hk).2.2.1
  have k2 : i32 (V (1 + 2 * k)) = wy (wV V k) := k2
  unfold T_paceBy
  refine ok_be (s_xAt hn tb hW hV (by omega)) ?_
  rw [nm_eq, show (1 : Int32) + 2 * i32 (k : Int) = i32 ((1 + 2 * k : Nat) : Int) by rw [show (1 : Int32) = i32 1 from rfl, show (2 : Int32) = i32 2 from rfl, i32_mul, i32_add]; rfl, s_wk tb (by omega), show (2 : Int32) = i32 ((2 : Nat) : Int) from rfl, s_ld τ tb.1 (by omega), k2, i32_sub, show (k : Int) - (xW V k : Int) = ((k - xW V k : Nat) : Int) by omega]
  unfold T_paceBy_b41
  have hcg := s_canGo hW tb.1 k3 k4 (way := wV V k)
  unfold hF
  by_cases q : cgA W (xW V k) (k - xW V k) (wV V k) = true
  · have hwt := wtV_b (sec := sec) (t := (t : Int)) hW hV hk q
    have hwf := s_waitFor hn hW tb.1 k3 k4 (way := wV V k) (sec := sec + t) ⟨by omega, by omega⟩ (cg_ev q).2.2
    rw [if_pos q]
    rw [q] at hcg
    have G : ∀ r2 : Nat, (r2 : Int) ≤ rsA W → ∀ (v8 : Int32) (r3 : Int32), (if v8 = 0 then r3 else r3 - 1) = i32 r2 → pF W V sec k t r x = pcN W V sec ((V 0).toNat - (k + 1)) (k + 1) ((t : Int) + wtV W V sec k t + x) r2 → Ok (T_paceBy_b69 nf rc (i32 k) (i32 t) r3 (i32 x) (i32 (xW V k : Int)) (i32 ((k - xW V k : Nat) : Int)) (wy (wV V k)) v8 τ) fun p => p.1 = i32 (gW (wtV W V sec k t) (pF W V sec k t r x)) ∧ Tk τ p.2 ∧ Mpc W V sec p.2 := fun r2 hr2 v8 r3 he hp => by
      obtain ⟨q2, hq2⟩ : ∃ q2 : Nat, (t : Int) + wtV W V sec k t + x = q2 := ⟨((t : Int) + wtV W V sec k t + x).toNat, by omega⟩
      have H : Ok (T_paceBy_b110 nf rc (i32 (wtV W V sec k t)) (i32 r2) (i32 q2) (i32 ((k + 1 : Nat) : Int)) τ) fun p => p.1 = i32 (gW (wtV W V sec k t) (pF W V sec k t r x)) ∧ Tk τ p.2 ∧ Mpc W V sec p.2 := by
        have hb := tw_b (sec := sec) hW hV (k := k + 1) (t := q2) (r := r2) (by omega) (by omega)
        unfold T_paceBy_b110
        refine ok_2 (hrc q2 r2 (by omega) hr2) fun v τ1 hv => ?_
        have hv0 : v = i32 (wvP (pcN W V sec ((V 0).toNat - (k + 1)) (k + 1) q2 r2)) := hv.1
        rw [hv0, hp, hq2, show (2000000000 : Int32) = i32 2000000000 from rfl, show (0 : Int32) = i32 0 from rfl, show (100000 : Int32) = i32 100000 from rfl, i32_add]
        have hpb := pcN_b (sec := sec) hW hV ((V 0).toNat - (k + 1)) (k + 1) q2 r2 (by omega) (by omega)
        unfold pcB at hpb
        generalize pcN W V sec ((V 0).toNat - (k + 1)) (k + 1) q2 r2 = v2 at hb hpb ⊢
        refine ok_q ⟨by omega, by omega⟩ ⟨by omega, by omega⟩ (fun q3 => ?_) (fun q3 => ?_)
        · refine ok_s ⟨?_, hv.2⟩
          show i32 (wvP v2) = i32 (gW (wtV W V sec k t) v2)
          have : v2 = 100000000 := by
            unfold wvP at q3
            split at q3 <;> omega
          rw [this]
          rfl
        · have hne : ¬ v2 = 100000000 := fun z => q3 (by rw [z]; rfl)
          have e1 : wvP v2 = v2 + 1 := if_neg hne
          have e2 : gW (wtV W V sec k t) v2 = v2 + 1 + stW (wtV W V sec k t) := if_neg hne
          rw [e1, e2]
          refine ok_q ⟨by omega, by omega⟩ ⟨by omega, by omega⟩ (fun q4 => ?_) (fun q4 => ?_)
          · refine ok_s ⟨?_, hv.2⟩
            have : stW (wtV W V sec k t) = 0 := if_neg (by omega)
            rw [this, Int.add_zero]
          · refine ok_s ⟨?_, hv.2⟩
            have : stW (wtV W V sec k t) = 100000 := if_pos (by omega)
            rw [this]
      unfold T_paceBy_b69
      rw [hM.1, i32_add]
      refine ok_be hwf ?_
      have e5 : i32 (t : Int) + i32 (wtA W (xW V k) (k - xW V k) (wV V k) (sec + t)) + i32 x = i32 q2 := by
        rw [i32_add, i32_add, ← hq2]
        rfl
      rw [show (1 : Int32) = i32 1 from rfl, e5, i32_add, ]
      by_cases q8 : v8 = 0
      · rw [if_pos q8] at he ⊢
        rw [he]
        exact H
      · rw [if_neg q8] at he ⊢
        rw [show (1 : Int32) = i32 1 from rfl] at he
        rw [he]
        exact H
    refine ok_le ⟨by omega, by omega⟩ ⟨by omega, by omega⟩ (fun q3 => ?_) (fun q3 => ?_)
    · refine ok_be hcg ?_
      rw [if_neg (show ¬ bi true = (0 : Int32) by decide), if_pos rfl]
      exact G r hr 0 _ (if_pos rfl) (by unfold pF pcS; rw [if_neg (by omega)])
    · refine ok_be hcg ?_
      rw [if_neg (show ¬ bi true = (0 : Int32) by decide), if_neg (show ¬ (1 : Int32) = 0 by decide), show (0 : Int32) = i32 0 from rfl]
      refine ok_q ⟨by omega, by omega⟩ ⟨by omega, by omega⟩ (fun q4 => ?_) (fun q4 => ?_)
      · refine ok_s ⟨?_, Tk.rf, hM⟩
        have : pF W V sec k t r x = 100000000 := by unfold pF pcS; rw [if_pos q3, if_pos (by omega)]
        rw [this]
        rfl
      · refine G (r - 1) (by omega) 1 _ ?_ (by unfold pF pcS; rw [if_pos q3, if_neg (by omega)])
        rw [if_neg (by decide), show (1 : Int32) = i32 1 from rfl, i32_sub]
        congr 1
        omega
  · rw [if_neg q]
    have hcg0 : cgA W (xW V k) (k - xW V k) (wV V k) = false := by
      cases h : cgA W (xW V k) (k - xW V k) (wV V k) with
      | false => rfl
      | true => exact absurd h q
    rw [hcg0] at hcg
    refine ok_le ⟨by omega, by omega⟩ ⟨by omega, by omega⟩ (fun q3 => ?_) (fun q3 => ?_)
    · refine ok_be hcg ?_
      rw [if_pos (show bi false = (0 : Int32) from rfl)]
      exact ok_s ⟨rfl, Tk.rf, hM⟩
    · refine ok_be hcg ?_
      rw [if_pos (show bi false = (0 : Int32) from rfl)]
      exact ok_s ⟨rfl, Tk.rf, hM⟩
end PT
