/-! LAYER 2: go, tried, was: the component -/
set_option maxRecDepth 100000
theorem upS_r {S : Nat → Nat → Int} {i k : Nat} {v : Int} : upS S 0 i v 0 k = if k = i then v else S 0 k := by rw [upS_0]; rfl
def goOk (W σ : Nat → Int) (way : Int) (r : Bool) : Bool := decide (0 ≤ way ∧ way ≤ 1) && (cgA W (σ 0).toNat (σ 1).toNat (decide (way = 1)) && (!r || decide (σ 3 < rsA W)))
def goT (W σ : Nat → Int) (way : Int) (r : Bool) : Int := σ 2 + (wtA W (σ 0).toNat (σ 1).toNat (decide (way = 1)) (σ 2) + (if r = true then rnA W else W 2))
def goV_ (W σ : Nat → Int) (way : Int) (r : Bool) : Int := if goOk W σ way r = true then goT W σ way r else -1
def goS (W : Nat → Int) (S : Nat → Nat → Int) (m : Nat → Int) (way : Int) (r : Bool) : Nat → Nat → Int := if goOk W (S 0) way r = true then (fun j k => if j = 0 ∧ k = 2 then goT W (S 0) way r else if j = 0 ∧ k = 0 then S 0 0 + (1 - way) else if j = 0 ∧ k = 1 then S 0 1 + way else if j = 0 ∧ k = 3 then S 0 3 + (if r = true then 1 else 0) else kpS S m j k) else S
def goM (W : Nat → Int) (S : Nat → Nat → Int) (m : Nat → Int) (way : Int) (r : Bool) : Nat → Int := if goOk W (S 0) way r = true then kpM m else m
section GA
variable {g : Nat → Nat} {ρ : Nat → Nat × Nat} {W : Nat → Int} {S S' : Nat → Nat → Int} {V m m' Tp : Nat → Int} {RC : Nat → List (Nat × Int)} {s s' z0 : CS} {T : Int} {nf : Nat}
theorem gc_121 (hn : 100 ≤ nf) (b : B g ρ W S V m Tp RC s) (hp : Hp z0 ρ s) {way : Int} (hw : way = 0 ∨ way = 1) {s0 : CS} (hz : cz s0 ≤ cz s ∧ cz s ≤ cz s0 + 7 ∧ cl s0 ≤ cl s ∧ cl s ≤ cl s0 + 112) {S2 : Nat → Nat → Int} (hS2 : S2 = fun j k => if j = 0 ∧ k = 0 then S 0 0 + (1 - way) else if j = 0 ∧ k = 1 then S 0 1 + way else S j k) : Ok (FX0_go_b121 nf (g 0) (i32 way) s) fun p => p.1 = i32 (S 0 2) ∧ Cp z0 g W S2 V m Tp RC s0 p.2 := by
  have n2 := (b_now b).2.1
  unfold FX0_go_b121
  rcases hw with rfl | rfl
  · rw [if_pos (show i32 0 = (0 : Int32) from rfl)]
    refine ok_gRs b.1 rfl (b.2.1 4 _ rfl).1 (ok_nn (ok_gI (b.2.1 4 _ rfl).2.1 rfl (ok_pI (b.2.1 4 _ rfl).2.1 rfl ?_)))
    rw [n2.1, show (1 : Int32) = i32 1 from rfl, i32_add]
    have b3 : B g ρ W (upS S 0 0 (S 0 0 + 1)) V m Tp RC (uI s 800 (g 3) (i32 (S 0 0 + 1))) := b.fi (i := 0) (by omega)
    have hp3 : Hp z0 ρ (uI s 800 (g 3) (i32 (S 0 0 + 1))) := hp.fi (i := 0) (by omega)
    have eS : upS S 0 0 (S 0 0 + 1) = S2 := by
      rw [hS2]
      funext j k
      unfold upS
      by_cases e : j = 0 ∧ k = 0
      · rw [if_pos e, if_pos e, Int.sub_zero]
      · rw [if_neg e, if_neg e]
        by_cases e2 : j = 0 ∧ k = 1
        · rw [if_pos e2, e2.1, e2.2, Int.add_zero]
        · rw [if_neg e2]
    rw [eS] at b3
    refine ok_gRs b3.1 rfl (b3.2.1 4 _ rfl).1 (ok_nn (ok_gI (b3.2.1 4 _ rfl).2.1 rfl (ok_s ⟨?_, ρ, b3, hp3, hz⟩)))
    show cI (uI s 800 (g 3) (i32 (S 0 0 + 1))) 802 (g 3) = _
    rw [rI_n (by decide)]
    exact n2.2.2.1
  · rw [if_neg (show ¬ i32 1 = (0 : Int32) by decide)]
    refine ok_gRs b.1 rfl (b.2.1 4 _ rfl).1 (ok_nn (ok_gI (b.2.1 4 _ rfl).2.1 rfl (ok_pI (b.2.1 4 _ rfl).2.1 rfl ?_)))
    rw [n2.2.1, show (1 : Int32) = i32 1 from rfl, i32_add]
    have b3 : B g ρ W (upS S 0 1 (S 0 1 + 1)) V m Tp RC (uI s 801 (g 3) (i32 (S 0 1 + 1))) := b.fi (i := 1) (by omega)
    have hp3 : Hp z0 ρ (uI s 801 (g 3) (i32 (S 0 1 + 1))) := hp.fi (i := 1) (by omega)
    have eS : upS S 0 1 (S 0 1 + 1) = S2 := by
      rw [hS2]
      funext j k
      unfold upS
      by_cases e : j = 0 ∧ k = 0
      · rw [if_neg (by omega), if_pos e, e.1, e.2]
        omega
      · rw [if_neg e]
    rw [eS] at b3
    refine ok_gRs b3.1 rfl (b3.2.1 4 _ rfl).1 (ok_nn (ok_gI (b3.2.1 4 _ rfl).2.1 rfl (ok_s ⟨?_, ρ, b3, hp3, hz⟩)))
    show cI (uI s 801 (g 3) (i32 (S 0 1 + 1))) 802 (g 3) = _
    rw [rI_n (by decide)]
    exact n2.2.2.1
theorem gc_65 (hn : 100 ≤ nf) (b : B g ρ W S V m Tp RC s) (hp : Hp z0 ρ s) (hW : TW W) (hS : SW W T (S 0)) (hm : 0 ≤ m 1 ∧ m 1 ≤ 16) {way : Int} {v : Int32} (hok : goOk W (S 0) way (!decide (v = 0)) = true) : Ok (FX0_go_b65 nf (g 0) (i32 way) v (i32 (wtA W (S 0 0).toNat (S 0 1).toNat (decide (way = 1)) (S 0 2))) s) fun p => p.1 = i32 (goV_ W (S 0) way (!decide (v = 0))) ∧ Cp z0 g W (goS W S m way (!decide (v = 0))) V (goM W S m way (!decide (v = 0))) Tp RC s p.2 := by
  have hw : way = 0 ∨ way = 1 := by
    have := of_decide_eq_true (Bool.and_eq_true_iff.mp hok).1
    omega
  have eV : goV_ W (S 0) way (!decide (v = 0)) = goT W (S 0) way (!decide (v = 0)) := if_pos hok
  have eM : goM W S m way (!decide (v = 0)) = kpM m := if_pos hok
  unfold FX0_go_b65
  refine ok_b (ok_keeps hn b hp hS hm) fun s2 h2 => ?_
  obtain ⟨ρ', b2, hp2, hz⟩ := h2
  have n2 := (b_now b2).2.1
  rw [kpS_0] at n2
  rw [eV, eM]
  have fin : ∀ (pc : Int) (r : Bool), r = (!decide (v = 0)) → pc = (if r = true then rnA W else W 2) → Ok (FX0_go_b99 nf (g 0) (i32 way) v (i32 pc) (i32 (wtA W (S 0 0).toNat (S 0 1).toNat (decide (way = 1)) (S 0 2))) (i32 (S 0 2)) (g 3) s2) fun p => p.1 = i32 (goT W (S 0) way r) ∧ Cp z0 g W (goS W S m way r) V (kpM m) Tp RC s p.2 := fun pc r hr hpc => by
    have eT : S 0 2 + (wtA W (S 0 0).toNat (S 0 1).toNat (decide (way = 1)) (S 0 2) + pc) = goT W (S 0) way r := by rw [hpc]; rfl
    unfold FX0_go_b99
    rw [i32_add, i32_add, eT]
    refine ok_pI (b2.2.1 4 _ rfl).2.1 rfl ?_
    have b3 : B g ρ' W (upS (kpS S m) 0 2 (goT W (S 0) way r)) V (kpM m) Tp RC (uI s2 802 (g 3) (i32 (goT W (S 0) way r))) := b2.fi (i := 2) (by omega)
    have hp3 : Hp z0 ρ' (uI s2 802 (g 3) (i32 (goT W (S 0) way r))) := hp2.fi (i := 2) (by omega)
    have hz3 : cz s ≤ cz (uI s2 802 (g 3) (i32 (goT W (S 0) way r))) ∧ cz (uI s2 802 (g 3) (i32 (goT W (S 0) way r))) ≤ cz s + 7 ∧ cl s ≤ cl (uI s2 802 (g 3) (i32 (goT W (S 0) way r))) ∧ cl (uI s2 802 (g 3) (i32 (goT W (S 0) way r))) ≤ cl s + 112 := hz
    have e32 : upS (kpS S m) 0 2 (goT W (S 0) way r) 0 2 = goT W (S 0) way r := by rw [upS_r, if_pos rfl]
    have ek : ∀ k, ¬ k = 2 → upS (kpS S m) 0 2 (goT W (S 0) way r) 0 k = S 0 k := fun k h => by rw [upS_r, if_neg h, kpS_0]
    by_cases q : v = 0
    · rw [if_pos q]
      have er : r = false := by rw [hr, q]; rfl
      refine ok_w (gc_121 hn b3 hp3 hw hz3 (S2 := goS W S m way r) ?_) fun p h => ⟨by rw [h.1, e32], h.2⟩
      have e0 : goS W S m way r = fun j k => if j = 0 ∧ k = 2 then goT W (S 0) way r else if j = 0 ∧ k = 0 then S 0 0 + (1 - way) else if j = 0 ∧ k = 1 then S 0 1 + way else if j = 0 ∧ k = 3 then S 0 3 + (if r = true then 1 else 0) else kpS S m j k := if_pos (by rw [hr]; exact hok)
      rw [e0]
      funext j k
      rw [ek 0 (by omega), ek 1 (by omega)]
      unfold upS
      by_cases e2 : j = 0 ∧ k = 2
      · rw [if_pos e2, if_neg (by omega), if_neg (by omega), if_pos e2]
      · rw [if_neg e2]
        by_cases e3 : j = 0 ∧ k = 0
        · rw [if_pos e3, if_pos e3]
        · rw [if_neg e3, if_neg e3]
          by_cases e4 : j = 0 ∧ k = 1
          · rw [if_pos e4, if_pos e4]
          · rw [if_neg e4, if_neg e4, if_neg e2]
            by_cases e5 : j = 0 ∧ k = 3
            · rw [if_pos e5, er, e5.1, e5.2, kpS_0, if_neg (by decide), Int.add_zero]
            · rw [if_neg e5]
    · rw [if_neg q]
      have er : r = true := by rw [hr, decide_eq_false q]; rfl
      have n3 := (b_now b3).2.1
      refine ok_gRs b3.1 rfl (b3.2.1 4 _ rfl).1 (ok_nn (ok_gI (b3.2.1 4 _ rfl).2.1 rfl (ok_pI (b3.2.1 4 _ rfl).2.1 rfl ?_)))
      rw [n3.2.2.2.1, ek 3 (by omega), show (1 : Int32) = i32 1 from rfl, i32_add]
      have b5 : B g ρ' W (upS (upS (kpS S m) 0 2 (goT W (S 0) way r)) 0 3 (S 0 3 + 1)) V (kpM m) Tp RC (uI (uI s2 802 (g 3) (i32 (goT W (S 0) way r))) 803 (g 3) (i32 (S 0 3 + 1))) := b3.fi (i := 3) (by omega)
      have hp5 : Hp z0 ρ' (uI (uI s2 802 (g 3) (i32 (goT W (S 0) way r))) 803 (g 3) (i32 (S 0 3 + 1))) := hp3.fi (i := 3) (by omega)
      have e52 : upS (upS (kpS S m) 0 2 (goT W (S 0) way r)) 0 3 (S 0 3 + 1) 0 2 = goT W (S 0) way r := by rw [upS_r, if_neg (by decide), e32]
      have e50 : upS (upS (kpS S m) 0 2 (goT W (S 0) way r)) 0 3 (S 0 3 + 1) 0 0 = S 0 0 := by rw [upS_r, if_neg (by decide), ek 0 (by omega)]
      have e51 : upS (upS (kpS S m) 0 2 (goT W (S 0) way r)) 0 3 (S 0 3 + 1) 0 1 = S 0 1 := by rw [upS_r, if_neg (by decide), ek 1 (by omega)]
      refine ok_w (gc_121 hn b5 hp5 hw hz3 (S2 := goS W S m way r) ?_) fun p h => ⟨by rw [h.1, e52], h.2⟩
      have e0 : goS W S m way r = fun j k => if j = 0 ∧ k = 2 then goT W (S 0) way r else if j = 0 ∧ k = 0 then S 0 0 + (1 - way) else if j = 0 ∧ k = 1 then S 0 1 + way else if j = 0 ∧ k = 3 then S 0 3 + (if r = true then 1 else 0) else kpS S m j k := if_pos (by rw [hr]; exact hok)
      rw [e0, e50, e51]
      funext j k
      unfold upS
      by_cases e2 : j = 0 ∧ k = 2
      · rw [if_pos e2, if_neg (by omega), if_neg (by omega), if_neg (by omega), if_pos e2]
      · rw [if_neg e2]
        by_cases e3 : j = 0 ∧ k = 0
        · rw [if_pos e3, if_pos e3]
        · rw [if_neg e3, if_neg e3]
          by_cases e4 : j = 0 ∧ k = 1
          · rw [if_pos e4, if_pos e4]
          · rw [if_neg e4, if_neg e4]
            by_cases e5 : j = 0 ∧ k = 3
            · rw [if_pos e5, if_pos e5, er, if_pos rfl]
            · rw [if_neg e5, if_neg e5, if_neg e2]
  refine ok_gRs b2.1 rfl (b2.2.1 4 _ rfl).1 (ok_nn (ok_gI (b2.2.1 4 _ rfl).2.1 rfl ?_))
  rw [n2.2.2.1]
  by_cases q : v = 0
  · rw [if_pos q]
    refine ok_gRs b2.1 rfl (b2.2.1 2 _ rfl).1 (ok_nn (ok_be (c_walk b2 hW) (fin (W 2) _ rfl ?_)))
    rw [decide_eq_true q]
    rfl
  · rw [if_neg q]
    refine ok_gRs b2.1 rfl (b2.2.1 2 _ rfl).1 (ok_nn (ok_be (c_run b2 hW) (fin (rnA W) _ rfl ?_)))
    rw [decide_eq_false q]
    rfl
theorem ok_goC (hn : 100 ≤ nf) (b : B g ρ W S V m Tp RC s) (hp : Hp z0 ρ s) (hW : TW W) (hS : SW W T (S 0)) (hT : T ≤ 200000) (hm : 0 ≤ m 1 ∧ m 1 ≤ 16) {way : Int} {v : Int32} (hway : ok32 way) : Ok (FX0_go nf (g 0) (i32 way) v s) fun p => p.1 = i32 (goV_ W (S 0) way (!decide (v = 0))) ∧ Cp z0 g W (goS W S m way (!decide (v = 0))) V (goM W S m way (!decide (v = 0))) Tp RC s p.2 := by
  have w0 := hW.1
  have w1 := hW.2.1
  obtain ⟨⟨x0, x1⟩, ⟨y0, y1⟩, ⟨t0, t1⟩, ⟨r0, r1⟩, -⟩ := id hS
  have n2 := (b_now b).2.1
  have hrs := rs_b hW
  have hno : ¬ goOk W (S 0) way (!decide (v = 0)) = true → Ok (some ((-1 : Int32), s)) fun p => p.1 = i32 (goV_ W (S 0) way (!decide (v = 0))) ∧ Cp z0 g W (goS W S m way (!decide (v = 0))) V (goM W S m way (!decide (v = 0))) Tp RC s p.2 := fun h => by
    have e1 : goV_ W (S 0) way (!decide (v = 0)) = -1 := if_neg h
    have e2 : goS W S m way (!decide (v = 0)) = S := if_neg h
    have e3 : goM W S m way (!decide (v = 0)) = m := if_neg h
    rw [e1, e2, e3]
    exact ok_s ⟨rfl, Cp.rf b hp⟩
  unfold FX0_go
  refine ok_cp (S' := goS W S m way (!decide (v = 0))) (m' := goM W S m way (!decide (v = 0))) ?_ (fun z hz => hz.2)
  refine ok_gd b.1 rfl (ok_be (c_isWay hway) ?_)
  by_cases q : 0 ≤ way ∧ way ≤ 1
  · rw [decide_eq_true q, if_neg (show ¬ bi true = (0 : Int32) by decide)]
    refine ok_gRs b.1 rfl (b.2.1 4 _ rfl).1 (ok_nn (ok_gI (b.2.1 4 _ rfl).2.1 rfl (ok_gRs b.1 rfl (b.2.1 4 _ rfl).1 (ok_nn (ok_gI (b.2.1 4 _ rfl).2.1 rfl (ok_gRs b.1 rfl (b.2.1 4 _ rfl).1 (ok_nn (ok_gI (b.2.1 4 _ rfl).2.1 rfl ?_))))))))
    rw [n2.1, n2.2.1, n2.2.2.1]
    have L := c_wts b hW (x := (S 0 0).toNat) (y := (S 0 1).toNat) (way := decide (way = 1)) (t := S 0 2) (by omega) (by omega) (by omega) (by omega)
    rw [← toI x0, ← toI y0, ← toW q] at L
    refine ok_be L ?_
    unfold FX0_go_b37
    cases hcg : cgA W (S 0 0).toNat (S 0 1).toNat (decide (way = 1)) with
    | false =>
      rw [if_neg (show ¬ false = true by decide), if_pos (show i32 (-1) < (0 : Int32) by decide)]
      exact hno fun z => by
        unfold goOk at z
        rw [hcg, Bool.false_and, Bool.and_false] at z
        cases z
    | true =>
      have hwt := wt_b (sec := S 0 2) hW (x := (S 0 0).toNat) (y := (S 0 1).toNat) (by omega) (by omega) (cg_ev hcg).2.2
      rw [if_pos (show true = true from rfl), if_neg (show ¬ i32 (wtA W (S 0 0).toNat (S 0 1).toNat (decide (way = 1)) (S 0 2)) < (0 : Int32) from fun z => by have := (i32_lt (b := 0) ⟨by omega, by omega⟩ ⟨by omega, by omega⟩).mp z; omega)]
      by_cases qv : v = 0
      · rw [if_pos qv]
        refine gc_65 hn b hp hW hS hm ?_
        unfold goOk
        rw [decide_eq_true q, hcg, decide_eq_true qv]
        rfl
      · rw [if_neg qv]
        refine ok_gRs b.1 rfl (b.2.1 4 _ rfl).1 (ok_nn (ok_gI (b.2.1 4 _ rfl).2.1 rfl (ok_gRs b.1 rfl (b.2.1 2 _ rfl).1 (ok_nn (ok_be (c_runs b hW) ?_)))))
        rw [n2.2.2.2.1]
        have r9 : (if W 6 = 1 then 0 else W 5) = rsA W := rfl
        rw [r9] at r1
        refine ok_lt ⟨by omega, by omega⟩ ⟨by omega, by omega⟩ (fun z => ?_) (fun z => ?_)
        · refine gc_65 hn b hp hW hS hm ?_
          unfold goOk
          rw [decide_eq_true q, hcg, decide_eq_true z, Bool.or_true]
          rfl
        · exact hno fun z2 => by
            unfold goOk at z2
            rw [decide_eq_false (show ¬ S 0 3 < rsA W by omega), decide_eq_false qv, hcg, decide_eq_true q] at z2
            exact absurd z2 (by decide)
  · rw [decide_eq_false q, if_pos (show bi false = (0 : Int32) from rfl)]
    unfold FX0_go_b37
    rw [if_pos (show (-1 : Int32) < 0 by decide)]
    exact hno fun z => by
      unfold goOk at z
      rw [decide_eq_false q, Bool.false_and] at z
      cases z
end GA
