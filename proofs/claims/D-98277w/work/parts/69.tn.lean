/-! LAYER 2: turning so often at most: its ask, the component -/
set_option maxRecDepth 100000
section TN
variable {g : Nat → Nat} {ρ : Nat → Nat × Nat} {W : Nat → Int} {S : Nat → Nat → Int} {V m Tp : Nat → Int} {RC : Nat → List (Nat × Int)} {s : CS} {τ : TS} {T : Int} {nf : Nat} {O : Nat} {An : Int}
theorem ix_w {x y k : Nat} : ixT x y false k = (6 * y + x) * 26 + k ∧ ixT x y true k = (6 * y + x) * 26 + 13 + k := by
  unfold ixT
  simp only [Bool.false_eq_true, if_false, if_true]
  omega
theorem onU {c : Nat → Int} {x y k : Nat} {w : Bool} {t : Int} (hc : c (ixT (nx w x) (ny w y) w k) = 2147483647) (hv : cgA W x y w = true → t + wtA W x y w t + W 2 < 2147483647) (j : Nat) : onV W c x y w t k j = if cgA W x y w = true ∧ j = ixT (nx w x) (ny w y) w k then t + wtA W x y w t + W 2 else c j := by
  unfold onV
  by_cases q : cgA W x y w = true
  · have := hv q
    have em : mn2 2147483647 (t + wtA W x y w t + W 2) = t + wtA W x y w t + W 2 := if_pos this
    rw [if_pos q, hc, em]
    show (if j = ixT (nx w x) (ny w y) w k then t + wtA W x y w t + W 2 else c j) = _
    by_cases e : j = ixT (nx w x) (ny w y) w k
    · rw [if_pos e, if_pos ⟨q, e⟩]
    · rw [if_neg e, if_neg (fun z => e z.2)]
  · rw [if_neg q, if_neg (fun z => q z.1)]
/-- at the beginning -/
theorem tJ_start (hW : TW W) {sec : Int} (hO : O ≤ 12) (hs : 0 ≤ sec ∧ sec ≤ 1000000) (hh : hmA W 0 0 = false) : tJ W O (tuF W (dsA W 0 0) 0 0 sec none O) (onV W (onV W (fun _ => 2147483647) 0 0 false sec 0) 0 0 true sec 0) (ixT 0 0 false 0) := by
  have w0 := hW.1
  have w1 := hW.2.1
  have w2 := hW.2.2.1
  have hx0 : ((0 : Nat) : Int) < W 0 := by omega
  have hy0 : ((0 : Nat) : Int) < W 1 := by omega
  have hh2 : ¬ (((0 : Nat) : Int) = W 0 - 1 ∧ ((0 : Nat) : Int) = W 1 - 1) := of_decide_eq_false hh
  obtain ⟨d, hds⟩ : ∃ d, dsA W 0 0 = d + 1 := by
    refine ⟨dsA W 0 0 - 1, ?_⟩
    unfold dsA
    omega
  have hv : ∀ w, cgA W 0 0 w = true → 0 ≤ sec + wtA W 0 0 w sec + W 2 ∧ sec + wtA W 0 0 w sec + W 2 ≤ 1000089 := fun w h => by
    have := cg_in hW (t := sec) hx0 hy0 h
    omega
  have hc : ∀ j, onV W (onV W (fun _ => 2147483647) 0 0 false sec 0) 0 0 true sec 0 j = if cgA W 0 0 true = true ∧ j = ixT (nx true 0) (ny true 0) true 0 then sec + wtA W 0 0 true sec + W 2 else if cgA W 0 0 false = true ∧ j = ixT (nx false 0) (ny false 0) false 0 then sec + wtA W 0 0 false sec + W 2 else 2147483647 := fun j => by
    have h1 : ∀ j, onV W (fun _ => 2147483647) 0 0 false sec 0 j = if cgA W 0 0 false = true ∧ j = ixT (nx false 0) (ny false 0) false 0 then sec + wtA W 0 0 false sec + W 2 else 2147483647 := fun j => onU rfl (fun z => by have := hv false z; omega) j
    rw [onU (by rw [h1, if_neg (fun z => absurd z.2 (by decide))]) (fun z => by have := hv true z; omega), h1]
  generalize onV W (onV W (fun _ => 2147483647) 0 0 false sec 0) 0 0 true sec 0 = c at hc ⊢
  have hA : ∀ w, cgA W 0 0 w = true → tuA W d 0 0 sec none O w = tuF W (dsA W (nx w 0) (ny w 0)) (nx w 0) (ny w 0) (sec + wtA W 0 0 w sec + W 2) (some w) (O - 0) := fun w h => by
    have := cg_in hW (t := sec) hx0 hy0 h
    unfold tuA
    rw [if_pos ⟨Nat.zero_le _, h⟩, show d = dsA W (nx w 0) (ny w 0) by omega]
    rfl
  have hcw : ∀ w, cgA W 0 0 w = true → c (ixT (nx w 0) (ny w 0) w 0) = sec + wtA W 0 0 w sec + W 2 := fun w h => by
    rw [hc]
    cases w
    · rw [if_neg (fun z => absurd z.2 (by decide)), if_pos ⟨h, rfl⟩]
    · rw [if_pos ⟨h, rfl⟩]
  have hmn := mn2_le (a := tuA W d 0 0 sec none O false) (b := tuA W d 0 0 sec none O true)
  rw [hds, tuF_s]
  refine ⟨fun j => ?_, fun x y w k hd hcn => ?_, fun hAn => ?_⟩
  · rw [hc]
    split
    · rename_i q
      have := hv true q.1
      omega
    · split
      · rename_i q
        have := hv false q.1
        omega
      · omega
  · have hex : ∃ w', cgA W 0 0 w' = true ∧ ixT x y w k = ixT (nx w' 0) (ny w' 0) w' 0 := by
      rw [hc] at hcn
      by_cases q1 : cgA W 0 0 true = true ∧ ixT x y w k = ixT (nx true 0) (ny true 0) true 0
      · exact ⟨true, q1⟩
      · rw [if_neg q1] at hcn
        by_cases q2 : cgA W 0 0 false = true ∧ ixT x y w k = ixT (nx false 0) (ny false 0) false 0
        · exact ⟨false, q2⟩
        · rw [if_neg q2] at hcn
          exact absurd rfl hcn
    obtain ⟨w', h1, h2⟩ := hex
    have hi := cg_in hW (t := sec) hx0 hy0 h1
    obtain ⟨e1, e2, e3, e4⟩ := ix_inj (by have := hd.1; omega) (by omega) (by have := hd.2.2; omega) (by omega) h2
    subst e3 e4
    rw [h2, hcw w h1, e1, e2]
    have hn1 : (nx w 0 : Int) + (ny w 0 : Int) = 1 := by cases w <;> rfl
    refine ⟨by omega, fun _ => ?_⟩
    rw [← hA w h1]
    cases w
    · exact hmn.1
    · exact hmn.2.1
  · obtain ⟨w, hw⟩ : ∃ w, tuA W d 0 0 sec none O w = mn2 (tuA W d 0 0 sec none O false) (tuA W d 0 0 sec none O true) := by
      rcases hmn.2.2 with z | z
      · exact ⟨false, z.symm⟩
      · exact ⟨true, z.symm⟩
    have hcg : cgA W 0 0 w = true := by
      cases hq : cgA W 0 0 w with
      | true => rfl
      | false =>
        exfalso
        have e : tuA W d 0 0 sec none O w = 2000000000 := by
          unfold tuA
          rw [hq, if_neg (fun z => by cases z.2)]
        omega
    have hi := cg_in hW (t := sec) hx0 hy0 hcg
    refine ⟨nx w 0, ny w 0, w, 0, ⟨hi.1, hi.2.1, Nat.zero_le _⟩, .inl ?_, ?_, ?_⟩
    · exact Nat.zero_le _
    · rw [hcw w hcg]
      have := hv w hcg
      omega
    · rw [hcw w hcg, ← hA w hcg, hw]
/-- the least at home -/
def hI (W : Nat → Int) (O : Nat) (An : Int) (c : Nat → Int) (v : Int) (j : Nat) : Prop := (v = 2147483647 ∨ (An ≤ v ∧ 0 ≤ v ∧ v ≤ 1100000)) ∧ ∀ w k, k ≤ O → ixT (W 0 - 1).toNat (W 1 - 1).toNat w k < j → v ≤ c (ixT (W 0 - 1).toNat (W 1 - 1).toNat w k)
theorem hm_h (hW : TW W) : hmA W (W 0 - 1).toNat (W 1 - 1).toNat = true ∧ dsA W (W 0 - 1).toNat (W 1 - 1).toNat = 0 := by
  have w0 := hW.1
  have w1 := hW.2.1
  unfold hmA dsA
  exact ⟨decide_eq_true (by omega), by omega⟩
theorem hI_s (hW : TW W) {c : Nat → Int} {i : Nat} (hJ : tJ W O An c i) {v : Int} {w : Bool} {k : Nat} (hk : k ≤ O) (hO : O ≤ 12) (h : hI W O An c v (ixT (W 0 - 1).toNat (W 1 - 1).toNat w k)) : hI W O An c (mn2 v (c (ixT (W 0 - 1).toNat (W 1 - 1).toNat w k))) (ixT (W 0 - 1).toNat (W 1 - 1).toNat w k + 1) := by
  have w0 := hW.1
  have w1 := hW.2.1
  have hm := mn2_le (a := v) (b := c (ixT (W 0 - 1).toNat (W 1 - 1).toNat w k))
  have j0 := hJ.1 (ixT (W 0 - 1).toNat (W 1 - 1).toNat w k)
  have j1 := hJ.2.1 (W 0 - 1).toNat (W 1 - 1).toNat w k ⟨by omega, by omega, hk⟩
  have hh := hm_h hW
  rw [hh.2] at j1
  refine ⟨?_, fun w2 k2 hk2 hlt => ?_⟩
  · rcases hm.2.2 with z | z
    · rw [z]
      exact h.1
    · rw [z]
      by_cases q : c (ixT (W 0 - 1).toNat (W 1 - 1).toNat w k) = 2147483647
      · exact .inl q
      · right
        have j2 := j1 q
        have j3 : An ≤ c (ixT (W 0 - 1).toNat (W 1 - 1).toNat w k) := j2.2 (.inr hh.1)
        exact ⟨j3, j0.1, by omega⟩
  · by_cases e : ixT (W 0 - 1).toNat (W 1 - 1).toNat w2 k2 = ixT (W 0 - 1).toNat (W 1 - 1).toNat w k
    · rw [e]
      exact hm.2.1
    · have := h.2 w2 k2 hk2 (by omega)
      omega
theorem hI_f (hW : TW W) {c : Nat → Int} (hO : O ≤ 12) (hJ : tJ W O An c (ixT 0 (W 1).toNat false 0)) {v : Int} (h : hI W O An c v (ixT (W 0 - 1).toNat (W 1 - 1).toNat true O + 1)) (hAn : An ≤ 2000000000) : (v = 2147483647 ∧ An = 2000000000) ∨ (v = An ∧ ¬ v = 2147483647 ∧ ¬ An = 2000000000) := by
  have w0 := hW.1
  have w1 := hW.2.1
  by_cases q : An < 2000000000
  · obtain ⟨x, y, w, k, hd, ha, hc, he⟩ := hJ.2.2 q
    have hh : hmA W x y = true := by
      rcases ha with z | z
      · exfalso
        have := hd.1
        have := hd.2.1
        have := hd.2.2
        unfold ixT at z
        cases w <;> simp only [Bool.false_eq_true, if_false, if_true] at z <;> omega
      · exact z
    have hh := of_decide_eq_true hh
    have ex : x = (W 0 - 1).toNat := by omega
    have ey : y = (W 1 - 1).toNat := by omega
    subst ex ey
    rw [(hm_h hW).2] at he
    have he : c (ixT (W 0 - 1).toNat (W 1 - 1).toNat w k) = An := he
    have hle := h.2 w k hd.2.2 (by have := hd.2.2; cases w <;> simp only [ix_w] <;> omega)
    right
    rcases h.1 with z | z
    · exfalso
      have := hJ.1 (ixT (W 0 - 1).toNat (W 1 - 1).toNat w k)
      omega
    · omega
  · left
    rcases h.1 with z | z
    · exact ⟨z, by omega⟩
    · exfalso
      omega
/-- the row at home -/
theorem cfh (hW : TW W) (hO : O ≤ 12) (b : B g ρ W S V m Tp RC s) {c : Nat → Int} {i : Nat} (hC : Cm s g c) (hJ : tJ W O An c i) {w : Bool} {k3 : Nat → Int32 → Int32 → Int32 → CS → Option (Int32 × CS)} {Q : Int32 × CS → Prop} (hk3 : ∀ v, hI W O An c v (ixT (W 0 - 1).toNat (W 1 - 1).toNat w O + 1) → Ok (k3 (g 0) (i32 O) (i32 v) (wy w + 1) s) Q) : ∀ (d n k : Nat) (v : Int), k + d = O + 1 → d < n → hI W O An c v (ixT (W 0 - 1).toNat (W 1 - 1).toNat w k) → Ok (FX0_turning_b138 nf k3 n (g 0) (i32 O) (i32 v) (wy w) (i32 k) s) Q := by
  have w0 := hW.1
  have w1 := hW.2.1
  intro d
  induction d with
  | zero =>
    intro n k v h1 h2 hI0
    obtain ⟨n, rfl⟩ : ∃ q, n = q + 1 := ⟨n - 1, by omega⟩
    rw [show FX0_turning_b138 nf k3 (n + 1) = FX0_turning_b138_s nf k3 (FX0_turning_b138 nf k3 n) from rfl]
    unfold FX0_turning_b138_s
    refine ok_lt ⟨by omega, by omega⟩ ⟨by omega, by omega⟩ (fun _ => ?_) (fun z => by omega)
    refine hk3 v ?_
    rw [show ixT (W 0 - 1).toNat (W 1 - 1).toNat w O + 1 = ixT (W 0 - 1).toNat (W 1 - 1).toNat w k by unfold ixT; omega]
    exact hI0
  | succ d ih =>
    intro n k v h1 h2 hI0
    obtain ⟨n, rfl⟩ : ∃ q, n = q + 1 := ⟨n - 1, by omega⟩
    have hix := ix_b (x := (W 0 - 1).toNat) (y := (W 1 - 1).toNat) (w := w) (k := k) (by omega) (by omega) (by omega)
    have hj0 := hJ.1 (ixT (W 0 - 1).toNat (W 1 - 1).toNat w k)
    have hv := hI0.1
    have ca := c_comesAt b (x := (W 0 - 1).toNat) (y := (W 1 - 1).toNat) (w := w) (k := k)
    rw [Int.toNat_of_nonneg (show 0 ≤ W 0 - 1 by omega), Int.toNat_of_nonneg (show 0 ≤ W 1 - 1 by omega)] at ca
    have e2 : ixT (W 0 - 1).toNat (W 1 - 1).toNat w (k + 1) = ixT (W 0 - 1).toNat (W 1 - 1).toNat w k + 1 := rfl
    rw [show FX0_turning_b138 nf k3 (n + 1) = FX0_turning_b138_s nf k3 (FX0_turning_b138 nf k3 n) from rfl]
    unfold FX0_turning_b138_s
    refine ok_lt ⟨by omega, by omega⟩ ⟨by omega, by omega⟩ (fun z => by omega) (fun _ => ?_)
    refine ok_gRs b.1 rfl (b.2.1 7 _ rfl).1 (ok_gRs b.1 rfl (b.2.1 2 _ rfl).1 (ok_nn (ok_gI (b.2.1 2 _ rfl).2.1 rfl (ok_gRs b.1 rfl (b.2.1 2 _ rfl).1 (ok_nn (ok_gI (b.2.1 2 _ rfl).2.1 rfl ?_))))))
    rw [b_200 b, b_201 b, show (1 : Int32) = i32 1 from rfl, i32_sub, i32_sub]
    refine ok_be ca (ok_nn (ok_lI (b.2.1 7 _ rfl).2.1 (by omega) (by show _ < ((1404 : Nat) : Int); omega) (by decide) ?_))
    rw [Int.toNat_natCast, hC _ hix, nm_eq, mn_c (by omega) (by omega) (by omega) (by omega), i32_add]
    refine ih n (k + 1) _ (by omega) (by omega) ?_
    rw [e2]
    exact hI_s hW hJ (by omega) hO hI0
theorem cfe (hn : 100 ≤ nf) (hW : TW W) (hO : O ≤ 12) (b : B g ρ W S V m Tp RC s) {c : Nat → Int} (hC : Cm s g c) (hJ : tJ W O An c (ixT 0 (W 1).toNat false 0)) (hAn : 0 ≤ An ∧ An ≤ 2000000000) : Ok (FX0_turning_b129 nf nf (g 0) (i32 O) 2147483647 0 s) fun p => p.1 = i32 (if An = 2000000000 then -1 else An) ∧ p.2 = s := by
  have w0 := hW.1
  have w1 := hW.2.1
  obtain ⟨N, rfl⟩ : ∃ n, nf = n + 1 + 1 + 1 := ⟨nf - 3, by omega⟩
  have h0 : hI W O An c 2147483647 (ixT (W 0 - 1).toNat (W 1 - 1).toNat false 0) := ⟨.inl rfl, fun w k _ h => by
    exfalso
    cases w <;> simp only [ix_w] at h <;> omega⟩
  rw [show FX0_turning_b129 (N + 1 + 1 + 1) ((N + 1 + 1) + 1) = FX0_turning_b129_s (N + 1 + 1 + 1) (FX0_turning_b129 (N + 1 + 1 + 1) (N + 1 + 1)) from rfl]
  unfold FX0_turning_b129_s
  rw [if_neg (show ¬ (1 : Int32) < 0 by decide), show (2147483647 : Int32) = i32 2147483647 from rfl]
  refine cfh (w := false) hW hO b hC hJ (fun v1 hI1 => ?_) (O + 1) _ 0 2147483647 (by omega) (by omega) h0
  have h1 : hI W O An c v1 (ixT (W 0 - 1).toNat (W 1 - 1).toNat true 0) := ⟨hI1.1, fun w k hk h => hI1.2 w k hk (by cases w <;> simp only [ix_w] at h ⊢ <;> omega)⟩
  rw [show FX0_turning_b129 (N + 1 + 1 + 1) ((N + 1) + 1) = FX0_turning_b129_s (N + 1 + 1 + 1) (FX0_turning_b129 (N + 1 + 1 + 1) (N + 1)) from rfl]
  unfold FX0_turning_b129_s
  rw [if_neg (show ¬ (1 : Int32) < wy false + 1 by decide)]
  refine cfh (w := true) hW hO b hC hJ (fun v2 hI2 => ?_) (O + 1) _ 0 v1 (by omega) (by omega) h1
  rw [show FX0_turning_b129 (N + 1 + 1 + 1) (N + 1) = FX0_turning_b129_s (N + 1 + 1 + 1) (FX0_turning_b129 (N + 1 + 1 + 1) N) from rfl]
  unfold FX0_turning_b129_s
  rw [if_pos (show (1 : Int32) < wy true + 1 by decide), show (2147483647 : Int32) = i32 2147483647 from rfl]
  rcases hI_f hW hO hJ hI2 hAn.2 with ⟨e1, e2⟩ | ⟨e1, e2, e3⟩
  · rw [e1, if_pos rfl, e2, if_pos rfl]
    exact ok_s ⟨rfl, rfl⟩
  · rw [e1, if_neg (fun z => by have := (i32_eq ⟨by omega, by omega⟩ ⟨by omega, by omega⟩).mp z; omega), if_neg e3]
    exact ok_s ⟨rfl, rfl⟩
/-- all corners, row by row -/
theorem cfy (hn : 100 ≤ nf) (hW : TW W) (hO : O ≤ 12) (hAn : 0 ≤ An ∧ An ≤ 2000000000) {s0 : CS} : ∀ (dy n y : Nat) (s : CS) (c : Nat → Int), (y : Int) + dy = W 1 → dy < n → Fq ρ s0 s → B g ρ W S V m Tp RC s → Cm s g c → tJ W O An c (ixT 0 y false 0) → Ok (FX0_turning_b76 nf n (g 0) (i32 O) (i32 y) s) fun p => p.1 = i32 (if An = 2000000000 then -1 else An) ∧ Fq ρ s0 p.2 := by
  have w0 := hW.1
  have w1 := hW.2.1
  intro dy
  induction dy with
  | zero =>
    intro n y s c h1 h2 hf b hC hJ
    obtain ⟨n, rfl⟩ : ∃ q, n = q + 1 := ⟨n - 1, by omega⟩
    rw [show FX0_turning_b76 nf (n + 1) = FX0_turning_b76_s nf (FX0_turning_b76 nf n) from rfl]
    unfold FX0_turning_b76_s
    refine ok_gRs b.1 rfl (b.2.1 2 _ rfl).1 (ok_nn (ok_gI (b.2.1 2 _ rfl).2.1 rfl ?_))
    rw [b_201 b]
    refine ok_le ⟨by omega, by omega⟩ ⟨by omega, by omega⟩ (fun _ => ?_) (fun z => by omega)
    rw [show y = (W 1).toNat by omega] at hJ
    exact ok_w (cfe hn hW hO b hC hJ hAn) fun p hp => ⟨hp.1, by rw [hp.2]; exact hf⟩
  | succ dy ih =>
    intro n y s c h1 h2 hf b hC hJ
    obtain ⟨n, rfl⟩ : ∃ q, n = q + 1 := ⟨n - 1, by omega⟩
    have L : ∀ (dx nx x : Nat) (s : CS) (c : Nat → Int), (x : Int) + dx = W 0 → dx < nx → Fq ρ s0 s → B g ρ W S V m Tp RC s → Cm s g c → tJ W O An c (ixT x y false 0) → Ok (FX0_turning_b90 nf (FX0_turning_b76 nf n) nx (g 0) (i32 O) (i32 y) (i32 x) s) fun p => p.1 = i32 (if An = 2000000000 then -1 else An) ∧ Fq ρ s0 p.2 := by
      intro dx
      induction dx with
      | zero =>
        intro nx x s c h3 h4 hf b hC hJ
        obtain ⟨nx, rfl⟩ : ∃ q, nx = q + 1 := ⟨nx - 1, by omega⟩
        rw [show FX0_turning_b90 nf (FX0_turning_b76 nf n) (nx + 1) = FX0_turning_b90_s nf (FX0_turning_b76 nf n) (FX0_turning_b90 nf (FX0_turning_b76 nf n) nx) from rfl]
        unfold FX0_turning_b90_s
        refine ok_gRs b.1 rfl (b.2.1 2 _ rfl).1 (ok_nn (ok_gI (b.2.1 2 _ rfl).2.1 rfl ?_))
        rw [b_200 b]
        refine ok_le ⟨by omega, by omega⟩ ⟨by omega, by omega⟩ (fun _ => ?_) (fun z => by omega)
        rw [show (1 : Int32) = i32 1 from rfl, i32_add]
        refine ih n (y + 1) s c (by omega) (by omega) hf b hC (tJ_skip hJ (by simp only [ix_w]; omega) fun x2 y2 w2 k2 hd2 hle => .inl ?_)
        have := hd2.1
        have := hd2.2.2
        cases w2 <;> simp only [ix_w] at hle ⊢ <;> omega
      | succ dx ihx =>
        intro nx x s c h3 h4 hf b hC hJ
        obtain ⟨nx, rfl⟩ : ∃ q, nx = q + 1 := ⟨nx - 1, by omega⟩
        rw [show FX0_turning_b90 nf (FX0_turning_b76 nf n) (nx + 1) = FX0_turning_b90_s nf (FX0_turning_b76 nf n) (FX0_turning_b90 nf (FX0_turning_b76 nf n) nx) from rfl]
        unfold FX0_turning_b90_s
        refine ok_gRs b.1 rfl (b.2.1 2 _ rfl).1 (ok_nn (ok_gI (b.2.1 2 _ rfl).2.1 rfl ?_))
        rw [b_200 b]
        refine ok_le ⟨by omega, by omega⟩ ⟨by omega, by omega⟩ (fun z => by omega) (fun _ => ?_)
        refine ok_b (ok_turnsFrom hn b hW hO (by omega) (by omega) hC hJ) fun s1 hs1 => ?_
        obtain ⟨hq, c1, hC1, hJ1⟩ := hs1
        rw [show (1 : Int32) = i32 1 from rfl, i32_add]
        refine ihx nx (x + 1) s1 c1 (by omega) (by omega) (hf.tr hq) (b.q hq) hC1 (tJ_skip hJ1 (by simp only [ix_w]; omega) fun x2 y2 w2 k2 hd2 hle => .inl ?_)
        have := hd2.1
        have := hd2.2.2
        cases w2 <;> simp only [ix_w] at hle ⊢ <;> omega
    rw [show FX0_turning_b76 nf (n + 1) = FX0_turning_b76_s nf (FX0_turning_b76 nf n) from rfl]
    unfold FX0_turning_b76_s
    refine ok_gRs b.1 rfl (b.2.1 2 _ rfl).1 (ok_nn (ok_gI (b.2.1 2 _ rfl).2.1 rfl ?_))
    rw [b_201 b]
    refine ok_le ⟨by omega, by omega⟩ ⟨by omega, by omega⟩ (fun z => by omega) (fun _ => ?_)
    exact L (W 0).toNat nf 0 s c (by omega) (by omega) hf b hC hJ
/-- the table is made empty -/
theorem cff (hn : 2000 ≤ nf) (hW : TW W) (hO : O ≤ 12) {sec : Int} (hs : 0 ≤ sec ∧ sec ≤ 1000000) (hh : hmA W 0 0 = false) {s0 : CS} : ∀ (d n j : Nat) (s : CS), j + d = 1404 → d < n → Fq ρ s0 s → B g ρ W S V m Tp RC s → (∀ q, q < j → cA s (g 21) q = i32 2147483647) → Ok (FX0_turning_b32 nf n (g 0) (i32 sec) (i32 O) (i32 j) s) fun p => p.1 = i32 (if tuF W (dsA W 0 0) 0 0 sec none O = 2000000000 then -1 else tuF W (dsA W 0 0) 0 0 sec none O) ∧ Fq ρ s0 p.2 := by
  have w0 := hW.1
  have w1 := hW.2.1
  have w2 := hW.2.2.1
  have hd13 := ds_b (x := 0) (y := 0) hW
  have hAn := tuF_b hW (dsA W 0 0) 0 0 sec none O (by omega) (by omega) rfl hs.1 (by omega)
  intro d
  induction d with
  | zero =>
    intro n j s h1 h2 hf b hj
    obtain ⟨n, rfl⟩ : ∃ q, n = q + 1 := ⟨n - 1, by omega⟩
    have hal : ∀ {α : Type} (K : Int32 → Option α), aLn s (g 21) K = K (i32 1404) := fun K => by
      unfold aLn
      rw [(b.2.1 7 _ rfl).2.1]
      rfl
    have hC0 : Cm s g (fun _ => 2147483647) := fun q hq => hj q (by omega)
    rw [show FX0_turning_b32 nf (n + 1) = FX0_turning_b32_s nf (FX0_turning_b32 nf n) from rfl]
    unfold FX0_turning_b32_s
    refine ok_gRs b.1 rfl (b.2.1 7 _ rfl).1 (ok_nn ?_)
    rw [hal]
    refine ok_le ⟨by omega, by omega⟩ ⟨by omega, by omega⟩ (fun _ => ?_) (fun z => by omega)
    have hJ := tJ_start hW hO hs hh
    have jb : ∀ j, 0 ≤ onV W (fun _ => 2147483647) 0 0 false sec 0 j ∧ onV W (fun _ => 2147483647) 0 0 false sec 0 j ≤ 2147483647 := fun j => by
      rw [onU rfl (fun z => by have := cg_in hW (t := sec) (x := 0) (y := 0) (by omega) (by omega) z; omega)]
      split
      · rename_i z
        have := cg_in hW (t := sec) (x := 0) (y := 0) (by omega) (by omega) z.1
        omega
      · omega
    have O1 : Ok (FX0_turnsOn (g 0) 0 0 0 (i32 sec) 0 s) fun s' => Fq ρ s s' ∧ Cm s' g (onV W (fun _ => 2147483647) 0 0 false sec 0) := ok_on (x := 0) (y := 0) (w := false) (k := 0) b hW hC0 (fun _ => ⟨by decide, by decide⟩) (by omega) (by omega) hs.1 (by omega) (by omega)
    refine ok_b O1 fun s1 hs1 => ?_
    have b1 := b.q hs1.1
    have O2 : Ok (FX0_turnsOn (g 0) 0 0 1 (i32 sec) 0 s1) fun s' => Fq ρ s1 s' ∧ Cm s' g (onV W (onV W (fun _ => 2147483647) 0 0 false sec 0) 0 0 true sec 0) := ok_on (x := 0) (y := 0) (w := true) (k := 0) b1 hW hs1.2 jb (by omega) (by omega) hs.1 (by omega) (by omega)
    refine ok_b O2 fun s2 hs2 => ?_
    exact cfy (by omega) hW hO hAn (W 1).toNat nf 0 s2 _ (by omega) (by omega) ((hf.tr hs1.1).tr hs2.1) (b1.q hs2.1) hs2.2 hJ
  | succ d ih =>
    intro n j s h1 h2 hf b hj
    obtain ⟨n, rfl⟩ : ∃ q, n = q + 1 := ⟨n - 1, by omega⟩
    have hal : ∀ {α : Type} (K : Int32 → Option α), aLn s (g 21) K = K (i32 1404) := fun K => by
      unfold aLn
      rw [(b.2.1 7 _ rfl).2.1]
      rfl
    rw [show FX0_turning_b32 nf (n + 1) = FX0_turning_b32_s nf (FX0_turning_b32 nf n) from rfl]
    unfold FX0_turning_b32_s
    refine ok_gRs b.1 rfl (b.2.1 7 _ rfl).1 (ok_nn ?_)
    rw [hal]
    refine ok_le ⟨by omega, by omega⟩ ⟨by omega, by omega⟩ (fun z => by omega) (fun _ => ?_)
    refine ok_gRs b.1 rfl (b.2.1 7 _ rfl).1 (ok_nn ?_)
    refine ok_tI (b.2.1 7 _ rfl).2.1 (by omega) (by show _ < ((1404 : Nat) : Int); omega) (by decide) ?_
    rw [show (1 : Int32) = i32 1 from rfl, i32_add, Int.toNat_natCast]
    have hq : Fq ρ s (uA s (g 21) j 2147483647) := Fq.uA (by rw [(b.2.1 7 _ rfl).2.2]; rfl)
    refine ih n (j + 1) _ (by omega) (by omega) (hf.tr hq) (b.q hq) fun q hq => ?_
    show (if g 21 = g 21 then upd (cA s (g 21)) j 2147483647 else cA s (g 21)) q = _
    rw [if_pos rfl]
    by_cases e : q = j
    · rw [e, upd_e]
      rfl
    · rw [upd_n _ _ e]
      exact hj q (by omega)
/-- the soonest at home by so many turns -/
def tuV (W : Nat → Int) (sec often : Int) : Int := if (0 ≤ sec ∧ sec ≤ 1000000) ∧ 0 ≤ often ∧ often ≤ 12 then (if tuF W (dsA W 0 0) 0 0 sec none often.toNat = 2000000000 then -1 else tuF W (dsA W 0 0) 0 0 sec none often.toNat) else -1
theorem ok_turning (hn : 2000 ≤ nf) (b : B g ρ W S V m Tp RC s) (hW : TW W) {sec often : Int} (hs : ok32 sec) (ho : ok32 often) : Ok (FX0_turning nf (g 0) (i32 sec) (i32 often) s) fun p => p.1 = i32 (tuV W sec often) ∧ Fq ρ s p.2 := by
  have w0 := hW.1
  have w1 := hW.2.1
  unfold FX0_turning tuV
  refine ok_mq (ρ := ρ) ?_ (fun z hz => hz.2)
  refine ok_gd b.1 rfl (ok_be (c_isSecond hs) ?_)
  by_cases q1 : 0 ≤ sec ∧ sec ≤ 1000000
  · rw [decide_eq_true q1, if_neg (show ¬ bi true = (0 : Int32) by decide)]
    refine ok_be (c_i3 ho 0 12 (by omega)) ?_
    by_cases q2 : 0 ≤ often ∧ often ≤ 12
    · rw [decide_eq_true q2, if_neg (show ¬ bi true = (0 : Int32) by decide), if_pos ⟨q1, q2⟩]
      refine ok_be (c_isHome (x := 0) (y := 0) b hW (by omega) (by omega)) ?_
      cases hh : hmA W 0 0 with
      | true =>
        rw [if_neg (show ¬ bi true = (0 : Int32) by decide)]
        have e0 : dsA W 0 0 = 0 := by
          have hh := of_decide_eq_true hh
          unfold dsA
          omega
        have e1 : tuF W (dsA W 0 0) 0 0 sec none often.toNat = sec := by rw [e0]; rfl
        rw [e1, if_neg (by omega)]
        exact ok_s ⟨rfl, Fq.rf⟩
      | false =>
        rw [if_pos (show bi false = (0 : Int32) from rfl), toI q2.1]
        exact cff hn hW (by omega) q1 hh 1404 nf 0 s rfl (by omega) Fq.rf b (fun q hq => absurd hq (by omega))
    · rw [decide_eq_false q2, if_pos (show bi false = (0 : Int32) from rfl), if_neg (fun z => q2 z.2)]
      exact ok_s ⟨rfl, Fq.rf⟩
  · rw [decide_eq_false q1, if_pos (show bi false = (0 : Int32) from rfl), if_neg (fun z => q1 z.1)]
    exact ok_s ⟨rfl, Fq.rf⟩
end TN
