/-! LAYER 2: was, mark: the component -/
set_option maxRecDepth 100000
theorem SW_0 {W : Nat → Int} {T : Int} (hW : TW W) (hT : 0 ≤ T) : SW W T (fun _ => 0) := by
  have w0 := hW.1
  have w1 := hW.2.1
  have hrs := rs_b hW
  unfold SW
  dsimp only
  have r9 : (if W 6 = 1 then 0 else W 5) = rsA W := rfl
  rw [r9]
  exact ⟨⟨by omega, by omega⟩, ⟨by omega, by omega⟩, ⟨by omega, hT⟩, ⟨by omega, by omega⟩, fun _ _ => .inl rfl⟩
theorem SW2_0 {W : Nat → Int} : SW2 W (fun _ => 0) := by
  unfold SW2
  dsimp only
  exact ⟨⟨by omega, by omega⟩, ⟨by omega, by omega⟩, fun k hk => absurd hk (by omega), fun k hk => absurd hk (by omega)⟩
section GW_
variable {g : Nat → Nat} {ρ : Nat → Nat × Nat} {W : Nat → Int} {S S' : Nat → Nat → Int} {V m m' Tp : Nat → Int} {RC : Nat → List (Nat × Int)} {s s' z0 : CS} {T : Int} {nf : Nat}
theorem ok_was (b : B g ρ W S V m Tp RC s) (hp : Hp z0 ρ s) (hW : TW W) (hS2 : SW2 W (S 0)) {x y t : Int} (hx : ok32 x) (hy : ok32 y) (ht : ok32 t) : Ok (FX0_was (g 0) (i32 x) (i32 y) (i32 t) s) fun z => z.1 = bi (waK W (S 0) x y t) ∧ Cp z0 g W (waS W S x y t) V m Tp RC s z.2 := by
  have w0 := hW.1
  have w1 := hW.2.1
  obtain ⟨n1, n2, n3⟩ := b_now b
  have h59 := hS2.2.1
  have hno : ¬ waK W (S 0) x y t = true → Ok (some ((0 : Int32), s)) fun z => z.1 = bi (waK W (S 0) x y t) ∧ Cp z0 g W (waS W S x y t) V m Tp RC s z.2 := fun h => by
    have e2 : waS W S x y t = S := if_neg h
    rw [e2, Bool.eq_false_iff.mpr h]
    exact ok_s ⟨rfl, Cp.rf b hp⟩
  unfold FX0_was
  refine ok_cp (S' := waS W S x y t) (m' := m) ?_ (fun z hz => hz.2)
  refine ok_gd b.1 rfl (ok_gRs b.1 rfl (b.2.1 2 _ rfl).1 (ok_nn (ok_be (c_isCorner b hW hx hy) ?_)))
  by_cases q1 : (0 ≤ x ∧ x < W 0) ∧ 0 ≤ y ∧ y < W 1
  · rw [decide_eq_true q1, if_neg (show ¬ bi true = (0 : Int32) by decide)]
    refine ok_be (c_i3 ht 0 9999 (by omega)) ?_
    by_cases q2 : 0 ≤ t ∧ t ≤ 9999
    · rw [decide_eq_true q2, if_neg (show ¬ bi true = (0 : Int32) by decide)]
      refine ok_gRs b.1 rfl (b.2.1 4 _ rfl).1 (ok_nn (ok_gI n1.1 rfl ?_))
      rw [n3.2.1, show (8 : Int32) = i32 8 from rfl]
      refine ok_q ⟨by omega, by omega⟩ ⟨by omega, by omega⟩ (fun q3 => ?_) (fun q3 => ?_)
      · exact hno fun z => (of_decide_eq_true z).2.2 q3
      · have hk : waK W (S 0) x y t = true := decide_eq_true ⟨q1, q2, q3⟩
        have eS : waS W S x y t = upS (upS (upS (upS S 0 (92 + 3 * (S 0 59).toNat) x) 0 (93 + 3 * (S 0 59).toNat) y) 0 (94 + 3 * (S 0 59).toNat) t) 0 59 (S 0 59 + 1) := if_pos hk
        rw [eS, hk]
        obtain ⟨n, hn⟩ : ∃ n : Nat, S 0 59 = (n : Int) := ⟨(S 0 59).toNat, by omega⟩
        rw [hn, Int.toNat_natCast]
        have e0 : cI s 805 (g 3) = i32 (n : Int) := by rw [n3.2.1, hn]
        have o7 := n1.2.2.1
        have o8 := n1.2.2.2.1
        have o9 := n1.2.2.2.2.1
        have o10 := n1.2.2.2.2.2.1
        have o11 := n1.2.2.2.2.2.2
        refine ok_gRs b.1 rfl (b.2.1 4 _ rfl).1 (ok_nn (ok_gRs n1.1 rfl o10.1 (ok_gRs b.1 rfl (b.2.1 4 _ rfl).1 (ok_nn (ok_gI n1.1 rfl (ok_nn ?_))))))
        rw [e0, show (6 : Int32) = i32 6 from rfl, show (1 : Int32) = i32 1 from rfl, i32_mul, i32_add, show y * 6 + x = 6 * y + x by omega]
        refine ok_tI o10.2.1 (by omega) (by omega) (by omega) ?_
        rw [Int.toNat_natCast]
        have f1 : Fo ρ (g 3) 805 106 s (uA s (av s 810 (g 3)) n (i32 (6 * y + x))) := Fo.uA o10.2.2 (by omega)
        have h1 : Hp z0 ρ (uA s (av s 810 (g 3)) n (i32 (6 * y + x))) := hp.oA o10.2.2 (by omega) (fun z => by omega)
        have ei1 : cI (uA s (av s 810 (g 3)) n (i32 (6 * y + x))) = cI s := rfl
        have hA1 : ∀ c j, cA (uA s (av s 810 (g 3)) n (i32 (6 * y + x))) c j = if c = av s 810 (g 3) ∧ j = n then i32 (6 * y + x) else cA s c j := fun c j => by rw [rd_uA]
        generalize uA s (av s 810 (g 3)) n (i32 (6 * y + x)) = s15 at f1 h1 ei1 hA1 ⊢
        have a1 : s15.1 (g 0) = some (true, 0, 0) := by rw [f1.1]; exact b.1
        have a2 : cR s15 4 (g 0) = some (g 3) := by rw [f1.2.2.1]; exact (b.2.1 4 _ rfl).1
        have a3 : s15.1 (g 3) = some (true, 8, 0) := by rw [f1.1]; exact n1.1
        have a4 : cR s15 811 (g 3) = some (av s 811 (g 3)) := by rw [f1.2.2.1]; exact o11.1
        have a5 : s15.1 (av s 811 (g 3)) = some (true, 100, 8) := by rw [f1.1]; exact o11.2.1
        refine ok_gRs a1 rfl a2 (ok_nn (ok_gRs a3 rfl a4 (ok_gRs a1 rfl a2 (ok_nn (ok_gI a3 rfl (ok_pI a3 rfl (ok_nn ?_)))))))
        rw [ei1, e0, i32_add]
        have f3 : Fo ρ (g 3) 805 106 s (uI s15 805 (g 3) (i32 ((n : Int) + 1))) := f1.tr (Fo.uI (by omega))
        have h3 : Hp z0 ρ (uI s15 805 (g 3) (i32 ((n : Int) + 1))) := h1.oI rfl
        have c7 : (uI s15 805 (g 3) (i32 ((n : Int) + 1))).1 (av s 811 (g 3)) = some (true, 100, 8) := a5
        refine ok_tI c7 (by omega) (by omega) (by omega) ?_
        rw [Int.toNat_natCast]
        have f4 := f3.tr (Fo.uA (fx := 805) (rx := 106) (i := n) (v := i32 t) o11.2.2 (by omega))
        have h4 : Hp z0 ρ (uA (uI s15 805 (g 3) (i32 ((n : Int) + 1))) (av s 811 (g 3)) n (i32 t)) := h3.oA o11.2.2 (by omega) (fun z => by omega)
        have ez : cz (uA (uI s15 805 (g 3) (i32 ((n : Int) + 1))) (av s 811 (g 3)) n (i32 t)) = cz s ∧ cl (uA (uI s15 805 (g 3) (i32 ((n : Int) + 1))) (av s 811 (g 3)) n (i32 t)) = cl s := ⟨f4.2.2.2.2.2.1, f4.2.2.2.2.2.2⟩
        have eI : ∀ f, ¬ f = 805 → cI (uA (uI s15 805 (g 3) (i32 ((n : Int) + 1))) (av s 811 (g 3)) n (i32 t)) f (g 3) = cI s f (g 3) := fun f hf => (rI_n hf).trans (by rw [ei1])
        have eI4 : cI (uA (uI s15 805 (g 3) (i32 ((n : Int) + 1))) (av s 811 (g 3)) n (i32 t)) 805 (g 3) = i32 ((n : Int) + 1) := rI_t
        have hA : ∀ c j, cA (uA (uI s15 805 (g 3) (i32 ((n : Int) + 1))) (av s 811 (g 3)) n (i32 t)) c j = if c = av s 811 (g 3) ∧ j = n then i32 t else if c = av s 810 (g 3) ∧ j = n then i32 (6 * y + x) else cA s c j := fun c j => by rw [rd_uA, uI_x.2.2.1, hA1]
        generalize uA (uI s15 805 (g 3) (i32 ((n : Int) + 1))) (av s 811 (g 3)) n (i32 t) = s24 at f4 h4 ez eI eI4 hA ⊢
        have n1011 : ¬ av s 810 (g 3) = av s 811 (g 3) := oA_ne o10 o11 (by decide)
        have m10 : ∀ f c nn r, oA ρ s (g 3) f c nn r → r ≤ 104 → ∀ j, cA s24 (av s f (g 3)) j = cA s (av s f (g 3)) j := fun f c nn r o hr j => by
          have q1 : ¬ av s f (g 3) = av s 810 (g 3) := oA_ne o o10 (by omega)
          have q2 : ¬ av s f (g 3) = av s 811 (g 3) := oA_ne o o11 (by omega)
          rw [hA, if_neg (fun z => q2 z.1), if_neg (fun z => q1 z.1)]
        refine ok_s ⟨rfl, ρ, b.now f4 (by omega) (by omega) (σ := _) ⟨?_, ?_⟩ rfl (fun j hj => ?_), h4, by rw [ez.1]; exact Nat.le_refl _, by rw [ez.1]; exact Nat.le_add_right _ _, by rw [ez.2]; exact Nat.le_refl _, by rw [ez.2]; exact Nat.le_add_right _ _⟩
        · have hu : ∀ k, k < 58 → upS (upS (upS (upS S 0 (92 + 3 * n) x) 0 (93 + 3 * n) y) 0 (94 + 3 * n) t) 0 59 ((n : Int) + 1) 0 k = S 0 k := fun k hk => by
            rw [upS_r, if_neg (by omega), upS_r, if_neg (by omega), upS_r, if_neg (by omega), upS_r, if_neg (by omega)]
          refine SV_e hu ?_
          unfold SV
          rw [eI 800 (by decide), eI 801 (by decide), eI 802 (by decide), eI 803 (by decide), av_e f4.2.2.1]
          refine ⟨n2.1, n2.2.1, n2.2.2.1, n2.2.2.2.1, fun c hc => ?_⟩
          rw [m10 _ _ _ _ n1.2.1 (by omega)]
          exact n2.2.2.2.2 c hc
        · have e59 : upS (upS (upS (upS S 0 (92 + 3 * n) x) 0 (93 + 3 * n) y) 0 (94 + 3 * n) t) 0 59 ((n : Int) + 1) 0 59 = (n : Int) + 1 := by rw [upS_r, if_pos rfl]
          have hr : ∀ i, ¬ i = 59 → upS (upS (upS (upS S 0 (92 + 3 * n) x) 0 (93 + 3 * n) y) 0 (94 + 3 * n) t) 0 59 ((n : Int) + 1) 0 i = if i = 94 + 3 * n then t else if i = 93 + 3 * n then y else if i = 92 + 3 * n then x else S 0 i := fun i h => by
            rw [upS_r, if_neg h, upS_r, upS_r, upS_r]
          have h58 := hS2.1
          have e58 := hr 58 (by omega)
          rw [if_neg (show ¬ 58 = 94 + 3 * n by omega), if_neg (show ¬ 58 = 93 + 3 * n by omega), if_neg (show ¬ 58 = 92 + 3 * n by omega)] at e58
          unfold SV2
          rw [e59, e58, eI4, eI 804 (by decide), av_e f4.2.2.1, av_e f4.2.2.1, av_e f4.2.2.1, av_e f4.2.2.1, av_e f4.2.2.1]
          refine ⟨n3.1, rfl, fun k hk => ?_, fun k hk => ?_⟩
          · have u : ∀ d, d < 3 → upS (upS (upS (upS S 0 (92 + 3 * n) x) 0 (93 + 3 * n) y) 0 (94 + 3 * n) t) 0 59 ((n : Int) + 1) 0 (60 + d + 3 * k) = S 0 (60 + d + 3 * k) := fun d hd => by
              rw [hr _ (by omega), if_neg (by omega), if_neg (by omega), if_neg (by omega)]
            have u0 := u 0 (by omega)
            have u1 := u 1 (by omega)
            have u2 := u 2 (by omega)
            rw [Nat.add_zero] at u0
            rw [u0, u1, u2, m10 _ _ _ _ o8 (by omega), m10 _ _ _ _ o7 (by omega), m10 _ _ _ _ o9 (by omega)]
            exact n3.2.2.1 k hk
          · by_cases e : k = n
            · rw [e]
              have v10 : cA s24 (av s 810 (g 3)) n = i32 (6 * y + x) := by rw [hA, if_neg (fun z => n1011 z.1), if_pos ⟨rfl, rfl⟩]
              have v11 : cA s24 (av s 811 (g 3)) n = i32 t := by rw [hA, if_pos ⟨rfl, rfl⟩]
              have u8 := hr (92 + 3 * n) (by omega)
              rw [if_neg (show ¬ 92 + 3 * n = 94 + 3 * n by omega), if_neg (show ¬ 92 + 3 * n = 93 + 3 * n by omega), if_pos rfl] at u8
              have u7 := hr (93 + 3 * n) (by omega)
              rw [if_neg (show ¬ 93 + 3 * n = 94 + 3 * n by omega), if_pos rfl] at u7
              have u9 := hr (94 + 3 * n) (by omega)
              rw [if_pos rfl] at u9
              rw [u8, u7, u9, v10, v11]
              exact ⟨rfl, rfl⟩
            · have v : ∀ c, cA s24 c k = cA s c k := fun c => by rw [hA, if_neg (fun z => e z.2), if_neg (fun z => e z.2)]
              have u : ∀ d, d < 3 → upS (upS (upS (upS S 0 (92 + 3 * n) x) 0 (93 + 3 * n) y) 0 (94 + 3 * n) t) 0 59 ((n : Int) + 1) 0 (92 + d + 3 * k) = S 0 (92 + d + 3 * k) := fun d hd => by
                rw [hr _ (by omega), if_neg (by omega), if_neg (by omega), if_neg (by omega)]
              have u0 := u 0 (by omega)
              have u1 := u 1 (by omega)
              have u2 := u 2 (by omega)
              rw [Nat.add_zero] at u0
              rw [u0, u1, u2, v, v]
              exact n3.2.2.2 k (by omega)
        · rw [upS_n hj, upS_n hj, upS_n hj, upS_n hj]
    · rw [decide_eq_false q2, if_pos (show bi false = (0 : Int32) from rfl)]
      exact hno fun z => q2 (of_decide_eq_true z).2.1
  · rw [decide_eq_false q1, if_pos (show bi false = (0 : Int32) from rfl)]
    exact hno fun z => q1 (of_decide_eq_true z).1
/-- marks -/
def cpA (S : Nat → Nat → Int) (a b : Nat) : Nat → Nat → Int := fun j k => if j = b then S a k else S j k
def mkK (m : Nat → Int) (x : Int) (bk : Bool) : Bool := decide (0 ≤ x ∧ x ≤ 3) && (!bk || decide (m (2 + x.toNat) = 1))
def mkS (S : Nat → Nat → Int) (m : Nat → Int) (x : Int) (bk : Bool) : Nat → Nat → Int := if mkK m x bk = true then (if bk = true then cpA S (1 + x.toNat) 0 else cpA S 0 (1 + x.toNat)) else S
def mkM (m : Nat → Int) (x : Int) (bk : Bool) : Nat → Int := if mkK m x bk = true then (fun j => if j = 1 ∧ bk = true then 0 else if j = 2 + x.toNat then 1 else m j) else m
theorem sl_mk {k : Nat} (s : CS) (h : k < 4) : sl s g (1 + k) = cQ s (g 7) k := by
  unfold sl
  rw [if_neg (by omega), if_pos (by omega), show 1 + k - 1 = k by omega]
theorem newS_i (s : CS) (f : Nat) : cI (newS s) f (cz s) = 0 := by
  have h : cI (newS s) f (cz s) = if cz s = cz s + 6 then 0 else if cz s = cz s + 5 then 0 else if cz s = cz s + 4 then 0 else if cz s = cz s + 3 then 0 else if cz s = cz s + 2 then 0 else if cz s = cz s + 1 then 0 else if cz s = cz s then 0 else cI s f (cz s) := rfl
  rw [h]
  repeat' split
  all_goals first | rfl | omega
theorem newS_v (s : CS) : SV (newS s) (cz s) (fun _ => 0) ∧ SV2 (newS s) (cz s) (fun _ => 0) := by
  have e1 : av (newS s) 806 (cz s) = cz s + 1 := by unfold av; rw [(newS_r s).1]; rfl
  refine ⟨⟨newS_i s 800, newS_i s 801, newS_i s 802, newS_i s 803, fun c hc => ?_⟩, newS_i s 804, newS_i s 805, fun k hk => absurd (show (k : Int) < 0 from hk) (by omega), fun k hk => absurd (show (k : Int) < 0 from hk) (by omega)⟩
  rw [e1, newS_a s 1 (by omega)]
  rfl
/-- a new object that holds something -/
theorem Bs.nz {ρ' : Nat → Nat × Nat} {m' : Nat → Int} (h : Bs g ρ S m s) {j0 o0 : Nat} (hj0 : 1 ≤ j0 ∧ j0 < 21) (hsl0 : sl s' g j0 = some o0) (hsl : ∀ j, j < 21 → ¬ j = j0 → sl s' g j = sl s g j) (hfv : ∀ j o, j < 21 → sl s g j = some o → Fvv ρ ρ' s s' o ∧ ¬ o = o0) (ho : SO ρ' s' o0) (hv : SV s' o0 (S' j0) ∧ SV2 s' o0 (S' j0)) (ha : ∀ j, j < 21 → act m' j → j = j0 ∨ act m j) (hmk : ∀ j, 1 ≤ j → j < 5 → ¬ j = j0 → m' (1 + j) = 0 → m (1 + j) = 0) (hm0 : j0 < 5 → ¬ m' (1 + j0) = 0) (hS : ∀ j, ¬ j = j0 → S' j = S j) : Bs g ρ' S' m' s' := by
  refine ⟨fun j hj => ⟨fun a => ?_, fun o hoo => ?_⟩, fun i j o hi2 hj e1 e2 => ?_, fun j a1 a2 a3 => ?_⟩
  · by_cases e : j = j0
    · rw [e]; exact ⟨o0, hsl0⟩
    · rw [hsl j hj e]
      exact (h.1 j hj).1 ((ha j hj a).resolve_left e)
  · by_cases e : j = j0
    · rw [e, hsl0] at hoo
      cases hoo
      rw [e]
      exact ⟨ho, fun a => ⟨hv.1, fun _ => hv.2⟩⟩
    · rw [hsl j hj e] at hoo
      have fv := (hfv j o hj hoo).1
      obtain ⟨k0, k1⟩ := (h.1 j hj).2 o hoo
      refine ⟨k0.v fv, fun a => ?_⟩
      have k1 := k1 ((ha j hj a).resolve_left e)
      rw [hS j e]
      exact ⟨k1.1.v k0 fv, fun q => (k1.2 q).v k0 fv⟩
  · by_cases e : i = j0
    · by_cases e' : j = j0
      · rw [e, e']
      · rw [e, hsl0] at e1
        rw [hsl j hj e'] at e2
        cases e1
        exact absurd rfl (hfv j _ hj e2).2
    · rw [hsl i hi2 e] at e1
      by_cases e' : j = j0
      · rw [e', hsl0] at e2
        cases e2
        exact absurd rfl (hfv i _ hi2 e1).2
      · rw [hsl j hj e'] at e2
        exact h.2.1 i j o hi2 hj e1 e2
  · by_cases e : j = j0
    · rw [e] at a3
      exact absurd a3 (hm0 (by omega))
    · rw [hsl j (by omega) e]
      exact h.2.2 j a1 a2 (hmk j a1 a2 e a3)
theorem gm_46 (hn : 100 ≤ nf) (b : B g ρ W S V m Tp RC s) (hp : Hp z0 ρ s) (hSa : ∀ j, j < 21 → act m j → SW W T (S j)) (hS2a : ∀ j, j < 5 → act m j → SW2 W (S j)) {k : Nat} (hk : k < 4) {v : Int32} {o : Nat} (ho : sl s g (1 + k) = some o) (hm : m (2 + k) = 0 ∨ m (2 + k) = 1) (hb : ¬ v = 0 → m (2 + k) = 1) {s0 : CS} (hz : cz s0 ≤ cz s ∧ cz s ≤ cz s0 + 7 ∧ cl s0 ≤ cl s ∧ cl s ≤ cl s0 + 112) : Ok (FX0_mark_b46 nf (g 0) (i32 (k : Int)) v s) fun p => p.1 = 1 ∧ Cp z0 g W (mkS S m (k : Int) (!decide (v = 0))) V (mkM m (k : Int) (!decide (v = 0))) Tp RC s0 p.2 := by
  have bs := b_Bs b
  obtain ⟨n1, n2, n3⟩ := b_now b
  have hq := ho
  rw [sl_mk s hk] at hq
  obtain ⟨so, sv⟩ := (bs.1 (1 + k) (by omega)).2 o ho
  have hne : ¬ o = g 3 := fun z => by
    have := bs.2.1 (1 + k) 0 o (by omega) (by omega) ho (by rw [z]; rfl)
    omega
  have k7 : s.1 (g 7) = some (true, 105, 4) := (b.2.1 15 _ rfl).2.1
  have s5 : ρ (g 5) = (5, 0) := (b.2.1 0 _ rfl).2.2
  have hkn : ∀ j, j < 21 → act m j → ∀ c, c < 54 → S j (4 + c) = 0 ∨ S j (4 + c) = 1 := fun j hj ha c hc => by
    have := (hSa j hj ha).2.2.2.2 c hc
    omega
  have h58 : ∀ j, j < 5 → act m j → S j 58 ≤ 10 ∧ S j 59 ≤ 8 := fun j hj ha => by
    have := hS2a j hj ha
    exact ⟨this.1.2, this.2.1.2⟩
  have Hbe : ∀ {s' : CS} {d : Nat}, Fo ρ d 805 106 s s' → Hx ρ s' → Hp z0 ρ s' := fun f hx => ⟨hp.1.e f.1 f.2.2.2.2.2.1, hx, fun a ha => hp.2.2.1 a (by rw [← f.2.2.2.2.2.1]; exact ha), hp.2.2.2.x (f.w (by omega) (by omega))⟩
  unfold FX0_mark_b46
  by_cases qv : v = 0
  · have hK : mkK m (k : Int) (!decide (v = 0)) = true := by
      unfold mkK
      rw [decide_eq_true (show 0 ≤ (k : Int) ∧ (k : Int) ≤ 3 by omega), decide_eq_true qv]
      rfl
    have eS : mkS S m (k : Int) (!decide (v = 0)) = cpA S 0 (1 + k) := by
      unfold mkS
      rw [if_pos hK, decide_eq_true qv]
      rfl
    have eM : mkM m (k : Int) (!decide (v = 0)) = fun j => if j = 2 + k then 1 else m j := by
      unfold mkM
      rw [if_pos hK, decide_eq_true qv]
      funext j
      rw [if_neg (fun z => absurd z.2 (by decide)), Int.toNat_natCast]
    rw [if_pos qv, eS, eM]
    refine ok_gRs b.1 rfl (b.2.1 15 _ rfl).1 (ok_nn (ok_lR k7 (by omega) (by omega) (by omega) ?_))
    rw [Int.toNat_natCast, hq]
    refine ok_gRs b.1 rfl (b.2.1 4 _ rfl).1 (ok_nn (ok_nn ?_))
    have ha0 : act m 0 := .inl rfl
    refine ok_b (ok_stbe hn so n1 (fun z => hne z.symm) n2 n3 (hkn 0 (by omega) ha0) (h58 0 (by omega) ha0) hp.2.1) fun s7 h7 => ok_s ⟨rfl, ρ, ?_, Hbe h7.1 h7.2.2.2, ?_⟩
    · obtain ⟨f, v1, v2, -⟩ := h7
      refine b.w (f.w (by omega) (by omega)) ⟨?_, ?_⟩ (fun i hi => ?_) (bs.ob f (j0 := 1 + k) (σ := S 0) (by omega) ho ⟨v1, fun _ => v2⟩ (fun j hj ha => ?_) (fun j a1 a2 a3 => ?_) (fun j hj ha => ?_))
      · rw [f.2.1 _ _ (fun z => by omega), b.2.2.2.2.2.2.1.1]
        show _ = i32 (if 0 = 2 + k then 1 else m 0)
        rw [if_neg (by omega)]
      · rw [f.2.1 _ _ (fun z => by omega), b.2.2.2.2.2.2.1.2]
        show _ = i32 (if 1 = 2 + k then 1 else m 1)
        rw [if_neg (by omega)]
      · have hi : (i : Int) < (if 0 = 2 + k then 1 else m 0) := hi
        rw [if_neg (by omega)] at hi
        rw [f.2.2.2.1 _ (fun z => by rw [s5] at z; exact absurd z.2.1 (by show ¬ 101 ≤ 5; omega))]
        exact b.2.2.2.2.2.2.2.1 i hi
      · have ha : j = 0 ∨ (1 ≤ j ∧ j < 5 ∧ (if 1 + j = 2 + k then 1 else m (1 + j)) = 1) ∨ (5 ≤ j ∧ (j : Int) - 5 < (if 1 = 2 + k then 1 else m 1)) := ha
        rw [if_neg (show ¬ 1 = 2 + k by omega)] at ha
        rcases ha with z | z | z
        · exact .inr (.inl z)
        · by_cases e : j = 1 + k
          · exact .inl e
          · rw [if_neg (by omega)] at z
            exact .inr (.inr (.inl z))
        · exact .inr (.inr (.inr z))
      · have a3 : (if 1 + j = 2 + k then 1 else m (1 + j)) = (0 : Int) := a3
        by_cases e : 1 + j = 2 + k
        · rw [if_pos e] at a3
          cases a3
        · rw [if_neg e] at a3
          exact a3
      · by_cases e : j = 1 + k
        · rw [if_pos e, e]
          funext i
          exact if_pos rfl
        · rw [if_neg e]
          funext i
          exact if_neg e
    · rw [h7.1.2.2.2.2.2.1, h7.1.2.2.2.2.2.2]
      exact hz
  · have hm1 := hb qv
    have hK : mkK m (k : Int) (!decide (v = 0)) = true := by
      unfold mkK
      rw [decide_eq_true (show 0 ≤ (k : Int) ∧ (k : Int) ≤ 3 by omega), decide_eq_false qv, Int.toNat_natCast, decide_eq_true hm1]
      rfl
    have eS : mkS S m (k : Int) (!decide (v = 0)) = cpA S (1 + k) 0 := by
      unfold mkS
      rw [if_pos hK, decide_eq_false qv]
      rfl
    have eM : mkM m (k : Int) (!decide (v = 0)) = fun j => if j = 1 then 0 else if j = 2 + k then 1 else m j := by
      unfold mkM
      rw [if_pos hK, decide_eq_false qv]
      funext j
      rw [Int.toNat_natCast]
      by_cases e : j = 1
      · rw [if_pos ⟨e, rfl⟩, if_pos e]
      · rw [if_neg (fun z => e z.1), if_neg e]
    rw [if_neg qv, eS, eM]
    refine ok_gRs b.1 rfl (b.2.1 4 _ rfl).1 (ok_gRs b.1 rfl (b.2.1 15 _ rfl).1 (ok_nn (ok_lR k7 (by omega) (by omega) (by omega) ?_)))
    rw [Int.toNat_natCast, hq]
    refine ok_nn (ok_nn ?_)
    have ha1 : act m (1 + k) := .inr (.inl ⟨by omega, by omega, by rw [show 1 + (1 + k) = 2 + k by omega]; exact hm1⟩)
    obtain ⟨p1, p2⟩ := sv ha1
    refine ok_b (ok_stbe hn n1 so hne p1 (p2 (by omega)) (hkn (1 + k) (by omega) ha1) (h58 (1 + k) (by omega) ha1) hp.2.1) fun s14 h14 => ?_
    obtain ⟨f, v1, v2, hx⟩ := h14
    have kg : s14.1 (g 0) = some (true, 0, 0) := by rw [f.1]; exact b.1
    have fv : ∀ o, Fvv ρ ρ s14 (uI s14 7 (g 0) 0) o := fun o => ⟨by rw [uI_x.1], fun f a1 _ => rI_n (by omega), fun f => by rw [uI_x.2.1], fun a w c n e _ _ _ => ⟨by rw [uI_x.1], rfl, by rw [uI_x.2.2.1]⟩⟩
    have bs14 : Bs g ρ (cpA S (1 + k) 0) (fun j => if j = 1 then 0 else if j = 2 + k then 1 else m j) s14 := by
      refine bs.ob f (j0 := 0) (σ := S (1 + k)) (by omega) rfl ⟨v1, fun _ => v2⟩ (fun j hj ha => ?_) (fun j a1 a2 a3 => ?_) (fun j hj ha => ?_)
      · have ha : j = 0 ∨ (1 ≤ j ∧ j < 5 ∧ (if 1 + j = 1 then 0 else if 1 + j = 2 + k then 1 else m (1 + j)) = 1) ∨ (5 ≤ j ∧ (j : Int) - 5 < 0) := ha
        rcases ha with z | z | z
        · exact .inl z
        · rw [if_neg (show ¬ 1 + j = 1 by omega)] at z
          right
          by_cases e : 1 + j = 2 + k
          · exact .inr (.inl ⟨z.1, z.2.1, by rw [e]; exact hm1⟩)
          · rw [if_neg e] at z
            exact .inr (.inl z)
        · omega
      · have a3 : (if 1 + j = 1 then 0 else if 1 + j = 2 + k then 1 else m (1 + j)) = (0 : Int) := a3
        rw [if_neg (by omega)] at a3
        by_cases e : 1 + j = 2 + k
        · rw [if_pos e] at a3
          cases a3
        · rw [if_neg e] at a3
          exact a3
      · by_cases e : j = 0
        · rw [if_pos e, e]
          funext i
          exact if_pos rfl
        · rw [if_neg e]
          funext i
          exact if_neg e
    refine ok_pI kg rfl (ok_s ⟨rfl, ρ, ?_, (Hbe f hx).oI rfl, ?_⟩)
    · refine b.w ((f.w (by omega) (by omega)).tr (Fx.uI rfl)) ⟨?_, rI_t⟩ (fun i hi => ?_) (bs14.r id (fun _ h => h) (fun _ _ _ _ h => h) (fun _ _ => rfl) (fun _ _ => rfl) (fun _ o _ _ => fv o) (fun _ _ h => h) (fun _ _ _ _ _ => rfl) (fun _ _ _ h => h))
      · rw [rI_n (by decide), f.2.1 _ _ (fun z => by omega), b.2.2.2.2.2.2.1.1]
        show _ = i32 (if 0 = 1 then 0 else if 0 = 2 + k then 1 else m 0)
        rw [if_neg (by omega), if_neg (by omega)]
      · have hi : (i : Int) < (if 0 = 1 then 0 else if 0 = 2 + k then 1 else m 0) := hi
        rw [if_neg (by omega), if_neg (by omega)] at hi
        rw [uI_x.2.2.1, f.2.2.2.1 _ (fun z => by rw [s5] at z; exact absurd z.2.1 (by show ¬ 101 ≤ 5; omega))]
        exact b.2.2.2.2.2.2.2.1 i hi
    · rw [uI_x.2.2.2.2.1, uI_x.2.2.2.2.2, f.2.2.2.2.2.1, f.2.2.2.2.2.2]
      exact hz
theorem ok_newS' {α : Type} {s : CS} {K : Nat → CS → Option α} {Q : α → Prop} (h : Ok (K (cz s) (newS s)) Q) : Ok (nwO s 8 12 fun o s1 => (FX8_init o s1).bind fun s2 => K o s2) Q := by
  have L := ok_newS (s := s) (K := fun _ s2 => some s2) (Q := fun z => z = newS s) (ok_s rfl)
  obtain ⟨z, h1, h2⟩ := L
  have h1 : ((FX8_init (cz s) (uN s 8 0 12)).bind fun s2 => some s2) = some z := h1
  have h3 : FX8_init (cz s) (uN s 8 0 12) = some (newS s) := by
    rw [← h2, ← h1]
    cases FX8_init (cz s) (uN s 8 0 12) <;> rfl
  show Ok ((FX8_init (cz s) (uN s 8 0 12)).bind fun s2 => K (cz s) s2) Q
  rw [h3]
  exact h
theorem ok_mark (hn : 100 ≤ nf) (hW : TW W) (hT : 0 ≤ T) (b : B g ρ W S V m Tp RC s) (hp : Hp z0 ρ s) (hSa : ∀ j, j < 21 → act m j → SW W T (S j)) (hS2a : ∀ j, j < 5 → act m j → SW2 W (S j)) (hm01 : ∀ j, j < 4 → m (2 + j) = 0 ∨ m (2 + j) = 1) {x : Int} {v : Int32} (hx : ok32 x) : Ok (FX0_mark nf (g 0) (i32 x) v s) fun p => p.1 = bi (mkK m x (!decide (v = 0))) ∧ Cp z0 g W (mkS S m x (!decide (v = 0))) V (mkM m x (!decide (v = 0))) Tp RC s p.2 := by
  have bs := b_Bs b
  have k7 : s.1 (g 7) = some (true, 105, 4) := (b.2.1 15 _ rfl).2.1
  have hno : mkK m x (!decide (v = 0)) = false → Ok (some ((0 : Int32), s)) fun p => p.1 = bi (mkK m x (!decide (v = 0))) ∧ Cp z0 g W (mkS S m x (!decide (v = 0))) V (mkM m x (!decide (v = 0))) Tp RC s p.2 := fun h => by
    have e2 : mkS S m x (!decide (v = 0)) = S := if_neg (by rw [h]; decide)
    have e3 : mkM m x (!decide (v = 0)) = m := if_neg (by rw [h]; decide)
    rw [e2, e3, h]
    exact ok_s ⟨rfl, Cp.rf b hp⟩
  unfold FX0_mark
  refine ok_cp (S' := mkS S m x (!decide (v = 0))) (m' := mkM m x (!decide (v = 0))) ?_ (fun z hz => hz.2)
  refine ok_gd b.1 rfl (ok_be (c_i3 hx 0 3 (by omega)) ?_)
  by_cases q : 0 ≤ x ∧ x ≤ 3
  · rw [decide_eq_true q, if_neg (show ¬ bi true = (0 : Int32) by decide)]
    obtain ⟨k, rfl⟩ : ∃ k : Nat, x = (k : Int) := ⟨x.toNat, by omega⟩
    have hk : k < 4 := by omega
    have L24 : (¬ v = 0 → m (2 + k) = 1) → Ok (FX0_mark_b24 nf (g 0) (i32 (k : Int)) v s) fun p => p.1 = bi (mkK m (k : Int) (!decide (v = 0))) ∧ Cp z0 g W (mkS S m (k : Int) (!decide (v = 0))) V (mkM m (k : Int) (!decide (v = 0))) Tp RC s p.2 := fun hb => by
      have hK : mkK m (k : Int) (!decide (v = 0)) = true := by
        unfold mkK
        rw [decide_eq_true q, Int.toNat_natCast]
        by_cases qv : v = 0
        · rw [decide_eq_true qv]; rfl
        · rw [decide_eq_false qv, decide_eq_true (hb qv)]; rfl
      rw [hK]
      unfold FX0_mark_b24
      refine ok_gRs b.1 rfl (b.2.1 15 _ rfl).1 (ok_nn (ok_lR k7 (by omega) (by omega) (by omega) ?_))
      rw [Int.toNat_natCast]
      cases hq : cQ s (g 7) k with
      | some o =>
        rw [nul_eS]
        exact gm_46 (nf := nf) hn b hp hSa hS2a hk (o := o) (by rw [sl_mk s hk, hq]) (hm01 k hk) hb ⟨Nat.le_refl _, Nat.le_add_right _ _, Nat.le_refl _, Nat.le_add_right _ _⟩
      | none =>
        rw [nul_eN]
        have hna : ¬ act m (1 + k) := fun ha => by
          obtain ⟨o, ho⟩ := (bs.1 (1 + k) (by omega)).1 ha
          rw [sl_mk s hk, hq] at ho
          cases ho
        have hm0 : m (2 + k) = 0 := by
          rcases hm01 k hk with z | z
          · exact z
          · exact absurd (.inr (.inl ⟨by omega, by omega, by rw [show 1 + (1 + k) = 2 + k by omega]; exact z⟩)) hna
        have qv : v = 0 := Decidable.byContradiction fun z => by
          have := hb z
          omega
        refine ok_gRs b.1 rfl (b.2.1 15 _ rfl).1 ?_
        refine ok_newS' ?_
        refine ok_nn ?_
        have hx := newS_x s
        have so := newS_o ρ s
        have sv := newS_v s
        have hp1 := hp.n
        have hz := newS_z s
        have hF := hp.1
        generalize newS s = s1 at hx so sv hp1 hz ⊢
        have hρ : ∀ a, a < cz s → rhoS ρ (cz s) a = ρ a := fun a ha => rhoS_o ha
        have c7 := hF _ _ _ _ k7
        have k71 : s1.1 (g 7) = some (true, 105, 4) := by rw [(hx _ c7).1]; exact k7
        refine ok_gd so.1 rfl (ok_tR k71 (by omega) (by omega) (by omega) ?_)
        rw [Int.toNat_natCast]
        have f2 : Fx ρ (rhoS ρ (cz s)) s (uQ s1 (g 7) k (some (cz s))) := (hx.x hF hρ).tr (Fx.uQ k71)
        have hp2 : Hp z0 (rhoS ρ (cz s)) (uQ s1 (g 7) k (some (cz s))) := hp1.e (Fx.uQ k71) uQ_x.1 uQ_x.2.2.2.2.1 fun _ _ => by rw [uQ_x.2.2.2.1]
        have c0 := hF _ _ _ _ b.1
        have c5 := hF _ _ _ _ (b.2.1 0 _ rfl).2.1
        have c6 := hF _ _ _ _ (b.2.1 5 _ rfl).2.1
        have h67 : ¬ g 6 = g 7 := g_ne b (i := 5) (j := 15) rfl rfl (by decide)
        have hsl0 : sl (uQ s1 (g 7) k (some (cz s))) g (1 + k) = some (cz s) := by rw [sl_mk _ hk, rd_uQ, if_pos ⟨rfl, rfl⟩]
        have hsl : ∀ j, j < 21 → ¬ j = 1 + k → sl (uQ s1 (g 7) k (some (cz s))) g j = sl s g j := fun j hj hne => by
          unfold sl
          by_cases q0 : j = 0
          · rw [if_pos q0, if_pos q0]
          · rw [if_neg q0, if_neg q0]
            by_cases q5 : j < 5
            · rw [if_pos q5, if_pos q5, rd_uQ, if_neg (fun z => by omega), (hx _ c7).2.2.2.2]
            · rw [if_neg q5, if_neg q5, rd_uQ, if_neg (fun z => h67 z.1), (hx _ c6).2.2.2.2]
        have hso : ∀ j o, j < 21 → sl s g j = some o → o < cz s := fun j o hj e => hF _ _ _ _ ((bs.1 j hj).2 o e).1.1
        have a0 : ∀ j, j < 21 → act (upM m (2 + k) 1) j → j = 1 + k ∨ act m j := fun j hj ha => by
          have ha : j = 0 ∨ (1 ≤ j ∧ j < 5 ∧ (if 1 + j = 2 + k then 1 else m (1 + j)) = 1) ∨ (5 ≤ j ∧ (j : Int) - 5 < (if 1 = 2 + k then 1 else m 1)) := ha
          rw [if_neg (show ¬ 1 = 2 + k by omega)] at ha
          rcases ha with z | z | z
          · exact .inr (.inl z)
          · by_cases e : j = 1 + k
            · exact .inl e
            · rw [if_neg (by omega)] at z
              exact .inr (.inr (.inl z))
          · exact .inr (.inr (.inr z))
        have b2 : B g (rhoS ρ (cz s)) W (fun j => if j = 1 + k then fun _ => 0 else S j) V (upM m (2 + k) 1) Tp RC (uQ s1 (g 7) k (some (cz s))) := by
          refine b.w f2 ⟨?_, ?_⟩ (fun i hi => ?_) ?_
          · rw [uQ_x.2.1, (hx _ c0).2.1, b.2.2.2.2.2.2.1.1]
            show _ = i32 (if 0 = 2 + k then 1 else m 0)
            rw [if_neg (by omega)]
          · rw [uQ_x.2.1, (hx _ c0).2.1, b.2.2.2.2.2.2.1.2]
            show _ = i32 (if 1 = 2 + k then 1 else m 1)
            rw [if_neg (by omega)]
          · have hi : (i : Int) < (if 0 = 2 + k then 1 else m 0) := hi
            rw [if_neg (by omega)] at hi
            rw [uQ_x.2.2.2.1, (hx _ c5).2.2.2.1]
            exact b.2.2.2.2.2.2.2.1 i hi
          · refine bs.nz (j0 := 1 + k) (o0 := cz s) (by omega) hsl0 hsl (fun j o hj e => ?_) (so.v Fvv.uQ) ?_ a0 (fun j a1 a2 a3 a4 => ?_) (fun _ => ?_) (fun j hj => if_neg hj)
            · have ho := hso j o hj e
              have fv := hx.fv (ρ := ρ) hF hρ ho
              exact ⟨fv.tr Fvv.uQ, by omega⟩
            · show SV _ _ (if 1 + k = 1 + k then fun _ => 0 else S (1 + k)) ∧ SV2 _ _ (if 1 + k = 1 + k then fun _ => 0 else S (1 + k))
              rw [if_pos rfl]
              exact ⟨sv.1.v so Fvv.uQ, sv.2.v so Fvv.uQ⟩
            · unfold upM at a4
              rw [if_neg (by omega)] at a4
              exact a4
            · unfold upM
              rw [if_pos (by omega)]
              decide
        refine ok_w (gm_46 (nf := nf) (T := T) (k := k) (v := v) hn b2 hp2 (fun j hj ha => ?_) (fun j hj ha => ?_) hk hsl0 (.inr (if_pos rfl)) (fun z => absurd qv z) (s0 := s) ⟨?_, ?_, ?_, ?_⟩) fun p h => ?_
        · by_cases e : j = 1 + k
          · show SW W T (if j = 1 + k then fun _ => 0 else S j)
            rw [if_pos e]
            exact SW_0 hW hT
          · show SW W T (if j = 1 + k then fun _ => 0 else S j)
            rw [if_neg e]
            exact hSa j hj ((a0 j hj ha).resolve_left e)
        · by_cases e : j = 1 + k
          · show SW2 W (if j = 1 + k then fun _ => 0 else S j)
            rw [if_pos e]
            exact SW2_0
          · show SW2 W (if j = 1 + k then fun _ => 0 else S j)
            rw [if_neg e]
            exact hS2a j hj ((a0 j (by omega) ha).resolve_left e)
        · rw [uQ_x.2.2.2.2.1]; omega
        · rw [uQ_x.2.2.2.2.1]; omega
        · rw [uQ_x.2.2.2.2.2]; omega
        · rw [uQ_x.2.2.2.2.2]; omega
        · have hK2 : mkK (upM m (2 + k) 1) (k : Int) (!decide (v = 0)) = true := by
            unfold mkK
            rw [decide_eq_true q, decide_eq_true qv]
            rfl
          have eS : mkS (fun j => if j = 1 + k then fun _ => 0 else S j) (upM m (2 + k) 1) (k : Int) (!decide (v = 0)) = mkS S m (k : Int) (!decide (v = 0)) := by
            unfold mkS
            rw [if_pos hK2, if_pos hK, decide_eq_true qv, if_neg (show ¬ (!true) = true by decide), if_neg (show ¬ (!true) = true by decide), Int.toNat_natCast]
            funext j i
            unfold cpA
            by_cases e : j = 1 + k
            · rw [if_pos e, if_pos e]
              exact congrFun (if_neg (show ¬ 0 = 1 + k by omega)) i
            · rw [if_neg e, if_neg e]
              exact congrFun (if_neg e) i
          have eM : mkM (upM m (2 + k) 1) (k : Int) (!decide (v = 0)) = mkM m (k : Int) (!decide (v = 0)) := by
            unfold mkM
            rw [if_pos hK2, if_pos hK, Int.toNat_natCast]
            funext j
            by_cases e0 : j = 1 ∧ (!decide (v = 0)) = true
            · rw [if_pos e0, if_pos e0]
            · rw [if_neg e0, if_neg e0]
              by_cases e : j = 2 + k
              · rw [if_pos e, if_pos e]
              · rw [if_neg e, if_neg e]
                exact if_neg e
          rw [eS, eM] at h
          exact ⟨by rw [h.1]; rfl, h.2⟩
    by_cases qv : v = 0
    · rw [if_pos qv]
      exact L24 fun z => absurd qv z
    · rw [if_neg qv]
      refine ok_gRs b.1 rfl (b.2.1 15 _ rfl).1 (ok_nn (ok_lR k7 (by omega) (by omega) (by omega) ?_))
      rw [Int.toNat_natCast]
      cases hq : cQ s (g 7) k with
      | none =>
        rw [nul_eN]
        refine hno ?_
        have hm1 : ¬ m (2 + k) = 1 := fun z => by
          obtain ⟨o, ho⟩ := (bs.1 (1 + k) (by omega)).1 (.inr (.inl ⟨by omega, by omega, by rw [show 1 + (1 + k) = 2 + k by omega]; exact z⟩))
          rw [sl_mk s hk, hq] at ho
          cases ho
        unfold mkK
        rw [Int.toNat_natCast, decide_eq_false qv, decide_eq_false hm1, Bool.and_comm]
        rfl
      | some o =>
        rw [nul_eS]
        refine L24 fun _ => ?_
        rcases hm01 k hk with z | z
        · have := bs.2.2 (1 + k) (by omega) (by omega) (by rw [show 1 + (1 + k) = 2 + k by omega]; exact z)
          rw [sl_mk s hk, hq] at this
          cases this
        · exact z
  · rw [decide_eq_false q, if_pos (show bi false = (0 : Int32) from rfl)]
    refine hno ?_
    unfold mkK
    rw [decide_eq_false q]
    rfl
end GW_
