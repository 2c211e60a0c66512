/-! LAYER 2: tried, was: the component -/
set_option maxRecDepth 100000
def trK (W σ : Nat → Int) (x y w : Int) : Bool := decide ((((0 ≤ x ∧ x < W 0) ∧ 0 ≤ y ∧ y < W 1) ∧ W (10 + 4 * (6 * y.toNat + x.toNat)) = 3) ∧ (0 ≤ w ∧ w ≤ 59) ∧ ¬ σ 58 = 10)
def trS (W : Nat → Int) (S : Nat → Nat → Int) (x y : Int) (p : Bool) (w : Int) : Nat → Nat → Int := if trK W (S 0) x y w = true then upS (upS (upS (upS S 0 (60 + 3 * (S 0 58).toNat) (6 * y + x)) 0 (61 + 3 * (S 0 58).toNat) (if p = true then 1 else 0)) 0 (62 + 3 * (S 0 58).toNat) w) 0 58 (S 0 58 + 1) else S
def waK (W σ : Nat → Int) (x y t : Int) : Bool := decide (((0 ≤ x ∧ x < W 0) ∧ 0 ≤ y ∧ y < W 1) ∧ (0 ≤ t ∧ t ≤ 9999) ∧ ¬ σ 59 = 8)
def waS (W : Nat → Int) (S : Nat → Nat → Int) (x y t : Int) : Nat → Nat → Int := if waK W (S 0) x y t = true then upS (upS (upS (upS S 0 (92 + 3 * (S 0 59).toNat) x) 0 (93 + 3 * (S 0 59).toNat) y) 0 (94 + 3 * (S 0 59).toNat) t) 0 59 (S 0 59 + 1) else S
section GB
variable {g : Nat → Nat} {ρ : Nat → Nat × Nat} {W : Nat → Int} {S S' : Nat → Nat → Int} {V m m' Tp : Nat → Int} {RC : Nat → List (Nat × Int)} {s s' z0 : CS} {T : Int} {nf : Nat}
theorem bi_if (p : Bool) : bi p = i32 (if p = true then 1 else 0) := by cases p <;> rfl
theorem Hp.oA {o a i r : Nat} {v : Int32} (h : Hp z0 ρ s) (e : ρ a = (r, o)) (hr : 102 ≤ r ∧ r ≤ 106) (hv : r = 102 → isb v = true) : Hp z0 ρ (uA s a i v) := by
  have f : Fo ρ o 805 106 s (uA s a i v) := Fo.uA e (by omega)
  refine ⟨h.1.e f.1 f.2.2.2.2.2.1, fun b hb k => ?_, fun a ha => h.2.2.1 a ha, h.2.2.2.x (f.w (by omega) (by omega))⟩
  rw [rd_uA]
  by_cases z : b = a ∧ k = i
  · rw [if_pos z]
    refine hv ?_
    rw [z.1, e] at hb
    exact hb
  · rw [if_neg z]
    exact h.2.1 b hb k
theorem Hp.oI {o f : Nat} {v : Int32} (h : Hp z0 ρ s) (hf : wF f = true) : Hp z0 ρ (uI s f o v) := h.e (Fx.uI hf) uI_x.1 uI_x.2.2.2.2.1 fun _ _ => by rw [uI_x.2.2.1]
theorem ok_tried (b : B g ρ W S V m Tp RC s) (hp : Hp z0 ρ s) (hW : TW W) (hS2 : SW2 W (S 0)) {x y w : Int} {p : Bool} (hx : ok32 x) (hy : ok32 y) (hw : ok32 w) : Ok (FX0_tried (g 0) (i32 x) (i32 y) (bi p) (i32 w) s) fun z => z.1 = bi (trK W (S 0) x y w) ∧ Cp z0 g W (trS W S x y p w) V m Tp RC s z.2 := by
  have w0 := hW.1
  have w1 := hW.2.1
  obtain ⟨n1, n2, n3⟩ := b_now b
  have h58 := hS2.1
  have hno : ¬ trK W (S 0) x y w = true → Ok (some ((0 : Int32), s)) fun z => z.1 = bi (trK W (S 0) x y w) ∧ Cp z0 g W (trS W S x y p w) V m Tp RC s z.2 := fun h => by
    have e2 : trS W S x y p w = S := if_neg h
    rw [e2, Bool.eq_false_iff.mpr h]
    exact ok_s ⟨rfl, Cp.rf b hp⟩
  unfold FX0_tried
  refine ok_cp (S' := trS W S x y p w) (m' := m) ?_ (fun z hz => hz.2)
  refine ok_gd b.1 rfl (ok_be (c_isButton b hW hx hy) ?_)
  by_cases q1 : ((0 ≤ x ∧ x < W 0) ∧ 0 ≤ y ∧ y < W 1) ∧ W (10 + 4 * (6 * y.toNat + x.toNat)) = 3
  · rw [decide_eq_true q1, if_neg (show ¬ bi true = (0 : Int32) by decide)]
    refine ok_be (c_i3 hw 0 59 (by omega)) ?_
    by_cases q2 : 0 ≤ w ∧ w ≤ 59
    · rw [decide_eq_true q2, if_neg (show ¬ bi true = (0 : Int32) by decide)]
      refine ok_gRs b.1 rfl (b.2.1 4 _ rfl).1 (ok_nn (ok_gI n1.1 rfl ?_))
      rw [n3.1, show (10 : Int32) = i32 10 from rfl]
      refine ok_q ⟨by omega, by omega⟩ ⟨by omega, by omega⟩ (fun q3 => ?_) (fun q3 => ?_)
      · exact hno fun z => (of_decide_eq_true z).2.2 q3
      · have hk : trK W (S 0) x y w = true := decide_eq_true ⟨q1, q2, q3⟩
        have eS : trS W S x y p w = upS (upS (upS (upS S 0 (60 + 3 * (S 0 58).toNat) (6 * y + x)) 0 (61 + 3 * (S 0 58).toNat) (if p = true then 1 else 0)) 0 (62 + 3 * (S 0 58).toNat) w) 0 58 (S 0 58 + 1) := if_pos hk
        rw [eS, hk]
        obtain ⟨n, hn⟩ : ∃ n : Nat, S 0 58 = (n : Int) := ⟨(S 0 58).toNat, by omega⟩
        rw [hn, Int.toNat_natCast]
        have e0 : cI s 804 (g 3) = i32 (n : Int) := by rw [n3.1, hn]
        have o7 := n1.2.2.1
        have o8 := n1.2.2.2.1
        have o9 := n1.2.2.2.2.1
        refine ok_gRs b.1 rfl (b.2.1 4 _ rfl).1 (ok_nn (ok_gRs n1.1 rfl o8.1 (ok_gRs b.1 rfl (b.2.1 4 _ rfl).1 (ok_nn (ok_gI n1.1 rfl (ok_nn ?_))))))
        rw [e0, show (6 : Int32) = i32 6 from rfl, show (1 : Int32) = i32 1 from rfl, i32_mul, i32_add, show y * 6 + x = 6 * y + x by omega]
        refine ok_tI o8.2.1 (by omega) (by omega) (by omega) ?_
        rw [Int.toNat_natCast]
        have f1 : Fo ρ (g 3) 805 106 s (uA s (av s 808 (g 3)) n (i32 (6 * y + x))) := Fo.uA o8.2.2 (by omega)
        have h1 : Hp z0 ρ (uA s (av s 808 (g 3)) n (i32 (6 * y + x))) := hp.oA o8.2.2 (by omega) (fun z => by omega)
        have k : ∀ (s1 : CS), Fo ρ (g 3) 805 106 s s1 → s1.1 (g 0) = some (true, 0, 0) ∧ cR s1 4 (g 0) = some (g 3) ∧ s1.1 (g 3) = some (true, 8, 0) ∧ cR s1 807 (g 3) = some (av s 807 (g 3)) ∧ cR s1 809 (g 3) = some (av s 809 (g 3)) ∧ s1.1 (av s 807 (g 3)) = some (true, 102, 10) ∧ s1.1 (av s 809 (g 3)) = some (true, 100, 10) := fun s1 f => ⟨by rw [f.1]; exact b.1, by rw [f.2.2.1]; exact (b.2.1 4 _ rfl).1, by rw [f.1]; exact n1.1, by rw [f.2.2.1]; exact o7.1, by rw [f.2.2.1]; exact o9.1, by rw [f.1]; exact o7.2.1, by rw [f.1]; exact o9.2.1⟩
        obtain ⟨a1, a2, a3, a4, a5, a6, a7⟩ := k _ f1
        have ei1 : cI (uA s (av s 808 (g 3)) n (i32 (6 * y + x))) 804 (g 3) = i32 (n : Int) := e0
        refine ok_gRs a1 rfl a2 (ok_nn (ok_gRs a3 rfl a4 (ok_gRs a1 rfl a2 (ok_nn (ok_gI a3 rfl (ok_nn ?_))))))
        rw [ei1]
        refine ok_g (isb_bi p) (ok_tI a6 (by omega) (by omega) (by omega) ?_)
        rw [Int.toNat_natCast]
        have f2 : Fo ρ (g 3) 805 106 s (uA (uA s (av s 808 (g 3)) n (i32 (6 * y + x))) (av s 807 (g 3)) n (bi p)) := f1.tr (Fo.uA o7.2.2 (by omega))
        have h2 : Hp z0 ρ (uA (uA s (av s 808 (g 3)) n (i32 (6 * y + x))) (av s 807 (g 3)) n (bi p)) := h1.oA o7.2.2 (by omega) (fun _ => isb_bi p)
        obtain ⟨b1, b2, b3, b4, b5, b6, b7⟩ := k _ f2
        have ei2 : cI (uA (uA s (av s 808 (g 3)) n (i32 (6 * y + x))) (av s 807 (g 3)) n (bi p)) = cI s := rfl
        have hA2 : ∀ c j, cA (uA (uA s (av s 808 (g 3)) n (i32 (6 * y + x))) (av s 807 (g 3)) n (bi p)) c j = if c = av s 807 (g 3) ∧ j = n then bi p else if c = av s 808 (g 3) ∧ j = n then i32 (6 * y + x) else cA s c j := fun c j => by rw [rd_uA, rd_uA]
        generalize uA (uA s (av s 808 (g 3)) n (i32 (6 * y + x))) (av s 807 (g 3)) n (bi p) = s21 at f2 h2 b1 b2 b3 b4 b5 b6 b7 ei2 hA2 ⊢
        refine ok_gRs b1 rfl b2 (ok_nn (ok_gRs b3 rfl b5 (ok_gRs b1 rfl b2 (ok_nn (ok_gI b3 rfl (ok_pI b3 rfl (ok_nn ?_)))))))
        rw [ei2, e0, i32_add]
        have f3 : Fo ρ (g 3) 805 106 s (uI s21 804 (g 3) (i32 ((n : Int) + 1))) := f2.tr (Fo.uI (by omega))
        have h3 : Hp z0 ρ (uI s21 804 (g 3) (i32 ((n : Int) + 1))) := h2.oI rfl
        have c7 : (uI s21 804 (g 3) (i32 ((n : Int) + 1))).1 (av s 809 (g 3)) = some (true, 100, 10) := b7
        refine ok_tI c7 (by omega) (by omega) (by omega) ?_
        rw [Int.toNat_natCast]
        have f4 := f3.tr (Fo.uA (fx := 805) (rx := 106) (i := n) (v := i32 w) o9.2.2 (by omega))
        have h4 : Hp z0 ρ (uA (uI s21 804 (g 3) (i32 ((n : Int) + 1))) (av s 809 (g 3)) n (i32 w)) := h3.oA o9.2.2 (by omega) (fun z => by omega)
        have ez : cz (uA (uI s21 804 (g 3) (i32 ((n : Int) + 1))) (av s 809 (g 3)) n (i32 w)) = cz s ∧ cl (uA (uI s21 804 (g 3) (i32 ((n : Int) + 1))) (av s 809 (g 3)) n (i32 w)) = cl s := ⟨f4.2.2.2.2.2.1, f4.2.2.2.2.2.2⟩
        have eI : ∀ f, ¬ f = 804 → cI (uA (uI s21 804 (g 3) (i32 ((n : Int) + 1))) (av s 809 (g 3)) n (i32 w)) f (g 3) = cI s f (g 3) := fun f hf => (rI_n hf).trans (by rw [ei2])
        have eI4 : cI (uA (uI s21 804 (g 3) (i32 ((n : Int) + 1))) (av s 809 (g 3)) n (i32 w)) 804 (g 3) = i32 ((n : Int) + 1) := rI_t
        have hA : ∀ c j, cA (uA (uI s21 804 (g 3) (i32 ((n : Int) + 1))) (av s 809 (g 3)) n (i32 w)) c j = if c = av s 809 (g 3) ∧ j = n then i32 w else if c = av s 807 (g 3) ∧ j = n then bi p else if c = av s 808 (g 3) ∧ j = n then i32 (6 * y + x) else cA s c j := fun c j => by rw [rd_uA, uI_x.2.2.1, hA2]
        generalize uA (uI s21 804 (g 3) (i32 ((n : Int) + 1))) (av s 809 (g 3)) n (i32 w) = s30 at f4 h4 ez eI eI4 hA ⊢
        have n78 : ¬ av s 807 (g 3) = av s 808 (g 3) := oA_ne o7 o8 (by decide)
        have n79 : ¬ av s 807 (g 3) = av s 809 (g 3) := oA_ne o7 o9 (by decide)
        have n89 : ¬ av s 808 (g 3) = av s 809 (g 3) := oA_ne o8 o9 (by decide)
        have n67 : ¬ av s 806 (g 3) = av s 807 (g 3) := oA_ne n1.2.1 o7 (by decide)
        have n68 : ¬ av s 806 (g 3) = av s 808 (g 3) := oA_ne n1.2.1 o8 (by decide)
        have n69 : ¬ av s 806 (g 3) = av s 809 (g 3) := oA_ne n1.2.1 o9 (by decide)
        have m10 : ∀ f c nn r, oA ρ s (g 3) f c nn r → 105 ≤ r → ¬ av s f (g 3) = av s 807 (g 3) ∧ ¬ av s f (g 3) = av s 808 (g 3) ∧ ¬ av s f (g 3) = av s 809 (g 3) := fun f c nn r o hr => ⟨oA_ne o o7 (by omega), oA_ne o o8 (by omega), oA_ne o o9 (by omega)⟩
        have q10 := m10 _ _ _ _ n1.2.2.2.2.2.1 (by omega)
        have q11 := m10 _ _ _ _ n1.2.2.2.2.2.2 (by omega)
        refine ok_s ⟨rfl, ρ, b.now f4 (by omega) (by omega) (σ := _) ⟨?_, ?_⟩ rfl (fun j hj => ?_), h4, by rw [ez.1]; exact Nat.le_refl _, by rw [ez.1]; exact Nat.le_add_right _ _, by rw [ez.2]; exact Nat.le_refl _, by rw [ez.2]; exact Nat.le_add_right _ _⟩
        · have hu : ∀ k, k < 58 → upS (upS (upS (upS S 0 (60 + 3 * n) (6 * y + x)) 0 (61 + 3 * n) (if p = true then 1 else 0)) 0 (62 + 3 * n) w) 0 58 ((n : Int) + 1) 0 k = S 0 k := fun k hk => by
            rw [upS_r, if_neg (by omega), upS_r, if_neg (by omega), upS_r, if_neg (by omega), upS_r, if_neg (by omega)]
          refine SV_e hu ?_
          unfold SV
          rw [eI 800 (by decide), eI 801 (by decide), eI 802 (by decide), eI 803 (by decide), av_e f4.2.2.1]
          refine ⟨n2.1, n2.2.1, n2.2.2.1, n2.2.2.2.1, fun c hc => ?_⟩
          rw [hA, if_neg (fun z => n69 z.1), if_neg (fun z => n67 z.1), if_neg (fun z => n68 z.1)]
          exact n2.2.2.2.2 c hc
        · have e58 : upS (upS (upS (upS S 0 (60 + 3 * n) (6 * y + x)) 0 (61 + 3 * n) (if p = true then 1 else 0)) 0 (62 + 3 * n) w) 0 58 ((n : Int) + 1) 0 58 = (n : Int) + 1 := by rw [upS_r, if_pos rfl]
          have hr : ∀ i, ¬ i = 58 → upS (upS (upS (upS S 0 (60 + 3 * n) (6 * y + x)) 0 (61 + 3 * n) (if p = true then 1 else 0)) 0 (62 + 3 * n) w) 0 58 ((n : Int) + 1) 0 i = if i = 62 + 3 * n then w else if i = 61 + 3 * n then (if p = true then 1 else 0) else if i = 60 + 3 * n then 6 * y + x else S 0 i := fun i h => by
            rw [upS_r, if_neg h, upS_r, upS_r, upS_r]
          unfold SV2
          rw [e58, hr 59 (by omega), if_neg (by omega), if_neg (by omega), if_neg (by omega), eI4, eI 805 (by decide), av_e f4.2.2.1, av_e f4.2.2.1, av_e f4.2.2.1, av_e f4.2.2.1, av_e f4.2.2.1]
          refine ⟨rfl, n3.2.1, fun k hk => ?_, fun k hk => ?_⟩
          · by_cases e : k = n
            · rw [e]
              have v8 : cA s30 (av s 808 (g 3)) n = i32 (6 * y + x) := by rw [hA, if_neg (fun z => n89 z.1), if_neg (fun z => n78 z.1.symm), if_pos ⟨rfl, rfl⟩]
              have v7 : cA s30 (av s 807 (g 3)) n = bi p := by rw [hA, if_neg (fun z => n79 z.1), if_pos ⟨rfl, rfl⟩]
              have v9 : cA s30 (av s 809 (g 3)) n = i32 w := by rw [hA, if_pos ⟨rfl, rfl⟩]
              have u8 := hr (60 + 3 * n) (by omega)
              rw [if_neg (show ¬ 60 + 3 * n = 62 + 3 * n by omega), if_neg (show ¬ 60 + 3 * n = 61 + 3 * n by omega), if_pos rfl] at u8
              have u7 := hr (61 + 3 * n) (by omega)
              rw [if_neg (show ¬ 61 + 3 * n = 62 + 3 * n by omega), if_pos rfl] at u7
              have u9 := hr (62 + 3 * n) (by omega)
              rw [if_pos rfl] at u9
              rw [u8, u7, u9, v8, v7, v9]
              exact ⟨rfl, bi_if p, rfl⟩
            · have v : ∀ c, cA s30 c k = cA s c k := fun c => by rw [hA, if_neg (fun z => e z.2), if_neg (fun z => e z.2), if_neg (fun z => e z.2)]
              have u : ∀ d, d < 3 → upS (upS (upS (upS S 0 (60 + 3 * n) (6 * y + x)) 0 (61 + 3 * n) (if p = true then 1 else 0)) 0 (62 + 3 * n) w) 0 58 ((n : Int) + 1) 0 (60 + d + 3 * k) = S 0 (60 + d + 3 * k) := fun d hd => by
                rw [hr _ (by omega), if_neg (by omega), if_neg (by omega), if_neg (by omega)]
              have u0 := u 0 (by omega)
              have u1 := u 1 (by omega)
              have u2 := u 2 (by omega)
              rw [Nat.add_zero] at u0
              rw [u0, u1, u2, v, v, v]
              exact n3.2.2.1 k (by omega)
          · rw [hr (93 + 3 * k) (by omega), hr (92 + 3 * k) (by omega), hr (94 + 3 * k) (by omega), if_neg (by omega), if_neg (by omega), if_neg (by omega), if_neg (by omega), if_neg (by omega), if_neg (by omega), if_neg (by omega), if_neg (by omega), if_neg (by omega), hA, hA, if_neg (fun z => q10.2.2 z.1), if_neg (fun z => q10.1 z.1), if_neg (fun z => q10.2.1 z.1), if_neg (fun z => q11.2.2 z.1), if_neg (fun z => q11.1 z.1), if_neg (fun z => q11.2.1 z.1)]
            exact n3.2.2.2 k hk
        · rw [upS_n hj, upS_n hj, upS_n hj, upS_n hj]
    · rw [decide_eq_false q2, if_pos (show bi false = (0 : Int32) from rfl)]
      exact hno fun z => q2 (of_decide_eq_true z).2.1
  · rw [decide_eq_false q1, if_pos (show bi false = (0 : Int32) from rfl)]
    exact hno fun z => q1 (of_decide_eq_true z).1
end GB
