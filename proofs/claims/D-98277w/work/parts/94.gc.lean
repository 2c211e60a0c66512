/-! LAYER 2: stay, go, look, undo: the component -/
set_option maxRecDepth 100000
def upF (σ : Nat → Int) (i : Nat) (v : Int) : Nat → Int := fun k => if k = i then v else σ k
theorem upS_0 {S : Nat → Nat → Int} {i : Nat} {v : Int} : upS S 0 i v 0 = upF (S 0) i v := funext fun k => by
  unfold upS upF
  by_cases e : k = i
  · rw [if_pos ⟨rfl, e⟩, if_pos e]
  · rw [if_neg (fun z => e z.2), if_neg e]
theorem upS_n {S : Nat → Nat → Int} {i j : Nat} {v : Int} (h : ¬ j = 0) : upS S 0 i v j = S j := funext fun k => by
  unfold upS
  rw [if_neg (fun z => h z.1)]
theorem kpS_0 {S : Nat → Nat → Int} {m : Nat → Int} : kpS S m 0 = S 0 := funext fun k => by
  unfold kpS
  split
  · unfold cpS
    rw [if_neg (by omega), shS_0]
  · unfold cpS
    rw [if_neg (by omega)]
theorem SV2_e {s : CS} {o : Nat} {σ σ' : Nat → Int} (h : ∀ k, 58 ≤ k → σ' k = σ k) (v : SV2 s o σ) : SV2 s o σ' := by
  unfold SV2
  rw [h 58 (by omega), h 59 (by omega)]
  refine ⟨v.1, v.2.1, fun k hk => ?_, fun k hk => ?_⟩
  · rw [h (60 + 3 * k) (by omega), h (61 + 3 * k) (by omega), h (62 + 3 * k) (by omega)]
    exact v.2.2.1 k hk
  · rw [h (93 + 3 * k) (by omega), h (92 + 3 * k) (by omega), h (94 + 3 * k) (by omega)]
    exact v.2.2.2 k hk
section GC
variable {g : Nat → Nat} {ρ : Nat → Nat × Nat} {W : Nat → Int} {S S' : Nat → Nat → Int} {V m m' Tp : Nat → Int} {RC : Nat → List (Nat × Int)} {s s' z0 : CS} {T : Int} {nf : Nat}
/-- the state now is written -/
theorem B.now {fx rx : Nat} {σ : Nat → Int} (b : B g ρ W S V m Tp RC s) (f : Fo ρ (g 3) fx rx s s') (h1 : fx ≤ 805) (h2 : rx ≤ 106) (v : SV s' (g 3) σ ∧ SV2 s' (g 3) σ) (e0 : S' 0 = σ) (e1 : ∀ j, ¬ j = 0 → S' j = S j) : B g ρ W S' V m Tp RC s' := by
  have s5 : ρ (g 5) = (5, 0) := (b.2.1 0 _ rfl).2.2
  refine b.w (f.w h1 h2) ⟨?_, ?_⟩ (fun k hk => ?_) ?_
  · rw [f.2.1 _ _ (fun z => by omega)]
    exact b.2.2.2.2.2.2.1.1
  · rw [f.2.1 _ _ (fun z => by omega)]
    exact b.2.2.2.2.2.2.1.2
  · rw [f.2.2.2.1 _ (fun z => by rw [s5] at z; exact absurd z.2.1 (by show ¬ 101 ≤ 5; omega))]
    exact b.2.2.2.2.2.2.2.1 k hk
  · refine (b_Bs b).ob f (j0 := 0) (σ := σ) (by omega) rfl ⟨v.1, fun _ => v.2⟩ (fun j _ h => .inr h) (fun j _ _ h => h) (fun j _ _ => ?_)
    by_cases e : j = 0
    · rw [if_pos e, e, e0]
    · rw [if_neg e, e1 j e]
theorem B.fi (b : B g ρ W S V m Tp RC s) {i : Nat} {v : Int} (hi : i < 4) : B g ρ W (upS S 0 i v) V m Tp RC (uI s (800 + i) (g 3) (i32 v)) := by
  obtain ⟨n1, n2, n3⟩ := b_now b
  have f : Fo ρ (g 3) 803 101 s (uI s (800 + i) (g 3) (i32 v)) := Fo.uI (by omega)
  refine b.now f (by omega) (by omega) (σ := upF (S 0) i v) ⟨?_, SV2_e (fun k hk => by unfold upF; rw [if_neg (by omega)]) (n3.gb n1 f)⟩ upS_0 (fun j hj => upS_n hj)
  unfold SV
  have hk : ∀ c, c < 54 → cA (uI s (800 + i) (g 3) (i32 v)) (av (uI s (800 + i) (g 3) (i32 v)) 806 (g 3)) c = i32 (upF (S 0) i v (4 + c)) := fun c hc => by
    rw [uI_x.2.2.1, av_e (fun f a => by rw [uI_x.2.1])]
    unfold upF
    rw [if_neg (by omega)]
    exact n2.2.2.2.2 c hc
  have hf : ∀ j, j < 4 → cI s (800 + j) (g 3) = i32 (S 0 j) → cI (uI s (800 + i) (g 3) (i32 v)) (800 + j) (g 3) = i32 (upF (S 0) i v j) := fun j hj e => by
    unfold upF
    by_cases q : j = i
    · rw [if_pos q, q, rI_t]
    · rw [if_neg q, rI_n (by omega), e]
  exact ⟨hf 0 (by omega) n2.1, hf 1 (by omega) n2.2.1, hf 2 (by omega) n2.2.2.1, hf 3 (by omega) n2.2.2.2.1, hk⟩
theorem Hp.fi (h : Hp z0 ρ s) {i o : Nat} {v : Int32} (hi : i < 4) : Hp z0 ρ (uI s (800 + i) o v) := h.g (o := o) (Fo.uI (by omega))
/-- what a writing op leaves -/
def Cp (z0 : CS) (g : Nat → Nat) (W : Nat → Int) (S : Nat → Nat → Int) (V m Tp : Nat → Int) (RC : Nat → List (Nat × Int)) (s s' : CS) : Prop := ∃ ρ', B g ρ' W S V m Tp RC s' ∧ Hp z0 ρ' s' ∧ cz s ≤ cz s' ∧ cz s' ≤ cz s + 7 ∧ cl s ≤ cl s' ∧ cl s' ≤ cl s + 112
theorem Cp.rf (b : B g ρ W S V m Tp RC s) (hp : Hp z0 ρ s) : Cp z0 g W S V m Tp RC s s := ⟨ρ, b, hp, Nat.le_refl _, Nat.le_add_right _ _, Nat.le_refl _, Nat.le_add_right _ _⟩
theorem ok_cp {α : Type} {p : α → CS} {o : Option α} {Q : α → Prop} (h : Ok o Q) (k : ∀ z, Q z → Cp z0 g W S' V m' Tp RC s (p z)) : Ok (mz s p o) Q := ok_mz h fun z hz => ⟨(k z hz).choose_spec.2.2.1, (k z hz).choose_spec.2.2.2.2.1⟩
def stV (σ : Nat → Int) (x : Int) : Int := if 1 ≤ x ∧ x ≤ 1000 then σ 2 + x else -1
def stS (S : Nat → Nat → Int) (m : Nat → Int) (x : Int) : Nat → Nat → Int := if 1 ≤ x ∧ x ≤ 1000 then upS (kpS S m) 0 2 (S 0 2 + x) else S
def stM (m : Nat → Int) (x : Int) : Nat → Int := if 1 ≤ x ∧ x ≤ 1000 then kpM m else m
theorem ok_stay (hn : 100 ≤ nf) (b : B g ρ W S V m Tp RC s) (hp : Hp z0 ρ s) (hS : SW W T (S 0)) (hm : 0 ≤ m 1 ∧ m 1 ≤ 16) {x : Int} (hx : ok32 x) : Ok (FX0_stay nf (g 0) (i32 x) s) fun p => p.1 = i32 (stV (S 0) x) ∧ Cp z0 g W (stS S m x) V (stM m x) Tp RC s p.2 := by
  unfold FX0_stay stV stS stM
  refine ok_cp ?_ (fun z hz => hz.2)
  refine ok_gd b.1 rfl (ok_be (c_i3 hx 1 1000 (by omega)) ?_)
  by_cases q : 1 ≤ x ∧ x ≤ 1000
  · rw [decide_eq_true q, if_neg (show ¬ bi true = (0 : Int32) by decide), if_pos q, if_pos q, if_pos q]
    refine ok_b (ok_keeps hn b hp hS hm) fun s2 h2 => ?_
    obtain ⟨ρ', b2, hp2, z1, z2, z3, z4⟩ := h2
    have n2 := (b_now b2).2.1
    rw [kpS_0] at n2
    refine ok_gRs b2.1 rfl (b2.2.1 4 _ rfl).1 (ok_nn (ok_gI (b2.2.1 4 _ rfl).2.1 rfl (ok_pI (b2.2.1 4 _ rfl).2.1 rfl ?_)))
    rw [n2.2.2.1, i32_add]
    have b3 : B g ρ' W (upS (kpS S m) 0 2 (S 0 2 + x)) V (kpM m) Tp RC (uI s2 802 (g 3) (i32 (S 0 2 + x))) := b2.fi (i := 2) (by omega)
    have hp3 : Hp z0 ρ' (uI s2 802 (g 3) (i32 (S 0 2 + x))) := hp2.fi (i := 2) (by omega)
    refine ok_gRs b3.1 rfl (b3.2.1 4 _ rfl).1 (ok_nn (ok_gI (b3.2.1 4 _ rfl).2.1 rfl (ok_s ⟨?_, ρ', b3, hp3, z1, z2, z3, z4⟩)))
    show cI (uI s2 802 (g 3) (i32 (S 0 2 + x))) 802 (g 3) = _
    rw [rI_t]
  · rw [decide_eq_false q, if_pos (show bi false = (0 : Int32) from rfl), if_neg q, if_neg q, if_neg q]
    exact ok_s ⟨rfl, Cp.rf b hp⟩
/-- look -/
def nwC (σ : Nat → Int) : Nat := 6 * (σ 1).toNat + (σ 0).toNat
def lkV (W σ : Nat → Int) : Int := if unA W σ (nwC σ) = true then 1 else 0
def lkS (W : Nat → Int) (S : Nat → Nat → Int) (m : Nat → Int) : Nat → Nat → Int := if unA W (S 0) (nwC (S 0)) = true then upS (kpS S m) 0 (4 + nwC (S 0)) 1 else S
def lkM (W : Nat → Int) (S : Nat → Nat → Int) (m : Nat → Int) : Nat → Int := if unA W (S 0) (nwC (S 0)) = true then kpM m else m
theorem B.kn (b : B g ρ W S V m Tp RC s) {c : Nat} {v : Int} (hc : c < 54) : B g ρ W (upS S 0 (4 + c) v) V m Tp RC (uA s (av s 806 (g 3)) c (i32 v)) := by
  obtain ⟨n1, n2, n3⟩ := b_now b
  have f : Fo ρ (g 3) 803 101 s (uA s (av s 806 (g 3)) c (i32 v)) := Fo.uA n1.2.1.2.2 (by omega)
  refine b.now f (by omega) (by omega) (σ := upF (S 0) (4 + c) v) ⟨?_, SV2_e (fun k hk => by unfold upF; rw [if_neg (by omega)]) (n3.gb n1 f)⟩ upS_0 (fun j hj => upS_n hj)
  have hi : cI (uA s (av s 806 (g 3)) c (i32 v)) = cI s := rfl
  unfold SV
  rw [hi, av_e f.2.2.1]
  have hu : ∀ j, j < 4 → upF (S 0) (4 + c) v j = S 0 j := fun j hj => by unfold upF; rw [if_neg (by omega)]
  rw [hu 0 (by omega), hu 1 (by omega), hu 2 (by omega), hu 3 (by omega)]
  refine ⟨n2.1, n2.2.1, n2.2.2.1, n2.2.2.2.1, fun k hk => ?_⟩
  rw [rd_uA]
  unfold upF
  by_cases e : k = c
  · rw [if_pos ⟨rfl, e⟩, if_pos (by omega)]
  · rw [if_neg (fun z => e z.2), if_neg (by omega)]
    exact n2.2.2.2.2 k hk
theorem ok_look (hn : 100 ≤ nf) (b : B g ρ W S V m Tp RC s) (hp : Hp z0 ρ s) (hW : TW W) (hS : SW W T (S 0)) (hm : 0 ≤ m 1 ∧ m 1 ≤ 16) : Ok (FX0_look nf (g 0) s) fun p => p.1 = i32 (lkV W (S 0)) ∧ Cp z0 g W (lkS W S m) V (lkM W S m) Tp RC s p.2 := by
  have w0 := hW.1
  have w1 := hW.2.1
  obtain ⟨⟨x0, x1⟩, ⟨y0, y1⟩, -⟩ := id hS
  have n2 := (b_now b).2.1
  have hc : nwC (S 0) < 54 := by unfold nwC; omega
  unfold FX0_look lkV lkS lkM
  refine ok_cp ?_ (fun z hz => hz.2)
  refine ok_gd b.1 rfl (ok_gRs b.1 rfl (b.2.1 4 _ rfl).1 (ok_nn (ok_gI (b.2.1 4 _ rfl).2.1 rfl (ok_gRs b.1 rfl (b.2.1 4 _ rfl).1 (ok_nn (ok_gI (b.2.1 4 _ rfl).2.1 rfl (ok_n ?_)))))))
  show Ok ((FX0_isUnknown s (g 0) (cI s 801 (g 3) * 6 + cI s 800 (g 3))).bind _) _
  rw [n2.1, n2.2.1, show (6 : Int32) = i32 6 from rfl, i32_mul, i32_add, show S 0 1 * 6 + S 0 0 = ((nwC (S 0) : Nat) : Int) by unfold nwC; omega]
  refine ok_be (c_isUnknown b hW hS hc) ?_
  cases hu : unA W (S 0) (nwC (S 0)) with
  | false =>
    rw [if_pos (show bi false = (0 : Int32) from rfl), if_neg (show ¬ false = true by decide), if_neg (show ¬ false = true by decide), if_neg (show ¬ false = true by decide)]
    exact ok_s ⟨rfl, Cp.rf b hp⟩
  | true =>
    rw [if_neg (show ¬ bi true = (0 : Int32) by decide), if_pos (show true = true from rfl), if_pos (show true = true from rfl), if_pos (show true = true from rfl)]
    refine ok_b (ok_keeps hn b hp hS hm) fun s2 h2 => ?_
    obtain ⟨ρ', b2, hp2, z1, z2, z3, z4⟩ := h2
    have n12 := (b_now b2).1
    refine ok_gRs b2.1 rfl (b2.2.1 4 _ rfl).1 (ok_nn (ok_gRs n12.1 rfl n12.2.1.1 (ok_nn (ok_g rfl (ok_tI n12.2.1.2.1 (by omega) (by omega) (by omega) (ok_s ⟨rfl, ρ', ?_, ?_, z1, z2, z3, z4⟩))))))
    · rw [Int.toNat_natCast]
      exact b2.kn hc
    · exact hp2.g (o := g 3) (Fo.uA n12.2.1.2.2 (by omega))
/-- undo -/
def unV_ (m : Nat → Int) : Int := if m 1 = 0 then 0 else 1
def unS (S : Nat → Nat → Int) (m : Nat → Int) : Nat → Nat → Int := if m 1 = 0 then S else cpS S (5 + (m 1 - 1).toNat) 0 58
def unM (m : Nat → Int) : Nat → Int := if m 1 = 0 then m else upM m 1 (m 1 - 1)
theorem ok_undo (hn : 100 ≤ nf) (b : B g ρ W S V m Tp RC s) (hp : Hp z0 ρ s) (hSa : ∀ j, j < 21 → act m j → SW W T (S j)) (hm : 0 ≤ m 1 ∧ m 1 ≤ 16) : Ok (FX0_undo nf (g 0) s) fun p => p.1 = i32 (unV_ m) ∧ Cp z0 g W (unS S m) V (unM m) Tp RC s p.2 := by
  have bs := b_Bs b
  obtain ⟨n1, n2, n3⟩ := b_now b
  unfold FX0_undo unV_ unS unM
  refine ok_cp ?_ (fun z hz => hz.2)
  refine ok_gd b.1 rfl (ok_gI b.1 rfl ?_)
  rw [b.2.2.2.2.2.2.1.2, show (0 : Int32) = i32 0 from rfl]
  refine ok_q ⟨by omega, by omega⟩ ⟨by omega, by omega⟩ (fun q => ?_) (fun q => ?_)
  · rw [if_pos q, if_pos q, if_pos q]
    exact ok_s ⟨rfl, Cp.rf b hp⟩
  · rw [if_neg q, if_neg q, if_neg q]
    obtain ⟨u, hu⟩ : ∃ u : Nat, m 1 - 1 = (u : Int) := ⟨(m 1 - 1).toNat, by omega⟩
    rw [hu, Int.toNat_natCast]
    have ha : act m (5 + u) := .inr (.inr ⟨by omega, by omega⟩)
    obtain ⟨o, ho⟩ := (bs.1 (5 + u) (by omega)).1 ha
    obtain ⟨so, sv⟩ := (bs.1 (5 + u) (by omega)).2 o ho
    have sv := (sv ha).1
    have hne : ¬ o = g 3 := fun z => by
      have := bs.2.1 (5 + u) 0 o (by omega) (by omega) ho (by rw [z]; rfl)
      omega
    have hq := ho
    rw [kd_sl s (by omega), show 5 + u - 5 = u by omega] at hq
    have hkn : ∀ c, c < 54 → S (5 + u) (4 + c) = 0 ∨ S (5 + u) (4 + c) = 1 := fun c hc => by
      have := (hSa (5 + u) (by omega) ha).2.2.2.2 c hc
      omega
    refine ok_gRs b.1 rfl (b.2.1 4 _ rfl).1 (ok_gRs b.1 rfl (b.2.1 5 _ rfl).1 (ok_gI b.1 rfl ?_))
    rw [b.2.2.2.2.2.2.1.2, show (1 : Int32) = i32 1 from rfl, i32_sub, hu, nm_eq]
    refine ok_pI b.1 rfl (ok_nn ?_)
    have f3 : Fx ρ ρ s (uI s 7 (g 0) (i32 (u : Int))) := Fx.uI rfl
    have fv3 : ∀ o, Fvv ρ ρ s (uI s 7 (g 0) (i32 (u : Int))) o := fun o => ⟨by rw [uI_x.1], fun f a1 _ => rI_n (by omega), fun f => by rw [uI_x.2.1], fun a w c n e _ _ _ => ⟨by rw [uI_x.1], rfl, by rw [uI_x.2.2.1]⟩⟩
    have b3 : B g ρ W S V (upM m 1 (u : Int)) Tp RC (uI s 7 (g 0) (i32 (u : Int))) := by
      refine b.w f3 ⟨?_, rI_t⟩ (fun k hk => ?_) (bs.r id (fun _ h => h) (fun _ _ _ _ h => h) (fun _ _ => rfl) (fun _ _ => rfl) (fun _ o _ _ => fv3 o) (fun j hj hj2 => ?_) (fun _ _ _ _ _ => rfl) (fun j a1 a2 a3 => ?_))
      · rw [rI_n (by decide)]
        exact b.2.2.2.2.2.2.1.1
      · rw [uI_x.2.2.1]
        exact b.2.2.2.2.2.2.2.1 k hk
      · have hj2 : j = 0 ∨ (1 ≤ j ∧ j < 5 ∧ upM m 1 (u : Int) (1 + j) = 1) ∨ (5 ≤ j ∧ (j : Int) - 5 < (u : Int)) := hj2
        unfold upM at hj2
        rcases hj2 with z | z | z
        · exact .inl z
        · rw [if_neg (by omega)] at z
          exact .inr (.inl z)
        · exact .inr (.inr ⟨z.1, by show (j : Int) - 5 < m 1; omega⟩)
      · unfold upM at a3
        rw [if_neg (by omega)] at a3
        exact a3
    have hp3 : Hp z0 ρ (uI s 7 (g 0) (i32 (u : Int))) := hp.e f3 uI_x.1 uI_x.2.2.2.2.1 fun _ _ => by rw [uI_x.2.2.1]
    have k63 : (uI s 7 (g 0) (i32 (u : Int))).1 (g 6) = some (true, 105, 16) := (b.2.1 5 _ rfl).2.1
    refine ok_lR k63 (by omega) (by omega) (by omega) ?_
    rw [Int.toNat_natCast, uI_x.2.2.2.1, hq]
    refine ok_nn (ok_nn ?_)
    have so3 := so.v (fv3 o)
    have sv3 := sv.v so (fv3 o)
    have n13 := n1.v (fv3 (g 3))
    have n33 := n3.v n1 (fv3 (g 3))
    have ez := @uI_x s 7 (g 0) (i32 (u : Int))
    generalize uI s 7 (g 0) (i32 (u : Int)) = s6 at b3 hp3 so3 sv3 n13 n33 ez ⊢
    refine ok_b (ok_stgo hn n13 so3 hne sv3 hkn) fun s11 h11 => ok_s ⟨rfl, ρ, ?_, hp3.g h11.1, ?_, ?_, ?_, ?_⟩
    · refine b3.now h11.1 (by omega) (by omega) (σ := cpS S (5 + u) 0 58 0) ⟨SV_e (fun k hk => ?_) h11.2, SV2_e (fun k hk => ?_) (n33.gb n13 h11.1)⟩ rfl (fun j hj => funext fun k => ?_)
      · unfold cpS
        rw [if_pos ⟨rfl, hk⟩]
      · unfold cpS
        rw [if_neg (by omega)]
      · unfold cpS
        rw [if_neg (fun z => hj z.1)]
    · rw [h11.1.2.2.2.2.2.1, ez.2.2.2.2.1]
      exact Nat.le_refl _
    · rw [h11.1.2.2.2.2.2.1, ez.2.2.2.2.1]
      exact Nat.le_add_right _ _
    · rw [h11.1.2.2.2.2.2.2, ez.2.2.2.2.2]
      exact Nat.le_refl _
    · rw [h11.1.2.2.2.2.2.2, ez.2.2.2.2.2]
      exact Nat.le_add_right _ _
end GC
