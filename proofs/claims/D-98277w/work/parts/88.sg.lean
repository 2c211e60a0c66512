/-! LAYER 2: a state object copied, begun, made -/
set_option maxRecDepth 100000
/-- pressed or not: truths -/
def Hx (ρ : Nat → Nat × Nat) (s : CS) : Prop := ∀ a, (ρ a).1 = 102 → ∀ k, isb (cA s a k) = true
/-- nothing lies behind the heap's end -/
def Fh (s : CS) : Prop := ∀ a w c n, s.1 a = some (w, c, n) → a < cz s
theorem ok_mo {α : Type} {ρ : Nat → Nat × Nat} {s : CS} {p : α → CS} {o : Option α} {Q : α → Prop} {d fx rx : Nat} (h : Ok o Q) (k : ∀ z, Q z → Fo ρ d fx rx s (p z)) : Ok (mz s p o) Q := ok_mz h fun z hz => by
  have e := k z hz
  exact ⟨by rw [e.2.2.2.2.2.1]; exact Nat.le_refl _, by rw [e.2.2.2.2.2.2]; exact Nat.le_refl _⟩
theorem isb_01 {z : Int} (h : z = 0 ∨ z = 1) : isb (i32 z) = true := by
  rcases h with rfl | rfl <;> rfl
section SG
variable {ρ : Nat → Nat × Nat} {s : CS} {σ : Nat → Int} {nf : Nat} {dst src : Nat}
theorem sg_34 (hd : SO ρ s dst) (hs : SO ρ s src) (hne : ¬ src = dst) (v : SV s src σ) (hk : ∀ c, c < 54 → σ (4 + c) = 0 ∨ σ (4 + c) = 1) : ∀ (d n c : Nat) (s1 : CS), c + d = 54 → d < n → Fo ρ dst 803 101 s s1 → (∀ k, k < c → cA s1 (av s 806 dst) k = i32 (σ (4 + k))) → Ok (FX8_go_b34 nf n dst src (i32 (c : Int)) s1) fun s' => Fo ρ dst 803 101 s s' ∧ cI s' = cI s1 ∧ ∀ k, k < 54 → cA s' (av s 806 dst) k = i32 (σ (4 + k)) := by
  intro d
  induction d with
  | zero =>
    intro n c s1 h1 h2 f hc
    obtain ⟨n, rfl⟩ : ∃ q, n = q + 1 := ⟨n - 1, by omega⟩
    rw [show FX8_go_b34 nf (n + 1) = FX8_go_b34_s nf (FX8_go_b34 nf n) from rfl]
    unfold FX8_go_b34_s
    rw [if_pos (show (54 : Int32) ≤ i32 (c : Int) from (i32_le (a := 54) ⟨by omega, by omega⟩ ⟨by omega, by omega⟩).mpr (by omega))]
    exact ok_s ⟨f, rfl, fun k hk => hc k (by omega)⟩
  | succ d ih =>
    intro n c s1 h1 h2 f hc
    obtain ⟨n, rfl⟩ : ∃ q, n = q + 1 := ⟨n - 1, by omega⟩
    have kd : s1.1 dst = some (true, 8, 0) := by rw [f.1]; exact hd.1
    have ks : s1.1 src = some (true, 8, 0) := by rw [f.1]; exact hs.1
    have rd : cR s1 806 dst = some (av s 806 dst) := by rw [f.2.2.1]; exact hd.2.1.1
    have rs : cR s1 806 src = some (av s 806 src) := by rw [f.2.2.1]; exact hs.2.1.1
    have ad : s1.1 (av s 806 dst) = some (true, 102, 54) := by rw [f.1]; exact hd.2.1.2.1
    have as : s1.1 (av s 806 src) = some (true, 102, 54) := by rw [f.1]; exact hs.2.1.2.1
    have es : cA s1 (av s 806 src) = cA s (av s 806 src) := f.2.2.2.1 _ (fun z => hne (by rw [hs.2.1.2.2] at z; exact z.1))
    rw [show FX8_go_b34 nf (n + 1) = FX8_go_b34_s nf (FX8_go_b34 nf n) from rfl]
    unfold FX8_go_b34_s
    rw [if_neg (show ¬ (54 : Int32) ≤ i32 (c : Int) from fun z => by have := (i32_le (a := 54) ⟨by omega, by omega⟩ ⟨by omega, by omega⟩).mp z; omega)]
    refine ok_gRs kd rfl rd (ok_gRs ks rfl rs (ok_nn (ok_lI as (by omega) (by omega) (by decide) (ok_nn ?_))))
    rw [Int.toNat_natCast, es, v.2.2.2.2 c (by omega), show (1 : Int32) = i32 1 from rfl, i32_add]
    refine ok_g (isb_01 (hk c (by omega))) (ok_tI ad (by omega) (by omega) (by decide) ?_)
    rw [Int.toNat_natCast]
    refine ok_w (ih n (c + 1) _ (by omega) (by omega) (f.tr (Fo.uA hd.2.1.2.2 (by omega))) fun k hk2 => ?_) fun s' hs' => ⟨hs'.1, hs'.2.1, hs'.2.2⟩
    rw [rd_uA]
    by_cases e : k = c
    · rw [if_pos ⟨rfl, e⟩, e]
    · rw [if_neg (fun z => e z.2)]
      exact hc k (by omega)
theorem ok_stgo (hn : 100 ≤ nf) (hd : SO ρ s dst) (hs : SO ρ s src) (hne : ¬ src = dst) (v : SV s src σ) (hk : ∀ c, c < 54 → σ (4 + c) = 0 ∨ σ (4 + c) = 1) : Ok (FX8_go nf dst src s) fun s' => Fo ρ dst 803 101 s s' ∧ SV s' dst σ := by
  have step : ∀ (f : Nat) (s1 : CS) (K : CS → Option CS) (Q : CS → Prop), 800 ≤ f ∧ f ≤ 803 → Fo ρ dst 803 101 s s1 → Ok (K (uI s1 f dst (cI s f src))) Q → Ok (gI s1 src [8] f fun v1 => pI s1 dst [8] f v1 K) Q := fun f s1 K Q hf h1 hK => by
    refine ok_gI (show s1.1 src = some (true, 8, 0) by rw [h1.1]; exact hs.1) rfl (ok_pI (show s1.1 dst = some (true, 8, 0) by rw [h1.1]; exact hd.1) rfl ?_)
    rw [h1.2.1 f src (fun z => hne z.1)]
    exact hK
  unfold FX8_go
  refine ok_mo (ρ := ρ) (d := dst) (fx := 803) (rx := 101) ?_ (fun z hz => hz.1)
  have f1 : Fo ρ dst 803 101 s (uI s 800 dst (cI s 800 src)) := Fo.uI (by omega)
  have f2 := f1.tr (Fo.uI (f := 801) (v := cI s 801 src) (by omega))
  have f3 := f2.tr (Fo.uI (f := 802) (v := cI s 802 src) (by omega))
  have f4 := f3.tr (Fo.uI (f := 803) (v := cI s 803 src) (by omega))
  refine ok_gd hd.1 rfl (step 800 s _ _ (by omega) Fo.rf (step 801 _ _ _ (by omega) f1 (step 802 _ _ _ (by omega) f2 (step 803 _ _ _ (by omega) f3 ?_))))
  refine ok_w (sg_34 (nf := nf) hd hs hne v hk 54 nf 0 _ (by omega) (by omega) f4 (fun k h => by omega)) fun s' hs' => ⟨hs'.1, ?_⟩
  obtain ⟨q1, q2, q3⟩ := hs'
  unfold SV
  rw [av_e q1.2.2.1, q2]
  refine ⟨?_, ?_, ?_, ?_, q3⟩
  · rw [rI_n (by decide), rI_n (by decide), rI_n (by decide), rI_t]
    exact v.1
  · rw [rI_n (by decide), rI_n (by decide), rI_t]
    exact v.2.1
  · rw [rI_n (by decide), rI_t]
    exact v.2.2.1
  · rw [rI_t]
    exact v.2.2.2.1
/-- begun anew -/
theorem sb_32 (hd : SO ρ s dst) : ∀ (d n c : Nat) (s1 : CS), c + d = 54 → d < n → Fo ρ dst 805 106 s s1 → (∀ k, k < c → cA s1 (av s 806 dst) k = 0) → Ok (FX8_begin_b32 nf n dst (i32 (c : Int)) s1) fun s' => Fo ρ dst 805 106 s s' ∧ cI s' = cI s1 ∧ (∀ a, ¬ (ρ a).1 = 101 → cA s' a = cA s1 a) ∧ ∀ k, k < 54 → cA s' (av s 806 dst) k = 0 := by
  intro d
  induction d with
  | zero =>
    intro n c s1 h1 h2 f hc
    obtain ⟨n, rfl⟩ : ∃ q, n = q + 1 := ⟨n - 1, by omega⟩
    rw [show FX8_begin_b32 nf (n + 1) = FX8_begin_b32_s nf (FX8_begin_b32 nf n) from rfl]
    unfold FX8_begin_b32_s
    rw [if_pos (show (54 : Int32) ≤ i32 (c : Int) from (i32_le (a := 54) ⟨by omega, by omega⟩ ⟨by omega, by omega⟩).mpr (by omega))]
    exact ok_s ⟨f, rfl, fun _ _ => rfl, fun k hk => hc k (by omega)⟩
  | succ d ih =>
    intro n c s1 h1 h2 f hc
    obtain ⟨n, rfl⟩ : ∃ q, n = q + 1 := ⟨n - 1, by omega⟩
    have kd : s1.1 dst = some (true, 8, 0) := by rw [f.1]; exact hd.1
    have rd : cR s1 806 dst = some (av s 806 dst) := by rw [f.2.2.1]; exact hd.2.1.1
    have ad : s1.1 (av s 806 dst) = some (true, 102, 54) := by rw [f.1]; exact hd.2.1.2.1
    rw [show FX8_begin_b32 nf (n + 1) = FX8_begin_b32_s nf (FX8_begin_b32 nf n) from rfl]
    unfold FX8_begin_b32_s
    rw [if_neg (show ¬ (54 : Int32) ≤ i32 (c : Int) from fun z => by have := (i32_le (a := 54) ⟨by omega, by omega⟩ ⟨by omega, by omega⟩).mp z; omega)]
    refine ok_gRs kd rfl rd (ok_nn (ok_g rfl (ok_tI ad (by omega) (by omega) (by decide) ?_)))
    rw [Int.toNat_natCast, show (1 : Int32) = i32 1 from rfl, i32_add]
    refine ok_w (ih n (c + 1) _ (by omega) (by omega) (f.tr (Fo.uA hd.2.1.2.2 (by omega))) fun k hk2 => ?_) fun s' hs' => ⟨hs'.1, hs'.2.1, fun a ha => ?_, hs'.2.2.2⟩
    · rw [rd_uA]
      by_cases e : k = c
      · rw [if_pos ⟨rfl, e⟩]
      · rw [if_neg (fun z => e z.2)]
        exact hc k (by omega)
    · rw [hs'.2.2.1 a ha]
      funext j
      rw [rd_uA, if_neg (fun z => ha (by rw [z.1, hd.2.1.2.2]))]
theorem ok_stbegin (hn : 100 ≤ nf) (hd : SO ρ s dst) : Ok (FX8_begin nf dst s) fun s' => Fo ρ dst 805 106 s s' ∧ SV s' dst (fun _ => 0) ∧ SV2 s' dst (fun _ => 0) ∧ ∀ a, ¬ (ρ a).1 = 101 → cA s' a = cA s a := by
  have step : ∀ (f : Nat) (s1 : CS) (K : CS → Option CS) (Q : CS → Prop), Fo ρ dst 805 106 s s1 → Ok (K (uI s1 f dst 0)) Q → Ok (pI s1 dst [8] f 0 K) Q := fun f s1 K Q h1 hK => ok_pI (show s1.1 dst = some (true, 8, 0) by rw [h1.1]; exact hd.1) rfl hK
  unfold FX8_begin
  refine ok_mo (ρ := ρ) (d := dst) (fx := 805) (rx := 106) ?_ (fun z hz => hz.1)
  have f1 : Fo ρ dst 805 106 s (uI s 800 dst 0) := Fo.uI (by omega)
  have f2 := f1.tr (Fo.uI (f := 801) (v := 0) (by omega))
  have f3 := f2.tr (Fo.uI (f := 802) (v := 0) (by omega))
  have f4 := f3.tr (Fo.uI (f := 803) (v := 0) (by omega))
  have f5 := f4.tr (Fo.uI (f := 804) (v := 0) (by omega))
  have f6 := f5.tr (Fo.uI (f := 805) (v := 0) (by omega))
  refine ok_gd hd.1 rfl (step 800 s _ _ Fo.rf (step 801 _ _ _ f1 (step 802 _ _ _ f2 (step 803 _ _ _ f3 (step 804 _ _ _ f4 (step 805 _ _ _ f5 ?_))))))
  refine ok_w (sb_32 (nf := nf) hd 54 nf 0 _ (by omega) (by omega) f6 (fun k h => by omega)) fun s' hs' => ⟨hs'.1, ?_, ?_, fun a ha => hs'.2.2.1 a ha⟩
  · obtain ⟨q1, q2, q4, q3⟩ := hs'
    unfold SV
    rw [av_e q1.2.2.1, q2]
    refine ⟨?_, ?_, ?_, ?_, q3⟩
    · rw [rI_n (by decide), rI_n (by decide), rI_n (by decide), rI_n (by decide), rI_n (by decide), rI_t]; rfl
    · rw [rI_n (by decide), rI_n (by decide), rI_n (by decide), rI_n (by decide), rI_t]; rfl
    · rw [rI_n (by decide), rI_n (by decide), rI_n (by decide), rI_t]; rfl
    · rw [rI_n (by decide), rI_n (by decide), rI_t]; rfl
  · obtain ⟨q1, q2, q4, q3⟩ := hs'
    unfold SV2
    rw [q2]
    refine ⟨?_, ?_, fun k hk => absurd (show (k : Int) < 0 from hk) (by omega), fun k hk => absurd (show (k : Int) < 0 from hk) (by omega)⟩
    · rw [rI_n (by decide), rI_t]; rfl
    · rw [rI_t]; rfl
end SG
