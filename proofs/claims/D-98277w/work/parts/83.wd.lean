/-! LAYER 2: wave: the ask, the twin -/
set_option maxRecDepth 100000
def Tzb (τ : TS) (R M : Nat) (G H : Nat → Nat → Nat) (k b : Nat) : Prop := ∀ j c, j < M → c < R → (j < k ∨ (j = k ∧ c < b)) → tB τ 38 (60 * j + c) = i64 ((G j c : Nat) : Int) ∧ tB τ 39 (60 * j + c) = i64 ((H j c : Nat) : Int)
section WD
variable {W : Nat → Int} {S : Nat → Nat → Int} {V m Tp : Nat → Int} {RC : Nat → List (Nat × Int)} {τ : TS} {T : Int} {nf : Nat}
theorem rd_sB {τ : TS} {a c i j : Nat} {v : Int64} : tB (sB τ a i v) c j = if c = a ∧ j = i then v else tB τ c j := by
  rw [tB_sB]
  by_cases e : c = a
  · rw [if_pos e, e]
    show (if j = i then v else tB τ a j) = _
    by_cases e2 : j = i
    · rw [if_pos e2, if_pos ⟨rfl, e2⟩]
    · rw [if_neg e2, if_neg (fun z => e2 z.2)]
  · rw [if_neg e, if_neg (fun z => e z.1)]
theorem Tk.rw {W : Nat → Int} {τ τ' : TS} (h : Tk τ τ') (r : Rw W τ) : Rw W τ' := fun k hk => by
  rw [h.1.2.1 10 rfl]
  exact r k hk
theorem tw_154 (hn : 100 ≤ nf) (hW : TW W) {x y k M : Nat} {v : Int32} {what : Int} (hx : (x : Int) < W 0) (hy : ((y + k : Nat) : Int) < W 1) (hM : 2 ≤ M ∧ M ≤ 4) (hk : k < M) (hwk : wvK W x y k) {k130 : Int32 → Int32 → Int32 → Int32 → Int32 → Int32 → Int32 → TS → Option (Int32 × TS)} {τ0 : TS} {Q : Int32 × TS → Prop} (hk130 : ∀ τ', Tk τ0 τ' → Rw W τ' → Tzb τ' (wvR W x y) M (wvG W x y) (wvH W x y M) (k + 1) 0 → Ok (k130 (i32 (x : Int)) (i32 (y : Int)) (i32 (M : Int)) v (i32 what) (i32 (ltA W x y 1)) (i32 ((k + 1 : Nat) : Int)) τ') Q) : ∀ (d n b : Nat) (τ : TS), b + d = wvR W x y → d < n → Tk τ0 τ → Rw W τ → Tzb τ (wvR W x y) M (wvG W x y) (wvH W x y M) k b → Ok (T_wave_b154 nf k130 n (i32 (x : Int)) (i32 (y : Int)) (i32 (M : Int)) v (i32 what) (i32 (ltA W x y 1)) (i32 (k : Int)) (i32 (ltA W x y 1 - ltA W x (y + k) 3)) (i32 (b : Int)) τ) Q := by
  have w0 := hW.1
  have w1 := hW.2.1
  have w2 := hW.2.2.1
  have hlt := wv_l hW (x := x) (y := y + k) (by omega) (by omega) hwk.1
  have eR : ltA W x y 1 = ((wvR W x y : Nat) : Int) := by
    unfold wvR
    have := hlt.1
    rw [hwk.2] at this
    omega
  have eG : ltA W x y 1 - ltA W x (y + k) 3 = (((ltA W x (y + k) 1 - ltA W x (y + k) 3).toNat : Nat) : Int) := by
    rw [← hwk.2]
    omega
  have hGR : (ltA W x (y + k) 1 - ltA W x (y + k) 3).toNat ≤ wvR W x y := by
    unfold wvR
    rw [← hwk.2]
    omega
  have hR60 : 1 ≤ wvR W x y ∧ wvR W x y ≤ 60 := by
    unfold wvR
    rw [← hwk.2]
    omega
  have hm1 := wv_kw (k := k) (by omega) w2
  have hm2 := wv_kw (k := M - 1 - k) (by omega) w2
  rw [show ((M - 1 - k : Nat) : Int) = (M : Int) - 1 - (k : Int) by omega] at hm2
  rw [eG]
  rw [eR] at hk130 ⊢
  intro d
  induction d with
  | zero =>
    intro n b τ g1 g2 hf hr hz
    obtain ⟨n, rfl⟩ : ∃ q, n = q + 1 := ⟨n - 1, by omega⟩
    rw [show T_wave_b154 nf k130 (n + 1) = T_wave_b154_s nf k130 (T_wave_b154 nf k130 n) from rfl]
    unfold T_wave_b154_s
    rw [show (1 : Int32) = i32 1 from rfl, i32_add]
    refine ok_le ⟨by omega, by omega⟩ ⟨by omega, by omega⟩ (fun _ => ?_) (fun z => by omega)
    exact hk130 τ hf hr fun j c a1 a2 a3 => hz j c a1 a2 (by omega)
  | succ d ih =>
    intro n b τ g1 g2 hf hr hz
    obtain ⟨n, rfl⟩ : ∃ q, n = q + 1 := ⟨n - 1, by omega⟩
    rw [show T_wave_b154 nf k130 (n + 1) = T_wave_b154_s nf k130 (T_wave_b154 nf k130 n) from rfl]
    unfold T_wave_b154_s
    refine ok_le ⟨by omega, by omega⟩ ⟨by omega, by omega⟩ (fun z => by omega) (fun _ => ?_)
    have e2 : ∀ {τ : TS} {α : Type} {K : Int32 → Option α}, Rw W τ → ld (tA τ 10) 680 2 K = K (i32 (W 2)) := fun {τ} {α} {K} h => s_ld τ h (k := 2) (by omega)
    rw [e2 hr, i32_mul, i32_sub]
    refine ok_be (t_turned (R := wvR W x y) hn hR60 hGR (by omega)) ?_
    have hz1 : ((60 : Int) * (k : Int) + (b : Int)) = ((60 * k + b : Nat) : Int) := by omega
    rw [show (60 : Int32) = i32 60 from rfl, show (1 : Int32) = i32 1 from rfl, i32_mul, i32_add, i32_sub, i32_sub, i32_add, hz1]
    refine ok_sB (by omega) (by omega) (by omega) ?_
    rw [Int.toNat_natCast]
    generalize hs8 : sB τ 38 (60 * k + b) (i64 ((bN (grS (wvR W x y) (ltA W x (y + k) 1 - ltA W x (y + k) 3).toNat ((b : Int) - (k : Int) * W 2)) (wvR W x y) : Nat) : Int)) = τ3
    have f8 : Tk τ τ3 := by rw [← hs8]; exact Tk.sB (by decide)
    have r8 := f8.rw hr
    rw [e2 r8, i32_mul, i32_sub]
    refine ok_be (t_turned (R := wvR W x y) hn hR60 hGR (by omega)) ?_
    refine ok_sB (by omega) (by omega) (by omega) ?_
    rw [Int.toNat_natCast]
    have f9 : Tk τ3 (sB τ3 39 (60 * k + b) (i64 ((bN (grS (wvR W x y) (ltA W x (y + k) 1 - ltA W x (y + k) 3).toNat ((b : Int) - (((M : Int) - 1) - (k : Int)) * W 2)) (wvR W x y) : Nat) : Int))) := Tk.sB (by decide)
    refine ih n (b + 1) _ (by omega) (by omega) ((hf.tr f8).tr f9) (f9.rw r8) fun j c a1 a2 a3 => ?_
    rw [rd_sB, rd_sB, ← hs8, rd_sB, rd_sB]
    by_cases e : j = k ∧ c = b
    · rw [if_neg (fun z => absurd z.1 (by decide)), if_pos ⟨rfl, by rw [e.1, e.2]⟩, if_pos ⟨rfl, by rw [e.1, e.2]⟩, e.1, e.2]
      exact ⟨rfl, rfl⟩
    · have e2 : ¬ 60 * j + c = 60 * k + b := by omega
      rw [if_neg (fun z => e2 z.2), if_neg (fun z => e2 z.2), if_neg (fun z => e2 z.2), if_neg (fun z => e2 z.2)]
      exact hz j c a1 a2 (by omega)
theorem tw_130 (hn : 100 ≤ nf) (hW : TW W) {x y M : Nat} {v : Int32} {what : Int} (hx : (x : Int) < W 0) (hM : 2 ≤ M ∧ M ≤ 4) (hy : (y : Int) + M ≤ W 1) (hwh : 0 ≤ what ∧ what ≤ (M : Int) - 1) (hk : ∀ j, j < M → wvK W x y j) {τ0 : TS} : ∀ (d n k : Nat) (τ : TS), k + d = M → d < n → Tk τ0 τ → Rw W τ → Tzb τ (wvR W x y) M (wvG W x y) (wvH W x y M) k 0 → Ok (T_wave_b130 nf n (i32 (x : Int)) (i32 (y : Int)) (i32 (M : Int)) v (i32 what) (i32 (ltA W x y 1)) (i32 (k : Int)) τ) fun z => z.1 = i32 (if what = 0 then (wvQ W x y M (!decide (v = 0))).1 else (wvQ W x y M (!decide (v = 0))).2 what.toNat) ∧ Tk τ0 z.2 := by
  have w0 := hW.1
  have w1 := hW.2.1
  have hlt := wv_l hW (x := x) (y := y) (by omega) (by omega) (by have := (hk 0 (by omega)).1; rwa [Nat.add_zero] at this)
  have eR : ltA W x y 1 = ((wvR W x y : Nat) : Int) := by
    unfold wvR
    omega
  intro d
  induction d with
  | zero =>
    intro n k τ g1 g2 hf hr hz
    obtain ⟨n, rfl⟩ : ∃ q, n = q + 1 := ⟨n - 1, by omega⟩
    have ek : k = M := by omega
    subst ek
    have q0 : 0 ≤ (ltA W x y 2 + ltA W x y 3) % ltA W x y 1 := Int.emod_nonneg _ (by omega)
    have q1 : (ltA W x y 2 + ltA W x y 3) % ltA W x y 1 < ltA W x y 1 := Int.emod_lt_of_pos _ (by omega)
    have eF : (ltA W x y 2 + ltA W x y 3) % ltA W x y 1 = ((60 * 0 + wvF W x y : Nat) : Int) := by
      unfold wvF
      omega
    have f1 : Tk τ (sI τ 42 (i32 (-1))) := Tk.sI rfl rfl
    have r1 := f1.rw hr
    have e2 : T_lightAt (sI τ 42 (i32 (-1))) (i32 (x : Int)) (i32 (y : Int)) 2 = some (i32 (ltA W x y 2)) := s_lightAt r1 (what := 2) (by omega) (by omega) (by omega)
    have e3 : T_lightAt (sI τ 42 (i32 (-1))) (i32 (x : Int)) (i32 (y : Int)) 3 = some (i32 (ltA W x y 3)) := s_lightAt r1 (what := 3) (by omega) (by omega) (by omega)
    rw [show T_wave_b130 nf (n + 1) = T_wave_b130_s nf (T_wave_b130 nf n) from rfl]
    unfold T_wave_b130_s
    rw [if_pos ((i32_le ⟨by omega, by omega⟩ ⟨by omega, by omega⟩).mpr (Int.le_refl _)), show (-1 : Int32) = i32 (-1) from rfl, nm_eq]
    refine ok_be e2 (ok_be e3 (ok_d32 (by omega) (by omega) (ok_n ?_)))
    rw [i32_add, rem_c (by omega) (by omega) (by omega) (by omega), eF, show (0 : Int32) = i32 0 from rfl, show (1 : Int32) = i32 ((1 : Nat) : Int) from rfl]
    refine ok_sA (by omega) (by omega) (by omega) (ok_ld (by omega) (by omega) (by omega) (ok_ld (by omega) (by omega) (by omega) ?_))
    have f2 : Tk (sI τ 42 (i32 (-1))) (sA (sI τ 42 (i32 (-1))) 40 (0 : Int).toNat (i32 ((60 * 0 + wvF W x y : Nat) : Int))) := Tk.sA rfl rfl
    have t0 := hz 0 (wvF W x y) (by omega) (by omega) (.inl (by omega))
    have t1 : tB (sA (sI τ 42 (i32 (-1))) 40 (0 : Int).toNat (i32 ((60 * 0 + wvF W x y : Nat) : Int))) 38 (60 * 0 + wvF W x y) = _ := t0.1
    have t2 : tB (sA (sI τ 42 (i32 (-1))) 40 (0 : Int).toNat (i32 ((60 * 0 + wvF W x y : Nat) : Int))) 39 (60 * 0 + wvF W x y) = _ := t0.2
    rw [Int.toNat_natCast, t1, t2, eR]
    have hgx : wvG W x y 0 (wvF W x y) < 2 ^ 60 := Nat.lt_of_lt_of_le (bN_lt _ _) (Nat.pow_le_pow_right (by omega) (by omega))
    have hhx : wvH W x y k 0 (wvF W x y) < 2 ^ 60 := Nat.lt_of_lt_of_le (bN_lt _ _) (Nat.pow_le_pow_right (by omega) (by omega))
    have hW0 : Twq (sA (sI τ 42 (i32 (-1))) 40 (0 : Int).toNat (i32 ((60 * 0 + wvF W x y : Nat) : Int))) k (-1, fun _ => 0) := by
      refine ⟨rfl, fun z => ?_, ?_, ?_⟩
      · have z : (0 : Int) ≤ -1 := z
        omega
      · exact Int.le_refl _
      · show (-1 : Int) ≤ 120
        omega
    have L := t_triesWave (nf := nf) (v := v) (R := wvR W x y) (M := k) (G := wvG W x y) (H := wvH W x y k) hn hM.2 (by omega) (k - 1) 1 10 (fun _ => 0) _ _ (-1, fun _ => 0) (sA (sI τ 42 (i32 (-1))) 40 (0 : Int).toNat (i32 ((60 * 0 + wvF W x y : Nat) : Int))) (by omega) (by omega) (Nat.le_refl _) (fun k c a1 a2 => hz k c a1 a2 (.inl a1)) (fun k a1 a2 => by omega) hW0 hgx hhx
    refine ok_b L fun s14 hs14 => ?_
    obtain ⟨f14, -, -, p1, p2, -⟩ := hs14
    have hge : 0 ≤ (wvQ W x y k (!decide (v = 0))).1 := (wvN_mono (by omega) _ _ _ _ _ _).2
    refine ok_q ⟨by omega, by omega⟩ ⟨by omega, by omega⟩ (fun z => ?_) (fun z => ?_)
    · rw [if_pos z]
      exact ok_s ⟨p1, hf.tr (f1.tr (f2.tr f14))⟩
    · rw [if_neg z]
      refine ok_ld (by omega) (by omega) (by omega) (ok_s ⟨?_, hf.tr (f1.tr (f2.tr f14))⟩)
      exact p2 hge what.toNat (by omega) (by omega)
  | succ d ih =>
    intro n k τ g1 g2 hf hr hz
    obtain ⟨n, rfl⟩ : ∃ q, n = q + 1 := ⟨n - 1, by omega⟩
    have hltk := wv_l hW (x := x) (y := y + k) (by omega) (by omega) (hk k (by omega)).1
    have e3 : T_lightAt τ (i32 (x : Int)) (i32 ((y + k : Nat) : Int)) 3 = some (i32 (ltA W x (y + k) 3)) := s_lightAt hr (what := 3) (by omega) (by omega) (by omega)
    rw [show T_wave_b130 nf (n + 1) = T_wave_b130_s nf (T_wave_b130 nf n) from rfl]
    unfold T_wave_b130_s
    refine ok_le ⟨by omega, by omega⟩ ⟨by omega, by omega⟩ (fun z => by omega) (fun _ => ?_)
    rw [i32_add, show (y : Int) + (k : Int) = ((y + k : Nat) : Int) by omega]
    refine ok_be e3 (ok_n ?_)
    rw [i32_sub]
    exact tw_154 (nf := nf) hn hW hx (by omega) hM (by omega) (hk k (by omega)) (τ0 := τ0) (fun τ' f' r' z' => ih n (k + 1) τ' (by omega) (by omega) f' r' z') (wvR W x y) nf 0 τ (by omega) (by omega) hf hr hz
theorem tw_55f {x y what : Int32} {M v : Int32} (hn : 0 < nf) : T_wave_b55 nf nf x y M v what 0 0 τ = some (-1, τ) := by
  obtain ⟨n, hn2⟩ : ∃ q, nf = q + 1 := ⟨nf - 1, by omega⟩
  rw [hn2]
  rw [show T_wave_b55 (n + 1) (n + 1) = T_wave_b55_s (n + 1) (T_wave_b55 (n + 1) n) from rfl]
  unfold T_wave_b55_s T_wave_b111
  rw [if_pos rfl, if_pos rfl]
  split <;> rfl
theorem tw_55 (hn : 100 ≤ nf) (hW : TW W) {x y M : Nat} {v : Int32} {what : Int} (hx : (x : Int) < W 0) (hM : 2 ≤ M ∧ M ≤ 4) (hy : (y : Int) + M ≤ W 1) (hwh : 0 ≤ what ∧ what ≤ (M : Int) - 1) (hr : Rw W τ) : ∀ (d n k : Nat), k + d = M → d + 1 < n → (∀ j, j < k → wvK W x y j) → Ok (T_wave_b55 nf n (i32 (x : Int)) (i32 (y : Int)) (i32 (M : Int)) v (i32 what) 1 (i32 (k : Int)) τ) fun z => z.1 = i32 (wvA W x y M (!decide (v = 0)) what) ∧ Tk τ z.2 := by
  have w0 := hW.1
  have w1 := hW.2.1
  intro d
  induction d with
  | zero =>
    intro n k g1 g2 hk
    obtain ⟨n, rfl⟩ : ∃ q, n = q + 1 := ⟨n - 1, by omega⟩
    have ek : k = M := by omega
    subst ek
    have e1 : T_lightAt τ (i32 (x : Int)) (i32 (y : Int)) 1 = some (i32 (ltA W x y 1)) := s_lightAt hr (what := 1) (by omega) (by omega) (by omega)
    rw [show T_wave_b55 nf (n + 1) = T_wave_b55_s nf (T_wave_b55 nf n) from rfl]
    unfold T_wave_b55_s T_wave_b111 wvA
    rw [if_pos ((i32_le ⟨by omega, by omega⟩ ⟨by omega, by omega⟩).mpr (Int.le_refl _)), if_neg (show ¬ (1 : Int32) = 0 by decide), if_pos hk]
    refine ok_be e1 ?_
    exact tw_130 (nf := nf) hn hW hx hM hy hwh hk k nf 0 τ (by omega) (by omega) Tk.rf hr fun j c a1 a2 a3 => by omega
  | succ d ih =>
    intro n k g1 g2 hk
    obtain ⟨n, rfl⟩ : ∃ q, n = q + 1 := ⟨n - 1, by omega⟩
    have e1 : T_lightAt τ (i32 (x : Int)) (i32 (y : Int)) 1 = some (i32 (ltA W x y 1)) := s_lightAt hr (what := 1) (by omega) (by omega) (by omega)
    have ek1 : T_lightAt τ (i32 (x : Int)) (i32 ((y + k : Nat) : Int)) 1 = some (i32 (ltA W x (y + k) 1)) := s_lightAt hr (what := 1) (by omega) (by omega) (by omega)
    have hno : ¬ wvK W x y k → Ok (T_wave_b55 nf n (i32 (x : Int)) (i32 (y : Int)) (i32 (M : Int)) v (i32 what) 0 (i32 ((k : Int) + 1)) τ) fun z => z.1 = i32 (wvA W x y M (!decide (v = 0)) what) ∧ Tk τ z.2 := fun h => by
      obtain ⟨n, rfl⟩ : ∃ q, n = q + 1 := ⟨n - 1, by omega⟩
      have e : wvA W x y M (!decide (v = 0)) what = -1 := by
        unfold wvA
        rw [if_neg (fun z => h (z k (by omega)))]
      rw [e]
      rw [show T_wave_b55 nf (n + 1) = T_wave_b55_s nf (T_wave_b55 nf n) from rfl]
      unfold T_wave_b55_s T_wave_b111
      refine ok_if (fun _ => ?_) fun _ => ?_
      · rw [if_pos rfl]
        exact ok_s ⟨rfl, Tk.rf⟩
      · rw [if_pos rfl, if_pos rfl]
        exact ok_s ⟨rfl, Tk.rf⟩
    rw [show T_wave_b55 nf (n + 1) = T_wave_b55_s nf (T_wave_b55 nf n) from rfl]
    unfold T_wave_b55_s
    refine ok_le ⟨by omega, by omega⟩ ⟨by omega, by omega⟩ (fun z => by omega) (fun _ => ?_)
    rw [if_neg (show ¬ (1 : Int32) = 0 by decide), i32_add, show (y : Int) + (k : Int) = ((y + k : Nat) : Int) by omega, show (i32 (k : Int) + 1 : Int32) = i32 ((k : Int) + 1) from i32_add k 1]
    refine ok_be (s_isTimed hW hr (by omega) (by omega)) ?_
    cases htk : tmA W x (y + k) with
    | false =>
      exact hno fun z => by have z := z.1; rw [htk] at z; cases z
    | true =>
      rw [if_neg (show ¬ bi true = (0 : Int32) by decide)]
      have hltk := wv_l hW (x := x) (y := y + k) (by omega) (by omega) htk
      refine ok_be ek1 (ok_be e1 ?_)
      have hok : ok32 (ltA W x y 1) := by
        by_cases ek : k = 0
        · rw [ek, Nat.add_zero] at hltk
          exact ⟨by omega, by omega⟩
        · have h0 := (hk 0 (by omega)).1
          rw [Nat.add_zero] at h0
          have := wv_l hW (x := x) (y := y) (by omega) (by omega) h0
          exact ⟨by omega, by omega⟩
      refine ok_q ⟨by omega, by omega⟩ hok (fun q2 => ?_) (fun q2 => hno fun z => q2 z.2)
      exact ih n (k + 1) (by omega) (by omega) fun j hj => by
        by_cases ej : j = k
        · rw [ej]; exact ⟨htk, q2⟩
        · exact hk j (by omega)
theorem t_wave (hn : 100 ≤ nf) (tb : TB W S V m Tp RC τ) (hW : TW W) {x y many what : Int} {v : Int32} (hx : ok32 x) (hy : ok32 y) (hm : ok32 many) (hw : ok32 what) : Ok (T_wave nf (i32 x) (i32 y) (i32 many) v (i32 what) τ) fun p => p.1 = i32 (wvV W x y many v what) ∧ Tk τ p.2 := by
  have w0 := hW.1
  have w1 := hW.2.1
  have hk := tk_z τ
  have tb2 : TB W S V m Tp RC (sI τ 0 0) := tb.q hk.1
  unfold T_wave wvV
  rw [nm_eq]
  generalize sI τ 0 0 = τ1 at hk tb2 ⊢
  refine ok_be (s_isCorner hW tb2.1 hx hy) ?_
  by_cases q1 : (0 ≤ x ∧ x < W 0) ∧ 0 ≤ y ∧ y < W 1
  · rw [decide_eq_true q1, if_neg (show ¬ bi true = (0 : Int32) by decide)]
    refine ok_be (s_w3 hm 2 4 (by omega)) ?_
    by_cases q2 : 2 ≤ many ∧ many ≤ 4
    · rw [decide_eq_true q2, if_neg (show ¬ bi true = (0 : Int32) by decide)]
      refine ok_be (s_deep tb2.1) ?_
      rw [i32_add, show (i32 many - 1 : Int32) = i32 (many - 1) from i32_sub many 1]
      refine ok_lt ⟨by omega, by omega⟩ ⟨by omega, by omega⟩ (fun q3 => ?_) (fun q3 => ?_)
      · rw [if_neg (fun z => by have := z.2.2.1; omega)]
        exact ok_e (tw_55f (by omega)) ⟨rfl, hk⟩
      · refine ok_be (s_w3 hw 0 (many - 1) (by omega)) ?_
        by_cases q4 : 0 ≤ what ∧ what ≤ many - 1
        · rw [decide_eq_true q4, if_neg (show ¬ bi true = (0 : Int32) by decide), if_pos ⟨q1, q2, q3, q4⟩, toI q1.1.1, toI q1.2.1, toI (show 0 ≤ many by omega)]
          have L := tw_55 (nf := nf) (v := v) (M := many.toNat) hn hW (x := x.toNat) (y := y.toNat) (by omega) (by omega) (by omega) (what := what) (by omega) tb2.1 many.toNat nf 0 (by omega) (by omega) (fun j hj => by omega)
          exact ok_w L fun z hz => ⟨hz.1, hk.tr hz.2⟩
        · rw [decide_eq_false q4, if_pos (show bi false = (0 : Int32) from rfl), if_neg (fun z => q4 z.2.2.2)]
          exact ok_e (tw_55f (by omega)) ⟨rfl, hk⟩
    · rw [decide_eq_false q2, if_pos (show bi false = (0 : Int32) from rfl), if_neg (fun z => q2 z.2.1)]
      exact ok_e (tw_55f (by omega)) ⟨rfl, hk⟩
  · rw [decide_eq_false q1, if_pos (show bi false = (0 : Int32) from rfl), if_neg (fun z => q1 z.1)]
    exact ok_e (tw_55f (by omega)) ⟨rfl, hk⟩
end WD
