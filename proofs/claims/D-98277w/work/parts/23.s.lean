/-! THE START's STATE: the component's pure state with nothing but Reader's string constants -/
set_option maxRecDepth 100000
/-- what the constants hold -/
def sFx (st : Nat → Option Nat) (s0 : CS) : Prop := (∃ adK adV : Nat → Nat, ∀ i, i < 12 → st (10 + i) = some (adK i) ∧ s0.1 (adK i) = some (false, 25, 0) ∧ cR s0 2300 (adK i) = some (adV i) ∧ cI s0 2301 (adK i) = 0 ∧ s0.1 (adV i) = some (false, 103, sLen.getD i 0) ∧ ∀ j, j < sLen.getD i 0 → cA s0 (adV i) j = (sByt.getD i []).getD j 0) ∧ (∃ mi, st 3 = some mi) ∧ (∀ a w c n, s0.1 a = some (w, c, n) → w = false) ∧ cl s0 = 0
theorem s_lenq : ((List.range 12).all fun i => (List.range 12).all fun j => decide (Int32.ofNat (sLen.getD i 0) = Int32.ofNat (sLen.getD j 0) → sLen.getD i 0 = sLen.getD j 0)) = true := by decide +kernel
theorem s_start {s : State} {b : Addr} (htt : ∀ w ∈ lw_tbl, w.before #[Value.ref b] s = true) (hgv : (Jvm.Cond.and given_1 narrow_1).before #[Value.ref b] s = true) : ∃ (D : va_G) (dA : Nat → ClassId) (st : Nat → Option Nat) (s0 : CS), va_K D vwCl (tysL dA) s ∧ cNw s ∧ cSt (D, (fun q => s.heap.size ≤ q), dA, st) s ∧ cHp (D, (fun q => s.heap.size ≤ q), dA, st) s s0 s.heap ∧ sFx st s0 ∧ ∀ a c, st (1000 + a) = some c → a < s.heap.size := by
  have hts : ∀ w ∈ lw_all, w.before #[Value.ref b] s = true := fun w h => htt w (lw_all_tbl h)
  have hs : ∀ c ∈ sGv, c.before #[Value.ref b] s = true := flat_of_before _ hgv
  have hA : ∀ a : Nat, a < s.heap.size → ¬ s.heap.size ≤ a := fun a h h2 => by omega
  obtain ⟨D, dA, hK⟩ := s_env htt hts
  obtain ⟨adK, adV, hV, hE⟩ := s_str (A := fun q => s.heap.size ≤ q) hgv hA
  obtain ⟨r0, hr0⟩ := s_isRef (hs (Cond.isRef (.static "java/lang/Throwable" "UNASSIGNED_STACK" "[Ljava/lang/StackTraceElement;")) (by decide +kernel))
  obtain ⟨r1, hr1⟩ := s_isRef (hs (Cond.isRef (.static "java/lang/Throwable" "SUPPRESSED_SENTINEL" "Ljava/util/List;")) (by decide +kernel))
  obtain ⟨r2, hr2⟩ := s_isRef (hs (Cond.isRef (.static "jdk/internal/util/Preconditions" "SIOOBE_FORMATTER" "Ljava/util/function/BiFunction;")) (by decide +kernel))
  obtain ⟨mi, hmi⟩ := va_Mi.of (hs (Cond.isRef (.mirror "[Ljava/lang/Object;")) (by decide +kernel))
  have hcs := va_eqi (hs (Cond.eq (.static "java/lang/String" "COMPACT_STRINGS" "Z") (.int 1)) (by decide +kernel))
  have hltK : ∀ i, i < 12 → adK i < s.heap.size := fun i hi => by
    obtain ⟨⟨cell, h1, -⟩, -⟩ := hV.1 i hi
    exact (Array.getElem?_eq_some_iff.mp h1).1
  have hltV : ∀ i, i < 12 → adV i < s.heap.size := fun i hi => by
    obtain ⟨-, -, -, cell, h1, -⟩ := hV.1 i hi
    exact (Array.getElem?_eq_some_iff.mp h1).1
  have hKV : ∀ i j, i < 12 → j < 12 → adK i ≠ adV j := fun i j hi hj e => by
    obtain ⟨⟨cell, h1, h2, h3, -⟩, -⟩ := hV.1 i hi
    obtain ⟨-, -, -, cell2, g1, g2, -⟩ := hV.1 j hj
    rw [← e] at g1
    cases h1.symm.trans g1
    obtain ⟨-, kC, hkC, hkind⟩ := hK.1 25 _ rfl |>.2
    have hc : cell.cls = D.1 25 := Option.some.inj (h3.symm.trans (hK.1 25 _ rfl).2.1)
    obtain ⟨-, kA, hkA, comp, hkindA⟩ := g2
    rw [hc, hkC] at hkA
    cases hkA
    rw [hkind] at hkindA
    cases hkindA
  have hsame : ∀ i j, i < 12 → j < 12 → adV i = adV j → sLen.getD i 0 = sLen.getD j 0 ∧ ∀ k, k < sLen.getD i 0 → (sByt.getD i []).getD k 0 = (sByt.getD j []).getD k 0 := fun i j hi hj e => by
    obtain ⟨-, -, -, cell, h1, -, -, -, h5, h6, -⟩ := hV.1 i hi
    obtain ⟨-, -, -, cell2, g1, -, -, -, g5, g6, -⟩ := hV.1 j hj
    rw [← e] at g1
    cases h1.symm.trans g1
    have hl : sLen.getD i 0 = sLen.getD j 0 := of_decide_eq_true (s_in (s_in s_lenq hi) hj) (h5.symm.trans g5)
    refine ⟨hl, fun k hk => ?_⟩
    have h9 := (h6 k hk).symm.trans (g6 k (by rw [← hl]; exact hk))
    exact Value.int.inj (Option.some.inj h9)
  have hk : ∀ a : Nat, ∃ x : Option (Bool × Nat × Nat) × Option Nat × (Nat → Int32), (∃ i, i < 12 ∧ adK i = a ∧ x.1 = some (false, 25, 0) ∧ x.2.1 = some (adV i)) ∨ (∃ i, i < 12 ∧ adV i = a ∧ x.1 = some (false, 103, sLen.getD i 0) ∧ x.2.2 = fun j => (sByt.getD i []).getD j 0) ∨ ((∀ i, i < 12 → adK i ≠ a ∧ adV i ≠ a) ∧ x.1 = none) := fun a => by
    by_cases h1 : ∃ i, i < 12 ∧ adK i = a
    · obtain ⟨i, hi, e⟩ := h1
      exact ⟨(some (false, 25, 0), some (adV i), fun _ => 0), Or.inl ⟨i, hi, e, rfl, rfl⟩⟩
    · by_cases h2 : ∃ i, i < 12 ∧ adV i = a
      · obtain ⟨i, hi, e⟩ := h2
        exact ⟨(some (false, 103, sLen.getD i 0), none, fun j => (sByt.getD i []).getD j 0), Or.inr (Or.inl ⟨i, hi, e, rfl, rfl⟩)⟩
      · exact ⟨(none, none, fun _ => 0), Or.inr (Or.inr ⟨fun i hi => ⟨fun e => h1 ⟨i, hi, e⟩, fun e => h2 ⟨i, hi, e⟩⟩, rfl⟩)⟩
  obtain ⟨f, hf⟩ := Classical.axiomOfChoice hk
  have hg : ∀ a : Nat, ∃ r : Option Nat, ((∃ i, i < 12 ∧ (adK i = a ∨ adV i = a)) → r = some a) ∧ ∀ c, r = some c → a < s.heap.size := fun a => by
    by_cases h1 : ∃ i, i < 12 ∧ (adK i = a ∨ adV i = a)
    · refine ⟨some a, fun _ => rfl, fun c _ => ?_⟩
      obtain ⟨i, hi, e | e⟩ := h1
      · rw [← e]; exact hltK i hi
      · rw [← e]; exact hltV i hi
    · exact ⟨none, fun h => absurd h h1, fun c h => by cases h⟩
  obtain ⟨g, hg⟩ := Classical.axiomOfChoice hg
  have fK : ∀ i, i < 12 → (f (adK i)).1 = some (false, 25, 0) ∧ (f (adK i)).2.1 = some (adV i) := fun i hi => by
    rcases hf (adK i) with ⟨j, hj, e, h1, h2⟩ | ⟨j, hj, e, -⟩ | ⟨h, -⟩
    · have : j = i := hV.2 j i hj hi e
      subst this
      exact ⟨h1, h2⟩
    · exact absurd e.symm (hKV i j hi hj)
    · exact absurd rfl (h i hi).1
  have fV : ∀ i, i < 12 → (f (adV i)).1 = some (false, 103, sLen.getD i 0) ∧ ∀ j, j < sLen.getD i 0 → (f (adV i)).2.2 j = (sByt.getD i []).getD j 0 := fun i hi => by
    rcases hf (adV i) with ⟨j, hj, e, h1, h2⟩ | ⟨j, hj, e, h1, h2⟩ | ⟨h, -⟩
    · exact absurd e (hKV j i hj hi)
    · obtain ⟨e1, e2⟩ := hsame j i hj hi e
      exact ⟨by rw [h1, e1], fun k hk => by rw [h2]; exact e2 k (by rw [e1]; exact hk)⟩
    · exact absurd rfl (h i hi).2
  let st : Nat → Option Nat := fun k => if k = 0 then r0 else if k = 1 then r1 else if k = 2 then r2 else if k = 3 then some mi else if k < 22 then some (adK (k - 10)) else g (k - 1000)
  let s0 : CS := (fun a => (f a).1, fun _ _ => 0, fun _ _ => 0, fun fl a => if fl = 2300 then (f a).2.1 else none, fun a => (f a).2.2, fun _ _ => 0, fun _ _ => none, s.heap.size, 0)
  have st10 : ∀ i, i < 12 → st (10 + i) = some (adK i) := fun i hi => by
    show (if 10 + i = 0 then r0 else if 10 + i = 1 then r1 else if 10 + i = 2 then r2 else if 10 + i = 3 then some mi else if 10 + i < 22 then some (adK (10 + i - 10)) else g (10 + i - 1000)) = some (adK i)
    rw [if_neg (by omega), if_neg (by omega), if_neg (by omega), if_neg (by omega), if_pos (by omega), Nat.add_sub_cancel_left]
  have stg : ∀ a, st (1000 + a) = g a := fun a => by
    show (if 1000 + a = 0 then r0 else if 1000 + a = 1 then r1 else if 1000 + a = 2 then r2 else if 1000 + a = 3 then some mi else if 1000 + a < 22 then some (adK (1000 + a - 10)) else g (1000 + a - 1000)) = g a
    rw [if_neg (by omega), if_neg (by omega), if_neg (by omega), if_neg (by omega), if_neg (by omega), Nat.add_sub_cancel_left]
  have hwf : ∀ a w c n, (f a).1 = some (w, c, n) → ∃ i, i < 12 ∧ w = false ∧ ((adK i = a ∧ c = 25) ∨ (adV i = a ∧ c = 103 ∧ n = sLen.getD i 0)) := fun a w c n h => by
    rcases hf a with ⟨j, hj, e, h1, -⟩ | ⟨j, hj, e, h1, -⟩ | ⟨-, h1⟩
    · rw [h1] at h
      cases h
      exact ⟨j, hj, rfl, Or.inl ⟨e, rfl⟩⟩
    · rw [h1] at h
      cases h
      exact ⟨j, hj, rfl, Or.inr ⟨e, rfl, rfl⟩⟩
    · rw [h1] at h
      cases h
  refine ⟨D, dA, st, s0, hK, cNw.of htt, ⟨va_Zof (htt _ q621) (hts _ q153) hcs hA, va_Zof (htt _ q762) (hts _ q158) hr0 hA, va_Zof (htt _ q764) (hts _ q158) hr1 hA, va_Zof (htt _ q660) (hts _ q156) hr2 hA, hmi, fun k x hk => ?_⟩, ⟨fun a w c n ha => ?_, rfl, fun a n ha => ?_, fun a n ha => ?_⟩, ⟨⟨adK, adV, fun i hi => ⟨st10 i hi, (fK i hi).1, (fK i hi).2, rfl, (fV i hi).1, (fV i hi).2⟩⟩, ⟨mi, rfl⟩, fun a w c n h => ?_, rfl⟩, fun a c h => ?_⟩
  · have hk9 : k < 12 := (List.getElem?_eq_some_iff.mp hk).1
    have e1 : sTm k = .string "OverFirst$Reader" x.1 := by
      unfold sTm
      rw [List.getD_eq_getElem?_getD, hk]
      rfl
    have h1 := hE k hk9
    rw [e1] at h1
    have e2 : ((st (10 + k)).getD 0) = adK k := by rw [st10 k hk9]; rfl
    show vk_R "OverFirst$Reader" x.1 x.2 ((st (10 + k)).getD 0) s
    rw [e2]
    refine vk_R.of (A := #[Value.ref b]) ?_ h1
    rcases (show k = 0 ∨ k = 1 ∨ k = 2 ∨ k = 3 ∨ k = 4 ∨ k = 5 ∨ k = 6 ∨ k = 7 ∨ k = 8 ∨ k = 9 ∨ k = 10 ∨ k = 11 by omega) with rfl | rfl | rfl | rfl | rfl | rfl | rfl | rfl | rfl | rfl | rfl | rfl
    · cases hk; exact htt _ q607
    · cases hk; exact htt _ q696
    · cases hk; exact htt _ q815
    · cases hk; exact htt _ q839
    · cases hk; exact htt _ q840
    · cases hk; exact htt _ q845
    · cases hk; exact htt _ q846
    · cases hk; exact htt _ q911
    · cases hk; exact htt _ q920
    · cases hk; exact htt _ q1111
    · cases hk; exact htt _ q1112
    · cases hk; exact htt _ q1162
  · obtain ⟨i, hi, rfl, h⟩ := hwf a w c n ha
    have hlt : a < s.heap.size := by
      rcases h with ⟨e, -⟩ | ⟨e, -⟩
      · rw [← e]; exact hltK i hi
      · rw [← e]; exact hltV i hi
    refine ⟨hlt, fun e => (by cases e), fun e => (by cases e), fun _ => ⟨hA a hlt, ?_, ?_⟩⟩
    · rcases h with ⟨-, e⟩ | ⟨-, e, -⟩
      · exact Or.inl e
      · exact Or.inr e
    · show st (1000 + a) = some a
      rw [stg]
      refine (hg a).1 ⟨i, hi, ?_⟩
      rcases h with ⟨e, -⟩ | ⟨e, -⟩
      · exact Or.inl e
      · exact Or.inr e
  · obtain ⟨i, hi, -, h⟩ := hwf a _ _ _ ha
    rcases h with ⟨-, e⟩ | ⟨e, -, e2⟩
    · cases e
    · subst e
      subst e2
      obtain ⟨-, -, -, cell, h1, h2, h3, h4, h5, h6, h7⟩ := hV.1 i hi
      exact ⟨cell, h1, h2, h3, h4, h5, fun j hj => by rw [h6 j hj]; show _ = some (Value.int ((f (adV i)).2.2 j)); rw [(fV i hi).2 j hj], h7⟩
  · obtain ⟨i, hi, -, h⟩ := hwf a _ _ _ ha
    rcases h with ⟨e, -⟩ | ⟨-, e, -⟩
    · subst e
      obtain ⟨g1, g2, g3, -⟩ := hV.1 i hi
      refine ⟨g1, ?_, g2⟩
      have e : fVal s0 (adK i) (2, 2300) = .ref (adV i) := by
        show va_rf ((f (adK i)).2.1) = .ref (adV i)
        rw [(fK i hi).2]
        rfl
      rw [e]
      exact g3
    · cases e
  · obtain ⟨i, hi, e, -⟩ := hwf a w c n h
    exact e
  · rw [stg] at h
    exact (hg a).2 c h
