/-! THE TWIN's walks and contracts (printed by gen/gen_t.py) -/
set_option maxRecDepth 100000
theorem room_le {X : KC TS} {F0 L0 a F L : Nat} (h : tRoom X F0 L0) (h1 : Nat.ble (F + 1) F0 = true) (h2 : Nat.ble (8 + (a + 11) + L) L0 = true) : F + 1 ≤ X.1.2.2.2.1.frames ∧ 8 + (a + 11) + L ≤ X.1.2.2.2.1.locals := ⟨Nat.le_trans (Nat.le_of_ble_eq_true h1) h.1, Nat.le_trans (Nat.le_of_ble_eq_true h2) h.2⟩
theorem room_lo {X : KC TS} {F0 L0 a F L : Nat} (h : tRoom X F0 L0) (h1 : F + 1 ≤ F0) (h2 : 8 + (a + 11) + L ≤ L0) : F + 1 ≤ X.1.2.2.2.1.frames ∧ 8 + (a + 11) + L ≤ X.1.2.2.2.1.locals := ⟨Nat.le_trans h1 h.1, Nat.le_trans h2 h.2⟩
theorem t_ret_zc {X : KC TS} {E : TE} {cc : ByteArray} {nL : Nat} {τ : TS} {pc : Nat} {lv : List (Nat × Value)} {v : Int32} {z : Int32 × TS} (T : tOK X E cc nL (some .boolean)) (e : tE_i X E z.1 z.2) (hb : isb v = true) (h : some (v, τ) = some z) (d : decode cc pc = .ok (.ireturn, 1)) : kW X τ pc lv [.int v] := t_ret_z T e (by rw [hb]; exact h) d
theorem t_ret_zrc {X : KC TS} {E : TE} {cc : ByteArray} {nL : Nat} {τ : TS} {pc : Nat} {lv : List (Nat × Value)} {v z : Int32} (T : tOK X E cc nL (some .boolean)) (e : tE_i X E z τ) (hb : isb v = true) (h : some v = some z) (d : decode cc pc = .ok (.ireturn, 1)) : kW X τ pc lv [.int v] := t_ret_zr T e (by rw [hb]; exact h) d
theorem k_sw {α : Type} {z : α} {x c : Int32} {A B : Option α} {P : Prop} (h : (if x = c then A else B) = some z) (kt : x = c → A = some z → P) (kf : ¬ x = c → B = some z → P) : P := by
  by_cases q : x = c
  · exact kt q (ite_t q h)
  · exact kf q (ite_f q h)
theorem k_tabEq {S : Type} {X : KC S} {cc : ByteArray} {own : String} {nL : Nat} {τ : S} {pc : Nat} {lv : List (Nat × Value)} {r : List Value} {x c : Int32} {dflt lo hi : Int} {offs : Array Int} {len : Nat} {off : Int} {tgt : Nat} (e : x = c) (hX : kOK X cc own nL) (d : decode cc pc = .ok (.tableswitch dflt lo hi offs, len)) (h1 : ¬ c.toInt < lo) (h2 : ¬ hi < c.toInt) (ho : offs[(c.toInt - lo).toNat]? = some off) (ht : (pc : Int) + off = (tgt : Int)) (k : kW X τ tgt lv r) : kW X τ pc lv (.int x :: r) := by
  subst e
  exact k_tabIn hX d h1 h2 ho ht k
theorem tab_out {x : Int32} {lo hi : Int} (l : List Int32) (h : ∀ c ∈ l, ¬ x = c) (hl : l.map Int32.toInt = (List.range (hi + 1 - lo).toNat).map (fun j : Nat => lo + j)) : x.toInt < lo ∨ hi < x.toInt := by
  by_cases q : x.toInt < lo ∨ hi < x.toInt
  · exact q
  · exfalso
    have h1 : lo ≤ x.toInt := by omega
    have h2 : x.toInt ≤ hi := by omega
    have h3 : x.toInt ∈ l.map Int32.toInt := by
      rw [hl, List.mem_map]
      exact ⟨(x.toInt - lo).toNat, List.mem_range.mpr (by omega), by omega⟩
    obtain ⟨c, hc, e⟩ := List.mem_map.mp h3
    exact h c hc (Int32.toInt_inj.mp e).symm
theorem cX_lay {X : KC TS} {E : TE} {cc : ByteArray} {nL : Nat} {ret : Option FieldType} {pc : Nat} {lv : List (Nat × Value)} {r : List Value} {α : Type} {z : α} {τ : TS} (T : tOK X E cc nL ret) {F L : Nat} {f : Int64 → TS → Option TS} (hf : ∀ (a0 : Int64) (τ : TS) (v : TS), f a0 τ = some v → tMet_v X.1.2.1 E yX9_lay (ws_ yX9_lay cX9_lay 5 none) F L [.ref (E.2.2.2.2.1 0), .long a0] τ v) (hR : F + 1 ≤ X.1.2.2.2.1.frames ∧ 8 + (5 + 11) + L ≤ X.1.2.2.2.1.locals) {b0 : Int64} {K : TS → Option α} (h : (f b0 τ).bind K = some z) (hst : Nat.ble (r.map Value.category).sum 8 = true) (d : decode cc pc = .ok (.invokevirtual 7, 3)) (k : ∀ τ', K τ' = some z → kW X τ' (pc + 3) lv r) : kW X τ pc lv (.long b0 :: .ref (E.2.2.2.2.1 0) :: r) := by
  obtain ⟨v, h1, h2⟩ := bd_of h
  exact t_callV_v (As := [.long b0]) T (hf _ _ _ h1) (cwV 1 T.1.2.2.2.2 (lw_V q1626 q1628 qs63 q152 q1630) rfl rfl rfl (by decide +kernel) hR) rfl hst d (k v h2)
theorem cX_standsAsAlways {X : KC TS} {E : TE} {cc : ByteArray} {nL : Nat} {ret : Option FieldType} {pc : Nat} {lv : List (Nat × Value)} {r : List Value} {α : Type} {z : α} {τ : TS} (T : tOK X E cc nL ret) {F L : Nat} {f : Int32 → TS → Option TS} (hf : ∀ (a0 : Int32) (τ : TS) (v : TS), f a0 τ = some v → tMet_v X.1.2.1 E yX9_standsAsAlways (ws_ yX9_standsAsAlways cX9_standsAsAlways 3 none) F L [.ref (E.2.2.2.2.1 0), .int a0] τ v) (hR : F + 1 ≤ X.1.2.2.2.1.frames ∧ 8 + (3 + 11) + L ≤ X.1.2.2.2.1.locals) {b0 : Int32} {K : TS → Option α} (h : (f b0 τ).bind K = some z) (hst : Nat.ble (r.map Value.category).sum 8 = true) (d : decode cc pc = .ok (.invokevirtual 147, 3)) (k : ∀ τ', K τ' = some z → kW X τ' (pc + 3) lv r) : kW X τ pc lv (.int b0 :: .ref (E.2.2.2.2.1 0) :: r) := by
  obtain ⟨v, h1, h2⟩ := bd_of h
  exact t_callV_v (As := [.int b0]) T (hf _ _ _ h1) (cwV 1 T.1.2.2.2.2 (lw_V q1660 q1662 qs64 q152 q1663) rfl rfl rfl (by decide +kernel) hR) rfl hst d (k v h2)
theorem cX_begins {X : KC TS} {E : TE} {cc : ByteArray} {nL : Nat} {ret : Option FieldType} {pc : Nat} {lv : List (Nat × Value)} {r : List Value} {α : Type} {z : α} {τ : TS} (T : tOK X E cc nL ret) {F L : Nat} {f : TS → Option TS} (hf : ∀  (τ : TS) (v : TS), f τ = some v → tMet_v X.1.2.1 E yX9_begins (ws_ yX9_begins cX9_begins 2 none) F L [.ref (E.2.2.2.2.1 0)] τ v) (hR : F + 1 ≤ X.1.2.2.2.1.frames ∧ 8 + (2 + 11) + L ≤ X.1.2.2.2.1.locals)  {K : TS → Option α} (h : (f τ).bind K = some z) (hst : Nat.ble (r.map Value.category).sum 8 = true) (d : decode cc pc = .ok (.invokevirtual 151, 3)) (k : ∀ τ', K τ' = some z → kW X τ' (pc + 3) lv r) : kW X τ pc lv (.ref (E.2.2.2.2.1 0) :: r) := by
  obtain ⟨v, h1, h2⟩ := bd_of h
  exact t_callV_v (As := []) T (hf _ _ h1) (cwV 0 T.1.2.2.2.2 (lw_V q1664 q1666 qs65 q152 q1667) rfl rfl rfl (by decide +kernel) hR) rfl hst d (k v h2)
theorem cX_isDigit {X : KC TS} {E : TE} {cc : ByteArray} {nL : Nat} {ret : Option FieldType} {pc : Nat} {lv : List (Nat × Value)} {r : List Value} {α : Type} {z : α} {τ : TS} (T : tOK X E cc nL ret) {F L : Nat} {f : Int32 → Option Int32} (hf : ∀ (a0 : Int32) (v : Int32), f a0 = some v → tMet_i X.1.2.1 E yX9_isDigit (ws_ yX9_isDigit cX9_isDigit 1 (some .boolean)) F L [.int a0] τ v τ) (hR : F + 1 ≤ X.1.2.2.2.1.frames ∧ 8 + (1 + 11) + L ≤ X.1.2.2.2.1.locals) {b0 : Int32} {K : Int32 → Option α} (h : (f b0).bind K = some z) (hst : Nat.ble (r.map Value.category).sum 8 = true) (d : decode cc pc = .ok (.invokestatic 167, 3)) (k : ∀ v, K v = some z → kW X τ (pc + 3) lv (.int v :: r)) : kW X τ pc lv (.int b0 :: r) := by
  obtain ⟨v, h1, h2⟩ := bd_of h
  exact t_callS_i (As := [.int b0]) T (hf _ _ h1) (va_cwS 1 T.1.2.2.2.2 (lw_S q1828 q1829 q152 q1830) rfl rfl rfl (by decide +kernel) hR) rfl hst d (k v h2)
theorem cX_isLetter {X : KC TS} {E : TE} {cc : ByteArray} {nL : Nat} {ret : Option FieldType} {pc : Nat} {lv : List (Nat × Value)} {r : List Value} {α : Type} {z : α} {τ : TS} (T : tOK X E cc nL ret) {F L : Nat} {f : Int32 → Option Int32} (hf : ∀ (a0 : Int32) (v : Int32), f a0 = some v → tMet_i X.1.2.1 E yX9_isLetter (ws_ yX9_isLetter cX9_isLetter 1 (some .boolean)) F L [.int a0] τ v τ) (hR : F + 1 ≤ X.1.2.2.2.1.frames ∧ 8 + (1 + 11) + L ≤ X.1.2.2.2.1.locals) {b0 : Int32} {K : Int32 → Option α} (h : (f b0).bind K = some z) (hst : Nat.ble (r.map Value.category).sum 8 = true) (d : decode cc pc = .ok (.invokestatic 154, 3)) (k : ∀ v, K v = some z → kW X τ (pc + 3) lv (.int v :: r)) : kW X τ pc lv (.int b0 :: r) := by
  obtain ⟨v, h1, h2⟩ := bd_of h
  exact t_callS_i (As := [.int b0]) T (hf _ _ h1) (va_cwS 1 T.1.2.2.2.2 (lw_S q1821 q1822 q152 q1823) rfl rfl rfl (by decide +kernel) hR) rfl hst d (k v h2)
theorem cX_isSignOf {X : KC TS} {E : TE} {cc : ByteArray} {nL : Nat} {ret : Option FieldType} {pc : Nat} {lv : List (Nat × Value)} {r : List Value} {α : Type} {z : α} {τ : TS} (T : tOK X E cc nL ret) {F L : Nat} {f : Int32 → Option Int32} (hf : ∀ (a0 : Int32) (v : Int32), f a0 = some v → tMet_i X.1.2.1 E yX9_isSignOf (ws_ yX9_isSignOf cX9_isSignOf 1 (some .boolean)) F L [.int a0] τ v τ) (hR : F + 1 ≤ X.1.2.2.2.1.frames ∧ 8 + (1 + 11) + L ≤ X.1.2.2.2.1.locals) {b0 : Int32} {K : Int32 → Option α} (h : (f b0).bind K = some z) (hst : Nat.ble (r.map Value.category).sum 8 = true) (d : decode cc pc = .ok (.invokestatic 174, 3)) (k : ∀ v, K v = some z → kW X τ (pc + 3) lv (.int v :: r)) : kW X τ pc lv (.int b0 :: r) := by
  obtain ⟨v, h1, h2⟩ := bd_of h
  exact t_callS_i (As := [.int b0]) T (hf _ _ h1) (va_cwS 1 T.1.2.2.2.2 (lw_S q1833 q1834 q152 q1835) rfl rfl rfl (by decide +kernel) hR) rfl hst d (k v h2)
theorem cX_rank {X : KC TS} {E : TE} {cc : ByteArray} {nL : Nat} {ret : Option FieldType} {pc : Nat} {lv : List (Nat × Value)} {r : List Value} {α : Type} {z : α} {τ : TS} (T : tOK X E cc nL ret) {F L : Nat} {f : Int32 → Option Int32} (hf : ∀ (a0 : Int32) (v : Int32), f a0 = some v → tMet_i X.1.2.1 E yX9_rank (ws_ yX9_rank cX9_rank 1 (some .int)) F L [.int a0] τ v τ) (hR : F + 1 ≤ X.1.2.2.2.1.frames ∧ 8 + (1 + 11) + L ≤ X.1.2.2.2.1.locals) {b0 : Int32} {K : Int32 → Option α} (h : (f b0).bind K = some z) (hst : Nat.ble (r.map Value.category).sum 8 = true) (d : decode cc pc = .ok (.invokestatic 163, 3)) (k : ∀ v, K v = some z → kW X τ (pc + 3) lv (.int v :: r)) : kW X τ pc lv (.int b0 :: r) := by
  obtain ⟨v, h1, h2⟩ := bd_of h
  exact t_callS_i (As := [.int b0]) T (hf _ _ h1) (va_cwS 1 T.1.2.2.2.2 (lw_S q1825 q1826 q152 q1827) rfl rfl rfl (by decide +kernel) hR) rfl hst d (k v h2)
theorem cX_cutAll {X : KC TS} {E : TE} {cc : ByteArray} {nL : Nat} {ret : Option FieldType} {pc : Nat} {lv : List (Nat × Value)} {r : List Value} {α : Type} {z : α} {τ : TS} (T : tOK X E cc nL ret) {F L : Nat} {f : TS → Option TS} (hf : ∀  (τ : TS) (v : TS), f τ = some v → tMet_v X.1.2.1 E yX9_cutAll (ws_ yX9_cutAll cX9_cutAll 7 none) F L [.ref (E.2.2.2.2.1 0)] τ v) (hR : F + 1 ≤ X.1.2.2.2.1.frames ∧ 8 + (7 + 11) + L ≤ X.1.2.2.2.1.locals)  {K : TS → Option α} (h : (f τ).bind K = some z) (hst : Nat.ble (r.map Value.category).sum 8 = true) (d : decode cc pc = .ok (.invokevirtual 205, 3)) (k : ∀ τ', K τ' = some z → kW X τ' (pc + 3) lv r) : kW X τ pc lv (.ref (E.2.2.2.2.1 0) :: r) := by
  obtain ⟨v, h1, h2⟩ := bd_of h
  exact t_callV_v (As := []) T (hf _ _ h1) (cwV 0 T.1.2.2.2.2 (lw_V q1817 q1819 qs66 q152 q1820) rfl rfl rfl (by decide +kernel) hR) rfl hst d (k v h2)
theorem cX_isWord {X : KC TS} {E : TE} {cc : ByteArray} {nL : Nat} {ret : Option FieldType} {pc : Nat} {lv : List (Nat × Value)} {r : List Value} {α : Type} {z : α} {τ : TS} (T : tOK X E cc nL ret) {F L : Nat} {f : Int32 → Option Int32} (hf : ∀ (a0 : Int32) (v : Int32), f a0 = some v → tMet_i X.1.2.1 E yX9_isWord (ws_ yX9_isWord cX9_isWord 2 (some .boolean)) F L [.ref (E.2.2.2.2.1 0), .int a0] τ v τ) (hR : F + 1 ≤ X.1.2.2.2.1.frames ∧ 8 + (2 + 11) + L ≤ X.1.2.2.2.1.locals) {b0 : Int32} {K : Int32 → Option α} (h : (f b0).bind K = some z) (hst : Nat.ble (r.map Value.category).sum 8 = true) (d : decode cc pc = .ok (.invokevirtual 189, 3)) (k : ∀ v, K v = some z → kW X τ (pc + 3) lv (.int v :: r)) : kW X τ pc lv (.int b0 :: .ref (E.2.2.2.2.1 0) :: r) := by
  obtain ⟨v, h1, h2⟩ := bd_of h
  exact t_callV_i (As := [.int b0]) T (hf _ _ h1) (cwV 1 T.1.2.2.2.2 (lw_V q1844 q1846 qs69 q152 q1847) rfl rfl rfl (by decide +kernel) hR) rfl hst d (k v h2)
theorem cX_wrong {X : KC TS} {E : TE} {cc : ByteArray} {nL : Nat} {ret : Option FieldType} {pc : Nat} {lv : List (Nat × Value)} {r : List Value} {α : Type} {z : α} {τ : TS} (T : tOK X E cc nL ret) {F L : Nat} {f : Int32 → TS → Option TS} (hf : ∀ (a0 : Int32) (τ : TS) (v : TS), f a0 τ = some v → tMet_v X.1.2.1 E yX9_wrong (ws_ yX9_wrong cX9_wrong 2 none) F L [.ref (E.2.2.2.2.1 0), .int a0] τ v) (hR : F + 1 ≤ X.1.2.2.2.1.frames ∧ 8 + (2 + 11) + L ≤ X.1.2.2.2.1.locals) {b0 : Int32} {K : TS → Option α} (h : (f b0 τ).bind K = some z) (hst : Nat.ble (r.map Value.category).sum 8 = true) (d : decode cc pc = .ok (.invokevirtual 186, 3)) (k : ∀ τ', K τ' = some z → kW X τ' (pc + 3) lv r) : kW X τ pc lv (.int b0 :: .ref (E.2.2.2.2.1 0) :: r) := by
  obtain ⟨v, h1, h2⟩ := bd_of h
  exact t_callV_v (As := [.int b0]) T (hf _ _ _ h1) (cwV 1 T.1.2.2.2.2 (lw_V q1848 q1850 qs70 q152 q1851) rfl rfl rfl (by decide +kernel) hR) rfl hst d (k v h2)
theorem cX_takeNumber {X : KC TS} {E : TE} {cc : ByteArray} {nL : Nat} {ret : Option FieldType} {pc : Nat} {lv : List (Nat × Value)} {r : List Value} {α : Type} {z : α} {τ : TS} (T : tOK X E cc nL ret) {F L : Nat} {f : Int32 → Int32 → TS → Option (Int32 × TS)} (hf : ∀ (a0 : Int32) (a1 : Int32) (τ : TS) (v : (Int32 × TS)), f a0 a1 τ = some v → tMet_i X.1.2.1 E yX9_takeNumber (ws_ yX9_takeNumber cX9_takeNumber 3 (some .int)) F L [.ref (E.2.2.2.2.1 0), .int a0, .int a1] τ v.1 v.2) (hR : F + 1 ≤ X.1.2.2.2.1.frames ∧ 8 + (3 + 11) + L ≤ X.1.2.2.2.1.locals) {b0 : Int32} {b1 : Int32} {K : Int32 → TS → Option α} (h : bd2 (f b0 b1 τ) K = some z) (hst : Nat.ble (r.map Value.category).sum 8 = true) (d : decode cc pc = .ok (.invokevirtual 198, 3)) (k : ∀ v τ', K v τ' = some z → kW X τ' (pc + 3) lv (.int v :: r)) : kW X τ pc lv (.int b1 :: .int b0 :: .ref (E.2.2.2.2.1 0) :: r) := by
  obtain ⟨v, τ2, h1, h2⟩ := bd2_of h
  exact t_callV_i (As := [.int b0, .int b1]) T (hf _ _ _ _ h1) (cwV 2 T.1.2.2.2.2 (lw_V q1852 q1854 qs71 q152 q1855) rfl rfl rfl (by decide +kernel) hR) rfl hst d (k v τ2 h2)
theorem cX_wordHere {X : KC TS} {E : TE} {cc : ByteArray} {nL : Nat} {ret : Option FieldType} {pc : Nat} {lv : List (Nat × Value)} {r : List Value} {α : Type} {z : α} {τ : TS} (T : tOK X E cc nL ret) {F L : Nat} {f : Int32 → Int32 → Option Int32} (hf : ∀ (a0 : Int32) (a1 : Int32) (v : Int32), f a0 a1 = some v → tMet_i X.1.2.1 E yX9_wordHere (ws_ yX9_wordHere cX9_wordHere 5 (some .int)) F L [.ref (E.2.2.2.2.1 0), .int a0, .int a1] τ v τ) (hR : F + 1 ≤ X.1.2.2.2.1.frames ∧ 8 + (5 + 11) + L ≤ X.1.2.2.2.1.locals) {b0 : Int32} {b1 : Int32} {K : Int32 → Option α} (h : (f b0 b1).bind K = some z) (hst : Nat.ble (r.map Value.category).sum 8 = true) (d : decode cc pc = .ok (.invokevirtual 202, 3)) (k : ∀ v, K v = some z → kW X τ (pc + 3) lv (.int v :: r)) : kW X τ pc lv (.int b1 :: .int b0 :: .ref (E.2.2.2.2.1 0) :: r) := by
  obtain ⟨v, h1, h2⟩ := bd_of h
  exact t_callV_i (As := [.int b0, .int b1]) T (hf _ _ _ h1) (cwV 2 T.1.2.2.2.2 (lw_V q1872 q1874 qs76 q152 q1875) rfl rfl rfl (by decide +kernel) hR) rfl hst d (k v h2)
theorem cX_readBar {X : KC TS} {E : TE} {cc : ByteArray} {nL : Nat} {ret : Option FieldType} {pc : Nat} {lv : List (Nat × Value)} {r : List Value} {α : Type} {z : α} {τ : TS} (T : tOK X E cc nL ret) {F L : Nat} {f : TS → Option TS} (hf : ∀  (τ : TS) (v : TS), f τ = some v → tMet_v X.1.2.1 E yX9_readBar (ws_ yX9_readBar cX9_readBar 5 none) F L [.ref (E.2.2.2.2.1 0)] τ v) (hR : F + 1 ≤ X.1.2.2.2.1.frames ∧ 8 + (5 + 11) + L ≤ X.1.2.2.2.1.locals)  {K : TS → Option α} (h : (f τ).bind K = some z) (hst : Nat.ble (r.map Value.category).sum 8 = true) (d : decode cc pc = .ok (.invokevirtual 223, 3)) (k : ∀ τ', K τ' = some z → kW X τ' (pc + 3) lv r) : kW X τ pc lv (.ref (E.2.2.2.2.1 0) :: r) := by
  obtain ⟨v, h1, h2⟩ := bd_of h
  exact t_callV_v (As := []) T (hf _ _ h1) (cwV 0 T.1.2.2.2.2 (lw_V q1883 q1885 qs78 q152 q1886) rfl rfl rfl (by decide +kernel) hR) rfl hst d (k v h2)
theorem cX_common {X : KC TS} {E : TE} {cc : ByteArray} {nL : Nat} {ret : Option FieldType} {pc : Nat} {lv : List (Nat × Value)} {r : List Value} {α : Type} {z : α} {τ : TS} (T : tOK X E cc nL ret) {F L : Nat} {f : Int32 → Int32 → Option Int32} (hf : ∀ (a0 : Int32) (a1 : Int32) (v : Int32), f a0 a1 = some v → tMet_i X.1.2.1 E yX9_common (ws_ yX9_common cX9_common 5 (some .int)) F L [.int a0, .int a1] τ v τ) (hR : F + 1 ≤ X.1.2.2.2.1.frames ∧ 8 + (5 + 11) + L ≤ X.1.2.2.2.1.locals) {b0 : Int32} {b1 : Int32} {K : Int32 → Option α} (h : (f b0 b1).bind K = some z) (hst : Nat.ble (r.map Value.category).sum 8 = true) (d : decode cc pc = .ok (.invokestatic 236, 3)) (k : ∀ v, K v = some z → kW X τ (pc + 3) lv (.int v :: r)) : kW X τ pc lv (.int b1 :: .int b0 :: r) := by
  obtain ⟨v, h1, h2⟩ := bd_of h
  exact t_callS_i (As := [.int b0, .int b1]) T (hf _ _ _ h1) (va_cwS 2 T.1.2.2.2.2 (lw_S q1880 q1881 q152 q1882) rfl rfl rfl (by decide +kernel) hR) rfl hst d (k v h2)
theorem cX_hasWord {X : KC TS} {E : TE} {cc : ByteArray} {nL : Nat} {ret : Option FieldType} {pc : Nat} {lv : List (Nat × Value)} {r : List Value} {α : Type} {z : α} {τ : TS} (T : tOK X E cc nL ret) {F L : Nat} {f : Int32 → TS → Option (Int32 × TS)} (hf : ∀ (a0 : Int32) (τ : TS) (v : (Int32 × TS)), f a0 τ = some v → tMet_i X.1.2.1 E yX9_hasWord (ws_ yX9_hasWord cX9_hasWord 3 (some .boolean)) F L [.ref (E.2.2.2.2.1 0), .int a0] τ v.1 v.2) (hR : F + 1 ≤ X.1.2.2.2.1.frames ∧ 8 + (3 + 11) + L ≤ X.1.2.2.2.1.locals) {b0 : Int32} {K : Int32 → TS → Option α} (h : bd2 (f b0 τ) K = some z) (hst : Nat.ble (r.map Value.category).sum 8 = true) (d : decode cc pc = .ok (.invokevirtual 192, 3)) (k : ∀ v τ', K v τ' = some z → kW X τ' (pc + 3) lv (.int v :: r)) : kW X τ pc lv (.int b0 :: .ref (E.2.2.2.2.1 0) :: r) := by
  obtain ⟨v, τ2, h1, h2⟩ := bd2_of h
  exact t_callV_i (As := [.int b0]) T (hf _ _ _ h1) (cwV 1 T.1.2.2.2.2 (lw_V q1840 q1842 qs68 q152 q1843) rfl rfl rfl (by decide +kernel) hR) rfl hst d (k v τ2 h2)
theorem cX_takeWord {X : KC TS} {E : TE} {cc : ByteArray} {nL : Nat} {ret : Option FieldType} {pc : Nat} {lv : List (Nat × Value)} {r : List Value} {α : Type} {z : α} {τ : TS} (T : tOK X E cc nL ret) {F L : Nat} {f : Int32 → TS → Option TS} (hf : ∀ (a0 : Int32) (τ : TS) (v : TS), f a0 τ = some v → tMet_v X.1.2.1 E yX9_takeWord (ws_ yX9_takeWord cX9_takeWord 2 none) F L [.ref (E.2.2.2.2.1 0), .int a0] τ v) (hR : F + 1 ≤ X.1.2.2.2.1.frames ∧ 8 + (2 + 11) + L ≤ X.1.2.2.2.1.locals) {b0 : Int32} {K : TS → Option α} (h : (f b0 τ).bind K = some z) (hst : Nat.ble (r.map Value.category).sum 8 = true) (d : decode cc pc = .ok (.invokevirtual 195, 3)) (k : ∀ τ', K τ' = some z → kW X τ' (pc + 3) lv r) : kW X τ pc lv (.int b0 :: .ref (E.2.2.2.2.1 0) :: r) := by
  obtain ⟨v, h1, h2⟩ := bd_of h
  exact t_callV_v (As := [.int b0]) T (hf _ _ _ h1) (cwV 1 T.1.2.2.2.2 (lw_V q1836 q1838 qs67 q152 q1839) rfl rfl rfl (by decide +kernel) hR) rfl hst d (k v h2)
theorem cX_takeAfter {X : KC TS} {E : TE} {cc : ByteArray} {nL : Nat} {ret : Option FieldType} {pc : Nat} {lv : List (Nat × Value)} {r : List Value} {α : Type} {z : α} {τ : TS} (T : tOK X E cc nL ret) {F L : Nat} {f : Int32 → Int32 → Int32 → TS → Option (Int32 × TS)} (hf : ∀ (a0 : Int32) (a1 : Int32) (a2 : Int32) (τ : TS) (v : (Int32 × TS)), f a0 a1 a2 τ = some v → tMet_i X.1.2.1 E yX9_takeAfter (ws_ yX9_takeAfter cX9_takeAfter 4 (some .int)) F L [.ref (E.2.2.2.2.1 0), .int a0, .int a1, .int a2] τ v.1 v.2) (hR : F + 1 ≤ X.1.2.2.2.1.frames ∧ 8 + (4 + 11) + L ≤ X.1.2.2.2.1.locals) {b0 : Int32} {b1 : Int32} {b2 : Int32} {K : Int32 → TS → Option α} (h : bd2 (f b0 b1 b2 τ) K = some z) (hst : Nat.ble (r.map Value.category).sum 8 = true) (d : decode cc pc = .ok (.invokevirtual 232, 3)) (k : ∀ v τ', K v τ' = some z → kW X τ' (pc + 3) lv (.int v :: r)) : kW X τ pc lv (.int b2 :: .int b1 :: .int b0 :: .ref (E.2.2.2.2.1 0) :: r) := by
  obtain ⟨v, τ2, h1, h2⟩ := bd2_of h
  exact t_callV_i (As := [.int b0, .int b1, .int b2]) T (hf _ _ _ _ _ h1) (cwV 3 T.1.2.2.2.2 (lw_V q1876 q1878 qs77 q152 q1879) rfl rfl rfl (by decide +kernel) hR) rfl hst d (k v τ2 h2)
theorem cX_readLight {X : KC TS} {E : TE} {cc : ByteArray} {nL : Nat} {ret : Option FieldType} {pc : Nat} {lv : List (Nat × Value)} {r : List Value} {α : Type} {z : α} {τ : TS} (T : tOK X E cc nL ret) {F L : Nat} {f : TS → Option TS} (hf : ∀  (τ : TS) (v : TS), f τ = some v → tMet_v X.1.2.1 E yX9_readLight (ws_ yX9_readLight cX9_readLight 7 none) F L [.ref (E.2.2.2.2.1 0)] τ v) (hR : F + 1 ≤ X.1.2.2.2.1.frames ∧ 8 + (7 + 11) + L ≤ X.1.2.2.2.1.locals)  {K : TS → Option α} (h : (f τ).bind K = some z) (hst : Nat.ble (r.map Value.category).sum 8 = true) (d : decode cc pc = .ok (.invokevirtual 220, 3)) (k : ∀ τ', K τ' = some z → kW X τ' (pc + 3) lv r) : kW X τ pc lv (.ref (E.2.2.2.2.1 0) :: r) := by
  obtain ⟨v, h1, h2⟩ := bd_of h
  exact t_callV_v (As := []) T (hf _ _ h1) (cwV 0 T.1.2.2.2.2 (lw_V q1868 q1870 qs75 q152 q1871) rfl rfl rfl (by decide +kernel) hR) rfl hst d (k v h2)
theorem cX_readOnce {X : KC TS} {E : TE} {cc : ByteArray} {nL : Nat} {ret : Option FieldType} {pc : Nat} {lv : List (Nat × Value)} {r : List Value} {α : Type} {z : α} {τ : TS} (T : tOK X E cc nL ret) {F L : Nat} {f : TS → Option TS} (hf : ∀  (τ : TS) (v : TS), f τ = some v → tMet_v X.1.2.1 E yX9_readOnce (ws_ yX9_readOnce cX9_readOnce 2 none) F L [.ref (E.2.2.2.2.1 0)] τ v) (hR : F + 1 ≤ X.1.2.2.2.1.frames ∧ 8 + (2 + 11) + L ≤ X.1.2.2.2.1.locals)  {K : TS → Option α} (h : (f τ).bind K = some z) (hst : Nat.ble (r.map Value.category).sum 8 = true) (d : decode cc pc = .ok (.invokevirtual 229, 3)) (k : ∀ τ', K τ' = some z → kW X τ' (pc + 3) lv r) : kW X τ pc lv (.ref (E.2.2.2.2.1 0) :: r) := by
  obtain ⟨v, h1, h2⟩ := bd_of h
  exact t_callV_v (As := []) T (hf _ _ h1) (cwV 0 T.1.2.2.2.2 (lw_V q1923 q1925 qs88 q152 q1926) rfl rfl rfl (by decide +kernel) hR) rfl hst d (k v h2)
theorem cX_emit {X : KC TS} {E : TE} {cc : ByteArray} {nL : Nat} {ret : Option FieldType} {pc : Nat} {lv : List (Nat × Value)} {r : List Value} {α : Type} {z : α} {τ : TS} (T : tOK X E cc nL ret) {F L : Nat} {f : Int32 → Int32 → TS → Option TS} (hf : ∀ (a0 : Int32) (a1 : Int32) (τ : TS) (v : TS), f a0 a1 τ = some v → tMet_v X.1.2.1 E yX9_emit (ws_ yX9_emit cX9_emit 3 none) F L [.ref (E.2.2.2.2.1 0), .int a0, .int a1] τ v) (hR : F + 1 ≤ X.1.2.2.2.1.frames ∧ 8 + (3 + 11) + L ≤ X.1.2.2.2.1.locals) {b0 : Int32} {b1 : Int32} {K : TS → Option α} (h : (f b0 b1 τ).bind K = some z) (hst : Nat.ble (r.map Value.category).sum 8 = true) (d : decode cc pc = .ok (.invokevirtual 246, 3)) (k : ∀ τ', K τ' = some z → kW X τ' (pc + 3) lv r) : kW X τ pc lv (.int b1 :: .int b0 :: .ref (E.2.2.2.2.1 0) :: r) := by
  obtain ⟨v, h1, h2⟩ := bd_of h
  exact t_callV_v (As := [.int b0, .int b1]) T (hf _ _ _ _ h1) (cwV 2 T.1.2.2.2.2 (lw_V q1915 q1917 qs86 q152 q1918) rfl rfl rfl (by decide +kernel) hR) rfl hst d (k v h2)
theorem cX_isSign {X : KC TS} {E : TE} {cc : ByteArray} {nL : Nat} {ret : Option FieldType} {pc : Nat} {lv : List (Nat × Value)} {r : List Value} {α : Type} {z : α} {τ : TS} (T : tOK X E cc nL ret) {F L : Nat} {f : Int32 → Option Int32} (hf : ∀ (a0 : Int32) (v : Int32), f a0 = some v → tMet_i X.1.2.1 E yX9_isSign (ws_ yX9_isSign cX9_isSign 2 (some .boolean)) F L [.ref (E.2.2.2.2.1 0), .int a0] τ v τ) (hR : F + 1 ≤ X.1.2.2.2.1.frames ∧ 8 + (2 + 11) + L ≤ X.1.2.2.2.1.locals) {b0 : Int32} {K : Int32 → Option α} (h : (f b0).bind K = some z) (hst : Nat.ble (r.map Value.category).sum 8 = true) (d : decode cc pc = .ok (.invokevirtual 183, 3)) (k : ∀ v, K v = some z → kW X τ (pc + 3) lv (.int v :: r)) : kW X τ pc lv (.int b0 :: .ref (E.2.2.2.2.1 0) :: r) := by
  obtain ⟨v, h1, h2⟩ := bd_of h
  exact t_callV_i (As := [.int b0]) T (hf _ _ h1) (cwV 1 T.1.2.2.2.2 (lw_V q1860 q1862 qs73 q152 q1863) rfl rfl rfl (by decide +kernel) hR) rfl hst d (k v h2)
theorem cX_hasSign {X : KC TS} {E : TE} {cc : ByteArray} {nL : Nat} {ret : Option FieldType} {pc : Nat} {lv : List (Nat × Value)} {r : List Value} {α : Type} {z : α} {τ : TS} (T : tOK X E cc nL ret) {F L : Nat} {f : Int32 → TS → Option (Int32 × TS)} (hf : ∀ (a0 : Int32) (τ : TS) (v : (Int32 × TS)), f a0 τ = some v → tMet_i X.1.2.1 E yX9_hasSign (ws_ yX9_hasSign cX9_hasSign 3 (some .boolean)) F L [.ref (E.2.2.2.2.1 0), .int a0] τ v.1 v.2) (hR : F + 1 ≤ X.1.2.2.2.1.frames ∧ 8 + (3 + 11) + L ≤ X.1.2.2.2.1.locals) {b0 : Int32} {K : Int32 → TS → Option α} (h : bd2 (f b0 τ) K = some z) (hst : Nat.ble (r.map Value.category).sum 8 = true) (d : decode cc pc = .ok (.invokevirtual 263, 3)) (k : ∀ v τ', K v τ' = some z → kW X τ' (pc + 3) lv (.int v :: r)) : kW X τ pc lv (.int b0 :: .ref (E.2.2.2.2.1 0) :: r) := by
  obtain ⟨v, τ2, h1, h2⟩ := bd2_of h
  exact t_callV_i (As := [.int b0]) T (hf _ _ _ h1) (cwV 1 T.1.2.2.2.2 (lw_V q1919 q1921 qs87 q152 q1922) rfl rfl rfl (by decide +kernel) hR) rfl hst d (k v τ2 h2)
theorem cX_takeSign {X : KC TS} {E : TE} {cc : ByteArray} {nL : Nat} {ret : Option FieldType} {pc : Nat} {lv : List (Nat × Value)} {r : List Value} {α : Type} {z : α} {τ : TS} (T : tOK X E cc nL ret) {F L : Nat} {f : Int32 → TS → Option TS} (hf : ∀ (a0 : Int32) (τ : TS) (v : TS), f a0 τ = some v → tMet_v X.1.2.1 E yX9_takeSign (ws_ yX9_takeSign cX9_takeSign 2 none) F L [.ref (E.2.2.2.2.1 0), .int a0] τ v) (hR : F + 1 ≤ X.1.2.2.2.1.frames ∧ 8 + (2 + 11) + L ≤ X.1.2.2.2.1.locals) {b0 : Int32} {K : TS → Option α} (h : (f b0 τ).bind K = some z) (hst : Nat.ble (r.map Value.category).sum 8 = true) (d : decode cc pc = .ok (.invokevirtual 214, 3)) (k : ∀ τ', K τ' = some z → kW X τ' (pc + 3) lv r) : kW X τ pc lv (.int b0 :: .ref (E.2.2.2.2.1 0) :: r) := by
  obtain ⟨v, h1, h2⟩ := bd_of h
  exact t_callV_v (As := [.int b0]) T (hf _ _ _ h1) (cwV 1 T.1.2.2.2.2 (lw_V q1856 q1858 qs72 q152 q1859) rfl rfl rfl (by decide +kernel) hR) rfl hst d (k v h2)
theorem cX_products {X : KC TS} {E : TE} {cc : ByteArray} {nL : Nat} {ret : Option FieldType} {pc : Nat} {lv : List (Nat × Value)} {r : List Value} {α : Type} {z : α} {τ : TS} (T : tOK X E cc nL ret) {F L : Nat} {f : Int32 → TS → Option TS} (hf : ∀ (a0 : Int32) (τ : TS) (v : TS), f a0 τ = some v → tMet_v X.1.2.1 E yX9_products (ws_ yX9_products cX9_products 2 none) F L [.ref (E.2.2.2.2.1 0), .int a0] τ v) (hR : F + 1 ≤ X.1.2.2.2.1.frames ∧ 8 + (2 + 11) + L ≤ X.1.2.2.2.1.locals) {b0 : Int32} {K : TS → Option α} (h : (f b0 τ).bind K = some z) (hst : Nat.ble (r.map Value.category).sum 8 = true) (d : decode cc pc = .ok (.invokevirtual 266, 3)) (k : ∀ τ', K τ' = some z → kW X τ' (pc + 3) lv r) : kW X τ pc lv (.int b0 :: .ref (E.2.2.2.2.1 0) :: r) := by
  obtain ⟨v, h1, h2⟩ := bd_of h
  exact t_callV_v (As := [.int b0]) T (hf _ _ _ h1) (cwV 1 T.1.2.2.2.2 (lw_V q1907 q1909 qs84 q152 q1910) rfl rfl rfl (by decide +kernel) hR) rfl hst d (k v h2)
theorem cX_sums {X : KC TS} {E : TE} {cc : ByteArray} {nL : Nat} {ret : Option FieldType} {pc : Nat} {lv : List (Nat × Value)} {r : List Value} {α : Type} {z : α} {τ : TS} (T : tOK X E cc nL ret) {F L : Nat} {f : Int32 → TS → Option TS} (hf : ∀ (a0 : Int32) (τ : TS) (v : TS), f a0 τ = some v → tMet_v X.1.2.1 E yX9_sums (ws_ yX9_sums cX9_sums 3 none) F L [.ref (E.2.2.2.2.1 0), .int a0] τ v) (hR : F + 1 ≤ X.1.2.2.2.1.frames ∧ 8 + (3 + 11) + L ≤ X.1.2.2.2.1.locals) {b0 : Int32} {K : TS → Option α} (h : (f b0 τ).bind K = some z) (hst : Nat.ble (r.map Value.category).sum 8 = true) (d : decode cc pc = .ok (.invokevirtual 260, 3)) (k : ∀ τ', K τ' = some z → kW X τ' (pc + 3) lv r) : kW X τ pc lv (.int b0 :: .ref (E.2.2.2.2.1 0) :: r) := by
  obtain ⟨v, h1, h2⟩ := bd_of h
  exact t_callV_v (As := [.int b0]) T (hf _ _ _ h1) (cwV 1 T.1.2.2.2.2 (lw_V q1903 q1905 qs83 q152 q1906) rfl rfl rfl (by decide +kernel) hR) rfl hst d (k v h2)
theorem cX_test {X : KC TS} {E : TE} {cc : ByteArray} {nL : Nat} {ret : Option FieldType} {pc : Nat} {lv : List (Nat × Value)} {r : List Value} {α : Type} {z : α} {τ : TS} (T : tOK X E cc nL ret) {F L : Nat} {f : Int32 → TS → Option TS} (hf : ∀ (a0 : Int32) (τ : TS) (v : TS), f a0 τ = some v → tMet_v X.1.2.1 E yX9_test (ws_ yX9_test cX9_test 3 none) F L [.ref (E.2.2.2.2.1 0), .int a0] τ v) (hR : F + 1 ≤ X.1.2.2.2.1.frames ∧ 8 + (3 + 11) + L ≤ X.1.2.2.2.1.locals) {b0 : Int32} {K : TS → Option α} (h : (f b0 τ).bind K = some z) (hst : Nat.ble (r.map Value.category).sum 8 = true) (d : decode cc pc = .ok (.invokevirtual 257, 3)) (k : ∀ τ', K τ' = some z → kW X τ' (pc + 3) lv r) : kW X τ pc lv (.int b0 :: .ref (E.2.2.2.2.1 0) :: r) := by
  obtain ⟨v, h1, h2⟩ := bd_of h
  exact t_callV_v (As := [.int b0]) T (hf _ _ _ h1) (cwV 1 T.1.2.2.2.2 (lw_V q1899 q1901 qs82 q152 q1902) rfl rfl rfl (by decide +kernel) hR) rfl hst d (k v h2)
theorem cX_all {X : KC TS} {E : TE} {cc : ByteArray} {nL : Nat} {ret : Option FieldType} {pc : Nat} {lv : List (Nat × Value)} {r : List Value} {α : Type} {z : α} {τ : TS} (T : tOK X E cc nL ret) {F L : Nat} {f : Int32 → TS → Option TS} (hf : ∀ (a0 : Int32) (τ : TS) (v : TS), f a0 τ = some v → tMet_v X.1.2.1 E yX9_all (ws_ yX9_all cX9_all 3 none) F L [.ref (E.2.2.2.2.1 0), .int a0] τ v) (hR : F + 1 ≤ X.1.2.2.2.1.frames ∧ 8 + (3 + 11) + L ≤ X.1.2.2.2.1.locals) {b0 : Int32} {K : TS → Option α} (h : (f b0 τ).bind K = some z) (hst : Nat.ble (r.map Value.category).sum 8 = true) (d : decode cc pc = .ok (.invokevirtual 243, 3)) (k : ∀ τ', K τ' = some z → kW X τ' (pc + 3) lv r) : kW X τ pc lv (.int b0 :: .ref (E.2.2.2.2.1 0) :: r) := by
  obtain ⟨v, h1, h2⟩ := bd_of h
  exact t_callV_v (As := [.int b0]) T (hf _ _ _ h1) (cwV 1 T.1.2.2.2.2 (lw_V q1895 q1897 qs81 q152 q1898) rfl rfl rfl (by decide +kernel) hR) rfl hst d (k v h2)
theorem cX_takePart {X : KC TS} {E : TE} {cc : ByteArray} {nL : Nat} {ret : Option FieldType} {pc : Nat} {lv : List (Nat × Value)} {r : List Value} {α : Type} {z : α} {τ : TS} (T : tOK X E cc nL ret) {F L : Nat} {f : Int32 → TS → Option TS} (hf : ∀ (a0 : Int32) (τ : TS) (v : TS), f a0 τ = some v → tMet_v X.1.2.1 E yX9_takePart (ws_ yX9_takePart cX9_takePart 6 none) F L [.ref (E.2.2.2.2.1 0), .int a0] τ v) (hR : F + 1 ≤ X.1.2.2.2.1.frames ∧ 8 + (6 + 11) + L ≤ X.1.2.2.2.1.locals) {b0 : Int32} {K : TS → Option α} (h : (f b0 τ).bind K = some z) (hst : Nat.ble (r.map Value.category).sum 8 = true) (d : decode cc pc = .ok (.invokevirtual 269, 3)) (k : ∀ τ', K τ' = some z → kW X τ' (pc + 3) lv r) : kW X τ pc lv (.int b0 :: .ref (E.2.2.2.2.1 0) :: r) := by
  obtain ⟨v, h1, h2⟩ := bd_of h
  exact t_callV_v (As := [.int b0]) T (hf _ _ _ h1) (cwV 1 T.1.2.2.2.2 (lw_V q1911 q1913 qs85 q152 q1914) rfl rfl rfl (by decide +kernel) hR) rfl hst d (k v h2)
theorem cX_isName {X : KC TS} {E : TE} {cc : ByteArray} {nL : Nat} {ret : Option FieldType} {pc : Nat} {lv : List (Nat × Value)} {r : List Value} {α : Type} {z : α} {τ : TS} (T : tOK X E cc nL ret) {F L : Nat} {f : Option Int32} (hf : ∀  (v : Int32), f = some v → tMet_i X.1.2.1 E yX9_isName (ws_ yX9_isName cX9_isName 1 (some .boolean)) F L [.ref (E.2.2.2.2.1 0)] τ v τ) (hR : F + 1 ≤ X.1.2.2.2.1.frames ∧ 8 + (1 + 11) + L ≤ X.1.2.2.2.1.locals)  {K : Int32 → Option α} (h : (f).bind K = some z) (hst : Nat.ble (r.map Value.category).sum 8 = true) (d : decode cc pc = .ok (.invokevirtual 239, 3)) (k : ∀ v, K v = some z → kW X τ (pc + 3) lv (.int v :: r)) : kW X τ pc lv (.ref (E.2.2.2.2.1 0) :: r) := by
  obtain ⟨v, h1, h2⟩ := bd_of h
  exact t_callV_i (As := []) T (hf _ h1) (cwV 0 T.1.2.2.2.2 (lw_V q1891 q1893 qs80 q152 q1894) rfl rfl rfl (by decide +kernel) hR) rfl hst d (k v h2)
theorem cX_readRule {X : KC TS} {E : TE} {cc : ByteArray} {nL : Nat} {ret : Option FieldType} {pc : Nat} {lv : List (Nat × Value)} {r : List Value} {α : Type} {z : α} {τ : TS} (T : tOK X E cc nL ret) {F L : Nat} {f : TS → Option TS} (hf : ∀  (τ : TS) (v : TS), f τ = some v → tMet_v X.1.2.1 E yX9_readRule (ws_ yX9_readRule cX9_readRule 4 none) F L [.ref (E.2.2.2.2.1 0)] τ v) (hR : F + 1 ≤ X.1.2.2.2.1.frames ∧ 8 + (4 + 11) + L ≤ X.1.2.2.2.1.locals)  {K : TS → Option α} (h : (f τ).bind K = some z) (hst : Nat.ble (r.map Value.category).sum 8 = true) (d : decode cc pc = .ok (.invokevirtual 226, 3)) (k : ∀ τ', K τ' = some z → kW X τ' (pc + 3) lv r) : kW X τ pc lv (.ref (E.2.2.2.2.1 0) :: r) := by
  obtain ⟨v, h1, h2⟩ := bd_of h
  exact t_callV_v (As := []) T (hf _ _ h1) (cwV 0 T.1.2.2.2.2 (lw_V q1887 q1889 qs79 q152 q1890) rfl rfl rfl (by decide +kernel) hR) rfl hst d (k v h2)
theorem cX_readLine {X : KC TS} {E : TE} {cc : ByteArray} {nL : Nat} {ret : Option FieldType} {pc : Nat} {lv : List (Nat × Value)} {r : List Value} {α : Type} {z : α} {τ : TS} (T : tOK X E cc nL ret) {F L : Nat} {f : TS → Option TS} (hf : ∀  (τ : TS) (v : TS), f τ = some v → tMet_v X.1.2.1 E yX9_readLine (ws_ yX9_readLine cX9_readLine 1 none) F L [.ref (E.2.2.2.2.1 0)] τ v) (hR : F + 1 ≤ X.1.2.2.2.1.frames ∧ 8 + (1 + 11) + L ≤ X.1.2.2.2.1.locals)  {K : TS → Option α} (h : (f τ).bind K = some z) (hst : Nat.ble (r.map Value.category).sum 8 = true) (d : decode cc pc = .ok (.invokevirtual 217, 3)) (k : ∀ τ', K τ' = some z → kW X τ' (pc + 3) lv r) : kW X τ pc lv (.ref (E.2.2.2.2.1 0) :: r) := by
  obtain ⟨v, h1, h2⟩ := bd_of h
  exact t_callV_v (As := []) T (hf _ _ h1) (cwV 0 T.1.2.2.2.2 (lw_V q1864 q1866 qs74 q152 q1867) rfl rfl rfl (by decide +kernel) hR) rfl hst d (k v h2)
theorem cX_isBarred {X : KC TS} {E : TE} {cc : ByteArray} {nL : Nat} {ret : Option FieldType} {pc : Nat} {lv : List (Nat × Value)} {r : List Value} {α : Type} {z : α} {τ : TS} (T : tOK X E cc nL ret) {F L : Nat} {f : Int32 → Int32 → Int32 → Option Int32} (hf : ∀ (a0 : Int32) (a1 : Int32) (a2 : Int32) (v : Int32), f a0 a1 a2 = some v → tMet_i X.1.2.1 E yX9_isBarred (ws_ yX9_isBarred cX9_isBarred 4 (some .boolean)) F L [.ref (E.2.2.2.2.1 0), .int a0, .int a1, .int a2] τ v τ) (hR : F + 1 ≤ X.1.2.2.2.1.frames ∧ 8 + (4 + 11) + L ≤ X.1.2.2.2.1.locals) {b0 : Int32} {b1 : Int32} {b2 : Int32} {K : Int32 → Option α} (h : (f b0 b1 b2).bind K = some z) (hst : Nat.ble (r.map Value.category).sum 8 = true) (d : decode cc pc = .ok (.invokevirtual 254, 3)) (k : ∀ v, K v = some z → kW X τ (pc + 3) lv (.int v :: r)) : kW X τ pc lv (.int b2 :: .int b1 :: .int b0 :: .ref (E.2.2.2.2.1 0) :: r) := by
  obtain ⟨v, h1, h2⟩ := bd_of h
  exact t_callV_i (As := [.int b0, .int b1, .int b2]) T (hf _ _ _ _ h1) (cwV 3 T.1.2.2.2.2 (lw_V q1943 q1945 qs92 q152 q1946) rfl rfl rfl (by decide +kernel) hR) rfl hst d (k v h2)
theorem cX_deep {X : KC TS} {E : TE} {cc : ByteArray} {nL : Nat} {ret : Option FieldType} {pc : Nat} {lv : List (Nat × Value)} {r : List Value} {α : Type} {z : α} {τ : TS} (T : tOK X E cc nL ret) {F L : Nat} {f : Option Int32} (hf : ∀  (v : Int32), f = some v → tMet_i X.1.2.1 E yX9_deep (ws_ yX9_deep cX9_deep 1 (some .int)) F L [.ref (E.2.2.2.2.1 0)] τ v τ) (hR : F + 1 ≤ X.1.2.2.2.1.frames ∧ 8 + (1 + 11) + L ≤ X.1.2.2.2.1.locals)  {K : Int32 → Option α} (h : (f).bind K = some z) (hst : Nat.ble (r.map Value.category).sum 8 = true) (d : decode cc pc = .ok (.invokevirtual 279, 3)) (k : ∀ v, K v = some z → kW X τ (pc + 3) lv (.int v :: r)) : kW X τ pc lv (.ref (E.2.2.2.2.1 0) :: r) := by
  obtain ⟨v, h1, h2⟩ := bd_of h
  exact t_callV_i (As := []) T (hf _ h1) (cwV 0 T.1.2.2.2.2 (lw_V q1939 q1941 qs91 q152 q1942) rfl rfl rfl (by decide +kernel) hR) rfl hst d (k v h2)
theorem cX_wide {X : KC TS} {E : TE} {cc : ByteArray} {nL : Nat} {ret : Option FieldType} {pc : Nat} {lv : List (Nat × Value)} {r : List Value} {α : Type} {z : α} {τ : TS} (T : tOK X E cc nL ret) {F L : Nat} {f : Option Int32} (hf : ∀  (v : Int32), f = some v → tMet_i X.1.2.1 E yX9_wide (ws_ yX9_wide cX9_wide 1 (some .int)) F L [.ref (E.2.2.2.2.1 0)] τ v τ) (hR : F + 1 ≤ X.1.2.2.2.1.frames ∧ 8 + (1 + 11) + L ≤ X.1.2.2.2.1.locals)  {K : Int32 → Option α} (h : (f).bind K = some z) (hst : Nat.ble (r.map Value.category).sum 8 = true) (d : decode cc pc = .ok (.invokevirtual 275, 3)) (k : ∀ v, K v = some z → kW X τ (pc + 3) lv (.int v :: r)) : kW X τ pc lv (.ref (E.2.2.2.2.1 0) :: r) := by
  obtain ⟨v, h1, h2⟩ := bd_of h
  exact t_callV_i (As := []) T (hf _ h1) (cwV 0 T.1.2.2.2.2 (lw_V q1935 q1937 qs90 q152 q1938) rfl rfl rfl (by decide +kernel) hR) rfl hst d (k v h2)
theorem cX_isThere {X : KC TS} {E : TE} {cc : ByteArray} {nL : Nat} {ret : Option FieldType} {pc : Nat} {lv : List (Nat × Value)} {r : List Value} {α : Type} {z : α} {τ : TS} (T : tOK X E cc nL ret) {F L : Nat} {f : Int32 → Int32 → Int32 → Option Int32} (hf : ∀ (a0 : Int32) (a1 : Int32) (a2 : Int32) (v : Int32), f a0 a1 a2 = some v → tMet_i X.1.2.1 E yX9_isThere (ws_ yX9_isThere cX9_isThere 4 (some .boolean)) F L [.ref (E.2.2.2.2.1 0), .int a0, .int a1, .int a2] τ v τ) (hR : F + 1 ≤ X.1.2.2.2.1.frames ∧ 8 + (4 + 11) + L ≤ X.1.2.2.2.1.locals) {b0 : Int32} {b1 : Int32} {b2 : Int32} {K : Int32 → Option α} (h : (f b0 b1 b2).bind K = some z) (hst : Nat.ble (r.map Value.category).sum 8 = true) (d : decode cc pc = .ok (.invokevirtual 250, 3)) (k : ∀ v, K v = some z → kW X τ (pc + 3) lv (.int v :: r)) : kW X τ pc lv (.int b2 :: .int b1 :: .int b0 :: .ref (E.2.2.2.2.1 0) :: r) := by
  obtain ⟨v, h1, h2⟩ := bd_of h
  exact t_callV_i (As := [.int b0, .int b1, .int b2]) T (hf _ _ _ _ h1) (cwV 3 T.1.2.2.2.2 (lw_V q1931 q1933 qs89 q152 q1934) rfl rfl rfl (by decide +kernel) hR) rfl hst d (k v h2)
theorem cX_isCorner {X : KC TS} {E : TE} {cc : ByteArray} {nL : Nat} {ret : Option FieldType} {pc : Nat} {lv : List (Nat × Value)} {r : List Value} {α : Type} {z : α} {τ : TS} (T : tOK X E cc nL ret) {F L : Nat} {f : Int32 → Int32 → Option Int32} (hf : ∀ (a0 : Int32) (a1 : Int32) (v : Int32), f a0 a1 = some v → tMet_i X.1.2.1 E yX9_isCorner (ws_ yX9_isCorner cX9_isCorner 3 (some .boolean)) F L [.ref (E.2.2.2.2.1 0), .int a0, .int a1] τ v τ) (hR : F + 1 ≤ X.1.2.2.2.1.frames ∧ 8 + (3 + 11) + L ≤ X.1.2.2.2.1.locals) {b0 : Int32} {b1 : Int32} {K : Int32 → Option α} (h : (f b0 b1).bind K = some z) (hst : Nat.ble (r.map Value.category).sum 8 = true) (d : decode cc pc = .ok (.invokevirtual 296, 3)) (k : ∀ v, K v = some z → kW X τ (pc + 3) lv (.int v :: r)) : kW X τ pc lv (.int b1 :: .int b0 :: .ref (E.2.2.2.2.1 0) :: r) := by
  obtain ⟨v, h1, h2⟩ := bd_of h
  exact t_callV_i (As := [.int b0, .int b1]) T (hf _ _ _ h1) (cwV 2 T.1.2.2.2.2 (lw_V q1951 q1953 qs93 q152 q1954) rfl rfl rfl (by decide +kernel) hR) rfl hst d (k v h2)
theorem cX_kindAt {X : KC TS} {E : TE} {cc : ByteArray} {nL : Nat} {ret : Option FieldType} {pc : Nat} {lv : List (Nat × Value)} {r : List Value} {α : Type} {z : α} {τ : TS} (T : tOK X E cc nL ret) {F L : Nat} {f : Int32 → Int32 → Option Int32} (hf : ∀ (a0 : Int32) (a1 : Int32) (v : Int32), f a0 a1 = some v → tMet_i X.1.2.1 E yX9_kindAt (ws_ yX9_kindAt cX9_kindAt 3 (some .int)) F L [.ref (E.2.2.2.2.1 0), .int a0, .int a1] τ v τ) (hR : F + 1 ≤ X.1.2.2.2.1.frames ∧ 8 + (3 + 11) + L ≤ X.1.2.2.2.1.locals) {b0 : Int32} {b1 : Int32} {K : Int32 → Option α} (h : (f b0 b1).bind K = some z) (hst : Nat.ble (r.map Value.category).sum 8 = true) (d : decode cc pc = .ok (.invokevirtual 282, 3)) (k : ∀ v, K v = some z → kW X τ (pc + 3) lv (.int v :: r)) : kW X τ pc lv (.int b1 :: .int b0 :: .ref (E.2.2.2.2.1 0) :: r) := by
  obtain ⟨v, h1, h2⟩ := bd_of h
  exact t_callV_i (As := [.int b0, .int b1]) T (hf _ _ _ h1) (cwV 2 T.1.2.2.2.2 (lw_V q1958 q1960 qs94 q152 q1961) rfl rfl rfl (by decide +kernel) hR) rfl hst d (k v h2)
theorem cX_isKnown {X : KC TS} {E : TE} {cc : ByteArray} {nL : Nat} {ret : Option FieldType} {pc : Nat} {lv : List (Nat × Value)} {r : List Value} {α : Type} {z : α} {τ : TS} (T : tOK X E cc nL ret) {F L : Nat} {f : Int32 → Int32 → Option Int32} (hf : ∀ (a0 : Int32) (a1 : Int32) (v : Int32), f a0 a1 = some v → tMet_i X.1.2.1 E yX9_isKnown (ws_ yX9_isKnown cX9_isKnown 3 (some .boolean)) F L [.ref (E.2.2.2.2.1 0), .int a0, .int a1] τ v τ) (hR : F + 1 ≤ X.1.2.2.2.1.frames ∧ 8 + (3 + 11) + L ≤ X.1.2.2.2.1.locals) {b0 : Int32} {b1 : Int32} {K : Int32 → Option α} (h : (f b0 b1).bind K = some z) (hst : Nat.ble (r.map Value.category).sum 8 = true) (d : decode cc pc = .ok (.invokevirtual 302, 3)) (k : ∀ v, K v = some z → kW X τ (pc + 3) lv (.int v :: r)) : kW X τ pc lv (.int b1 :: .int b0 :: .ref (E.2.2.2.2.1 0) :: r) := by
  obtain ⟨v, h1, h2⟩ := bd_of h
  exact t_callV_i (As := [.int b0, .int b1]) T (hf _ _ _ h1) (cwV 2 T.1.2.2.2.2 (lw_V q1966 q1968 qs96 q152 q1969) rfl rfl rfl (by decide +kernel) hR) rfl hst d (k v h2)
theorem cX_lightAt {X : KC TS} {E : TE} {cc : ByteArray} {nL : Nat} {ret : Option FieldType} {pc : Nat} {lv : List (Nat × Value)} {r : List Value} {α : Type} {z : α} {τ : TS} (T : tOK X E cc nL ret) {F L : Nat} {f : Int32 → Int32 → Int32 → Option Int32} (hf : ∀ (a0 : Int32) (a1 : Int32) (a2 : Int32) (v : Int32), f a0 a1 a2 = some v → tMet_i X.1.2.1 E yX9_lightAt (ws_ yX9_lightAt cX9_lightAt 4 (some .int)) F L [.ref (E.2.2.2.2.1 0), .int a0, .int a1, .int a2] τ v τ) (hR : F + 1 ≤ X.1.2.2.2.1.frames ∧ 8 + (4 + 11) + L ≤ X.1.2.2.2.1.locals) {b0 : Int32} {b1 : Int32} {b2 : Int32} {K : Int32 → Option α} (h : (f b0 b1 b2).bind K = some z) (hst : Nat.ble (r.map Value.category).sum 8 = true) (d : decode cc pc = .ok (.invokevirtual 289, 3)) (k : ∀ v, K v = some z → kW X τ (pc + 3) lv (.int v :: r)) : kW X τ pc lv (.int b2 :: .int b1 :: .int b0 :: .ref (E.2.2.2.2.1 0) :: r) := by
  obtain ⟨v, h1, h2⟩ := bd_of h
  exact t_callV_i (As := [.int b0, .int b1, .int b2]) T (hf _ _ _ _ h1) (cwV 3 T.1.2.2.2.2 (lw_V q1962 q1964 qs95 q152 q1965) rfl rfl rfl (by decide +kernel) hR) rfl hst d (k v h2)
theorem cX_within {X : KC TS} {E : TE} {cc : ByteArray} {nL : Nat} {ret : Option FieldType} {pc : Nat} {lv : List (Nat × Value)} {r : List Value} {α : Type} {z : α} {τ : TS} (T : tOK X E cc nL ret) {F L : Nat} {f : Int32 → Int32 → Int32 → Option Int32} (hf : ∀ (a0 : Int32) (a1 : Int32) (a2 : Int32) (v : Int32), f a0 a1 a2 = some v → tMet_i X.1.2.1 E yX9_within (ws_ yX9_within cX9_within 3 (some .boolean)) F L [.int a0, .int a1, .int a2] τ v τ) (hR : F + 1 ≤ X.1.2.2.2.1.frames ∧ 8 + (3 + 11) + L ≤ X.1.2.2.2.1.locals) {b0 : Int32} {b1 : Int32} {b2 : Int32} {K : Int32 → Option α} (h : (f b0 b1 b2).bind K = some z) (hst : Nat.ble (r.map Value.category).sum 8 = true) (d : decode cc pc = .ok (.invokestatic 299, 3)) (k : ∀ v, K v = some z → kW X τ (pc + 3) lv (.int v :: r)) : kW X τ pc lv (.int b2 :: .int b1 :: .int b0 :: r) := by
  obtain ⟨v, h1, h2⟩ := bd_of h
  exact t_callS_i (As := [.int b0, .int b1, .int b2]) T (hf _ _ _ _ h1) (va_cwS 3 T.1.2.2.2.2 (lw_S q1955 q1956 q152 q1957) rfl rfl rfl (by decide +kernel) hR) rfl hst d (k v h2)
theorem cX_isGreen {X : KC TS} {E : TE} {cc : ByteArray} {nL : Nat} {ret : Option FieldType} {pc : Nat} {lv : List (Nat × Value)} {r : List Value} {α : Type} {z : α} {τ : TS} (T : tOK X E cc nL ret) {F L : Nat} {f : Int32 → Int32 → Int32 → Int32 → Option Int32} (hf : ∀ (a0 : Int32) (a1 : Int32) (a2 : Int32) (a3 : Int32) (v : Int32), f a0 a1 a2 a3 = some v → tMet_i X.1.2.1 E yX9_isGreen (ws_ yX9_isGreen cX9_isGreen 7 (some .boolean)) F L [.ref (E.2.2.2.2.1 0), .int a0, .int a1, .int a2, .int a3] τ v τ) (hR : F + 1 ≤ X.1.2.2.2.1.frames ∧ 8 + (7 + 11) + L ≤ X.1.2.2.2.1.locals) {b0 : Int32} {b1 : Int32} {b2 : Int32} {b3 : Int32} {K : Int32 → Option α} (h : (f b0 b1 b2 b3).bind K = some z) (hst : Nat.ble (r.map Value.category).sum 8 = true) (d : decode cc pc = .ok (.invokevirtual 292, 3)) (k : ∀ v, K v = some z → kW X τ (pc + 3) lv (.int v :: r)) : kW X τ pc lv (.int b3 :: .int b2 :: .int b1 :: .int b0 :: .ref (E.2.2.2.2.1 0) :: r) := by
  obtain ⟨v, h1, h2⟩ := bd_of h
  exact t_callV_i (As := [.int b0, .int b1, .int b2, .int b3]) T (hf _ _ _ _ _ h1) (cwV 4 T.1.2.2.2.2 (lw_V q1991 q1993 qs101 q152 q1994) rfl rfl rfl (by decide +kernel) hR) rfl hst d (k v h2)
theorem cX_isTimed {X : KC TS} {E : TE} {cc : ByteArray} {nL : Nat} {ret : Option FieldType} {pc : Nat} {lv : List (Nat × Value)} {r : List Value} {α : Type} {z : α} {τ : TS} (T : tOK X E cc nL ret) {F L : Nat} {f : Int32 → Int32 → Option Int32} (hf : ∀ (a0 : Int32) (a1 : Int32) (v : Int32), f a0 a1 = some v → tMet_i X.1.2.1 E yX9_isTimed (ws_ yX9_isTimed cX9_isTimed 3 (some .boolean)) F L [.ref (E.2.2.2.2.1 0), .int a0, .int a1] τ v τ) (hR : F + 1 ≤ X.1.2.2.2.1.frames ∧ 8 + (3 + 11) + L ≤ X.1.2.2.2.1.locals) {b0 : Int32} {b1 : Int32} {K : Int32 → Option α} (h : (f b0 b1).bind K = some z) (hst : Nat.ble (r.map Value.category).sum 8 = true) (d : decode cc pc = .ok (.invokevirtual 285, 3)) (k : ∀ v, K v = some z → kW X τ (pc + 3) lv (.int v :: r)) : kW X τ pc lv (.int b1 :: .int b0 :: .ref (E.2.2.2.2.1 0) :: r) := by
  obtain ⟨v, h1, h2⟩ := bd_of h
  exact t_callV_i (As := [.int b0, .int b1]) T (hf _ _ _ h1) (cwV 2 T.1.2.2.2.2 (lw_V q1987 q1989 qs100 q152 q1990) rfl rfl rfl (by decide +kernel) hR) rfl hst d (k v h2)
theorem cX_canGo {X : KC TS} {E : TE} {cc : ByteArray} {nL : Nat} {ret : Option FieldType} {pc : Nat} {lv : List (Nat × Value)} {r : List Value} {α : Type} {z : α} {τ : TS} (T : tOK X E cc nL ret) {F L : Nat} {f : Int32 → Int32 → Int32 → Option Int32} (hf : ∀ (a0 : Int32) (a1 : Int32) (a2 : Int32) (v : Int32), f a0 a1 a2 = some v → tMet_i X.1.2.1 E yX9_canGo (ws_ yX9_canGo cX9_canGo 5 (some .boolean)) F L [.ref (E.2.2.2.2.1 0), .int a0, .int a1, .int a2] τ v τ) (hR : F + 1 ≤ X.1.2.2.2.1.frames ∧ 8 + (5 + 11) + L ≤ X.1.2.2.2.1.locals) {b0 : Int32} {b1 : Int32} {b2 : Int32} {K : Int32 → Option α} (h : (f b0 b1 b2).bind K = some z) (hst : Nat.ble (r.map Value.category).sum 8 = true) (d : decode cc pc = .ok (.invokevirtual 309, 3)) (k : ∀ v, K v = some z → kW X τ (pc + 3) lv (.int v :: r)) : kW X τ pc lv (.int b2 :: .int b1 :: .int b0 :: .ref (E.2.2.2.2.1 0) :: r) := by
  obtain ⟨v, h1, h2⟩ := bd_of h
  exact t_callV_i (As := [.int b0, .int b1, .int b2]) T (hf _ _ _ _ h1) (cwV 3 T.1.2.2.2.2 (lw_V q1983 q1985 qs99 q152 q1986) rfl rfl rfl (by decide +kernel) hR) rfl hst d (k v h2)
theorem cX_isSecond {X : KC TS} {E : TE} {cc : ByteArray} {nL : Nat} {ret : Option FieldType} {pc : Nat} {lv : List (Nat × Value)} {r : List Value} {α : Type} {z : α} {τ : TS} (T : tOK X E cc nL ret) {F L : Nat} {f : Int32 → Option Int32} (hf : ∀ (a0 : Int32) (v : Int32), f a0 = some v → tMet_i X.1.2.1 E yX9_isSecond (ws_ yX9_isSecond cX9_isSecond 2 (some .boolean)) F L [.ref (E.2.2.2.2.1 0), .int a0] τ v τ) (hR : F + 1 ≤ X.1.2.2.2.1.frames ∧ 8 + (2 + 11) + L ≤ X.1.2.2.2.1.locals) {b0 : Int32} {K : Int32 → Option α} (h : (f b0).bind K = some z) (hst : Nat.ble (r.map Value.category).sum 8 = true) (d : decode cc pc = .ok (.invokevirtual 306, 3)) (k : ∀ v, K v = some z → kW X τ (pc + 3) lv (.int v :: r)) : kW X τ pc lv (.int b0 :: .ref (E.2.2.2.2.1 0) :: r) := by
  obtain ⟨v, h1, h2⟩ := bd_of h
  exact t_callV_i (As := [.int b0]) T (hf _ _ h1) (cwV 1 T.1.2.2.2.2 (lw_V q1978 q1980 qs98 q152 q1981) rfl rfl rfl (by decide +kernel) hR) rfl hst d (k v h2)
theorem cX_mayAsk {X : KC TS} {E : TE} {cc : ByteArray} {nL : Nat} {ret : Option FieldType} {pc : Nat} {lv : List (Nat × Value)} {r : List Value} {α : Type} {z : α} {τ : TS} (T : tOK X E cc nL ret) {F L : Nat} {f : Int32 → Int32 → Int32 → Int32 → Option Int32} (hf : ∀ (a0 : Int32) (a1 : Int32) (a2 : Int32) (a3 : Int32) (v : Int32), f a0 a1 a2 a3 = some v → tMet_i X.1.2.1 E yX9_mayAsk (ws_ yX9_mayAsk cX9_mayAsk 5 (some .boolean)) F L [.ref (E.2.2.2.2.1 0), .int a0, .int a1, .int a2, .int a3] τ v τ) (hR : F + 1 ≤ X.1.2.2.2.1.frames ∧ 8 + (5 + 11) + L ≤ X.1.2.2.2.1.locals) {b0 : Int32} {b1 : Int32} {b2 : Int32} {b3 : Int32} {K : Int32 → Option α} (h : (f b0 b1 b2 b3).bind K = some z) (hst : Nat.ble (r.map Value.category).sum 8 = true) (d : decode cc pc = .ok (.invokevirtual 312, 3)) (k : ∀ v, K v = some z → kW X τ (pc + 3) lv (.int v :: r)) : kW X τ pc lv (.int b3 :: .int b2 :: .int b1 :: .int b0 :: .ref (E.2.2.2.2.1 0) :: r) := by
  obtain ⟨v, h1, h2⟩ := bd_of h
  exact t_callV_i (As := [.int b0, .int b1, .int b2, .int b3]) T (hf _ _ _ _ _ h1) (cwV 4 T.1.2.2.2.2 (lw_V q1974 q1976 qs97 q152 q1977) rfl rfl rfl (by decide +kernel) hR) rfl hst d (k v h2)
theorem cX_waitFor {X : KC TS} {E : TE} {cc : ByteArray} {nL : Nat} {ret : Option FieldType} {pc : Nat} {lv : List (Nat × Value)} {r : List Value} {α : Type} {z : α} {τ : TS} (T : tOK X E cc nL ret) {F L : Nat} {f : Int32 → Int32 → Int32 → Int32 → Option Int32} (hf : ∀ (a0 : Int32) (a1 : Int32) (a2 : Int32) (a3 : Int32) (v : Int32), f a0 a1 a2 a3 = some v → tMet_i X.1.2.1 E yX9_waitFor (ws_ yX9_waitFor cX9_waitFor 6 (some .int)) F L [.ref (E.2.2.2.2.1 0), .int a0, .int a1, .int a2, .int a3] τ v τ) (hR : F + 1 ≤ X.1.2.2.2.1.frames ∧ 8 + (6 + 11) + L ≤ X.1.2.2.2.1.locals) {b0 : Int32} {b1 : Int32} {b2 : Int32} {b3 : Int32} {K : Int32 → Option α} (h : (f b0 b1 b2 b3).bind K = some z) (hst : Nat.ble (r.map Value.category).sum 8 = true) (d : decode cc pc = .ok (.invokevirtual 315, 3)) (k : ∀ v, K v = some z → kW X τ (pc + 3) lv (.int v :: r)) : kW X τ pc lv (.int b3 :: .int b2 :: .int b1 :: .int b0 :: .ref (E.2.2.2.2.1 0) :: r) := by
  obtain ⟨v, h1, h2⟩ := bd_of h
  exact t_callV_i (As := [.int b0, .int b1, .int b2, .int b3]) T (hf _ _ _ _ _ h1) (cwV 4 T.1.2.2.2.2 (lw_V q1999 q2001 qs102 q152 q2002) rfl rfl rfl (by decide +kernel) hR) rfl hst d (k v h2)
theorem cX_copies {X : KC TS} {E : TE} {cc : ByteArray} {nL : Nat} {ret : Option FieldType} {pc : Nat} {lv : List (Nat × Value)} {r : List Value} {α : Type} {z : α} {τ : TS} (T : tOK X E cc nL ret) {F L : Nat} {f : Int32 → Int32 → Int32 → TS → Option TS} (hf : ∀ (a0 : Int32) (a1 : Int32) (a2 : Int32) (τ : TS) (v : TS), f a0 a1 a2 τ = some v → tMet_v X.1.2.1 E yX9_copies (ws_ yX9_copies cX9_copies 5 none) F L [.ref (E.2.2.2.2.1 0), .int a0, .int a1, .int a2] τ v) (hR : F + 1 ≤ X.1.2.2.2.1.frames ∧ 8 + (5 + 11) + L ≤ X.1.2.2.2.1.locals) {b0 : Int32} {b1 : Int32} {b2 : Int32} {K : TS → Option α} (h : (f b0 b1 b2 τ).bind K = some z) (hst : Nat.ble (r.map Value.category).sum 8 = true) (d : decode cc pc = .ok (.invokevirtual 325, 3)) (k : ∀ τ', K τ' = some z → kW X τ' (pc + 3) lv r) : kW X τ pc lv (.int b2 :: .int b1 :: .int b0 :: .ref (E.2.2.2.2.1 0) :: r) := by
  obtain ⟨v, h1, h2⟩ := bd_of h
  exact t_callV_v (As := [.int b0, .int b1, .int b2]) T (hf _ _ _ _ _ h1) (cwV 3 T.1.2.2.2.2 (lw_V q2011 q2013 qs104 q152 q2014) rfl rfl rfl (by decide +kernel) hR) rfl hst d (k v h2)
theorem cX_keeps {X : KC TS} {E : TE} {cc : ByteArray} {nL : Nat} {ret : Option FieldType} {pc : Nat} {lv : List (Nat × Value)} {r : List Value} {α : Type} {z : α} {τ : TS} (T : tOK X E cc nL ret) {F L : Nat} {f : TS → Option TS} (hf : ∀  (τ : TS) (v : TS), f τ = some v → tMet_v X.1.2.1 E yX9_keeps (ws_ yX9_keeps cX9_keeps 2 none) F L [.ref (E.2.2.2.2.1 0)] τ v) (hR : F + 1 ≤ X.1.2.2.2.1.frames ∧ 8 + (2 + 11) + L ≤ X.1.2.2.2.1.locals)  {K : TS → Option α} (h : (f τ).bind K = some z) (hst : Nat.ble (r.map Value.category).sum 8 = true) (d : decode cc pc = .ok (.invokevirtual 329, 3)) (k : ∀ τ', K τ' = some z → kW X τ' (pc + 3) lv r) : kW X τ pc lv (.ref (E.2.2.2.2.1 0) :: r) := by
  obtain ⟨v, h1, h2⟩ := bd_of h
  exact t_callV_v (As := []) T (hf _ _ h1) (cwV 0 T.1.2.2.2.2 (lw_V q2007 q2009 qs103 q152 q2010) rfl rfl rfl (by decide +kernel) hR) rfl hst d (k v h2)
theorem cX_runTime {X : KC TS} {E : TE} {cc : ByteArray} {nL : Nat} {ret : Option FieldType} {pc : Nat} {lv : List (Nat × Value)} {r : List Value} {α : Type} {z : α} {τ : TS} (T : tOK X E cc nL ret) {F L : Nat} {f : Option Int32} (hf : ∀  (v : Int32), f = some v → tMet_i X.1.2.1 E yX9_runTime (ws_ yX9_runTime cX9_runTime 1 (some .int)) F L [.ref (E.2.2.2.2.1 0)] τ v τ) (hR : F + 1 ≤ X.1.2.2.2.1.frames ∧ 8 + (1 + 11) + L ≤ X.1.2.2.2.1.locals)  {K : Int32 → Option α} (h : (f).bind K = some z) (hst : Nat.ble (r.map Value.category).sum 8 = true) (d : decode cc pc = .ok (.invokevirtual 332, 3)) (k : ∀ v, K v = some z → kW X τ (pc + 3) lv (.int v :: r)) : kW X τ pc lv (.ref (E.2.2.2.2.1 0) :: r) := by
  obtain ⟨v, h1, h2⟩ := bd_of h
  exact t_callV_i (As := []) T (hf _ h1) (cwV 0 T.1.2.2.2.2 (lw_V q2015 q2017 qs105 q152 q2018) rfl rfl rfl (by decide +kernel) hR) rfl hst d (k v h2)
theorem cX_isHome {X : KC TS} {E : TE} {cc : ByteArray} {nL : Nat} {ret : Option FieldType} {pc : Nat} {lv : List (Nat × Value)} {r : List Value} {α : Type} {z : α} {τ : TS} (T : tOK X E cc nL ret) {F L : Nat} {f : Int32 → Int32 → Option Int32} (hf : ∀ (a0 : Int32) (a1 : Int32) (v : Int32), f a0 a1 = some v → tMet_i X.1.2.1 E yX9_isHome (ws_ yX9_isHome cX9_isHome 3 (some .boolean)) F L [.ref (E.2.2.2.2.1 0), .int a0, .int a1] τ v τ) (hR : F + 1 ≤ X.1.2.2.2.1.frames ∧ 8 + (3 + 11) + L ≤ X.1.2.2.2.1.locals) {b0 : Int32} {b1 : Int32} {K : Int32 → Option α} (h : (f b0 b1).bind K = some z) (hst : Nat.ble (r.map Value.category).sum 8 = true) (d : decode cc pc = .ok (.invokevirtual 335, 3)) (k : ∀ v, K v = some z → kW X τ (pc + 3) lv (.int v :: r)) : kW X τ pc lv (.int b1 :: .int b0 :: .ref (E.2.2.2.2.1 0) :: r) := by
  obtain ⟨v, h1, h2⟩ := bd_of h
  exact t_callV_i (As := [.int b0, .int b1]) T (hf _ _ _ h1) (cwV 2 T.1.2.2.2.2 (lw_V q2043 q2045 qs107 q152 q2046) rfl rfl rfl (by decide +kernel) hR) rfl hst d (k v h2)
theorem cX_soonestBy {X : KC TS} {E : TE} {cc : ByteArray} {nL : Nat} {ret : Option FieldType} {pc : Nat} {lv : List (Nat × Value)} {r : List Value} {α : Type} {z : α} {τ : TS} (T : tOK X E cc nL ret) {F L : Nat} {f : Int32 → Int32 → Int32 → Int32 → Option Int32} (hf : ∀ (a0 : Int32) (a1 : Int32) (a2 : Int32) (a3 : Int32) (v : Int32), f a0 a1 a2 a3 = some v → tMet_i X.1.2.1 E yX9_soonestBy (ws_ yX9_soonestBy cX9_soonestBy 5 (some .int)) F L [.ref (E.2.2.2.2.1 0), .int a0, .int a1, .int a2, .int a3] τ v τ) (hR : F + 1 ≤ X.1.2.2.2.1.frames ∧ 8 + (5 + 11) + L ≤ X.1.2.2.2.1.locals) {b0 : Int32} {b1 : Int32} {b2 : Int32} {b3 : Int32} {K : Int32 → Option α} (h : (f b0 b1 b2 b3).bind K = some z) (hst : Nat.ble (r.map Value.category).sum 8 = true) (d : decode cc pc = .ok (.invokevirtual 339, 3)) (k : ∀ v, K v = some z → kW X τ (pc + 3) lv (.int v :: r)) : kW X τ pc lv (.int b3 :: .int b2 :: .int b1 :: .int b0 :: .ref (E.2.2.2.2.1 0) :: r) := by
  obtain ⟨v, h1, h2⟩ := bd_of h
  exact t_callV_i (As := [.int b0, .int b1, .int b2, .int b3]) T (hf _ _ _ _ _ h1) (cwV 4 T.1.2.2.2.2 (lw_V q2048 q2050 qs108 q152 q2051) rfl rfl rfl (by decide +kernel) hR) rfl hst d (k v h2)
theorem cX_soonestFrom {X : KC TS} {E : TE} {cc : ByteArray} {nL : Nat} {ret : Option FieldType} {pc : Nat} {lv : List (Nat × Value)} {r : List Value} {α : Type} {z : α} {τ : TS} (T : tOK X E cc nL ret) {F L : Nat} {f : Int32 → Int32 → Int32 → Option Int32} (hf : ∀ (a0 : Int32) (a1 : Int32) (a2 : Int32) (v : Int32), f a0 a1 a2 = some v → tMet_i X.1.2.1 E yX9_soonestFrom (ws_ yX9_soonestFrom cX9_soonestFrom 7 (some .int)) F L [.ref (E.2.2.2.2.1 0), .int a0, .int a1, .int a2] τ v τ) (hR : F + 1 ≤ X.1.2.2.2.1.frames ∧ 8 + (7 + 11) + L ≤ X.1.2.2.2.1.locals) {b0 : Int32} {b1 : Int32} {b2 : Int32} {K : Int32 → Option α} (h : (f b0 b1 b2).bind K = some z) (hst : Nat.ble (r.map Value.category).sum 8 = true) (d : decode cc pc = .ok (.invokevirtual 342, 3)) (k : ∀ v, K v = some z → kW X τ (pc + 3) lv (.int v :: r)) : kW X τ pc lv (.int b2 :: .int b1 :: .int b0 :: .ref (E.2.2.2.2.1 0) :: r) := by
  obtain ⟨v, h1, h2⟩ := bd_of h
  exact t_callV_i (As := [.int b0, .int b1, .int b2]) T (hf _ _ _ _ h1) (cwV 3 T.1.2.2.2.2 (lw_V q2039 q2041 qs106 q152 q2042) rfl rfl rfl (by decide +kernel) hR) rfl hst d (k v h2)
theorem cX_turnsFrom {X : KC TS} {E : TE} {cc : ByteArray} {nL : Nat} {ret : Option FieldType} {pc : Nat} {lv : List (Nat × Value)} {r : List Value} {α : Type} {z : α} {τ : TS} (T : tOK X E cc nL ret) {F L : Nat} {f : Int32 → Int32 → Int32 → Int32 → Int32 → Option Int32} (hf : ∀ (a0 : Int32) (a1 : Int32) (a2 : Int32) (a3 : Int32) (a4 : Int32) (v : Int32), f a0 a1 a2 a3 a4 = some v → tMet_i X.1.2.1 E yX9_turnsFrom (ws_ yX9_turnsFrom cX9_turnsFrom 10 (some .int)) F L [.ref (E.2.2.2.2.1 0), .int a0, .int a1, .int a2, .int a3, .int a4] τ v τ) (hR : F + 1 ≤ X.1.2.2.2.1.frames ∧ 8 + (10 + 11) + L ≤ X.1.2.2.2.1.locals) {b0 : Int32} {b1 : Int32} {b2 : Int32} {b3 : Int32} {b4 : Int32} {K : Int32 → Option α} (h : (f b0 b1 b2 b3 b4).bind K = some z) (hst : Nat.ble (r.map Value.category).sum 8 = true) (d : decode cc pc = .ok (.invokevirtual 345, 3)) (k : ∀ v, K v = some z → kW X τ (pc + 3) lv (.int v :: r)) : kW X τ pc lv (.int b4 :: .int b3 :: .int b2 :: .int b1 :: .int b0 :: .ref (E.2.2.2.2.1 0) :: r) := by
  obtain ⟨v, h1, h2⟩ := bd_of h
  exact t_callV_i (As := [.int b0, .int b1, .int b2, .int b3, .int b4]) T (hf _ _ _ _ _ _ h1) (cwV 5 T.1.2.2.2.2 (lw_V q2060 q2062 qs109 q152 q2063) rfl rfl rfl (by decide +kernel) hR) rfl hst d (k v h2)
theorem cX_asks {X : KC TS} {E : TE} {cc : ByteArray} {nL : Nat} {ret : Option FieldType} {pc : Nat} {lv : List (Nat × Value)} {r : List Value} {α : Type} {z : α} {τ : TS} (T : tOK X E cc nL ret) {F L : Nat} {f : Int32 → Int32 → Int32 → Int32 → TS → Option TS} (hf : ∀ (a0 : Int32) (a1 : Int32) (a2 : Int32) (a3 : Int32) (τ : TS) (v : TS), f a0 a1 a2 a3 τ = some v → tMet_v X.1.2.1 E yX9_asks (ws_ yX9_asks cX9_asks 5 none) F L [.ref (E.2.2.2.2.1 0), .int a0, .int a1, .int a2, .int a3] τ v) (hR : F + 1 ≤ X.1.2.2.2.1.frames ∧ 8 + (5 + 11) + L ≤ X.1.2.2.2.1.locals) {b0 : Int32} {b1 : Int32} {b2 : Int32} {b3 : Int32} {K : TS → Option α} (h : (f b0 b1 b2 b3 τ).bind K = some z) (hst : Nat.ble (r.map Value.category).sum 8 = true) (d : decode cc pc = .ok (.invokevirtual 389, 3)) (k : ∀ τ', K τ' = some z → kW X τ' (pc + 3) lv r) : kW X τ pc lv (.int b3 :: .int b2 :: .int b1 :: .int b0 :: .ref (E.2.2.2.2.1 0) :: r) := by
  obtain ⟨v, h1, h2⟩ := bd_of h
  exact t_callV_v (As := [.int b0, .int b1, .int b2, .int b3]) T (hf _ _ _ _ _ _ h1) (cwV 4 T.1.2.2.2.2 (lw_V q2076 q2078 qs112 q152 q2079) rfl rfl rfl (by decide +kernel) hR) rfl hst d (k v h2)
theorem cX_isGoer {X : KC TS} {E : TE} {cc : ByteArray} {nL : Nat} {ret : Option FieldType} {pc : Nat} {lv : List (Nat × Value)} {r : List Value} {α : Type} {z : α} {τ : TS} (T : tOK X E cc nL ret) {F L : Nat} {f : Int32 → Option Int32} (hf : ∀ (a0 : Int32) (v : Int32), f a0 = some v → tMet_i X.1.2.1 E yX9_isGoer (ws_ yX9_isGoer cX9_isGoer 2 (some .boolean)) F L [.ref (E.2.2.2.2.1 0), .int a0] τ v τ) (hR : F + 1 ≤ X.1.2.2.2.1.frames ∧ 8 + (2 + 11) + L ≤ X.1.2.2.2.1.locals) {b0 : Int32} {K : Int32 → Option α} (h : (f b0).bind K = some z) (hst : Nat.ble (r.map Value.category).sum 8 = true) (d : decode cc pc = .ok (.invokevirtual 383, 3)) (k : ∀ v, K v = some z → kW X τ (pc + 3) lv (.int v :: r)) : kW X τ pc lv (.int b0 :: .ref (E.2.2.2.2.1 0) :: r) := by
  obtain ⟨v, h1, h2⟩ := bd_of h
  exact t_callV_i (As := [.int b0]) T (hf _ _ h1) (cwV 1 T.1.2.2.2.2 (lw_V q2068 q2070 qs110 q152 q2071) rfl rfl rfl (by decide +kernel) hR) rfl hst d (k v h2)
theorem cX_isPlace {X : KC TS} {E : TE} {cc : ByteArray} {nL : Nat} {ret : Option FieldType} {pc : Nat} {lv : List (Nat × Value)} {r : List Value} {α : Type} {z : α} {τ : TS} (T : tOK X E cc nL ret) {F L : Nat} {f : Int32 → Int32 → Int32 → Option Int32} (hf : ∀ (a0 : Int32) (a1 : Int32) (a2 : Int32) (v : Int32), f a0 a1 a2 = some v → tMet_i X.1.2.1 E yX9_isPlace (ws_ yX9_isPlace cX9_isPlace 4 (some .boolean)) F L [.ref (E.2.2.2.2.1 0), .int a0, .int a1, .int a2] τ v τ) (hR : F + 1 ≤ X.1.2.2.2.1.frames ∧ 8 + (4 + 11) + L ≤ X.1.2.2.2.1.locals) {b0 : Int32} {b1 : Int32} {b2 : Int32} {K : Int32 → Option α} (h : (f b0 b1 b2).bind K = some z) (hst : Nat.ble (r.map Value.category).sum 8 = true) (d : decode cc pc = .ok (.invokevirtual 386, 3)) (k : ∀ v, K v = some z → kW X τ (pc + 3) lv (.int v :: r)) : kW X τ pc lv (.int b2 :: .int b1 :: .int b0 :: .ref (E.2.2.2.2.1 0) :: r) := by
  obtain ⟨v, h1, h2⟩ := bd_of h
  exact t_callV_i (As := [.int b0, .int b1, .int b2]) T (hf _ _ _ _ h1) (cwV 3 T.1.2.2.2.2 (lw_V q2072 q2074 qs111 q152 q2075) rfl rfl rfl (by decide +kernel) hR) rfl hst d (k v h2)
theorem cX_isUnknown {X : KC TS} {E : TE} {cc : ByteArray} {nL : Nat} {ret : Option FieldType} {pc : Nat} {lv : List (Nat × Value)} {r : List Value} {α : Type} {z : α} {τ : TS} (T : tOK X E cc nL ret) {F L : Nat} {f : Int32 → Int32 → Option Int32} (hf : ∀ (a0 : Int32) (a1 : Int32) (v : Int32), f a0 a1 = some v → tMet_i X.1.2.1 E yX9_isUnknown (ws_ yX9_isUnknown cX9_isUnknown 3 (some .boolean)) F L [.ref (E.2.2.2.2.1 0), .int a0, .int a1] τ v τ) (hR : F + 1 ≤ X.1.2.2.2.1.frames ∧ 8 + (3 + 11) + L ≤ X.1.2.2.2.1.locals) {b0 : Int32} {b1 : Int32} {K : Int32 → Option α} (h : (f b0 b1).bind K = some z) (hst : Nat.ble (r.map Value.category).sum 8 = true) (d : decode cc pc = .ok (.invokevirtual 362, 3)) (k : ∀ v, K v = some z → kW X τ (pc + 3) lv (.int v :: r)) : kW X τ pc lv (.int b1 :: .int b0 :: .ref (E.2.2.2.2.1 0) :: r) := by
  obtain ⟨v, h1, h2⟩ := bd_of h
  exact t_callV_i (As := [.int b0, .int b1]) T (hf _ _ _ h1) (cwV 2 T.1.2.2.2.2 (lw_V q2084 q2086 qs114 q152 q2087) rfl rfl rfl (by decide +kernel) hR) rfl hst d (k v h2)
theorem cX_both {X : KC TS} {E : TE} {cc : ByteArray} {nL : Nat} {ret : Option FieldType} {pc : Nat} {lv : List (Nat × Value)} {r : List Value} {α : Type} {z : α} {τ : TS} (T : tOK X E cc nL ret) {F L : Nat} {f : Int32 → Int32 → Int32 → Option Int32} (hf : ∀ (a0 : Int32) (a1 : Int32) (a2 : Int32) (v : Int32), f a0 a1 a2 = some v → tMet_i X.1.2.1 E yX9_both (ws_ yX9_both cX9_both 3 (some .int)) F L [.int a0, .int a1, .int a2] τ v τ) (hR : F + 1 ≤ X.1.2.2.2.1.frames ∧ 8 + (3 + 11) + L ≤ X.1.2.2.2.1.locals) {b0 : Int32} {b1 : Int32} {b2 : Int32} {K : Int32 → Option α} (h : (f b0 b1 b2).bind K = some z) (hst : Nat.ble (r.map Value.category).sum 8 = true) (d : decode cc pc = .ok (.invokestatic 272, 3)) (k : ∀ v, K v = some z → kW X τ (pc + 3) lv (.int v :: r)) : kW X τ pc lv (.int b2 :: .int b1 :: .int b0 :: r) := by
  obtain ⟨v, h1, h2⟩ := bd_of h
  exact t_callS_i (As := [.int b0, .int b1, .int b2]) T (hf _ _ _ _ h1) (va_cwS 3 T.1.2.2.2.2 (lw_S q2108 q2109 q152 q2110) rfl rfl rfl (by decide +kernel) hR) rfl hst d (k v h2)
theorem cX_worthAt {X : KC TS} {E : TE} {cc : ByteArray} {nL : Nat} {ret : Option FieldType} {pc : Nat} {lv : List (Nat × Value)} {r : List Value} {α : Type} {z : α} {τ : TS} (T : tOK X E cc nL ret) {F L : Nat} {f : Int32 → TS → Option (Int32 × TS)} (hf : ∀ (a0 : Int32) (τ : TS) (v : (Int32 × TS)), f a0 τ = some v → tMet_i X.1.2.1 E yX9_worthAt (ws_ yX9_worthAt cX9_worthAt 5 (some .int)) F L [.ref (E.2.2.2.2.1 0), .int a0] τ v.1 v.2) (hR : F + 1 ≤ X.1.2.2.2.1.frames ∧ 8 + (5 + 11) + L ≤ X.1.2.2.2.1.locals) {b0 : Int32} {K : Int32 → TS → Option α} (h : bd2 (f b0 τ) K = some z) (hst : Nat.ble (r.map Value.category).sum 8 = true) (d : decode cc pc = .ok (.invokevirtual 380, 3)) (k : ∀ v τ', K v τ' = some z → kW X τ' (pc + 3) lv (.int v :: r)) : kW X τ pc lv (.int b0 :: .ref (E.2.2.2.2.1 0) :: r) := by
  obtain ⟨v, τ2, h1, h2⟩ := bd2_of h
  exact t_callV_i (As := [.int b0]) T (hf _ _ _ h1) (cwV 1 T.1.2.2.2.2 (lw_V q2104 q2106 qs119 q152 q2107) rfl rfl rfl (by decide +kernel) hR) rfl hst d (k v τ2 h2)
theorem cX_worthBy {X : KC TS} {E : TE} {cc : ByteArray} {nL : Nat} {ret : Option FieldType} {pc : Nat} {lv : List (Nat × Value)} {r : List Value} {α : Type} {z : α} {τ : TS} (T : tOK X E cc nL ret) {F L : Nat} {f : Int32 → Int32 → Int32 → Int32 → Int32 → TS → Option (Int32 × TS)} (hf : ∀ (a0 : Int32) (a1 : Int32) (a2 : Int32) (a3 : Int32) (a4 : Int32) (τ : TS) (v : (Int32 × TS)), f a0 a1 a2 a3 a4 τ = some v → tMet_i X.1.2.1 E yX9_worthBy (ws_ yX9_worthBy cX9_worthBy 8 (some .int)) F L [.ref (E.2.2.2.2.1 0), .int a0, .int a1, .int a2, .int a3, .int a4] τ v.1 v.2) (hR : F + 1 ≤ X.1.2.2.2.1.frames ∧ 8 + (8 + 11) + L ≤ X.1.2.2.2.1.locals) {b0 : Int32} {b1 : Int32} {b2 : Int32} {b3 : Int32} {b4 : Int32} {K : Int32 → TS → Option α} (h : bd2 (f b0 b1 b2 b3 b4 τ) K = some z) (hst : Nat.ble (r.map Value.category).sum 8 = true) (d : decode cc pc = .ok (.invokevirtual 374, 3)) (k : ∀ v τ', K v τ' = some z → kW X τ' (pc + 3) lv (.int v :: r)) : kW X τ pc lv (.int b4 :: .int b3 :: .int b2 :: .int b1 :: .int b0 :: .ref (E.2.2.2.2.1 0) :: r) := by
  obtain ⟨v, τ2, h1, h2⟩ := bd2_of h
  exact t_callV_i (As := [.int b0, .int b1, .int b2, .int b3, .int b4]) T (hf _ _ _ _ _ _ _ h1) (cwV 5 T.1.2.2.2.2 (lw_V q2100 q2102 qs118 q152 q2103) rfl rfl rfl (by decide +kernel) hR) rfl hst d (k v τ2 h2)
theorem cX_wayOf {X : KC TS} {E : TE} {cc : ByteArray} {nL : Nat} {ret : Option FieldType} {pc : Nat} {lv : List (Nat × Value)} {r : List Value} {α : Type} {z : α} {τ : TS} (T : tOK X E cc nL ret) {F L : Nat} {f : Int32 → Int32 → Int32 → Int32 → TS → Option (Int32 × TS)} (hf : ∀ (a0 : Int32) (a1 : Int32) (a2 : Int32) (a3 : Int32) (τ : TS) (v : (Int32 × TS)), f a0 a1 a2 a3 τ = some v → tMet_i X.1.2.1 E yX9_wayOf (ws_ yX9_wayOf cX9_wayOf 9 (some .int)) F L [.ref (E.2.2.2.2.1 0), .int a0, .int a1, .int a2, .int a3] τ v.1 v.2) (hR : F + 1 ≤ X.1.2.2.2.1.frames ∧ 8 + (9 + 11) + L ≤ X.1.2.2.2.1.locals) {b0 : Int32} {b1 : Int32} {b2 : Int32} {b3 : Int32} {K : Int32 → TS → Option α} (h : bd2 (f b0 b1 b2 b3 τ) K = some z) (hst : Nat.ble (r.map Value.category).sum 8 = true) (d : decode cc pc = .ok (.invokevirtual 371, 3)) (k : ∀ v τ', K v τ' = some z → kW X τ' (pc + 3) lv (.int v :: r)) : kW X τ pc lv (.int b3 :: .int b2 :: .int b1 :: .int b0 :: .ref (E.2.2.2.2.1 0) :: r) := by
  obtain ⟨v, τ2, h1, h2⟩ := bd2_of h
  exact t_callV_i (As := [.int b0, .int b1, .int b2, .int b3]) T (hf _ _ _ _ _ _ h1) (cwV 4 T.1.2.2.2.2 (lw_V q2096 q2098 qs117 q152 q2099) rfl rfl rfl (by decide +kernel) hR) rfl hst d (k v τ2 h2)
theorem cX_worthSeen {X : KC TS} {E : TE} {cc : ByteArray} {nL : Nat} {ret : Option FieldType} {pc : Nat} {lv : List (Nat × Value)} {r : List Value} {α : Type} {z : α} {τ : TS} (T : tOK X E cc nL ret) {F L : Nat} {f : Int32 → Int32 → Int32 → Int32 → TS → Option (Int32 × TS)} (hf : ∀ (a0 : Int32) (a1 : Int32) (a2 : Int32) (a3 : Int32) (τ : TS) (v : (Int32 × TS)), f a0 a1 a2 a3 τ = some v → tMet_i X.1.2.1 E yX9_worthSeen (ws_ yX9_worthSeen cX9_worthSeen 6 (some .int)) F L [.ref (E.2.2.2.2.1 0), .int a0, .int a1, .int a2, .int a3] τ v.1 v.2) (hR : F + 1 ≤ X.1.2.2.2.1.frames ∧ 8 + (6 + 11) + L ≤ X.1.2.2.2.1.locals) {b0 : Int32} {b1 : Int32} {b2 : Int32} {b3 : Int32} {K : Int32 → TS → Option α} (h : bd2 (f b0 b1 b2 b3 τ) K = some z) (hst : Nat.ble (r.map Value.category).sum 8 = true) (d : decode cc pc = .ok (.invokevirtual 368, 3)) (k : ∀ v τ', K v τ' = some z → kW X τ' (pc + 3) lv (.int v :: r)) : kW X τ pc lv (.int b3 :: .int b2 :: .int b1 :: .int b0 :: .ref (E.2.2.2.2.1 0) :: r) := by
  obtain ⟨v, τ2, h1, h2⟩ := bd2_of h
  exact t_callV_i (As := [.int b0, .int b1, .int b2, .int b3]) T (hf _ _ _ _ _ _ h1) (cwV 4 T.1.2.2.2.2 (lw_V q2092 q2094 qs116 q152 q2095) rfl rfl rfl (by decide +kernel) hR) rfl hst d (k v τ2 h2)
theorem cX_worthHidden {X : KC TS} {E : TE} {cc : ByteArray} {nL : Nat} {ret : Option FieldType} {pc : Nat} {lv : List (Nat × Value)} {r : List Value} {α : Type} {z : α} {τ : TS} (T : tOK X E cc nL ret) {F L : Nat} {f : Int32 → Int32 → Int32 → TS → Option (Int32 × TS)} (hf : ∀ (a0 : Int32) (a1 : Int32) (a2 : Int32) (τ : TS) (v : (Int32 × TS)), f a0 a1 a2 τ = some v → tMet_i X.1.2.1 E yX9_worthHidden (ws_ yX9_worthHidden cX9_worthHidden 10 (some .int)) F L [.ref (E.2.2.2.2.1 0), .int a0, .int a1, .int a2] τ v.1 v.2) (hR : F + 1 ≤ X.1.2.2.2.1.frames ∧ 8 + (10 + 11) + L ≤ X.1.2.2.2.1.locals) {b0 : Int32} {b1 : Int32} {b2 : Int32} {K : Int32 → TS → Option α} (h : bd2 (f b0 b1 b2 τ) K = some z) (hst : Nat.ble (r.map Value.category).sum 8 = true) (d : decode cc pc = .ok (.invokevirtual 365, 3)) (k : ∀ v τ', K v τ' = some z → kW X τ' (pc + 3) lv (.int v :: r)) : kW X τ pc lv (.int b2 :: .int b1 :: .int b0 :: .ref (E.2.2.2.2.1 0) :: r) := by
  obtain ⟨v, τ2, h1, h2⟩ := bd2_of h
  exact t_callV_i (As := [.int b0, .int b1, .int b2]) T (hf _ _ _ _ _ h1) (cwV 3 T.1.2.2.2.2 (lw_V q2088 q2090 qs115 q152 q2091) rfl rfl rfl (by decide +kernel) hR) rfl hst d (k v τ2 h2)
theorem cX_worthFrom {X : KC TS} {E : TE} {cc : ByteArray} {nL : Nat} {ret : Option FieldType} {pc : Nat} {lv : List (Nat × Value)} {r : List Value} {α : Type} {z : α} {τ : TS} (T : tOK X E cc nL ret) {F L : Nat} {f : Int32 → Int32 → Int32 → TS → Option (Int32 × TS)} (hf : ∀ (a0 : Int32) (a1 : Int32) (a2 : Int32) (τ : TS) (v : (Int32 × TS)), f a0 a1 a2 τ = some v → tMet_i X.1.2.1 E yX9_worthFrom (ws_ yX9_worthFrom cX9_worthFrom 7 (some .int)) F L [.ref (E.2.2.2.2.1 0), .int a0, .int a1, .int a2] τ v.1 v.2) (hR : F + 1 ≤ X.1.2.2.2.1.frames ∧ 8 + (7 + 11) + L ≤ X.1.2.2.2.1.locals) {b0 : Int32} {b1 : Int32} {b2 : Int32} {K : Int32 → TS → Option α} (h : bd2 (f b0 b1 b2 τ) K = some z) (hst : Nat.ble (r.map Value.category).sum 8 = true) (d : decode cc pc = .ok (.invokevirtual 377, 3)) (k : ∀ v τ', K v τ' = some z → kW X τ' (pc + 3) lv (.int v :: r)) : kW X τ pc lv (.int b2 :: .int b1 :: .int b0 :: .ref (E.2.2.2.2.1 0) :: r) := by
  obtain ⟨v, τ2, h1, h2⟩ := bd2_of h
  exact t_callV_i (As := [.int b0, .int b1, .int b2]) T (hf _ _ _ _ _ h1) (cwV 3 T.1.2.2.2.2 (lw_V q2080 q2082 qs113 q152 q2083) rfl rfl rfl (by decide +kernel) hR) rfl hst d (k v τ2 h2)
theorem cX_watch {X : KC TS} {E : TE} {cc : ByteArray} {nL : Nat} {ret : Option FieldType} {pc : Nat} {lv : List (Nat × Value)} {r : List Value} {α : Type} {z : α} {τ : TS} (T : tOK X E cc nL ret) {F L : Nat} {f : Int32 → Int32 → Int32 → TS → Option (Int32 × TS)} (hf : ∀ (a0 : Int32) (a1 : Int32) (a2 : Int32) (τ : TS) (v : (Int32 × TS)), f a0 a1 a2 τ = some v → tMet_i X.1.2.1 E yX9_watch (ws_ yX9_watch cX9_watch 8 (some .int)) F L [.ref (E.2.2.2.2.1 0), .int a0, .int a1, .int a2] τ v.1 v.2) (hR : F + 1 ≤ X.1.2.2.2.1.frames ∧ 8 + (8 + 11) + L ≤ X.1.2.2.2.1.locals) {b0 : Int32} {b1 : Int32} {b2 : Int32} {K : Int32 → TS → Option α} (h : bd2 (f b0 b1 b2 τ) K = some z) (hst : Nat.ble (r.map Value.category).sum 8 = true) (d : decode cc pc = .ok (.invokevirtual 396, 3)) (k : ∀ v τ', K v τ' = some z → kW X τ' (pc + 3) lv (.int v :: r)) : kW X τ pc lv (.int b2 :: .int b1 :: .int b0 :: .ref (E.2.2.2.2.1 0) :: r) := by
  obtain ⟨v, τ2, h1, h2⟩ := bd2_of h
  exact t_callV_i (As := [.int b0, .int b1, .int b2]) T (hf _ _ _ _ _ h1) (cwV 3 T.1.2.2.2.2 (lw_V q2135 q2124 q2125 q152 q2126) rfl rfl rfl (by decide +kernel) hR) rfl hst d (k v τ2 h2)
theorem cX_meanFrom0 {X : KC TS} {E : TE} {cc : ByteArray} {nL : Nat} {ret : Option FieldType} {pc : Nat} {lv : List (Nat × Value)} {r : List Value} {α : Type} {z : α} {τ : TS} (T : tOK X E cc nL ret) {F L : Nat} {f : Int32 → TS → Option (Int32 × TS)} (hf : ∀ (a0 : Int32) (τ : TS) (v : (Int32 × TS)), f a0 τ = some v → tMet_i X.1.2.1 E yX9_meanFrom0 (ws_ yX9_meanFrom0 cX9_meanFrom0 2 (some .int)) F L [.ref (E.2.2.2.2.1 0), .int a0] τ v.1 v.2) (hR : F + 1 ≤ X.1.2.2.2.1.frames ∧ 8 + (2 + 11) + L ≤ X.1.2.2.2.1.locals) {b0 : Int32} {K : Int32 → TS → Option α} (h : bd2 (f b0 τ) K = some z) (hst : Nat.ble (r.map Value.category).sum 8 = true) (d : decode cc pc = .ok (.invokevirtual 393, 3)) (k : ∀ v τ', K v τ' = some z → kW X τ' (pc + 3) lv (.int v :: r)) : kW X τ pc lv (.int b0 :: .ref (E.2.2.2.2.1 0) :: r) := by
  obtain ⟨v, τ2, h1, h2⟩ := bd2_of h
  exact t_callV_i (As := [.int b0]) T (hf _ _ _ h1) (cwV 1 T.1.2.2.2.2 (lw_V q2131 q2133 qs120 q152 q2134) rfl rfl rfl (by decide +kernel) hR) rfl hst d (k v τ2 h2)
theorem cX_chanceFrom {X : KC TS} {E : TE} {cc : ByteArray} {nL : Nat} {ret : Option FieldType} {pc : Nat} {lv : List (Nat × Value)} {r : List Value} {α : Type} {z : α} {τ : TS} (T : tOK X E cc nL ret) {F L : Nat} {f : Int32 → Int32 → Int32 → TS → Option (Int32 × TS)} (hf : ∀ (a0 : Int32) (a1 : Int32) (a2 : Int32) (τ : TS) (v : (Int32 × TS)), f a0 a1 a2 τ = some v → tMet_i X.1.2.1 E yX9_chanceFrom (ws_ yX9_chanceFrom cX9_chanceFrom 11 (some .int)) F L [.ref (E.2.2.2.2.1 0), .int a0, .int a1, .int a2] τ v.1 v.2) (hR : F + 1 ≤ X.1.2.2.2.1.frames ∧ 8 + (11 + 11) + L ≤ X.1.2.2.2.1.locals) {b0 : Int32} {b1 : Int32} {b2 : Int32} {K : Int32 → TS → Option α} (h : bd2 (f b0 b1 b2 τ) K = some z) (hst : Nat.ble (r.map Value.category).sum 8 = true) (d : decode cc pc = .ok (.invokevirtual 408, 3)) (k : ∀ v τ', K v τ' = some z → kW X τ' (pc + 3) lv (.int v :: r)) : kW X τ pc lv (.int b2 :: .int b1 :: .int b0 :: .ref (E.2.2.2.2.1 0) :: r) := by
  obtain ⟨v, τ2, h1, h2⟩ := bd2_of h
  exact t_callV_i (As := [.int b0, .int b1, .int b2]) T (hf _ _ _ _ _ h1) (cwV 3 T.1.2.2.2.2 (lw_V q2140 q2142 qs121 q152 q2143) rfl rfl rfl (by decide +kernel) hR) rfl hst d (k v τ2 h2)
theorem cX_slowTime {X : KC TS} {E : TE} {cc : ByteArray} {nL : Nat} {ret : Option FieldType} {pc : Nat} {lv : List (Nat × Value)} {r : List Value} {α : Type} {z : α} {τ : TS} (T : tOK X E cc nL ret) {F L : Nat} {f : Option Int32} (hf : ∀  (v : Int32), f = some v → tMet_i X.1.2.1 E yX9_slowTime (ws_ yX9_slowTime cX9_slowTime 1 (some .int)) F L [.ref (E.2.2.2.2.1 0)] τ v τ) (hR : F + 1 ≤ X.1.2.2.2.1.frames ∧ 8 + (1 + 11) + L ≤ X.1.2.2.2.1.locals)  {K : Int32 → Option α} (h : (f).bind K = some z) (hst : Nat.ble (r.map Value.category).sum 8 = true) (d : decode cc pc = .ok (.invokevirtual 411, 3)) (k : ∀ v, K v = some z → kW X τ (pc + 3) lv (.int v :: r)) : kW X τ pc lv (.ref (E.2.2.2.2.1 0) :: r) := by
  obtain ⟨v, h1, h2⟩ := bd_of h
  exact t_callV_i (As := []) T (hf _ h1) (cwV 0 T.1.2.2.2.2 (lw_V q2156 q2158 qs124 q152 q2159) rfl rfl rfl (by decide +kernel) hR) rfl hst d (k v h2)
theorem cX_fastest {X : KC TS} {E : TE} {cc : ByteArray} {nL : Nat} {ret : Option FieldType} {pc : Nat} {lv : List (Nat × Value)} {r : List Value} {α : Type} {z : α} {τ : TS} (T : tOK X E cc nL ret) {F L : Nat} {f : Option Int32} (hf : ∀  (v : Int32), f = some v → tMet_i X.1.2.1 E yX9_fastest (ws_ yX9_fastest cX9_fastest 1 (some .int)) F L [.ref (E.2.2.2.2.1 0)] τ v τ) (hR : F + 1 ≤ X.1.2.2.2.1.frames ∧ 8 + (1 + 11) + L ≤ X.1.2.2.2.1.locals)  {K : Int32 → Option α} (h : (f).bind K = some z) (hst : Nat.ble (r.map Value.category).sum 8 = true) (d : decode cc pc = .ok (.invokevirtual 414, 3)) (k : ∀ v, K v = some z → kW X τ (pc + 3) lv (.int v :: r)) : kW X τ pc lv (.ref (E.2.2.2.2.1 0) :: r) := by
  obtain ⟨v, h1, h2⟩ := bd_of h
  exact t_callV_i (As := []) T (hf _ h1) (cwV 0 T.1.2.2.2.2 (lw_V q2152 q2154 qs123 q152 q2155) rfl rfl rfl (by decide +kernel) hR) rfl hst d (k v h2)
theorem cX_xAt {X : KC TS} {E : TE} {cc : ByteArray} {nL : Nat} {ret : Option FieldType} {pc : Nat} {lv : List (Nat × Value)} {r : List Value} {α : Type} {z : α} {τ : TS} (T : tOK X E cc nL ret) {F L : Nat} {f : Int32 → Option Int32} (hf : ∀ (a0 : Int32) (v : Int32), f a0 = some v → tMet_i X.1.2.1 E yX9_xAt (ws_ yX9_xAt cX9_xAt 4 (some .int)) F L [.ref (E.2.2.2.2.1 0), .int a0] τ v τ) (hR : F + 1 ≤ X.1.2.2.2.1.frames ∧ 8 + (4 + 11) + L ≤ X.1.2.2.2.1.locals) {b0 : Int32} {K : Int32 → Option α} (h : (f b0).bind K = some z) (hst : Nat.ble (r.map Value.category).sum 8 = true) (d : decode cc pc = .ok (.invokevirtual 423, 3)) (k : ∀ v, K v = some z → kW X τ (pc + 3) lv (.int v :: r)) : kW X τ pc lv (.int b0 :: .ref (E.2.2.2.2.1 0) :: r) := by
  obtain ⟨v, h1, h2⟩ := bd_of h
  exact t_callV_i (As := [.int b0]) T (hf _ _ h1) (cwV 1 T.1.2.2.2.2 (lw_V q2168 q2170 qs127 q152 q2171) rfl rfl rfl (by decide +kernel) hR) rfl hst d (k v h2)
theorem cX_slowest {X : KC TS} {E : TE} {cc : ByteArray} {nL : Nat} {ret : Option FieldType} {pc : Nat} {lv : List (Nat × Value)} {r : List Value} {α : Type} {z : α} {τ : TS} (T : tOK X E cc nL ret) {F L : Nat} {f : Option Int32} (hf : ∀  (v : Int32), f = some v → tMet_i X.1.2.1 E yX9_slowest (ws_ yX9_slowest cX9_slowest 1 (some .int)) F L [.ref (E.2.2.2.2.1 0)] τ v τ) (hR : F + 1 ≤ X.1.2.2.2.1.frames ∧ 8 + (1 + 11) + L ≤ X.1.2.2.2.1.locals)  {K : Int32 → Option α} (h : (f).bind K = some z) (hst : Nat.ble (r.map Value.category).sum 8 = true) (d : decode cc pc = .ok (.invokevirtual 417, 3)) (k : ∀ v, K v = some z → kW X τ (pc + 3) lv (.int v :: r)) : kW X τ pc lv (.ref (E.2.2.2.2.1 0) :: r) := by
  obtain ⟨v, h1, h2⟩ := bd_of h
  exact t_callV_i (As := []) T (hf _ h1) (cwV 0 T.1.2.2.2.2 (lw_V q2160 q2162 qs125 q152 q2163) rfl rfl rfl (by decide +kernel) hR) rfl hst d (k v h2)
theorem cX_paceBy {X : KC TS} {E : TE} {cc : ByteArray} {nL : Nat} {ret : Option FieldType} {pc : Nat} {lv : List (Nat × Value)} {r : List Value} {α : Type} {z : α} {τ : TS} (T : tOK X E cc nL ret) {F L : Nat} {f : Int32 → Int32 → Int32 → Int32 → TS → Option (Int32 × TS)} (hf : ∀ (a0 : Int32) (a1 : Int32) (a2 : Int32) (a3 : Int32) (τ : TS) (v : (Int32 × TS)), f a0 a1 a2 a3 τ = some v → tMet_i X.1.2.1 E yX9_paceBy (ws_ yX9_paceBy cX9_paceBy 11 (some .int)) F L [.ref (E.2.2.2.2.1 0), .int a0, .int a1, .int a2, .int a3] τ v.1 v.2) (hR : F + 1 ≤ X.1.2.2.2.1.frames ∧ 8 + (11 + 11) + L ≤ X.1.2.2.2.1.locals) {b0 : Int32} {b1 : Int32} {b2 : Int32} {b3 : Int32} {K : Int32 → TS → Option α} (h : bd2 (f b0 b1 b2 b3 τ) K = some z) (hst : Nat.ble (r.map Value.category).sum 8 = true) (d : decode cc pc = .ok (.invokevirtual 420, 3)) (k : ∀ v τ', K v τ' = some z → kW X τ' (pc + 3) lv (.int v :: r)) : kW X τ pc lv (.int b3 :: .int b2 :: .int b1 :: .int b0 :: .ref (E.2.2.2.2.1 0) :: r) := by
  obtain ⟨v, τ2, h1, h2⟩ := bd2_of h
  exact t_callV_i (As := [.int b0, .int b1, .int b2, .int b3]) T (hf _ _ _ _ _ _ h1) (cwV 4 T.1.2.2.2.2 (lw_V q2164 q2166 qs126 q152 q2167) rfl rfl rfl (by decide +kernel) hR) rfl hst d (k v τ2 h2)
theorem cX_bestPace {X : KC TS} {E : TE} {cc : ByteArray} {nL : Nat} {ret : Option FieldType} {pc : Nat} {lv : List (Nat × Value)} {r : List Value} {α : Type} {z : α} {τ : TS} (T : tOK X E cc nL ret) {F L : Nat} {f : Int32 → Int32 → Int32 → TS → Option (Int32 × TS)} (hf : ∀ (a0 : Int32) (a1 : Int32) (a2 : Int32) (τ : TS) (v : (Int32 × TS)), f a0 a1 a2 τ = some v → tMet_i X.1.2.1 E yX9_bestPace (ws_ yX9_bestPace cX9_bestPace 8 (some .int)) F L [.ref (E.2.2.2.2.1 0), .int a0, .int a1, .int a2] τ v.1 v.2) (hR : F + 1 ≤ X.1.2.2.2.1.frames ∧ 8 + (8 + 11) + L ≤ X.1.2.2.2.1.locals) {b0 : Int32} {b1 : Int32} {b2 : Int32} {K : Int32 → TS → Option α} (h : bd2 (f b0 b1 b2 τ) K = some z) (hst : Nat.ble (r.map Value.category).sum 8 = true) (d : decode cc pc = .ok (.invokevirtual 429, 3)) (k : ∀ v τ', K v τ' = some z → kW X τ' (pc + 3) lv (.int v :: r)) : kW X τ pc lv (.int b2 :: .int b1 :: .int b0 :: .ref (E.2.2.2.2.1 0) :: r) := by
  obtain ⟨v, τ2, h1, h2⟩ := bd2_of h
  exact t_callV_i (As := [.int b0, .int b1, .int b2]) T (hf _ _ _ _ _ h1) (cwV 3 T.1.2.2.2.2 (lw_V q2148 q2150 qs122 q152 q2151) rfl rfl rfl (by decide +kernel) hR) rfl hst d (k v τ2 h2)
theorem cX_ones {X : KC TS} {E : TE} {cc : ByteArray} {nL : Nat} {ret : Option FieldType} {pc : Nat} {lv : List (Nat × Value)} {r : List Value} {α : Type} {z : α} {τ : TS} (T : tOK X E cc nL ret) {F L : Nat} {f : Int64 → Option Int32} (hf : ∀ (a0 : Int64) (v : Int32), f a0 = some v → tMet_i X.1.2.1 E yX9_ones (ws_ yX9_ones cX9_ones 4 (some .int)) F L [.long a0] τ v τ) (hR : F + 1 ≤ X.1.2.2.2.1.frames ∧ 8 + (4 + 11) + L ≤ X.1.2.2.2.1.locals) {b0 : Int64} {K : Int32 → Option α} (h : (f b0).bind K = some z) (hst : Nat.ble (r.map Value.category).sum 8 = true) (d : decode cc pc = .ok (.invokestatic 435, 3)) (k : ∀ v, K v = some z → kW X τ (pc + 3) lv (.int v :: r)) : kW X τ pc lv (.long b0 :: r) := by
  obtain ⟨v, h1, h2⟩ := bd_of h
  exact t_callS_i (As := [.long b0]) T (hf _ _ h1) (va_cwS 1 T.1.2.2.2.2 (lw_S q2193 q2194 q152 q2195) rfl rfl rfl (by decide +kernel) hR) rfl hst d (k v h2)
theorem cX_triesWave {X : KC TS} {E : TE} {cc : ByteArray} {nL : Nat} {ret : Option FieldType} {pc : Nat} {lv : List (Nat × Value)} {r : List Value} {α : Type} {z : α} {τ : TS} (T : tOK X E cc nL ret) {F L : Nat} {f : Int32 → Int32 → Int32 → Int64 → Int64 → Int32 → TS → Option TS} (hf : ∀ (a0 : Int32) (a1 : Int32) (a2 : Int32) (a3 : Int64) (a4 : Int64) (a5 : Int32) (τ : TS) (v : TS), f a0 a1 a2 a3 a4 a5 τ = some v → tMet_v X.1.2.1 E yX9_triesWave (ws_ yX9_triesWave cX9_triesWave 11 none) F L [.ref (E.2.2.2.2.1 0), .int a0, .int a1, .int a2, .long a3, .long a4, .int a5] τ v) (hR : F + 1 ≤ X.1.2.2.2.1.frames ∧ 8 + (11 + 11) + L ≤ X.1.2.2.2.1.locals) {b0 : Int32} {b1 : Int32} {b2 : Int32} {b3 : Int64} {b4 : Int64} {b5 : Int32} {K : TS → Option α} (h : (f b0 b1 b2 b3 b4 b5 τ).bind K = some z) (hst : Nat.ble (r.map Value.category).sum 8 = true) (d : decode cc pc = .ok (.invokevirtual 442, 3)) (k : ∀ τ', K τ' = some z → kW X τ' (pc + 3) lv r) : kW X τ pc lv (.int b5 :: .long b4 :: .long b3 :: .int b2 :: .int b1 :: .int b0 :: .ref (E.2.2.2.2.1 0) :: r) := by
  obtain ⟨v, h1, h2⟩ := bd_of h
  exact t_callV_v (As := [.int b0, .int b1, .int b2, .long b3, .long b4, .int b5]) T (hf _ _ _ _ _ _ _ _ h1) (cwV 6 T.1.2.2.2.2 (lw_V q2189 q2191 qs128 q152 q2192) rfl rfl rfl (by decide +kernel) hR) rfl hst d (k v h2)
theorem cX_turned {X : KC TS} {E : TE} {cc : ByteArray} {nL : Nat} {ret : Option FieldType} {pc : Nat} {lv : List (Nat × Value)} {r : List Value} {α : Type} {z : α} {τ : TS} (T : tOK X E cc nL ret) {F L : Nat} {f : Int32 → Int32 → Int32 → Option Int64} (hf : ∀ (a0 : Int32) (a1 : Int32) (a2 : Int32) (v : Int64), f a0 a1 a2 = some v → tMet_l X.1.2.1 E yX9_turned (ws_ yX9_turned cX9_turned 6 (some .long)) F L [.int a0, .int a1, .int a2] τ v τ) (hR : F + 1 ≤ X.1.2.2.2.1.frames ∧ 8 + (6 + 11) + L ≤ X.1.2.2.2.1.locals) {b0 : Int32} {b1 : Int32} {b2 : Int32} {K : Int64 → Option α} (h : (f b0 b1 b2).bind K = some z) (hst : Nat.ble (r.map Value.category).sum 8 = true) (d : decode cc pc = .ok (.invokestatic 446, 3)) (k : ∀ v, K v = some z → kW X τ (pc + 3) lv (.long v :: r)) : kW X τ pc lv (.int b2 :: .int b1 :: .int b0 :: r) := by
  obtain ⟨v, h1, h2⟩ := bd_of h
  exact t_callS_l (As := [.int b0, .int b1, .int b2]) T (hf _ _ _ _ h1) (va_cwS 3 T.1.2.2.2.2 (lw_S q2186 q2187 q152 q2188) rfl rfl rfl (by decide +kernel) hR) rfl hst d (k v h2)
theorem cX_fits0 {X : KC TS} {E : TE} {cc : ByteArray} {nL : Nat} {ret : Option FieldType} {pc : Nat} {lv : List (Nat × Value)} {r : List Value} {α : Type} {z : α} {τ : TS} (T : tOK X E cc nL ret) {F L : Nat} {f : Int32 → Int64 → Int32 → TS → Option TS} (hf : ∀ (a0 : Int32) (a1 : Int64) (a2 : Int32) (τ : TS) (v : TS), f a0 a1 a2 τ = some v → tMet_v X.1.2.1 E yX9_fits0 (ws_ yX9_fits0 cX9_fits0 5 none) F L [.ref (E.2.2.2.2.1 0), .int a0, .long a1, .int a2] τ v) (hR : F + 1 ≤ X.1.2.2.2.1.frames ∧ 8 + (5 + 11) + L ≤ X.1.2.2.2.1.locals) {b0 : Int32} {b1 : Int64} {b2 : Int32} {K : TS → Option α} (h : (f b0 b1 b2 τ).bind K = some z) (hst : Nat.ble (r.map Value.category).sum 8 = true) (d : decode cc pc = .ok (.invokevirtual 453, 3)) (k : ∀ τ', K τ' = some z → kW X τ' (pc + 3) lv r) : kW X τ pc lv (.int b2 :: .long b1 :: .int b0 :: .ref (E.2.2.2.2.1 0) :: r) := by
  obtain ⟨v, h1, h2⟩ := bd_of h
  exact t_callV_v (As := [.int b0, .long b1, .int b2]) T (hf _ _ _ _ _ h1) (cwV 3 T.1.2.2.2.2 (lw_V q2216 q2218 qs131 q152 q2219) rfl rfl rfl (by decide +kernel) hR) rfl hst d (k v h2)
theorem cX_wasBetween {X : KC TS} {E : TE} {cc : ByteArray} {nL : Nat} {ret : Option FieldType} {pc : Nat} {lv : List (Nat × Value)} {r : List Value} {α : Type} {z : α} {τ : TS} (T : tOK X E cc nL ret) {F L : Nat} {f : Int32 → Int32 → Int32 → Int32 → Option Int32} (hf : ∀ (a0 : Int32) (a1 : Int32) (a2 : Int32) (a3 : Int32) (v : Int32), f a0 a1 a2 a3 = some v → tMet_i X.1.2.1 E yX9_wasBetween (ws_ yX9_wasBetween cX9_wasBetween 8 (some .int)) F L [.ref (E.2.2.2.2.1 0), .int a0, .int a1, .int a2, .int a3] τ v τ) (hR : F + 1 ≤ X.1.2.2.2.1.frames ∧ 8 + (8 + 11) + L ≤ X.1.2.2.2.1.locals) {b0 : Int32} {b1 : Int32} {b2 : Int32} {b3 : Int32} {K : Int32 → Option α} (h : (f b0 b1 b2 b3).bind K = some z) (hst : Nat.ble (r.map Value.category).sum 8 = true) (d : decode cc pc = .ok (.invokevirtual 450, 3)) (k : ∀ v, K v = some z → kW X τ (pc + 3) lv (.int v :: r)) : kW X τ pc lv (.int b3 :: .int b2 :: .int b1 :: .int b0 :: .ref (E.2.2.2.2.1 0) :: r) := by
  obtain ⟨v, h1, h2⟩ := bd_of h
  exact t_callV_i (As := [.int b0, .int b1, .int b2, .int b3]) T (hf _ _ _ _ _ h1) (cwV 4 T.1.2.2.2.2 (lw_V q2212 q2214 qs130 q152 q2215) rfl rfl rfl (by decide +kernel) hR) rfl hst d (k v h2)
theorem cX_goesOn {X : KC TS} {E : TE} {cc : ByteArray} {nL : Nat} {ret : Option FieldType} {pc : Nat} {lv : List (Nat × Value)} {r : List Value} {α : Type} {z : α} {τ : TS} (T : tOK X E cc nL ret) {F L : Nat} {f : Int32 → Int32 → Int32 → Int32 → Int64 → Int32 → TS → Option TS} (hf : ∀ (a0 : Int32) (a1 : Int32) (a2 : Int32) (a3 : Int32) (a4 : Int64) (a5 : Int32) (τ : TS) (v : TS), f a0 a1 a2 a3 a4 a5 τ = some v → tMet_v X.1.2.1 E yX9_goesOn (ws_ yX9_goesOn cX9_goesOn 14 none) F L [.ref (E.2.2.2.2.1 0), .int a0, .int a1, .int a2, .int a3, .long a4, .int a5] τ v) (hR : F + 1 ≤ X.1.2.2.2.1.frames ∧ 8 + (14 + 11) + L ≤ X.1.2.2.2.1.locals) {b0 : Int32} {b1 : Int32} {b2 : Int32} {b3 : Int32} {b4 : Int64} {b5 : Int32} {K : TS → Option α} (h : (f b0 b1 b2 b3 b4 b5 τ).bind K = some z) (hst : Nat.ble (r.map Value.category).sum 8 = true) (d : decode cc pc = .ok (.invokevirtual 457, 3)) (k : ∀ τ', K τ' = some z → kW X τ' (pc + 3) lv r) : kW X τ pc lv (.int b5 :: .long b4 :: .int b3 :: .int b2 :: .int b1 :: .int b0 :: .ref (E.2.2.2.2.1 0) :: r) := by
  obtain ⟨v, h1, h2⟩ := bd_of h
  exact t_callV_v (As := [.int b0, .int b1, .int b2, .int b3, .long b4, .int b5]) T (hf _ _ _ _ _ _ _ _ h1) (cwV 6 T.1.2.2.2.2 (lw_V q2208 q2210 qs129 q152 q2211) rfl rfl rfl (by decide +kernel) hR) rfl hst d (k v h2)
theorem cX_draw {X : KC TS} {E : TE} {cc : ByteArray} {nL : Nat} {ret : Option FieldType} {pc : Nat} {lv : List (Nat × Value)} {r : List Value} {α : Type} {z : α} {τ : TS} (T : tOK X E cc nL ret) {F L : Nat} {f : Int32 → TS → Option (Int32 × TS)} (hf : ∀ (a0 : Int32) (τ : TS) (v : (Int32 × TS)), f a0 τ = some v → tMet_i X.1.2.1 E yX9_draw (ws_ yX9_draw cX9_draw 2 (some .int)) F L [.ref (E.2.2.2.2.1 0), .int a0] τ v.1 v.2) (hR : F + 1 ≤ X.1.2.2.2.1.frames ∧ 8 + (2 + 11) + L ≤ X.1.2.2.2.1.locals) {b0 : Int32} {K : Int32 → TS → Option α} (h : bd2 (f b0 τ) K = some z) (hst : Nat.ble (r.map Value.category).sum 8 = true) (d : decode cc pc = .ok (.invokevirtual 482, 3)) (k : ∀ v τ', K v τ' = some z → kW X τ' (pc + 3) lv (.int v :: r)) : kW X τ pc lv (.int b0 :: .ref (E.2.2.2.2.1 0) :: r) := by
  obtain ⟨v, τ2, h1, h2⟩ := bd2_of h
  exact t_callV_i (As := [.int b0]) T (hf _ _ _ h1) (cwV 1 T.1.2.2.2.2 (lw_V q2228 q2230 qs133 q152 q2231) rfl rfl rfl (by decide +kernel) hR) rfl hst d (k v τ2 h2)
theorem cX_draws {X : KC TS} {E : TE} {cc : ByteArray} {nL : Nat} {ret : Option FieldType} {pc : Nat} {lv : List (Nat × Value)} {r : List Value} {α : Type} {z : α} {τ : TS} (T : tOK X E cc nL ret) {F L : Nat} {f : TS → Option TS} (hf : ∀  (τ : TS) (v : TS), f τ = some v → tMet_v X.1.2.1 E yX9_draws (ws_ yX9_draws cX9_draws 3 none) F L [.ref (E.2.2.2.2.1 0)] τ v) (hR : F + 1 ≤ X.1.2.2.2.1.frames ∧ 8 + (3 + 11) + L ≤ X.1.2.2.2.1.locals)  {K : TS → Option α} (h : (f τ).bind K = some z) (hst : Nat.ble (r.map Value.category).sum 8 = true) (d : decode cc pc = .ok (.invokevirtual 485, 3)) (k : ∀ τ', K τ' = some z → kW X τ' (pc + 3) lv r) : kW X τ pc lv (.ref (E.2.2.2.2.1 0) :: r) := by
  obtain ⟨v, h1, h2⟩ := bd_of h
  exact t_callV_v (As := []) T (hf _ _ h1) (cwV 0 T.1.2.2.2.2 (lw_V q2224 q2226 qs132 q152 q2227) rfl rfl rfl (by decide +kernel) hR) rfl hst d (k v h2)
theorem cX_night {X : KC TS} {E : TE} {cc : ByteArray} {nL : Nat} {ret : Option FieldType} {pc : Nat} {lv : List (Nat × Value)} {r : List Value} {α : Type} {z : α} {τ : TS} (T : tOK X E cc nL ret) {F L : Nat} {f : TS → Option (Int32 × TS)} (hf : ∀  (τ : TS) (v : (Int32 × TS)), f τ = some v → tMet_i X.1.2.1 E yX9_night (ws_ yX9_night cX9_night 6 (some .int)) F L [.ref (E.2.2.2.2.1 0)] τ v.1 v.2) (hR : F + 1 ≤ X.1.2.2.2.1.frames ∧ 8 + (6 + 11) + L ≤ X.1.2.2.2.1.locals)  {K : Int32 → TS → Option α} (h : bd2 (f τ) K = some z) (hst : Nat.ble (r.map Value.category).sum 8 = true) (d : decode cc pc = .ok (.invokevirtual 488, 3)) (k : ∀ v τ', K v τ' = some z → kW X τ' (pc + 3) lv (.int v :: r)) : kW X τ pc lv (.ref (E.2.2.2.2.1 0) :: r) := by
  obtain ⟨v, τ2, h1, h2⟩ := bd2_of h
  exact t_callV_i (As := []) T (hf _ _ h1) (cwV 0 T.1.2.2.2.2 (lw_V q2236 q2238 qs134 q152 q2239) rfl rfl rfl (by decide +kernel) hR) rfl hst d (k v τ2 h2)
theorem T_lay_b38_ok {X : KC TS} {E : TE} {z : TS} (T : tOK X E cX9_lay 5 none) (hR : tRoom X 0 0) (e : tE_v X E z) {nf : Nat} {k3 : Int64 → Int32 → TS → Option TS} (hk3 : ∀ (x1 : Int64) (x3 : Int32) (τ : TS), k3 x1 x3 τ = some z → kW X τ 3 [(0, .ref (E.2.2.2.2.1 0)), (1, .long x1), (3, .int x3)] []) {x1 : Int64} {x3 : Int32} {x4 : Int32} {τ : TS} (h : T_lay_b38 nf k3 x1 x3 x4 τ = some z) : kW X τ 38 [(0, .ref (E.2.2.2.2.1 0)), (1, .long x1), (3, .int x3), (4, .int x4)] [] := by
  unfold T_lay_b38 at h
  have hX := T.1
  refine k_aload_n hX dX9_lay_38 rfl 0 rfl ?_
  refine tg2 T dX9_lay_39 ?_
  refine k_sipush (v := 1000) hX dX9_lay_42 (by decide) ?_
  refine k_icmp_ge (tgt := 69) hX h dX9_lay_45 (by decide) (fun h => ?_) (fun h => ?_)
  · refine k_iinc (j := 2) [(3, .int (x3 + (-8))), (0, .ref (E.2.2.2.2.1 0)), (1, .long x1), (4, .int x4)] hX dX9_lay_69 rfl rfl rfl rfl ?_
    refine k_goto (tgt := 3) hX dX9_lay_72 (by decide) ?_
    refine k_lv [1, 2, 0] rfl ?_
    exact hk3 _ _ _ h
  · refine k_aload_n hX dX9_lay_48 rfl 0 rfl ?_
    refine tg1 T dX9_lay_49 ?_
    refine k_aload_n hX dX9_lay_52 rfl 0 rfl ?_
    refine tg2 T dX9_lay_53 ?_
    refine k_iload hX dX9_lay_56 3 rfl ?_
    refine ts1 T h dX9_lay_58 (fun τ1 h => ?_)
    refine k_aload_n hX dX9_lay_59 rfl 0 rfl ?_
    refine k_dup hX dX9_lay_60 rfl ?_
    refine tg2 T dX9_lay_61 ?_
    refine k_iconst (v := 1) hX dX9_lay_64 (by decide) ?_
    refine k_iadd hX dX9_lay_65 ?_
    refine tp2 T h dX9_lay_66 (fun τ2 h => ?_)
    refine k_iinc (j := 2) [(3, .int (x3 + (-8))), (0, .ref (E.2.2.2.2.1 0)), (1, .long x1), (4, .int x4)] hX dX9_lay_69 rfl rfl rfl rfl ?_
    refine k_goto (tgt := 3) hX dX9_lay_72 (by decide) ?_
    refine k_lv [1, 2, 0] rfl ?_
    exact hk3 _ _ _ h
theorem T_lay_b3_s_ok {X : KC TS} {E : TE} {z : TS} (T : tOK X E cX9_lay 5 none) (hR : tRoom X 0 0) (e : tE_v X E z) {nf : Nat} {k3 : Int64 → Int32 → TS → Option TS} (hk3 : ∀ (x1 : Int64) (x3 : Int32) (τ : TS), k3 x1 x3 τ = some z → kW X τ 3 [(0, .ref (E.2.2.2.2.1 0)), (1, .long x1), (3, .int x3)] []) {x1 : Int64} {x3 : Int32} {τ : TS} (h : T_lay_b3_s nf k3 x1 x3 τ = some z) : kW X τ 3 [(0, .ref (E.2.2.2.2.1 0)), (1, .long x1), (3, .int x3)] [] := by
  unfold T_lay_b3_s at h
  have hX := T.1
  refine k_iload_n hX dX9_lay_3 rfl 2 rfl ?_
  refine k_if_lt (tgt := 75) hX h dX9_lay_4 (by decide) (fun h => ?_) (fun h => ?_)
  · exact t_ret_v T e h dX9_lay_75
  · refine k_lload_n hX dX9_lay_7 rfl 1 rfl ?_
    refine k_iload_n hX dX9_lay_8 rfl 2 rfl ?_
    refine k_lshr hX dX9_lay_9 ?_
    refine k_l2i hX dX9_lay_10 ?_
    refine k_sipush (v := 255) hX dX9_lay_11 (by decide) ?_
    refine k_iand hX dX9_lay_14 ?_
    refine k_nm h (fun v1 h => ?_)
    refine k_istore [(4, .int v1), (0, .ref (E.2.2.2.2.1 0)), (1, .long x1), (3, .int x3)] hX dX9_lay_15 rfl rfl ?_
    refine k_iload hX dX9_lay_17 0 rfl ?_
    refine k_bipush (v := 10) hX dX9_lay_19 (by decide) ?_
    refine k_icmp_eq (tgt := 38) hX h dX9_lay_21 (by decide) (fun h => ?_) (fun h => ?_)
    · refine k_lv [1, 2, 3, 0] rfl ?_
      exact T_lay_b38_ok T hR e hk3 h
    · refine k_iload hX dX9_lay_24 0 rfl ?_
      refine k_bipush (v := 32) hX dX9_lay_26 (by decide) ?_
      refine k_icmp_lt (tgt := 69) hX h dX9_lay_28 (by decide) (fun h => ?_) (fun h => ?_)
      · refine k_iinc (j := 3) [(3, .int (x3 + (-8))), (4, .int v1), (0, .ref (E.2.2.2.2.1 0)), (1, .long x1)] hX dX9_lay_69 rfl rfl rfl rfl ?_
        refine k_goto (tgt := 3) hX dX9_lay_72 (by decide) ?_
        refine k_lv [2, 3, 0] rfl ?_
        exact hk3 _ _ _ h
      · refine k_iload hX dX9_lay_31 0 rfl ?_
        refine k_bipush (v := 126) hX dX9_lay_33 (by decide) ?_
        refine k_icmp_gt (tgt := 69) hX h dX9_lay_35 (by decide) (fun h => ?_) (fun h => ?_)
        · refine k_iinc (j := 3) [(3, .int (x3 + (-8))), (4, .int v1), (0, .ref (E.2.2.2.2.1 0)), (1, .long x1)] hX dX9_lay_69 rfl rfl rfl rfl ?_
          refine k_goto (tgt := 3) hX dX9_lay_72 (by decide) ?_
          refine k_lv [2, 3, 0] rfl ?_
          exact hk3 _ _ _ h
        · refine k_lv [1, 2, 3, 0] rfl ?_
          exact T_lay_b38_ok T hR e hk3 h
theorem T_lay_b3_ok {X : KC TS} {E : TE} {z : TS} (T : tOK X E cX9_lay 5 none) (hR : tRoom X 0 0) (e : tE_v X E z) {nf : Nat} : ∀ (n : Nat) (x1 : Int64) (x3 : Int32) (τ : TS), T_lay_b3 nf n x1 x3 τ = some z → kW X τ 3 [(0, .ref (E.2.2.2.2.1 0)), (1, .long x1), (3, .int x3)] [] := by
  intro n
  induction n with
  | zero => intro x1 x3 τ h; exact (nomatch (show (none : Option TS) = some z from h))
  | succ n ih =>
    intro x1 x3 τ h
    have h : T_lay_b3_s nf (T_lay_b3 nf n) x1 x3 τ = some z := h
    exact T_lay_b3_s_ok T hR e ih h
theorem met_lay {l : Launch} {E : TE} (hE : tEnv E) {nf : Nat} : ∀ (x1 : Int64) (τ : TS) (z : TS), T_lay nf x1 τ = some z → tMet_v l E yX9_lay (ws_ yX9_lay cX9_lay 5 none) 0 0 [.ref (E.2.2.2.2.1 0), .long x1] τ z := by
  intro x1 τ z h
  refine t_met_v hE (by decide +kernel) rfl rfl (fun X hl T hR e => ?_)
  unfold T_lay at h
  have hX := T.1
  show kW X τ 0 [(0, .ref (E.2.2.2.2.1 0)), (1, .long x1)] []
  refine k_bipush (v := 56) hX dX9_lay_0 (by decide) ?_
  refine k_istore_n [(3, .int 56), (0, .ref (E.2.2.2.2.1 0)), (1, .long x1)] hX dX9_lay_2 rfl rfl rfl ?_
  refine k_lv [1, 2, 0] rfl ?_
  exact T_lay_b3_ok T hR e _ _ _ _ h
theorem met_feed {l : Launch} {E : TE} (hE : tEnv E) {nf : Nat} : ∀ (x1 : Int64) (x3 : Int64) (x5 : Int64) (τ : TS) (z : (Int32 × TS)), T_feed nf x1 x3 x5 τ = some z → tMet_i l E yX9_feed (ws_ yX9_feed cX9_feed 7 (some .int)) 1 24 [.ref (E.2.2.2.2.1 0), .long x1, .long x3, .long x5] τ z.1 z.2 := by
  intro x1 x3 x5 τ z h
  refine t_met_i hE (by decide +kernel) rfl rfl (fun X hl T hR e => ?_)
  unfold T_feed at h
  have hX := T.1
  show kW X τ 0 [(0, .ref (E.2.2.2.2.1 0)), (1, .long x1), (3, .long x3), (5, .long x5)] []
  refine k_aload_n hX dX9_feed_0 rfl 0 rfl ?_
  refine k_iconst (v := 0) hX dX9_feed_1 (by decide) ?_
  refine tp0 T h dX9_feed_2 (fun τ1 h => ?_)
  refine k_aload_n hX dX9_feed_5 rfl 0 rfl ?_
  refine k_lload_n hX dX9_feed_6 rfl 1 rfl ?_
  refine cX_lay T (met_lay T.2.1) (room_le hR rfl rfl) h rfl dX9_feed_7 (fun τ2 h => ?_)
  refine k_aload_n hX dX9_feed_10 rfl 0 rfl ?_
  refine k_lload_n hX dX9_feed_11 rfl 2 rfl ?_
  refine cX_lay T (met_lay T.2.1) (room_le hR rfl rfl) h rfl dX9_feed_12 (fun τ3 h => ?_)
  refine k_aload_n hX dX9_feed_15 rfl 0 rfl ?_
  refine k_lload hX dX9_feed_16 3 rfl ?_
  refine cX_lay T (met_lay T.2.1) (room_le hR rfl rfl) h rfl dX9_feed_18 (fun τ4 h => ?_)
  refine k_aload_n hX dX9_feed_21 rfl 0 rfl ?_
  refine tg2 T dX9_feed_22 ?_
  exact t_ret_i T e h dX9_feed_25
theorem T_standsAsAlways_b2_s_ok {X : KC TS} {E : TE} {z : TS} (T : tOK X E cX9_standsAsAlways 3 none) (hR : tRoom X 0 0) (e : tE_v X E z) {nf : Nat} {k2 : Int32 → Int32 → TS → Option TS} (hk2 : ∀ (x1 : Int32) (x2 : Int32) (τ : TS), k2 x1 x2 τ = some z → kW X τ 2 [(0, .ref (E.2.2.2.2.1 0)), (1, .int x1), (2, .int x2)] []) {x1 : Int32} {x2 : Int32} {τ : TS} (h : T_standsAsAlways_b2_s nf k2 x1 x2 τ = some z) : kW X τ 2 [(0, .ref (E.2.2.2.2.1 0)), (1, .int x1), (2, .int x2)] [] := by
  unfold T_standsAsAlways_b2_s at h
  have hX := T.1
  refine k_iload_n hX dX9_standsAsAlways_2 rfl 2 rfl ?_
  refine k_sipush (v := 340) hX dX9_standsAsAlways_3 (by decide) ?_
  refine k_icmp_ge (tgt := 24) hX h dX9_standsAsAlways_6 (by decide) (fun h => ?_) (fun h => ?_)
  · refine k_aload_n hX dX9_standsAsAlways_24 rfl 0 rfl ?_
    refine tg10 T dX9_standsAsAlways_25 ?_
    refine k_iload_n hX dX9_standsAsAlways_28 rfl 1 rfl ?_
    refine k_iconst (v := 2) hX dX9_standsAsAlways_29 (by decide) ?_
    refine k_iadd hX dX9_standsAsAlways_30 ?_
    refine k_bipush (v := 10) hX dX9_standsAsAlways_31 (by decide) ?_
    refine ts10 T h dX9_standsAsAlways_33 (fun τ1 h => ?_)
    refine k_aload_n hX dX9_standsAsAlways_34 rfl 0 rfl ?_
    refine tg10 T dX9_standsAsAlways_35 ?_
    refine k_iload_n hX dX9_standsAsAlways_38 rfl 1 rfl ?_
    refine k_iconst (v := 3) hX dX9_standsAsAlways_39 (by decide) ?_
    refine k_iadd hX dX9_standsAsAlways_40 ?_
    refine k_iconst (v := (-1)) hX dX9_standsAsAlways_41 (by decide) ?_
    refine ts10 T h dX9_standsAsAlways_42 (fun τ2 h => ?_)
    refine k_aload_n hX dX9_standsAsAlways_43 rfl 0 rfl ?_
    refine tg10 T dX9_standsAsAlways_44 ?_
    refine k_iload_n hX dX9_standsAsAlways_47 rfl 1 rfl ?_
    refine k_iconst (v := 4) hX dX9_standsAsAlways_48 (by decide) ?_
    refine k_iadd hX dX9_standsAsAlways_49 ?_
    refine k_iconst (v := (-1)) hX dX9_standsAsAlways_50 (by decide) ?_
    refine ts10 T h dX9_standsAsAlways_51 (fun τ3 h => ?_)
    refine k_aload_n hX dX9_standsAsAlways_52 rfl 0 rfl ?_
    refine tg10 T dX9_standsAsAlways_53 ?_
    refine k_iload_n hX dX9_standsAsAlways_56 rfl 1 rfl ?_
    refine k_bipush (v := 9) hX dX9_standsAsAlways_57 (by decide) ?_
    refine k_iadd hX dX9_standsAsAlways_59 ?_
    refine k_iconst (v := 1) hX dX9_standsAsAlways_60 (by decide) ?_
    refine ts10 T h dX9_standsAsAlways_61 (fun τ4 h => ?_)
    exact t_ret_v T e h dX9_standsAsAlways_62
  · refine k_aload_n hX dX9_standsAsAlways_9 rfl 0 rfl ?_
    refine tg10 T dX9_standsAsAlways_10 ?_
    refine k_iload_n hX dX9_standsAsAlways_13 rfl 1 rfl ?_
    refine k_iload_n hX dX9_standsAsAlways_14 rfl 2 rfl ?_
    refine k_iadd hX dX9_standsAsAlways_15 ?_
    refine k_iconst (v := 0) hX dX9_standsAsAlways_16 (by decide) ?_
    refine ts10 T h dX9_standsAsAlways_17 (fun τ5 h => ?_)
    refine k_iinc (j := 2) [(2, .int (x2 + 1)), (0, .ref (E.2.2.2.2.1 0)), (1, .int x1)] hX dX9_standsAsAlways_18 rfl rfl rfl rfl ?_
    refine k_goto (tgt := 2) hX dX9_standsAsAlways_21 (by decide) ?_
    refine k_lv [1, 2, 0] rfl ?_
    exact hk2 _ _ _ h
theorem T_standsAsAlways_b2_ok {X : KC TS} {E : TE} {z : TS} (T : tOK X E cX9_standsAsAlways 3 none) (hR : tRoom X 0 0) (e : tE_v X E z) {nf : Nat} : ∀ (n : Nat) (x1 : Int32) (x2 : Int32) (τ : TS), T_standsAsAlways_b2 nf n x1 x2 τ = some z → kW X τ 2 [(0, .ref (E.2.2.2.2.1 0)), (1, .int x1), (2, .int x2)] [] := by
  intro n
  induction n with
  | zero => intro x1 x2 τ h; exact (nomatch (show (none : Option TS) = some z from h))
  | succ n ih =>
    intro x1 x2 τ h
    have h : T_standsAsAlways_b2_s nf (T_standsAsAlways_b2 nf n) x1 x2 τ = some z := h
    exact T_standsAsAlways_b2_s_ok T hR e ih h
theorem met_standsAsAlways {l : Launch} {E : TE} (hE : tEnv E) {nf : Nat} : ∀ (x1 : Int32) (τ : TS) (z : TS), T_standsAsAlways nf x1 τ = some z → tMet_v l E yX9_standsAsAlways (ws_ yX9_standsAsAlways cX9_standsAsAlways 3 none) 0 0 [.ref (E.2.2.2.2.1 0), .int x1] τ z := by
  intro x1 τ z h
  refine t_met_v hE (by decide +kernel) rfl rfl (fun X hl T hR e => ?_)
  unfold T_standsAsAlways at h
  have hX := T.1
  show kW X τ 0 [(0, .ref (E.2.2.2.2.1 0)), (1, .int x1)] []
  refine k_iconst (v := 0) hX dX9_standsAsAlways_0 (by decide) ?_
  refine k_istore_n [(2, .int 0), (0, .ref (E.2.2.2.2.1 0)), (1, .int x1)] hX dX9_standsAsAlways_1 rfl rfl rfl ?_
  refine k_lv [1, 2, 0] rfl ?_
  exact T_standsAsAlways_b2_ok T hR e _ _ _ _ h
theorem T_begins_b45_s_ok {X : KC TS} {E : TE} {z : TS} (T : tOK X E cX9_begins 2 none) (hR : tRoom X 0 0) (e : tE_v X E z) {nf : Nat} {k45 : Int32 → TS → Option TS} (hk45 : ∀ (x1 : Int32) (τ : TS), k45 x1 τ = some z → kW X τ 45 [(0, .ref (E.2.2.2.2.1 0)), (1, .int x1)] []) {x1 : Int32} {τ : TS} (h : T_begins_b45_s nf k45 x1 τ = some z) : kW X τ 45 [(0, .ref (E.2.2.2.2.1 0)), (1, .int x1)] [] := by
  unfold T_begins_b45_s at h
  have hX := T.1
  refine k_iload_n hX dX9_begins_45 rfl 1 rfl ?_
  refine k_iconst (v := 4) hX dX9_begins_46 (by decide) ?_
  refine k_icmp_ge (tgt := 63) hX h dX9_begins_47 (by decide) (fun h => ?_) (fun h => ?_)
  · exact t_ret_v T e h dX9_begins_63
  · refine k_aload_n hX dX9_begins_50 rfl 0 rfl ?_
    refine tg21 T dX9_begins_51 ?_
    refine k_iload_n hX dX9_begins_54 rfl 1 rfl ?_
    refine k_iconst (v := 0) hX dX9_begins_55 (by decide) ?_
    refine ts21 T h dX9_begins_56 (fun τ1 h => ?_)
    refine k_iinc (j := 1) [(1, .int (x1 + 1)), (0, .ref (E.2.2.2.2.1 0))] hX dX9_begins_57 rfl rfl rfl rfl ?_
    refine k_goto (tgt := 45) hX dX9_begins_60 (by decide) ?_
    refine k_lv [1, 0] rfl ?_
    exact hk45 _ _ h
theorem T_begins_b45_ok {X : KC TS} {E : TE} {z : TS} (T : tOK X E cX9_begins 2 none) (hR : tRoom X 0 0) (e : tE_v X E z) {nf : Nat} : ∀ (n : Nat) (x1 : Int32) (τ : TS), T_begins_b45 nf n x1 τ = some z → kW X τ 45 [(0, .ref (E.2.2.2.2.1 0)), (1, .int x1)] [] := by
  intro n
  induction n with
  | zero => intro x1 τ h; exact (nomatch (show (none : Option TS) = some z from h))
  | succ n ih =>
    intro x1 τ h
    have h : T_begins_b45_s nf (T_begins_b45 nf n) x1 τ = some z := h
    exact T_begins_b45_s_ok T hR e ih h
theorem T_begins_b2_s_ok {X : KC TS} {E : TE} {z : TS} (T : tOK X E cX9_begins 2 none) (hR : tRoom X 0 0) (e : tE_v X E z) {nf : Nat} {k2 : Int32 → TS → Option TS} (hk2 : ∀ (x1 : Int32) (τ : TS), k2 x1 τ = some z → kW X τ 2 [(0, .ref (E.2.2.2.2.1 0)), (1, .int x1)] []) {x1 : Int32} {τ : TS} (h : T_begins_b2_s nf k2 x1 τ = some z) : kW X τ 2 [(0, .ref (E.2.2.2.2.1 0)), (1, .int x1)] [] := by
  unfold T_begins_b2_s at h
  have hX := T.1
  refine k_iload_n hX dX9_begins_2 rfl 1 rfl ?_
  refine k_bipush (v := 120) hX dX9_begins_3 (by decide) ?_
  refine k_icmp_ge (tgt := 21) hX h dX9_begins_5 (by decide) (fun h => ?_) (fun h => ?_)
  · refine k_aload_n hX dX9_begins_21 rfl 0 rfl ?_
    refine tg16 T dX9_begins_22 ?_
    refine k_iconst (v := 0) hX dX9_begins_25 (by decide) ?_
    refine k_iconst (v := 0) hX dX9_begins_26 (by decide) ?_
    refine ts16 T h dX9_begins_27 (fun τ1 h => ?_)
    refine k_aload_n hX dX9_begins_28 rfl 0 rfl ?_
    refine k_iconst (v := 0) hX dX9_begins_29 (by decide) ?_
    refine tp20 T h dX9_begins_30 (fun τ2 h => ?_)
    refine k_aload_n hX dX9_begins_33 rfl 0 rfl ?_
    refine k_dup hX dX9_begins_34 rfl ?_
    refine tg22 T dX9_begins_35 ?_
    refine k_iconst (v := 1) hX dX9_begins_38 (by decide) ?_
    refine k_iadd hX dX9_begins_39 ?_
    refine tp22 T h dX9_begins_40 (fun τ3 h => ?_)
    refine k_iconst (v := 0) hX dX9_begins_43 (by decide) ?_
    refine k_istore_n [(1, .int 0), (0, .ref (E.2.2.2.2.1 0))] hX dX9_begins_44 rfl rfl rfl ?_
    refine k_lv [1, 0] rfl ?_
    exact T_begins_b45_ok T hR e _ _ _ h
  · refine k_aload_n hX dX9_begins_8 rfl 0 rfl ?_
    refine tg19 T dX9_begins_9 ?_
    refine k_iload_n hX dX9_begins_12 rfl 1 rfl ?_
    refine k_iconst (v := 0) hX dX9_begins_13 (by decide) ?_
    refine ts19 T h dX9_begins_14 (fun τ4 h => ?_)
    refine k_iinc (j := 1) [(1, .int (x1 + 1)), (0, .ref (E.2.2.2.2.1 0))] hX dX9_begins_15 rfl rfl rfl rfl ?_
    refine k_goto (tgt := 2) hX dX9_begins_18 (by decide) ?_
    refine k_lv [1, 0] rfl ?_
    exact hk2 _ _ h
theorem T_begins_b2_ok {X : KC TS} {E : TE} {z : TS} (T : tOK X E cX9_begins 2 none) (hR : tRoom X 0 0) (e : tE_v X E z) {nf : Nat} : ∀ (n : Nat) (x1 : Int32) (τ : TS), T_begins_b2 nf n x1 τ = some z → kW X τ 2 [(0, .ref (E.2.2.2.2.1 0)), (1, .int x1)] [] := by
  intro n
  induction n with
  | zero => intro x1 τ h; exact (nomatch (show (none : Option TS) = some z from h))
  | succ n ih =>
    intro x1 τ h
    have h : T_begins_b2_s nf (T_begins_b2 nf n) x1 τ = some z := h
    exact T_begins_b2_s_ok T hR e ih h
theorem met_begins {l : Launch} {E : TE} (hE : tEnv E) {nf : Nat} : ∀ (τ : TS) (z : TS), T_begins nf τ = some z → tMet_v l E yX9_begins (ws_ yX9_begins cX9_begins 2 none) 0 0 [.ref (E.2.2.2.2.1 0)] τ z := by
  intro τ z h
  refine t_met_v hE (by decide +kernel) rfl rfl (fun X hl T hR e => ?_)
  unfold T_begins at h
  have hX := T.1
  show kW X τ 0 [(0, .ref (E.2.2.2.2.1 0))] []
  refine k_iconst (v := 0) hX dX9_begins_0 (by decide) ?_
  refine k_istore_n [(1, .int 0), (0, .ref (E.2.2.2.2.1 0))] hX dX9_begins_1 rfl rfl rfl ?_
  refine k_lv [1, 0] rfl ?_
  exact T_begins_b2_ok T hR e _ _ _ h
theorem met_isDigit {l : Launch} {E : TE} (hE : tEnv E) {τ : TS} : ∀ (x0 : Int32) (z : Int32), T_isDigit τ x0 = some z → tMet_i l E yX9_isDigit (ws_ yX9_isDigit cX9_isDigit 1 (some .boolean)) 0 0 [.int x0] τ z τ := by
  intro x0 z h
  refine t_met_i hE (by decide +kernel) rfl rfl (fun X hl T hR e => ?_)
  unfold T_isDigit at h
  have hX := T.1
  show kW X τ 0 [(0, .int x0)] []
  refine k_iload_n hX dX9_isDigit_0 rfl 0 rfl ?_
  refine k_bipush (v := 48) hX dX9_isDigit_1 (by decide) ?_
  refine k_icmp_lt (tgt := 16) hX h dX9_isDigit_3 (by decide) (fun h => ?_) (fun h => ?_)
  · refine k_iconst (v := 0) hX dX9_isDigit_16 (by decide) ?_
    exact t_ret_zrc T e rfl h dX9_isDigit_17
  · refine k_iload_n hX dX9_isDigit_6 rfl 0 rfl ?_
    refine k_bipush (v := 57) hX dX9_isDigit_7 (by decide) ?_
    refine k_icmp_gt (tgt := 16) hX h dX9_isDigit_9 (by decide) (fun h => ?_) (fun h => ?_)
    · refine k_iconst (v := 0) hX dX9_isDigit_16 (by decide) ?_
      exact t_ret_zrc T e rfl h dX9_isDigit_17
    · refine k_iconst (v := 1) hX dX9_isDigit_12 (by decide) ?_
      refine k_goto (tgt := 17) hX dX9_isDigit_13 (by decide) ?_
      exact t_ret_zrc T e rfl h dX9_isDigit_17
theorem met_isLetter {l : Launch} {E : TE} (hE : tEnv E) {τ : TS} : ∀ (x0 : Int32) (z : Int32), T_isLetter τ x0 = some z → tMet_i l E yX9_isLetter (ws_ yX9_isLetter cX9_isLetter 1 (some .boolean)) 0 0 [.int x0] τ z τ := by
  intro x0 z h
  refine t_met_i hE (by decide +kernel) rfl rfl (fun X hl T hR e => ?_)
  unfold T_isLetter at h
  have hX := T.1
  show kW X τ 0 [(0, .int x0)] []
  refine k_iload_n hX dX9_isLetter_0 rfl 0 rfl ?_
  refine k_bipush (v := 97) hX dX9_isLetter_1 (by decide) ?_
  refine k_icmp_lt (tgt := 16) hX h dX9_isLetter_3 (by decide) (fun h => ?_) (fun h => ?_)
  · refine k_iconst (v := 0) hX dX9_isLetter_16 (by decide) ?_
    exact t_ret_zrc T e rfl h dX9_isLetter_17
  · refine k_iload_n hX dX9_isLetter_6 rfl 0 rfl ?_
    refine k_bipush (v := 122) hX dX9_isLetter_7 (by decide) ?_
    refine k_icmp_gt (tgt := 16) hX h dX9_isLetter_9 (by decide) (fun h => ?_) (fun h => ?_)
    · refine k_iconst (v := 0) hX dX9_isLetter_16 (by decide) ?_
      exact t_ret_zrc T e rfl h dX9_isLetter_17
    · refine k_iconst (v := 1) hX dX9_isLetter_12 (by decide) ?_
      refine k_goto (tgt := 17) hX dX9_isLetter_13 (by decide) ?_
      exact t_ret_zrc T e rfl h dX9_isLetter_17
theorem met_isSignOf {l : Launch} {E : TE} (hE : tEnv E) {τ : TS} : ∀ (x0 : Int32) (z : Int32), T_isSignOf τ x0 = some z → tMet_i l E yX9_isSignOf (ws_ yX9_isSignOf cX9_isSignOf 1 (some .boolean)) 0 0 [.int x0] τ z τ := by
  intro x0 z h
  refine t_met_i hE (by decide +kernel) rfl rfl (fun X hl T hR e => ?_)
  unfold T_isSignOf at h
  have hX := T.1
  show kW X τ 0 [(0, .int x0)] []
  refine k_iload_n hX dX9_isSignOf_0 rfl 0 rfl ?_
  refine k_bipush (v := 40) hX dX9_isSignOf_1 (by decide) ?_
  refine k_icmp_eq (tgt := 48) hX h dX9_isSignOf_3 (by decide) (fun h => ?_) (fun h => ?_)
  · refine k_iconst (v := 1) hX dX9_isSignOf_48 (by decide) ?_
    refine k_goto (tgt := 53) hX dX9_isSignOf_49 (by decide) ?_
    exact t_ret_zrc T e rfl h dX9_isSignOf_53
  · refine k_iload_n hX dX9_isSignOf_6 rfl 0 rfl ?_
    refine k_bipush (v := 41) hX dX9_isSignOf_7 (by decide) ?_
    refine k_icmp_eq (tgt := 48) hX h dX9_isSignOf_9 (by decide) (fun h => ?_) (fun h => ?_)
    · refine k_iconst (v := 1) hX dX9_isSignOf_48 (by decide) ?_
      refine k_goto (tgt := 53) hX dX9_isSignOf_49 (by decide) ?_
      exact t_ret_zrc T e rfl h dX9_isSignOf_53
    · refine k_iload_n hX dX9_isSignOf_12 rfl 0 rfl ?_
      refine k_bipush (v := 59) hX dX9_isSignOf_13 (by decide) ?_
      refine k_icmp_eq (tgt := 48) hX h dX9_isSignOf_15 (by decide) (fun h => ?_) (fun h => ?_)
      · refine k_iconst (v := 1) hX dX9_isSignOf_48 (by decide) ?_
        refine k_goto (tgt := 53) hX dX9_isSignOf_49 (by decide) ?_
        exact t_ret_zrc T e rfl h dX9_isSignOf_53
      · refine k_iload_n hX dX9_isSignOf_18 rfl 0 rfl ?_
        refine k_bipush (v := 61) hX dX9_isSignOf_19 (by decide) ?_
        refine k_icmp_eq (tgt := 48) hX h dX9_isSignOf_21 (by decide) (fun h => ?_) (fun h => ?_)
        · refine k_iconst (v := 1) hX dX9_isSignOf_48 (by decide) ?_
          refine k_goto (tgt := 53) hX dX9_isSignOf_49 (by decide) ?_
          exact t_ret_zrc T e rfl h dX9_isSignOf_53
        · refine k_iload_n hX dX9_isSignOf_24 rfl 0 rfl ?_
          refine k_bipush (v := 60) hX dX9_isSignOf_25 (by decide) ?_
          refine k_icmp_eq (tgt := 48) hX h dX9_isSignOf_27 (by decide) (fun h => ?_) (fun h => ?_)
          · refine k_iconst (v := 1) hX dX9_isSignOf_48 (by decide) ?_
            refine k_goto (tgt := 53) hX dX9_isSignOf_49 (by decide) ?_
            exact t_ret_zrc T e rfl h dX9_isSignOf_53
          · refine k_iload_n hX dX9_isSignOf_30 rfl 0 rfl ?_
            refine k_bipush (v := 43) hX dX9_isSignOf_31 (by decide) ?_
            refine k_icmp_eq (tgt := 48) hX h dX9_isSignOf_33 (by decide) (fun h => ?_) (fun h => ?_)
            · refine k_iconst (v := 1) hX dX9_isSignOf_48 (by decide) ?_
              refine k_goto (tgt := 53) hX dX9_isSignOf_49 (by decide) ?_
              exact t_ret_zrc T e rfl h dX9_isSignOf_53
            · refine k_iload_n hX dX9_isSignOf_36 rfl 0 rfl ?_
              refine k_bipush (v := 45) hX dX9_isSignOf_37 (by decide) ?_
              refine k_icmp_eq (tgt := 48) hX h dX9_isSignOf_39 (by decide) (fun h => ?_) (fun h => ?_)
              · refine k_iconst (v := 1) hX dX9_isSignOf_48 (by decide) ?_
                refine k_goto (tgt := 53) hX dX9_isSignOf_49 (by decide) ?_
                exact t_ret_zrc T e rfl h dX9_isSignOf_53
              · refine k_iload_n hX dX9_isSignOf_42 rfl 0 rfl ?_
                refine k_bipush (v := 42) hX dX9_isSignOf_43 (by decide) ?_
                refine k_icmp_ne (tgt := 52) hX h dX9_isSignOf_45 (by decide) (fun h => ?_) (fun h => ?_)
                · refine k_iconst (v := 0) hX dX9_isSignOf_52 (by decide) ?_
                  exact t_ret_zrc T e rfl h dX9_isSignOf_53
                · refine k_iconst (v := 1) hX dX9_isSignOf_48 (by decide) ?_
                  refine k_goto (tgt := 53) hX dX9_isSignOf_49 (by decide) ?_
                  exact t_ret_zrc T e rfl h dX9_isSignOf_53
theorem met_rank {l : Launch} {E : TE} (hE : tEnv E) {τ : TS} : ∀ (x0 : Int32) (z : Int32), T_rank τ x0 = some z → tMet_i l E yX9_rank (ws_ yX9_rank cX9_rank 1 (some .int)) 1 20 [.int x0] τ z τ := by
  intro x0 z h
  refine t_met_i hE (by decide +kernel) rfl rfl (fun X hl T hR e => ?_)
  unfold T_rank at h
  have hX := T.1
  show kW X τ 0 [(0, .int x0)] []
  refine k_iload_n hX dX9_rank_0 rfl 0 rfl ?_
  refine cX_isLetter T (met_isLetter T.2.1) (room_le hR rfl rfl) h rfl dX9_rank_1 (fun v1 h => ?_)
  refine k_if_eq (tgt := 14) hX h dX9_rank_4 (by decide) (fun h => ?_) (fun h => ?_)
  · refine k_iload_n hX dX9_rank_14 rfl 0 rfl ?_
    refine k_bipush (v := 21) hX dX9_rank_15 (by decide) ?_
    refine k_isub hX dX9_rank_17 ?_
    exact t_ret_ir T e h dX9_rank_18
  · refine k_iload_n hX dX9_rank_7 rfl 0 rfl ?_
    refine k_bipush (v := 96) hX dX9_rank_8 (by decide) ?_
    refine k_isub hX dX9_rank_10 ?_
    refine k_goto (tgt := 18) hX dX9_rank_11 (by decide) ?_
    exact t_ret_ir T e h dX9_rank_18
theorem T_cutAll_b265_ok {X : KC TS} {E : TE} {z : TS} (T : tOK X E cX9_cutAll 7 none) (hR : tRoom X 2 40) (e : tE_v X E z) {nf : Nat} {k17 : Int32 → Int32 → TS → Option TS} (hk17 : ∀ (x1 : Int32) (x2 : Int32) (τ : TS), k17 x1 x2 τ = some z → kW X τ 17 [(0, .ref (E.2.2.2.2.1 0)), (1, .int x1), (2, .int x2)] []) {x1 : Int32} {x2 : Int32} {x5 : Int64} {τ : TS} (h : T_cutAll_b265 nf k17 x1 x2 x5 τ = some z) : kW X τ 265 [(0, .ref (E.2.2.2.2.1 0)), (1, .int x1), (2, .int x2), (5, .long x5)] [] := by
  unfold T_cutAll_b265 at h
  have hX := T.1
  refine k_aload_n hX dX9_cutAll_265 rfl 0 rfl ?_
  refine tg6 T dX9_cutAll_266 ?_
  refine k_iload_n hX dX9_cutAll_269 rfl 1 rfl ?_
  refine k_lload hX dX9_cutAll_270 3 rfl ?_
  refine ts6 T h dX9_cutAll_272 (fun τ1 h => ?_)
  refine k_iinc (j := 1) [(1, .int (x1 + 1)), (0, .ref (E.2.2.2.2.1 0)), (2, .int x2), (5, .long x5)] hX dX9_cutAll_273 rfl rfl rfl rfl ?_
  refine k_goto (tgt := 17) hX dX9_cutAll_276 (by decide) ?_
  refine k_lv [1, 0, 2] rfl ?_
  exact hk17 _ _ _ h
theorem T_cutAll_b218_ok {X : KC TS} {E : TE} {z : TS} (T : tOK X E cX9_cutAll 7 none) (hR : tRoom X 2 40) (e : tE_v X E z) {nf : Nat} {k17 : Int32 → Int32 → TS → Option TS} (hk17 : ∀ (x1 : Int32) (x2 : Int32) (τ : TS), k17 x1 x2 τ = some z → kW X τ 17 [(0, .ref (E.2.2.2.2.1 0)), (1, .int x1), (2, .int x2)] []) {x1 : Int32} {x2 : Int32} {x4 : Int32} {x5 : Int64} {τ : TS} (h : T_cutAll_b218 nf k17 x1 x2 x4 x5 τ = some z) : kW X τ 218 [(0, .ref (E.2.2.2.2.1 0)), (1, .int x1), (2, .int x2), (4, .int x4), (5, .long x5)] [] := by
  unfold T_cutAll_b218 at h
  have hX := T.1
  refine k_aload_n hX dX9_cutAll_218 rfl 0 rfl ?_
  refine tg4 T dX9_cutAll_219 ?_
  refine k_iload_n hX dX9_cutAll_222 rfl 1 rfl ?_
  refine k_iload_n hX dX9_cutAll_223 rfl 2 rfl ?_
  refine k_iload hX dX9_cutAll_224 3 rfl ?_
  refine k_isub hX dX9_cutAll_226 ?_
  refine k_iconst (v := 4) hX dX9_cutAll_227 (by decide) ?_
  refine k_icmp_le (tgt := 235) hX h dX9_cutAll_228 (by decide) (fun h => ?_) (fun h => ?_)
  · refine k_iconst (v := 2) hX dX9_cutAll_235 (by decide) ?_
    refine ts4 T h dX9_cutAll_236 (fun τ1 h => ?_)
    refine k_goto (tgt := 265) hX dX9_cutAll_237 (by decide) ?_
    refine k_lv [0, 1, 2, 4] rfl ?_
    exact T_cutAll_b265_ok T hR e hk17 h
  · refine k_iconst (v := 4) hX dX9_cutAll_231 (by decide) ?_
    refine k_goto (tgt := 236) hX dX9_cutAll_232 (by decide) ?_
    refine ts4 T h dX9_cutAll_236 (fun τ2 h => ?_)
    refine k_goto (tgt := 265) hX dX9_cutAll_237 (by decide) ?_
    refine k_lv [0, 1, 2, 4] rfl ?_
    exact T_cutAll_b265_ok T hR e hk17 h
theorem T_cutAll_b159_s_ok {X : KC TS} {E : TE} {z : TS} (T : tOK X E cX9_cutAll 7 none) (hR : tRoom X 2 40) (e : tE_v X E z) {nf : Nat} {k17 : Int32 → Int32 → TS → Option TS} (hk17 : ∀ (x1 : Int32) (x2 : Int32) (τ : TS), k17 x1 x2 τ = some z → kW X τ 17 [(0, .ref (E.2.2.2.2.1 0)), (1, .int x1), (2, .int x2)] []) {k159 : Int32 → Int32 → Int32 → Int64 → TS → Option TS} (hk159 : ∀ (x1 : Int32) (x2 : Int32) (x4 : Int32) (x5 : Int64) (τ : TS), k159 x1 x2 x4 x5 τ = some z → kW X τ 159 [(0, .ref (E.2.2.2.2.1 0)), (1, .int x1), (2, .int x2), (4, .int x4), (5, .long x5)] []) {x1 : Int32} {x2 : Int32} {x4 : Int32} {x5 : Int64} {τ : TS} (h : T_cutAll_b159_s nf k17 k159 x1 x2 x4 x5 τ = some z) : kW X τ 159 [(0, .ref (E.2.2.2.2.1 0)), (1, .int x1), (2, .int x2), (4, .int x4), (5, .long x5)] [] := by
  unfold T_cutAll_b159_s at h
  have hX := T.1
  refine k_iload_n hX dX9_cutAll_159 rfl 2 rfl ?_
  refine k_aload_n hX dX9_cutAll_160 rfl 0 rfl ?_
  refine tg3 T dX9_cutAll_161 ?_
  refine k_icmp_ge (tgt := 218) hX h dX9_cutAll_164 (by decide) (fun h => ?_) (fun h => ?_)
  · refine k_lv [0, 1, 2, 3, 4] rfl ?_
    exact T_cutAll_b218_ok T hR e hk17 h
  · refine k_aload_n hX dX9_cutAll_167 rfl 0 rfl ?_
    refine tg1 T dX9_cutAll_168 ?_
    refine k_iload_n hX dX9_cutAll_171 rfl 2 rfl ?_
    refine ta1 T h dX9_cutAll_172 (fun v1 h => ?_)
    refine cX_isDigit T (met_isDigit T.2.1) (room_le hR rfl rfl) h rfl dX9_cutAll_173 (fun v2 h => ?_)
    refine k_if_eq (tgt := 218) hX h dX9_cutAll_176 (by decide) (fun h => ?_) (fun h => ?_)
    · refine k_lv [0, 1, 2, 3, 4] rfl ?_
      exact T_cutAll_b218_ok T hR e hk17 h
    · refine k_iload_n hX dX9_cutAll_179 rfl 2 rfl ?_
      refine k_iload hX dX9_cutAll_180 3 rfl ?_
      refine k_isub hX dX9_cutAll_182 ?_
      refine k_iconst (v := 4) hX dX9_cutAll_183 (by decide) ?_
      refine k_icmp_ge (tgt := 208) hX h dX9_cutAll_184 (by decide) (fun h => ?_) (fun h => ?_)
      · refine k_lload hX dX9_cutAll_208 4 rfl ?_
        refine k_lstore [(5, .long x5), (0, .ref (E.2.2.2.2.1 0)), (1, .int x1), (2, .int x2), (4, .int x4)] hX dX9_cutAll_210 rfl rfl ?_
        refine k_iinc (j := 3) [(2, .int (x2 + 1)), (5, .long x5), (0, .ref (E.2.2.2.2.1 0)), (1, .int x1), (4, .int x4)] hX dX9_cutAll_212 rfl rfl rfl rfl ?_
        refine k_goto (tgt := 159) hX dX9_cutAll_215 (by decide) ?_
        refine k_lv [2, 3, 0, 4, 1] rfl ?_
        exact hk159 _ _ _ _ _ h
      · refine k_ldc2 (v := 10) hX q1831 dX9_cutAll_187 ?_
        refine k_lload hX dX9_cutAll_190 4 rfl ?_
        refine k_lmul hX dX9_cutAll_192 ?_
        refine k_aload_n hX dX9_cutAll_193 rfl 0 rfl ?_
        refine tg1 T dX9_cutAll_194 ?_
        refine k_iload_n hX dX9_cutAll_197 rfl 2 rfl ?_
        refine ta1 T h dX9_cutAll_198 (fun v3 h => ?_)
        refine k_i2l hX dX9_cutAll_199 ?_
        refine k_ladd hX dX9_cutAll_200 ?_
        refine k_ldc2 (v := 48) hX q1832 dX9_cutAll_201 ?_
        refine k_lsub hX dX9_cutAll_204 ?_
        refine k_goto (tgt := 210) hX dX9_cutAll_205 (by decide) ?_
        refine k_nml h (fun v4 h => ?_)
        refine k_lstore [(5, .long v4), (0, .ref (E.2.2.2.2.1 0)), (1, .int x1), (2, .int x2), (4, .int x4)] hX dX9_cutAll_210 rfl rfl ?_
        refine k_iinc (j := 3) [(2, .int (x2 + 1)), (5, .long v4), (0, .ref (E.2.2.2.2.1 0)), (1, .int x1), (4, .int x4)] hX dX9_cutAll_212 rfl rfl rfl rfl ?_
        refine k_goto (tgt := 159) hX dX9_cutAll_215 (by decide) ?_
        refine k_lv [2, 3, 0, 4, 1] rfl ?_
        exact hk159 _ _ _ _ _ h
theorem T_cutAll_b159_ok {X : KC TS} {E : TE} {z : TS} (T : tOK X E cX9_cutAll 7 none) (hR : tRoom X 2 40) (e : tE_v X E z) {nf : Nat} {k17 : Int32 → Int32 → TS → Option TS} (hk17 : ∀ (x1 : Int32) (x2 : Int32) (τ : TS), k17 x1 x2 τ = some z → kW X τ 17 [(0, .ref (E.2.2.2.2.1 0)), (1, .int x1), (2, .int x2)] []) : ∀ (n : Nat) (x1 : Int32) (x2 : Int32) (x4 : Int32) (x5 : Int64) (τ : TS), T_cutAll_b159 nf k17 n x1 x2 x4 x5 τ = some z → kW X τ 159 [(0, .ref (E.2.2.2.2.1 0)), (1, .int x1), (2, .int x2), (4, .int x4), (5, .long x5)] [] := by
  intro n
  induction n with
  | zero => intro x1 x2 x4 x5 τ h; exact (nomatch (show (none : Option TS) = some z from h))
  | succ n ih =>
    intro x1 x2 x4 x5 τ h
    have h : T_cutAll_b159_s nf k17 (T_cutAll_b159 nf k17 n) x1 x2 x4 x5 τ = some z := h
    exact T_cutAll_b159_s_ok T hR e hk17 ih h
theorem T_cutAll_b129_ok {X : KC TS} {E : TE} {z : TS} (T : tOK X E cX9_cutAll 7 none) (hR : tRoom X 2 40) (e : tE_v X E z) {nf : Nat} {k17 : Int32 → Int32 → TS → Option TS} (hk17 : ∀ (x1 : Int32) (x2 : Int32) (τ : TS), k17 x1 x2 τ = some z → kW X τ 17 [(0, .ref (E.2.2.2.2.1 0)), (1, .int x1), (2, .int x2)] []) {x1 : Int32} {x2 : Int32} {x4 : Int32} {x5 : Int64} {τ : TS} (h : T_cutAll_b129 nf k17 x1 x2 x4 x5 τ = some z) : kW X τ 129 [(0, .ref (E.2.2.2.2.1 0)), (1, .int x1), (2, .int x2), (4, .int x4), (5, .long x5)] [] := by
  unfold T_cutAll_b129 at h
  have hX := T.1
  refine k_aload_n hX dX9_cutAll_129 rfl 0 rfl ?_
  refine tg4 T dX9_cutAll_130 ?_
  refine k_iload_n hX dX9_cutAll_133 rfl 1 rfl ?_
  refine k_iload_n hX dX9_cutAll_134 rfl 2 rfl ?_
  refine k_iload hX dX9_cutAll_135 3 rfl ?_
  refine k_isub hX dX9_cutAll_137 ?_
  refine k_bipush (v := 8) hX dX9_cutAll_138 (by decide) ?_
  refine k_icmp_le (tgt := 147) hX h dX9_cutAll_140 (by decide) (fun h => ?_) (fun h => ?_)
  · refine k_iconst (v := 1) hX dX9_cutAll_147 (by decide) ?_
    refine ts4 T h dX9_cutAll_148 (fun τ1 h => ?_)
    refine k_goto (tgt := 265) hX dX9_cutAll_149 (by decide) ?_
    refine k_lv [0, 1, 2, 4] rfl ?_
    exact T_cutAll_b265_ok T hR e hk17 h
  · refine k_iconst (v := 4) hX dX9_cutAll_143 (by decide) ?_
    refine k_goto (tgt := 148) hX dX9_cutAll_144 (by decide) ?_
    refine ts4 T h dX9_cutAll_148 (fun τ2 h => ?_)
    refine k_goto (tgt := 265) hX dX9_cutAll_149 (by decide) ?_
    refine k_lv [0, 1, 2, 4] rfl ?_
    exact T_cutAll_b265_ok T hR e hk17 h
theorem T_cutAll_b70_s_ok {X : KC TS} {E : TE} {z : TS} (T : tOK X E cX9_cutAll 7 none) (hR : tRoom X 2 40) (e : tE_v X E z) {nf : Nat} {k17 : Int32 → Int32 → TS → Option TS} (hk17 : ∀ (x1 : Int32) (x2 : Int32) (τ : TS), k17 x1 x2 τ = some z → kW X τ 17 [(0, .ref (E.2.2.2.2.1 0)), (1, .int x1), (2, .int x2)] []) {k70 : Int32 → Int32 → Int32 → Int64 → TS → Option TS} (hk70 : ∀ (x1 : Int32) (x2 : Int32) (x4 : Int32) (x5 : Int64) (τ : TS), k70 x1 x2 x4 x5 τ = some z → kW X τ 70 [(0, .ref (E.2.2.2.2.1 0)), (1, .int x1), (2, .int x2), (4, .int x4), (5, .long x5)] []) {x1 : Int32} {x2 : Int32} {x4 : Int32} {x5 : Int64} {τ : TS} (h : T_cutAll_b70_s nf k17 k70 x1 x2 x4 x5 τ = some z) : kW X τ 70 [(0, .ref (E.2.2.2.2.1 0)), (1, .int x1), (2, .int x2), (4, .int x4), (5, .long x5)] [] := by
  unfold T_cutAll_b70_s at h
  have hX := T.1
  refine k_iload_n hX dX9_cutAll_70 rfl 2 rfl ?_
  refine k_aload_n hX dX9_cutAll_71 rfl 0 rfl ?_
  refine tg3 T dX9_cutAll_72 ?_
  refine k_icmp_ge (tgt := 129) hX h dX9_cutAll_75 (by decide) (fun h => ?_) (fun h => ?_)
  · refine k_lv [0, 1, 2, 3, 4] rfl ?_
    exact T_cutAll_b129_ok T hR e hk17 h
  · refine k_aload_n hX dX9_cutAll_78 rfl 0 rfl ?_
    refine tg1 T dX9_cutAll_79 ?_
    refine k_iload_n hX dX9_cutAll_82 rfl 2 rfl ?_
    refine ta1 T h dX9_cutAll_83 (fun v1 h => ?_)
    refine cX_isLetter T (met_isLetter T.2.1) (room_le hR rfl rfl) h rfl dX9_cutAll_84 (fun v2 h => ?_)
    refine k_if_eq (tgt := 129) hX h dX9_cutAll_87 (by decide) (fun h => ?_) (fun h => ?_)
    · refine k_lv [0, 1, 2, 3, 4] rfl ?_
      exact T_cutAll_b129_ok T hR e hk17 h
    · refine k_iload_n hX dX9_cutAll_90 rfl 2 rfl ?_
      refine k_iload hX dX9_cutAll_91 3 rfl ?_
      refine k_isub hX dX9_cutAll_93 ?_
      refine k_bipush (v := 8) hX dX9_cutAll_94 (by decide) ?_
      refine k_icmp_ge (tgt := 119) hX h dX9_cutAll_96 (by decide) (fun h => ?_) (fun h => ?_)
      · refine k_lload hX dX9_cutAll_119 4 rfl ?_
        refine k_lstore [(5, .long x5), (0, .ref (E.2.2.2.2.1 0)), (1, .int x1), (2, .int x2), (4, .int x4)] hX dX9_cutAll_121 rfl rfl ?_
        refine k_iinc (j := 3) [(2, .int (x2 + 1)), (5, .long x5), (0, .ref (E.2.2.2.2.1 0)), (1, .int x1), (4, .int x4)] hX dX9_cutAll_123 rfl rfl rfl rfl ?_
        refine k_goto (tgt := 70) hX dX9_cutAll_126 (by decide) ?_
        refine k_lv [2, 3, 0, 4, 1] rfl ?_
        exact hk70 _ _ _ _ _ h
      · refine k_ldc2 (v := 37) hX q1824 dX9_cutAll_99 ?_
        refine k_lload hX dX9_cutAll_102 4 rfl ?_
        refine k_lmul hX dX9_cutAll_104 ?_
        refine k_aload_n hX dX9_cutAll_105 rfl 0 rfl ?_
        refine tg1 T dX9_cutAll_106 ?_
        refine k_iload_n hX dX9_cutAll_109 rfl 2 rfl ?_
        refine ta1 T h dX9_cutAll_110 (fun v3 h => ?_)
        refine cX_rank T (met_rank T.2.1) (room_le hR rfl rfl) h rfl dX9_cutAll_111 (fun v4 h => ?_)
        refine k_i2l hX dX9_cutAll_114 ?_
        refine k_ladd hX dX9_cutAll_115 ?_
        refine k_goto (tgt := 121) hX dX9_cutAll_116 (by decide) ?_
        refine k_nml h (fun v5 h => ?_)
        refine k_lstore [(5, .long v5), (0, .ref (E.2.2.2.2.1 0)), (1, .int x1), (2, .int x2), (4, .int x4)] hX dX9_cutAll_121 rfl rfl ?_
        refine k_iinc (j := 3) [(2, .int (x2 + 1)), (5, .long v5), (0, .ref (E.2.2.2.2.1 0)), (1, .int x1), (4, .int x4)] hX dX9_cutAll_123 rfl rfl rfl rfl ?_
        refine k_goto (tgt := 70) hX dX9_cutAll_126 (by decide) ?_
        refine k_lv [2, 3, 0, 4, 1] rfl ?_
        exact hk70 _ _ _ _ _ h
theorem T_cutAll_b70_ok {X : KC TS} {E : TE} {z : TS} (T : tOK X E cX9_cutAll 7 none) (hR : tRoom X 2 40) (e : tE_v X E z) {nf : Nat} {k17 : Int32 → Int32 → TS → Option TS} (hk17 : ∀ (x1 : Int32) (x2 : Int32) (τ : TS), k17 x1 x2 τ = some z → kW X τ 17 [(0, .ref (E.2.2.2.2.1 0)), (1, .int x1), (2, .int x2)] []) : ∀ (n : Nat) (x1 : Int32) (x2 : Int32) (x4 : Int32) (x5 : Int64) (τ : TS), T_cutAll_b70 nf k17 n x1 x2 x4 x5 τ = some z → kW X τ 70 [(0, .ref (E.2.2.2.2.1 0)), (1, .int x1), (2, .int x2), (4, .int x4), (5, .long x5)] [] := by
  intro n
  induction n with
  | zero => intro x1 x2 x4 x5 τ h; exact (nomatch (show (none : Option TS) = some z from h))
  | succ n ih =>
    intro x1 x2 x4 x5 τ h
    have h : T_cutAll_b70_s nf k17 (T_cutAll_b70 nf k17 n) x1 x2 x4 x5 τ = some z := h
    exact T_cutAll_b70_s_ok T hR e hk17 ih h
theorem T_cutAll_b17_s_ok {X : KC TS} {E : TE} {z : TS} (T : tOK X E cX9_cutAll 7 none) (hR : tRoom X 2 40) (e : tE_v X E z) {nf : Nat} {k17 : Int32 → Int32 → TS → Option TS} (hk17 : ∀ (x1 : Int32) (x2 : Int32) (τ : TS), k17 x1 x2 τ = some z → kW X τ 17 [(0, .ref (E.2.2.2.2.1 0)), (1, .int x1), (2, .int x2)] []) {x1 : Int32} {x2 : Int32} {τ : TS} (h : T_cutAll_b17_s nf k17 x1 x2 τ = some z) : kW X τ 17 [(0, .ref (E.2.2.2.2.1 0)), (1, .int x1), (2, .int x2)] [] := by
  unfold T_cutAll_b17_s at h
  have hX := T.1
  refine k_iload_n hX dX9_cutAll_17 rfl 2 rfl ?_
  refine k_aload_n hX dX9_cutAll_18 rfl 0 rfl ?_
  refine tg3 T dX9_cutAll_19 ?_
  refine k_icmp_ge (tgt := 279) hX h dX9_cutAll_22 (by decide) (fun h => ?_) (fun h => ?_)
  · refine k_aload_n hX dX9_cutAll_279 rfl 0 rfl ?_
    refine tg4 T dX9_cutAll_280 ?_
    refine k_iload_n hX dX9_cutAll_283 rfl 1 rfl ?_
    refine k_iconst (v := 0) hX dX9_cutAll_284 (by decide) ?_
    refine ts4 T h dX9_cutAll_285 (fun τ1 h => ?_)
    refine k_aload_n hX dX9_cutAll_286 rfl 0 rfl ?_
    refine tg5 T dX9_cutAll_287 ?_
    refine k_iload_n hX dX9_cutAll_290 rfl 1 rfl ?_
    refine k_aload_n hX dX9_cutAll_291 rfl 0 rfl ?_
    refine tg3 T dX9_cutAll_292 ?_
    refine ts5 T h dX9_cutAll_295 (fun τ2 h => ?_)
    refine k_aload_n hX dX9_cutAll_296 rfl 0 rfl ?_
    refine k_iconst (v := 0) hX dX9_cutAll_297 (by decide) ?_
    refine tp7 T h dX9_cutAll_298 (fun τ3 h => ?_)
    refine k_aload_n hX dX9_cutAll_301 rfl 0 rfl ?_
    refine k_iconst (v := 0) hX dX9_cutAll_302 (by decide) ?_
    refine tp8 T h dX9_cutAll_303 (fun τ4 h => ?_)
    exact t_ret_v T e h dX9_cutAll_306
  · refine k_aload_n hX dX9_cutAll_25 rfl 0 rfl ?_
    refine tg1 T dX9_cutAll_26 ?_
    refine k_iload_n hX dX9_cutAll_29 rfl 2 rfl ?_
    refine ta1 T h dX9_cutAll_30 (fun v5 h => ?_)
    refine k_istore_n [(3, .int v5), (0, .ref (E.2.2.2.2.1 0)), (1, .int x1), (2, .int x2)] hX dX9_cutAll_31 rfl rfl rfl ?_
    refine k_iload_n hX dX9_cutAll_32 rfl 0 rfl ?_
    refine k_bipush (v := 10) hX dX9_cutAll_33 (by decide) ?_
    refine k_icmp_eq (tgt := 44) hX h dX9_cutAll_35 (by decide) (fun h => ?_) (fun h => ?_)
    · refine k_iinc (j := 3) [(2, .int (x2 + 1)), (3, .int v5), (0, .ref (E.2.2.2.2.1 0)), (1, .int x1)] hX dX9_cutAll_44 rfl rfl rfl rfl ?_
      refine k_goto (tgt := 17) hX dX9_cutAll_47 (by decide) ?_
      refine k_lv [2, 3, 0] rfl ?_
      exact hk17 _ _ _ h
    · refine k_iload_n hX dX9_cutAll_38 rfl 0 rfl ?_
      refine k_bipush (v := 32) hX dX9_cutAll_39 (by decide) ?_
      refine k_icmp_ne (tgt := 50) hX h dX9_cutAll_41 (by decide) (fun h => ?_) (fun h => ?_)
      · refine k_iload_n hX dX9_cutAll_50 rfl 3 rfl ?_
        refine k_istore [(4, .int x2), (3, .int v5), (0, .ref (E.2.2.2.2.1 0)), (1, .int x1), (2, .int x2)] hX dX9_cutAll_51 rfl rfl ?_
        refine k_lconst (v := 0) hX dX9_cutAll_53 (by decide) ?_
        refine k_lstore [(5, .long 0), (4, .int x2), (3, .int v5), (0, .ref (E.2.2.2.2.1 0)), (1, .int x1), (2, .int x2)] hX dX9_cutAll_54 rfl rfl ?_
        refine k_aload_n hX dX9_cutAll_56 rfl 3 rfl ?_
        refine tg5 T dX9_cutAll_57 ?_
        refine k_iload_n hX dX9_cutAll_60 rfl 4 rfl ?_
        refine k_iload_n hX dX9_cutAll_61 rfl 5 rfl ?_
        refine ts5 T h dX9_cutAll_62 (fun τ6 h => ?_)
        refine k_iload_n hX dX9_cutAll_63 rfl 2 rfl ?_
        refine cX_isLetter T (met_isLetter T.2.1) (room_le hR rfl rfl) h rfl dX9_cutAll_64 (fun v7 h => ?_)
        refine k_if_eq (tgt := 152) hX h dX9_cutAll_67 (by decide) (fun h => ?_) (fun h => ?_)
        · refine k_iload_n hX dX9_cutAll_152 rfl 2 rfl ?_
          refine cX_isDigit T (met_isDigit T.2.1) (room_le hR rfl rfl) h rfl dX9_cutAll_153 (fun v8 h => ?_)
          refine k_if_eq (tgt := 240) hX h dX9_cutAll_156 (by decide) (fun h => ?_) (fun h => ?_)
          · refine k_iload_n hX dX9_cutAll_240 rfl 2 rfl ?_
            refine k_i2l hX dX9_cutAll_241 ?_
            refine k_lstore [(5, .long v5.toInt64), (4, .int x2), (3, .int v5), (0, .ref (E.2.2.2.2.1 0)), (1, .int x1), (2, .int x2)] hX dX9_cutAll_242 rfl rfl ?_
            refine k_aload_n hX dX9_cutAll_244 rfl 3 rfl ?_
            refine tg4 T dX9_cutAll_245 ?_
            refine k_iload_n hX dX9_cutAll_248 rfl 4 rfl ?_
            refine k_iload_n hX dX9_cutAll_249 rfl 2 rfl ?_
            refine cX_isSignOf T (met_isSignOf T.2.1) (room_le hR rfl rfl) h rfl dX9_cutAll_250 (fun v9 h => ?_)
            refine k_if_eq (tgt := 260) hX h dX9_cutAll_253 (by decide) (fun h => ?_) (fun h => ?_)
            · refine k_iconst (v := 4) hX dX9_cutAll_260 (by decide) ?_
              refine ts4 T h dX9_cutAll_261 (fun τ10 h => ?_)
              refine k_iinc (j := 5) [(2, .int (x2 + 1)), (5, .long v5.toInt64), (4, .int x2), (3, .int v5), (0, .ref (E.2.2.2.2.1 0)), (1, .int x1)] hX dX9_cutAll_262 rfl rfl rfl rfl ?_
              refine k_lv [4, 5, 0, 1] rfl ?_
              exact T_cutAll_b265_ok T hR e hk17 h
            · refine k_iconst (v := 3) hX dX9_cutAll_256 (by decide) ?_
              refine k_goto (tgt := 261) hX dX9_cutAll_257 (by decide) ?_
              refine ts4 T h dX9_cutAll_261 (fun τ11 h => ?_)
              refine k_iinc (j := 5) [(2, .int (x2 + 1)), (5, .long v5.toInt64), (4, .int x2), (3, .int v5), (0, .ref (E.2.2.2.2.1 0)), (1, .int x1)] hX dX9_cutAll_262 rfl rfl rfl rfl ?_
              refine k_lv [4, 5, 0, 1] rfl ?_
              exact T_cutAll_b265_ok T hR e hk17 h
          · refine k_lv [3, 4, 5, 1, 0] rfl ?_
            exact T_cutAll_b159_ok T hR e hk17 _ _ _ _ _ _ h
        · refine k_lv [3, 4, 5, 1, 0] rfl ?_
          exact T_cutAll_b70_ok T hR e hk17 _ _ _ _ _ _ h
      · refine k_iinc (j := 3) [(2, .int (x2 + 1)), (3, .int v5), (0, .ref (E.2.2.2.2.1 0)), (1, .int x1)] hX dX9_cutAll_44 rfl rfl rfl rfl ?_
        refine k_goto (tgt := 17) hX dX9_cutAll_47 (by decide) ?_
        refine k_lv [2, 3, 0] rfl ?_
        exact hk17 _ _ _ h
theorem T_cutAll_b17_ok {X : KC TS} {E : TE} {z : TS} (T : tOK X E cX9_cutAll 7 none) (hR : tRoom X 2 40) (e : tE_v X E z) {nf : Nat} : ∀ (n : Nat) (x1 : Int32) (x2 : Int32) (τ : TS), T_cutAll_b17 nf n x1 x2 τ = some z → kW X τ 17 [(0, .ref (E.2.2.2.2.1 0)), (1, .int x1), (2, .int x2)] [] := by
  intro n
  induction n with
  | zero => intro x1 x2 τ h; exact (nomatch (show (none : Option TS) = some z from h))
  | succ n ih =>
    intro x1 x2 τ h
    have h : T_cutAll_b17_s nf (T_cutAll_b17 nf n) x1 x2 τ = some z := h
    exact T_cutAll_b17_s_ok T hR e ih h
theorem met_cutAll {l : Launch} {E : TE} (hE : tEnv E) {nf : Nat} : ∀ (τ : TS) (z : TS), T_cutAll nf τ = some z → tMet_v l E yX9_cutAll (ws_ yX9_cutAll cX9_cutAll 7 none) 2 40 [.ref (E.2.2.2.2.1 0)] τ z := by
  intro τ z h
  refine t_met_v hE (by decide +kernel) rfl rfl (fun X hl T hR e => ?_)
  unfold T_cutAll at h
  have hX := T.1
  show kW X τ 0 [(0, .ref (E.2.2.2.2.1 0))] []
  refine k_aload_n hX dX9_cutAll_0 rfl 0 rfl ?_
  refine k_aload_n hX dX9_cutAll_1 rfl 0 rfl ?_
  refine tg2 T dX9_cutAll_2 ?_
  refine tp3 T h dX9_cutAll_5 (fun τ1 h => ?_)
  refine k_aload_n hX dX9_cutAll_8 rfl 0 rfl ?_
  refine k_iconst (v := 0) hX dX9_cutAll_9 (by decide) ?_
  refine tp2 T h dX9_cutAll_10 (fun τ2 h => ?_)
  refine k_iconst (v := 0) hX dX9_cutAll_13 (by decide) ?_
  refine k_istore_n [(1, .int 0), (0, .ref (E.2.2.2.2.1 0))] hX dX9_cutAll_14 rfl rfl rfl ?_
  refine k_iconst (v := 0) hX dX9_cutAll_15 (by decide) ?_
  refine k_istore_n [(2, .int 0), (1, .int 0), (0, .ref (E.2.2.2.2.1 0))] hX dX9_cutAll_16 rfl rfl rfl ?_
  refine k_lv [2, 1, 0] rfl ?_
  exact T_cutAll_b17_ok T hR e _ _ _ _ h
theorem met_isWord {l : Launch} {E : TE} (hE : tEnv E) {τ : TS} : ∀ (x1 : Int32) (z : Int32), T_isWord τ x1 = some z → tMet_i l E yX9_isWord (ws_ yX9_isWord cX9_isWord 2 (some .boolean)) 0 0 [.ref (E.2.2.2.2.1 0), .int x1] τ z τ := by
  intro x1 z h
  refine t_met_i hE (by decide +kernel) rfl rfl (fun X hl T hR e => ?_)
  unfold T_isWord at h
  have hX := T.1
  show kW X τ 0 [(0, .ref (E.2.2.2.2.1 0)), (1, .int x1)] []
  refine k_aload_n hX dX9_isWord_0 rfl 0 rfl ?_
  refine tg8 T dX9_isWord_1 ?_
  refine k_if_ne (tgt := 43) hX h dX9_isWord_4 (by decide) (fun h => ?_) (fun h => ?_)
  · refine k_iconst (v := 0) hX dX9_isWord_43 (by decide) ?_
    exact t_ret_zrc T e rfl h dX9_isWord_44
  · refine k_aload_n hX dX9_isWord_7 rfl 0 rfl ?_
    refine tg4 T dX9_isWord_8 ?_
    refine k_aload_n hX dX9_isWord_11 rfl 0 rfl ?_
    refine tg7 T dX9_isWord_12 ?_
    refine ta4 T h dX9_isWord_15 (fun v1 h => ?_)
    refine k_iconst (v := 1) hX dX9_isWord_16 (by decide) ?_
    refine k_icmp_ne (tgt := 43) hX h dX9_isWord_17 (by decide) (fun h => ?_) (fun h => ?_)
    · refine k_iconst (v := 0) hX dX9_isWord_43 (by decide) ?_
      exact t_ret_zrc T e rfl h dX9_isWord_44
    · refine k_aload_n hX dX9_isWord_20 rfl 0 rfl ?_
      refine tg6 T dX9_isWord_21 ?_
      refine k_aload_n hX dX9_isWord_24 rfl 0 rfl ?_
      refine tg7 T dX9_isWord_25 ?_
      refine ta6 T h dX9_isWord_28 (fun v2 h => ?_)
      refine k_aload_n hX dX9_isWord_29 rfl 0 rfl ?_
      refine tg9 T dX9_isWord_30 ?_
      refine k_iload_n hX dX9_isWord_33 rfl 1 rfl ?_
      refine ta9 T h dX9_isWord_34 (fun v3 h => ?_)
      refine k_lcmp_ne (tgt := 43) hX h dX9_isWord_35 dX9_isWord_36 (by decide) (fun h => ?_) (fun h => ?_)
      · refine k_iconst (v := 0) hX dX9_isWord_43 (by decide) ?_
        exact t_ret_zrc T e rfl h dX9_isWord_44
      · refine k_iconst (v := 1) hX dX9_isWord_39 (by decide) ?_
        refine k_goto (tgt := 44) hX dX9_isWord_40 (by decide) ?_
        exact t_ret_zrc T e rfl h dX9_isWord_44
theorem met_wrong {l : Launch} {E : TE} (hE : tEnv E) : ∀ (x1 : Int32) (τ : TS) (z : TS), T_wrong x1 τ = some z → tMet_v l E yX9_wrong (ws_ yX9_wrong cX9_wrong 2 none) 0 0 [.ref (E.2.2.2.2.1 0), .int x1] τ z := by
  intro x1 τ z h
  refine t_met_v hE (by decide +kernel) rfl rfl (fun X hl T hR e => ?_)
  unfold T_wrong at h
  have hX := T.1
  show kW X τ 0 [(0, .ref (E.2.2.2.2.1 0)), (1, .int x1)] []
  refine k_aload_n hX dX9_wrong_0 rfl 0 rfl ?_
  refine tg8 T dX9_wrong_1 ?_
  refine k_if_ne (tgt := 25) hX h dX9_wrong_4 (by decide) (fun h => ?_) (fun h => ?_)
  · exact t_ret_v T e h dX9_wrong_25
  · refine k_aload_n hX dX9_wrong_7 rfl 0 rfl ?_
    refine k_iload_n hX dX9_wrong_8 rfl 1 rfl ?_
    refine k_bipush (v := 16) hX dX9_wrong_9 (by decide) ?_
    refine k_aload_n hX dX9_wrong_11 rfl 0 rfl ?_
    refine tg5 T dX9_wrong_12 ?_
    refine k_aload_n hX dX9_wrong_15 rfl 0 rfl ?_
    refine tg7 T dX9_wrong_16 ?_
    refine ta5 T h dX9_wrong_19 (fun v1 h => ?_)
    refine k_imul hX dX9_wrong_20 ?_
    refine k_iadd hX dX9_wrong_21 ?_
    refine tp8 T h dX9_wrong_22 (fun τ2 h => ?_)
    exact t_ret_v T e h dX9_wrong_25
theorem T_takeNumber_b70_ok {X : KC TS} {E : TE} {z : (Int32 × TS)} (T : tOK X E cX9_takeNumber 3 (some .int)) (hR : tRoom X 1 21) (e : tE_i X E z.1 z.2) {τ : TS} (h : T_takeNumber_b70 τ = some z) : kW X τ 70 [(0, .ref (E.2.2.2.2.1 0))] [] := by
  unfold T_takeNumber_b70 at h
  have hX := T.1
  refine k_aload_n hX dX9_takeNumber_70 rfl 0 rfl ?_
  refine tg8 T dX9_takeNumber_71 ?_
  refine k_if_le (tgt := 79) hX h dX9_takeNumber_74 (by decide) (fun h => ?_) (fun h => ?_)
  · refine k_aload_n hX dX9_takeNumber_79 rfl 0 rfl ?_
    refine k_dup hX dX9_takeNumber_80 rfl ?_
    refine tg7 T dX9_takeNumber_81 ?_
    refine k_iconst (v := 1) hX dX9_takeNumber_84 (by decide) ?_
    refine k_iadd hX dX9_takeNumber_85 ?_
    refine tp7 T h dX9_takeNumber_86 (fun τ1 h => ?_)
    refine k_aload_n hX dX9_takeNumber_89 rfl 0 rfl ?_
    refine tg6 T dX9_takeNumber_90 ?_
    refine k_aload_n hX dX9_takeNumber_93 rfl 0 rfl ?_
    refine tg7 T dX9_takeNumber_94 ?_
    refine k_iconst (v := 1) hX dX9_takeNumber_97 (by decide) ?_
    refine k_isub hX dX9_takeNumber_98 ?_
    refine ta6 T h dX9_takeNumber_99 (fun v2 h => ?_)
    refine k_l2i hX dX9_takeNumber_100 ?_
    exact t_ret_i T e h dX9_takeNumber_101
  · refine k_iconst (v := 0) hX dX9_takeNumber_77 (by decide) ?_
    exact t_ret_i T e h dX9_takeNumber_78
theorem T_takeNumber_b28_ok {X : KC TS} {E : TE} {z : (Int32 × TS)} (T : tOK X E cX9_takeNumber 3 (some .int)) (hR : tRoom X 1 21) (e : tE_i X E z.1 z.2) {x1 : Int32} {x2 : Int32} {τ : TS} (h : T_takeNumber_b28 x1 x2 τ = some z) : kW X τ 28 [(0, .ref (E.2.2.2.2.1 0)), (1, .int x1), (2, .int x2)] [] := by
  unfold T_takeNumber_b28 at h
  have hX := T.1
  refine k_aload_n hX dX9_takeNumber_28 rfl 0 rfl ?_
  refine tg8 T dX9_takeNumber_29 ?_
  refine k_if_ne (tgt := 70) hX h dX9_takeNumber_32 (by decide) (fun h => ?_) (fun h => ?_)
  · refine k_lv [0] rfl ?_
    exact T_takeNumber_b70_ok T hR e h
  · refine k_aload_n hX dX9_takeNumber_35 rfl 0 rfl ?_
    refine tg6 T dX9_takeNumber_36 ?_
    refine k_aload_n hX dX9_takeNumber_39 rfl 0 rfl ?_
    refine tg7 T dX9_takeNumber_40 ?_
    refine ta6 T h dX9_takeNumber_43 (fun v1 h => ?_)
    refine k_iload_n hX dX9_takeNumber_44 rfl 1 rfl ?_
    refine k_i2l hX dX9_takeNumber_45 ?_
    refine k_lcmp_lt (tgt := 65) hX h dX9_takeNumber_46 dX9_takeNumber_47 (by decide) (fun h => ?_) (fun h => ?_)
    · refine k_aload_n hX dX9_takeNumber_65 rfl 0 rfl ?_
      refine k_iconst (v := 4) hX dX9_takeNumber_66 (by decide) ?_
      refine cX_wrong T (met_wrong T.2.1) (room_le hR rfl rfl) h rfl dX9_takeNumber_67 (fun τ2 h => ?_)
      refine k_lv [0] rfl ?_
      exact T_takeNumber_b70_ok T hR e h
    · refine k_aload_n hX dX9_takeNumber_50 rfl 0 rfl ?_
      refine tg6 T dX9_takeNumber_51 ?_
      refine k_aload_n hX dX9_takeNumber_54 rfl 0 rfl ?_
      refine tg7 T dX9_takeNumber_55 ?_
      refine ta6 T h dX9_takeNumber_58 (fun v3 h => ?_)
      refine k_iload_n hX dX9_takeNumber_59 rfl 2 rfl ?_
      refine k_i2l hX dX9_takeNumber_60 ?_
      refine k_lcmp_le (tgt := 70) hX h dX9_takeNumber_61 dX9_takeNumber_62 (by decide) (fun h => ?_) (fun h => ?_)
      · refine k_lv [0] rfl ?_
        exact T_takeNumber_b70_ok T hR e h
      · refine k_aload_n hX dX9_takeNumber_65 rfl 0 rfl ?_
        refine k_iconst (v := 4) hX dX9_takeNumber_66 (by decide) ?_
        refine cX_wrong T (met_wrong T.2.1) (room_le hR rfl rfl) h rfl dX9_takeNumber_67 (fun τ4 h => ?_)
        refine k_lv [0] rfl ?_
        exact T_takeNumber_b70_ok T hR e h
theorem met_takeNumber {l : Launch} {E : TE} (hE : tEnv E) : ∀ (x1 : Int32) (x2 : Int32) (τ : TS) (z : (Int32 × TS)), T_takeNumber x1 x2 τ = some z → tMet_i l E yX9_takeNumber (ws_ yX9_takeNumber cX9_takeNumber 3 (some .int)) 1 21 [.ref (E.2.2.2.2.1 0), .int x1, .int x2] τ z.1 z.2 := by
  intro x1 x2 τ z h
  refine t_met_i hE (by decide +kernel) rfl rfl (fun X hl T hR e => ?_)
  unfold T_takeNumber at h
  have hX := T.1
  show kW X τ 0 [(0, .ref (E.2.2.2.2.1 0)), (1, .int x1), (2, .int x2)] []
  refine k_aload_n hX dX9_takeNumber_0 rfl 0 rfl ?_
  refine tg8 T dX9_takeNumber_1 ?_
  refine k_if_ne (tgt := 28) hX h dX9_takeNumber_4 (by decide) (fun h => ?_) (fun h => ?_)
  · refine k_lv [0, 1, 2] rfl ?_
    exact T_takeNumber_b28_ok T hR e h
  · refine k_aload_n hX dX9_takeNumber_7 rfl 0 rfl ?_
    refine tg4 T dX9_takeNumber_8 ?_
    refine k_aload_n hX dX9_takeNumber_11 rfl 0 rfl ?_
    refine tg7 T dX9_takeNumber_12 ?_
    refine ta4 T h dX9_takeNumber_15 (fun v1 h => ?_)
    refine k_iconst (v := 2) hX dX9_takeNumber_16 (by decide) ?_
    refine k_icmp_eq (tgt := 28) hX h dX9_takeNumber_17 (by decide) (fun h => ?_) (fun h => ?_)
    · refine k_lv [0, 1, 2] rfl ?_
      exact T_takeNumber_b28_ok T hR e h
    · refine k_aload_n hX dX9_takeNumber_20 rfl 0 rfl ?_
      refine k_iconst (v := 1) hX dX9_takeNumber_21 (by decide) ?_
      refine cX_wrong T (met_wrong T.2.1) (room_le hR rfl rfl) h rfl dX9_takeNumber_22 (fun τ2 h => ?_)
      refine k_goto (tgt := 70) hX dX9_takeNumber_25 (by decide) ?_
      refine k_lv [0] rfl ?_
      exact T_takeNumber_b70_ok T hR e h
theorem T_wordHere_b5_s_ok {X : KC TS} {E : TE} {z : Int32} {τ : TS} (T : tOK X E cX9_wordHere 5 (some .int)) (hR : tRoom X 1 21) (e : tE_i X E z τ) {nf : Nat} {k5 : Int32 → Int32 → Int32 → Int32 → Option Int32} (hk5 : ∀ (x1 : Int32) (x2 : Int32) (x3 : Int32) (x4 : Int32), k5 x1 x2 x3 x4 = some z → kW X τ 5 [(0, .ref (E.2.2.2.2.1 0)), (1, .int x1), (2, .int x2), (3, .int x3), (4, .int x4)] []) {x1 : Int32} {x2 : Int32} {x3 : Int32} {x4 : Int32} (h : T_wordHere_b5_s nf τ k5 x1 x2 x3 x4 = some z) : kW X τ 5 [(0, .ref (E.2.2.2.2.1 0)), (1, .int x1), (2, .int x2), (3, .int x3), (4, .int x4)] [] := by
  unfold T_wordHere_b5_s at h
  have hX := T.1
  refine k_iload hX dX9_wordHere_5 4 rfl ?_
  refine k_iload_n hX dX9_wordHere_7 rfl 2 rfl ?_
  refine k_icmp_ge (tgt := 35) hX h dX9_wordHere_8 (by decide) (fun h => ?_) (fun h => ?_)
  · refine k_iload_n hX dX9_wordHere_35 rfl 3 rfl ?_
    exact t_ret_ir T e h dX9_wordHere_36
  · refine k_aload_n hX dX9_wordHere_11 rfl 0 rfl ?_
    refine k_iload_n hX dX9_wordHere_12 rfl 1 rfl ?_
    refine k_iload hX dX9_wordHere_13 4 rfl ?_
    refine k_iadd hX dX9_wordHere_15 ?_
    refine cX_isWord T (met_isWord T.2.1) (room_le hR rfl rfl) h rfl dX9_wordHere_16 (fun v1 h => ?_)
    refine k_if_eq (tgt := 27) hX h dX9_wordHere_19 (by decide) (fun h => ?_) (fun h => ?_)
    · refine k_iload_n hX dX9_wordHere_27 rfl 3 rfl ?_
      refine k_istore_n [(3, .int x3), (0, .ref (E.2.2.2.2.1 0)), (1, .int x1), (2, .int x2), (4, .int x4)] hX dX9_wordHere_28 rfl rfl rfl ?_
      refine k_iinc (j := 4) [(4, .int (x4 + 1)), (3, .int x3), (0, .ref (E.2.2.2.2.1 0)), (1, .int x1), (2, .int x2)] hX dX9_wordHere_29 rfl rfl rfl rfl ?_
      refine k_goto (tgt := 5) hX dX9_wordHere_32 (by decide) ?_
      refine k_lv [2, 3, 4, 1, 0] rfl ?_
      exact hk5 _ _ _ _ h
    · refine k_iload hX dX9_wordHere_22 4 rfl ?_
      refine k_goto (tgt := 28) hX dX9_wordHere_24 (by decide) ?_
      refine k_istore_n [(3, .int x4), (0, .ref (E.2.2.2.2.1 0)), (1, .int x1), (2, .int x2), (4, .int x4)] hX dX9_wordHere_28 rfl rfl rfl ?_
      refine k_iinc (j := 4) [(4, .int (x4 + 1)), (3, .int x4), (0, .ref (E.2.2.2.2.1 0)), (1, .int x1), (2, .int x2)] hX dX9_wordHere_29 rfl rfl rfl rfl ?_
      refine k_goto (tgt := 5) hX dX9_wordHere_32 (by decide) ?_
      refine k_lv [2, 3, 4, 1, 0] rfl ?_
      exact hk5 _ _ _ _ h
theorem T_wordHere_b5_ok {X : KC TS} {E : TE} {z : Int32} {τ : TS} (T : tOK X E cX9_wordHere 5 (some .int)) (hR : tRoom X 1 21) (e : tE_i X E z τ) {nf : Nat} : ∀ (n : Nat) (x1 : Int32) (x2 : Int32) (x3 : Int32) (x4 : Int32), T_wordHere_b5 nf τ n x1 x2 x3 x4 = some z → kW X τ 5 [(0, .ref (E.2.2.2.2.1 0)), (1, .int x1), (2, .int x2), (3, .int x3), (4, .int x4)] [] := by
  intro n
  induction n with
  | zero => intro x1 x2 x3 x4 h; exact (nomatch (show (none : Option Int32) = some z from h))
  | succ n ih =>
    intro x1 x2 x3 x4 h
    have h : T_wordHere_b5_s nf τ (T_wordHere_b5 nf τ n) x1 x2 x3 x4 = some z := h
    exact T_wordHere_b5_s_ok T hR e ih h
theorem met_wordHere {l : Launch} {E : TE} (hE : tEnv E) {nf : Nat} {τ : TS} : ∀ (x1 : Int32) (x2 : Int32) (z : Int32), T_wordHere nf τ x1 x2 = some z → tMet_i l E yX9_wordHere (ws_ yX9_wordHere cX9_wordHere 5 (some .int)) 1 21 [.ref (E.2.2.2.2.1 0), .int x1, .int x2] τ z τ := by
  intro x1 x2 z h
  refine t_met_i hE (by decide +kernel) rfl rfl (fun X hl T hR e => ?_)
  unfold T_wordHere at h
  have hX := T.1
  show kW X τ 0 [(0, .ref (E.2.2.2.2.1 0)), (1, .int x1), (2, .int x2)] []
  refine k_iconst (v := (-1)) hX dX9_wordHere_0 (by decide) ?_
  refine k_istore_n [(3, .int (-1)), (0, .ref (E.2.2.2.2.1 0)), (1, .int x1), (2, .int x2)] hX dX9_wordHere_1 rfl rfl rfl ?_
  refine k_iconst (v := 0) hX dX9_wordHere_2 (by decide) ?_
  refine k_istore [(4, .int 0), (3, .int (-1)), (0, .ref (E.2.2.2.2.1 0)), (1, .int x1), (2, .int x2)] hX dX9_wordHere_3 rfl rfl ?_
  refine k_lv [2, 3, 4, 1, 0] rfl ?_
  exact T_wordHere_b5_ok T hR e _ _ _ _ _ h
theorem T_readBar_b60_ok {X : KC TS} {E : TE} {z : TS} (T : tOK X E cX9_readBar 5 none) (hR : tRoom X 2 45) (e : tE_v X E z) {nf : Nat} {x1 : Int32} {x2 : Int32} {s0 : Int32} {τ : TS} (h : T_readBar_b60 nf x1 x2 s0 τ = some z) : kW X τ 60 [(0, .ref (E.2.2.2.2.1 0)), (1, .int x1), (2, .int x2)] [.int s0] := by
  unfold T_readBar_b60 at h
  have hX := T.1
  refine k_istore_n [(3, .int s0), (0, .ref (E.2.2.2.2.1 0)), (1, .int x1), (2, .int x2)] hX dX9_readBar_60 rfl rfl rfl ?_
  refine k_iload_n hX dX9_readBar_61 rfl 0 rfl ?_
  refine k_if_ge (tgt := 71) hX h dX9_readBar_62 (by decide) (fun h => ?_) (fun h => ?_)
  · refine k_sipush (v := 566) hX dX9_readBar_71 (by decide) ?_
    refine k_bipush (v := 6) hX dX9_readBar_74 (by decide) ?_
    refine k_iload_n hX dX9_readBar_76 rfl 3 rfl ?_
    refine k_imul hX dX9_readBar_77 ?_
    refine k_iadd hX dX9_readBar_78 ?_
    refine k_iload_n hX dX9_readBar_79 rfl 2 rfl ?_
    refine k_iadd hX dX9_readBar_80 ?_
    refine k_nm h (fun v1 h => ?_)
    refine k_istore [(4, .int v1), (3, .int s0), (0, .ref (E.2.2.2.2.1 0)), (1, .int x1), (2, .int x2)] hX dX9_readBar_81 rfl rfl ?_
    refine k_aload_n hX dX9_readBar_83 rfl 2 rfl ?_
    refine tg10 T dX9_readBar_84 ?_
    refine k_iload hX dX9_readBar_87 0 rfl ?_
    refine ta10 T h dX9_readBar_89 (fun v2 h => ?_)
    refine k_iload_n hX dX9_readBar_90 rfl 1 rfl ?_
    refine k_ishr hX dX9_readBar_91 ?_
    refine k_iconst (v := 1) hX dX9_readBar_92 (by decide) ?_
    refine k_iand hX dX9_readBar_93 ?_
    refine k_iconst (v := 1) hX dX9_readBar_94 (by decide) ?_
    refine k_icmp_ne (tgt := 104) hX h dX9_readBar_95 (by decide) (fun h => ?_) (fun h => ?_)
    · refine k_aload_n hX dX9_readBar_104 rfl 2 rfl ?_
      refine k_dup hX dX9_readBar_105 rfl ?_
      refine tg7 T dX9_readBar_106 ?_
      refine k_iconst (v := 1) hX dX9_readBar_109 (by decide) ?_
      refine k_iadd hX dX9_readBar_110 ?_
      refine tp7 T h dX9_readBar_111 (fun τ3 h => ?_)
      refine k_aload_n hX dX9_readBar_114 rfl 2 rfl ?_
      refine tg10 T dX9_readBar_115 ?_
      refine k_iload hX dX9_readBar_118 0 rfl ?_
      refine k_dup2 hX dX9_readBar_120 rfl rfl ?_
      refine ta10 T h dX9_readBar_121 (fun v4 h => ?_)
      refine k_iconst (v := 1) hX dX9_readBar_122 (by decide) ?_
      refine k_iload_n hX dX9_readBar_123 rfl 1 rfl ?_
      refine k_ishl hX dX9_readBar_124 ?_
      refine k_ior hX dX9_readBar_125 ?_
      refine ts10 T h dX9_readBar_126 (fun τ5 h => ?_)
      exact t_ret_v T e h dX9_readBar_127
    · refine k_aload_n hX dX9_readBar_98 rfl 2 rfl ?_
      refine k_iconst (v := 3) hX dX9_readBar_99 (by decide) ?_
      refine cX_wrong T (met_wrong T.2.1) (room_le hR rfl rfl) h rfl dX9_readBar_100 (fun τ6 h => ?_)
      exact t_ret_v T e h dX9_readBar_103
  · refine k_aload_n hX dX9_readBar_65 rfl 1 rfl ?_
    refine k_iconst (v := 1) hX dX9_readBar_66 (by decide) ?_
    refine cX_wrong T (met_wrong T.2.1) (room_le hR rfl rfl) h rfl dX9_readBar_67 (fun τ7 h => ?_)
    exact t_ret_v T e h dX9_readBar_70
theorem met_readBar {l : Launch} {E : TE} (hE : tEnv E) {nf : Nat} : ∀ (τ : TS) (z : TS), T_readBar nf τ = some z → tMet_v l E yX9_readBar (ws_ yX9_readBar cX9_readBar 5 none) 2 45 [.ref (E.2.2.2.2.1 0)] τ z := by
  intro τ z h
  refine t_met_v hE (by decide +kernel) rfl rfl (fun X hl T hR e => ?_)
  unfold T_readBar at h
  have hX := T.1
  show kW X τ 0 [(0, .ref (E.2.2.2.2.1 0))] []
  refine k_aload_n hX dX9_readBar_0 rfl 0 rfl ?_
  refine k_dup hX dX9_readBar_1 rfl ?_
  refine tg7 T dX9_readBar_2 ?_
  refine k_iconst (v := 1) hX dX9_readBar_5 (by decide) ?_
  refine k_iadd hX dX9_readBar_6 ?_
  refine tp7 T h dX9_readBar_7 (fun τ1 h => ?_)
  refine k_aload_n hX dX9_readBar_10 rfl 0 rfl ?_
  refine k_iconst (v := 0) hX dX9_readBar_11 (by decide) ?_
  refine k_aload_n hX dX9_readBar_12 rfl 0 rfl ?_
  refine tg10 T dX9_readBar_13 ?_
  refine k_sipush (v := 340) hX dX9_readBar_16 (by decide) ?_
  refine ta10 T h dX9_readBar_19 (fun v2 h => ?_)
  refine k_iconst (v := 1) hX dX9_readBar_20 (by decide) ?_
  refine k_isub hX dX9_readBar_21 ?_
  refine cX_takeNumber T (met_takeNumber T.2.1) (room_le hR rfl rfl) h rfl dX9_readBar_22 (fun v4 τ3 h => ?_)
  refine k_istore_n [(1, .int v4), (0, .ref (E.2.2.2.2.1 0))] hX dX9_readBar_25 rfl rfl rfl ?_
  refine k_aload_n hX dX9_readBar_26 rfl 1 rfl ?_
  refine k_iconst (v := 0) hX dX9_readBar_27 (by decide) ?_
  refine k_aload_n hX dX9_readBar_28 rfl 1 rfl ?_
  refine tg10 T dX9_readBar_29 ?_
  refine k_sipush (v := 341) hX dX9_readBar_32 (by decide) ?_
  refine ta10 T h dX9_readBar_35 (fun v5 h => ?_)
  refine k_iconst (v := 1) hX dX9_readBar_36 (by decide) ?_
  refine k_isub hX dX9_readBar_37 ?_
  refine cX_takeNumber T (met_takeNumber T.2.1) (room_le hR rfl rfl) h rfl dX9_readBar_38 (fun v7 τ6 h => ?_)
  refine k_istore_n [(2, .int v7), (1, .int v4), (0, .ref (E.2.2.2.2.1 0))] hX dX9_readBar_41 rfl rfl rfl ?_
  refine k_aload_n hX dX9_readBar_42 rfl 2 rfl ?_
  refine tg8 T dX9_readBar_43 ?_
  refine k_if_le (tgt := 53) hX h dX9_readBar_46 (by decide) (fun h => ?_) (fun h => ?_)
  · refine k_aload_n hX dX9_readBar_53 rfl 2 rfl ?_
    refine k_bipush (v := 10) hX dX9_readBar_54 (by decide) ?_
    refine k_iconst (v := 2) hX dX9_readBar_56 (by decide) ?_
    refine cX_wordHere T (met_wordHere T.2.1) (room_le hR rfl rfl) h rfl dX9_readBar_57 (fun v8 h => ?_)
    refine k_lv [2, 1, 0] rfl ?_
    exact T_readBar_b60_ok T hR e h
  · refine k_iconst (v := (-1)) hX dX9_readBar_49 (by decide) ?_
    refine k_goto (tgt := 60) hX dX9_readBar_50 (by decide) ?_
    refine k_lv [2, 1, 0] rfl ?_
    exact T_readBar_b60_ok T hR e h
theorem T_common_b4_s_ok {X : KC TS} {E : TE} {z : Int32} {τ : TS} (T : tOK X E cX9_common 5 (some .int)) (hR : tRoom X 0 0) (e : tE_i X E z τ) {nf : Nat} {k4 : Int32 → Int32 → Option Int32} (hk4 : ∀ (x2 : Int32) (x3 : Int32), k4 x2 x3 = some z → kW X τ 4 [(2, .int x2), (3, .int x3)] []) {x2 : Int32} {x3 : Int32} (h : T_common_b4_s nf τ k4 x2 x3 = some z) : kW X τ 4 [(2, .int x2), (3, .int x3)] [] := by
  unfold T_common_b4_s at h
  have hX := T.1
  refine k_iload_n hX dX9_common_4 rfl 1 rfl ?_
  refine k_if_eq (tgt := 21) hX h dX9_common_5 (by decide) (fun h => ?_) (fun h => ?_)
  · refine k_iload_n hX dX9_common_21 rfl 0 rfl ?_
    exact t_ret_ir T e h dX9_common_22
  · refine k_iload_n hX dX9_common_8 rfl 0 rfl ?_
    refine k_iload_n hX dX9_common_9 rfl 1 rfl ?_
    refine k_irem hX h dX9_common_10 (fun h => ?_)
    refine k_nm h (fun v1 h => ?_)
    refine k_istore [(4, .int v1), (2, .int x2), (3, .int x3)] hX dX9_common_11 rfl rfl ?_
    refine k_iload_n hX dX9_common_13 rfl 2 rfl ?_
    refine k_istore_n [(2, .int x3), (4, .int v1), (3, .int x3)] hX dX9_common_14 rfl rfl rfl ?_
    refine k_iload hX dX9_common_15 1 rfl ?_
    refine k_istore_n [(3, .int v1), (2, .int x3), (4, .int v1)] hX dX9_common_17 rfl rfl rfl ?_
    refine k_goto (tgt := 4) hX dX9_common_18 (by decide) ?_
    refine k_lv [1, 0] rfl ?_
    exact hk4 _ _ h
theorem T_common_b4_ok {X : KC TS} {E : TE} {z : Int32} {τ : TS} (T : tOK X E cX9_common 5 (some .int)) (hR : tRoom X 0 0) (e : tE_i X E z τ) {nf : Nat} : ∀ (n : Nat) (x2 : Int32) (x3 : Int32), T_common_b4 nf τ n x2 x3 = some z → kW X τ 4 [(2, .int x2), (3, .int x3)] [] := by
  intro n
  induction n with
  | zero => intro x2 x3 h; exact (nomatch (show (none : Option Int32) = some z from h))
  | succ n ih =>
    intro x2 x3 h
    have h : T_common_b4_s nf τ (T_common_b4 nf τ n) x2 x3 = some z := h
    exact T_common_b4_s_ok T hR e ih h
theorem met_common {l : Launch} {E : TE} (hE : tEnv E) {nf : Nat} {τ : TS} : ∀ (x0 : Int32) (x1 : Int32) (z : Int32), T_common nf τ x0 x1 = some z → tMet_i l E yX9_common (ws_ yX9_common cX9_common 5 (some .int)) 0 0 [.int x0, .int x1] τ z τ := by
  intro x0 x1 z h
  refine t_met_i hE (by decide +kernel) rfl rfl (fun X hl T hR e => ?_)
  unfold T_common at h
  have hX := T.1
  show kW X τ 0 [(0, .int x0), (1, .int x1)] []
  refine k_iload_n hX dX9_common_0 rfl 0 rfl ?_
  refine k_istore_n [(2, .int x0), (0, .int x0), (1, .int x1)] hX dX9_common_1 rfl rfl rfl ?_
  refine k_iload_n hX dX9_common_2 rfl 2 rfl ?_
  refine k_istore_n [(3, .int x1), (2, .int x0), (0, .int x0), (1, .int x1)] hX dX9_common_3 rfl rfl rfl ?_
  refine k_lv [1, 0] rfl ?_
  exact T_common_b4_ok T hR e _ _ _ h
theorem met_hasWord {l : Launch} {E : TE} (hE : tEnv E) : ∀ (x1 : Int32) (τ : TS) (z : (Int32 × TS)), T_hasWord x1 τ = some z → tMet_i l E yX9_hasWord (ws_ yX9_hasWord cX9_hasWord 3 (some .boolean)) 1 21 [.ref (E.2.2.2.2.1 0), .int x1] τ z.1 z.2 := by
  intro x1 τ z h
  refine t_met_i hE (by decide +kernel) rfl rfl (fun X hl T hR e => ?_)
  unfold T_hasWord at h
  have hX := T.1
  show kW X τ 0 [(0, .ref (E.2.2.2.2.1 0)), (1, .int x1)] []
  refine k_aload_n hX dX9_hasWord_0 rfl 0 rfl ?_
  refine k_iload_n hX dX9_hasWord_1 rfl 1 rfl ?_
  refine cX_isWord T (met_isWord T.2.1) (room_le hR rfl rfl) h rfl dX9_hasWord_2 (fun v1 h => ?_)
  refine k_istore_n [(2, .int v1), (0, .ref (E.2.2.2.2.1 0)), (1, .int x1)] hX dX9_hasWord_5 rfl rfl rfl ?_
  refine k_aload_n hX dX9_hasWord_6 rfl 1 rfl ?_
  refine k_dup hX dX9_hasWord_7 rfl ?_
  refine tg7 T dX9_hasWord_8 ?_
  refine k_iload_n hX dX9_hasWord_11 rfl 0 rfl ?_
  refine k_if_eq (tgt := 19) hX h dX9_hasWord_12 (by decide) (fun h => ?_) (fun h => ?_)
  · refine k_iconst (v := 0) hX dX9_hasWord_19 (by decide) ?_
    refine k_iadd hX dX9_hasWord_20 ?_
    refine tp7 T h dX9_hasWord_21 (fun τ2 h => ?_)
    refine k_iload_n hX dX9_hasWord_24 rfl 0 rfl ?_
    exact t_ret_z T e h dX9_hasWord_25
  · refine k_iconst (v := 1) hX dX9_hasWord_15 (by decide) ?_
    refine k_goto (tgt := 20) hX dX9_hasWord_16 (by decide) ?_
    refine k_iadd hX dX9_hasWord_20 ?_
    refine tp7 T h dX9_hasWord_21 (fun τ3 h => ?_)
    refine k_iload_n hX dX9_hasWord_24 rfl 0 rfl ?_
    exact t_ret_z T e h dX9_hasWord_25
theorem met_takeWord {l : Launch} {E : TE} (hE : tEnv E) : ∀ (x1 : Int32) (τ : TS) (z : TS), T_takeWord x1 τ = some z → tMet_v l E yX9_takeWord (ws_ yX9_takeWord cX9_takeWord 2 none) 2 43 [.ref (E.2.2.2.2.1 0), .int x1] τ z := by
  intro x1 τ z h
  refine t_met_v hE (by decide +kernel) rfl rfl (fun X hl T hR e => ?_)
  unfold T_takeWord at h
  have hX := T.1
  show kW X τ 0 [(0, .ref (E.2.2.2.2.1 0)), (1, .int x1)] []
  refine k_aload_n hX dX9_takeWord_0 rfl 0 rfl ?_
  refine k_iload_n hX dX9_takeWord_1 rfl 1 rfl ?_
  refine cX_hasWord T (met_hasWord T.2.1) (room_le hR rfl rfl) h rfl dX9_takeWord_2 (fun v2 τ1 h => ?_)
  refine k_if_ne (tgt := 13) hX h dX9_takeWord_5 (by decide) (fun h => ?_) (fun h => ?_)
  · exact t_ret_v T e h dX9_takeWord_13
  · refine k_aload_n hX dX9_takeWord_8 rfl 0 rfl ?_
    refine k_iconst (v := 1) hX dX9_takeWord_9 (by decide) ?_
    refine cX_wrong T (met_wrong T.2.1) (room_le hR rfl rfl) h rfl dX9_takeWord_10 (fun τ3 h => ?_)
    exact t_ret_v T e h dX9_takeWord_13
theorem met_takeAfter {l : Launch} {E : TE} (hE : tEnv E) : ∀ (x1 : Int32) (x2 : Int32) (x3 : Int32) (τ : TS) (z : (Int32 × TS)), T_takeAfter x1 x2 x3 τ = some z → tMet_i l E yX9_takeAfter (ws_ yX9_takeAfter cX9_takeAfter 4 (some .int)) 3 64 [.ref (E.2.2.2.2.1 0), .int x1, .int x2, .int x3] τ z.1 z.2 := by
  intro x1 x2 x3 τ z h
  refine t_met_i hE (by decide +kernel) rfl rfl (fun X hl T hR e => ?_)
  unfold T_takeAfter at h
  have hX := T.1
  show kW X τ 0 [(0, .ref (E.2.2.2.2.1 0)), (1, .int x1), (2, .int x2), (3, .int x3)] []
  refine k_aload_n hX dX9_takeAfter_0 rfl 0 rfl ?_
  refine k_iload_n hX dX9_takeAfter_1 rfl 1 rfl ?_
  refine cX_takeWord T (met_takeWord T.2.1) (room_le hR rfl rfl) h rfl dX9_takeAfter_2 (fun τ1 h => ?_)
  refine k_aload_n hX dX9_takeAfter_5 rfl 0 rfl ?_
  refine k_iload_n hX dX9_takeAfter_6 rfl 2 rfl ?_
  refine k_iload_n hX dX9_takeAfter_7 rfl 3 rfl ?_
  refine cX_takeNumber T (met_takeNumber T.2.1) (room_le hR rfl rfl) h rfl dX9_takeAfter_8 (fun v3 τ2 h => ?_)
  exact t_ret_i T e h dX9_takeAfter_11
theorem T_readLight_b219_ok {X : KC TS} {E : TE} {z : TS} (T : tOK X E cX9_readLight 7 none) (hR : tRoom X 4 87) (e : tE_v X E z) {nf : Nat} {x3 : Int32} {x4 : Int32} {x5 : Int32} {x6 : Int32} {τ : TS} (h : T_readLight_b219 nf x3 x4 x5 x6 τ = some z) : kW X τ 219 [(0, .ref (E.2.2.2.2.1 0)), (3, .int x3), (4, .int x4), (5, .int x5), (6, .int x6)] [] := by
  unfold T_readLight_b219 at h
  have hX := T.1
  refine k_aload_n hX dX9_readLight_219 rfl 0 rfl ?_
  refine tg8 T dX9_readLight_220 ?_
  refine k_if_le (tgt := 227) hX h dX9_readLight_223 (by decide) (fun h => ?_) (fun h => ?_)
  · refine k_aload_n hX dX9_readLight_227 rfl 0 rfl ?_
    refine tg10 T dX9_readLight_228 ?_
    refine k_sipush (v := 349) hX dX9_readLight_231 (by decide) ?_
    refine k_iload hX dX9_readLight_234 4 rfl ?_
    refine ts10 T h dX9_readLight_236 (fun τ1 h => ?_)
    refine k_aload_n hX dX9_readLight_237 rfl 0 rfl ?_
    refine tg10 T dX9_readLight_238 ?_
    refine k_iload_n hX dX9_readLight_241 rfl 1 rfl ?_
    refine k_iconst (v := 1) hX dX9_readLight_242 (by decide) ?_
    refine k_iload hX dX9_readLight_243 2 rfl ?_
    refine k_iadd hX dX9_readLight_245 ?_
    refine ts10 T h dX9_readLight_246 (fun τ2 h => ?_)
    refine k_aload_n hX dX9_readLight_247 rfl 0 rfl ?_
    refine tg10 T dX9_readLight_248 ?_
    refine k_iload_n hX dX9_readLight_251 rfl 1 rfl ?_
    refine k_iconst (v := 1) hX dX9_readLight_252 (by decide) ?_
    refine k_iadd hX dX9_readLight_253 ?_
    refine k_iload hX dX9_readLight_254 3 rfl ?_
    refine ts10 T h dX9_readLight_256 (fun τ3 h => ?_)
    refine k_aload_n hX dX9_readLight_257 rfl 0 rfl ?_
    refine tg10 T dX9_readLight_258 ?_
    refine k_iload_n hX dX9_readLight_261 rfl 1 rfl ?_
    refine k_iconst (v := 2) hX dX9_readLight_262 (by decide) ?_
    refine k_iadd hX dX9_readLight_263 ?_
    refine k_aload_n hX dX9_readLight_264 rfl 0 rfl ?_
    refine k_bipush (v := 10) hX dX9_readLight_265 (by decide) ?_
    refine k_iconst (v := 0) hX dX9_readLight_267 (by decide) ?_
    refine k_iload hX dX9_readLight_268 3 rfl ?_
    refine k_iconst (v := 1) hX dX9_readLight_270 (by decide) ?_
    refine k_isub hX dX9_readLight_271 ?_
    refine cX_takeAfter T (met_takeAfter T.2.1) (room_le hR rfl rfl) h rfl dX9_readLight_272 (fun v5 τ4 h => ?_)
    refine ts10 T h dX9_readLight_275 (fun τ6 h => ?_)
    refine k_aload_n hX dX9_readLight_276 rfl 0 rfl ?_
    refine tg10 T dX9_readLight_277 ?_
    refine k_iload_n hX dX9_readLight_280 rfl 1 rfl ?_
    refine k_iconst (v := 3) hX dX9_readLight_281 (by decide) ?_
    refine k_iadd hX dX9_readLight_282 ?_
    refine k_aload_n hX dX9_readLight_283 rfl 0 rfl ?_
    refine k_bipush (v := 12) hX dX9_readLight_284 (by decide) ?_
    refine k_iconst (v := 0) hX dX9_readLight_286 (by decide) ?_
    refine k_iload hX dX9_readLight_287 3 rfl ?_
    refine cX_takeAfter T (met_takeAfter T.2.1) (room_le hR rfl rfl) h rfl dX9_readLight_289 (fun v8 τ7 h => ?_)
    refine ts10 T h dX9_readLight_292 (fun τ9 h => ?_)
    refine k_aload_n hX dX9_readLight_293 rfl 0 rfl ?_
    refine tg10 T dX9_readLight_294 ?_
    refine k_sipush (v := 347) hX dX9_readLight_297 (by decide) ?_
    refine k_dup2 hX dX9_readLight_300 rfl rfl ?_
    refine ta10 T h dX9_readLight_301 (fun v10 h => ?_)
    refine k_iconst (v := 1) hX dX9_readLight_302 (by decide) ?_
    refine k_iadd hX dX9_readLight_303 ?_
    refine ts10 T h dX9_readLight_304 (fun τ11 h => ?_)
    exact t_ret_v T e h dX9_readLight_305
  · exact t_ret_v T e h dX9_readLight_226
theorem T_readLight_b187_ok {X : KC TS} {E : TE} {z : TS} (T : tOK X E cX9_readLight 7 none) (hR : tRoom X 4 87) (e : tE_v X E z) {nf : Nat} {x3 : Int32} {x4 : Int32} {x5 : Int32} {s0 : Int32} {τ : TS} (h : T_readLight_b187 nf x3 x4 x5 s0 τ = some z) : kW X τ 187 [(0, .ref (E.2.2.2.2.1 0)), (3, .int x3), (4, .int x4), (5, .int x5)] [.int s0] := by
  unfold T_readLight_b187 at h
  have hX := T.1
  refine k_istore [(6, .int s0), (0, .ref (E.2.2.2.2.1 0)), (3, .int x3), (4, .int x4), (5, .int x5)] hX dX9_readLight_187 rfl rfl ?_
  refine k_aload_n hX dX9_readLight_189 rfl 1 rfl ?_
  refine tg8 T dX9_readLight_190 ?_
  refine k_if_ne (tgt := 219) hX h dX9_readLight_193 (by decide) (fun h => ?_) (fun h => ?_)
  · refine k_lv [1, 2, 3, 4, 0] rfl ?_
    exact T_readLight_b219_ok T hR e h
  · refine k_iload hX dX9_readLight_196 0 rfl ?_
    refine k_sipush (v := 1200) hX dX9_readLight_198 (by decide) ?_
    refine k_icmp_le (tgt := 219) hX h dX9_readLight_201 (by decide) (fun h => ?_) (fun h => ?_)
    · refine k_lv [1, 2, 3, 4, 0] rfl ?_
      exact T_readLight_b219_ok T hR e h
    · refine k_aload_n hX dX9_readLight_204 rfl 1 rfl ?_
      refine k_dup hX dX9_readLight_205 rfl ?_
      refine tg7 T dX9_readLight_206 ?_
      refine k_iconst (v := 1) hX dX9_readLight_209 (by decide) ?_
      refine k_isub hX dX9_readLight_210 ?_
      refine tp7 T h dX9_readLight_211 (fun τ1 h => ?_)
      refine k_aload_n hX dX9_readLight_214 rfl 1 rfl ?_
      refine k_iconst (v := 4) hX dX9_readLight_215 (by decide) ?_
      refine cX_wrong T (met_wrong T.2.1) (room_le hR rfl rfl) h rfl dX9_readLight_216 (fun τ2 h => ?_)
      refine k_lv [1, 2, 3, 4, 0] rfl ?_
      exact T_readLight_b219_ok T hR e h
theorem T_readLight_b104_ok {X : KC TS} {E : TE} {z : TS} (T : tOK X E cX9_readLight 7 none) (hR : tRoom X 4 87) (e : tE_v X E z) {nf : Nat} {x3 : Int32} {s0 : Int32} {τ : TS} (h : T_readLight_b104 nf x3 s0 τ = some z) : kW X τ 104 [(0, .ref (E.2.2.2.2.1 0)), (3, .int x3)] [.int s0] := by
  unfold T_readLight_b104 at h
  have hX := T.1
  refine k_istore [(4, .int s0), (0, .ref (E.2.2.2.2.1 0)), (3, .int x3)] hX dX9_readLight_104 rfl rfl ?_
  refine k_iload hX dX9_readLight_106 0 rfl ?_
  refine k_if_ge (tgt := 117) hX h dX9_readLight_108 (by decide) (fun h => ?_) (fun h => ?_)
  · refine k_aload_n hX dX9_readLight_117 rfl 1 rfl ?_
    refine k_dup hX dX9_readLight_118 rfl ?_
    refine tg7 T dX9_readLight_119 ?_
    refine k_iconst (v := 1) hX dX9_readLight_122 (by decide) ?_
    refine k_iadd hX dX9_readLight_123 ?_
    refine tp7 T h dX9_readLight_124 (fun τ1 h => ?_)
    refine k_aload_n hX dX9_readLight_127 rfl 1 rfl ?_
    refine k_bipush (v := 9) hX dX9_readLight_128 (by decide) ?_
    refine k_iconst (v := 1) hX dX9_readLight_130 (by decide) ?_
    refine k_bipush (v := 60) hX dX9_readLight_131 (by decide) ?_
    refine cX_takeAfter T (met_takeAfter T.2.1) (room_le hR rfl rfl) h rfl dX9_readLight_133 (fun v3 τ2 h => ?_)
    refine k_istore [(5, .int v3), (4, .int s0), (0, .ref (E.2.2.2.2.1 0)), (3, .int x3)] hX dX9_readLight_136 rfl rfl ?_
    refine k_aload_n hX dX9_readLight_138 rfl 2 rfl ?_
    refine tg8 T dX9_readLight_139 ?_
    refine k_if_gt (tgt := 151) hX h dX9_readLight_142 (by decide) (fun h => ?_) (fun h => ?_)
    · refine k_aload_n hX dX9_readLight_151 rfl 2 rfl ?_
      refine tg10 T dX9_readLight_152 ?_
      refine k_sipush (v := 349) hX dX9_readLight_155 (by decide) ?_
      refine ta10 T h dX9_readLight_158 (fun v4 h => ?_)
      refine k_goto (tgt := 187) hX dX9_readLight_159 (by decide) ?_
      refine k_lv [2, 3, 1, 0] rfl ?_
      exact T_readLight_b187_ok T hR e h
    · refine k_iload hX dX9_readLight_145 1 rfl ?_
      refine k_iconst (v := 2) hX dX9_readLight_147 (by decide) ?_
      refine k_icmp_lt (tgt := 162) hX h dX9_readLight_148 (by decide) (fun h => ?_) (fun h => ?_)
      · refine k_aload_n hX dX9_readLight_162 rfl 2 rfl ?_
        refine tg10 T dX9_readLight_163 ?_
        refine k_sipush (v := 349) hX dX9_readLight_166 (by decide) ?_
        refine ta10 T h dX9_readLight_169 (fun v5 h => ?_)
        refine k_aload_n hX dX9_readLight_170 rfl 2 rfl ?_
        refine tg10 T dX9_readLight_171 ?_
        refine k_sipush (v := 349) hX dX9_readLight_174 (by decide) ?_
        refine ta10 T h dX9_readLight_177 (fun v6 h => ?_)
        refine k_iload hX dX9_readLight_178 0 rfl ?_
        refine cX_common T (met_common T.2.1) (room_le hR rfl rfl) h rfl dX9_readLight_180 (fun v7 h => ?_)
        refine k_idiv hX h dX9_readLight_183 (fun h => ?_)
        refine k_iload hX dX9_readLight_184 0 rfl ?_
        refine k_imul hX dX9_readLight_186 ?_
        refine k_lv [2, 3, 1, 0] rfl ?_
        exact T_readLight_b187_ok T hR e h
      · refine k_aload_n hX dX9_readLight_151 rfl 2 rfl ?_
        refine tg10 T dX9_readLight_152 ?_
        refine k_sipush (v := 349) hX dX9_readLight_155 (by decide) ?_
        refine ta10 T h dX9_readLight_158 (fun v8 h => ?_)
        refine k_goto (tgt := 187) hX dX9_readLight_159 (by decide) ?_
        refine k_lv [2, 3, 1, 0] rfl ?_
        exact T_readLight_b187_ok T hR e h
  · refine k_aload_n hX dX9_readLight_111 rfl 1 rfl ?_
    refine k_iconst (v := 1) hX dX9_readLight_112 (by decide) ?_
    refine cX_wrong T (met_wrong T.2.1) (room_le hR rfl rfl) h rfl dX9_readLight_113 (fun τ9 h => ?_)
    exact t_ret_v T e h dX9_readLight_116
theorem T_readLight_b86_ok {X : KC TS} {E : TE} {z : TS} (T : tOK X E cX9_readLight 7 none) (hR : tRoom X 4 87) (e : tE_v X E z) {nf : Nat} {x3 : Int32} {τ : TS} (h : T_readLight_b86 nf x3 τ = some z) : kW X τ 86 [(0, .ref (E.2.2.2.2.1 0)), (3, .int x3)] [] := by
  unfold T_readLight_b86 at h
  have hX := T.1
  refine k_aload_n hX dX9_readLight_86 rfl 0 rfl ?_
  refine tg8 T dX9_readLight_87 ?_
  refine k_if_le (tgt := 97) hX h dX9_readLight_90 (by decide) (fun h => ?_) (fun h => ?_)
  · refine k_aload_n hX dX9_readLight_97 rfl 0 rfl ?_
    refine k_bipush (v := 13) hX dX9_readLight_98 (by decide) ?_
    refine k_iconst (v := 4) hX dX9_readLight_100 (by decide) ?_
    refine cX_wordHere T (met_wordHere T.2.1) (room_le hR rfl rfl) h rfl dX9_readLight_101 (fun v1 h => ?_)
    refine k_lv [0, 1] rfl ?_
    exact T_readLight_b104_ok T hR e h
  · refine k_iconst (v := (-1)) hX dX9_readLight_93 (by decide) ?_
    refine k_goto (tgt := 104) hX dX9_readLight_94 (by decide) ?_
    refine k_lv [0, 1] rfl ?_
    exact T_readLight_b104_ok T hR e h
theorem met_readLight {l : Launch} {E : TE} (hE : tEnv E) {nf : Nat} : ∀ (τ : TS) (z : TS), T_readLight nf τ = some z → tMet_v l E yX9_readLight (ws_ yX9_readLight cX9_readLight 7 none) 4 87 [.ref (E.2.2.2.2.1 0)] τ z := by
  intro τ z h
  refine t_met_v hE (by decide +kernel) rfl rfl (fun X hl T hR e => ?_)
  unfold T_readLight at h
  have hX := T.1
  show kW X τ 0 [(0, .ref (E.2.2.2.2.1 0))] []
  refine k_aload_n hX dX9_readLight_0 rfl 0 rfl ?_
  refine k_dup hX dX9_readLight_1 rfl ?_
  refine tg7 T dX9_readLight_2 ?_
  refine k_iconst (v := 1) hX dX9_readLight_5 (by decide) ?_
  refine k_iadd hX dX9_readLight_6 ?_
  refine tp7 T h dX9_readLight_7 (fun τ1 h => ?_)
  refine k_aload_n hX dX9_readLight_10 rfl 0 rfl ?_
  refine k_iconst (v := 0) hX dX9_readLight_11 (by decide) ?_
  refine k_aload_n hX dX9_readLight_12 rfl 0 rfl ?_
  refine tg10 T dX9_readLight_13 ?_
  refine k_sipush (v := 340) hX dX9_readLight_16 (by decide) ?_
  refine ta10 T h dX9_readLight_19 (fun v2 h => ?_)
  refine k_iconst (v := 1) hX dX9_readLight_20 (by decide) ?_
  refine k_isub hX dX9_readLight_21 ?_
  refine cX_takeNumber T (met_takeNumber T.2.1) (room_le hR rfl rfl) h rfl dX9_readLight_22 (fun v4 τ3 h => ?_)
  refine k_istore_n [(1, .int v4), (0, .ref (E.2.2.2.2.1 0))] hX dX9_readLight_25 rfl rfl rfl ?_
  refine k_aload_n hX dX9_readLight_26 rfl 1 rfl ?_
  refine k_iconst (v := 0) hX dX9_readLight_27 (by decide) ?_
  refine k_aload_n hX dX9_readLight_28 rfl 1 rfl ?_
  refine tg10 T dX9_readLight_29 ?_
  refine k_sipush (v := 341) hX dX9_readLight_32 (by decide) ?_
  refine ta10 T h dX9_readLight_35 (fun v5 h => ?_)
  refine k_iconst (v := 1) hX dX9_readLight_36 (by decide) ?_
  refine k_isub hX dX9_readLight_37 ?_
  refine cX_takeNumber T (met_takeNumber T.2.1) (room_le hR rfl rfl) h rfl dX9_readLight_38 (fun v7 τ6 h => ?_)
  refine k_istore_n [(2, .int v7), (1, .int v4), (0, .ref (E.2.2.2.2.1 0))] hX dX9_readLight_41 rfl rfl rfl ?_
  refine k_sipush (v := 350) hX dX9_readLight_42 (by decide) ?_
  refine k_iconst (v := 4) hX dX9_readLight_45 (by decide) ?_
  refine k_bipush (v := 6) hX dX9_readLight_46 (by decide) ?_
  refine k_iload_n hX dX9_readLight_48 rfl 0 rfl ?_
  refine k_imul hX dX9_readLight_49 ?_
  refine k_iload_n hX dX9_readLight_50 rfl 1 rfl ?_
  refine k_iadd hX dX9_readLight_51 ?_
  refine k_imul hX dX9_readLight_52 ?_
  refine k_iadd hX dX9_readLight_53 ?_
  refine k_nm h (fun v8 h => ?_)
  refine k_istore_n [(3, .int v8), (2, .int v7), (1, .int v4), (0, .ref (E.2.2.2.2.1 0))] hX dX9_readLight_54 rfl rfl rfl ?_
  refine k_aload_n hX dX9_readLight_55 rfl 3 rfl ?_
  refine tg8 T dX9_readLight_56 ?_
  refine k_if_ne (tgt := 86) hX h dX9_readLight_59 (by decide) (fun h => ?_) (fun h => ?_)
  · refine k_lv [3, 0] rfl ?_
    exact T_readLight_b86_ok T hR e h
  · refine k_aload_n hX dX9_readLight_62 rfl 3 rfl ?_
    refine tg10 T dX9_readLight_63 ?_
    refine k_iload_n hX dX9_readLight_66 rfl 0 rfl ?_
    refine ta10 T h dX9_readLight_67 (fun v9 h => ?_)
    refine k_if_le (tgt := 86) hX h dX9_readLight_68 (by decide) (fun h => ?_) (fun h => ?_)
    · refine k_lv [3, 0] rfl ?_
      exact T_readLight_b86_ok T hR e h
    · refine k_aload_n hX dX9_readLight_71 rfl 3 rfl ?_
      refine k_dup hX dX9_readLight_72 rfl ?_
      refine tg7 T dX9_readLight_73 ?_
      refine k_iconst (v := 1) hX dX9_readLight_76 (by decide) ?_
      refine k_isub hX dX9_readLight_77 ?_
      refine tp7 T h dX9_readLight_78 (fun τ10 h => ?_)
      refine k_aload_n hX dX9_readLight_81 rfl 3 rfl ?_
      refine k_iconst (v := 3) hX dX9_readLight_82 (by decide) ?_
      refine cX_wrong T (met_wrong T.2.1) (room_le hR rfl rfl) h rfl dX9_readLight_83 (fun τ11 h => ?_)
      refine k_lv [3, 0] rfl ?_
      exact T_readLight_b86_ok T hR e h
theorem T_readOnce_b36_ok {X : KC TS} {E : TE} {z : TS} (T : tOK X E cX9_readOnce 2 none) (hR : tRoom X 2 45) (e : tE_v X E z) {nf : Nat} {x1 : Int32} {τ : TS} (h : T_readOnce_b36 nf x1 τ = some z) : kW X τ 36 [(0, .ref (E.2.2.2.2.1 0)), (1, .int x1)] [] := by
  unfold T_readOnce_b36 at h
  have hX := T.1
  refine k_aload_n hX dX9_readOnce_36 rfl 0 rfl ?_
  refine tg8 T dX9_readOnce_37 ?_
  refine k_if_le (tgt := 44) hX h dX9_readOnce_40 (by decide) (fun h => ?_) (fun h => ?_)
  · refine k_aload_n hX dX9_readOnce_44 rfl 0 rfl ?_
    refine k_dup hX dX9_readOnce_45 rfl ?_
    refine tg15 T dX9_readOnce_46 ?_
    refine k_iconst (v := 1) hX dX9_readOnce_49 (by decide) ?_
    refine k_iload_n hX dX9_readOnce_50 rfl 1 rfl ?_
    refine k_ishl hX dX9_readOnce_51 ?_
    refine k_ior hX dX9_readOnce_52 ?_
    refine tp15 T h dX9_readOnce_53 (fun τ1 h => ?_)
    refine k_aload_n hX dX9_readOnce_56 rfl 0 rfl ?_
    refine k_dup hX dX9_readOnce_57 rfl ?_
    refine tg7 T dX9_readOnce_58 ?_
    refine k_iconst (v := 1) hX dX9_readOnce_61 (by decide) ?_
    refine k_iadd hX dX9_readOnce_62 ?_
    refine tp7 T h dX9_readOnce_63 (fun τ2 h => ?_)
    refine k_aload_n hX dX9_readOnce_66 rfl 0 rfl ?_
    refine tg10 T dX9_readOnce_67 ?_
    refine k_sipush (v := 342) hX dX9_readOnce_70 (by decide) ?_
    refine k_iload_n hX dX9_readOnce_73 rfl 1 rfl ?_
    refine k_iadd hX dX9_readOnce_74 ?_
    refine k_iload_n hX dX9_readOnce_75 rfl 1 rfl ?_
    refine k_iconst (v := 4) hX dX9_readOnce_76 (by decide) ?_
    refine k_icmp_ne (tgt := 84) hX h dX9_readOnce_77 (by decide) (fun h => ?_) (fun h => ?_)
    · refine k_iload_n hX dX9_readOnce_84 rfl 1 rfl ?_
      refine k_iconst (v := 3) hX dX9_readOnce_85 (by decide) ?_
      refine k_icmp_ne (tgt := 99) hX h dX9_readOnce_86 (by decide) (fun h => ?_) (fun h => ?_)
      · refine k_aload_n hX dX9_readOnce_99 rfl 0 rfl ?_
        refine k_iconst (v := 1) hX dX9_readOnce_100 (by decide) ?_
        refine k_bipush (v := 30) hX dX9_readOnce_101 (by decide) ?_
        refine cX_takeNumber T (met_takeNumber T.2.1) (room_le hR rfl rfl) h rfl dX9_readOnce_103 (fun v4 τ3 h => ?_)
        refine ts10 T h dX9_readOnce_106 (fun τ5 h => ?_)
        exact t_ret_v T e h dX9_readOnce_107
      · refine k_aload_n hX dX9_readOnce_89 rfl 0 rfl ?_
        refine k_iconst (v := 0) hX dX9_readOnce_90 (by decide) ?_
        refine k_bipush (v := 9) hX dX9_readOnce_91 (by decide) ?_
        refine cX_takeNumber T (met_takeNumber T.2.1) (room_le hR rfl rfl) h rfl dX9_readOnce_93 (fun v7 τ6 h => ?_)
        refine k_goto (tgt := 106) hX dX9_readOnce_96 (by decide) ?_
        refine ts10 T h dX9_readOnce_106 (fun τ8 h => ?_)
        exact t_ret_v T e h dX9_readOnce_107
    · refine k_iconst (v := 1) hX dX9_readOnce_80 (by decide) ?_
      refine k_goto (tgt := 106) hX dX9_readOnce_81 (by decide) ?_
      refine ts10 T h dX9_readOnce_106 (fun τ9 h => ?_)
      exact t_ret_v T e h dX9_readOnce_107
  · exact t_ret_v T e h dX9_readOnce_43
theorem met_readOnce {l : Launch} {E : TE} (hE : tEnv E) {nf : Nat} : ∀ (τ : TS) (z : TS), T_readOnce nf τ = some z → tMet_v l E yX9_readOnce (ws_ yX9_readOnce cX9_readOnce 2 none) 2 45 [.ref (E.2.2.2.2.1 0)] τ z := by
  intro τ z h
  refine t_met_v hE (by decide +kernel) rfl rfl (fun X hl T hR e => ?_)
  unfold T_readOnce at h
  have hX := T.1
  show kW X τ 0 [(0, .ref (E.2.2.2.2.1 0))] []
  refine k_aload_n hX dX9_readOnce_0 rfl 0 rfl ?_
  refine k_iconst (v := 4) hX dX9_readOnce_1 (by decide) ?_
  refine k_iconst (v := 5) hX dX9_readOnce_2 (by decide) ?_
  refine cX_wordHere T (met_wordHere T.2.1) (room_le hR rfl rfl) h rfl dX9_readOnce_3 (fun v1 h => ?_)
  refine k_istore_n [(1, .int v1), (0, .ref (E.2.2.2.2.1 0))] hX dX9_readOnce_6 rfl rfl rfl ?_
  refine k_iload_n hX dX9_readOnce_7 rfl 0 rfl ?_
  refine k_if_ge (tgt := 19) hX h dX9_readOnce_8 (by decide) (fun h => ?_) (fun h => ?_)
  · refine k_aload_n hX dX9_readOnce_19 rfl 1 rfl ?_
    refine tg15 T dX9_readOnce_20 ?_
    refine k_iload_n hX dX9_readOnce_23 rfl 0 rfl ?_
    refine k_ishr hX dX9_readOnce_24 ?_
    refine k_iconst (v := 1) hX dX9_readOnce_25 (by decide) ?_
    refine k_iand hX dX9_readOnce_26 ?_
    refine k_iconst (v := 1) hX dX9_readOnce_27 (by decide) ?_
    refine k_icmp_ne (tgt := 36) hX h dX9_readOnce_28 (by decide) (fun h => ?_) (fun h => ?_)
    · refine k_lv [1, 0] rfl ?_
      exact T_readOnce_b36_ok T hR e h
    · refine k_aload_n hX dX9_readOnce_31 rfl 1 rfl ?_
      refine k_iconst (v := 3) hX dX9_readOnce_32 (by decide) ?_
      refine cX_wrong T (met_wrong T.2.1) (room_le hR rfl rfl) h rfl dX9_readOnce_33 (fun τ2 h => ?_)
      refine k_lv [1, 0] rfl ?_
      exact T_readOnce_b36_ok T hR e h
  · refine k_aload_n hX dX9_readOnce_11 rfl 1 rfl ?_
    refine k_iconst (v := 1) hX dX9_readOnce_12 (by decide) ?_
    refine cX_wrong T (met_wrong T.2.1) (room_le hR rfl rfl) h rfl dX9_readOnce_13 (fun τ3 h => ?_)
    refine k_goto (tgt := 36) hX dX9_readOnce_16 (by decide) ?_
    refine k_lv [1, 0] rfl ?_
    exact T_readOnce_b36_ok T hR e h
theorem met_emit {l : Launch} {E : TE} (hE : tEnv E) : ∀ (x1 : Int32) (x2 : Int32) (τ : TS) (z : TS), T_emit x1 x2 τ = some z → tMet_v l E yX9_emit (ws_ yX9_emit cX9_emit 3 none) 0 0 [.ref (E.2.2.2.2.1 0), .int x1, .int x2] τ z := by
  intro x1 x2 τ z h
  refine t_met_v hE (by decide +kernel) rfl rfl (fun X hl T hR e => ?_)
  unfold T_emit at h
  have hX := T.1
  show kW X τ 0 [(0, .ref (E.2.2.2.2.1 0)), (1, .int x1), (2, .int x2)] []
  refine k_aload_n hX dX9_emit_0 rfl 0 rfl ?_
  refine tg11 T dX9_emit_1 ?_
  refine k_sipush (v := 1100) hX dX9_emit_4 (by decide) ?_
  refine k_aload_n hX dX9_emit_7 rfl 0 rfl ?_
  refine tg13 T dX9_emit_8 ?_
  refine k_iadd hX dX9_emit_11 ?_
  refine k_iload_n hX dX9_emit_12 rfl 1 rfl ?_
  refine ts11 T h dX9_emit_13 (fun τ1 h => ?_)
  refine k_aload_n hX dX9_emit_14 rfl 0 rfl ?_
  refine tg12 T dX9_emit_15 ?_
  refine k_sipush (v := 1100) hX dX9_emit_18 (by decide) ?_
  refine k_aload_n hX dX9_emit_21 rfl 0 rfl ?_
  refine tg13 T dX9_emit_22 ?_
  refine k_iadd hX dX9_emit_25 ?_
  refine k_iload_n hX dX9_emit_26 rfl 2 rfl ?_
  refine ts12 T h dX9_emit_27 (fun τ2 h => ?_)
  refine k_aload_n hX dX9_emit_28 rfl 0 rfl ?_
  refine k_dup hX dX9_emit_29 rfl ?_
  refine tg13 T dX9_emit_30 ?_
  refine k_iconst (v := 1) hX dX9_emit_33 (by decide) ?_
  refine k_iadd hX dX9_emit_34 ?_
  refine tp13 T h dX9_emit_35 (fun τ3 h => ?_)
  exact t_ret_v T e h dX9_emit_38
theorem met_isSign {l : Launch} {E : TE} (hE : tEnv E) {τ : TS} : ∀ (x1 : Int32) (z : Int32), T_isSign τ x1 = some z → tMet_i l E yX9_isSign (ws_ yX9_isSign cX9_isSign 2 (some .boolean)) 0 0 [.ref (E.2.2.2.2.1 0), .int x1] τ z τ := by
  intro x1 z h
  refine t_met_i hE (by decide +kernel) rfl rfl (fun X hl T hR e => ?_)
  unfold T_isSign at h
  have hX := T.1
  show kW X τ 0 [(0, .ref (E.2.2.2.2.1 0)), (1, .int x1)] []
  refine k_aload_n hX dX9_isSign_0 rfl 0 rfl ?_
  refine tg8 T dX9_isSign_1 ?_
  refine k_if_ne (tgt := 39) hX h dX9_isSign_4 (by decide) (fun h => ?_) (fun h => ?_)
  · refine k_iconst (v := 0) hX dX9_isSign_39 (by decide) ?_
    exact t_ret_zrc T e rfl h dX9_isSign_40
  · refine k_aload_n hX dX9_isSign_7 rfl 0 rfl ?_
    refine tg4 T dX9_isSign_8 ?_
    refine k_aload_n hX dX9_isSign_11 rfl 0 rfl ?_
    refine tg7 T dX9_isSign_12 ?_
    refine ta4 T h dX9_isSign_15 (fun v1 h => ?_)
    refine k_iconst (v := 3) hX dX9_isSign_16 (by decide) ?_
    refine k_icmp_ne (tgt := 39) hX h dX9_isSign_17 (by decide) (fun h => ?_) (fun h => ?_)
    · refine k_iconst (v := 0) hX dX9_isSign_39 (by decide) ?_
      exact t_ret_zrc T e rfl h dX9_isSign_40
    · refine k_aload_n hX dX9_isSign_20 rfl 0 rfl ?_
      refine tg6 T dX9_isSign_21 ?_
      refine k_aload_n hX dX9_isSign_24 rfl 0 rfl ?_
      refine tg7 T dX9_isSign_25 ?_
      refine ta6 T h dX9_isSign_28 (fun v2 h => ?_)
      refine k_iload_n hX dX9_isSign_29 rfl 1 rfl ?_
      refine k_i2l hX dX9_isSign_30 ?_
      refine k_lcmp_ne (tgt := 39) hX h dX9_isSign_31 dX9_isSign_32 (by decide) (fun h => ?_) (fun h => ?_)
      · refine k_iconst (v := 0) hX dX9_isSign_39 (by decide) ?_
        exact t_ret_zrc T e rfl h dX9_isSign_40
      · refine k_iconst (v := 1) hX dX9_isSign_35 (by decide) ?_
        refine k_goto (tgt := 40) hX dX9_isSign_36 (by decide) ?_
        exact t_ret_zrc T e rfl h dX9_isSign_40
theorem met_hasSign {l : Launch} {E : TE} (hE : tEnv E) : ∀ (x1 : Int32) (τ : TS) (z : (Int32 × TS)), T_hasSign x1 τ = some z → tMet_i l E yX9_hasSign (ws_ yX9_hasSign cX9_hasSign 3 (some .boolean)) 1 21 [.ref (E.2.2.2.2.1 0), .int x1] τ z.1 z.2 := by
  intro x1 τ z h
  refine t_met_i hE (by decide +kernel) rfl rfl (fun X hl T hR e => ?_)
  unfold T_hasSign at h
  have hX := T.1
  show kW X τ 0 [(0, .ref (E.2.2.2.2.1 0)), (1, .int x1)] []
  refine k_aload_n hX dX9_hasSign_0 rfl 0 rfl ?_
  refine k_iload_n hX dX9_hasSign_1 rfl 1 rfl ?_
  refine cX_isSign T (met_isSign T.2.1) (room_le hR rfl rfl) h rfl dX9_hasSign_2 (fun v1 h => ?_)
  refine k_istore_n [(2, .int v1), (0, .ref (E.2.2.2.2.1 0)), (1, .int x1)] hX dX9_hasSign_5 rfl rfl rfl ?_
  refine k_aload_n hX dX9_hasSign_6 rfl 1 rfl ?_
  refine k_dup hX dX9_hasSign_7 rfl ?_
  refine tg7 T dX9_hasSign_8 ?_
  refine k_iload_n hX dX9_hasSign_11 rfl 0 rfl ?_
  refine k_if_eq (tgt := 19) hX h dX9_hasSign_12 (by decide) (fun h => ?_) (fun h => ?_)
  · refine k_iconst (v := 0) hX dX9_hasSign_19 (by decide) ?_
    refine k_iadd hX dX9_hasSign_20 ?_
    refine tp7 T h dX9_hasSign_21 (fun τ2 h => ?_)
    refine k_iload_n hX dX9_hasSign_24 rfl 0 rfl ?_
    exact t_ret_z T e h dX9_hasSign_25
  · refine k_iconst (v := 1) hX dX9_hasSign_15 (by decide) ?_
    refine k_goto (tgt := 20) hX dX9_hasSign_16 (by decide) ?_
    refine k_iadd hX dX9_hasSign_20 ?_
    refine tp7 T h dX9_hasSign_21 (fun τ3 h => ?_)
    refine k_iload_n hX dX9_hasSign_24 rfl 0 rfl ?_
    exact t_ret_z T e h dX9_hasSign_25
theorem met_takeSign {l : Launch} {E : TE} (hE : tEnv E) : ∀ (x1 : Int32) (τ : TS) (z : TS), T_takeSign x1 τ = some z → tMet_v l E yX9_takeSign (ws_ yX9_takeSign cX9_takeSign 2 none) 1 21 [.ref (E.2.2.2.2.1 0), .int x1] τ z := by
  intro x1 τ z h
  refine t_met_v hE (by decide +kernel) rfl rfl (fun X hl T hR e => ?_)
  unfold T_takeSign at h
  have hX := T.1
  show kW X τ 0 [(0, .ref (E.2.2.2.2.1 0)), (1, .int x1)] []
  refine k_aload_n hX dX9_takeSign_0 rfl 0 rfl ?_
  refine k_iload_n hX dX9_takeSign_1 rfl 1 rfl ?_
  refine cX_isSign T (met_isSign T.2.1) (room_le hR rfl rfl) h rfl dX9_takeSign_2 (fun v1 h => ?_)
  refine k_if_eq (tgt := 21) hX h dX9_takeSign_5 (by decide) (fun h => ?_) (fun h => ?_)
  · refine k_aload_n hX dX9_takeSign_21 rfl 0 rfl ?_
    refine k_iconst (v := 1) hX dX9_takeSign_22 (by decide) ?_
    refine cX_wrong T (met_wrong T.2.1) (room_le hR rfl rfl) h rfl dX9_takeSign_23 (fun τ2 h => ?_)
    exact t_ret_v T e h dX9_takeSign_26
  · refine k_aload_n hX dX9_takeSign_8 rfl 0 rfl ?_
    refine k_dup hX dX9_takeSign_9 rfl ?_
    refine tg7 T dX9_takeSign_10 ?_
    refine k_iconst (v := 1) hX dX9_takeSign_13 (by decide) ?_
    refine k_iadd hX dX9_takeSign_14 ?_
    refine tp7 T h dX9_takeSign_15 (fun τ3 h => ?_)
    refine k_goto (tgt := 26) hX dX9_takeSign_18 (by decide) ?_
    exact t_ret_v T e h dX9_takeSign_26
theorem T_products_b5_s_ok {X : KC TS} {E : TE} {z : TS} (T : tOK X E cX9_products 2 none) {Fr Lr : Nat} (hR : tRoom X (Fr + 2) (Lr + 43)) (e : tE_v X E z) {nf : Nat} {rc : Int32 → TS → Option TS} (hrc : ∀ (a0 : Int32) (τ : TS) (v : TS), rc a0 τ = some v → tMet_v X.1.2.1 E yX9_takePart (ws_ yX9_takePart cX9_takePart 6 none) Fr Lr [.ref (E.2.2.2.2.1 0), .int a0] τ v) {k5 : Int32 → TS → Option TS} (hk5 : ∀ (x1 : Int32) (τ : TS), k5 x1 τ = some z → kW X τ 5 [(0, .ref (E.2.2.2.2.1 0)), (1, .int x1)] []) {x1 : Int32} {τ : TS} (h : T_products_b5_s nf rc k5 x1 τ = some z) : kW X τ 5 [(0, .ref (E.2.2.2.2.1 0)), (1, .int x1)] [] := by
  unfold T_products_b5_s at h
  have hX := T.1
  refine k_aload_n hX dX9_products_5 rfl 0 rfl ?_
  refine k_bipush (v := 42) hX dX9_products_6 (by decide) ?_
  refine cX_hasSign T (met_hasSign T.2.1) (room_lo hR (by omega) (by omega)) h rfl dX9_products_8 (fun v2 τ1 h => ?_)
  refine k_if_eq (tgt := 29) hX h dX9_products_11 (by decide) (fun h => ?_) (fun h => ?_)
  · exact t_ret_v T e h dX9_products_29
  · refine k_aload_n hX dX9_products_14 rfl 0 rfl ?_
    refine k_iload_n hX dX9_products_15 rfl 1 rfl ?_
    refine cX_takePart T (hrc) (room_lo hR (by omega) (by omega)) h rfl dX9_products_16 (fun τ3 h => ?_)
    refine k_aload_n hX dX9_products_19 rfl 0 rfl ?_
    refine k_bipush (v := 6) hX dX9_products_20 (by decide) ?_
    refine k_iconst (v := 0) hX dX9_products_22 (by decide) ?_
    refine cX_emit T (met_emit T.2.1) (room_lo hR (by omega) (by omega)) h rfl dX9_products_23 (fun τ4 h => ?_)
    refine k_goto (tgt := 5) hX dX9_products_26 (by decide) ?_
    refine k_lv [0, 1] rfl ?_
    exact hk5 _ _ h
theorem T_products_b5_ok {X : KC TS} {E : TE} {z : TS} (T : tOK X E cX9_products 2 none) {Fr Lr : Nat} (hR : tRoom X (Fr + 2) (Lr + 43)) (e : tE_v X E z) {nf : Nat} {rc : Int32 → TS → Option TS} (hrc : ∀ (a0 : Int32) (τ : TS) (v : TS), rc a0 τ = some v → tMet_v X.1.2.1 E yX9_takePart (ws_ yX9_takePart cX9_takePart 6 none) Fr Lr [.ref (E.2.2.2.2.1 0), .int a0] τ v) : ∀ (n : Nat) (x1 : Int32) (τ : TS), T_products_b5 nf rc n x1 τ = some z → kW X τ 5 [(0, .ref (E.2.2.2.2.1 0)), (1, .int x1)] [] := by
  intro n
  induction n with
  | zero => intro x1 τ h; exact (nomatch (show (none : Option TS) = some z from h))
  | succ n ih =>
    intro x1 τ h
    have h : T_products_b5_s nf rc (T_products_b5 nf rc n) x1 τ = some z := h
    exact T_products_b5_s_ok T hR e hrc ih h
theorem met_products {l : Launch} {E : TE} (hE : tEnv E) {nf : Nat} {rc : Int32 → TS → Option TS} {Fr Lr : Nat} (hrc : ∀ (a0 : Int32) (τ : TS) (v : TS), rc a0 τ = some v → tMet_v l E yX9_takePart (ws_ yX9_takePart cX9_takePart 6 none) Fr Lr [.ref (E.2.2.2.2.1 0), .int a0] τ v) : ∀ (x1 : Int32) (τ : TS) (z : TS), T_products nf rc x1 τ = some z → tMet_v l E yX9_products (ws_ yX9_products cX9_products 2 none) (Fr + 2) (Lr + 43) [.ref (E.2.2.2.2.1 0), .int x1] τ z := by
  intro x1 τ z h
  refine t_met_v hE (by decide +kernel) rfl rfl (fun X hl T hR e => ?_)
  unfold T_products at h
  have hX := T.1
  show kW X τ 0 [(0, .ref (E.2.2.2.2.1 0)), (1, .int x1)] []
  subst hl
  refine k_aload_n hX dX9_products_0 rfl 0 rfl ?_
  refine k_iload_n hX dX9_products_1 rfl 1 rfl ?_
  refine cX_takePart T (hrc) (room_lo hR (by omega) (by omega)) h rfl dX9_products_2 (fun τ1 h => ?_)
  refine k_lv [0, 1] rfl ?_
  exact T_products_b5_ok T hR e hrc _ _ _ h
theorem T_sums_b23_ok {X : KC TS} {E : TE} {z : TS} (T : tOK X E cX9_sums 3 none) {Fr Lr : Nat} (hR : tRoom X (Fr + 3) (Lr + 64)) (e : tE_v X E z) {nf : Nat} {rc : Int32 → TS → Option TS} (hrc : ∀ (a0 : Int32) (τ : TS) (v : TS), rc a0 τ = some v → tMet_v X.1.2.1 E yX9_takePart (ws_ yX9_takePart cX9_takePart 6 none) Fr Lr [.ref (E.2.2.2.2.1 0), .int a0] τ v) {k5 : Int32 → TS → Option TS} (hk5 : ∀ (x1 : Int32) (τ : TS), k5 x1 τ = some z → kW X τ 5 [(0, .ref (E.2.2.2.2.1 0)), (1, .int x1)] []) {x1 : Int32} {τ : TS} (h : T_sums_b23 nf rc k5 x1 τ = some z) : kW X τ 23 [(0, .ref (E.2.2.2.2.1 0)), (1, .int x1)] [] := by
  unfold T_sums_b23 at h
  have hX := T.1
  refine k_aload_n hX dX9_sums_23 rfl 0 rfl ?_
  refine k_bipush (v := 43) hX dX9_sums_24 (by decide) ?_
  refine cX_isSign T (met_isSign T.2.1) (room_lo hR (by omega) (by omega)) h rfl dX9_sums_26 (fun v1 h => ?_)
  refine k_istore_n [(2, .int v1), (0, .ref (E.2.2.2.2.1 0)), (1, .int x1)] hX dX9_sums_29 rfl rfl rfl ?_
  refine k_aload_n hX dX9_sums_30 rfl 1 rfl ?_
  refine k_dup hX dX9_sums_31 rfl ?_
  refine tg7 T dX9_sums_32 ?_
  refine k_iconst (v := 1) hX dX9_sums_35 (by decide) ?_
  refine k_iadd hX dX9_sums_36 ?_
  refine tp7 T h dX9_sums_37 (fun τ2 h => ?_)
  refine k_aload_n hX dX9_sums_40 rfl 1 rfl ?_
  refine k_iload_n hX dX9_sums_41 rfl 2 rfl ?_
  refine cX_products T (met_products T.2.1 hrc) (room_lo hR (by omega) (by omega)) h rfl dX9_sums_42 (fun τ3 h => ?_)
  refine k_aload_n hX dX9_sums_45 rfl 1 rfl ?_
  refine k_iload_n hX dX9_sums_46 rfl 0 rfl ?_
  refine k_if_eq (tgt := 54) hX h dX9_sums_47 (by decide) (fun h => ?_) (fun h => ?_)
  · refine k_iconst (v := 5) hX dX9_sums_54 (by decide) ?_
    refine k_iconst (v := 0) hX dX9_sums_55 (by decide) ?_
    refine cX_emit T (met_emit T.2.1) (room_lo hR (by omega) (by omega)) h rfl dX9_sums_56 (fun τ4 h => ?_)
    refine k_goto (tgt := 5) hX dX9_sums_59 (by decide) ?_
    refine k_lv [1, 2] rfl ?_
    exact hk5 _ _ h
  · refine k_iconst (v := 4) hX dX9_sums_50 (by decide) ?_
    refine k_goto (tgt := 55) hX dX9_sums_51 (by decide) ?_
    refine k_iconst (v := 0) hX dX9_sums_55 (by decide) ?_
    refine cX_emit T (met_emit T.2.1) (room_lo hR (by omega) (by omega)) h rfl dX9_sums_56 (fun τ5 h => ?_)
    refine k_goto (tgt := 5) hX dX9_sums_59 (by decide) ?_
    refine k_lv [1, 2] rfl ?_
    exact hk5 _ _ h
theorem T_sums_b5_s_ok {X : KC TS} {E : TE} {z : TS} (T : tOK X E cX9_sums 3 none) {Fr Lr : Nat} (hR : tRoom X (Fr + 3) (Lr + 64)) (e : tE_v X E z) {nf : Nat} {rc : Int32 → TS → Option TS} (hrc : ∀ (a0 : Int32) (τ : TS) (v : TS), rc a0 τ = some v → tMet_v X.1.2.1 E yX9_takePart (ws_ yX9_takePart cX9_takePart 6 none) Fr Lr [.ref (E.2.2.2.2.1 0), .int a0] τ v) {k5 : Int32 → TS → Option TS} (hk5 : ∀ (x1 : Int32) (τ : TS), k5 x1 τ = some z → kW X τ 5 [(0, .ref (E.2.2.2.2.1 0)), (1, .int x1)] []) {x1 : Int32} {τ : TS} (h : T_sums_b5_s nf rc k5 x1 τ = some z) : kW X τ 5 [(0, .ref (E.2.2.2.2.1 0)), (1, .int x1)] [] := by
  unfold T_sums_b5_s at h
  have hX := T.1
  refine k_aload_n hX dX9_sums_5 rfl 0 rfl ?_
  refine k_bipush (v := 43) hX dX9_sums_6 (by decide) ?_
  refine cX_isSign T (met_isSign T.2.1) (room_lo hR (by omega) (by omega)) h rfl dX9_sums_8 (fun v1 h => ?_)
  refine k_if_ne (tgt := 23) hX h dX9_sums_11 (by decide) (fun h => ?_) (fun h => ?_)
  · refine k_lv [0, 1] rfl ?_
    exact T_sums_b23_ok T hR e hrc hk5 h
  · refine k_aload_n hX dX9_sums_14 rfl 0 rfl ?_
    refine k_bipush (v := 45) hX dX9_sums_15 (by decide) ?_
    refine cX_isSign T (met_isSign T.2.1) (room_lo hR (by omega) (by omega)) h rfl dX9_sums_17 (fun v2 h => ?_)
    refine k_if_eq (tgt := 62) hX h dX9_sums_20 (by decide) (fun h => ?_) (fun h => ?_)
    · exact t_ret_v T e h dX9_sums_62
    · refine k_lv [0, 1] rfl ?_
      exact T_sums_b23_ok T hR e hrc hk5 h
theorem T_sums_b5_ok {X : KC TS} {E : TE} {z : TS} (T : tOK X E cX9_sums 3 none) {Fr Lr : Nat} (hR : tRoom X (Fr + 3) (Lr + 64)) (e : tE_v X E z) {nf : Nat} {rc : Int32 → TS → Option TS} (hrc : ∀ (a0 : Int32) (τ : TS) (v : TS), rc a0 τ = some v → tMet_v X.1.2.1 E yX9_takePart (ws_ yX9_takePart cX9_takePart 6 none) Fr Lr [.ref (E.2.2.2.2.1 0), .int a0] τ v) : ∀ (n : Nat) (x1 : Int32) (τ : TS), T_sums_b5 nf rc n x1 τ = some z → kW X τ 5 [(0, .ref (E.2.2.2.2.1 0)), (1, .int x1)] [] := by
  intro n
  induction n with
  | zero => intro x1 τ h; exact (nomatch (show (none : Option TS) = some z from h))
  | succ n ih =>
    intro x1 τ h
    have h : T_sums_b5_s nf rc (T_sums_b5 nf rc n) x1 τ = some z := h
    exact T_sums_b5_s_ok T hR e hrc ih h
theorem met_sums {l : Launch} {E : TE} (hE : tEnv E) {nf : Nat} {rc : Int32 → TS → Option TS} {Fr Lr : Nat} (hrc : ∀ (a0 : Int32) (τ : TS) (v : TS), rc a0 τ = some v → tMet_v l E yX9_takePart (ws_ yX9_takePart cX9_takePart 6 none) Fr Lr [.ref (E.2.2.2.2.1 0), .int a0] τ v) : ∀ (x1 : Int32) (τ : TS) (z : TS), T_sums nf rc x1 τ = some z → tMet_v l E yX9_sums (ws_ yX9_sums cX9_sums 3 none) (Fr + 3) (Lr + 64) [.ref (E.2.2.2.2.1 0), .int x1] τ z := by
  intro x1 τ z h
  refine t_met_v hE (by decide +kernel) rfl rfl (fun X hl T hR e => ?_)
  unfold T_sums at h
  have hX := T.1
  show kW X τ 0 [(0, .ref (E.2.2.2.2.1 0)), (1, .int x1)] []
  subst hl
  refine k_aload_n hX dX9_sums_0 rfl 0 rfl ?_
  refine k_iload_n hX dX9_sums_1 rfl 1 rfl ?_
  refine cX_products T (met_products T.2.1 hrc) (room_lo hR (by omega) (by omega)) h rfl dX9_sums_2 (fun τ1 h => ?_)
  refine k_lv [0, 1] rfl ?_
  exact T_sums_b5_ok T hR e hrc _ _ _ h
theorem T_test_b30_ok {X : KC TS} {E : TE} {z : TS} (T : tOK X E cX9_test 3 none) {Fr Lr : Nat} (hR : tRoom X (Fr + 4) (Lr + 86)) (e : tE_v X E z) {nf : Nat} {rc : Int32 → TS → Option TS} (hrc : ∀ (a0 : Int32) (τ : TS) (v : TS), rc a0 τ = some v → tMet_v X.1.2.1 E yX9_takePart (ws_ yX9_takePart cX9_takePart 6 none) Fr Lr [.ref (E.2.2.2.2.1 0), .int a0] τ v) {x1 : Int32} {x2 : Int32} {τ : TS} (h : T_test_b30 nf rc x1 x2 τ = some z) : kW X τ 30 [(0, .ref (E.2.2.2.2.1 0)), (1, .int x1), (2, .int x2)] [] := by
  unfold T_test_b30 at h
  have hX := T.1
  refine k_aload_n hX dX9_test_30 rfl 0 rfl ?_
  refine k_iload_n hX dX9_test_31 rfl 1 rfl ?_
  refine cX_sums T (met_sums T.2.1 hrc) (room_lo hR (by omega) (by omega)) h rfl dX9_test_32 (fun τ1 h => ?_)
  refine k_aload_n hX dX9_test_35 rfl 0 rfl ?_
  refine k_iload_n hX dX9_test_36 rfl 2 rfl ?_
  refine k_if_eq (tgt := 45) hX h dX9_test_37 (by decide) (fun h => ?_) (fun h => ?_)
  · refine k_bipush (v := 8) hX dX9_test_45 (by decide) ?_
    refine k_iconst (v := 0) hX dX9_test_47 (by decide) ?_
    refine cX_emit T (met_emit T.2.1) (room_lo hR (by omega) (by omega)) h rfl dX9_test_48 (fun τ2 h => ?_)
    exact t_ret_v T e h dX9_test_51
  · refine k_bipush (v := 7) hX dX9_test_40 (by decide) ?_
    refine k_goto (tgt := 47) hX dX9_test_42 (by decide) ?_
    refine k_iconst (v := 0) hX dX9_test_47 (by decide) ?_
    refine cX_emit T (met_emit T.2.1) (room_lo hR (by omega) (by omega)) h rfl dX9_test_48 (fun τ3 h => ?_)
    exact t_ret_v T e h dX9_test_51
theorem met_test {l : Launch} {E : TE} (hE : tEnv E) {nf : Nat} {rc : Int32 → TS → Option TS} {Fr Lr : Nat} (hrc : ∀ (a0 : Int32) (τ : TS) (v : TS), rc a0 τ = some v → tMet_v l E yX9_takePart (ws_ yX9_takePart cX9_takePart 6 none) Fr Lr [.ref (E.2.2.2.2.1 0), .int a0] τ v) : ∀ (x1 : Int32) (τ : TS) (z : TS), T_test nf rc x1 τ = some z → tMet_v l E yX9_test (ws_ yX9_test cX9_test 3 none) (Fr + 4) (Lr + 86) [.ref (E.2.2.2.2.1 0), .int x1] τ z := by
  intro x1 τ z h
  refine t_met_v hE (by decide +kernel) rfl rfl (fun X hl T hR e => ?_)
  unfold T_test at h
  have hX := T.1
  show kW X τ 0 [(0, .ref (E.2.2.2.2.1 0)), (1, .int x1)] []
  subst hl
  refine k_aload_n hX dX9_test_0 rfl 0 rfl ?_
  refine k_iload_n hX dX9_test_1 rfl 1 rfl ?_
  refine cX_sums T (met_sums T.2.1 hrc) (room_lo hR (by omega) (by omega)) h rfl dX9_test_2 (fun τ1 h => ?_)
  refine k_aload_n hX dX9_test_5 rfl 0 rfl ?_
  refine k_bipush (v := 60) hX dX9_test_6 (by decide) ?_
  refine cX_isSign T (met_isSign T.2.1) (room_lo hR (by omega) (by omega)) h rfl dX9_test_8 (fun v2 h => ?_)
  refine k_istore_n [(2, .int v2), (0, .ref (E.2.2.2.2.1 0)), (1, .int x1)] hX dX9_test_11 rfl rfl rfl ?_
  refine k_aload_n hX dX9_test_12 rfl 1 rfl ?_
  refine k_bipush (v := 60) hX dX9_test_13 (by decide) ?_
  refine cX_hasSign T (met_hasSign T.2.1) (room_lo hR (by omega) (by omega)) h rfl dX9_test_15 (fun v4 τ3 h => ?_)
  refine k_if_ne (tgt := 30) hX h dX9_test_18 (by decide) (fun h => ?_) (fun h => ?_)
  · refine k_lv [1, 2, 0] rfl ?_
    exact T_test_b30_ok T hR e hrc h
  · refine k_aload_n hX dX9_test_21 rfl 1 rfl ?_
    refine k_bipush (v := 61) hX dX9_test_22 (by decide) ?_
    refine cX_hasSign T (met_hasSign T.2.1) (room_lo hR (by omega) (by omega)) h rfl dX9_test_24 (fun v6 τ5 h => ?_)
    refine k_if_eq (tgt := 51) hX h dX9_test_27 (by decide) (fun h => ?_) (fun h => ?_)
    · exact t_ret_v T e h dX9_test_51
    · refine k_lv [1, 2, 0] rfl ?_
      exact T_test_b30_ok T hR e hrc h
theorem T_all_b23_ok {X : KC TS} {E : TE} {z : TS} (T : tOK X E cX9_all 3 none) {Fr Lr : Nat} (hR : tRoom X (Fr + 5) (Lr + 108)) (e : tE_v X E z) {nf : Nat} {rc : Int32 → TS → Option TS} (hrc : ∀ (a0 : Int32) (τ : TS) (v : TS), rc a0 τ = some v → tMet_v X.1.2.1 E yX9_takePart (ws_ yX9_takePart cX9_takePart 6 none) Fr Lr [.ref (E.2.2.2.2.1 0), .int a0] τ v) {k5 : Int32 → TS → Option TS} (hk5 : ∀ (x1 : Int32) (τ : TS), k5 x1 τ = some z → kW X τ 5 [(0, .ref (E.2.2.2.2.1 0)), (1, .int x1)] []) {x1 : Int32} {τ : TS} (h : T_all_b23 nf rc k5 x1 τ = some z) : kW X τ 23 [(0, .ref (E.2.2.2.2.1 0)), (1, .int x1)] [] := by
  unfold T_all_b23 at h
  have hX := T.1
  refine k_aload_n hX dX9_all_23 rfl 0 rfl ?_
  refine k_bipush (v := 18) hX dX9_all_24 (by decide) ?_
  refine cX_isWord T (met_isWord T.2.1) (room_lo hR (by omega) (by omega)) h rfl dX9_all_26 (fun v1 h => ?_)
  refine k_istore_n [(2, .int v1), (0, .ref (E.2.2.2.2.1 0)), (1, .int x1)] hX dX9_all_29 rfl rfl rfl ?_
  refine k_aload_n hX dX9_all_30 rfl 1 rfl ?_
  refine k_dup hX dX9_all_31 rfl ?_
  refine tg7 T dX9_all_32 ?_
  refine k_iconst (v := 1) hX dX9_all_35 (by decide) ?_
  refine k_iadd hX dX9_all_36 ?_
  refine tp7 T h dX9_all_37 (fun τ2 h => ?_)
  refine k_aload_n hX dX9_all_40 rfl 1 rfl ?_
  refine k_iload_n hX dX9_all_41 rfl 2 rfl ?_
  refine cX_test T (met_test T.2.1 hrc) (room_lo hR (by omega) (by omega)) h rfl dX9_all_42 (fun τ3 h => ?_)
  refine k_aload_n hX dX9_all_45 rfl 1 rfl ?_
  refine k_iload_n hX dX9_all_46 rfl 0 rfl ?_
  refine k_if_eq (tgt := 55) hX h dX9_all_47 (by decide) (fun h => ?_) (fun h => ?_)
  · refine k_bipush (v := 10) hX dX9_all_55 (by decide) ?_
    refine k_iconst (v := 0) hX dX9_all_57 (by decide) ?_
    refine cX_emit T (met_emit T.2.1) (room_lo hR (by omega) (by omega)) h rfl dX9_all_58 (fun τ4 h => ?_)
    refine k_goto (tgt := 5) hX dX9_all_61 (by decide) ?_
    refine k_lv [1, 2] rfl ?_
    exact hk5 _ _ h
  · refine k_bipush (v := 9) hX dX9_all_50 (by decide) ?_
    refine k_goto (tgt := 57) hX dX9_all_52 (by decide) ?_
    refine k_iconst (v := 0) hX dX9_all_57 (by decide) ?_
    refine cX_emit T (met_emit T.2.1) (room_lo hR (by omega) (by omega)) h rfl dX9_all_58 (fun τ5 h => ?_)
    refine k_goto (tgt := 5) hX dX9_all_61 (by decide) ?_
    refine k_lv [1, 2] rfl ?_
    exact hk5 _ _ h
theorem T_all_b5_s_ok {X : KC TS} {E : TE} {z : TS} (T : tOK X E cX9_all 3 none) {Fr Lr : Nat} (hR : tRoom X (Fr + 5) (Lr + 108)) (e : tE_v X E z) {nf : Nat} {rc : Int32 → TS → Option TS} (hrc : ∀ (a0 : Int32) (τ : TS) (v : TS), rc a0 τ = some v → tMet_v X.1.2.1 E yX9_takePart (ws_ yX9_takePart cX9_takePart 6 none) Fr Lr [.ref (E.2.2.2.2.1 0), .int a0] τ v) {k5 : Int32 → TS → Option TS} (hk5 : ∀ (x1 : Int32) (τ : TS), k5 x1 τ = some z → kW X τ 5 [(0, .ref (E.2.2.2.2.1 0)), (1, .int x1)] []) {x1 : Int32} {τ : TS} (h : T_all_b5_s nf rc k5 x1 τ = some z) : kW X τ 5 [(0, .ref (E.2.2.2.2.1 0)), (1, .int x1)] [] := by
  unfold T_all_b5_s at h
  have hX := T.1
  refine k_aload_n hX dX9_all_5 rfl 0 rfl ?_
  refine k_bipush (v := 18) hX dX9_all_6 (by decide) ?_
  refine cX_isWord T (met_isWord T.2.1) (room_lo hR (by omega) (by omega)) h rfl dX9_all_8 (fun v1 h => ?_)
  refine k_if_ne (tgt := 23) hX h dX9_all_11 (by decide) (fun h => ?_) (fun h => ?_)
  · refine k_lv [0, 1] rfl ?_
    exact T_all_b23_ok T hR e hrc hk5 h
  · refine k_aload_n hX dX9_all_14 rfl 0 rfl ?_
    refine k_bipush (v := 19) hX dX9_all_15 (by decide) ?_
    refine cX_isWord T (met_isWord T.2.1) (room_lo hR (by omega) (by omega)) h rfl dX9_all_17 (fun v2 h => ?_)
    refine k_if_eq (tgt := 64) hX h dX9_all_20 (by decide) (fun h => ?_) (fun h => ?_)
    · exact t_ret_v T e h dX9_all_64
    · refine k_lv [0, 1] rfl ?_
      exact T_all_b23_ok T hR e hrc hk5 h
theorem T_all_b5_ok {X : KC TS} {E : TE} {z : TS} (T : tOK X E cX9_all 3 none) {Fr Lr : Nat} (hR : tRoom X (Fr + 5) (Lr + 108)) (e : tE_v X E z) {nf : Nat} {rc : Int32 → TS → Option TS} (hrc : ∀ (a0 : Int32) (τ : TS) (v : TS), rc a0 τ = some v → tMet_v X.1.2.1 E yX9_takePart (ws_ yX9_takePart cX9_takePart 6 none) Fr Lr [.ref (E.2.2.2.2.1 0), .int a0] τ v) : ∀ (n : Nat) (x1 : Int32) (τ : TS), T_all_b5 nf rc n x1 τ = some z → kW X τ 5 [(0, .ref (E.2.2.2.2.1 0)), (1, .int x1)] [] := by
  intro n
  induction n with
  | zero => intro x1 τ h; exact (nomatch (show (none : Option TS) = some z from h))
  | succ n ih =>
    intro x1 τ h
    have h : T_all_b5_s nf rc (T_all_b5 nf rc n) x1 τ = some z := h
    exact T_all_b5_s_ok T hR e hrc ih h
theorem met_all {l : Launch} {E : TE} (hE : tEnv E) {nf : Nat} {rc : Int32 → TS → Option TS} {Fr Lr : Nat} (hrc : ∀ (a0 : Int32) (τ : TS) (v : TS), rc a0 τ = some v → tMet_v l E yX9_takePart (ws_ yX9_takePart cX9_takePart 6 none) Fr Lr [.ref (E.2.2.2.2.1 0), .int a0] τ v) : ∀ (x1 : Int32) (τ : TS) (z : TS), T_all nf rc x1 τ = some z → tMet_v l E yX9_all (ws_ yX9_all cX9_all 3 none) (Fr + 5) (Lr + 108) [.ref (E.2.2.2.2.1 0), .int x1] τ z := by
  intro x1 τ z h
  refine t_met_v hE (by decide +kernel) rfl rfl (fun X hl T hR e => ?_)
  unfold T_all at h
  have hX := T.1
  show kW X τ 0 [(0, .ref (E.2.2.2.2.1 0)), (1, .int x1)] []
  subst hl
  refine k_aload_n hX dX9_all_0 rfl 0 rfl ?_
  refine k_iload_n hX dX9_all_1 rfl 1 rfl ?_
  refine cX_test T (met_test T.2.1 hrc) (room_lo hR (by omega) (by omega)) h rfl dX9_all_2 (fun τ1 h => ?_)
  refine k_lv [0, 1] rfl ?_
  exact T_all_b5_ok T hR e hrc _ _ _ h
theorem T_takePart_b199_ok {X : KC TS} {E : TE} {z : TS} (T : tOK X E cX9_takePart 6 none) {Fr Lr : Nat} (hR : tRoom X (Fr + 6) (Lr + 130)) (e : tE_v X E z) {nf : Nat} {rc : Int32 → TS → Option TS} (hrc : ∀ (a0 : Int32) (τ : TS) (v : TS), rc a0 τ = some v → tMet_v X.1.2.1 E yX9_takePart (ws_ yX9_takePart cX9_takePart 6 none) Fr Lr [.ref (E.2.2.2.2.1 0), .int a0] τ v) {s0 : Int32} {s1 : Int32} {τ : TS} (h : T_takePart_b199 nf rc s0 s1 τ = some z) : kW X τ 199 [(0, .ref (E.2.2.2.2.1 0))] [.int s0, .int s1, .ref (E.2.2.2.2.1 0)] := by
  unfold T_takePart_b199 at h
  have hX := T.1
  refine cX_emit T (met_emit T.2.1) (room_lo hR (by omega) (by omega)) h rfl dX9_takePart_199 (fun τ1 h => ?_)
  refine k_aload_n hX dX9_takePart_202 rfl 0 rfl ?_
  refine k_dup hX dX9_takePart_203 rfl ?_
  refine tg7 T dX9_takePart_204 ?_
  refine k_iconst (v := 1) hX dX9_takePart_207 (by decide) ?_
  refine k_iadd hX dX9_takePart_208 ?_
  refine tp7 T h dX9_takePart_209 (fun τ2 h => ?_)
  exact t_ret_v T e h dX9_takePart_212
theorem T_takePart_b180_ok {X : KC TS} {E : TE} {z : TS} (T : tOK X E cX9_takePart 6 none) {Fr Lr : Nat} (hR : tRoom X (Fr + 6) (Lr + 130)) (e : tE_v X E z) {nf : Nat} {rc : Int32 → TS → Option TS} (hrc : ∀ (a0 : Int32) (τ : TS) (v : TS), rc a0 τ = some v → tMet_v X.1.2.1 E yX9_takePart (ws_ yX9_takePart cX9_takePart 6 none) Fr Lr [.ref (E.2.2.2.2.1 0), .int a0] τ v) {x2 : Int32} {x5 : Int32} {s0 : Int32} {τ : TS} (h : T_takePart_b180 nf rc x2 x5 s0 τ = some z) : kW X τ 180 [(0, .ref (E.2.2.2.2.1 0)), (2, .int x2), (5, .int x5)] [.int s0, .ref (E.2.2.2.2.1 0)] := by
  unfold T_takePart_b180 at h
  have hX := T.1
  refine k_iload_n hX dX9_takePart_180 rfl 1 rfl ?_
  refine k_if_eq (tgt := 197) hX h dX9_takePart_181 (by decide) (fun h => ?_) (fun h => ?_)
  · refine k_iload hX dX9_takePart_197 2 rfl ?_
    refine k_lv [0] rfl ?_
    exact T_takePart_b199_ok T hR e hrc h
  · refine k_aload_n hX dX9_takePart_184 rfl 0 rfl ?_
    refine tg6 T dX9_takePart_185 ?_
    refine k_aload_n hX dX9_takePart_188 rfl 0 rfl ?_
    refine tg7 T dX9_takePart_189 ?_
    refine ta6 T h dX9_takePart_192 (fun v1 h => ?_)
    refine k_l2i hX dX9_takePart_193 ?_
    refine k_goto (tgt := 199) hX dX9_takePart_194 (by decide) ?_
    refine k_lv [0] rfl ?_
    exact T_takePart_b199_ok T hR e hrc h
theorem T_takePart_b112_ok {X : KC TS} {E : TE} {z : TS} (T : tOK X E cX9_takePart 6 none) {Fr Lr : Nat} (hR : tRoom X (Fr + 6) (Lr + 130)) (e : tE_v X E z) {nf : Nat} {rc : Int32 → TS → Option TS} (hrc : ∀ (a0 : Int32) (τ : TS) (v : TS), rc a0 τ = some v → tMet_v X.1.2.1 E yX9_takePart (ws_ yX9_takePart cX9_takePart 6 none) Fr Lr [.ref (E.2.2.2.2.1 0), .int a0] τ v) {x1 : Int32} {x2 : Int32} {x5 : Int32} {τ : TS} (h : T_takePart_b112 nf rc x1 x2 x5 τ = some z) : kW X τ 112 [(0, .ref (E.2.2.2.2.1 0)), (1, .int x1), (2, .int x2), (5, .int x5)] [] := by
  unfold T_takePart_b112 at h
  have hX := T.1
  refine k_aload_n hX dX9_takePart_112 rfl 0 rfl ?_
  refine tg8 T dX9_takePart_113 ?_
  refine k_if_le (tgt := 120) hX h dX9_takePart_116 (by decide) (fun h => ?_) (fun h => ?_)
  · refine k_aload_n hX dX9_takePart_120 rfl 0 rfl ?_
    refine k_bipush (v := 17) hX dX9_takePart_121 (by decide) ?_
    refine cX_hasWord T (met_hasWord T.2.1) (room_lo hR (by omega) (by omega)) h rfl dX9_takePart_123 (fun v2 τ1 h => ?_)
    refine k_if_eq (tgt := 145) hX h dX9_takePart_126 (by decide) (fun h => ?_) (fun h => ?_)
    · refine k_aload_n hX dX9_takePart_145 rfl 0 rfl ?_
      refine k_bipush (v := 40) hX dX9_takePart_146 (by decide) ?_
      refine cX_hasSign T (met_hasSign T.2.1) (room_lo hR (by omega) (by omega)) h rfl dX9_takePart_148 (fun v4 τ3 h => ?_)
      refine k_if_eq (tgt := 170) hX h dX9_takePart_151 (by decide) (fun h => ?_) (fun h => ?_)
      · refine k_aload_n hX dX9_takePart_170 rfl 0 rfl ?_
        refine k_iload_n hX dX9_takePart_171 rfl 2 rfl ?_
        refine k_if_eq (tgt := 179) hX h dX9_takePart_172 (by decide) (fun h => ?_) (fun h => ?_)
        · refine k_iconst (v := 2) hX dX9_takePart_179 (by decide) ?_
          refine k_lv [0, 2, 3] rfl ?_
          exact T_takePart_b180_ok T hR e hrc h
        · refine k_iconst (v := 1) hX dX9_takePart_175 (by decide) ?_
          refine k_goto (tgt := 180) hX dX9_takePart_176 (by decide) ?_
          refine k_lv [0, 2, 3] rfl ?_
          exact T_takePart_b180_ok T hR e hrc h
      · refine k_aload_n hX dX9_takePart_154 rfl 0 rfl ?_
        refine k_iload_n hX dX9_takePart_155 rfl 1 rfl ?_
        refine k_iconst (v := 1) hX dX9_takePart_156 (by decide) ?_
        refine k_iadd hX dX9_takePart_157 ?_
        refine cX_all T (met_all T.2.1 hrc) (room_lo hR (by omega) (by omega)) h rfl dX9_takePart_158 (fun τ5 h => ?_)
        refine k_aload_n hX dX9_takePart_161 rfl 0 rfl ?_
        refine k_bipush (v := 41) hX dX9_takePart_162 (by decide) ?_
        refine cX_takeSign T (met_takeSign T.2.1) (room_lo hR (by omega) (by omega)) h rfl dX9_takePart_164 (fun τ6 h => ?_)
        refine k_goto (tgt := 212) hX dX9_takePart_167 (by decide) ?_
        exact t_ret_v T e h dX9_takePart_212
    · refine k_aload_n hX dX9_takePart_129 rfl 0 rfl ?_
      refine k_iload_n hX dX9_takePart_130 rfl 1 rfl ?_
      refine k_iconst (v := 1) hX dX9_takePart_131 (by decide) ?_
      refine k_iadd hX dX9_takePart_132 ?_
      refine cX_takePart T (hrc) (room_lo hR (by omega) (by omega)) h rfl dX9_takePart_133 (fun τ7 h => ?_)
      refine k_aload_n hX dX9_takePart_136 rfl 0 rfl ?_
      refine k_iconst (v := 3) hX dX9_takePart_137 (by decide) ?_
      refine k_iconst (v := 0) hX dX9_takePart_138 (by decide) ?_
      refine cX_emit T (met_emit T.2.1) (room_lo hR (by omega) (by omega)) h rfl dX9_takePart_139 (fun τ8 h => ?_)
      refine k_goto (tgt := 212) hX dX9_takePart_142 (by decide) ?_
      exact t_ret_v T e h dX9_takePart_212
  · exact t_ret_v T e h dX9_takePart_119
theorem T_takePart_b102_ok {X : KC TS} {E : TE} {z : TS} (T : tOK X E cX9_takePart 6 none) {Fr Lr : Nat} (hR : tRoom X (Fr + 6) (Lr + 130)) (e : tE_v X E z) {nf : Nat} {rc : Int32 → TS → Option TS} (hrc : ∀ (a0 : Int32) (τ : TS) (v : TS), rc a0 τ = some v → tMet_v X.1.2.1 E yX9_takePart (ws_ yX9_takePart cX9_takePart 6 none) Fr Lr [.ref (E.2.2.2.2.1 0), .int a0] τ v) {x1 : Int32} {x2 : Int32} {x5 : Int32} {τ : TS} (h : T_takePart_b102 nf rc x1 x2 x5 τ = some z) : kW X τ 102 [(0, .ref (E.2.2.2.2.1 0)), (1, .int x1), (2, .int x2), (5, .int x5)] [] := by
  unfold T_takePart_b102 at h
  have hX := T.1
  refine k_iload_n hX dX9_takePart_102 rfl 1 rfl ?_
  refine k_iconst (v := 5) hX dX9_takePart_103 (by decide) ?_
  refine k_icmp_ne (tgt := 112) hX h dX9_takePart_104 (by decide) (fun h => ?_) (fun h => ?_)
  · refine k_lv [0, 1, 2, 3] rfl ?_
    exact T_takePart_b112_ok T hR e hrc h
  · refine k_aload_n hX dX9_takePart_107 rfl 0 rfl ?_
    refine k_iconst (v := 5) hX dX9_takePart_108 (by decide) ?_
    refine cX_wrong T (met_wrong T.2.1) (room_lo hR (by omega) (by omega)) h rfl dX9_takePart_109 (fun τ1 h => ?_)
    refine k_lv [0, 1, 2, 3] rfl ?_
    exact T_takePart_b112_ok T hR e hrc h
theorem T_takePart_b65_ok {X : KC TS} {E : TE} {z : TS} (T : tOK X E cX9_takePart 6 none) {Fr Lr : Nat} (hR : tRoom X (Fr + 6) (Lr + 130)) (e : tE_v X E z) {nf : Nat} {rc : Int32 → TS → Option TS} (hrc : ∀ (a0 : Int32) (τ : TS) (v : TS), rc a0 τ = some v → tMet_v X.1.2.1 E yX9_takePart (ws_ yX9_takePart cX9_takePart 6 none) Fr Lr [.ref (E.2.2.2.2.1 0), .int a0] τ v) {x1 : Int32} {x2 : Int32} {s0 : Int32} {τ : TS} (h : T_takePart_b65 nf rc x1 x2 s0 τ = some z) : kW X τ 65 [(0, .ref (E.2.2.2.2.1 0)), (1, .int x1), (2, .int x2)] [.int s0] := by
  unfold T_takePart_b65 at h
  have hX := T.1
  refine k_istore [(5, .int s0), (0, .ref (E.2.2.2.2.1 0)), (1, .int x1), (2, .int x2)] hX dX9_takePart_65 rfl rfl ?_
  refine k_iload hX dX9_takePart_67 0 rfl ?_
  refine k_if_ge (tgt := 102) hX h dX9_takePart_69 (by decide) (fun h => ?_) (fun h => ?_)
  · refine k_lv [1, 2, 3, 0] rfl ?_
    exact T_takePart_b102_ok T hR e hrc h
  · refine k_iload_n hX dX9_takePart_72 rfl 3 rfl ?_
    refine k_if_ne (tgt := 102) hX h dX9_takePart_73 (by decide) (fun h => ?_) (fun h => ?_)
    · refine k_lv [1, 2, 3, 0] rfl ?_
      exact T_takePart_b102_ok T hR e hrc h
    · refine k_aload_n hX dX9_takePart_76 rfl 1 rfl ?_
      refine k_bipush (v := 40) hX dX9_takePart_77 (by decide) ?_
      refine cX_isSign T (met_isSign T.2.1) (room_lo hR (by omega) (by omega)) h rfl dX9_takePart_79 (fun v1 h => ?_)
      refine k_if_ne (tgt := 102) hX h dX9_takePart_82 (by decide) (fun h => ?_) (fun h => ?_)
      · refine k_lv [1, 2, 3, 0] rfl ?_
        exact T_takePart_b102_ok T hR e hrc h
      · refine k_aload_n hX dX9_takePart_85 rfl 1 rfl ?_
        refine k_bipush (v := 17) hX dX9_takePart_86 (by decide) ?_
        refine cX_isWord T (met_isWord T.2.1) (room_lo hR (by omega) (by omega)) h rfl dX9_takePart_88 (fun v2 h => ?_)
        refine k_if_ne (tgt := 102) hX h dX9_takePart_91 (by decide) (fun h => ?_) (fun h => ?_)
        · refine k_lv [1, 2, 3, 0] rfl ?_
          exact T_takePart_b102_ok T hR e hrc h
        · refine k_aload_n hX dX9_takePart_94 rfl 1 rfl ?_
          refine k_iconst (v := 1) hX dX9_takePart_95 (by decide) ?_
          refine cX_wrong T (met_wrong T.2.1) (room_lo hR (by omega) (by omega)) h rfl dX9_takePart_96 (fun τ3 h => ?_)
          refine k_goto (tgt := 112) hX dX9_takePart_99 (by decide) ?_
          refine k_lv [1, 2, 3, 0] rfl ?_
          exact T_takePart_b112_ok T hR e hrc h
theorem T_takePart_b26_ok {X : KC TS} {E : TE} {z : TS} (T : tOK X E cX9_takePart 6 none) {Fr Lr : Nat} (hR : tRoom X (Fr + 6) (Lr + 130)) (e : tE_v X E z) {nf : Nat} {rc : Int32 → TS → Option TS} (hrc : ∀ (a0 : Int32) (τ : TS) (v : TS), rc a0 τ = some v → tMet_v X.1.2.1 E yX9_takePart (ws_ yX9_takePart cX9_takePart 6 none) Fr Lr [.ref (E.2.2.2.2.1 0), .int a0] τ v) {x1 : Int32} {s0 : Int32} {τ : TS} (h : T_takePart_b26 nf rc x1 s0 τ = some z) : kW X τ 26 [(0, .ref (E.2.2.2.2.1 0)), (1, .int x1)] [.int s0] := by
  unfold T_takePart_b26 at h
  have hX := T.1
  refine k_istore_n [(2, .int s0), (0, .ref (E.2.2.2.2.1 0)), (1, .int x1)] hX dX9_takePart_26 rfl rfl rfl ?_
  refine k_aload_n hX dX9_takePart_27 rfl 1 rfl ?_
  refine k_bipush (v := 10) hX dX9_takePart_28 (by decide) ?_
  refine k_iconst (v := 2) hX dX9_takePart_30 (by decide) ?_
  refine cX_wordHere T (met_wordHere T.2.1) (room_lo hR (by omega) (by omega)) h rfl dX9_takePart_31 (fun v1 h => ?_)
  refine k_istore_n [(3, .int v1), (2, .int s0), (0, .ref (E.2.2.2.2.1 0)), (1, .int x1)] hX dX9_takePart_34 rfl rfl rfl ?_
  refine k_aload_n hX dX9_takePart_35 rfl 2 rfl ?_
  refine k_bipush (v := 20) hX dX9_takePart_36 (by decide) ?_
  refine k_iconst (v := 2) hX dX9_takePart_38 (by decide) ?_
  refine cX_wordHere T (met_wordHere T.2.1) (room_lo hR (by omega) (by omega)) h rfl dX9_takePart_39 (fun v2 h => ?_)
  refine k_istore [(4, .int v2), (3, .int v1), (2, .int s0), (0, .ref (E.2.2.2.2.1 0)), (1, .int x1)] hX dX9_takePart_42 rfl rfl ?_
  refine k_iload_n hX dX9_takePart_44 rfl 1 rfl ?_
  refine k_if_lt (tgt := 52) hX h dX9_takePart_45 (by decide) (fun h => ?_) (fun h => ?_)
  · refine k_iload hX dX9_takePart_52 0 rfl ?_
    refine k_if_lt (tgt := 64) hX h dX9_takePart_54 (by decide) (fun h => ?_) (fun h => ?_)
    · refine k_iconst (v := (-1)) hX dX9_takePart_64 (by decide) ?_
      refine k_lv [3, 4, 2] rfl ?_
      exact T_takePart_b65_ok T hR e hrc h
    · refine k_iconst (v := 2) hX dX9_takePart_57 (by decide) ?_
      refine k_iload hX dX9_takePart_58 0 rfl ?_
      refine k_iadd hX dX9_takePart_60 ?_
      refine k_goto (tgt := 65) hX dX9_takePart_61 (by decide) ?_
      refine k_lv [3, 4, 2] rfl ?_
      exact T_takePart_b65_ok T hR e hrc h
  · refine k_iload_n hX dX9_takePart_48 rfl 1 rfl ?_
    refine k_goto (tgt := 65) hX dX9_takePart_49 (by decide) ?_
    refine k_lv [3, 4, 2] rfl ?_
    exact T_takePart_b65_ok T hR e hrc h
theorem met_takePart_s {l : Launch} {E : TE} (hE : tEnv E) {nf : Nat} {rc : Int32 → TS → Option TS} {Fr Lr : Nat} (hrc : ∀ (a0 : Int32) (τ : TS) (v : TS), rc a0 τ = some v → tMet_v l E yX9_takePart (ws_ yX9_takePart cX9_takePart 6 none) Fr Lr [.ref (E.2.2.2.2.1 0), .int a0] τ v) : ∀ (x1 : Int32) (τ : TS) (z : TS), T_takePart_s nf rc x1 τ = some z → tMet_v l E yX9_takePart (ws_ yX9_takePart cX9_takePart 6 none) (Fr + 6) (Lr + 130) [.ref (E.2.2.2.2.1 0), .int x1] τ z := by
  intro x1 τ z h
  refine t_met_v hE (by decide +kernel) rfl rfl (fun X hl T hR e => ?_)
  unfold T_takePart_s at h
  have hX := T.1
  show kW X τ 0 [(0, .ref (E.2.2.2.2.1 0)), (1, .int x1)] []
  subst hl
  refine k_aload_n hX dX9_takePart_0 rfl 0 rfl ?_
  refine tg8 T dX9_takePart_1 ?_
  refine k_if_le (tgt := 8) hX h dX9_takePart_4 (by decide) (fun h => ?_) (fun h => ?_)
  · refine k_aload_n hX dX9_takePart_8 rfl 0 rfl ?_
    refine tg4 T dX9_takePart_9 ?_
    refine k_aload_n hX dX9_takePart_12 rfl 0 rfl ?_
    refine tg7 T dX9_takePart_13 ?_
    refine ta4 T h dX9_takePart_16 (fun v1 h => ?_)
    refine k_iconst (v := 2) hX dX9_takePart_17 (by decide) ?_
    refine k_icmp_ne (tgt := 25) hX h dX9_takePart_18 (by decide) (fun h => ?_) (fun h => ?_)
    · refine k_iconst (v := 0) hX dX9_takePart_25 (by decide) ?_
      refine k_lv [0, 1] rfl ?_
      exact T_takePart_b26_ok T hR e hrc h
    · refine k_iconst (v := 1) hX dX9_takePart_21 (by decide) ?_
      refine k_goto (tgt := 26) hX dX9_takePart_22 (by decide) ?_
      refine k_lv [0, 1] rfl ?_
      exact T_takePart_b26_ok T hR e hrc h
  · exact t_ret_v T e h dX9_takePart_7
theorem met_takePart {l : Launch} {E : TE} (hE : tEnv E) {nf : Nat} : ∀ (dp : Nat) (x1 : Int32) (τ : TS) (z : TS), T_takePart nf dp x1 τ = some z → tMet_v l E yX9_takePart (ws_ yX9_takePart cX9_takePart 6 none) (6 * dp) (130 * dp) [.ref (E.2.2.2.2.1 0), .int x1] τ z := by
  intro dp
  induction dp with
  | zero => intro x1 τ z h; exact (nomatch (show (none : Option TS) = some z from h))
  | succ dp ih =>
    intro x1 τ z h
    have h : T_takePart_s nf (T_takePart nf dp) x1 τ = some z := h
    exact met_takePart_s hE ih _ _ _ h
theorem met_isName {l : Launch} {E : TE} (hE : tEnv E) {nf : Nat} {τ : TS} : ∀ (z : Int32), T_isName nf τ = some z → tMet_i l E yX9_isName (ws_ yX9_isName cX9_isName 1 (some .boolean)) 2 45 [.ref (E.2.2.2.2.1 0)] τ z τ := by
  intro z h
  refine t_met_i hE (by decide +kernel) rfl rfl (fun X hl T hR e => ?_)
  unfold T_isName at h
  have hX := T.1
  show kW X τ 0 [(0, .ref (E.2.2.2.2.1 0))] []
  refine k_aload_n hX dX9_isName_0 rfl 0 rfl ?_
  refine tg8 T dX9_isName_1 ?_
  refine k_if_ne (tgt := 34) hX h dX9_isName_4 (by decide) (fun h => ?_) (fun h => ?_)
  · refine k_iconst (v := 0) hX dX9_isName_34 (by decide) ?_
    exact t_ret_zrc T e rfl h dX9_isName_35
  · refine k_aload_n hX dX9_isName_7 rfl 0 rfl ?_
    refine tg4 T dX9_isName_8 ?_
    refine k_aload_n hX dX9_isName_11 rfl 0 rfl ?_
    refine tg7 T dX9_isName_12 ?_
    refine ta4 T h dX9_isName_15 (fun v1 h => ?_)
    refine k_iconst (v := 1) hX dX9_isName_16 (by decide) ?_
    refine k_icmp_ne (tgt := 34) hX h dX9_isName_17 (by decide) (fun h => ?_) (fun h => ?_)
    · refine k_iconst (v := 0) hX dX9_isName_34 (by decide) ?_
      exact t_ret_zrc T e rfl h dX9_isName_35
    · refine k_aload_n hX dX9_isName_20 rfl 0 rfl ?_
      refine k_iconst (v := 0) hX dX9_isName_21 (by decide) ?_
      refine k_bipush (v := 20) hX dX9_isName_22 (by decide) ?_
      refine cX_wordHere T (met_wordHere T.2.1) (room_le hR rfl rfl) h rfl dX9_isName_24 (fun v2 h => ?_)
      refine k_if_ge (tgt := 34) hX h dX9_isName_27 (by decide) (fun h => ?_) (fun h => ?_)
      · refine k_iconst (v := 0) hX dX9_isName_34 (by decide) ?_
        exact t_ret_zrc T e rfl h dX9_isName_35
      · refine k_iconst (v := 1) hX dX9_isName_30 (by decide) ?_
        refine k_goto (tgt := 35) hX dX9_isName_31 (by decide) ?_
        exact t_ret_zrc T e rfl h dX9_isName_35
theorem T_readRule_b105_ok {X : KC TS} {E : TE} {z : TS} (T : tOK X E cX9_readRule 4 none) (hR : tRoom X 66 1430) (e : tE_v X E z) {nf : Nat} {x1 : Int32} {τ : TS} (h : T_readRule_b105 nf x1 τ = some z) : kW X τ 105 [(0, .ref (E.2.2.2.2.1 0)), (1, .int x1)] [] := by
  unfold T_readRule_b105 at h
  have hX := T.1
  refine k_aload_n hX dX9_readRule_105 rfl 0 rfl ?_
  refine tg8 T dX9_readRule_106 ?_
  refine k_if_le (tgt := 113) hX h dX9_readRule_109 (by decide) (fun h => ?_) (fun h => ?_)
  · refine k_aload_n hX dX9_readRule_113 rfl 0 rfl ?_
    refine tg14 T dX9_readRule_114 ?_
    refine k_iload_n hX dX9_readRule_117 rfl 1 rfl ?_
    refine k_aload_n hX dX9_readRule_118 rfl 0 rfl ?_
    refine tg6 T dX9_readRule_119 ?_
    refine k_aload_n hX dX9_readRule_122 rfl 0 rfl ?_
    refine tg7 T dX9_readRule_123 ?_
    refine ta6 T h dX9_readRule_126 (fun v1 h => ?_)
    refine ts14 T h dX9_readRule_127 (fun τ2 h => ?_)
    refine k_aload_n hX dX9_readRule_128 rfl 0 rfl ?_
    refine k_dup hX dX9_readRule_129 rfl ?_
    refine tg7 T dX9_readRule_130 ?_
    refine k_iconst (v := 1) hX dX9_readRule_133 (by decide) ?_
    refine k_iadd hX dX9_readRule_134 ?_
    refine tp7 T h dX9_readRule_135 (fun τ3 h => ?_)
    refine k_aload_n hX dX9_readRule_138 rfl 0 rfl ?_
    refine tg10 T dX9_readRule_139 ?_
    refine k_sipush (v := 620) hX dX9_readRule_142 (by decide) ?_
    refine k_iload_n hX dX9_readRule_145 rfl 1 rfl ?_
    refine k_iadd hX dX9_readRule_146 ?_
    refine k_aload_n hX dX9_readRule_147 rfl 0 rfl ?_
    refine tg13 T dX9_readRule_148 ?_
    refine ts10 T h dX9_readRule_151 (fun τ4 h => ?_)
    refine k_aload_n hX dX9_readRule_152 rfl 0 rfl ?_
    refine k_iconst (v := 0) hX dX9_readRule_153 (by decide) ?_
    refine cX_all T (met_all T.2.1 (met_takePart T.2.1 10)) (room_le hR rfl rfl) h rfl dX9_readRule_154 (fun τ5 h => ?_)
    refine k_aload_n hX dX9_readRule_157 rfl 0 rfl ?_
    refine k_iconst (v := 0) hX dX9_readRule_158 (by decide) ?_
    refine k_iconst (v := 0) hX dX9_readRule_159 (by decide) ?_
    refine cX_emit T (met_emit T.2.1) (room_le hR rfl rfl) h rfl dX9_readRule_160 (fun τ6 h => ?_)
    refine k_aload_n hX dX9_readRule_163 rfl 0 rfl ?_
    refine tg10 T dX9_readRule_164 ?_
    refine k_sipush (v := 348) hX dX9_readRule_167 (by decide) ?_
    refine k_dup2 hX dX9_readRule_170 rfl rfl ?_
    refine ta10 T h dX9_readRule_171 (fun v7 h => ?_)
    refine k_iconst (v := 1) hX dX9_readRule_172 (by decide) ?_
    refine k_iadd hX dX9_readRule_173 ?_
    refine ts10 T h dX9_readRule_174 (fun τ8 h => ?_)
    exact t_ret_v T e h dX9_readRule_175
  · exact t_ret_v T e h dX9_readRule_112
theorem T_readRule_b81_ok {X : KC TS} {E : TE} {z : TS} (T : tOK X E cX9_readRule 4 none) (hR : tRoom X 66 1430) (e : tE_v X E z) {nf : Nat} {x1 : Int32} {x2 : Int32} {τ : TS} (h : T_readRule_b81 nf x1 x2 τ = some z) : kW X τ 81 [(0, .ref (E.2.2.2.2.1 0)), (1, .int x1), (2, .int x2)] [] := by
  unfold T_readRule_b81 at h
  have hX := T.1
  refine k_aload_n hX dX9_readRule_81 rfl 0 rfl ?_
  refine cX_isName T (met_isName T.2.1) (room_le hR rfl rfl) h rfl dX9_readRule_82 (fun v1 h => ?_)
  refine k_if_ne (tgt := 96) hX h dX9_readRule_85 (by decide) (fun h => ?_) (fun h => ?_)
  · refine k_iload_n hX dX9_readRule_96 rfl 2 rfl ?_
    refine k_if_eq (tgt := 105) hX h dX9_readRule_97 (by decide) (fun h => ?_) (fun h => ?_)
    · refine k_lv [0, 1] rfl ?_
      exact T_readRule_b105_ok T hR e h
    · refine k_aload_n hX dX9_readRule_100 rfl 0 rfl ?_
      refine k_iconst (v := 3) hX dX9_readRule_101 (by decide) ?_
      refine cX_wrong T (met_wrong T.2.1) (room_le hR rfl rfl) h rfl dX9_readRule_102 (fun τ2 h => ?_)
      refine k_lv [0, 1] rfl ?_
      exact T_readRule_b105_ok T hR e h
  · refine k_aload_n hX dX9_readRule_88 rfl 0 rfl ?_
    refine k_iconst (v := 1) hX dX9_readRule_89 (by decide) ?_
    refine cX_wrong T (met_wrong T.2.1) (room_le hR rfl rfl) h rfl dX9_readRule_90 (fun τ3 h => ?_)
    refine k_goto (tgt := 105) hX dX9_readRule_93 (by decide) ?_
    refine k_lv [0, 1] rfl ?_
    exact T_readRule_b105_ok T hR e h
theorem T_readRule_b34_s_ok {X : KC TS} {E : TE} {z : TS} (T : tOK X E cX9_readRule 4 none) (hR : tRoom X 66 1430) (e : tE_v X E z) {nf : Nat} {k34 : Int32 → Int32 → Int32 → TS → Option TS} (hk34 : ∀ (x1 : Int32) (x2 : Int32) (x3 : Int32) (τ : TS), k34 x1 x2 x3 τ = some z → kW X τ 34 [(0, .ref (E.2.2.2.2.1 0)), (1, .int x1), (2, .int x2), (3, .int x3)] []) {x1 : Int32} {x2 : Int32} {x3 : Int32} {τ : TS} (h : T_readRule_b34_s nf k34 x1 x2 x3 τ = some z) : kW X τ 34 [(0, .ref (E.2.2.2.2.1 0)), (1, .int x1), (2, .int x2), (3, .int x3)] [] := by
  unfold T_readRule_b34_s at h
  have hX := T.1
  refine k_iload_n hX dX9_readRule_34 rfl 3 rfl ?_
  refine k_iload_n hX dX9_readRule_35 rfl 1 rfl ?_
  refine k_icmp_ge (tgt := 81) hX h dX9_readRule_36 (by decide) (fun h => ?_) (fun h => ?_)
  · refine k_lv [0, 1, 2] rfl ?_
    exact T_readRule_b81_ok T hR e h
  · refine k_aload_n hX dX9_readRule_39 rfl 0 rfl ?_
    refine tg8 T dX9_readRule_40 ?_
    refine k_if_ne (tgt := 81) hX h dX9_readRule_43 (by decide) (fun h => ?_) (fun h => ?_)
    · refine k_lv [0, 1, 2] rfl ?_
      exact T_readRule_b81_ok T hR e h
    · refine k_iload_n hX dX9_readRule_46 rfl 2 rfl ?_
      refine k_if_ne (tgt := 69) hX h dX9_readRule_47 (by decide) (fun h => ?_) (fun h => ?_)
      · refine k_iconst (v := 1) hX dX9_readRule_69 (by decide) ?_
        refine k_goto (tgt := 74) hX dX9_readRule_70 (by decide) ?_
        refine k_istore_n [(2, .int 1), (0, .ref (E.2.2.2.2.1 0)), (1, .int x1), (3, .int x3)] hX dX9_readRule_74 rfl rfl rfl ?_
        refine k_iinc (j := 3) [(3, .int (x3 + 1)), (2, .int 1), (0, .ref (E.2.2.2.2.1 0)), (1, .int x1)] hX dX9_readRule_75 rfl rfl rfl rfl ?_
        refine k_goto (tgt := 34) hX dX9_readRule_78 (by decide) ?_
        refine k_lv [2, 3, 1, 0] rfl ?_
        exact hk34 _ _ _ _ h
      · refine k_aload_n hX dX9_readRule_50 rfl 0 rfl ?_
        refine tg14 T dX9_readRule_51 ?_
        refine k_iload_n hX dX9_readRule_54 rfl 3 rfl ?_
        refine ta14 T h dX9_readRule_55 (fun v1 h => ?_)
        refine k_aload_n hX dX9_readRule_56 rfl 0 rfl ?_
        refine tg6 T dX9_readRule_57 ?_
        refine k_aload_n hX dX9_readRule_60 rfl 0 rfl ?_
        refine tg7 T dX9_readRule_61 ?_
        refine ta6 T h dX9_readRule_64 (fun v2 h => ?_)
        refine k_lcmp_ne (tgt := 73) hX h dX9_readRule_65 dX9_readRule_66 (by decide) (fun h => ?_) (fun h => ?_)
        · refine k_iconst (v := 0) hX dX9_readRule_73 (by decide) ?_
          refine k_istore_n [(2, .int 0), (0, .ref (E.2.2.2.2.1 0)), (1, .int x1), (3, .int x3)] hX dX9_readRule_74 rfl rfl rfl ?_
          refine k_iinc (j := 3) [(3, .int (x3 + 1)), (2, .int 0), (0, .ref (E.2.2.2.2.1 0)), (1, .int x1)] hX dX9_readRule_75 rfl rfl rfl rfl ?_
          refine k_goto (tgt := 34) hX dX9_readRule_78 (by decide) ?_
          refine k_lv [2, 3, 1, 0] rfl ?_
          exact hk34 _ _ _ _ h
        · refine k_iconst (v := 1) hX dX9_readRule_69 (by decide) ?_
          refine k_goto (tgt := 74) hX dX9_readRule_70 (by decide) ?_
          refine k_istore_n [(2, .int 1), (0, .ref (E.2.2.2.2.1 0)), (1, .int x1), (3, .int x3)] hX dX9_readRule_74 rfl rfl rfl ?_
          refine k_iinc (j := 3) [(3, .int (x3 + 1)), (2, .int 1), (0, .ref (E.2.2.2.2.1 0)), (1, .int x1)] hX dX9_readRule_75 rfl rfl rfl rfl ?_
          refine k_goto (tgt := 34) hX dX9_readRule_78 (by decide) ?_
          refine k_lv [2, 3, 1, 0] rfl ?_
          exact hk34 _ _ _ _ h
theorem T_readRule_b34_ok {X : KC TS} {E : TE} {z : TS} (T : tOK X E cX9_readRule 4 none) (hR : tRoom X 66 1430) (e : tE_v X E z) {nf : Nat} : ∀ (n : Nat) (x1 : Int32) (x2 : Int32) (x3 : Int32) (τ : TS), T_readRule_b34 nf n x1 x2 x3 τ = some z → kW X τ 34 [(0, .ref (E.2.2.2.2.1 0)), (1, .int x1), (2, .int x2), (3, .int x3)] [] := by
  intro n
  induction n with
  | zero => intro x1 x2 x3 τ h; exact (nomatch (show (none : Option TS) = some z from h))
  | succ n ih =>
    intro x1 x2 x3 τ h
    have h : T_readRule_b34_s nf (T_readRule_b34 nf n) x1 x2 x3 τ = some z := h
    exact T_readRule_b34_s_ok T hR e ih h
theorem met_readRule {l : Launch} {E : TE} (hE : tEnv E) {nf : Nat} : ∀ (τ : TS) (z : TS), T_readRule nf τ = some z → tMet_v l E yX9_readRule (ws_ yX9_readRule cX9_readRule 4 none) 66 1430 [.ref (E.2.2.2.2.1 0)] τ z := by
  intro τ z h
  refine t_met_v hE (by decide +kernel) rfl rfl (fun X hl T hR e => ?_)
  unfold T_readRule at h
  have hX := T.1
  show kW X τ 0 [(0, .ref (E.2.2.2.2.1 0))] []
  refine k_aload_n hX dX9_readRule_0 rfl 0 rfl ?_
  refine tg10 T dX9_readRule_1 ?_
  refine k_sipush (v := 348) hX dX9_readRule_4 (by decide) ?_
  refine ta10 T h dX9_readRule_7 (fun v1 h => ?_)
  refine k_istore_n [(1, .int v1), (0, .ref (E.2.2.2.2.1 0))] hX dX9_readRule_8 rfl rfl rfl ?_
  refine k_iload_n hX dX9_readRule_9 rfl 0 rfl ?_
  refine k_iconst (v := 4) hX dX9_readRule_10 (by decide) ?_
  refine k_icmp_ne (tgt := 20) hX h dX9_readRule_11 (by decide) (fun h => ?_) (fun h => ?_)
  · refine k_aload_n hX dX9_readRule_20 rfl 1 rfl ?_
    refine k_dup hX dX9_readRule_21 rfl ?_
    refine tg7 T dX9_readRule_22 ?_
    refine k_iconst (v := 1) hX dX9_readRule_25 (by decide) ?_
    refine k_iadd hX dX9_readRule_26 ?_
    refine tp7 T h dX9_readRule_27 (fun τ2 h => ?_)
    refine k_iconst (v := 0) hX dX9_readRule_30 (by decide) ?_
    refine k_istore_n [(2, .int 0), (1, .int v1), (0, .ref (E.2.2.2.2.1 0))] hX dX9_readRule_31 rfl rfl rfl ?_
    refine k_iconst (v := 0) hX dX9_readRule_32 (by decide) ?_
    refine k_istore_n [(3, .int 0), (2, .int 0), (1, .int v1), (0, .ref (E.2.2.2.2.1 0))] hX dX9_readRule_33 rfl rfl rfl ?_
    refine k_lv [3, 2, 1, 0] rfl ?_
    exact T_readRule_b34_ok T hR e _ _ _ _ _ h
  · refine k_aload_n hX dX9_readRule_14 rfl 1 rfl ?_
    refine k_iconst (v := 5) hX dX9_readRule_15 (by decide) ?_
    refine cX_wrong T (met_wrong T.2.1) (room_le hR rfl rfl) h rfl dX9_readRule_16 (fun τ3 h => ?_)
    exact t_ret_v T e h dX9_readRule_19
theorem met_readLine {l : Launch} {E : TE} (hE : tEnv E) {nf : Nat} : ∀ (τ : TS) (z : TS), T_readLine nf τ = some z → tMet_v l E yX9_readLine (ws_ yX9_readLine cX9_readLine 1 none) 67 1453 [.ref (E.2.2.2.2.1 0)] τ z := by
  intro τ z h
  refine t_met_v hE (by decide +kernel) rfl rfl (fun X hl T hR e => ?_)
  unfold T_readLine at h
  have hX := T.1
  show kW X τ 0 [(0, .ref (E.2.2.2.2.1 0))] []
  refine k_aload_n hX dX9_readLine_0 rfl 0 rfl ?_
  refine k_iconst (v := 1) hX dX9_readLine_1 (by decide) ?_
  refine cX_isWord T (met_isWord T.2.1) (room_le hR rfl rfl) h rfl dX9_readLine_2 (fun v1 h => ?_)
  refine k_if_eq (tgt := 15) hX h dX9_readLine_5 (by decide) (fun h => ?_) (fun h => ?_)
  · refine k_aload_n hX dX9_readLine_15 rfl 0 rfl ?_
    refine k_iconst (v := 2) hX dX9_readLine_16 (by decide) ?_
    refine cX_isWord T (met_isWord T.2.1) (room_le hR rfl rfl) h rfl dX9_readLine_17 (fun v2 h => ?_)
    refine k_if_eq (tgt := 30) hX h dX9_readLine_20 (by decide) (fun h => ?_) (fun h => ?_)
    · refine k_aload_n hX dX9_readLine_30 rfl 0 rfl ?_
      refine k_iconst (v := 3) hX dX9_readLine_31 (by decide) ?_
      refine cX_isWord T (met_isWord T.2.1) (room_le hR rfl rfl) h rfl dX9_readLine_32 (fun v3 h => ?_)
      refine k_if_eq (tgt := 45) hX h dX9_readLine_35 (by decide) (fun h => ?_) (fun h => ?_)
      · refine k_aload_n hX dX9_readLine_45 rfl 0 rfl ?_
        refine cX_readOnce T (met_readOnce T.2.1) (room_le hR rfl rfl) h rfl dX9_readLine_46 (fun τ4 h => ?_)
        exact t_ret_v T e h dX9_readLine_49
      · refine k_aload_n hX dX9_readLine_38 rfl 0 rfl ?_
        refine cX_readRule T (met_readRule T.2.1) (room_le hR rfl rfl) h rfl dX9_readLine_39 (fun τ5 h => ?_)
        refine k_goto (tgt := 49) hX dX9_readLine_42 (by decide) ?_
        exact t_ret_v T e h dX9_readLine_49
    · refine k_aload_n hX dX9_readLine_23 rfl 0 rfl ?_
      refine cX_readBar T (met_readBar T.2.1) (room_le hR rfl rfl) h rfl dX9_readLine_24 (fun τ6 h => ?_)
      refine k_goto (tgt := 49) hX dX9_readLine_27 (by decide) ?_
      exact t_ret_v T e h dX9_readLine_49
  · refine k_aload_n hX dX9_readLine_8 rfl 0 rfl ?_
    refine cX_readLight T (met_readLight T.2.1) (room_le hR rfl rfl) h rfl dX9_readLine_9 (fun τ7 h => ?_)
    refine k_goto (tgt := 49) hX dX9_readLine_12 (by decide) ?_
    exact t_ret_v T e h dX9_readLine_49
theorem T_town_b144_s_ok {X : KC TS} {E : TE} {z : (Int32 × TS)} (T : tOK X E cX9_town 2 (some .int)) (hR : tRoom X 68 1473) (e : tE_i X E z.1 z.2) {nf : Nat} {k144 : Int32 → TS → Option (Int32 × TS)} (hk144 : ∀ (x1 : Int32) (τ : TS), k144 x1 τ = some z → kW X τ 144 [(0, .ref (E.2.2.2.2.1 0)), (1, .int x1)] []) {x1 : Int32} {τ : TS} (h : T_town_b144_s nf k144 x1 τ = some z) : kW X τ 144 [(0, .ref (E.2.2.2.2.1 0)), (1, .int x1)] [] := by
  unfold T_town_b144_s at h
  have hX := T.1
  refine k_iload_n hX dX9_town_144 rfl 1 rfl ?_
  refine k_aload_n hX dX9_town_145 rfl 0 rfl ?_
  refine tg13 T dX9_town_146 ?_
  refine k_icmp_ge (tgt := 190) hX h dX9_town_149 (by decide) (fun h => ?_) (fun h => ?_)
  · refine k_aload_n hX dX9_town_190 rfl 0 rfl ?_
    refine cX_begins T (met_begins T.2.1) (room_le hR rfl rfl) h rfl dX9_town_191 (fun τ1 h => ?_)
    refine k_iconst (v := 0) hX dX9_town_194 (by decide) ?_
    exact t_ret_i T e h dX9_town_195
  · refine k_aload_n hX dX9_town_152 rfl 0 rfl ?_
    refine tg11 T dX9_town_153 ?_
    refine k_iload_n hX dX9_town_156 rfl 1 rfl ?_
    refine k_aload_n hX dX9_town_157 rfl 0 rfl ?_
    refine tg11 T dX9_town_158 ?_
    refine k_sipush (v := 1100) hX dX9_town_161 (by decide) ?_
    refine k_iload_n hX dX9_town_164 rfl 1 rfl ?_
    refine k_iadd hX dX9_town_165 ?_
    refine ta11 T h dX9_town_166 (fun v2 h => ?_)
    refine ts11 T h dX9_town_167 (fun τ3 h => ?_)
    refine k_aload_n hX dX9_town_168 rfl 0 rfl ?_
    refine tg12 T dX9_town_169 ?_
    refine k_iload_n hX dX9_town_172 rfl 1 rfl ?_
    refine k_aload_n hX dX9_town_173 rfl 0 rfl ?_
    refine tg12 T dX9_town_174 ?_
    refine k_sipush (v := 1100) hX dX9_town_177 (by decide) ?_
    refine k_iload_n hX dX9_town_180 rfl 1 rfl ?_
    refine k_iadd hX dX9_town_181 ?_
    refine ta12 T h dX9_town_182 (fun v4 h => ?_)
    refine ts12 T h dX9_town_183 (fun τ5 h => ?_)
    refine k_iinc (j := 1) [(1, .int (x1 + 1)), (0, .ref (E.2.2.2.2.1 0))] hX dX9_town_184 rfl rfl rfl rfl ?_
    refine k_goto (tgt := 144) hX dX9_town_187 (by decide) ?_
    refine k_lv [1, 0] rfl ?_
    exact hk144 _ _ h
theorem T_town_b144_ok {X : KC TS} {E : TE} {z : (Int32 × TS)} (T : tOK X E cX9_town 2 (some .int)) (hR : tRoom X 68 1473) (e : tE_i X E z.1 z.2) {nf : Nat} : ∀ (n : Nat) (x1 : Int32) (τ : TS), T_town_b144 nf n x1 τ = some z → kW X τ 144 [(0, .ref (E.2.2.2.2.1 0)), (1, .int x1)] [] := by
  intro n
  induction n with
  | zero => intro x1 τ h; exact (nomatch (show (none : Option (Int32 × TS)) = some z from h))
  | succ n ih =>
    intro x1 τ h
    have h : T_town_b144_s nf (T_town_b144 nf n) x1 τ = some z := h
    exact T_town_b144_s_ok T hR e ih h
theorem T_town_b113_s_ok {X : KC TS} {E : TE} {z : (Int32 × TS)} (T : tOK X E cX9_town 2 (some .int)) (hR : tRoom X 68 1473) (e : tE_i X E z.1 z.2) {nf : Nat} {k113 : Int32 → TS → Option (Int32 × TS)} (hk113 : ∀ (x1 : Int32) (τ : TS), k113 x1 τ = some z → kW X τ 113 [(0, .ref (E.2.2.2.2.1 0)), (1, .int x1)] []) {x1 : Int32} {τ : TS} (h : T_town_b113_s nf k113 x1 τ = some z) : kW X τ 113 [(0, .ref (E.2.2.2.2.1 0)), (1, .int x1)] [] := by
  unfold T_town_b113_s at h
  have hX := T.1
  refine k_iload_n hX dX9_town_113 rfl 1 rfl ?_
  refine k_sipush (v := 340) hX dX9_town_114 (by decide) ?_
  refine k_icmp_ge (tgt := 142) hX h dX9_town_117 (by decide) (fun h => ?_) (fun h => ?_)
  · refine k_iconst (v := 0) hX dX9_town_142 (by decide) ?_
    refine k_istore_n [(1, .int 0), (0, .ref (E.2.2.2.2.1 0))] hX dX9_town_143 rfl rfl rfl ?_
    refine k_lv [1, 0] rfl ?_
    exact T_town_b144_ok T hR e _ _ _ h
  · refine k_aload_n hX dX9_town_120 rfl 0 rfl ?_
    refine tg10 T dX9_town_121 ?_
    refine k_iload_n hX dX9_town_124 rfl 1 rfl ?_
    refine k_aload_n hX dX9_town_125 rfl 0 rfl ?_
    refine tg10 T dX9_town_126 ?_
    refine k_sipush (v := 340) hX dX9_town_129 (by decide) ?_
    refine k_iload_n hX dX9_town_132 rfl 1 rfl ?_
    refine k_iadd hX dX9_town_133 ?_
    refine ta10 T h dX9_town_134 (fun v1 h => ?_)
    refine ts10 T h dX9_town_135 (fun τ2 h => ?_)
    refine k_iinc (j := 1) [(1, .int (x1 + 1)), (0, .ref (E.2.2.2.2.1 0))] hX dX9_town_136 rfl rfl rfl rfl ?_
    refine k_goto (tgt := 113) hX dX9_town_139 (by decide) ?_
    refine k_lv [1, 0] rfl ?_
    exact hk113 _ _ h
theorem T_town_b113_ok {X : KC TS} {E : TE} {z : (Int32 × TS)} (T : tOK X E cX9_town 2 (some .int)) (hR : tRoom X 68 1473) (e : tE_i X E z.1 z.2) {nf : Nat} : ∀ (n : Nat) (x1 : Int32) (τ : TS), T_town_b113 nf n x1 τ = some z → kW X τ 113 [(0, .ref (E.2.2.2.2.1 0)), (1, .int x1)] [] := by
  intro n
  induction n with
  | zero => intro x1 τ h; exact (nomatch (show (none : Option (Int32 × TS)) = some z from h))
  | succ n ih =>
    intro x1 τ h
    have h : T_town_b113_s nf (T_town_b113 nf n) x1 τ = some z := h
    exact T_town_b113_s_ok T hR e ih h
theorem T_town_b99_ok {X : KC TS} {E : TE} {z : (Int32 × TS)} (T : tOK X E cX9_town 2 (some .int)) (hR : tRoom X 68 1473) (e : tE_i X E z.1 z.2) {nf : Nat} {τ : TS} (h : T_town_b99 nf τ = some z) : kW X τ 99 [(0, .ref (E.2.2.2.2.1 0))] [] := by
  unfold T_town_b99 at h
  have hX := T.1
  refine k_aload_n hX dX9_town_99 rfl 0 rfl ?_
  refine tg8 T dX9_town_100 ?_
  refine k_if_le (tgt := 111) hX h dX9_town_103 (by decide) (fun h => ?_) (fun h => ?_)
  · refine k_iconst (v := 0) hX dX9_town_111 (by decide) ?_
    refine k_istore_n [(1, .int 0), (0, .ref (E.2.2.2.2.1 0))] hX dX9_town_112 rfl rfl rfl ?_
    refine k_lv [1, 0] rfl ?_
    exact T_town_b113_ok T hR e _ _ _ h
  · refine k_aload_n hX dX9_town_106 rfl 0 rfl ?_
    refine tg8 T dX9_town_107 ?_
    exact t_ret_i T e h dX9_town_110
theorem T_town_b67_s_ok {X : KC TS} {E : TE} {z : (Int32 × TS)} (T : tOK X E cX9_town 2 (some .int)) (hR : tRoom X 68 1473) (e : tE_i X E z.1 z.2) {nf : Nat} {k67 : TS → Option (Int32 × TS)} (hk67 : ∀ (τ : TS), k67 τ = some z → kW X τ 67 [(0, .ref (E.2.2.2.2.1 0))] []) {τ : TS} (h : T_town_b67_s nf k67 τ = some z) : kW X τ 67 [(0, .ref (E.2.2.2.2.1 0))] [] := by
  unfold T_town_b67_s at h
  have hX := T.1
  refine k_aload_n hX dX9_town_67 rfl 0 rfl ?_
  refine tg8 T dX9_town_68 ?_
  refine k_if_ne (tgt := 99) hX h dX9_town_71 (by decide) (fun h => ?_) (fun h => ?_)
  · refine k_lv [0] rfl ?_
    exact T_town_b99_ok T hR e h
  · refine k_aload_n hX dX9_town_74 rfl 0 rfl ?_
    refine tg4 T dX9_town_75 ?_
    refine k_aload_n hX dX9_town_78 rfl 0 rfl ?_
    refine tg7 T dX9_town_79 ?_
    refine ta4 T h dX9_town_82 (fun v1 h => ?_)
    refine k_if_eq (tgt := 99) hX h dX9_town_83 (by decide) (fun h => ?_) (fun h => ?_)
    · refine k_lv [0] rfl ?_
      exact T_town_b99_ok T hR e h
    · refine k_aload_n hX dX9_town_86 rfl 0 rfl ?_
      refine cX_readLine T (met_readLine T.2.1) (room_le hR rfl rfl) h rfl dX9_town_87 (fun τ2 h => ?_)
      refine k_aload_n hX dX9_town_90 rfl 0 rfl ?_
      refine k_bipush (v := 59) hX dX9_town_91 (by decide) ?_
      refine cX_takeSign T (met_takeSign T.2.1) (room_le hR rfl rfl) h rfl dX9_town_93 (fun τ3 h => ?_)
      refine k_goto (tgt := 67) hX dX9_town_96 (by decide) ?_
      refine k_lv [0] rfl ?_
      exact hk67 _ h
theorem T_town_b67_ok {X : KC TS} {E : TE} {z : (Int32 × TS)} (T : tOK X E cX9_town 2 (some .int)) (hR : tRoom X 68 1473) (e : tE_i X E z.1 z.2) {nf : Nat} : ∀ (n : Nat) (τ : TS), T_town_b67 nf n τ = some z → kW X τ 67 [(0, .ref (E.2.2.2.2.1 0))] [] := by
  intro n
  induction n with
  | zero => intro τ h; exact (nomatch (show (none : Option (Int32 × TS)) = some z from h))
  | succ n ih =>
    intro τ h
    have h : T_town_b67_s nf (T_town_b67 nf n) τ = some z := h
    exact T_town_b67_s_ok T hR e ih h
theorem met_town {l : Launch} {E : TE} (hE : tEnv E) {nf : Nat} : ∀ (τ : TS) (z : (Int32 × TS)), T_town nf τ = some z → tMet_i l E yX9_town (ws_ yX9_town cX9_town 2 (some .int)) 68 1473 [.ref (E.2.2.2.2.1 0)] τ z.1 z.2 := by
  intro τ z h
  refine t_met_i hE (by decide +kernel) rfl rfl (fun X hl T hR e => ?_)
  unfold T_town at h
  have hX := T.1
  show kW X τ 0 [(0, .ref (E.2.2.2.2.1 0))] []
  refine k_aload_n hX dX9_town_0 rfl 0 rfl ?_
  refine k_iconst (v := 0) hX dX9_town_1 (by decide) ?_
  refine tp0 T h dX9_town_2 (fun τ1 h => ?_)
  refine k_aload_n hX dX9_town_5 rfl 0 rfl ?_
  refine cX_cutAll T (met_cutAll T.2.1) (room_le hR rfl rfl) h rfl dX9_town_6 (fun τ2 h => ?_)
  refine k_aload_n hX dX9_town_9 rfl 0 rfl ?_
  refine k_iconst (v := 0) hX dX9_town_10 (by decide) ?_
  refine tp13 T h dX9_town_11 (fun τ3 h => ?_)
  refine k_aload_n hX dX9_town_14 rfl 0 rfl ?_
  refine k_iconst (v := 0) hX dX9_town_15 (by decide) ?_
  refine tp15 T h dX9_town_16 (fun τ4 h => ?_)
  refine k_aload_n hX dX9_town_19 rfl 0 rfl ?_
  refine k_sipush (v := 340) hX dX9_town_20 (by decide) ?_
  refine cX_standsAsAlways T (met_standsAsAlways T.2.1) (room_le hR rfl rfl) h rfl dX9_town_23 (fun τ5 h => ?_)
  refine k_aload_n hX dX9_town_26 rfl 0 rfl ?_
  refine k_iconst (v := 0) hX dX9_town_27 (by decide) ?_
  refine cX_takeWord T (met_takeWord T.2.1) (room_le hR rfl rfl) h rfl dX9_town_28 (fun τ6 h => ?_)
  refine k_aload_n hX dX9_town_31 rfl 0 rfl ?_
  refine tg10 T dX9_town_32 ?_
  refine k_sipush (v := 340) hX dX9_town_35 (by decide) ?_
  refine k_aload_n hX dX9_town_38 rfl 0 rfl ?_
  refine k_iconst (v := 1) hX dX9_town_39 (by decide) ?_
  refine k_bipush (v := 6) hX dX9_town_40 (by decide) ?_
  refine cX_takeNumber T (met_takeNumber T.2.1) (room_le hR rfl rfl) h rfl dX9_town_42 (fun v8 τ7 h => ?_)
  refine ts10 T h dX9_town_45 (fun τ9 h => ?_)
  refine k_aload_n hX dX9_town_46 rfl 0 rfl ?_
  refine tg10 T dX9_town_47 ?_
  refine k_sipush (v := 341) hX dX9_town_50 (by decide) ?_
  refine k_aload_n hX dX9_town_53 rfl 0 rfl ?_
  refine k_iconst (v := 1) hX dX9_town_54 (by decide) ?_
  refine k_bipush (v := 9) hX dX9_town_55 (by decide) ?_
  refine cX_takeNumber T (met_takeNumber T.2.1) (room_le hR rfl rfl) h rfl dX9_town_57 (fun v11 τ10 h => ?_)
  refine ts10 T h dX9_town_60 (fun τ12 h => ?_)
  refine k_aload_n hX dX9_town_61 rfl 0 rfl ?_
  refine k_bipush (v := 59) hX dX9_town_62 (by decide) ?_
  refine cX_takeSign T (met_takeSign T.2.1) (room_le hR rfl rfl) h rfl dX9_town_64 (fun τ13 h => ?_)
  refine k_lv [0] rfl ?_
  exact T_town_b67_ok T hR e _ _ h
theorem met_isBarred {l : Launch} {E : TE} (hE : tEnv E) {τ : TS} : ∀ (x1 : Int32) (x2 : Int32) (x3 : Int32) (z : Int32), T_isBarred τ x1 x2 x3 = some z → tMet_i l E yX9_isBarred (ws_ yX9_isBarred cX9_isBarred 4 (some .boolean)) 0 0 [.ref (E.2.2.2.2.1 0), .int x1, .int x2, .int x3] τ z τ := by
  intro x1 x2 x3 z h
  refine t_met_i hE (by decide +kernel) rfl rfl (fun X hl T hR e => ?_)
  unfold T_isBarred at h
  have hX := T.1
  show kW X τ 0 [(0, .ref (E.2.2.2.2.1 0)), (1, .int x1), (2, .int x2), (3, .int x3)] []
  refine k_aload_n hX dX9_isBarred_0 rfl 0 rfl ?_
  refine tg10 T dX9_isBarred_1 ?_
  refine k_sipush (v := 226) hX dX9_isBarred_4 (by decide) ?_
  refine k_bipush (v := 6) hX dX9_isBarred_7 (by decide) ?_
  refine k_iload_n hX dX9_isBarred_9 rfl 2 rfl ?_
  refine k_imul hX dX9_isBarred_10 ?_
  refine k_iadd hX dX9_isBarred_11 ?_
  refine k_iload_n hX dX9_isBarred_12 rfl 1 rfl ?_
  refine k_iadd hX dX9_isBarred_13 ?_
  refine ta10 T h dX9_isBarred_14 (fun v1 h => ?_)
  refine k_iload_n hX dX9_isBarred_15 rfl 3 rfl ?_
  refine k_ishr hX dX9_isBarred_16 ?_
  refine k_iconst (v := 1) hX dX9_isBarred_17 (by decide) ?_
  refine k_iand hX dX9_isBarred_18 ?_
  refine k_iconst (v := 1) hX dX9_isBarred_19 (by decide) ?_
  refine k_icmp_ne (tgt := 27) hX h dX9_isBarred_20 (by decide) (fun h => ?_) (fun h => ?_)
  · refine k_iconst (v := 0) hX dX9_isBarred_27 (by decide) ?_
    exact t_ret_zrc T e rfl h dX9_isBarred_28
  · refine k_iconst (v := 1) hX dX9_isBarred_23 (by decide) ?_
    refine k_goto (tgt := 28) hX dX9_isBarred_24 (by decide) ?_
    exact t_ret_zrc T e rfl h dX9_isBarred_28
theorem met_deep {l : Launch} {E : TE} (hE : tEnv E) {τ : TS} : ∀ (z : Int32), T_deep τ = some z → tMet_i l E yX9_deep (ws_ yX9_deep cX9_deep 1 (some .int)) 0 0 [.ref (E.2.2.2.2.1 0)] τ z τ := by
  intro z h
  refine t_met_i hE (by decide +kernel) rfl rfl (fun X hl T hR e => ?_)
  unfold T_deep at h
  have hX := T.1
  show kW X τ 0 [(0, .ref (E.2.2.2.2.1 0))] []
  refine k_aload_n hX dX9_deep_0 rfl 0 rfl ?_
  refine tg10 T dX9_deep_1 ?_
  refine k_iconst (v := 1) hX dX9_deep_4 (by decide) ?_
  refine ta10 T h dX9_deep_5 (fun v1 h => ?_)
  exact t_ret_ir T e h dX9_deep_6
theorem met_wide {l : Launch} {E : TE} (hE : tEnv E) {τ : TS} : ∀ (z : Int32), T_wide τ = some z → tMet_i l E yX9_wide (ws_ yX9_wide cX9_wide 1 (some .int)) 0 0 [.ref (E.2.2.2.2.1 0)] τ z τ := by
  intro z h
  refine t_met_i hE (by decide +kernel) rfl rfl (fun X hl T hR e => ?_)
  unfold T_wide at h
  have hX := T.1
  show kW X τ 0 [(0, .ref (E.2.2.2.2.1 0))] []
  refine k_aload_n hX dX9_wide_0 rfl 0 rfl ?_
  refine tg10 T dX9_wide_1 ?_
  refine k_iconst (v := 0) hX dX9_wide_4 (by decide) ?_
  refine ta10 T h dX9_wide_5 (fun v1 h => ?_)
  exact t_ret_ir T e h dX9_wide_6
theorem met_isThere {l : Launch} {E : TE} (hE : tEnv E) {τ : TS} : ∀ (x1 : Int32) (x2 : Int32) (x3 : Int32) (z : Int32), T_isThere τ x1 x2 x3 = some z → tMet_i l E yX9_isThere (ws_ yX9_isThere cX9_isThere 4 (some .boolean)) 1 20 [.ref (E.2.2.2.2.1 0), .int x1, .int x2, .int x3] τ z τ := by
  intro x1 x2 x3 z h
  refine t_met_i hE (by decide +kernel) rfl rfl (fun X hl T hR e => ?_)
  unfold T_isThere at h
  have hX := T.1
  show kW X τ 0 [(0, .ref (E.2.2.2.2.1 0)), (1, .int x1), (2, .int x2), (3, .int x3)] []
  refine k_iload_n hX dX9_isThere_0 rfl 3 rfl ?_
  refine k_if_ne (tgt := 22) hX h dX9_isThere_1 (by decide) (fun h => ?_) (fun h => ?_)
  · refine k_iload_n hX dX9_isThere_22 rfl 2 rfl ?_
    refine k_aload_n hX dX9_isThere_23 rfl 0 rfl ?_
    refine cX_deep T (met_deep T.2.1) (room_le hR rfl rfl) h rfl dX9_isThere_24 (fun v1 h => ?_)
    refine k_iconst (v := 1) hX dX9_isThere_27 (by decide) ?_
    refine k_isub hX dX9_isThere_28 ?_
    refine k_icmp_ge (tgt := 36) hX h dX9_isThere_29 (by decide) (fun h => ?_) (fun h => ?_)
    · refine k_iconst (v := 0) hX dX9_isThere_36 (by decide) ?_
      exact t_ret_zrc T e rfl h dX9_isThere_37
    · refine k_iconst (v := 1) hX dX9_isThere_32 (by decide) ?_
      refine k_goto (tgt := 37) hX dX9_isThere_33 (by decide) ?_
      exact t_ret_zrc T e rfl h dX9_isThere_37
  · refine k_iload_n hX dX9_isThere_4 rfl 1 rfl ?_
    refine k_aload_n hX dX9_isThere_5 rfl 0 rfl ?_
    refine cX_wide T (met_wide T.2.1) (room_le hR rfl rfl) h rfl dX9_isThere_6 (fun v2 h => ?_)
    refine k_iconst (v := 1) hX dX9_isThere_9 (by decide) ?_
    refine k_isub hX dX9_isThere_10 ?_
    refine k_icmp_ge (tgt := 18) hX h dX9_isThere_11 (by decide) (fun h => ?_) (fun h => ?_)
    · refine k_iconst (v := 0) hX dX9_isThere_18 (by decide) ?_
      refine k_goto (tgt := 37) hX dX9_isThere_19 (by decide) ?_
      exact t_ret_zrc T e rfl h dX9_isThere_37
    · refine k_iconst (v := 1) hX dX9_isThere_14 (by decide) ?_
      refine k_goto (tgt := 37) hX dX9_isThere_15 (by decide) ?_
      exact t_ret_zrc T e rfl h dX9_isThere_37
