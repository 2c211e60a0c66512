/-! THE COMPONENT: rows by field and by call (printed by gen/gen_c.py) -/
set_option maxRecDepth 100000
theorem nul_n {α : Type} {A : Option α} {K : Nat → Option α} {r : Option α} (h : nul none A K = r) : A = r := h
theorem nul_s {α : Type} {a : Nat} {A : Option α} {K : Nat → Option α} {r : Option α} (h : nul (some a) A K = r) : K a = r := h
theorem rf_cat (e : Option Nat) : (va_rf e).category = 1 := by cases e <;> rfl
theorem lw_U {own : String} {idx : Nat} {C owner : String} {x y : MethodName} {b : ByteArray} {L : Nat} {r : Option FieldType} (h1 : Cond.methodLink own idx x ∈ lw_all) (h2 : Cond.sameMethod x.cls owner x.name x.desc ∈ lw_all) (h3 : Cond.selects C x y ∈ lw_all) (h4 : Cond.instanceMethod y ∈ lw_all) (h5 : Cond.initialized y.cls ∈ lw_all) (h6 : Cond.code y b L r ∈ lw_all) : GoodIn lw_all (va_wsU own idx C owner x y (ws_ y b L r)) := by
  refine lw_app ?_ (lw_meth h6)
  intro w hw
  simp only [List.mem_cons, List.not_mem_nil, or_false] at hw
  rcases hw with e | e | e | e | e <;> rw [e] <;> assumption
theorem lw_O {own : String} {idx : Nat} {C owner : String} {x y : MethodName} {b : ByteArray} {L : Nat} {r : Option FieldType} (h1 : Cond.methodLink own idx x ∈ lw_all) (h2 : Cond.sameMethod x.cls owner x.name x.desc ∈ lw_all) (h0 : Cond.instanceMethod ⟨owner, x.name, x.desc⟩ ∈ lw_all) (h3 : Cond.selects C x y ∈ lw_all) (h4 : Cond.instanceMethod y ∈ lw_all) (h5 : Cond.initialized y.cls ∈ lw_all) (h6 : Cond.code y b L r ∈ lw_all) : GoodIn lw_all (va_wsO own idx C owner x y (ws_ y b L r)) := by
  refine lw_app ?_ (lw_meth h6)
  intro w hw
  simp only [List.mem_cons, List.not_mem_nil, or_false] at hw
  rcases hw with e | e | e | e | e | e <;> rw [e] <;> assumption
theorem lw_SU {own : String} {idx : Nat} {y : MethodName} {b : ByteArray} {L : Nat} {r : Option FieldType} (h1 : Cond.methodLink own idx y ∈ lw_all) (h2 : Cond.sameMethod y.cls y.cls y.name y.desc ∈ lw_all) (h3 : Cond.superclass own y.cls ∈ lw_all) (h4 : Cond.instanceMethod y ∈ lw_all) (h5 : Cond.initialized y.cls ∈ lw_all) (h6 : Cond.code y b L r ∈ lw_all) : GoodIn lw_all (va_wsSU own idx y (ws_ y b L r)) := by
  refine lw_app ?_ (lw_meth h6)
  intro w hw
  simp only [List.mem_cons, List.not_mem_nil, or_false] at hw
  rcases hw with e | e | e | e | e <;> rw [e] <;> assumption
section CQ
variable {S : Type} {X : KC S} {cc : ByteArray} {own : String} {nL : Nat} {τ : S} {pc : Nat} {lv lv' : List (Nat × Value)} {r : List Value} {α : Type} {z : α}
theorem k_null (hX : kOK X cc own nL) (d : decode cc pc = .ok (.aconst_null, 1)) (k : kW X τ (pc + 1) lv (.null :: r)) : kW X τ pc lv r := fun H q a b ls hR hl => lv_null hX.1 hX.2.1 d (k H q a b ls hR hl)
theorem k_ifnullN {off : Int} {tgt : Nat} (hX : kOK X cc own nL) (d : decode cc pc = .ok (.ifnull off, 3)) (ht : (pc : Int) + off = (tgt : Int)) (k : kW X τ tgt lv r) : kW X τ pc lv (.null :: r) := fun H q a b ls hR hl => lv_ifnullN hX.1 hX.2.1 d ht (k H q a b ls hR hl)
theorem k_ifnullS {off : Int} {x : Nat} (hX : kOK X cc own nL) (d : decode cc pc = .ok (.ifnull off, 3)) (k : kW X τ (pc + 3) lv r) : kW X τ pc lv (.ref x :: r) := fun H q a b ls hR hl => lv_ifnull hX.1 hX.2.1 d (k H q a b ls hR hl)
theorem k_ifnonnullS {off : Int} {tgt x : Nat} (hX : kOK X cc own nL) (d : decode cc pc = .ok (.ifnonnull off, 3)) (ht : (pc : Int) + off = (tgt : Int)) (k : kW X τ tgt lv r) : kW X τ pc lv (.ref x :: r) := fun H q a b ls hR hl => lv_ifnonnull hX.1 hX.2.1 d ht (k H q a b ls hR hl)
theorem k_ifnonnullN {off : Int} (hX : kOK X cc own nL) (d : decode cc pc = .ok (.ifnonnull off, 3)) (k : kW X τ (pc + 3) lv r) : kW X τ pc lv (.null :: r) := fun H q a b ls hR hl => lv_ifnonnullN hX.1 hX.2.1 d (k H q a b ls hR hl)
theorem k_aload_nO {k0 : Fin 4} {i : Nat} {x : Option Nat} (hX : kOK X cc own nL) (d : decode cc pc = .ok (.aload_n k0, 1)) (hi : (k0 : Nat) = i) (j : Nat) (hl : lv[j]? = some (i, va_rf x)) (k : kW X τ (pc + 1) lv (va_rf x :: r)) : kW X τ pc lv r := by
  cases x with
  | none => exact fun H q a b ls hR h => lv_aload_nN hX.1 hX.2.1 d hi (lv_at h j hl) (k H q a b ls hR h)
  | some x => exact k_aload_n hX d hi j hl k
theorem k_aloadO {i : Nat} {x : Option Nat} (hX : kOK X cc own nL) (d : decode cc pc = .ok (.aload i, 2)) (j : Nat) (hl : lv[j]? = some (i, va_rf x)) (k : kW X τ (pc + 2) lv (va_rf x :: r)) : kW X τ pc lv r := by
  cases x with
  | none => exact fun H q a b ls hR h => lv_aloadN hX.1 hX.2.1 d (lv_at h j hl) (k H q a b ls hR h)
  | some x => exact k_aload hX d j hl k
theorem k_astore_nO {k0 : Fin 4} {i : Nat} {x : Option Nat} (lv' : List (Nat × Value)) (hX : kOK X cc own nL) (d : decode cc pc = .ok (.astore_n k0, 1)) (hi : (k0 : Nat) = i) (hn : Nat.blt i nL = true) (hl : (i, va_rf x) :: lv.filter (fun q => !(q.1 == i) && !(q.1 + 1 == i && q.2.category == 2)) = lv') (k : kW X τ (pc + 1) lv' r) : kW X τ pc lv (va_rf x :: r) := by
  cases x with
  | none => exact fun H q a b ls hR h => lv_astore_nN hX.1 hX.2.1 d hi h (by rw [hX.2.2.2.1]; exact Nat.le_of_ble_eq_true hn) hl (fun ls' h' => k H q a b ls' hR h')
  | some x => exact k_astore_n lv' hX d hi hn hl k
theorem k_astoreO {i : Nat} {x : Option Nat} (lv' : List (Nat × Value)) (hX : kOK X cc own nL) (d : decode cc pc = .ok (.astore i, 2)) (hn : Nat.blt i nL = true) (hl : (i, va_rf x) :: lv.filter (fun q => !(q.1 == i) && !(q.1 + 1 == i && q.2.category == 2)) = lv') (k : kW X τ (pc + 2) lv' r) : kW X τ pc lv (va_rf x :: r) := by
  cases x with
  | none => exact fun H q a b ls hR h => lv_astoreN hX.1 hX.2.1 d h (by rw [hX.2.2.2.1]; exact Nat.le_of_ble_eq_true hn) hl (fun ls' h' => k H q a b ls' hR h')
  | some x => exact k_astore lv' hX d hn hl k
theorem k_objInit {X : KC CS} {τ : CS} {idx F L : Nat} {a : Nat} (hX : kOK X cc own nL) (hR : cRoom X F L) (hl0 : Cond.methodLink own idx Lib.objectInit ∈ lw_all) (hi : Cond.instanceMethod Lib.objectInit ∈ lw_all) (hc : Cond.code Lib.objectInit ⟨#[0xb1]⟩ 1 none ∈ lw_all) (hF : (Nat.ble 1 F && Nat.ble 40 L && Nat.ble (r.map Value.category).sum 8) = true) (d : decode cc pc = .ok (.invokespecial idx, 3)) (k : kW X τ (pc + 3) lv r) : kW X τ pc lv (.ref a :: r) := fun H q cells slots ls hr hl => by
  simp only [Bool.and_eq_true] at hF
  have h1 := Nat.le_of_ble_eq_true hF.1.1
  have h2 := Nat.le_of_ble_eq_true hF.1.2
  have h3 : (List.map (fun v => v.category) r).sum ≤ 8 := Nat.le_of_ble_eq_true hF.2
  have h4 := hR.1
  have h5 := hR.2
  refine W.objInit hX.1 hX.2.1 hX.2.2.1 (hX.2.2.2.2 _ hl0) (hX.2.2.2.2 _ hi) (hX.2.2.2.2 _ hc) rfl hl.1 rfl d (by omega) (by show 2 * 0 + _ + 12 ≤ _; omega) ?_
  exact W.eq (g2 := F0 _ (pc + 3) ls r) rfl (k H q cells slots ls hr hl)
theorem k_gets {X : KC CS} {E : CE} {τ : CS} {C n d0 ref : String} {v : Value} {index z0 l0 : Nat} (hRel : X.2.2.1 = cRel E X.1.2.2.2.2 z0 l0) (hX : kOK X cc own nL) (hZ : va_Z C n d0 v E.2.1 X.1.2.2.2.2 X.1.2.2.2.2.heap) (hq : Cond.fieldLink own index ref n d0 ∈ lw_all) (hs : ∀ x, X.1.2.2.2.2.fieldFound? C n d0 = some x → X.1.2.2.2.2.fieldFound? ref n d0 = some x) (d : decode cc pc = .ok (.getstatic index, 3)) (k : kW X τ (pc + 3) lv (v :: r)) : kW X τ pc lv r := fun H q a b ls hr hl => by
  have hr2 := hr
  rw [hRel] at hr2
  exact va_gets hX.1 hX.2.1 hZ hr2.2.1 hX.2.2.1 (hX.2.2.2.2 _ hq) hs d (k H q a b ls hr hl)
end CQ

def mx32 (x y : Int32) : Int32 := if x < y then y else x
def mn32 (x y : Int32) : Int32 := if y < x then y else x
theorem c_mmax {X : KC CS} {E : CE} {cc : ByteArray} {own : String} {nL : Nat} {ret : Option FieldType} {z0 l0 z1 l1 F L : Nat} {s : CS} {pc index : Nat} {lv : List (Nat × Value)} {r : List Value} {x y : Int32} (T : cOK X E cc own nL ret z0 l0 z1 l1) (hR : cRoom X F L) (hq : Cond.methodLink own index Lib.Math.max.name ∈ lw_all) (hs : Cond.static Lib.Math.max.name ∈ lw_all) (hi : Cond.initialized "java/lang/Math" ∈ lw_all) (hc : Cond.code Lib.Math.max.name Lib.Math.max.code 2 (some .int) ∈ lw_all) (hF : (Nat.ble 1 F && Nat.ble 40 L && Nat.ble (r.map Value.category).sum 8) = true) (d : decode cc pc = .ok (.invokestatic index, 3)) (k : cW X z1 l1 s (pc + 3) lv (.int (mx32 x y) :: r)) : cW X z1 l1 s pc lv (.int y :: .int x :: r) := by
  simp only [Bool.and_eq_true] at hF
  have h1 := Nat.le_of_ble_eq_true hF.1.1
  have h2 := Nat.le_of_ble_eq_true hF.1.2
  have h3 : (List.map (fun v => v.category) r).sum ≤ 8 := Nat.le_of_ble_eq_true hF.2
  have h4 := hR.1
  have h5 := hR.2
  refine ⟨k.1, k.2.1, ?_⟩
  intro H q cells slots ls hr hl
  have hr2 := hr
  rw [T.2.1] at hr2
  have e1 := hr2.2.2.1
  have e2 := hr2.2.2.2
  have e3 := T.2.2.2.2.2.2.2.1
  have e4 := T.2.2.2.2.2.2.2.2.1
  have k1 := k.1
  have k2 := k.2.1
  exact va_mmax T.1.1 T.1.2.1 hl.1.symm T.1.2.2.1 (T.1.2.2.2.2 _ hq) (T.1.2.2.2.2 _ hs) (T.1.2.2.2.2 _ hi) (T.1.2.2.2.2 _ hc) (by omega) (by omega) (by omega) (by omega) d (k.2.2 H q cells slots ls hr hl)
theorem c_mmin {X : KC CS} {E : CE} {cc : ByteArray} {own : String} {nL : Nat} {ret : Option FieldType} {z0 l0 z1 l1 F L : Nat} {s : CS} {pc index : Nat} {lv : List (Nat × Value)} {r : List Value} {x y : Int32} (T : cOK X E cc own nL ret z0 l0 z1 l1) (hR : cRoom X F L) (hq : Cond.methodLink own index Lib.Math.min.name ∈ lw_all) (hs : Cond.static Lib.Math.min.name ∈ lw_all) (hi : Cond.initialized "java/lang/Math" ∈ lw_all) (hc : Cond.code Lib.Math.min.name Lib.Math.min.code 2 (some .int) ∈ lw_all) (hF : (Nat.ble 1 F && Nat.ble 40 L && Nat.ble (r.map Value.category).sum 8) = true) (d : decode cc pc = .ok (.invokestatic index, 3)) (k : cW X z1 l1 s (pc + 3) lv (.int (mn32 x y) :: r)) : cW X z1 l1 s pc lv (.int y :: .int x :: r) := by
  simp only [Bool.and_eq_true] at hF
  have h1 := Nat.le_of_ble_eq_true hF.1.1
  have h2 := Nat.le_of_ble_eq_true hF.1.2
  have h3 : (List.map (fun v => v.category) r).sum ≤ 8 := Nat.le_of_ble_eq_true hF.2
  have h4 := hR.1
  have h5 := hR.2
  refine ⟨k.1, k.2.1, ?_⟩
  intro H q cells slots ls hr hl
  have hr2 := hr
  rw [T.2.1] at hr2
  have e1 := hr2.2.2.1
  have e2 := hr2.2.2.2
  have e3 := T.2.2.2.2.2.2.2.1
  have e4 := T.2.2.2.2.2.2.2.2.1
  have k1 := k.1
  have k2 := k.2.1
  exact va_mmin T.1.1 T.1.2.1 hl.1.symm T.1.2.2.1 (T.1.2.2.2.2 _ hq) (T.1.2.2.2.2 _ hs) (T.1.2.2.2.2 _ hi) (T.1.2.2.2.2 _ hc) (by omega) (by omega) (by omega) (by omega) d (k.2.2 H q cells slots ls hr hl)

section CUP
variable {l : Launch} {E : CE} {y : MethodName} {ws ws' : List Cond} {F L F' L' : Nat} {As : List Value} {s s' : CS}
theorem ca_len {X : KC CS} {cc : ByteArray} {own : String} {nL : Nat} {ret : Option FieldType} {z0 l0 z1 l1 : Nat} {pc : Nat} {lv : List (Nat × Value)} {r : List Value} {α : Type} {z : α} {a : Nat} {K : Int32 → Option α} (T : cOK X E cc own nL ret z0 l0 z1 l1) (h : aLn s a K = some z) (d : decode cc pc = .ok (.arraylength, 1)) (kk : ∀ v, K v = some z → cW X z1 l1 s (pc + 1) lv (.int v :: r)) : cW X z1 l1 s pc lv (.ref a :: r) := by
  unfold aLn at h
  cases q : s.1 a with
  | none => rw [q] at h; cases h
  | some x =>
    obtain ⟨w, c, n⟩ := x
    rw [q] at h
    dsimp only at h
    by_cases hc : 100 ≤ c ∧ c < 107
    · rw [if_pos hc] at h
      have k := kk _ h
      refine ⟨k.1, k.2.1, ?_⟩
      intro H q1 cells slots ls hr hl
      have hr2 := hr
      rw [T.2.1] at hr2
      by_cases hw : w = true ∨ c ≠ 103
      case neg =>
        have hw1 : w = false := by cases w with | true => exact absurd (Or.inl rfl) hw | false => rfl
        have hw2 : c = 103 := Classical.byContradiction fun e => hw (Or.inr e)
        subst hw1; subst hw2
        obtain ⟨cell, g1, g2, g3, g4, g5, g6, g7⟩ := hr2.1.2.2.1 a n q
        exact W.alen (n := Int32.ofNat n) T.1.1 T.1.2.1 g1 g2 g5 rfl rfl d (k.2.2 H q1 cells slots ls hr hl)
      have hP := c_at hr2.1 q (hw.imp id (fun h9 => ⟨h9, by omega⟩))
      obtain ⟨c0, rfl⟩ : ∃ c0, c = 100 + c0 := ⟨c - 100, by omega⟩
      have h7 : c0 < 7 := by omega
      have e : ∃ x : vp_A, cE E.2.2.1 s a (100 + c0) n = .inl (E.2.2.1 c0, x) ∧ x.1 = n := by
        unfold cE
        rw [if_neg (by omega)]
        by_cases q1 : 100 + c0 = 101
        · have : c0 = 1 := by omega
          subst this
          exact ⟨_, rfl, rfl⟩
        · rw [if_neg q1]
          by_cases q2 : 100 + c0 < 104
          · rw [if_pos q2, show 100 + c0 - 100 = c0 by omega]; exact ⟨_, rfl, rfl⟩
          · rw [if_neg q2, show 100 + c0 - 100 = c0 by omega]; exact ⟨_, rfl, rfl⟩
      obtain ⟨x, e1, e2⟩ := e
      rw [e1] at hP
      have ht : ∃ ty, (tysL E.2.2.1)[c0]? = some (E.2.2.1 c0, ty) := by
        rcases (by omega : c0 = 0 ∨ c0 = 1 ∨ c0 = 2 ∨ c0 = 3 ∨ c0 = 4 ∨ c0 = 5 ∨ c0 = 6) with rfl | rfl | rfl | rfl | rfl | rfl | rfl <;> exact ⟨_, rfl⟩
      obtain ⟨ty, ht⟩ := ht
      exact va_alen T.1.1 T.1.2.1 T.2.2.1 hP 0 c0 rfl ht (by rw [e2]) d (k.2.2 H q1 cells slots ls hr hl)
    · rw [if_neg hc] at h; cases h

end CUP
theorem nd0 (s : CS) : ∀ (j : Nat) (p : Nat × Nat), (fdesc 0)[j]? = some p → defaultValue (tyX0 j) = fVal (uN s 0 0 28) (cz s) p := by
  intro j p hp
  have hj : j < 28 := (List.getElem?_eq_some_iff.mp hp).1
  rcases (show j = 0 ∨ j = 1 ∨ j = 2 ∨ j = 3 ∨ j = 4 ∨ j = 5 ∨ j = 6 ∨ j = 7 ∨ j = 8 ∨ j = 9 ∨ j = 10 ∨ j = 11 ∨ j = 12 ∨ j = 13 ∨ j = 14 ∨ j = 15 ∨ j = 16 ∨ j = 17 ∨ j = 18 ∨ j = 19 ∨ j = 20 ∨ j = 21 ∨ j = 22 ∨ j = 23 ∨ j = 24 ∨ j = 25 ∨ j = 26 ∨ j = 27 by omega) with rfl | rfl | rfl | rfl | rfl | rfl | rfl | rfl | rfl | rfl | rfl | rfl | rfl | rfl | rfl | rfl | rfl | rfl | rfl | rfl | rfl | rfl | rfl | rfl | rfl | rfl | rfl | rfl <;> cases hp <;> simp [fVal, uN, defaultValue, tyX0, va_rf]
theorem nd1 (s : CS) : ∀ (j : Nat) (p : Nat × Nat), (fdesc 1)[j]? = some p → defaultValue (tyX1 j) = fVal (uN s 1 0 8) (cz s) p := by
  intro j p hp
  have hj : j < 8 := (List.getElem?_eq_some_iff.mp hp).1
  rcases (show j = 0 ∨ j = 1 ∨ j = 2 ∨ j = 3 ∨ j = 4 ∨ j = 5 ∨ j = 6 ∨ j = 7 by omega) with rfl | rfl | rfl | rfl | rfl | rfl | rfl | rfl <;> cases hp <;> simp [fVal, uN, defaultValue, tyX1, va_rf]
theorem nd2 (s : CS) : ∀ (j : Nat) (p : Nat × Nat), (fdesc 2)[j]? = some p → defaultValue (tyX2 j) = fVal (uN s 2 0 13) (cz s) p := by
  intro j p hp
  have hj : j < 13 := (List.getElem?_eq_some_iff.mp hp).1
  rcases (show j = 0 ∨ j = 1 ∨ j = 2 ∨ j = 3 ∨ j = 4 ∨ j = 5 ∨ j = 6 ∨ j = 7 ∨ j = 8 ∨ j = 9 ∨ j = 10 ∨ j = 11 ∨ j = 12 by omega) with rfl | rfl | rfl | rfl | rfl | rfl | rfl | rfl | rfl | rfl | rfl | rfl | rfl <;> cases hp <;> simp [fVal, uN, defaultValue, tyX2, va_rf]
theorem nd4 (s : CS) : ∀ (j : Nat) (p : Nat × Nat), (fdesc 4)[j]? = some p → defaultValue (tyX4 j) = fVal (uN s 4 0 1) (cz s) p := by
  intro j p hp
  have hj : j < 1 := (List.getElem?_eq_some_iff.mp hp).1
  rcases (show j = 0 by omega) with rfl <;> cases hp <;> simp [fVal, uN, defaultValue, tyX4, va_rf]
theorem nd5 (s : CS) : ∀ (j : Nat) (p : Nat × Nat), (fdesc 5)[j]? = some p → defaultValue ((fun _ => FieldType.int) j) = fVal (uN s 5 0 0) (cz s) p := by
  intro j p hp
  have hj : j < 0 := (List.getElem?_eq_some_iff.mp hp).1
  exact absurd hj (Nat.not_lt_zero j)
theorem nd6 (s : CS) : ∀ (j : Nat) (p : Nat × Nat), (fdesc 6)[j]? = some p → defaultValue ((fun _ => FieldType.int) j) = fVal (uN s 6 0 0) (cz s) p := by
  intro j p hp
  have hj : j < 0 := (List.getElem?_eq_some_iff.mp hp).1
  exact absurd hj (Nat.not_lt_zero j)
theorem nd7 (s : CS) : ∀ (j : Nat) (p : Nat × Nat), (fdesc 7)[j]? = some p → defaultValue (tyX7 j) = fVal (uN s 7 0 3) (cz s) p := by
  intro j p hp
  have hj : j < 3 := (List.getElem?_eq_some_iff.mp hp).1
  rcases (show j = 0 ∨ j = 1 ∨ j = 2 by omega) with rfl | rfl | rfl <;> cases hp <;> simp [fVal, uN, defaultValue, tyX7, va_rf]
theorem nd8 (s : CS) : ∀ (j : Nat) (p : Nat × Nat), (fdesc 8)[j]? = some p → defaultValue (tyX8 j) = fVal (uN s 8 0 12) (cz s) p := by
  intro j p hp
  have hj : j < 12 := (List.getElem?_eq_some_iff.mp hp).1
  rcases (show j = 0 ∨ j = 1 ∨ j = 2 ∨ j = 3 ∨ j = 4 ∨ j = 5 ∨ j = 6 ∨ j = 7 ∨ j = 8 ∨ j = 9 ∨ j = 10 ∨ j = 11 by omega) with rfl | rfl | rfl | rfl | rfl | rfl | rfl | rfl | rfl | rfl | rfl | rfl <;> cases hp <;> simp [fVal, uN, defaultValue, tyX8, va_rf]
theorem nd9 (s : CS) : ∀ (j : Nat) (p : Nat × Nat), (fdesc 9)[j]? = some p → defaultValue (tyX9 j) = fVal (uN s 9 0 48) (cz s) p := by
  intro j p hp
  have hj : j < 48 := (List.getElem?_eq_some_iff.mp hp).1
  rcases (show j = 0 ∨ j = 1 ∨ j = 2 ∨ j = 3 ∨ j = 4 ∨ j = 5 ∨ j = 6 ∨ j = 7 ∨ j = 8 ∨ j = 9 ∨ j = 10 ∨ j = 11 ∨ j = 12 ∨ j = 13 ∨ j = 14 ∨ j = 15 ∨ j = 16 ∨ j = 17 ∨ j = 18 ∨ j = 19 ∨ j = 20 ∨ j = 21 ∨ j = 22 ∨ j = 23 ∨ j = 24 ∨ j = 25 ∨ j = 26 ∨ j = 27 ∨ j = 28 ∨ j = 29 ∨ j = 30 ∨ j = 31 ∨ j = 32 ∨ j = 33 ∨ j = 34 ∨ j = 35 ∨ j = 36 ∨ j = 37 ∨ j = 38 ∨ j = 39 ∨ j = 40 ∨ j = 41 ∨ j = 42 ∨ j = 43 ∨ j = 44 ∨ j = 45 ∨ j = 46 ∨ j = 47 by omega) with rfl | rfl | rfl | rfl | rfl | rfl | rfl | rfl | rfl | rfl | rfl | rfl | rfl | rfl | rfl | rfl | rfl | rfl | rfl | rfl | rfl | rfl | rfl | rfl | rfl | rfl | rfl | rfl | rfl | rfl | rfl | rfl | rfl | rfl | rfl | rfl | rfl | rfl | rfl | rfl | rfl | rfl | rfl | rfl | rfl | rfl | rfl | rfl <;> cases hp <;> simp [fVal, uN, defaultValue, tyX9, va_rf]
theorem nd10 (s : CS) : ∀ (j : Nat) (p : Nat × Nat), (fdesc 10)[j]? = some p → defaultValue (tyX10 j) = fVal (uN s 10 0 7) (cz s) p := by
  intro j p hp
  have hj : j < 7 := (List.getElem?_eq_some_iff.mp hp).1
  rcases (show j = 0 ∨ j = 1 ∨ j = 2 ∨ j = 3 ∨ j = 4 ∨ j = 5 ∨ j = 6 by omega) with rfl | rfl | rfl | rfl | rfl | rfl | rfl <;> cases hp <;> simp [fVal, uN, defaultValue, tyX10, va_rf]
theorem nd12 (s : CS) : ∀ (j : Nat) (p : Nat × Nat), (fdesc 12)[j]? = some p → defaultValue (tyX12 j) = fVal (uN s 12 0 3) (cz s) p := by
  intro j p hp
  have hj : j < 3 := (List.getElem?_eq_some_iff.mp hp).1
  rcases (show j = 0 ∨ j = 1 ∨ j = 2 by omega) with rfl | rfl | rfl <;> cases hp <;> simp [fVal, uN, defaultValue, tyX12, va_rf]
theorem nd13 (s : CS) : ∀ (j : Nat) (p : Nat × Nat), (fdesc 13)[j]? = some p → defaultValue (tyX13 j) = fVal (uN s 13 0 3) (cz s) p := by
  intro j p hp
  have hj : j < 3 := (List.getElem?_eq_some_iff.mp hp).1
  rcases (show j = 0 ∨ j = 1 ∨ j = 2 by omega) with rfl | rfl | rfl <;> cases hp <;> simp [fVal, uN, defaultValue, tyX13, va_rf]
theorem nd14 (s : CS) : ∀ (j : Nat) (p : Nat × Nat), (fdesc 14)[j]? = some p → defaultValue (tyX14 j) = fVal (uN s 14 0 3) (cz s) p := by
  intro j p hp
  have hj : j < 3 := (List.getElem?_eq_some_iff.mp hp).1
  rcases (show j = 0 ∨ j = 1 ∨ j = 2 by omega) with rfl | rfl | rfl <;> cases hp <;> simp [fVal, uN, defaultValue, tyX14, va_rf]
theorem nd15 (s : CS) : ∀ (j : Nat) (p : Nat × Nat), (fdesc 15)[j]? = some p → defaultValue (tyX15 j) = fVal (uN s 15 0 3) (cz s) p := by
  intro j p hp
  have hj : j < 3 := (List.getElem?_eq_some_iff.mp hp).1
  rcases (show j = 0 ∨ j = 1 ∨ j = 2 by omega) with rfl | rfl | rfl <;> cases hp <;> simp [fVal, uN, defaultValue, tyX15, va_rf]
theorem nd16 (s : CS) : ∀ (j : Nat) (p : Nat × Nat), (fdesc 16)[j]? = some p → defaultValue (tyX16 j) = fVal (uN s 16 0 2) (cz s) p := by
  intro j p hp
  have hj : j < 2 := (List.getElem?_eq_some_iff.mp hp).1
  rcases (show j = 0 ∨ j = 1 by omega) with rfl | rfl <;> cases hp <;> simp [fVal, uN, defaultValue, tyX16, va_rf]
theorem nd18 (s : CS) : ∀ (j : Nat) (p : Nat × Nat), (fdesc 18)[j]? = some p → defaultValue (tyX18 j) = fVal (uN s 18 0 1) (cz s) p := by
  intro j p hp
  have hj : j < 1 := (List.getElem?_eq_some_iff.mp hp).1
  rcases (show j = 0 by omega) with rfl <;> cases hp <;> simp [fVal, uN, defaultValue, tyX18, va_rf]
theorem nd19 (s : CS) : ∀ (j : Nat) (p : Nat × Nat), (fdesc 19)[j]? = some p → defaultValue (tyX19 j) = fVal (uN s 19 0 1) (cz s) p := by
  intro j p hp
  have hj : j < 1 := (List.getElem?_eq_some_iff.mp hp).1
  rcases (show j = 0 by omega) with rfl <;> cases hp <;> simp [fVal, uN, defaultValue, tyX19, va_rf]
theorem nd20 (s : CS) : ∀ (j : Nat) (p : Nat × Nat), (fdesc 20)[j]? = some p → defaultValue (tyX20 j) = fVal (uN s 20 0 1) (cz s) p := by
  intro j p hp
  have hj : j < 1 := (List.getElem?_eq_some_iff.mp hp).1
  rcases (show j = 0 by omega) with rfl <;> cases hp <;> simp [fVal, uN, defaultValue, tyX20, va_rf]
theorem nd21 (s : CS) : ∀ (j : Nat) (p : Nat × Nat), (fdesc 21)[j]? = some p → defaultValue (tyX21 j) = fVal (uN s 21 0 3) (cz s) p := by
  intro j p hp
  have hj : j < 3 := (List.getElem?_eq_some_iff.mp hp).1
  rcases (show j = 0 ∨ j = 1 ∨ j = 2 by omega) with rfl | rfl | rfl <;> cases hp <;> simp [fVal, uN, defaultValue, tyX21, va_rf]
theorem nd22 (s : CS) : ∀ (j : Nat) (p : Nat × Nat), (fdesc 22)[j]? = some p → defaultValue (tyJ2 j) = fVal (uN s 22 0 3) (cz s) p := by
  intro j p hp
  have hj : j < 3 := (List.getElem?_eq_some_iff.mp hp).1
  rcases (show j = 0 ∨ j = 1 ∨ j = 2 by omega) with rfl | rfl | rfl <;> cases hp <;> simp [fVal, uN, defaultValue, tyJ2, va_rf]
theorem nd23 (s : CS) : ∀ (j : Nat) (p : Nat × Nat), (fdesc 23)[j]? = some p → defaultValue (tyJ6 j) = fVal (uN s 23 0 4) (cz s) p := by
  intro j p hp
  have hj : j < 4 := (List.getElem?_eq_some_iff.mp hp).1
  rcases (show j = 0 ∨ j = 1 ∨ j = 2 ∨ j = 3 by omega) with rfl | rfl | rfl | rfl <;> cases hp <;> simp [fVal, uN, defaultValue, tyJ6, va_rf]
theorem nd24 (s : CS) : ∀ (j : Nat) (p : Nat × Nat), (fdesc 24)[j]? = some p → defaultValue (tyJ15 j) = fVal (uN s 24 0 4) (cz s) p := by
  intro j p hp
  have hj : j < 4 := (List.getElem?_eq_some_iff.mp hp).1
  rcases (show j = 0 ∨ j = 1 ∨ j = 2 ∨ j = 3 by omega) with rfl | rfl | rfl | rfl <;> cases hp <;> simp [fVal, uN, defaultValue, tyJ15, va_rf]
theorem ca_ast105 {X : KC CS} {E : CE} {cc : ByteArray} {own : String} {nL : Nat} {ret : Option FieldType} {z0 l0 z1 l1 : Nat} {s : CS} {pc : Nat} {lv : List (Nat × Value)} {r : List Value} {α : Type} {z : α} {a v : Nat} {i : Int32} {K : CS → Option α} (T : cOK X E cc own nL ret z0 l0 z1 l1) (h : gd (isK s v [8]) (tR_ s a 105 i (some v) K) = some z) (d : decode cc pc = .ok (.aastore, 1)) (kk : ∀ s', K s' = some z → cW X z1 l1 s' (pc + 1) lv r) : cW X z1 l1 s pc lv (.ref v :: .int i :: .ref a :: r) := by
  obtain ⟨hg, h⟩ := gd_of h
  obtain ⟨w, c, n, hb, hc⟩ := isK_of hg
  simp only [List.mem_cons, List.not_mem_nil, or_false] at hc
  subst hc
  exact ca_qst105 T kX8 hb (Or.inl ⟨rfl, trivial⟩) h d kk
theorem ca_ast104 {X : KC CS} {E : CE} {cc : ByteArray} {own : String} {nL : Nat} {ret : Option FieldType} {z0 l0 z1 l1 : Nat} {s : CS} {pc : Nat} {lv : List (Nat × Value)} {r : List Value} {α : Type} {z : α} {a v : Nat} {i : Int32} {K : CS → Option α} (T : cOK X E cc own nL ret z0 l0 z1 l1) (h : gd (isK s v [12, 13, 14, 15]) (tR_ s a 104 i (some v) K) = some z) (d : decode cc pc = .ok (.aastore, 1)) (kk : ∀ s', K s' = some z → cW X z1 l1 s' (pc + 1) lv r) : cW X z1 l1 s pc lv (.ref v :: .int i :: .ref a :: r) := by
  obtain ⟨hg, h⟩ := gd_of h
  obtain ⟨w, c, n, hb, hc⟩ := isK_of hg
  simp only [List.mem_cons, List.not_mem_nil, or_false] at hc
  rcases hc with rfl | rfl | rfl | rfl
  · exact ca_qst104 T kX12 hb (Or.inr q2283) h d kk
  · exact ca_qst104 T kX13 hb (Or.inr q2284) h d kk
  · exact ca_qst104 T kX14 hb (Or.inr q2285) h d kk
  · exact ca_qst104 T kX15 hb (Or.inr q2286) h d kk
theorem ca_ast106 {X : KC CS} {E : CE} {cc : ByteArray} {own : String} {nL : Nat} {ret : Option FieldType} {z0 l0 z1 l1 : Nat} {s : CS} {pc : Nat} {lv : List (Nat × Value)} {r : List Value} {α : Type} {z : α} {a v : Nat} {i : Int32} {K : CS → Option α} (T : cOK X E cc own nL ret z0 l0 z1 l1) (h : gd (isK s v [4, 5, 6, 16, 23]) (tR_ s a 106 i (some v) K) = some z) (d : decode cc pc = .ok (.aastore, 1)) (kk : ∀ s', K s' = some z → cW X z1 l1 s' (pc + 1) lv r) : cW X z1 l1 s pc lv (.ref v :: .int i :: .ref a :: r) := by
  obtain ⟨hg, h⟩ := gd_of h
  obtain ⟨w, c, n, hb, hc⟩ := isK_of hg
  simp only [List.mem_cons, List.not_mem_nil, or_false] at hc
  rcases hc with rfl | rfl | rfl | rfl | rfl
  · exact ca_qst106 T kX4 hb (Or.inr q2265) h d kk
  · exact ca_qst106 T kX5 hb (Or.inr q2266) h d kk
  · exact ca_qst106 T kX6 hb (Or.inr q2267) h d kk
  · exact ca_qst106 T kX16 hb (Or.inr q2277) h d kk
  · exact ca_qst106 T kJ6 hb (Or.inr q2276) h d kk
/-- java/lang/AbstractStringBuilder.value -/
theorem cg_J14_15 {X : KC CS} {E : CE} {cc : ByteArray} {nL : Nat} {ret : Option FieldType} {z0 l0 z1 l1 : Nat} {s : CS} {pc : Nat} {lv : List (Nat × Value)} {r : List Value} {α : Type} {z : α} {a : Nat} {K : Option Nat → Option α} (T : cOK X E cc RJ14 nL ret z0 l0 z1 l1) (h : gR s a [24] 2400 K = some z) (d : decode cc pc = .ok (.getfield 15, 3)) (kk : ∀ v, K v = some z → cW X z1 l1 s (pc + 3) lv (va_rf v :: r)) : cW X z1 l1 s pc lv (.ref a :: r) := by
  obtain ⟨h1, h2⟩ := if_of h
  obtain ⟨w, c, n, ha, hc⟩ := isK_of h1
  have k := kk _ h2
  refine ⟨k.1, k.2.1, ?_⟩
  simp only [List.mem_cons, List.not_mem_nil, or_false] at hc
  rcases hc with rfl
  · exact c_get (k := 0) T kJ15 ha rfl rfl q938 (fun _ h9 => h9) d k.2.2
/-- java/lang/AbstractStringBuilder.coder -/
theorem cg_J14_22 {X : KC CS} {E : CE} {cc : ByteArray} {nL : Nat} {ret : Option FieldType} {z0 l0 z1 l1 : Nat} {s : CS} {pc : Nat} {lv : List (Nat × Value)} {r : List Value} {α : Type} {z : α} {a : Nat} {K : Int32 → Option α} (T : cOK X E cc RJ14 nL ret z0 l0 z1 l1) (h : gI s a [24] 2401 K = some z) (d : decode cc pc = .ok (.getfield 22, 3)) (kk : ∀ v, K v = some z → cW X z1 l1 s (pc + 3) lv (.int v :: r)) : cW X z1 l1 s pc lv (.ref a :: r) := by
  obtain ⟨h1, h2⟩ := if_of h
  obtain ⟨w, c, n, ha, hc⟩ := isK_of h1
  have k := kk _ h2
  refine ⟨k.1, k.2.1, ?_⟩
  simp only [List.mem_cons, List.not_mem_nil, or_false] at hc
  rcases hc with rfl
  · exact c_get (k := 1) T kJ15 ha rfl rfl q939 (fun _ h9 => h9) d k.2.2
/-- java/lang/AbstractStringBuilder.count -/
theorem cg_J14_79 {X : KC CS} {E : CE} {cc : ByteArray} {nL : Nat} {ret : Option FieldType} {z0 l0 z1 l1 : Nat} {s : CS} {pc : Nat} {lv : List (Nat × Value)} {r : List Value} {α : Type} {z : α} {a : Nat} {K : Int32 → Option α} (T : cOK X E cc RJ14 nL ret z0 l0 z1 l1) (h : gI s a [24] 2403 K = some z) (d : decode cc pc = .ok (.getfield 79, 3)) (kk : ∀ v, K v = some z → cW X z1 l1 s (pc + 3) lv (.int v :: r)) : cW X z1 l1 s pc lv (.ref a :: r) := by
  obtain ⟨h1, h2⟩ := if_of h
  obtain ⟨w, c, n, ha, hc⟩ := isK_of h1
  have k := kk _ h2
  refine ⟨k.1, k.2.1, ?_⟩
  simp only [List.mem_cons, List.not_mem_nil, or_false] at hc
  rcases hc with rfl
  · exact c_get (k := 3) T kJ15 ha rfl rfl q941 (fun _ h9 => h9) d k.2.2
/-- java/util/ArrayList.elementData -/
theorem cg_J2_9 {X : KC CS} {E : CE} {cc : ByteArray} {nL : Nat} {ret : Option FieldType} {z0 l0 z1 l1 : Nat} {s : CS} {pc : Nat} {lv : List (Nat × Value)} {r : List Value} {α : Type} {z : α} {a : Nat} {K : Option Nat → Option α} (T : cOK X E cc RJ2 nL ret z0 l0 z1 l1) (h : gR s a [22] 2200 K = some z) (d : decode cc pc = .ok (.getfield 9, 3)) (kk : ∀ v, K v = some z → cW X z1 l1 s (pc + 3) lv (va_rf v :: r)) : cW X z1 l1 s pc lv (.ref a :: r) := by
  obtain ⟨h1, h2⟩ := if_of h
  obtain ⟨w, c, n, ha, hc⟩ := isK_of h1
  have k := kk _ h2
  refine ⟨k.1, k.2.1, ?_⟩
  simp only [List.mem_cons, List.not_mem_nil, or_false] at hc
  rcases hc with rfl
  · exact c_get (k := 1) T kJ2 ha rfl rfl q241 (fun _ h9 => h9) d k.2.2
/-- java/util/ArrayList.size -/
theorem cg_J2_48 {X : KC CS} {E : CE} {cc : ByteArray} {nL : Nat} {ret : Option FieldType} {z0 l0 z1 l1 : Nat} {s : CS} {pc : Nat} {lv : List (Nat × Value)} {r : List Value} {α : Type} {z : α} {a : Nat} {K : Int32 → Option α} (T : cOK X E cc RJ2 nL ret z0 l0 z1 l1) (h : gI s a [22] 2201 K = some z) (d : decode cc pc = .ok (.getfield 48, 3)) (kk : ∀ v, K v = some z → cW X z1 l1 s (pc + 3) lv (.int v :: r)) : cW X z1 l1 s pc lv (.ref a :: r) := by
  obtain ⟨h1, h2⟩ := if_of h
  obtain ⟨w, c, n, ha, hc⟩ := isK_of h1
  have k := kk _ h2
  refine ⟨k.1, k.2.1, ?_⟩
  simp only [List.mem_cons, List.not_mem_nil, or_false] at hc
  rcases hc with rfl
  · exact c_get (k := 2) T kJ2 ha rfl rfl q242 (fun _ h9 => h9) d k.2.2
/-- java/util/ArrayList.modCount -/
theorem cg_J2_63 {X : KC CS} {E : CE} {cc : ByteArray} {nL : Nat} {ret : Option FieldType} {z0 l0 z1 l1 : Nat} {s : CS} {pc : Nat} {lv : List (Nat × Value)} {r : List Value} {α : Type} {z : α} {a : Nat} {K : Int32 → Option α} (T : cOK X E cc RJ2 nL ret z0 l0 z1 l1) (h : gI s a [22] 2600 K = some z) (d : decode cc pc = .ok (.getfield 63, 3)) (kk : ∀ v, K v = some z → cW X z1 l1 s (pc + 3) lv (.int v :: r)) : cW X z1 l1 s pc lv (.ref a :: r) := by
  obtain ⟨h1, h2⟩ := if_of h
  obtain ⟨w, c, n, ha, hc⟩ := isK_of h1
  have k := kk _ h2
  refine ⟨k.1, k.2.1, ?_⟩
  simp only [List.mem_cons, List.not_mem_nil, or_false] at hc
  rcases hc with rfl
  · exact c_get (k := 0) T kJ2 ha rfl rfl q244 (fun x hx => u_same (T.1.2.2.2.2 _ q245) x hx) d k.2.2
/-- java/lang/String.value -/
theorem cg_J6_9 {X : KC CS} {E : CE} {cc : ByteArray} {nL : Nat} {ret : Option FieldType} {z0 l0 z1 l1 : Nat} {s : CS} {pc : Nat} {lv : List (Nat × Value)} {r : List Value} {α : Type} {z : α} {a : Nat} {K : Option Nat → Option α} (T : cOK X E cc RJ6 nL ret z0 l0 z1 l1) (h : gR s a [23, 25] 2300 K = some z) (d : decode cc pc = .ok (.getfield 9, 3)) (kk : ∀ v, K v = some z → cW X z1 l1 s (pc + 3) lv (va_rf v :: r)) : cW X z1 l1 s pc lv (.ref a :: r) := by
  obtain ⟨h1, h2⟩ := if_of h
  obtain ⟨w, c, n, ha, hc⟩ := isK_of h1
  have k := kk _ h2
  refine ⟨k.1, k.2.1, ?_⟩
  simp only [List.mem_cons, List.not_mem_nil, or_false] at hc
  rcases hc with rfl | rfl
  · exact c_get (k := 0) T kJ6 ha rfl rfl q1057 (fun _ h9 => h9) d k.2.2
  · exact c_get (k := 0) T kJ6c ha rfl rfl q1057 (fun _ h9 => h9) d k.2.2
/-- java/lang/String.coder -/
theorem cg_J6_15 {X : KC CS} {E : CE} {cc : ByteArray} {nL : Nat} {ret : Option FieldType} {z0 l0 z1 l1 : Nat} {s : CS} {pc : Nat} {lv : List (Nat × Value)} {r : List Value} {α : Type} {z : α} {a : Nat} {K : Int32 → Option α} (T : cOK X E cc RJ6 nL ret z0 l0 z1 l1) (h : gI s a [23, 25] 2301 K = some z) (d : decode cc pc = .ok (.getfield 15, 3)) (kk : ∀ v, K v = some z → cW X z1 l1 s (pc + 3) lv (.int v :: r)) : cW X z1 l1 s pc lv (.ref a :: r) := by
  obtain ⟨h1, h2⟩ := if_of h
  obtain ⟨w, c, n, ha, hc⟩ := isK_of h1
  have k := kk _ h2
  refine ⟨k.1, k.2.1, ?_⟩
  simp only [List.mem_cons, List.not_mem_nil, or_false] at hc
  rcases hc with rfl | rfl
  · exact c_get (k := 1) T kJ6 ha rfl rfl q1058 (fun _ h9 => h9) d k.2.2
  · exact c_get (k := 1) T kJ6c ha rfl rfl q1058 (fun _ h9 => h9) d k.2.2
/-- java/lang/AbstractStringBuilder.maybeLatin1 -/
theorem cg_J6_1048 {X : KC CS} {E : CE} {cc : ByteArray} {nL : Nat} {ret : Option FieldType} {z0 l0 z1 l1 : Nat} {s : CS} {pc : Nat} {lv : List (Nat × Value)} {r : List Value} {α : Type} {z : α} {a : Nat} {K : Int32 → Option α} (T : cOK X E cc RJ6 nL ret z0 l0 z1 l1) (h : gI s a [24] 2402 K = some z) (d : decode cc pc = .ok (.getfield 1048, 3)) (kk : ∀ v, K v = some z → cW X z1 l1 s (pc + 3) lv (.int v :: r)) : cW X z1 l1 s pc lv (.ref a :: r) := by
  obtain ⟨h1, h2⟩ := if_of h
  obtain ⟨w, c, n, ha, hc⟩ := isK_of h1
  have k := kk _ h2
  refine ⟨k.1, k.2.1, ?_⟩
  simp only [List.mem_cons, List.not_mem_nil, or_false] at hc
  rcases hc with rfl
  · exact c_get (k := 2) T kJ15 ha rfl rfl q940 (fun _ h9 => h9) d k.2.2
/-- OverFirst.tape -/
theorem cg_X0_21 {X : KC CS} {E : CE} {cc : ByteArray} {nL : Nat} {ret : Option FieldType} {z0 l0 z1 l1 : Nat} {s : CS} {pc : Nat} {lv : List (Nat × Value)} {r : List Value} {α : Type} {z : α} {a : Nat} {K : Option Nat → Option α} (T : cOK X E cc RX0 nL ret z0 l0 z1 l1) (h : gR s a [0] 0 K = some z) (d : decode cc pc = .ok (.getfield 21, 3)) (kk : ∀ v, K v = some z → cW X z1 l1 s (pc + 3) lv (va_rf v :: r)) : cW X z1 l1 s pc lv (.ref a :: r) := by
  obtain ⟨h1, h2⟩ := if_of h
  obtain ⟨w, c, n, ha, hc⟩ := isK_of h1
  have k := kk _ h2
  refine ⟨k.1, k.2.1, ?_⟩
  simp only [List.mem_cons, List.not_mem_nil, or_false] at hc
  rcases hc with rfl
  · exact c_get (k := 0) T kX0 ha rfl rfl q490 (fun _ h9 => h9) d k.2.2
/-- OverFirst.reader -/
theorem cg_X0_28 {X : KC CS} {E : CE} {cc : ByteArray} {nL : Nat} {ret : Option FieldType} {z0 l0 z1 l1 : Nat} {s : CS} {pc : Nat} {lv : List (Nat × Value)} {r : List Value} {α : Type} {z : α} {a : Nat} {K : Option Nat → Option α} (T : cOK X E cc RX0 nL ret z0 l0 z1 l1) (h : gR s a [0] 1 K = some z) (d : decode cc pc = .ok (.getfield 28, 3)) (kk : ∀ v, K v = some z → cW X z1 l1 s (pc + 3) lv (va_rf v :: r)) : cW X z1 l1 s pc lv (.ref a :: r) := by
  obtain ⟨h1, h2⟩ := if_of h
  obtain ⟨w, c, n, ha, hc⟩ := isK_of h1
  have k := kk _ h2
  refine ⟨k.1, k.2.1, ?_⟩
  simp only [List.mem_cons, List.not_mem_nil, or_false] at hc
  rcases hc with rfl
  · exact c_get (k := 1) T kX0 ha rfl rfl q491 (fun _ h9 => h9) d k.2.2
/-- OverFirst.town -/
theorem cg_X0_35 {X : KC CS} {E : CE} {cc : ByteArray} {nL : Nat} {ret : Option FieldType} {z0 l0 z1 l1 : Nat} {s : CS} {pc : Nat} {lv : List (Nat × Value)} {r : List Value} {α : Type} {z : α} {a : Nat} {K : Option Nat → Option α} (T : cOK X E cc RX0 nL ret z0 l0 z1 l1) (h : gR s a [0] 2 K = some z) (d : decode cc pc = .ok (.getfield 35, 3)) (kk : ∀ v, K v = some z → cW X z1 l1 s (pc + 3) lv (va_rf v :: r)) : cW X z1 l1 s pc lv (.ref a :: r) := by
  obtain ⟨h1, h2⟩ := if_of h
  obtain ⟨w, c, n, ha, hc⟩ := isK_of h1
  have k := kk _ h2
  refine ⟨k.1, k.2.1, ?_⟩
  simp only [List.mem_cons, List.not_mem_nil, or_false] at hc
  rcases hc with rfl
  · exact c_get (k := 2) T kX0 ha rfl rfl q492 (fun _ h9 => h9) d k.2.2
/-- OverFirst.walk -/
theorem cg_X0_42 {X : KC CS} {E : CE} {cc : ByteArray} {nL : Nat} {ret : Option FieldType} {z0 l0 z1 l1 : Nat} {s : CS} {pc : Nat} {lv : List (Nat × Value)} {r : List Value} {α : Type} {z : α} {a : Nat} {K : Option Nat → Option α} (T : cOK X E cc RX0 nL ret z0 l0 z1 l1) (h : gR s a [0] 3 K = some z) (d : decode cc pc = .ok (.getfield 42, 3)) (kk : ∀ v, K v = some z → cW X z1 l1 s (pc + 3) lv (va_rf v :: r)) : cW X z1 l1 s pc lv (.ref a :: r) := by
  obtain ⟨h1, h2⟩ := if_of h
  obtain ⟨w, c, n, ha, hc⟩ := isK_of h1
  have k := kk _ h2
  refine ⟨k.1, k.2.1, ?_⟩
  simp only [List.mem_cons, List.not_mem_nil, or_false] at hc
  rcases hc with rfl
  · exact c_get (k := 3) T kX0 ha rfl rfl q493 (fun _ h9 => h9) d k.2.2
/-- OverFirst.state -/
theorem cg_X0_49 {X : KC CS} {E : CE} {cc : ByteArray} {nL : Nat} {ret : Option FieldType} {z0 l0 z1 l1 : Nat} {s : CS} {pc : Nat} {lv : List (Nat × Value)} {r : List Value} {α : Type} {z : α} {a : Nat} {K : Option Nat → Option α} (T : cOK X E cc RX0 nL ret z0 l0 z1 l1) (h : gR s a [0] 4 K = some z) (d : decode cc pc = .ok (.getfield 49, 3)) (kk : ∀ v, K v = some z → cW X z1 l1 s (pc + 3) lv (va_rf v :: r)) : cW X z1 l1 s pc lv (.ref a :: r) := by
  obtain ⟨h1, h2⟩ := if_of h
  obtain ⟨w, c, n, ha, hc⟩ := isK_of h1
  have k := kk _ h2
  refine ⟨k.1, k.2.1, ?_⟩
  simp only [List.mem_cons, List.not_mem_nil, or_false] at hc
  rcases hc with rfl
  · exact c_get (k := 4) T kX0 ha rfl rfl q494 (fun _ h9 => h9) d k.2.2
/-- OverFirst.undone -/
theorem cg_X0_53 {X : KC CS} {E : CE} {cc : ByteArray} {nL : Nat} {ret : Option FieldType} {z0 l0 z1 l1 : Nat} {s : CS} {pc : Nat} {lv : List (Nat × Value)} {r : List Value} {α : Type} {z : α} {a : Nat} {K : Option Nat → Option α} (T : cOK X E cc RX0 nL ret z0 l0 z1 l1) (h : gR s a [0] 6 K = some z) (d : decode cc pc = .ok (.getfield 53, 3)) (kk : ∀ v, K v = some z → cW X z1 l1 s (pc + 3) lv (va_rf v :: r)) : cW X z1 l1 s pc lv (.ref a :: r) := by
  obtain ⟨h1, h2⟩ := if_of h
  obtain ⟨w, c, n, ha, hc⟩ := isK_of h1
  have k := kk _ h2
  refine ⟨k.1, k.2.1, ?_⟩
  simp only [List.mem_cons, List.not_mem_nil, or_false] at hc
  rcases hc with rfl
  · exact c_get (k := 6) T kX0 ha rfl rfl q496 (fun _ h9 => h9) d k.2.2
/-- OverFirst.takes -/
theorem cg_X0_58 {X : KC CS} {E : CE} {cc : ByteArray} {nL : Nat} {ret : Option FieldType} {z0 l0 z1 l1 : Nat} {s : CS} {pc : Nat} {lv : List (Nat × Value)} {r : List Value} {α : Type} {z : α} {a : Nat} {K : Option Nat → Option α} (T : cOK X E cc RX0 nL ret z0 l0 z1 l1) (h : gR s a [0] 8 K = some z) (d : decode cc pc = .ok (.getfield 58, 3)) (kk : ∀ v, K v = some z → cW X z1 l1 s (pc + 3) lv (va_rf v :: r)) : cW X z1 l1 s pc lv (.ref a :: r) := by
  obtain ⟨h1, h2⟩ := if_of h
  obtain ⟨w, c, n, ha, hc⟩ := isK_of h1
  have k := kk _ h2
  refine ⟨k.1, k.2.1, ?_⟩
  simp only [List.mem_cons, List.not_mem_nil, or_false] at hc
  rcases hc with rfl
  · exact c_get (k := 8) T kX0 ha rfl rfl q498 (fun _ h9 => h9) d k.2.2
/-- OverFirst.watched -/
theorem cg_X0_62 {X : KC CS} {E : CE} {cc : ByteArray} {nL : Nat} {ret : Option FieldType} {z0 l0 z1 l1 : Nat} {s : CS} {pc : Nat} {lv : List (Nat × Value)} {r : List Value} {α : Type} {z : α} {a : Nat} {K : Int32 → Option α} (T : cOK X E cc RX0 nL ret z0 l0 z1 l1) (h : gI s a [0] 11 K = some z) (d : decode cc pc = .ok (.getfield 62, 3)) (kk : ∀ v, K v = some z → cW X z1 l1 s (pc + 3) lv (.int v :: r)) : cW X z1 l1 s pc lv (.ref a :: r) := by
  obtain ⟨h1, h2⟩ := if_of h
  obtain ⟨w, c, n, ha, hc⟩ := isK_of h1
  have k := kk _ h2
  refine ⟨k.1, k.2.1, ?_⟩
  simp only [List.mem_cons, List.not_mem_nil, or_false] at hc
  rcases hc with rfl
  · exact c_get (k := 11) T kX0 ha rfl rfl q501 (fun _ h9 => h9) d k.2.2
/-- OverFirst.comes -/
theorem cg_X0_66 {X : KC CS} {E : CE} {cc : ByteArray} {nL : Nat} {ret : Option FieldType} {z0 l0 z1 l1 : Nat} {s : CS} {pc : Nat} {lv : List (Nat × Value)} {r : List Value} {α : Type} {z : α} {a : Nat} {K : Option Nat → Option α} (T : cOK X E cc RX0 nL ret z0 l0 z1 l1) (h : gR s a [0] 13 K = some z) (d : decode cc pc = .ok (.getfield 66, 3)) (kk : ∀ v, K v = some z → cW X z1 l1 s (pc + 3) lv (va_rf v :: r)) : cW X z1 l1 s pc lv (.ref a :: r) := by
  obtain ⟨h1, h2⟩ := if_of h
  obtain ⟨w, c, n, ha, hc⟩ := isK_of h1
  have k := kk _ h2
  refine ⟨k.1, k.2.1, ?_⟩
  simp only [List.mem_cons, List.not_mem_nil, or_false] at hc
  rcases hc with rfl
  · exact c_get (k := 13) T kX0 ha rfl rfl q503 (fun _ h9 => h9) d k.2.2
/-- OverFirst.odds -/
theorem cg_X0_70 {X : KC CS} {E : CE} {cc : ByteArray} {nL : Nat} {ret : Option FieldType} {z0 l0 z1 l1 : Nat} {s : CS} {pc : Nat} {lv : List (Nat × Value)} {r : List Value} {α : Type} {z : α} {a : Nat} {K : Option Nat → Option α} (T : cOK X E cc RX0 nL ret z0 l0 z1 l1) (h : gR s a [0] 14 K = some z) (d : decode cc pc = .ok (.getfield 70, 3)) (kk : ∀ v, K v = some z → cW X z1 l1 s (pc + 3) lv (va_rf v :: r)) : cW X z1 l1 s pc lv (.ref a :: r) := by
  obtain ⟨h1, h2⟩ := if_of h
  obtain ⟨w, c, n, ha, hc⟩ := isK_of h1
  have k := kk _ h2
  refine ⟨k.1, k.2.1, ?_⟩
  simp only [List.mem_cons, List.not_mem_nil, or_false] at hc
  rcases hc with rfl
  · exact c_get (k := 14) T kX0 ha rfl rfl q504 (fun _ h9 => h9) d k.2.2
/-- OverFirst.paces -/
theorem cg_X0_74 {X : KC CS} {E : CE} {cc : ByteArray} {nL : Nat} {ret : Option FieldType} {z0 l0 z1 l1 : Nat} {s : CS} {pc : Nat} {lv : List (Nat × Value)} {r : List Value} {α : Type} {z : α} {a : Nat} {K : Option Nat → Option α} (T : cOK X E cc RX0 nL ret z0 l0 z1 l1) (h : gR s a [0] 15 K = some z) (d : decode cc pc = .ok (.getfield 74, 3)) (kk : ∀ v, K v = some z → cW X z1 l1 s (pc + 3) lv (va_rf v :: r)) : cW X z1 l1 s pc lv (.ref a :: r) := by
  obtain ⟨h1, h2⟩ := if_of h
  obtain ⟨w, c, n, ha, hc⟩ := isK_of h1
  have k := kk _ h2
  refine ⟨k.1, k.2.1, ?_⟩
  simp only [List.mem_cons, List.not_mem_nil, or_false] at hc
  rcases hc with rfl
  · exact c_get (k := 15) T kX0 ha rfl rfl q505 (fun _ h9 => h9) d k.2.2
/-- OverFirst.greens -/
theorem cg_X0_77 {X : KC CS} {E : CE} {cc : ByteArray} {nL : Nat} {ret : Option FieldType} {z0 l0 z1 l1 : Nat} {s : CS} {pc : Nat} {lv : List (Nat × Value)} {r : List Value} {α : Type} {z : α} {a : Nat} {K : Option Nat → Option α} (T : cOK X E cc RX0 nL ret z0 l0 z1 l1) (h : gR s a [0] 16 K = some z) (d : decode cc pc = .ok (.getfield 77, 3)) (kk : ∀ v, K v = some z → cW X z1 l1 s (pc + 3) lv (va_rf v :: r)) : cW X z1 l1 s pc lv (.ref a :: r) := by
  obtain ⟨h1, h2⟩ := if_of h
  obtain ⟨w, c, n, ha, hc⟩ := isK_of h1
  have k := kk _ h2
  refine ⟨k.1, k.2.1, ?_⟩
  simp only [List.mem_cons, List.not_mem_nil, or_false] at hc
  rcases hc with rfl
  · exact c_get (k := 16) T kX0 ha rfl rfl q506 (fun _ h9 => h9) d k.2.2
/-- OverFirst.backs -/
theorem cg_X0_81 {X : KC CS} {E : CE} {cc : ByteArray} {nL : Nat} {ret : Option FieldType} {z0 l0 z1 l1 : Nat} {s : CS} {pc : Nat} {lv : List (Nat × Value)} {r : List Value} {α : Type} {z : α} {a : Nat} {K : Option Nat → Option α} (T : cOK X E cc RX0 nL ret z0 l0 z1 l1) (h : gR s a [0] 17 K = some z) (d : decode cc pc = .ok (.getfield 81, 3)) (kk : ∀ v, K v = some z → cW X z1 l1 s (pc + 3) lv (va_rf v :: r)) : cW X z1 l1 s pc lv (.ref a :: r) := by
  obtain ⟨h1, h2⟩ := if_of h
  obtain ⟨w, c, n, ha, hc⟩ := isK_of h1
  have k := kk _ h2
  refine ⟨k.1, k.2.1, ?_⟩
  simp only [List.mem_cons, List.not_mem_nil, or_false] at hc
  rcases hc with rfl
  · exact c_get (k := 17) T kX0 ha rfl rfl q507 (fun _ h9 => h9) d k.2.2
/-- OverFirst.begins -/
theorem cg_X0_84 {X : KC CS} {E : CE} {cc : ByteArray} {nL : Nat} {ret : Option FieldType} {z0 l0 z1 l1 : Nat} {s : CS} {pc : Nat} {lv : List (Nat × Value)} {r : List Value} {α : Type} {z : α} {a : Nat} {K : Option Nat → Option α} (T : cOK X E cc RX0 nL ret z0 l0 z1 l1) (h : gR s a [0] 18 K = some z) (d : decode cc pc = .ok (.getfield 84, 3)) (kk : ∀ v, K v = some z → cW X z1 l1 s (pc + 3) lv (va_rf v :: r)) : cW X z1 l1 s pc lv (.ref a :: r) := by
  obtain ⟨h1, h2⟩ := if_of h
  obtain ⟨w, c, n, ha, hc⟩ := isK_of h1
  have k := kk _ h2
  refine ⟨k.1, k.2.1, ?_⟩
  simp only [List.mem_cons, List.not_mem_nil, or_false] at hc
  rcases hc with rfl
  · exact c_get (k := 18) T kX0 ha rfl rfl q508 (fun _ h9 => h9) d k.2.2
/-- OverFirst.bestBegins -/
theorem cg_X0_87 {X : KC CS} {E : CE} {cc : ByteArray} {nL : Nat} {ret : Option FieldType} {z0 l0 z1 l1 : Nat} {s : CS} {pc : Nat} {lv : List (Nat × Value)} {r : List Value} {α : Type} {z : α} {a : Nat} {K : Option Nat → Option α} (T : cOK X E cc RX0 nL ret z0 l0 z1 l1) (h : gR s a [0] 19 K = some z) (d : decode cc pc = .ok (.getfield 87, 3)) (kk : ∀ v, K v = some z → cW X z1 l1 s (pc + 3) lv (va_rf v :: r)) : cW X z1 l1 s pc lv (.ref a :: r) := by
  obtain ⟨h1, h2⟩ := if_of h
  obtain ⟨w, c, n, ha, hc⟩ := isK_of h1
  have k := kk _ h2
  refine ⟨k.1, k.2.1, ?_⟩
  simp only [List.mem_cons, List.not_mem_nil, or_false] at hc
  rcases hc with rfl
  · exact c_get (k := 19) T kX0 ha rfl rfl q509 (fun _ h9 => h9) d k.2.2
/-- OverFirst.shift -/
theorem cg_X0_90 {X : KC CS} {E : CE} {cc : ByteArray} {nL : Nat} {ret : Option FieldType} {z0 l0 z1 l1 : Nat} {s : CS} {pc : Nat} {lv : List (Nat × Value)} {r : List Value} {α : Type} {z : α} {a : Nat} {K : Option Nat → Option α} (T : cOK X E cc RX0 nL ret z0 l0 z1 l1) (h : gR s a [0] 26 K = some z) (d : decode cc pc = .ok (.getfield 90, 3)) (kk : ∀ v, K v = some z → cW X z1 l1 s (pc + 3) lv (va_rf v :: r)) : cW X z1 l1 s pc lv (.ref a :: r) := by
  obtain ⟨h1, h2⟩ := if_of h
  obtain ⟨w, c, n, ha, hc⟩ := isK_of h1
  have k := kk _ h2
  refine ⟨k.1, k.2.1, ?_⟩
  simp only [List.mem_cons, List.not_mem_nil, or_false] at hc
  rcases hc with rfl
  · exact c_get (k := 26) T kX0 ha rfl rfl q516 (fun _ h9 => h9) d k.2.2
/-- OverFirst.marks -/
theorem cg_X0_93 {X : KC CS} {E : CE} {cc : ByteArray} {nL : Nat} {ret : Option FieldType} {z0 l0 z1 l1 : Nat} {s : CS} {pc : Nat} {lv : List (Nat × Value)} {r : List Value} {α : Type} {z : α} {a : Nat} {K : Option Nat → Option α} (T : cOK X E cc RX0 nL ret z0 l0 z1 l1) (h : gR s a [0] 27 K = some z) (d : decode cc pc = .ok (.getfield 93, 3)) (kk : ∀ v, K v = some z → cW X z1 l1 s (pc + 3) lv (va_rf v :: r)) : cW X z1 l1 s pc lv (.ref a :: r) := by
  obtain ⟨h1, h2⟩ := if_of h
  obtain ⟨w, c, n, ha, hc⟩ := isK_of h1
  have k := kk _ h2
  refine ⟨k.1, k.2.1, ?_⟩
  simp only [List.mem_cons, List.not_mem_nil, or_false] at hc
  rcases hc with rfl
  · exact c_get (k := 27) T kX0 ha rfl rfl q517 (fun _ h9 => h9) d k.2.2
/-- OverFirst.taped -/
theorem cg_X0_96 {X : KC CS} {E : CE} {cc : ByteArray} {nL : Nat} {ret : Option FieldType} {z0 l0 z1 l1 : Nat} {s : CS} {pc : Nat} {lv : List (Nat × Value)} {r : List Value} {α : Type} {z : α} {a : Nat} {K : Int32 → Option α} (T : cOK X E cc RX0 nL ret z0 l0 z1 l1) (h : gI s a [0] 5 K = some z) (d : decode cc pc = .ok (.getfield 96, 3)) (kk : ∀ v, K v = some z → cW X z1 l1 s (pc + 3) lv (.int v :: r)) : cW X z1 l1 s pc lv (.ref a :: r) := by
  obtain ⟨h1, h2⟩ := if_of h
  obtain ⟨w, c, n, ha, hc⟩ := isK_of h1
  have k := kk _ h2
  refine ⟨k.1, k.2.1, ?_⟩
  simp only [List.mem_cons, List.not_mem_nil, or_false] at hc
  rcases hc with rfl
  · exact c_get (k := 5) T kX0 ha rfl rfl q495 (fun _ h9 => h9) d k.2.2
/-- OverFirst$Wrong.fault -/
theorem cg_X0_111 {X : KC CS} {E : CE} {cc : ByteArray} {nL : Nat} {ret : Option FieldType} {z0 l0 z1 l1 : Nat} {s : CS} {pc : Nat} {lv : List (Nat × Value)} {r : List Value} {α : Type} {z : α} {a : Nat} {K : Int32 → Option α} (T : cOK X E cc RX0 nL ret z0 l0 z1 l1) (h : gI s a [10] 1000 K = some z) (d : decode cc pc = .ok (.getfield 111, 3)) (kk : ∀ v, K v = some z → cW X z1 l1 s (pc + 3) lv (.int v :: r)) : cW X z1 l1 s pc lv (.ref a :: r) := by
  obtain ⟨h1, h2⟩ := if_of h
  obtain ⟨w, c, n, ha, hc⟩ := isK_of h1
  have k := kk _ h2
  refine ⟨k.1, k.2.1, ?_⟩
  simp only [List.mem_cons, List.not_mem_nil, or_false] at hc
  rcases hc with rfl
  · exact c_getN (k := 6) T kX10 (by decide) ha rfl rfl q787 (fun _ h9 => h9) d k.2.2
/-- OverFirst.done -/
theorem cg_X0_116 {X : KC CS} {E : CE} {cc : ByteArray} {nL : Nat} {ret : Option FieldType} {z0 l0 z1 l1 : Nat} {s : CS} {pc : Nat} {lv : List (Nat × Value)} {r : List Value} {α : Type} {z : α} {a : Nat} {K : Int32 → Option α} (T : cOK X E cc RX0 nL ret z0 l0 z1 l1) (h : gI s a [0] 7 K = some z) (d : decode cc pc = .ok (.getfield 116, 3)) (kk : ∀ v, K v = some z → cW X z1 l1 s (pc + 3) lv (.int v :: r)) : cW X z1 l1 s pc lv (.ref a :: r) := by
  obtain ⟨h1, h2⟩ := if_of h
  obtain ⟨w, c, n, ha, hc⟩ := isK_of h1
  have k := kk _ h2
  refine ⟨k.1, k.2.1, ?_⟩
  simp only [List.mem_cons, List.not_mem_nil, or_false] at hc
  rcases hc with rfl
  · exact c_get (k := 7) T kX0 ha rfl rfl q497 (fun _ h9 => h9) d k.2.2
/-- OverFirst$Town.light -/
theorem cg_X0_122 {X : KC CS} {E : CE} {cc : ByteArray} {nL : Nat} {ret : Option FieldType} {z0 l0 z1 l1 : Nat} {s : CS} {pc : Nat} {lv : List (Nat × Value)} {r : List Value} {α : Type} {z : α} {a : Nat} {K : Option Nat → Option α} (T : cOK X E cc RX0 nL ret z0 l0 z1 l1) (h : gR s a [2] 209 K = some z) (d : decode cc pc = .ok (.getfield 122, 3)) (kk : ∀ v, K v = some z → cW X z1 l1 s (pc + 3) lv (va_rf v :: r)) : cW X z1 l1 s pc lv (.ref a :: r) := by
  obtain ⟨h1, h2⟩ := if_of h
  obtain ⟨w, c, n, ha, hc⟩ := isK_of h1
  have k := kk _ h2
  refine ⟨k.1, k.2.1, ?_⟩
  simp only [List.mem_cons, List.not_mem_nil, or_false] at hc
  rcases hc with rfl
  · exact c_getN (k := 9) T kX2 (by decide) ha rfl rfl q371 (fun _ h9 => h9) d k.2.2
/-- OverFirst$Town.wide -/
theorem cg_X0_131 {X : KC CS} {E : CE} {cc : ByteArray} {nL : Nat} {ret : Option FieldType} {z0 l0 z1 l1 : Nat} {s : CS} {pc : Nat} {lv : List (Nat × Value)} {r : List Value} {α : Type} {z : α} {a : Nat} {K : Int32 → Option α} (T : cOK X E cc RX0 nL ret z0 l0 z1 l1) (h : gI s a [2] 200 K = some z) (d : decode cc pc = .ok (.getfield 131, 3)) (kk : ∀ v, K v = some z → cW X z1 l1 s (pc + 3) lv (.int v :: r)) : cW X z1 l1 s pc lv (.ref a :: r) := by
  obtain ⟨h1, h2⟩ := if_of h
  obtain ⟨w, c, n, ha, hc⟩ := isK_of h1
  have k := kk _ h2
  refine ⟨k.1, k.2.1, ?_⟩
  simp only [List.mem_cons, List.not_mem_nil, or_false] at hc
  rcases hc with rfl
  · exact c_getN (k := 0) T kX2 (by decide) ha rfl rfl q351 (fun _ h9 => h9) d k.2.2
/-- OverFirst$Town.deep -/
theorem cg_X0_134 {X : KC CS} {E : CE} {cc : ByteArray} {nL : Nat} {ret : Option FieldType} {z0 l0 z1 l1 : Nat} {s : CS} {pc : Nat} {lv : List (Nat × Value)} {r : List Value} {α : Type} {z : α} {a : Nat} {K : Int32 → Option α} (T : cOK X E cc RX0 nL ret z0 l0 z1 l1) (h : gI s a [2] 201 K = some z) (d : decode cc pc = .ok (.getfield 134, 3)) (kk : ∀ v, K v = some z → cW X z1 l1 s (pc + 3) lv (.int v :: r)) : cW X z1 l1 s pc lv (.ref a :: r) := by
  obtain ⟨h1, h2⟩ := if_of h
  obtain ⟨w, c, n, ha, hc⟩ := isK_of h1
  have k := kk _ h2
  refine ⟨k.1, k.2.1, ?_⟩
  simp only [List.mem_cons, List.not_mem_nil, or_false] at hc
  rcases hc with rfl
  · exact c_getN (k := 1) T kX2 (by decide) ha rfl rfl q354 (fun _ h9 => h9) d k.2.2
/-- OverFirst$Town.bar -/
theorem cg_X0_153 {X : KC CS} {E : CE} {cc : ByteArray} {nL : Nat} {ret : Option FieldType} {z0 l0 z1 l1 : Nat} {s : CS} {pc : Nat} {lv : List (Nat × Value)} {r : List Value} {α : Type} {z : α} {a : Nat} {K : Option Nat → Option α} (T : cOK X E cc RX0 nL ret z0 l0 z1 l1) (h : gR s a [2] 210 K = some z) (d : decode cc pc = .ok (.getfield 153, 3)) (kk : ∀ v, K v = some z → cW X z1 l1 s (pc + 3) lv (va_rf v :: r)) : cW X z1 l1 s pc lv (.ref a :: r) := by
  obtain ⟨h1, h2⟩ := if_of h
  obtain ⟨w, c, n, ha, hc⟩ := isK_of h1
  have k := kk _ h2
  refine ⟨k.1, k.2.1, ?_⟩
  simp only [List.mem_cons, List.not_mem_nil, or_false] at hc
  rcases hc with rfl
  · exact c_getN (k := 10) T kX2 (by decide) ha rfl rfl q374 (fun _ h9 => h9) d k.2.2
/-- OverFirst$Light.round -/
theorem cg_X0_160 {X : KC CS} {E : CE} {cc : ByteArray} {nL : Nat} {ret : Option FieldType} {z0 l0 z1 l1 : Nat} {s : CS} {pc : Nat} {lv : List (Nat × Value)} {r : List Value} {α : Type} {z : α} {a : Nat} {K : Int32 → Option α} (T : cOK X E cc RX0 nL ret z0 l0 z1 l1) (h : gI s a [12, 13, 14, 15] 1100 K = some z) (d : decode cc pc = .ok (.getfield 160, 3)) (kk : ∀ v, K v = some z → cW X z1 l1 s (pc + 3) lv (.int v :: r)) : cW X z1 l1 s pc lv (.ref a :: r) := by
  obtain ⟨h1, h2⟩ := if_of h
  obtain ⟨w, c, n, ha, hc⟩ := isK_of h1
  have k := kk _ h2
  refine ⟨k.1, k.2.1, ?_⟩
  simp only [List.mem_cons, List.not_mem_nil, or_false] at hc
  rcases hc with rfl | rfl | rfl | rfl
  · exact c_get (k := 0) T kX12 ha rfl rfl q859 (fun _ h9 => h9) d k.2.2
  · exact c_get (k := 0) T kX13 ha rfl rfl q859 (fun _ h9 => h9) d k.2.2
  · exact c_get (k := 0) T kX14 ha rfl rfl q859 (fun _ h9 => h9) d k.2.2
  · exact c_get (k := 0) T kX15 ha rfl rfl q859 (fun _ h9 => h9) d k.2.2
/-- OverFirst$Light.over -/
theorem cg_X0_163 {X : KC CS} {E : CE} {cc : ByteArray} {nL : Nat} {ret : Option FieldType} {z0 l0 z1 l1 : Nat} {s : CS} {pc : Nat} {lv : List (Nat × Value)} {r : List Value} {α : Type} {z : α} {a : Nat} {K : Int32 → Option α} (T : cOK X E cc RX0 nL ret z0 l0 z1 l1) (h : gI s a [12, 13, 14, 15] 1101 K = some z) (d : decode cc pc = .ok (.getfield 163, 3)) (kk : ∀ v, K v = some z → cW X z1 l1 s (pc + 3) lv (.int v :: r)) : cW X z1 l1 s pc lv (.ref a :: r) := by
  obtain ⟨h1, h2⟩ := if_of h
  obtain ⟨w, c, n, ha, hc⟩ := isK_of h1
  have k := kk _ h2
  refine ⟨k.1, k.2.1, ?_⟩
  simp only [List.mem_cons, List.not_mem_nil, or_false] at hc
  rcases hc with rfl | rfl | rfl | rfl
  · exact c_get (k := 1) T kX12 ha rfl rfl q865 (fun _ h9 => h9) d k.2.2
  · exact c_get (k := 1) T kX13 ha rfl rfl q865 (fun _ h9 => h9) d k.2.2
  · exact c_get (k := 1) T kX14 ha rfl rfl q865 (fun _ h9 => h9) d k.2.2
  · exact c_get (k := 1) T kX15 ha rfl rfl q865 (fun _ h9 => h9) d k.2.2
/-- OverFirst$Light.length -/
theorem cg_X0_166 {X : KC CS} {E : CE} {cc : ByteArray} {nL : Nat} {ret : Option FieldType} {z0 l0 z1 l1 : Nat} {s : CS} {pc : Nat} {lv : List (Nat × Value)} {r : List Value} {α : Type} {z : α} {a : Nat} {K : Int32 → Option α} (T : cOK X E cc RX0 nL ret z0 l0 z1 l1) (h : gI s a [12, 13, 14, 15] 1102 K = some z) (d : decode cc pc = .ok (.getfield 166, 3)) (kk : ∀ v, K v = some z → cW X z1 l1 s (pc + 3) lv (.int v :: r)) : cW X z1 l1 s pc lv (.ref a :: r) := by
  obtain ⟨h1, h2⟩ := if_of h
  obtain ⟨w, c, n, ha, hc⟩ := isK_of h1
  have k := kk _ h2
  refine ⟨k.1, k.2.1, ?_⟩
  simp only [List.mem_cons, List.not_mem_nil, or_false] at hc
  rcases hc with rfl | rfl | rfl | rfl
  · exact c_get (k := 2) T kX12 ha rfl rfl q869 (fun _ h9 => h9) d k.2.2
  · exact c_get (k := 2) T kX13 ha rfl rfl q869 (fun _ h9 => h9) d k.2.2
  · exact c_get (k := 2) T kX14 ha rfl rfl q869 (fun _ h9 => h9) d k.2.2
  · exact c_get (k := 2) T kX15 ha rfl rfl q869 (fun _ h9 => h9) d k.2.2
/-- OverFirst$State.known -/
theorem cg_X0_169 {X : KC CS} {E : CE} {cc : ByteArray} {nL : Nat} {ret : Option FieldType} {z0 l0 z1 l1 : Nat} {s : CS} {pc : Nat} {lv : List (Nat × Value)} {r : List Value} {α : Type} {z : α} {a : Nat} {K : Option Nat → Option α} (T : cOK X E cc RX0 nL ret z0 l0 z1 l1) (h : gR s a [8] 806 K = some z) (d : decode cc pc = .ok (.getfield 169, 3)) (kk : ∀ v, K v = some z → cW X z1 l1 s (pc + 3) lv (va_rf v :: r)) : cW X z1 l1 s pc lv (.ref a :: r) := by
  obtain ⟨h1, h2⟩ := if_of h
  obtain ⟨w, c, n, ha, hc⟩ := isK_of h1
  have k := kk _ h2
  refine ⟨k.1, k.2.1, ?_⟩
  simp only [List.mem_cons, List.not_mem_nil, or_false] at hc
  rcases hc with rfl
  · exact c_getN (k := 6) T kX8 (by decide) ha rfl rfl q449 (fun _ h9 => h9) d k.2.2
/-- OverFirst$State.x -/
theorem cg_X0_197 {X : KC CS} {E : CE} {cc : ByteArray} {nL : Nat} {ret : Option FieldType} {z0 l0 z1 l1 : Nat} {s : CS} {pc : Nat} {lv : List (Nat × Value)} {r : List Value} {α : Type} {z : α} {a : Nat} {K : Int32 → Option α} (T : cOK X E cc RX0 nL ret z0 l0 z1 l1) (h : gI s a [8] 800 K = some z) (d : decode cc pc = .ok (.getfield 197, 3)) (kk : ∀ v, K v = some z → cW X z1 l1 s (pc + 3) lv (.int v :: r)) : cW X z1 l1 s pc lv (.ref a :: r) := by
  obtain ⟨h1, h2⟩ := if_of h
  obtain ⟨w, c, n, ha, hc⟩ := isK_of h1
  have k := kk _ h2
  refine ⟨k.1, k.2.1, ?_⟩
  simp only [List.mem_cons, List.not_mem_nil, or_false] at hc
  rcases hc with rfl
  · exact c_getN (k := 0) T kX8 (by decide) ha rfl rfl q437 (fun _ h9 => h9) d k.2.2
/-- OverFirst$State.y -/
theorem cg_X0_200 {X : KC CS} {E : CE} {cc : ByteArray} {nL : Nat} {ret : Option FieldType} {z0 l0 z1 l1 : Nat} {s : CS} {pc : Nat} {lv : List (Nat × Value)} {r : List Value} {α : Type} {z : α} {a : Nat} {K : Int32 → Option α} (T : cOK X E cc RX0 nL ret z0 l0 z1 l1) (h : gI s a [8] 801 K = some z) (d : decode cc pc = .ok (.getfield 200, 3)) (kk : ∀ v, K v = some z → cW X z1 l1 s (pc + 3) lv (.int v :: r)) : cW X z1 l1 s pc lv (.ref a :: r) := by
  obtain ⟨h1, h2⟩ := if_of h
  obtain ⟨w, c, n, ha, hc⟩ := isK_of h1
  have k := kk _ h2
  refine ⟨k.1, k.2.1, ?_⟩
  simp only [List.mem_cons, List.not_mem_nil, or_false] at hc
  rcases hc with rfl
  · exact c_getN (k := 1) T kX8 (by decide) ha rfl rfl q439 (fun _ h9 => h9) d k.2.2
/-- OverFirst$State.second -/
theorem cg_X0_203 {X : KC CS} {E : CE} {cc : ByteArray} {nL : Nat} {ret : Option FieldType} {z0 l0 z1 l1 : Nat} {s : CS} {pc : Nat} {lv : List (Nat × Value)} {r : List Value} {α : Type} {z : α} {a : Nat} {K : Int32 → Option α} (T : cOK X E cc RX0 nL ret z0 l0 z1 l1) (h : gI s a [8] 802 K = some z) (d : decode cc pc = .ok (.getfield 203, 3)) (kk : ∀ v, K v = some z → cW X z1 l1 s (pc + 3) lv (.int v :: r)) : cW X z1 l1 s pc lv (.ref a :: r) := by
  obtain ⟨h1, h2⟩ := if_of h
  obtain ⟨w, c, n, ha, hc⟩ := isK_of h1
  have k := kk _ h2
  refine ⟨k.1, k.2.1, ?_⟩
  simp only [List.mem_cons, List.not_mem_nil, or_false] at hc
  rcases hc with rfl
  · exact c_getN (k := 2) T kX8 (by decide) ha rfl rfl q441 (fun _ h9 => h9) d k.2.2
/-- OverFirst$State.runs -/
theorem cg_X0_206 {X : KC CS} {E : CE} {cc : ByteArray} {nL : Nat} {ret : Option FieldType} {z0 l0 z1 l1 : Nat} {s : CS} {pc : Nat} {lv : List (Nat × Value)} {r : List Value} {α : Type} {z : α} {a : Nat} {K : Int32 → Option α} (T : cOK X E cc RX0 nL ret z0 l0 z1 l1) (h : gI s a [8] 803 K = some z) (d : decode cc pc = .ok (.getfield 206, 3)) (kk : ∀ v, K v = some z → cW X z1 l1 s (pc + 3) lv (.int v :: r)) : cW X z1 l1 s pc lv (.ref a :: r) := by
  obtain ⟨h1, h2⟩ := if_of h
  obtain ⟨w, c, n, ha, hc⟩ := isK_of h1
  have k := kk _ h2
  refine ⟨k.1, k.2.1, ?_⟩
  simp only [List.mem_cons, List.not_mem_nil, or_false] at hc
  rcases hc with rfl
  · exact c_getN (k := 3) T kX8 (by decide) ha rfl rfl q443 (fun _ h9 => h9) d k.2.2
/-- OverFirst$Walk.many -/
theorem cg_X0_225 {X : KC CS} {E : CE} {cc : ByteArray} {nL : Nat} {ret : Option FieldType} {z0 l0 z1 l1 : Nat} {s : CS} {pc : Nat} {lv : List (Nat × Value)} {r : List Value} {α : Type} {z : α} {a : Nat} {K : Int32 → Option α} (T : cOK X E cc RX0 nL ret z0 l0 z1 l1) (h : gI s a [7] 702 K = some z) (d : decode cc pc = .ok (.getfield 225, 3)) (kk : ∀ v, K v = some z → cW X z1 l1 s (pc + 3) lv (.int v :: r)) : cW X z1 l1 s pc lv (.ref a :: r) := by
  obtain ⟨h1, h2⟩ := if_of h
  obtain ⟨w, c, n, ha, hc⟩ := isK_of h1
  have k := kk _ h2
  refine ⟨k.1, k.2.1, ?_⟩
  simp only [List.mem_cons, List.not_mem_nil, or_false] at hc
  rcases hc with rfl
  · exact c_getN (k := 2) T kX7 (by decide) ha rfl rfl q422 (fun _ h9 => h9) d k.2.2
/-- OverFirst$Walk.way -/
theorem cg_X0_228 {X : KC CS} {E : CE} {cc : ByteArray} {nL : Nat} {ret : Option FieldType} {z0 l0 z1 l1 : Nat} {s : CS} {pc : Nat} {lv : List (Nat × Value)} {r : List Value} {α : Type} {z : α} {a : Nat} {K : Option Nat → Option α} (T : cOK X E cc RX0 nL ret z0 l0 z1 l1) (h : gR s a [7] 700 K = some z) (d : decode cc pc = .ok (.getfield 228, 3)) (kk : ∀ v, K v = some z → cW X z1 l1 s (pc + 3) lv (va_rf v :: r)) : cW X z1 l1 s pc lv (.ref a :: r) := by
  obtain ⟨h1, h2⟩ := if_of h
  obtain ⟨w, c, n, ha, hc⟩ := isK_of h1
  have k := kk _ h2
  refine ⟨k.1, k.2.1, ?_⟩
  simp only [List.mem_cons, List.not_mem_nil, or_false] at hc
  rcases hc with rfl
  · exact c_getN (k := 0) T kX7 (by decide) ha rfl rfl q417 (fun _ h9 => h9) d k.2.2
/-- OverFirst$Walk.second -/
theorem cg_X0_231 {X : KC CS} {E : CE} {cc : ByteArray} {nL : Nat} {ret : Option FieldType} {z0 l0 z1 l1 : Nat} {s : CS} {pc : Nat} {lv : List (Nat × Value)} {r : List Value} {α : Type} {z : α} {a : Nat} {K : Option Nat → Option α} (T : cOK X E cc RX0 nL ret z0 l0 z1 l1) (h : gR s a [7] 701 K = some z) (d : decode cc pc = .ok (.getfield 231, 3)) (kk : ∀ v, K v = some z → cW X z1 l1 s (pc + 3) lv (va_rf v :: r)) : cW X z1 l1 s pc lv (.ref a :: r) := by
  obtain ⟨h1, h2⟩ := if_of h
  obtain ⟨w, c, n, ha, hc⟩ := isK_of h1
  have k := kk _ h2
  refine ⟨k.1, k.2.1, ?_⟩
  simp only [List.mem_cons, List.not_mem_nil, or_false] at hc
  rcases hc with rfl
  · exact c_getN (k := 1) T kX7 (by decide) ha rfl rfl q420 (fun _ h9 => h9) d k.2.2
/-- OverFirst.isWorst -/
theorem cg_X0_237 {X : KC CS} {E : CE} {cc : ByteArray} {nL : Nat} {ret : Option FieldType} {z0 l0 z1 l1 : Nat} {s : CS} {pc : Nat} {lv : List (Nat × Value)} {r : List Value} {α : Type} {z : α} {a : Nat} {K : Int32 → Option α} (T : cOK X E cc RX0 nL ret z0 l0 z1 l1) (h : gI s a [0] 10 K = some z) (d : decode cc pc = .ok (.getfield 237, 3)) (kk : ∀ v, K v = some z → cW X z1 l1 s (pc + 3) lv (.int v :: r)) : cW X z1 l1 s pc lv (.ref a :: r) := by
  obtain ⟨h1, h2⟩ := if_of h
  obtain ⟨w, c, n, ha, hc⟩ := isK_of h1
  have k := kk _ h2
  refine ⟨k.1, k.2.1, ?_⟩
  simp only [List.mem_cons, List.not_mem_nil, or_false] at hc
  rcases hc with rfl
  · exact c_get (k := 10) T kX0 ha rfl rfl q500 (fun _ h9 => h9) d k.2.2
/-- OverFirst$Town.common -/
theorem cg_X0_241 {X : KC CS} {E : CE} {cc : ByteArray} {nL : Nat} {ret : Option FieldType} {z0 l0 z1 l1 : Nat} {s : CS} {pc : Nat} {lv : List (Nat × Value)} {r : List Value} {α : Type} {z : α} {a : Nat} {K : Int32 → Option α} (T : cOK X E cc RX0 nL ret z0 l0 z1 l1) (h : gI s a [2] 206 K = some z) (d : decode cc pc = .ok (.getfield 241, 3)) (kk : ∀ v, K v = some z → cW X z1 l1 s (pc + 3) lv (.int v :: r)) : cW X z1 l1 s pc lv (.ref a :: r) := by
  obtain ⟨h1, h2⟩ := if_of h
  obtain ⟨w, c, n, ha, hc⟩ := isK_of h1
  have k := kk _ h2
  refine ⟨k.1, k.2.1, ?_⟩
  simp only [List.mem_cons, List.not_mem_nil, or_false] at hc
  rcases hc with rfl
  · exact c_getN (k := 6) T kX2 (by decide) ha rfl rfl q366 (fun _ h9 => h9) d k.2.2
/-- OverFirst.stands -/
theorem cg_X0_281 {X : KC CS} {E : CE} {cc : ByteArray} {nL : Nat} {ret : Option FieldType} {z0 l0 z1 l1 : Nat} {s : CS} {pc : Nat} {lv : List (Nat × Value)} {r : List Value} {α : Type} {z : α} {a : Nat} {K : Int32 → Option α} (T : cOK X E cc RX0 nL ret z0 l0 z1 l1) (h : gI s a [0] 12 K = some z) (d : decode cc pc = .ok (.getfield 281, 3)) (kk : ∀ v, K v = some z → cW X z1 l1 s (pc + 3) lv (.int v :: r)) : cW X z1 l1 s pc lv (.ref a :: r) := by
  obtain ⟨h1, h2⟩ := if_of h
  obtain ⟨w, c, n, ha, hc⟩ := isK_of h1
  have k := kk _ h2
  refine ⟨k.1, k.2.1, ?_⟩
  simp only [List.mem_cons, List.not_mem_nil, or_false] at hc
  rcases hc with rfl
  · exact c_get (k := 12) T kX0 ha rfl rfl q502 (fun _ h9 => h9) d k.2.2
/-- OverFirst.areTold -/
theorem cg_X0_284 {X : KC CS} {E : CE} {cc : ByteArray} {nL : Nat} {ret : Option FieldType} {z0 l0 z1 l1 : Nat} {s : CS} {pc : Nat} {lv : List (Nat × Value)} {r : List Value} {α : Type} {z : α} {a : Nat} {K : Int32 → Option α} (T : cOK X E cc RX0 nL ret z0 l0 z1 l1) (h : gI s a [0] 9 K = some z) (d : decode cc pc = .ok (.getfield 284, 3)) (kk : ∀ v, K v = some z → cW X z1 l1 s (pc + 3) lv (.int v :: r)) : cW X z1 l1 s pc lv (.ref a :: r) := by
  obtain ⟨h1, h2⟩ := if_of h
  obtain ⟨w, c, n, ha, hc⟩ := isK_of h1
  have k := kk _ h2
  refine ⟨k.1, k.2.1, ?_⟩
  simp only [List.mem_cons, List.not_mem_nil, or_false] at hc
  rcases hc with rfl
  · exact c_get (k := 9) T kX0 ha rfl rfl q499 (fun _ h9 => h9) d k.2.2
/-- OverFirst$Town.goers -/
theorem cg_X0_291 {X : KC CS} {E : CE} {cc : ByteArray} {nL : Nat} {ret : Option FieldType} {z0 l0 z1 l1 : Nat} {s : CS} {pc : Nat} {lv : List (Nat × Value)} {r : List Value} {α : Type} {z : α} {a : Nat} {K : Option Nat → Option α} (T : cOK X E cc RX0 nL ret z0 l0 z1 l1) (h : gR s a [2] 212 K = some z) (d : decode cc pc = .ok (.getfield 291, 3)) (kk : ∀ v, K v = some z → cW X z1 l1 s (pc + 3) lv (va_rf v :: r)) : cW X z1 l1 s pc lv (.ref a :: r) := by
  obtain ⟨h1, h2⟩ := if_of h
  obtain ⟨w, c, n, ha, hc⟩ := isK_of h1
  have k := kk _ h2
  refine ⟨k.1, k.2.1, ?_⟩
  simp only [List.mem_cons, List.not_mem_nil, or_false] at hc
  rcases hc with rfl
  · exact c_getN (k := 12) T kX2 (by decide) ha rfl rfl q381 (fun _ h9 => h9) d k.2.2
/-- OverFirst$Town.names -/
theorem cg_X0_345 {X : KC CS} {E : CE} {cc : ByteArray} {nL : Nat} {ret : Option FieldType} {z0 l0 z1 l1 : Nat} {s : CS} {pc : Nat} {lv : List (Nat × Value)} {r : List Value} {α : Type} {z : α} {a : Nat} {K : Option Nat → Option α} (T : cOK X E cc RX0 nL ret z0 l0 z1 l1) (h : gR s a [2] 211 K = some z) (d : decode cc pc = .ok (.getfield 345, 3)) (kk : ∀ v, K v = some z → cW X z1 l1 s (pc + 3) lv (va_rf v :: r)) : cW X z1 l1 s pc lv (.ref a :: r) := by
  obtain ⟨h1, h2⟩ := if_of h
  obtain ⟨w, c, n, ha, hc⟩ := isK_of h1
  have k := kk _ h2
  refine ⟨k.1, k.2.1, ?_⟩
  simp only [List.mem_cons, List.not_mem_nil, or_false] at hc
  rcases hc with rfl
  · exact c_getN (k := 11) T kX2 (by decide) ha rfl rfl q378 (fun _ h9 => h9) d k.2.2
/-- OverFirst$State.tried -/
theorem cg_X0_376 {X : KC CS} {E : CE} {cc : ByteArray} {nL : Nat} {ret : Option FieldType} {z0 l0 z1 l1 : Nat} {s : CS} {pc : Nat} {lv : List (Nat × Value)} {r : List Value} {α : Type} {z : α} {a : Nat} {K : Int32 → Option α} (T : cOK X E cc RX0 nL ret z0 l0 z1 l1) (h : gI s a [8] 804 K = some z) (d : decode cc pc = .ok (.getfield 376, 3)) (kk : ∀ v, K v = some z → cW X z1 l1 s (pc + 3) lv (.int v :: r)) : cW X z1 l1 s pc lv (.ref a :: r) := by
  obtain ⟨h1, h2⟩ := if_of h
  obtain ⟨w, c, n, ha, hc⟩ := isK_of h1
  have k := kk _ h2
  refine ⟨k.1, k.2.1, ?_⟩
  simp only [List.mem_cons, List.not_mem_nil, or_false] at hc
  rcases hc with rfl
  · exact c_getN (k := 4) T kX8 (by decide) ha rfl rfl q445 (fun _ h9 => h9) d k.2.2
/-- OverFirst$State.triedAt -/
theorem cg_X0_379 {X : KC CS} {E : CE} {cc : ByteArray} {nL : Nat} {ret : Option FieldType} {z0 l0 z1 l1 : Nat} {s : CS} {pc : Nat} {lv : List (Nat × Value)} {r : List Value} {α : Type} {z : α} {a : Nat} {K : Option Nat → Option α} (T : cOK X E cc RX0 nL ret z0 l0 z1 l1) (h : gR s a [8] 808 K = some z) (d : decode cc pc = .ok (.getfield 379, 3)) (kk : ∀ v, K v = some z → cW X z1 l1 s (pc + 3) lv (va_rf v :: r)) : cW X z1 l1 s pc lv (.ref a :: r) := by
  obtain ⟨h1, h2⟩ := if_of h
  obtain ⟨w, c, n, ha, hc⟩ := isK_of h1
  have k := kk _ h2
  refine ⟨k.1, k.2.1, ?_⟩
  simp only [List.mem_cons, List.not_mem_nil, or_false] at hc
  rcases hc with rfl
  · exact c_getN (k := 8) T kX8 (by decide) ha rfl rfl q453 (fun _ h9 => h9) d k.2.2
/-- OverFirst$State.pressed -/
theorem cg_X0_382 {X : KC CS} {E : CE} {cc : ByteArray} {nL : Nat} {ret : Option FieldType} {z0 l0 z1 l1 : Nat} {s : CS} {pc : Nat} {lv : List (Nat × Value)} {r : List Value} {α : Type} {z : α} {a : Nat} {K : Option Nat → Option α} (T : cOK X E cc RX0 nL ret z0 l0 z1 l1) (h : gR s a [8] 807 K = some z) (d : decode cc pc = .ok (.getfield 382, 3)) (kk : ∀ v, K v = some z → cW X z1 l1 s (pc + 3) lv (va_rf v :: r)) : cW X z1 l1 s pc lv (.ref a :: r) := by
  obtain ⟨h1, h2⟩ := if_of h
  obtain ⟨w, c, n, ha, hc⟩ := isK_of h1
  have k := kk _ h2
  refine ⟨k.1, k.2.1, ?_⟩
  simp only [List.mem_cons, List.not_mem_nil, or_false] at hc
  rcases hc with rfl
  · exact c_getN (k := 7) T kX8 (by decide) ha rfl rfl q451 (fun _ h9 => h9) d k.2.2
/-- OverFirst$State.waited -/
theorem cg_X0_385 {X : KC CS} {E : CE} {cc : ByteArray} {nL : Nat} {ret : Option FieldType} {z0 l0 z1 l1 : Nat} {s : CS} {pc : Nat} {lv : List (Nat × Value)} {r : List Value} {α : Type} {z : α} {a : Nat} {K : Option Nat → Option α} (T : cOK X E cc RX0 nL ret z0 l0 z1 l1) (h : gR s a [8] 809 K = some z) (d : decode cc pc = .ok (.getfield 385, 3)) (kk : ∀ v, K v = some z → cW X z1 l1 s (pc + 3) lv (va_rf v :: r)) : cW X z1 l1 s pc lv (.ref a :: r) := by
  obtain ⟨h1, h2⟩ := if_of h
  obtain ⟨w, c, n, ha, hc⟩ := isK_of h1
  have k := kk _ h2
  refine ⟨k.1, k.2.1, ?_⟩
  simp only [List.mem_cons, List.not_mem_nil, or_false] at hc
  rcases hc with rfl
  · exact c_getN (k := 9) T kX8 (by decide) ha rfl rfl q455 (fun _ h9 => h9) d k.2.2
/-- OverFirst.bestWave -/
theorem cg_X0_396 {X : KC CS} {E : CE} {cc : ByteArray} {nL : Nat} {ret : Option FieldType} {z0 l0 z1 l1 : Nat} {s : CS} {pc : Nat} {lv : List (Nat × Value)} {r : List Value} {α : Type} {z : α} {a : Nat} {K : Int32 → Option α} (T : cOK X E cc RX0 nL ret z0 l0 z1 l1) (h : gI s a [0] 20 K = some z) (d : decode cc pc = .ok (.getfield 396, 3)) (kk : ∀ v, K v = some z → cW X z1 l1 s (pc + 3) lv (.int v :: r)) : cW X z1 l1 s pc lv (.ref a :: r) := by
  obtain ⟨h1, h2⟩ := if_of h
  obtain ⟨w, c, n, ha, hc⟩ := isK_of h1
  have k := kk _ h2
  refine ⟨k.1, k.2.1, ?_⟩
  simp only [List.mem_cons, List.not_mem_nil, or_false] at hc
  rcases hc with rfl
  · exact c_get (k := 20) T kX0 ha rfl rfl q510 (fun _ h9 => h9) d k.2.2
/-- OverFirst$State.was -/
theorem cg_X0_410 {X : KC CS} {E : CE} {cc : ByteArray} {nL : Nat} {ret : Option FieldType} {z0 l0 z1 l1 : Nat} {s : CS} {pc : Nat} {lv : List (Nat × Value)} {r : List Value} {α : Type} {z : α} {a : Nat} {K : Int32 → Option α} (T : cOK X E cc RX0 nL ret z0 l0 z1 l1) (h : gI s a [8] 805 K = some z) (d : decode cc pc = .ok (.getfield 410, 3)) (kk : ∀ v, K v = some z → cW X z1 l1 s (pc + 3) lv (.int v :: r)) : cW X z1 l1 s pc lv (.ref a :: r) := by
  obtain ⟨h1, h2⟩ := if_of h
  obtain ⟨w, c, n, ha, hc⟩ := isK_of h1
  have k := kk _ h2
  refine ⟨k.1, k.2.1, ?_⟩
  simp only [List.mem_cons, List.not_mem_nil, or_false] at hc
  rcases hc with rfl
  · exact c_getN (k := 5) T kX8 (by decide) ha rfl rfl q447 (fun _ h9 => h9) d k.2.2
/-- OverFirst$State.wasAt -/
theorem cg_X0_413 {X : KC CS} {E : CE} {cc : ByteArray} {nL : Nat} {ret : Option FieldType} {z0 l0 z1 l1 : Nat} {s : CS} {pc : Nat} {lv : List (Nat × Value)} {r : List Value} {α : Type} {z : α} {a : Nat} {K : Option Nat → Option α} (T : cOK X E cc RX0 nL ret z0 l0 z1 l1) (h : gR s a [8] 810 K = some z) (d : decode cc pc = .ok (.getfield 413, 3)) (kk : ∀ v, K v = some z → cW X z1 l1 s (pc + 3) lv (va_rf v :: r)) : cW X z1 l1 s pc lv (.ref a :: r) := by
  obtain ⟨h1, h2⟩ := if_of h
  obtain ⟨w, c, n, ha, hc⟩ := isK_of h1
  have k := kk _ h2
  refine ⟨k.1, k.2.1, ?_⟩
  simp only [List.mem_cons, List.not_mem_nil, or_false] at hc
  rcases hc with rfl
  · exact c_getN (k := 10) T kX8 (by decide) ha rfl rfl q457 (fun _ h9 => h9) d k.2.2
/-- OverFirst$State.wasWhen -/
theorem cg_X0_416 {X : KC CS} {E : CE} {cc : ByteArray} {nL : Nat} {ret : Option FieldType} {z0 l0 z1 l1 : Nat} {s : CS} {pc : Nat} {lv : List (Nat × Value)} {r : List Value} {α : Type} {z : α} {a : Nat} {K : Option Nat → Option α} (T : cOK X E cc RX0 nL ret z0 l0 z1 l1) (h : gR s a [8] 811 K = some z) (d : decode cc pc = .ok (.getfield 416, 3)) (kk : ∀ v, K v = some z → cW X z1 l1 s (pc + 3) lv (va_rf v :: r)) : cW X z1 l1 s pc lv (.ref a :: r) := by
  obtain ⟨h1, h2⟩ := if_of h
  obtain ⟨w, c, n, ha, hc⟩ := isK_of h1
  have k := kk _ h2
  refine ⟨k.1, k.2.1, ?_⟩
  simp only [List.mem_cons, List.not_mem_nil, or_false] at hc
  rcases hc with rfl
  · exact c_getN (k := 11) T kX8 (by decide) ha rfl rfl q459 (fun _ h9 => h9) d k.2.2
/-- OverFirst.fits -/
theorem cg_X0_422 {X : KC CS} {E : CE} {cc : ByteArray} {nL : Nat} {ret : Option FieldType} {z0 l0 z1 l1 : Nat} {s : CS} {pc : Nat} {lv : List (Nat × Value)} {r : List Value} {α : Type} {z : α} {a : Nat} {K : Int32 → Option α} (T : cOK X E cc RX0 nL ret z0 l0 z1 l1) (h : gI s a [0] 21 K = some z) (d : decode cc pc = .ok (.getfield 422, 3)) (kk : ∀ v, K v = some z → cW X z1 l1 s (pc + 3) lv (.int v :: r)) : cW X z1 l1 s pc lv (.ref a :: r) := by
  obtain ⟨h1, h2⟩ := if_of h
  obtain ⟨w, c, n, ha, hc⟩ := isK_of h1
  have k := kk _ h2
  refine ⟨k.1, k.2.1, ?_⟩
  simp only [List.mem_cons, List.not_mem_nil, or_false] at hc
  rcases hc with rfl
  · exact c_get (k := 21) T kX0 ha rfl rfl q511 (fun _ h9 => h9) d k.2.2
/-- OverFirst.firstFit -/
theorem cg_X0_425 {X : KC CS} {E : CE} {cc : ByteArray} {nL : Nat} {ret : Option FieldType} {z0 l0 z1 l1 : Nat} {s : CS} {pc : Nat} {lv : List (Nat × Value)} {r : List Value} {α : Type} {z : α} {a : Nat} {K : Int32 → Option α} (T : cOK X E cc RX0 nL ret z0 l0 z1 l1) (h : gI s a [0] 22 K = some z) (d : decode cc pc = .ok (.getfield 425, 3)) (kk : ∀ v, K v = some z → cW X z1 l1 s (pc + 3) lv (.int v :: r)) : cW X z1 l1 s pc lv (.ref a :: r) := by
  obtain ⟨h1, h2⟩ := if_of h
  obtain ⟨w, c, n, ha, hc⟩ := isK_of h1
  have k := kk _ h2
  refine ⟨k.1, k.2.1, ?_⟩
  simp only [List.mem_cons, List.not_mem_nil, or_false] at hc
  rcases hc with rfl
  · exact c_get (k := 22) T kX0 ha rfl rfl q512 (fun _ h9 => h9) d k.2.2
/-- OverFirst.onAll -/
theorem cg_X0_428 {X : KC CS} {E : CE} {cc : ByteArray} {nL : Nat} {ret : Option FieldType} {z0 l0 z1 l1 : Nat} {s : CS} {pc : Nat} {lv : List (Nat × Value)} {r : List Value} {α : Type} {z : α} {a : Nat} {K : Int64 → Option α} (T : cOK X E cc RX0 nL ret z0 l0 z1 l1) (h : gJ s a [0] 23 K = some z) (d : decode cc pc = .ok (.getfield 428, 3)) (kk : ∀ v, K v = some z → cW X z1 l1 s (pc + 3) lv (.long v :: r)) : cW X z1 l1 s pc lv (.ref a :: r) := by
  obtain ⟨h1, h2⟩ := if_of h
  obtain ⟨w, c, n, ha, hc⟩ := isK_of h1
  have k := kk _ h2
  refine ⟨k.1, k.2.1, ?_⟩
  simp only [List.mem_cons, List.not_mem_nil, or_false] at hc
  rcases hc with rfl
  · exact c_get (k := 23) T kX0 ha rfl rfl q513 (fun _ h9 => h9) d k.2.2
/-- OverFirst.onAllHigh -/
theorem cg_X0_432 {X : KC CS} {E : CE} {cc : ByteArray} {nL : Nat} {ret : Option FieldType} {z0 l0 z1 l1 : Nat} {s : CS} {pc : Nat} {lv : List (Nat × Value)} {r : List Value} {α : Type} {z : α} {a : Nat} {K : Int64 → Option α} (T : cOK X E cc RX0 nL ret z0 l0 z1 l1) (h : gJ s a [0] 24 K = some z) (d : decode cc pc = .ok (.getfield 432, 3)) (kk : ∀ v, K v = some z → cW X z1 l1 s (pc + 3) lv (.long v :: r)) : cW X z1 l1 s pc lv (.ref a :: r) := by
  obtain ⟨h1, h2⟩ := if_of h
  obtain ⟨w, c, n, ha, hc⟩ := isK_of h1
  have k := kk _ h2
  refine ⟨k.1, k.2.1, ?_⟩
  simp only [List.mem_cons, List.not_mem_nil, or_false] at hc
  rcases hc with rfl
  · exact c_get (k := 24) T kX0 ha rfl rfl q514 (fun _ h9 => h9) d k.2.2
/-- OverFirst.g -/
theorem cg_X0_439 {X : KC CS} {E : CE} {cc : ByteArray} {nL : Nat} {ret : Option FieldType} {z0 l0 z1 l1 : Nat} {s : CS} {pc : Nat} {lv : List (Nat × Value)} {r : List Value} {α : Type} {z : α} {a : Nat} {K : Int64 → Option α} (T : cOK X E cc RX0 nL ret z0 l0 z1 l1) (h : gJ s a [0] 25 K = some z) (d : decode cc pc = .ok (.getfield 439, 3)) (kk : ∀ v, K v = some z → cW X z1 l1 s (pc + 3) lv (.long v :: r)) : cW X z1 l1 s pc lv (.ref a :: r) := by
  obtain ⟨h1, h2⟩ := if_of h
  obtain ⟨w, c, n, ha, hc⟩ := isK_of h1
  have k := kk _ h2
  refine ⟨k.1, k.2.1, ?_⟩
  simp only [List.mem_cons, List.not_mem_nil, or_false] at hc
  rcases hc with rfl
  · exact c_get (k := 25) T kX0 ha rfl rfl q515 (fun _ h9 => h9) d k.2.2
/-- OverFirst$Reader.text -/
theorem cg_X1_9 {X : KC CS} {E : CE} {cc : ByteArray} {nL : Nat} {ret : Option FieldType} {z0 l0 z1 l1 : Nat} {s : CS} {pc : Nat} {lv : List (Nat × Value)} {r : List Value} {α : Type} {z : α} {a : Nat} {K : Option Nat → Option α} (T : cOK X E cc RX1 nL ret z0 l0 z1 l1) (h : gR s a [1] 100 K = some z) (d : decode cc pc = .ok (.getfield 9, 3)) (kk : ∀ v, K v = some z → cW X z1 l1 s (pc + 3) lv (va_rf v :: r)) : cW X z1 l1 s pc lv (.ref a :: r) := by
  obtain ⟨h1, h2⟩ := if_of h
  obtain ⟨w, c, n, ha, hc⟩ := isK_of h1
  have k := kk _ h2
  refine ⟨k.1, k.2.1, ?_⟩
  simp only [List.mem_cons, List.not_mem_nil, or_false] at hc
  rcases hc with rfl
  · exact c_get (k := 0) T kX1 ha rfl rfl q191 (fun _ h9 => h9) d k.2.2
/-- OverFirst$Reader.size -/
theorem cg_X1_15 {X : KC CS} {E : CE} {cc : ByteArray} {nL : Nat} {ret : Option FieldType} {z0 l0 z1 l1 : Nat} {s : CS} {pc : Nat} {lv : List (Nat × Value)} {r : List Value} {α : Type} {z : α} {a : Nat} {K : Int32 → Option α} (T : cOK X E cc RX1 nL ret z0 l0 z1 l1) (h : gI s a [1] 101 K = some z) (d : decode cc pc = .ok (.getfield 15, 3)) (kk : ∀ v, K v = some z → cW X z1 l1 s (pc + 3) lv (.int v :: r)) : cW X z1 l1 s pc lv (.ref a :: r) := by
  obtain ⟨h1, h2⟩ := if_of h
  obtain ⟨w, c, n, ha, hc⟩ := isK_of h1
  have k := kk _ h2
  refine ⟨k.1, k.2.1, ?_⟩
  simp only [List.mem_cons, List.not_mem_nil, or_false] at hc
  rcases hc with rfl
  · exact c_get (k := 1) T kX1 ha rfl rfl q192 (fun _ h9 => h9) d k.2.2
/-- OverFirst$Reader.to -/
theorem cg_X1_19 {X : KC CS} {E : CE} {cc : ByteArray} {nL : Nat} {ret : Option FieldType} {z0 l0 z1 l1 : Nat} {s : CS} {pc : Nat} {lv : List (Nat × Value)} {r : List Value} {α : Type} {z : α} {a : Nat} {K : Int32 → Option α} (T : cOK X E cc RX1 nL ret z0 l0 z1 l1) (h : gI s a [1] 102 K = some z) (d : decode cc pc = .ok (.getfield 19, 3)) (kk : ∀ v, K v = some z → cW X z1 l1 s (pc + 3) lv (.int v :: r)) : cW X z1 l1 s pc lv (.ref a :: r) := by
  obtain ⟨h1, h2⟩ := if_of h
  obtain ⟨w, c, n, ha, hc⟩ := isK_of h1
  have k := kk _ h2
  refine ⟨k.1, k.2.1, ?_⟩
  simp only [List.mem_cons, List.not_mem_nil, or_false] at hc
  rcases hc with rfl
  · exact c_get (k := 2) T kX1 ha rfl rfl q193 (fun _ h9 => h9) d k.2.2
/-- OverFirst$Reader.within -/
theorem cg_X1_22 {X : KC CS} {E : CE} {cc : ByteArray} {nL : Nat} {ret : Option FieldType} {z0 l0 z1 l1 : Nat} {s : CS} {pc : Nat} {lv : List (Nat × Value)} {r : List Value} {α : Type} {z : α} {a : Nat} {K : Int32 → Option α} (T : cOK X E cc RX1 nL ret z0 l0 z1 l1) (h : gI s a [1] 106 K = some z) (d : decode cc pc = .ok (.getfield 22, 3)) (kk : ∀ v, K v = some z → cW X z1 l1 s (pc + 3) lv (.int v :: r)) : cW X z1 l1 s pc lv (.ref a :: r) := by
  obtain ⟨h1, h2⟩ := if_of h
  obtain ⟨w, c, n, ha, hc⟩ := isK_of h1
  have k := kk _ h2
  refine ⟨k.1, k.2.1, ?_⟩
  simp only [List.mem_cons, List.not_mem_nil, or_false] at hc
  rcases hc with rfl
  · exact c_get (k := 6) T kX1 ha rfl rfl q197 (fun _ h9 => h9) d k.2.2
/-- OverFirst$Reader.from -/
theorem cg_X1_28 {X : KC CS} {E : CE} {cc : ByteArray} {nL : Nat} {ret : Option FieldType} {z0 l0 z1 l1 : Nat} {s : CS} {pc : Nat} {lv : List (Nat × Value)} {r : List Value} {α : Type} {z : α} {a : Nat} {K : Int32 → Option α} (T : cOK X E cc RX1 nL ret z0 l0 z1 l1) (h : gI s a [1] 104 K = some z) (d : decode cc pc = .ok (.getfield 28, 3)) (kk : ∀ v, K v = some z → cW X z1 l1 s (pc + 3) lv (.int v :: r)) : cW X z1 l1 s pc lv (.ref a :: r) := by
  obtain ⟨h1, h2⟩ := if_of h
  obtain ⟨w, c, n, ha, hc⟩ := isK_of h1
  have k := kk _ h2
  refine ⟨k.1, k.2.1, ?_⟩
  simp only [List.mem_cons, List.not_mem_nil, or_false] at hc
  rcases hc with rfl
  · exact c_get (k := 4) T kX1 ha rfl rfl q195 (fun _ h9 => h9) d k.2.2
/-- OverFirst$Reader.kind -/
theorem cg_X1_31 {X : KC CS} {E : CE} {cc : ByteArray} {nL : Nat} {ret : Option FieldType} {z0 l0 z1 l1 : Nat} {s : CS} {pc : Nat} {lv : List (Nat × Value)} {r : List Value} {α : Type} {z : α} {a : Nat} {K : Int32 → Option α} (T : cOK X E cc RX1 nL ret z0 l0 z1 l1) (h : gI s a [1] 103 K = some z) (d : decode cc pc = .ok (.getfield 31, 3)) (kk : ∀ v, K v = some z → cW X z1 l1 s (pc + 3) lv (.int v :: r)) : cW X z1 l1 s pc lv (.ref a :: r) := by
  obtain ⟨h1, h2⟩ := if_of h
  obtain ⟨w, c, n, ha, hc⟩ := isK_of h1
  have k := kk _ h2
  refine ⟨k.1, k.2.1, ?_⟩
  simp only [List.mem_cons, List.not_mem_nil, or_false] at hc
  rcases hc with rfl
  · exact c_get (k := 3) T kX1 ha rfl rfl q194 (fun _ h9 => h9) d k.2.2
/-- OverFirst$Reader.value -/
theorem cg_X1_45 {X : KC CS} {E : CE} {cc : ByteArray} {nL : Nat} {ret : Option FieldType} {z0 l0 z1 l1 : Nat} {s : CS} {pc : Nat} {lv : List (Nat × Value)} {r : List Value} {α : Type} {z : α} {a : Nat} {K : Int32 → Option α} (T : cOK X E cc RX1 nL ret z0 l0 z1 l1) (h : gI s a [1] 105 K = some z) (d : decode cc pc = .ok (.getfield 45, 3)) (kk : ∀ v, K v = some z → cW X z1 l1 s (pc + 3) lv (.int v :: r)) : cW X z1 l1 s pc lv (.ref a :: r) := by
  obtain ⟨h1, h2⟩ := if_of h
  obtain ⟨w, c, n, ha, hc⟩ := isK_of h1
  have k := kk _ h2
  refine ⟨k.1, k.2.1, ?_⟩
  simp only [List.mem_cons, List.not_mem_nil, or_false] at hc
  rcases hc with rfl
  · exact c_get (k := 5) T kX1 ha rfl rfl q196 (fun _ h9 => h9) d k.2.2
/-- OverFirst$Reader.town -/
theorem cg_X1_98 {X : KC CS} {E : CE} {cc : ByteArray} {nL : Nat} {ret : Option FieldType} {z0 l0 z1 l1 : Nat} {s : CS} {pc : Nat} {lv : List (Nat × Value)} {r : List Value} {α : Type} {z : α} {a : Nat} {K : Option Nat → Option α} (T : cOK X E cc RX1 nL ret z0 l0 z1 l1) (h : gR s a [1] 107 K = some z) (d : decode cc pc = .ok (.getfield 98, 3)) (kk : ∀ v, K v = some z → cW X z1 l1 s (pc + 3) lv (va_rf v :: r)) : cW X z1 l1 s pc lv (.ref a :: r) := by
  obtain ⟨h1, h2⟩ := if_of h
  obtain ⟨w, c, n, ha, hc⟩ := isK_of h1
  have k := kk _ h2
  refine ⟨k.1, k.2.1, ?_⟩
  simp only [List.mem_cons, List.not_mem_nil, or_false] at hc
  rcases hc with rfl
  · exact c_get (k := 7) T kX1 ha rfl rfl q198 (fun _ h9 => h9) d k.2.2
/-- OverFirst$Town.names -/
theorem cg_X1_102 {X : KC CS} {E : CE} {cc : ByteArray} {nL : Nat} {ret : Option FieldType} {z0 l0 z1 l1 : Nat} {s : CS} {pc : Nat} {lv : List (Nat × Value)} {r : List Value} {α : Type} {z : α} {a : Nat} {K : Option Nat → Option α} (T : cOK X E cc RX1 nL ret z0 l0 z1 l1) (h : gR s a [2] 211 K = some z) (d : decode cc pc = .ok (.getfield 102, 3)) (kk : ∀ v, K v = some z → cW X z1 l1 s (pc + 3) lv (va_rf v :: r)) : cW X z1 l1 s pc lv (.ref a :: r) := by
  obtain ⟨h1, h2⟩ := if_of h
  obtain ⟨w, c, n, ha, hc⟩ := isK_of h1
  have k := kk _ h2
  refine ⟨k.1, k.2.1, ?_⟩
  simp only [List.mem_cons, List.not_mem_nil, or_false] at hc
  rcases hc with rfl
  · exact c_getN (k := 11) T kX2 (by decide) ha rfl rfl q377 (fun _ h9 => h9) d k.2.2
/-- OverFirst$Town.walk -/
theorem cg_X1_127 {X : KC CS} {E : CE} {cc : ByteArray} {nL : Nat} {ret : Option FieldType} {z0 l0 z1 l1 : Nat} {s : CS} {pc : Nat} {lv : List (Nat × Value)} {r : List Value} {α : Type} {z : α} {a : Nat} {K : Int32 → Option α} (T : cOK X E cc RX1 nL ret z0 l0 z1 l1) (h : gI s a [2] 202 K = some z) (d : decode cc pc = .ok (.getfield 127, 3)) (kk : ∀ v, K v = some z → cW X z1 l1 s (pc + 3) lv (.int v :: r)) : cW X z1 l1 s pc lv (.ref a :: r) := by
  obtain ⟨h1, h2⟩ := if_of h
  obtain ⟨w, c, n, ha, hc⟩ := isK_of h1
  have k := kk _ h2
  refine ⟨k.1, k.2.1, ?_⟩
  simp only [List.mem_cons, List.not_mem_nil, or_false] at hc
  rcases hc with rfl
  · exact c_getN (k := 2) T kX2 (by decide) ha rfl rfl q357 (fun _ h9 => h9) d k.2.2
/-- OverFirst$Town.run -/
theorem cg_X1_130 {X : KC CS} {E : CE} {cc : ByteArray} {nL : Nat} {ret : Option FieldType} {z0 l0 z1 l1 : Nat} {s : CS} {pc : Nat} {lv : List (Nat × Value)} {r : List Value} {α : Type} {z : α} {a : Nat} {K : Int32 → Option α} (T : cOK X E cc RX1 nL ret z0 l0 z1 l1) (h : gI s a [2] 203 K = some z) (d : decode cc pc = .ok (.getfield 130, 3)) (kk : ∀ v, K v = some z → cW X z1 l1 s (pc + 3) lv (.int v :: r)) : cW X z1 l1 s pc lv (.ref a :: r) := by
  obtain ⟨h1, h2⟩ := if_of h
  obtain ⟨w, c, n, ha, hc⟩ := isK_of h1
  have k := kk _ h2
  refine ⟨k.1, k.2.1, ?_⟩
  simp only [List.mem_cons, List.not_mem_nil, or_false] at hc
  rcases hc with rfl
  · exact c_getN (k := 3) T kX2 (by decide) ha rfl rfl q359 (fun _ h9 => h9) d k.2.2
/-- OverFirst$Town.slow -/
theorem cg_X1_133 {X : KC CS} {E : CE} {cc : ByteArray} {nL : Nat} {ret : Option FieldType} {z0 l0 z1 l1 : Nat} {s : CS} {pc : Nat} {lv : List (Nat × Value)} {r : List Value} {α : Type} {z : α} {a : Nat} {K : Int32 → Option α} (T : cOK X E cc RX1 nL ret z0 l0 z1 l1) (h : gI s a [2] 204 K = some z) (d : decode cc pc = .ok (.getfield 133, 3)) (kk : ∀ v, K v = some z → cW X z1 l1 s (pc + 3) lv (.int v :: r)) : cW X z1 l1 s pc lv (.ref a :: r) := by
  obtain ⟨h1, h2⟩ := if_of h
  obtain ⟨w, c, n, ha, hc⟩ := isK_of h1
  have k := kk _ h2
  refine ⟨k.1, k.2.1, ?_⟩
  simp only [List.mem_cons, List.not_mem_nil, or_false] at hc
  rcases hc with rfl
  · exact c_getN (k := 4) T kX2 (by decide) ha rfl rfl q361 (fun _ h9 => h9) d k.2.2
/-- OverFirst$Town.runs -/
theorem cg_X1_136 {X : KC CS} {E : CE} {cc : ByteArray} {nL : Nat} {ret : Option FieldType} {z0 l0 z1 l1 : Nat} {s : CS} {pc : Nat} {lv : List (Nat × Value)} {r : List Value} {α : Type} {z : α} {a : Nat} {K : Int32 → Option α} (T : cOK X E cc RX1 nL ret z0 l0 z1 l1) (h : gI s a [2] 205 K = some z) (d : decode cc pc = .ok (.getfield 136, 3)) (kk : ∀ v, K v = some z → cW X z1 l1 s (pc + 3) lv (.int v :: r)) : cW X z1 l1 s pc lv (.ref a :: r) := by
  obtain ⟨h1, h2⟩ := if_of h
  obtain ⟨w, c, n, ha, hc⟩ := isK_of h1
  have k := kk _ h2
  refine ⟨k.1, k.2.1, ?_⟩
  simp only [List.mem_cons, List.not_mem_nil, or_false] at hc
  rcases hc with rfl
  · exact c_getN (k := 5) T kX2 (by decide) ha rfl rfl q363 (fun _ h9 => h9) d k.2.2
/-- OverFirst$Town.isChild -/
theorem cg_X1_139 {X : KC CS} {E : CE} {cc : ByteArray} {nL : Nat} {ret : Option FieldType} {z0 l0 z1 l1 : Nat} {s : CS} {pc : Nat} {lv : List (Nat × Value)} {r : List Value} {α : Type} {z : α} {a : Nat} {K : Int32 → Option α} (T : cOK X E cc RX1 nL ret z0 l0 z1 l1) (h : gI s a [2] 208 K = some z) (d : decode cc pc = .ok (.getfield 139, 3)) (kk : ∀ v, K v = some z → cW X z1 l1 s (pc + 3) lv (.int v :: r)) : cW X z1 l1 s pc lv (.ref a :: r) := by
  obtain ⟨h1, h2⟩ := if_of h
  obtain ⟨w, c, n, ha, hc⟩ := isK_of h1
  have k := kk _ h2
  refine ⟨k.1, k.2.1, ?_⟩
  simp only [List.mem_cons, List.not_mem_nil, or_false] at hc
  rcases hc with rfl
  · exact c_getN (k := 8) T kX2 (by decide) ha rfl rfl q369 (fun _ h9 => h9) d k.2.2
/-- OverFirst$Town.wide -/
theorem cg_X1_149 {X : KC CS} {E : CE} {cc : ByteArray} {nL : Nat} {ret : Option FieldType} {z0 l0 z1 l1 : Nat} {s : CS} {pc : Nat} {lv : List (Nat × Value)} {r : List Value} {α : Type} {z : α} {a : Nat} {K : Int32 → Option α} (T : cOK X E cc RX1 nL ret z0 l0 z1 l1) (h : gI s a [2] 200 K = some z) (d : decode cc pc = .ok (.getfield 149, 3)) (kk : ∀ v, K v = some z → cW X z1 l1 s (pc + 3) lv (.int v :: r)) : cW X z1 l1 s pc lv (.ref a :: r) := by
  obtain ⟨h1, h2⟩ := if_of h
  obtain ⟨w, c, n, ha, hc⟩ := isK_of h1
  have k := kk _ h2
  refine ⟨k.1, k.2.1, ?_⟩
  simp only [List.mem_cons, List.not_mem_nil, or_false] at hc
  rcases hc with rfl
  · exact c_getN (k := 0) T kX2 (by decide) ha rfl rfl q352 (fun _ h9 => h9) d k.2.2
/-- OverFirst$Town.deep -/
theorem cg_X1_152 {X : KC CS} {E : CE} {cc : ByteArray} {nL : Nat} {ret : Option FieldType} {z0 l0 z1 l1 : Nat} {s : CS} {pc : Nat} {lv : List (Nat × Value)} {r : List Value} {α : Type} {z : α} {a : Nat} {K : Int32 → Option α} (T : cOK X E cc RX1 nL ret z0 l0 z1 l1) (h : gI s a [2] 201 K = some z) (d : decode cc pc = .ok (.getfield 152, 3)) (kk : ∀ v, K v = some z → cW X z1 l1 s (pc + 3) lv (.int v :: r)) : cW X z1 l1 s pc lv (.ref a :: r) := by
  obtain ⟨h1, h2⟩ := if_of h
  obtain ⟨w, c, n, ha, hc⟩ := isK_of h1
  have k := kk _ h2
  refine ⟨k.1, k.2.1, ?_⟩
  simp only [List.mem_cons, List.not_mem_nil, or_false] at hc
  rcases hc with rfl
  · exact c_getN (k := 1) T kX2 (by decide) ha rfl rfl q355 (fun _ h9 => h9) d k.2.2
/-- OverFirst$Town.common -/
theorem cg_X1_185 {X : KC CS} {E : CE} {cc : ByteArray} {nL : Nat} {ret : Option FieldType} {z0 l0 z1 l1 : Nat} {s : CS} {pc : Nat} {lv : List (Nat × Value)} {r : List Value} {α : Type} {z : α} {a : Nat} {K : Int32 → Option α} (T : cOK X E cc RX1 nL ret z0 l0 z1 l1) (h : gI s a [2] 206 K = some z) (d : decode cc pc = .ok (.getfield 185, 3)) (kk : ∀ v, K v = some z → cW X z1 l1 s (pc + 3) lv (.int v :: r)) : cW X z1 l1 s pc lv (.ref a :: r) := by
  obtain ⟨h1, h2⟩ := if_of h
  obtain ⟨w, c, n, ha, hc⟩ := isK_of h1
  have k := kk _ h2
  refine ⟨k.1, k.2.1, ?_⟩
  simp only [List.mem_cons, List.not_mem_nil, or_false] at hc
  rcases hc with rfl
  · exact c_getN (k := 6) T kX2 (by decide) ha rfl rfl q365 (fun _ h9 => h9) d k.2.2
/-- OverFirst$Town.hidden -/
theorem cg_X1_195 {X : KC CS} {E : CE} {cc : ByteArray} {nL : Nat} {ret : Option FieldType} {z0 l0 z1 l1 : Nat} {s : CS} {pc : Nat} {lv : List (Nat × Value)} {r : List Value} {α : Type} {z : α} {a : Nat} {K : Int32 → Option α} (T : cOK X E cc RX1 nL ret z0 l0 z1 l1) (h : gI s a [2] 207 K = some z) (d : decode cc pc = .ok (.getfield 195, 3)) (kk : ∀ v, K v = some z → cW X z1 l1 s (pc + 3) lv (.int v :: r)) : cW X z1 l1 s pc lv (.ref a :: r) := by
  obtain ⟨h1, h2⟩ := if_of h
  obtain ⟨w, c, n, ha, hc⟩ := isK_of h1
  have k := kk _ h2
  refine ⟨k.1, k.2.1, ?_⟩
  simp only [List.mem_cons, List.not_mem_nil, or_false] at hc
  rcases hc with rfl
  · exact c_getN (k := 7) T kX2 (by decide) ha rfl rfl q367 (fun _ h9 => h9) d k.2.2
/-- OverFirst$Town.light -/
theorem cg_X1_198 {X : KC CS} {E : CE} {cc : ByteArray} {nL : Nat} {ret : Option FieldType} {z0 l0 z1 l1 : Nat} {s : CS} {pc : Nat} {lv : List (Nat × Value)} {r : List Value} {α : Type} {z : α} {a : Nat} {K : Option Nat → Option α} (T : cOK X E cc RX1 nL ret z0 l0 z1 l1) (h : gR s a [2] 209 K = some z) (d : decode cc pc = .ok (.getfield 198, 3)) (kk : ∀ v, K v = some z → cW X z1 l1 s (pc + 3) lv (va_rf v :: r)) : cW X z1 l1 s pc lv (.ref a :: r) := by
  obtain ⟨h1, h2⟩ := if_of h
  obtain ⟨w, c, n, ha, hc⟩ := isK_of h1
  have k := kk _ h2
  refine ⟨k.1, k.2.1, ?_⟩
  simp only [List.mem_cons, List.not_mem_nil, or_false] at hc
  rcases hc with rfl
  · exact c_getN (k := 9) T kX2 (by decide) ha rfl rfl q372 (fun _ h9 => h9) d k.2.2
/-- OverFirst$Town.bar -/
theorem cg_X1_217 {X : KC CS} {E : CE} {cc : ByteArray} {nL : Nat} {ret : Option FieldType} {z0 l0 z1 l1 : Nat} {s : CS} {pc : Nat} {lv : List (Nat × Value)} {r : List Value} {α : Type} {z : α} {a : Nat} {K : Option Nat → Option α} (T : cOK X E cc RX1 nL ret z0 l0 z1 l1) (h : gR s a [2] 210 K = some z) (d : decode cc pc = .ok (.getfield 217, 3)) (kk : ∀ v, K v = some z → cW X z1 l1 s (pc + 3) lv (va_rf v :: r)) : cW X z1 l1 s pc lv (.ref a :: r) := by
  obtain ⟨h1, h2⟩ := if_of h
  obtain ⟨w, c, n, ha, hc⟩ := isK_of h1
  have k := kk _ h2
  refine ⟨k.1, k.2.1, ?_⟩
  simp only [List.mem_cons, List.not_mem_nil, or_false] at hc
  rcases hc with rfl
  · exact c_getN (k := 10) T kX2 (by decide) ha rfl rfl q375 (fun _ h9 => h9) d k.2.2
/-- OverFirst$Town.goers -/
theorem cg_X1_223 {X : KC CS} {E : CE} {cc : ByteArray} {nL : Nat} {ret : Option FieldType} {z0 l0 z1 l1 : Nat} {s : CS} {pc : Nat} {lv : List (Nat × Value)} {r : List Value} {α : Type} {z : α} {a : Nat} {K : Option Nat → Option α} (T : cOK X E cc RX1 nL ret z0 l0 z1 l1) (h : gR s a [2] 212 K = some z) (d : decode cc pc = .ok (.getfield 223, 3)) (kk : ∀ v, K v = some z → cW X z1 l1 s (pc + 3) lv (va_rf v :: r)) : cW X z1 l1 s pc lv (.ref a :: r) := by
  obtain ⟨h1, h2⟩ := if_of h
  obtain ⟨w, c, n, ha, hc⟩ := isK_of h1
  have k := kk _ h2
  refine ⟨k.1, k.2.1, ?_⟩
  simp only [List.mem_cons, List.not_mem_nil, or_false] at hc
  rcases hc with rfl
  · exact c_getN (k := 12) T kX2 (by decide) ha rfl rfl q380 (fun _ h9 => h9) d k.2.2
/-- OverFirst$Walk.many -/
theorem cg_X1_244 {X : KC CS} {E : CE} {cc : ByteArray} {nL : Nat} {ret : Option FieldType} {z0 l0 z1 l1 : Nat} {s : CS} {pc : Nat} {lv : List (Nat × Value)} {r : List Value} {α : Type} {z : α} {a : Nat} {K : Int32 → Option α} (T : cOK X E cc RX1 nL ret z0 l0 z1 l1) (h : gI s a [7] 702 K = some z) (d : decode cc pc = .ok (.getfield 244, 3)) (kk : ∀ v, K v = some z → cW X z1 l1 s (pc + 3) lv (.int v :: r)) : cW X z1 l1 s pc lv (.ref a :: r) := by
  obtain ⟨h1, h2⟩ := if_of h
  obtain ⟨w, c, n, ha, hc⟩ := isK_of h1
  have k := kk _ h2
  refine ⟨k.1, k.2.1, ?_⟩
  simp only [List.mem_cons, List.not_mem_nil, or_false] at hc
  rcases hc with rfl
  · exact c_getN (k := 2) T kX7 (by decide) ha rfl rfl q421 (fun _ h9 => h9) d k.2.2
/-- OverFirst$Walk.way -/
theorem cg_X1_247 {X : KC CS} {E : CE} {cc : ByteArray} {nL : Nat} {ret : Option FieldType} {z0 l0 z1 l1 : Nat} {s : CS} {pc : Nat} {lv : List (Nat × Value)} {r : List Value} {α : Type} {z : α} {a : Nat} {K : Option Nat → Option α} (T : cOK X E cc RX1 nL ret z0 l0 z1 l1) (h : gR s a [7] 700 K = some z) (d : decode cc pc = .ok (.getfield 247, 3)) (kk : ∀ v, K v = some z → cW X z1 l1 s (pc + 3) lv (va_rf v :: r)) : cW X z1 l1 s pc lv (.ref a :: r) := by
  obtain ⟨h1, h2⟩ := if_of h
  obtain ⟨w, c, n, ha, hc⟩ := isK_of h1
  have k := kk _ h2
  refine ⟨k.1, k.2.1, ?_⟩
  simp only [List.mem_cons, List.not_mem_nil, or_false] at hc
  rcases hc with rfl
  · exact c_getN (k := 0) T kX7 (by decide) ha rfl rfl q416 (fun _ h9 => h9) d k.2.2
/-- OverFirst$Walk.second -/
theorem cg_X1_250 {X : KC CS} {E : CE} {cc : ByteArray} {nL : Nat} {ret : Option FieldType} {z0 l0 z1 l1 : Nat} {s : CS} {pc : Nat} {lv : List (Nat × Value)} {r : List Value} {α : Type} {z : α} {a : Nat} {K : Option Nat → Option α} (T : cOK X E cc RX1 nL ret z0 l0 z1 l1) (h : gR s a [7] 701 K = some z) (d : decode cc pc = .ok (.getfield 250, 3)) (kk : ∀ v, K v = some z → cW X z1 l1 s (pc + 3) lv (va_rf v :: r)) : cW X z1 l1 s pc lv (.ref a :: r) := by
  obtain ⟨h1, h2⟩ := if_of h
  obtain ⟨w, c, n, ha, hc⟩ := isK_of h1
  have k := kk _ h2
  refine ⟨k.1, k.2.1, ?_⟩
  simp only [List.mem_cons, List.not_mem_nil, or_false] at hc
  rcases hc with rfl
  · exact c_getN (k := 1) T kX7 (by decide) ha rfl rfl q419 (fun _ h9 => h9) d k.2.2
/-- OverFirst$Timed.length -/
theorem cg_X12_9 {X : KC CS} {E : CE} {cc : ByteArray} {nL : Nat} {ret : Option FieldType} {z0 l0 z1 l1 : Nat} {s : CS} {pc : Nat} {lv : List (Nat × Value)} {r : List Value} {α : Type} {z : α} {a : Nat} {K : Int32 → Option α} (T : cOK X E cc RX12 nL ret z0 l0 z1 l1) (h : gI s a [12, 13] 1102 K = some z) (d : decode cc pc = .ok (.getfield 9, 3)) (kk : ∀ v, K v = some z → cW X z1 l1 s (pc + 3) lv (.int v :: r)) : cW X z1 l1 s pc lv (.ref a :: r) := by
  obtain ⟨h1, h2⟩ := if_of h
  obtain ⟨w, c, n, ha, hc⟩ := isK_of h1
  have k := kk _ h2
  refine ⟨k.1, k.2.1, ?_⟩
  simp only [List.mem_cons, List.not_mem_nil, or_false] at hc
  rcases hc with rfl | rfl
  · exact c_get (k := 2) T kX12 ha rfl rfl q867 (fun x hx => u_same (T.1.2.2.2.2 _ q868) x hx) d k.2.2
  · exact c_get (k := 2) T kX13 ha rfl rfl q867 (fun x hx => u_same (T.1.2.2.2.2 _ q868) x hx) d k.2.2
/-- OverFirst$Timed.round -/
theorem cg_X12_15 {X : KC CS} {E : CE} {cc : ByteArray} {nL : Nat} {ret : Option FieldType} {z0 l0 z1 l1 : Nat} {s : CS} {pc : Nat} {lv : List (Nat × Value)} {r : List Value} {α : Type} {z : α} {a : Nat} {K : Int32 → Option α} (T : cOK X E cc RX12 nL ret z0 l0 z1 l1) (h : gI s a [12, 13] 1100 K = some z) (d : decode cc pc = .ok (.getfield 15, 3)) (kk : ∀ v, K v = some z → cW X z1 l1 s (pc + 3) lv (.int v :: r)) : cW X z1 l1 s pc lv (.ref a :: r) := by
  obtain ⟨h1, h2⟩ := if_of h
  obtain ⟨w, c, n, ha, hc⟩ := isK_of h1
  have k := kk _ h2
  refine ⟨k.1, k.2.1, ?_⟩
  simp only [List.mem_cons, List.not_mem_nil, or_false] at hc
  rcases hc with rfl | rfl
  · exact c_get (k := 0) T kX12 ha rfl rfl q857 (fun x hx => u_same (T.1.2.2.2.2 _ q858) x hx) d k.2.2
  · exact c_get (k := 0) T kX13 ha rfl rfl q857 (fun x hx => u_same (T.1.2.2.2.2 _ q858) x hx) d k.2.2
/-- OverFirst$Timed.over -/
theorem cg_X12_18 {X : KC CS} {E : CE} {cc : ByteArray} {nL : Nat} {ret : Option FieldType} {z0 l0 z1 l1 : Nat} {s : CS} {pc : Nat} {lv : List (Nat × Value)} {r : List Value} {α : Type} {z : α} {a : Nat} {K : Int32 → Option α} (T : cOK X E cc RX12 nL ret z0 l0 z1 l1) (h : gI s a [12, 13] 1101 K = some z) (d : decode cc pc = .ok (.getfield 18, 3)) (kk : ∀ v, K v = some z → cW X z1 l1 s (pc + 3) lv (.int v :: r)) : cW X z1 l1 s pc lv (.ref a :: r) := by
  obtain ⟨h1, h2⟩ := if_of h
  obtain ⟨w, c, n, ha, hc⟩ := isK_of h1
  have k := kk _ h2
  refine ⟨k.1, k.2.1, ?_⟩
  simp only [List.mem_cons, List.not_mem_nil, or_false] at hc
  rcases hc with rfl | rfl
  · exact c_get (k := 1) T kX12 ha rfl rfl q863 (fun x hx => u_same (T.1.2.2.2.2 _ q864) x hx) d k.2.2
  · exact c_get (k := 1) T kX13 ha rfl rfl q863 (fun x hx => u_same (T.1.2.2.2.2 _ q864) x hx) d k.2.2
/-- OverFirst$Button.over -/
theorem cg_X14_9 {X : KC CS} {E : CE} {cc : ByteArray} {nL : Nat} {ret : Option FieldType} {z0 l0 z1 l1 : Nat} {s : CS} {pc : Nat} {lv : List (Nat × Value)} {r : List Value} {α : Type} {z : α} {a : Nat} {K : Int32 → Option α} (T : cOK X E cc RX14 nL ret z0 l0 z1 l1) (h : gI s a [14] 1101 K = some z) (d : decode cc pc = .ok (.getfield 9, 3)) (kk : ∀ v, K v = some z → cW X z1 l1 s (pc + 3) lv (.int v :: r)) : cW X z1 l1 s pc lv (.ref a :: r) := by
  obtain ⟨h1, h2⟩ := if_of h
  obtain ⟨w, c, n, ha, hc⟩ := isK_of h1
  have k := kk _ h2
  refine ⟨k.1, k.2.1, ?_⟩
  simp only [List.mem_cons, List.not_mem_nil, or_false] at hc
  rcases hc with rfl
  · exact c_get (k := 1) T kX14 ha rfl rfl q861 (fun x hx => u_same (T.1.2.2.2.2 _ q862) x hx) d k.2.2
/-- OverFirst$Ruled.facts -/
theorem cg_X16_9 {X : KC CS} {E : CE} {cc : ByteArray} {nL : Nat} {ret : Option FieldType} {z0 l0 z1 l1 : Nat} {s : CS} {pc : Nat} {lv : List (Nat × Value)} {r : List Value} {α : Type} {z : α} {a : Nat} {K : Option Nat → Option α} (T : cOK X E cc RX16 nL ret z0 l0 z1 l1) (h : gR s a [16] 1601 K = some z) (d : decode cc pc = .ok (.getfield 9, 3)) (kk : ∀ v, K v = some z → cW X z1 l1 s (pc + 3) lv (va_rf v :: r)) : cW X z1 l1 s pc lv (.ref a :: r) := by
  obtain ⟨h1, h2⟩ := if_of h
  obtain ⟨w, c, n, ha, hc⟩ := isK_of h1
  have k := kk _ h2
  refine ⟨k.1, k.2.1, ?_⟩
  simp only [List.mem_cons, List.not_mem_nil, or_false] at hc
  rcases hc with rfl
  · exact c_get (k := 1) T kX16 ha rfl rfl q1168 (fun _ h9 => h9) d k.2.2
/-- OverFirst$Ruled.rule -/
theorem cg_X16_15 {X : KC CS} {E : CE} {cc : ByteArray} {nL : Nat} {ret : Option FieldType} {z0 l0 z1 l1 : Nat} {s : CS} {pc : Nat} {lv : List (Nat × Value)} {r : List Value} {α : Type} {z : α} {a : Nat} {K : Option Nat → Option α} (T : cOK X E cc RX16 nL ret z0 l0 z1 l1) (h : gR s a [16] 1600 K = some z) (d : decode cc pc = .ok (.getfield 15, 3)) (kk : ∀ v, K v = some z → cW X z1 l1 s (pc + 3) lv (va_rf v :: r)) : cW X z1 l1 s pc lv (.ref a :: r) := by
  obtain ⟨h1, h2⟩ := if_of h
  obtain ⟨w, c, n, ha, hc⟩ := isK_of h1
  have k := kk _ h2
  refine ⟨k.1, k.2.1, ?_⟩
  simp only [List.mem_cons, List.not_mem_nil, or_false] at hc
  rcases hc with rfl
  · exact c_get (k := 0) T kX16 ha rfl rfl q1167 (fun _ h9 => h9) d k.2.2
/-- OverFirst$Given.n -/
theorem cg_X18_7 {X : KC CS} {E : CE} {cc : ByteArray} {nL : Nat} {ret : Option FieldType} {z0 l0 z1 l1 : Nat} {s : CS} {pc : Nat} {lv : List (Nat × Value)} {r : List Value} {α : Type} {z : α} {a : Nat} {K : Int32 → Option α} (T : cOK X E cc RX18 nL ret z0 l0 z1 l1) (h : gI s a [18] 1800 K = some z) (d : decode cc pc = .ok (.getfield 7, 3)) (kk : ∀ v, K v = some z → cW X z1 l1 s (pc + 3) lv (.int v :: r)) : cW X z1 l1 s pc lv (.ref a :: r) := by
  obtain ⟨h1, h2⟩ := if_of h
  obtain ⟨w, c, n, ha, hc⟩ := isK_of h1
  have k := kk _ h2
  refine ⟨k.1, k.2.1, ?_⟩
  simp only [List.mem_cons, List.not_mem_nil, or_false] at hc
  rcases hc with rfl
  · exact c_get (k := 0) T kX18 ha rfl rfl q1122 (fun _ h9 => h9) d k.2.2
/-- OverFirst$Fact.which -/
theorem cg_X19_7 {X : KC CS} {E : CE} {cc : ByteArray} {nL : Nat} {ret : Option FieldType} {z0 l0 z1 l1 : Nat} {s : CS} {pc : Nat} {lv : List (Nat × Value)} {r : List Value} {α : Type} {z : α} {a : Nat} {K : Int32 → Option α} (T : cOK X E cc RX19 nL ret z0 l0 z1 l1) (h : gI s a [19] 1900 K = some z) (d : decode cc pc = .ok (.getfield 7, 3)) (kk : ∀ v, K v = some z → cW X z1 l1 s (pc + 3) lv (.int v :: r)) : cW X z1 l1 s pc lv (.ref a :: r) := by
  obtain ⟨h1, h2⟩ := if_of h
  obtain ⟨w, c, n, ha, hc⟩ := isK_of h1
  have k := kk _ h2
  refine ⟨k.1, k.2.1, ?_⟩
  simp only [List.mem_cons, List.not_mem_nil, or_false] at hc
  rcases hc with rfl
  · exact c_get (k := 0) T kX19 ha rfl rfl q1132 (fun _ h9 => h9) d k.2.2
/-- OverFirst$Town.wide -/
theorem cg_X2_9 {X : KC CS} {E : CE} {cc : ByteArray} {nL : Nat} {ret : Option FieldType} {z0 l0 z1 l1 : Nat} {s : CS} {pc : Nat} {lv : List (Nat × Value)} {r : List Value} {α : Type} {z : α} {a : Nat} {K : Int32 → Option α} (T : cOK X E cc RX2 nL ret z0 l0 z1 l1) (h : gI s a [2] 200 K = some z) (d : decode cc pc = .ok (.getfield 9, 3)) (kk : ∀ v, K v = some z → cW X z1 l1 s (pc + 3) lv (.int v :: r)) : cW X z1 l1 s pc lv (.ref a :: r) := by
  obtain ⟨h1, h2⟩ := if_of h
  obtain ⟨w, c, n, ha, hc⟩ := isK_of h1
  have k := kk _ h2
  refine ⟨k.1, k.2.1, ?_⟩
  simp only [List.mem_cons, List.not_mem_nil, or_false] at hc
  rcases hc with rfl
  · exact c_get (k := 0) T kX2 ha rfl rfl q350 (fun _ h9 => h9) d k.2.2
/-- OverFirst$Town.deep -/
theorem cg_X2_15 {X : KC CS} {E : CE} {cc : ByteArray} {nL : Nat} {ret : Option FieldType} {z0 l0 z1 l1 : Nat} {s : CS} {pc : Nat} {lv : List (Nat × Value)} {r : List Value} {α : Type} {z : α} {a : Nat} {K : Int32 → Option α} (T : cOK X E cc RX2 nL ret z0 l0 z1 l1) (h : gI s a [2] 201 K = some z) (d : decode cc pc = .ok (.getfield 15, 3)) (kk : ∀ v, K v = some z → cW X z1 l1 s (pc + 3) lv (.int v :: r)) : cW X z1 l1 s pc lv (.ref a :: r) := by
  obtain ⟨h1, h2⟩ := if_of h
  obtain ⟨w, c, n, ha, hc⟩ := isK_of h1
  have k := kk _ h2
  refine ⟨k.1, k.2.1, ?_⟩
  simp only [List.mem_cons, List.not_mem_nil, or_false] at hc
  rcases hc with rfl
  · exact c_get (k := 1) T kX2 ha rfl rfl q353 (fun _ h9 => h9) d k.2.2
/-- OverFirst$Town.walk -/
theorem cg_X2_18 {X : KC CS} {E : CE} {cc : ByteArray} {nL : Nat} {ret : Option FieldType} {z0 l0 z1 l1 : Nat} {s : CS} {pc : Nat} {lv : List (Nat × Value)} {r : List Value} {α : Type} {z : α} {a : Nat} {K : Int32 → Option α} (T : cOK X E cc RX2 nL ret z0 l0 z1 l1) (h : gI s a [2] 202 K = some z) (d : decode cc pc = .ok (.getfield 18, 3)) (kk : ∀ v, K v = some z → cW X z1 l1 s (pc + 3) lv (.int v :: r)) : cW X z1 l1 s pc lv (.ref a :: r) := by
  obtain ⟨h1, h2⟩ := if_of h
  obtain ⟨w, c, n, ha, hc⟩ := isK_of h1
  have k := kk _ h2
  refine ⟨k.1, k.2.1, ?_⟩
  simp only [List.mem_cons, List.not_mem_nil, or_false] at hc
  rcases hc with rfl
  · exact c_get (k := 2) T kX2 ha rfl rfl q356 (fun _ h9 => h9) d k.2.2
/-- OverFirst$Town.run -/
theorem cg_X2_21 {X : KC CS} {E : CE} {cc : ByteArray} {nL : Nat} {ret : Option FieldType} {z0 l0 z1 l1 : Nat} {s : CS} {pc : Nat} {lv : List (Nat × Value)} {r : List Value} {α : Type} {z : α} {a : Nat} {K : Int32 → Option α} (T : cOK X E cc RX2 nL ret z0 l0 z1 l1) (h : gI s a [2] 203 K = some z) (d : decode cc pc = .ok (.getfield 21, 3)) (kk : ∀ v, K v = some z → cW X z1 l1 s (pc + 3) lv (.int v :: r)) : cW X z1 l1 s pc lv (.ref a :: r) := by
  obtain ⟨h1, h2⟩ := if_of h
  obtain ⟨w, c, n, ha, hc⟩ := isK_of h1
  have k := kk _ h2
  refine ⟨k.1, k.2.1, ?_⟩
  simp only [List.mem_cons, List.not_mem_nil, or_false] at hc
  rcases hc with rfl
  · exact c_get (k := 3) T kX2 ha rfl rfl q358 (fun _ h9 => h9) d k.2.2
/-- OverFirst$Town.slow -/
theorem cg_X2_24 {X : KC CS} {E : CE} {cc : ByteArray} {nL : Nat} {ret : Option FieldType} {z0 l0 z1 l1 : Nat} {s : CS} {pc : Nat} {lv : List (Nat × Value)} {r : List Value} {α : Type} {z : α} {a : Nat} {K : Int32 → Option α} (T : cOK X E cc RX2 nL ret z0 l0 z1 l1) (h : gI s a [2] 204 K = some z) (d : decode cc pc = .ok (.getfield 24, 3)) (kk : ∀ v, K v = some z → cW X z1 l1 s (pc + 3) lv (.int v :: r)) : cW X z1 l1 s pc lv (.ref a :: r) := by
  obtain ⟨h1, h2⟩ := if_of h
  obtain ⟨w, c, n, ha, hc⟩ := isK_of h1
  have k := kk _ h2
  refine ⟨k.1, k.2.1, ?_⟩
  simp only [List.mem_cons, List.not_mem_nil, or_false] at hc
  rcases hc with rfl
  · exact c_get (k := 4) T kX2 ha rfl rfl q360 (fun _ h9 => h9) d k.2.2
/-- OverFirst$Town.runs -/
theorem cg_X2_27 {X : KC CS} {E : CE} {cc : ByteArray} {nL : Nat} {ret : Option FieldType} {z0 l0 z1 l1 : Nat} {s : CS} {pc : Nat} {lv : List (Nat × Value)} {r : List Value} {α : Type} {z : α} {a : Nat} {K : Int32 → Option α} (T : cOK X E cc RX2 nL ret z0 l0 z1 l1) (h : gI s a [2] 205 K = some z) (d : decode cc pc = .ok (.getfield 27, 3)) (kk : ∀ v, K v = some z → cW X z1 l1 s (pc + 3) lv (.int v :: r)) : cW X z1 l1 s pc lv (.ref a :: r) := by
  obtain ⟨h1, h2⟩ := if_of h
  obtain ⟨w, c, n, ha, hc⟩ := isK_of h1
  have k := kk _ h2
  refine ⟨k.1, k.2.1, ?_⟩
  simp only [List.mem_cons, List.not_mem_nil, or_false] at hc
  rcases hc with rfl
  · exact c_get (k := 5) T kX2 ha rfl rfl q362 (fun _ h9 => h9) d k.2.2
/-- OverFirst$Town.bar -/
theorem cg_X2_39 {X : KC CS} {E : CE} {cc : ByteArray} {nL : Nat} {ret : Option FieldType} {z0 l0 z1 l1 : Nat} {s : CS} {pc : Nat} {lv : List (Nat × Value)} {r : List Value} {α : Type} {z : α} {a : Nat} {K : Option Nat → Option α} (T : cOK X E cc RX2 nL ret z0 l0 z1 l1) (h : gR s a [2] 210 K = some z) (d : decode cc pc = .ok (.getfield 39, 3)) (kk : ∀ v, K v = some z → cW X z1 l1 s (pc + 3) lv (va_rf v :: r)) : cW X z1 l1 s pc lv (.ref a :: r) := by
  obtain ⟨h1, h2⟩ := if_of h
  obtain ⟨w, c, n, ha, hc⟩ := isK_of h1
  have k := kk _ h2
  refine ⟨k.1, k.2.1, ?_⟩
  simp only [List.mem_cons, List.not_mem_nil, or_false] at hc
  rcases hc with rfl
  · exact c_get (k := 10) T kX2 ha rfl rfl q373 (fun _ h9 => h9) d k.2.2
/-- OverFirst$Town.goers -/
theorem cg_X2_52 {X : KC CS} {E : CE} {cc : ByteArray} {nL : Nat} {ret : Option FieldType} {z0 l0 z1 l1 : Nat} {s : CS} {pc : Nat} {lv : List (Nat × Value)} {r : List Value} {α : Type} {z : α} {a : Nat} {K : Option Nat → Option α} (T : cOK X E cc RX2 nL ret z0 l0 z1 l1) (h : gR s a [2] 212 K = some z) (d : decode cc pc = .ok (.getfield 52, 3)) (kk : ∀ v, K v = some z → cW X z1 l1 s (pc + 3) lv (va_rf v :: r)) : cW X z1 l1 s pc lv (.ref a :: r) := by
  obtain ⟨h1, h2⟩ := if_of h
  obtain ⟨w, c, n, ha, hc⟩ := isK_of h1
  have k := kk _ h2
  refine ⟨k.1, k.2.1, ?_⟩
  simp only [List.mem_cons, List.not_mem_nil, or_false] at hc
  rcases hc with rfl
  · exact c_get (k := 12) T kX2 ha rfl rfl q379 (fun _ h9 => h9) d k.2.2
/-- OverFirst$Town.isChild -/
theorem cg_X2_71 {X : KC CS} {E : CE} {cc : ByteArray} {nL : Nat} {ret : Option FieldType} {z0 l0 z1 l1 : Nat} {s : CS} {pc : Nat} {lv : List (Nat × Value)} {r : List Value} {α : Type} {z : α} {a : Nat} {K : Int32 → Option α} (T : cOK X E cc RX2 nL ret z0 l0 z1 l1) (h : gI s a [2] 208 K = some z) (d : decode cc pc = .ok (.getfield 71, 3)) (kk : ∀ v, K v = some z → cW X z1 l1 s (pc + 3) lv (.int v :: r)) : cW X z1 l1 s pc lv (.ref a :: r) := by
  obtain ⟨h1, h2⟩ := if_of h
  obtain ⟨w, c, n, ha, hc⟩ := isK_of h1
  have k := kk _ h2
  refine ⟨k.1, k.2.1, ?_⟩
  simp only [List.mem_cons, List.not_mem_nil, or_false] at hc
  rcases hc with rfl
  · exact c_get (k := 8) T kX2 ha rfl rfl q368 (fun _ h9 => h9) d k.2.2
/-- OverFirst$Not.part -/
theorem cg_X20_7 {X : KC CS} {E : CE} {cc : ByteArray} {nL : Nat} {ret : Option FieldType} {z0 l0 z1 l1 : Nat} {s : CS} {pc : Nat} {lv : List (Nat × Value)} {r : List Value} {α : Type} {z : α} {a : Nat} {K : Option Nat → Option α} (T : cOK X E cc RX20 nL ret z0 l0 z1 l1) (h : gR s a [20] 2000 K = some z) (d : decode cc pc = .ok (.getfield 7, 3)) (kk : ∀ v, K v = some z → cW X z1 l1 s (pc + 3) lv (va_rf v :: r)) : cW X z1 l1 s pc lv (.ref a :: r) := by
  obtain ⟨h1, h2⟩ := if_of h
  obtain ⟨w, c, n, ha, hc⟩ := isK_of h1
  have k := kk _ h2
  refine ⟨k.1, k.2.1, ?_⟩
  simp only [List.mem_cons, List.not_mem_nil, or_false] at hc
  rcases hc with rfl
  · exact c_get (k := 0) T kX20 ha rfl rfl q1142 (fun _ h9 => h9) d k.2.2
/-- OverFirst$Two.way -/
theorem cg_X21_7 {X : KC CS} {E : CE} {cc : ByteArray} {nL : Nat} {ret : Option FieldType} {z0 l0 z1 l1 : Nat} {s : CS} {pc : Nat} {lv : List (Nat × Value)} {r : List Value} {α : Type} {z : α} {a : Nat} {K : Int32 → Option α} (T : cOK X E cc RX21 nL ret z0 l0 z1 l1) (h : gI s a [21] 2100 K = some z) (d : decode cc pc = .ok (.getfield 7, 3)) (kk : ∀ v, K v = some z → cW X z1 l1 s (pc + 3) lv (.int v :: r)) : cW X z1 l1 s pc lv (.ref a :: r) := by
  obtain ⟨h1, h2⟩ := if_of h
  obtain ⟨w, c, n, ha, hc⟩ := isK_of h1
  have k := kk _ h2
  refine ⟨k.1, k.2.1, ?_⟩
  simp only [List.mem_cons, List.not_mem_nil, or_false] at hc
  rcases hc with rfl
  · exact c_get (k := 0) T kX21 ha rfl rfl q1152 (fun _ h9 => h9) d k.2.2
/-- OverFirst$Two.a -/
theorem cg_X21_13 {X : KC CS} {E : CE} {cc : ByteArray} {nL : Nat} {ret : Option FieldType} {z0 l0 z1 l1 : Nat} {s : CS} {pc : Nat} {lv : List (Nat × Value)} {r : List Value} {α : Type} {z : α} {a : Nat} {K : Option Nat → Option α} (T : cOK X E cc RX21 nL ret z0 l0 z1 l1) (h : gR s a [21] 2101 K = some z) (d : decode cc pc = .ok (.getfield 13, 3)) (kk : ∀ v, K v = some z → cW X z1 l1 s (pc + 3) lv (va_rf v :: r)) : cW X z1 l1 s pc lv (.ref a :: r) := by
  obtain ⟨h1, h2⟩ := if_of h
  obtain ⟨w, c, n, ha, hc⟩ := isK_of h1
  have k := kk _ h2
  refine ⟨k.1, k.2.1, ?_⟩
  simp only [List.mem_cons, List.not_mem_nil, or_false] at hc
  rcases hc with rfl
  · exact c_get (k := 1) T kX21 ha rfl rfl q1153 (fun _ h9 => h9) d k.2.2
/-- OverFirst$Two.b -/
theorem cg_X21_17 {X : KC CS} {E : CE} {cc : ByteArray} {nL : Nat} {ret : Option FieldType} {z0 l0 z1 l1 : Nat} {s : CS} {pc : Nat} {lv : List (Nat × Value)} {r : List Value} {α : Type} {z : α} {a : Nat} {K : Option Nat → Option α} (T : cOK X E cc RX21 nL ret z0 l0 z1 l1) (h : gR s a [21] 2102 K = some z) (d : decode cc pc = .ok (.getfield 17, 3)) (kk : ∀ v, K v = some z → cW X z1 l1 s (pc + 3) lv (va_rf v :: r)) : cW X z1 l1 s pc lv (.ref a :: r) := by
  obtain ⟨h1, h2⟩ := if_of h
  obtain ⟨w, c, n, ha, hc⟩ := isK_of h1
  have k := kk _ h2
  refine ⟨k.1, k.2.1, ?_⟩
  simp only [List.mem_cons, List.not_mem_nil, or_false] at hc
  rcases hc with rfl
  · exact c_get (k := 2) T kX21 ha rfl rfl q1154 (fun _ h9 => h9) d k.2.2
/-- OverFirst$First.way -/
theorem cg_X4_9 {X : KC CS} {E : CE} {cc : ByteArray} {nL : Nat} {ret : Option FieldType} {z0 l0 z1 l1 : Nat} {s : CS} {pc : Nat} {lv : List (Nat × Value)} {r : List Value} {α : Type} {z : α} {a : Nat} {K : Int32 → Option α} (T : cOK X E cc RX4 nL ret z0 l0 z1 l1) (h : gI s a [4] 400 K = some z) (d : decode cc pc = .ok (.getfield 9, 3)) (kk : ∀ v, K v = some z → cW X z1 l1 s (pc + 3) lv (.int v :: r)) : cW X z1 l1 s pc lv (.ref a :: r) := by
  obtain ⟨h1, h2⟩ := if_of h
  obtain ⟨w, c, n, ha, hc⟩ := isK_of h1
  have k := kk _ h2
  refine ⟨k.1, k.2.1, ?_⟩
  simp only [List.mem_cons, List.not_mem_nil, or_false] at hc
  rcases hc with rfl
  · exact c_get (k := 0) T kX4 ha rfl rfl q263 (fun _ h9 => h9) d k.2.2
/-- OverFirst$State.known -/
theorem cg_X8_9 {X : KC CS} {E : CE} {cc : ByteArray} {nL : Nat} {ret : Option FieldType} {z0 l0 z1 l1 : Nat} {s : CS} {pc : Nat} {lv : List (Nat × Value)} {r : List Value} {α : Type} {z : α} {a : Nat} {K : Option Nat → Option α} (T : cOK X E cc RX8 nL ret z0 l0 z1 l1) (h : gR s a [8] 806 K = some z) (d : decode cc pc = .ok (.getfield 9, 3)) (kk : ∀ v, K v = some z → cW X z1 l1 s (pc + 3) lv (va_rf v :: r)) : cW X z1 l1 s pc lv (.ref a :: r) := by
  obtain ⟨h1, h2⟩ := if_of h
  obtain ⟨w, c, n, ha, hc⟩ := isK_of h1
  have k := kk _ h2
  refine ⟨k.1, k.2.1, ?_⟩
  simp only [List.mem_cons, List.not_mem_nil, or_false] at hc
  rcases hc with rfl
  · exact c_get (k := 6) T kX8 ha rfl rfl q448 (fun _ h9 => h9) d k.2.2
/-- OverFirst$State.pressed -/
theorem cg_X8_15 {X : KC CS} {E : CE} {cc : ByteArray} {nL : Nat} {ret : Option FieldType} {z0 l0 z1 l1 : Nat} {s : CS} {pc : Nat} {lv : List (Nat × Value)} {r : List Value} {α : Type} {z : α} {a : Nat} {K : Option Nat → Option α} (T : cOK X E cc RX8 nL ret z0 l0 z1 l1) (h : gR s a [8] 807 K = some z) (d : decode cc pc = .ok (.getfield 15, 3)) (kk : ∀ v, K v = some z → cW X z1 l1 s (pc + 3) lv (va_rf v :: r)) : cW X z1 l1 s pc lv (.ref a :: r) := by
  obtain ⟨h1, h2⟩ := if_of h
  obtain ⟨w, c, n, ha, hc⟩ := isK_of h1
  have k := kk _ h2
  refine ⟨k.1, k.2.1, ?_⟩
  simp only [List.mem_cons, List.not_mem_nil, or_false] at hc
  rcases hc with rfl
  · exact c_get (k := 7) T kX8 ha rfl rfl q450 (fun _ h9 => h9) d k.2.2
/-- OverFirst$State.triedAt -/
theorem cg_X8_18 {X : KC CS} {E : CE} {cc : ByteArray} {nL : Nat} {ret : Option FieldType} {z0 l0 z1 l1 : Nat} {s : CS} {pc : Nat} {lv : List (Nat × Value)} {r : List Value} {α : Type} {z : α} {a : Nat} {K : Option Nat → Option α} (T : cOK X E cc RX8 nL ret z0 l0 z1 l1) (h : gR s a [8] 808 K = some z) (d : decode cc pc = .ok (.getfield 18, 3)) (kk : ∀ v, K v = some z → cW X z1 l1 s (pc + 3) lv (va_rf v :: r)) : cW X z1 l1 s pc lv (.ref a :: r) := by
  obtain ⟨h1, h2⟩ := if_of h
  obtain ⟨w, c, n, ha, hc⟩ := isK_of h1
  have k := kk _ h2
  refine ⟨k.1, k.2.1, ?_⟩
  simp only [List.mem_cons, List.not_mem_nil, or_false] at hc
  rcases hc with rfl
  · exact c_get (k := 8) T kX8 ha rfl rfl q452 (fun _ h9 => h9) d k.2.2
/-- OverFirst$State.waited -/
theorem cg_X8_22 {X : KC CS} {E : CE} {cc : ByteArray} {nL : Nat} {ret : Option FieldType} {z0 l0 z1 l1 : Nat} {s : CS} {pc : Nat} {lv : List (Nat × Value)} {r : List Value} {α : Type} {z : α} {a : Nat} {K : Option Nat → Option α} (T : cOK X E cc RX8 nL ret z0 l0 z1 l1) (h : gR s a [8] 809 K = some z) (d : decode cc pc = .ok (.getfield 22, 3)) (kk : ∀ v, K v = some z → cW X z1 l1 s (pc + 3) lv (va_rf v :: r)) : cW X z1 l1 s pc lv (.ref a :: r) := by
  obtain ⟨h1, h2⟩ := if_of h
  obtain ⟨w, c, n, ha, hc⟩ := isK_of h1
  have k := kk _ h2
  refine ⟨k.1, k.2.1, ?_⟩
  simp only [List.mem_cons, List.not_mem_nil, or_false] at hc
  rcases hc with rfl
  · exact c_get (k := 9) T kX8 ha rfl rfl q454 (fun _ h9 => h9) d k.2.2
/-- OverFirst$State.wasAt -/
theorem cg_X8_25 {X : KC CS} {E : CE} {cc : ByteArray} {nL : Nat} {ret : Option FieldType} {z0 l0 z1 l1 : Nat} {s : CS} {pc : Nat} {lv : List (Nat × Value)} {r : List Value} {α : Type} {z : α} {a : Nat} {K : Option Nat → Option α} (T : cOK X E cc RX8 nL ret z0 l0 z1 l1) (h : gR s a [8] 810 K = some z) (d : decode cc pc = .ok (.getfield 25, 3)) (kk : ∀ v, K v = some z → cW X z1 l1 s (pc + 3) lv (va_rf v :: r)) : cW X z1 l1 s pc lv (.ref a :: r) := by
  obtain ⟨h1, h2⟩ := if_of h
  obtain ⟨w, c, n, ha, hc⟩ := isK_of h1
  have k := kk _ h2
  refine ⟨k.1, k.2.1, ?_⟩
  simp only [List.mem_cons, List.not_mem_nil, or_false] at hc
  rcases hc with rfl
  · exact c_get (k := 10) T kX8 ha rfl rfl q456 (fun _ h9 => h9) d k.2.2
/-- OverFirst$State.wasWhen -/
theorem cg_X8_28 {X : KC CS} {E : CE} {cc : ByteArray} {nL : Nat} {ret : Option FieldType} {z0 l0 z1 l1 : Nat} {s : CS} {pc : Nat} {lv : List (Nat × Value)} {r : List Value} {α : Type} {z : α} {a : Nat} {K : Option Nat → Option α} (T : cOK X E cc RX8 nL ret z0 l0 z1 l1) (h : gR s a [8] 811 K = some z) (d : decode cc pc = .ok (.getfield 28, 3)) (kk : ∀ v, K v = some z → cW X z1 l1 s (pc + 3) lv (va_rf v :: r)) : cW X z1 l1 s pc lv (.ref a :: r) := by
  obtain ⟨h1, h2⟩ := if_of h
  obtain ⟨w, c, n, ha, hc⟩ := isK_of h1
  have k := kk _ h2
  refine ⟨k.1, k.2.1, ?_⟩
  simp only [List.mem_cons, List.not_mem_nil, or_false] at hc
  rcases hc with rfl
  · exact c_get (k := 11) T kX8 ha rfl rfl q458 (fun _ h9 => h9) d k.2.2
/-- OverFirst$State.x -/
theorem cg_X8_31 {X : KC CS} {E : CE} {cc : ByteArray} {nL : Nat} {ret : Option FieldType} {z0 l0 z1 l1 : Nat} {s : CS} {pc : Nat} {lv : List (Nat × Value)} {r : List Value} {α : Type} {z : α} {a : Nat} {K : Int32 → Option α} (T : cOK X E cc RX8 nL ret z0 l0 z1 l1) (h : gI s a [8] 800 K = some z) (d : decode cc pc = .ok (.getfield 31, 3)) (kk : ∀ v, K v = some z → cW X z1 l1 s (pc + 3) lv (.int v :: r)) : cW X z1 l1 s pc lv (.ref a :: r) := by
  obtain ⟨h1, h2⟩ := if_of h
  obtain ⟨w, c, n, ha, hc⟩ := isK_of h1
  have k := kk _ h2
  refine ⟨k.1, k.2.1, ?_⟩
  simp only [List.mem_cons, List.not_mem_nil, or_false] at hc
  rcases hc with rfl
  · exact c_get (k := 0) T kX8 ha rfl rfl q436 (fun _ h9 => h9) d k.2.2
/-- OverFirst$State.y -/
theorem cg_X8_35 {X : KC CS} {E : CE} {cc : ByteArray} {nL : Nat} {ret : Option FieldType} {z0 l0 z1 l1 : Nat} {s : CS} {pc : Nat} {lv : List (Nat × Value)} {r : List Value} {α : Type} {z : α} {a : Nat} {K : Int32 → Option α} (T : cOK X E cc RX8 nL ret z0 l0 z1 l1) (h : gI s a [8] 801 K = some z) (d : decode cc pc = .ok (.getfield 35, 3)) (kk : ∀ v, K v = some z → cW X z1 l1 s (pc + 3) lv (.int v :: r)) : cW X z1 l1 s pc lv (.ref a :: r) := by
  obtain ⟨h1, h2⟩ := if_of h
  obtain ⟨w, c, n, ha, hc⟩ := isK_of h1
  have k := kk _ h2
  refine ⟨k.1, k.2.1, ?_⟩
  simp only [List.mem_cons, List.not_mem_nil, or_false] at hc
  rcases hc with rfl
  · exact c_get (k := 1) T kX8 ha rfl rfl q438 (fun _ h9 => h9) d k.2.2
/-- OverFirst$State.second -/
theorem cg_X8_38 {X : KC CS} {E : CE} {cc : ByteArray} {nL : Nat} {ret : Option FieldType} {z0 l0 z1 l1 : Nat} {s : CS} {pc : Nat} {lv : List (Nat × Value)} {r : List Value} {α : Type} {z : α} {a : Nat} {K : Int32 → Option α} (T : cOK X E cc RX8 nL ret z0 l0 z1 l1) (h : gI s a [8] 802 K = some z) (d : decode cc pc = .ok (.getfield 38, 3)) (kk : ∀ v, K v = some z → cW X z1 l1 s (pc + 3) lv (.int v :: r)) : cW X z1 l1 s pc lv (.ref a :: r) := by
  obtain ⟨h1, h2⟩ := if_of h
  obtain ⟨w, c, n, ha, hc⟩ := isK_of h1
  have k := kk _ h2
  refine ⟨k.1, k.2.1, ?_⟩
  simp only [List.mem_cons, List.not_mem_nil, or_false] at hc
  rcases hc with rfl
  · exact c_get (k := 2) T kX8 ha rfl rfl q440 (fun _ h9 => h9) d k.2.2
/-- OverFirst$State.runs -/
theorem cg_X8_41 {X : KC CS} {E : CE} {cc : ByteArray} {nL : Nat} {ret : Option FieldType} {z0 l0 z1 l1 : Nat} {s : CS} {pc : Nat} {lv : List (Nat × Value)} {r : List Value} {α : Type} {z : α} {a : Nat} {K : Int32 → Option α} (T : cOK X E cc RX8 nL ret z0 l0 z1 l1) (h : gI s a [8] 803 K = some z) (d : decode cc pc = .ok (.getfield 41, 3)) (kk : ∀ v, K v = some z → cW X z1 l1 s (pc + 3) lv (.int v :: r)) : cW X z1 l1 s pc lv (.ref a :: r) := by
  obtain ⟨h1, h2⟩ := if_of h
  obtain ⟨w, c, n, ha, hc⟩ := isK_of h1
  have k := kk _ h2
  refine ⟨k.1, k.2.1, ?_⟩
  simp only [List.mem_cons, List.not_mem_nil, or_false] at hc
  rcases hc with rfl
  · exact c_get (k := 3) T kX8 ha rfl rfl q442 (fun _ h9 => h9) d k.2.2
/-- OverFirst$State.tried -/
theorem cg_X8_48 {X : KC CS} {E : CE} {cc : ByteArray} {nL : Nat} {ret : Option FieldType} {z0 l0 z1 l1 : Nat} {s : CS} {pc : Nat} {lv : List (Nat × Value)} {r : List Value} {α : Type} {z : α} {a : Nat} {K : Int32 → Option α} (T : cOK X E cc RX8 nL ret z0 l0 z1 l1) (h : gI s a [8] 804 K = some z) (d : decode cc pc = .ok (.getfield 48, 3)) (kk : ∀ v, K v = some z → cW X z1 l1 s (pc + 3) lv (.int v :: r)) : cW X z1 l1 s pc lv (.ref a :: r) := by
  obtain ⟨h1, h2⟩ := if_of h
  obtain ⟨w, c, n, ha, hc⟩ := isK_of h1
  have k := kk _ h2
  refine ⟨k.1, k.2.1, ?_⟩
  simp only [List.mem_cons, List.not_mem_nil, or_false] at hc
  rcases hc with rfl
  · exact c_get (k := 4) T kX8 ha rfl rfl q444 (fun _ h9 => h9) d k.2.2
/-- OverFirst$State.was -/
theorem cg_X8_51 {X : KC CS} {E : CE} {cc : ByteArray} {nL : Nat} {ret : Option FieldType} {z0 l0 z1 l1 : Nat} {s : CS} {pc : Nat} {lv : List (Nat × Value)} {r : List Value} {α : Type} {z : α} {a : Nat} {K : Int32 → Option α} (T : cOK X E cc RX8 nL ret z0 l0 z1 l1) (h : gI s a [8] 805 K = some z) (d : decode cc pc = .ok (.getfield 51, 3)) (kk : ∀ v, K v = some z → cW X z1 l1 s (pc + 3) lv (.int v :: r)) : cW X z1 l1 s pc lv (.ref a :: r) := by
  obtain ⟨h1, h2⟩ := if_of h
  obtain ⟨w, c, n, ha, hc⟩ := isK_of h1
  have k := kk _ h2
  refine ⟨k.1, k.2.1, ?_⟩
  simp only [List.mem_cons, List.not_mem_nil, or_false] at hc
  rcases hc with rfl
  · exact c_get (k := 5) T kX8 ha rfl rfl q446 (fun _ h9 => h9) d k.2.2
/-- OverFirstModel.towns -/
theorem cg_X9_81 {X : KC CS} {E : CE} {cc : ByteArray} {nL : Nat} {ret : Option FieldType} {z0 l0 z1 l1 : Nat} {s : CS} {pc : Nat} {lv : List (Nat × Value)} {r : List Value} {α : Type} {z : α} {a : Nat} {K : Option Nat → Option α} (T : cOK X E cc RX9 nL ret z0 l0 z1 l1) (h : gR s a [9] 910 K = some z) (d : decode cc pc = .ok (.getfield 81, 3)) (kk : ∀ v, K v = some z → cW X z1 l1 s (pc + 3) lv (va_rf v :: r)) : cW X z1 l1 s pc lv (.ref a :: r) := by
  obtain ⟨h1, h2⟩ := if_of h
  obtain ⟨w, c, n, ha, hc⟩ := isK_of h1
  have k := kk _ h2
  refine ⟨k.1, k.2.1, ?_⟩
  simp only [List.mem_cons, List.not_mem_nil, or_false] at hc
  rcases hc with rfl
  · exact c_get (k := 10) T kX9 ha rfl rfl q1678 (fun _ h9 => h9) d k.2.2
/-- OverFirstModel.walks -/
theorem cg_X9_93 {X : KC CS} {E : CE} {cc : ByteArray} {nL : Nat} {ret : Option FieldType} {z0 l0 z1 l1 : Nat} {s : CS} {pc : Nat} {lv : List (Nat × Value)} {r : List Value} {α : Type} {z : α} {a : Nat} {K : Option Nat → Option α} (T : cOK X E cc RX9 nL ret z0 l0 z1 l1) (h : gR s a [9] 916 K = some z) (d : decode cc pc = .ok (.getfield 93, 3)) (kk : ∀ v, K v = some z → cW X z1 l1 s (pc + 3) lv (va_rf v :: r)) : cW X z1 l1 s pc lv (.ref a :: r) := by
  obtain ⟨h1, h2⟩ := if_of h
  obtain ⟨w, c, n, ha, hc⟩ := isK_of h1
  have k := kk _ h2
  refine ⟨k.1, k.2.1, ?_⟩
  simp only [List.mem_cons, List.not_mem_nil, or_false] at hc
  rcases hc with rfl
  · exact c_get (k := 16) T kX9 ha rfl rfl q1684 (fun _ h9 => h9) d k.2.2
/-- OverFirstModel.state -/
theorem cg_X9_102 {X : KC CS} {E : CE} {cc : ByteArray} {nL : Nat} {ret : Option FieldType} {z0 l0 z1 l1 : Nat} {s : CS} {pc : Nat} {lv : List (Nat × Value)} {r : List Value} {α : Type} {z : α} {a : Nat} {K : Option Nat → Option α} (T : cOK X E cc RX9 nL ret z0 l0 z1 l1) (h : gR s a [9] 919 K = some z) (d : decode cc pc = .ok (.getfield 102, 3)) (kk : ∀ v, K v = some z → cW X z1 l1 s (pc + 3) lv (va_rf v :: r)) : cW X z1 l1 s pc lv (.ref a :: r) := by
  obtain ⟨h1, h2⟩ := if_of h
  obtain ⟨w, c, n, ha, hc⟩ := isK_of h1
  have k := kk _ h2
  refine ⟨k.1, k.2.1, ?_⟩
  simp only [List.mem_cons, List.not_mem_nil, or_false] at hc
  rcases hc with rfl
  · exact c_get (k := 19) T kX9 ha rfl rfl q1687 (fun _ h9 => h9) d k.2.2
/-- OverFirstModel.isMarked -/
theorem cg_X9_105 {X : KC CS} {E : CE} {cc : ByteArray} {nL : Nat} {ret : Option FieldType} {z0 l0 z1 l1 : Nat} {s : CS} {pc : Nat} {lv : List (Nat × Value)} {r : List Value} {α : Type} {z : α} {a : Nat} {K : Option Nat → Option α} (T : cOK X E cc RX9 nL ret z0 l0 z1 l1) (h : gR s a [9] 921 K = some z) (d : decode cc pc = .ok (.getfield 105, 3)) (kk : ∀ v, K v = some z → cW X z1 l1 s (pc + 3) lv (va_rf v :: r)) : cW X z1 l1 s pc lv (.ref a :: r) := by
  obtain ⟨h1, h2⟩ := if_of h
  obtain ⟨w, c, n, ha, hc⟩ := isK_of h1
  have k := kk _ h2
  refine ⟨k.1, k.2.1, ?_⟩
  simp only [List.mem_cons, List.not_mem_nil, or_false] at hc
  rcases hc with rfl
  · exact c_get (k := 21) T kX9 ha rfl rfl q1689 (fun _ h9 => h9) d k.2.2
/-- OverFirstModel.version -/
theorem cg_X9_322 {X : KC CS} {E : CE} {cc : ByteArray} {nL : Nat} {ret : Option FieldType} {z0 l0 z1 l1 : Nat} {s : CS} {pc : Nat} {lv : List (Nat × Value)} {r : List Value} {α : Type} {z : α} {a : Nat} {K : Int32 → Option α} (T : cOK X E cc RX9 nL ret z0 l0 z1 l1) (h : gI s a [9] 922 K = some z) (d : decode cc pc = .ok (.getfield 322, 3)) (kk : ∀ v, K v = some z → cW X z1 l1 s (pc + 3) lv (.int v :: r)) : cW X z1 l1 s pc lv (.ref a :: r) := by
  obtain ⟨h1, h2⟩ := if_of h
  obtain ⟨w, c, n, ha, hc⟩ := isK_of h1
  have k := kk _ h2
  refine ⟨k.1, k.2.1, ?_⟩
  simp only [List.mem_cons, List.not_mem_nil, or_false] at hc
  rcases hc with rfl
  · exact c_get (k := 22) T kX9 ha rfl rfl q1690 (fun _ h9 => h9) d k.2.2
/-- java/util/AbstractList.modCount -/
theorem cp_J1_7 {X : KC CS} {E : CE} {cc : ByteArray} {nL : Nat} {ret : Option FieldType} {z0 l0 z1 l1 : Nat} {s : CS} {pc : Nat} {lv : List (Nat × Value)} {r : List Value} {α : Type} {z : α} {a : Nat} {v : Int32} {K : CS → Option α} (T : cOK X E cc RJ1 nL ret z0 l0 z1 l1) (h : pI s a [22] 2600 v K = some z) (d : decode cc pc = .ok (.putfield 7, 3)) (kk : ∀ s', K s' = some z → cW X z1 l1 s' (pc + 3) lv r) : cW X z1 l1 s pc lv (.int v :: .ref a :: r) := by
  obtain ⟨h1, h2⟩ := if_of h
  obtain ⟨c, n, ha, hc⟩ := isW_of h1
  have k := kk _ h2
  simp only [List.mem_cons, List.not_mem_nil, or_false] at hc
  rcases hc with rfl
  · exact c_put (k := 0) (ty := .int) (p := (0, 2600)) T kJ2 ha rfl uI_v (fun q hq => uI_o q hq) (fun b c n hb => uI_b b c n hb) rfl rfl rfl rfl q243 (fun _ h9 => h9) rfl (by decide +kernel) rfl rfl d k
/-- java/lang/Throwable.cause -/
theorem cp_J11_7 {X : KC CS} {E : CE} {cc : ByteArray} {nL : Nat} {ret : Option FieldType} {z0 l0 z1 l1 : Nat} {s : CS} {pc : Nat} {lv : List (Nat × Value)} {r : List Value} {α : Type} {z : α} {a : Nat} {v : Nat} {K : CS → Option α} (T : cOK X E cc RJ11 nL ret z0 l0 z1 l1) (h : pR s a [10] 2500 (some v) K = some z) (d : decode cc pc = .ok (.putfield 7, 3)) (kk : ∀ s', K s' = some z → cW X z1 l1 s' (pc + 3) lv r) : cW X z1 l1 s pc lv (.ref v :: .ref a :: r) := by
  obtain ⟨h1, h2⟩ := if_of h
  obtain ⟨c, n, ha, hc⟩ := isW_of h1
  have k := kk _ h2
  simp only [List.mem_cons, List.not_mem_nil, or_false] at hc
  rcases hc with rfl
  · exact c_put (k := 0) (ty := (.object "java/lang/Throwable")) (p := (2, 2500)) T kX10 ha rfl uR_v (fun q hq => uR_o q hq) (fun b c n hb => uR_b b c n hb) rfl rfl rfl rfl q790 (fun _ h9 => h9) rfl (by decide +kernel) rfl rfl d k
/-- java/lang/Throwable.cause -/
theorem cp_J11_7z {X : KC CS} {E : CE} {cc : ByteArray} {nL : Nat} {ret : Option FieldType} {z0 l0 z1 l1 : Nat} {s : CS} {pc : Nat} {lv : List (Nat × Value)} {r : List Value} {α : Type} {z : α} {a : Nat}  {K : CS → Option α} (T : cOK X E cc RJ11 nL ret z0 l0 z1 l1) (h : pR s a [10] 2500 none K = some z) (d : decode cc pc = .ok (.putfield 7, 3)) (kk : ∀ s', K s' = some z → cW X z1 l1 s' (pc + 3) lv r) : cW X z1 l1 s pc lv (.null :: .ref a :: r) := by
  obtain ⟨h1, h2⟩ := if_of h
  obtain ⟨c, n, ha, hc⟩ := isW_of h1
  have k := kk _ h2
  simp only [List.mem_cons, List.not_mem_nil, or_false] at hc
  rcases hc with rfl
  · exact c_put (k := 0) (ty := (.object "java/lang/Throwable")) (p := (2, 2500)) T kX10 ha rfl uR_v (fun q hq => uR_o q hq) (fun b c n hb => uR_b b c n hb) rfl rfl rfl rfl q790 (fun _ h9 => h9) rfl (by decide +kernel) rfl rfl d k
/-- java/lang/Throwable.cause -/
theorem cp_J11_7o {X : KC CS} {E : CE} {cc : ByteArray} {nL : Nat} {ret : Option FieldType} {z0 l0 z1 l1 : Nat} {s : CS} {pc : Nat} {lv : List (Nat × Value)} {r : List Value} {α : Type} {z : α} {a : Nat} {v : Option Nat} {K : CS → Option α} (T : cOK X E cc RJ11 nL ret z0 l0 z1 l1) (h : pR s a [10] 2500 v K = some z) (d : decode cc pc = .ok (.putfield 7, 3)) (kk : ∀ s', K s' = some z → cW X z1 l1 s' (pc + 3) lv r) : cW X z1 l1 s pc lv (va_rf v :: .ref a :: r) := by
  obtain ⟨h1, h2⟩ := if_of h
  obtain ⟨c, n, ha, hc⟩ := isW_of h1
  have k := kk _ h2
  simp only [List.mem_cons, List.not_mem_nil, or_false] at hc
  rcases hc with rfl
  · exact c_put (k := 0) (ty := (.object "java/lang/Throwable")) (p := (2, 2500)) T kX10 ha rfl uR_v (fun q hq => uR_o q hq) (fun b c n hb => uR_b b c n hb) rfl rfl rfl rfl q790 (fun _ h9 => h9) rfl (by decide +kernel) (by cases v <;> rfl) (by cases v <;> rfl) d k
/-- java/lang/Throwable.stackTrace -/
theorem cp_J11_17 {X : KC CS} {E : CE} {cc : ByteArray} {nL : Nat} {ret : Option FieldType} {z0 l0 z1 l1 : Nat} {s : CS} {pc : Nat} {lv : List (Nat × Value)} {r : List Value} {α : Type} {z : α} {a : Nat} {v : Nat} {K : CS → Option α} (T : cOK X E cc RJ11 nL ret z0 l0 z1 l1) (h : pR s a [10] 2501 (some v) K = some z) (d : decode cc pc = .ok (.putfield 17, 3)) (kk : ∀ s', K s' = some z → cW X z1 l1 s' (pc + 3) lv r) : cW X z1 l1 s pc lv (.ref v :: .ref a :: r) := by
  obtain ⟨h1, h2⟩ := if_of h
  obtain ⟨c, n, ha, hc⟩ := isW_of h1
  have k := kk _ h2
  simp only [List.mem_cons, List.not_mem_nil, or_false] at hc
  rcases hc with rfl
  · exact c_put (k := 1) (ty := (.array (.object "java/lang/StackTraceElement"))) (p := (2, 2501)) T kX10 ha rfl uR_v (fun q hq => uR_o q hq) (fun b c n hb => uR_b b c n hb) rfl rfl rfl rfl q791 (fun _ h9 => h9) rfl (by decide +kernel) rfl rfl d k
/-- java/lang/Throwable.stackTrace -/
theorem cp_J11_17z {X : KC CS} {E : CE} {cc : ByteArray} {nL : Nat} {ret : Option FieldType} {z0 l0 z1 l1 : Nat} {s : CS} {pc : Nat} {lv : List (Nat × Value)} {r : List Value} {α : Type} {z : α} {a : Nat}  {K : CS → Option α} (T : cOK X E cc RJ11 nL ret z0 l0 z1 l1) (h : pR s a [10] 2501 none K = some z) (d : decode cc pc = .ok (.putfield 17, 3)) (kk : ∀ s', K s' = some z → cW X z1 l1 s' (pc + 3) lv r) : cW X z1 l1 s pc lv (.null :: .ref a :: r) := by
  obtain ⟨h1, h2⟩ := if_of h
  obtain ⟨c, n, ha, hc⟩ := isW_of h1
  have k := kk _ h2
  simp only [List.mem_cons, List.not_mem_nil, or_false] at hc
  rcases hc with rfl
  · exact c_put (k := 1) (ty := (.array (.object "java/lang/StackTraceElement"))) (p := (2, 2501)) T kX10 ha rfl uR_v (fun q hq => uR_o q hq) (fun b c n hb => uR_b b c n hb) rfl rfl rfl rfl q791 (fun _ h9 => h9) rfl (by decide +kernel) rfl rfl d k
/-- java/lang/Throwable.stackTrace -/
theorem cp_J11_17o {X : KC CS} {E : CE} {cc : ByteArray} {nL : Nat} {ret : Option FieldType} {z0 l0 z1 l1 : Nat} {s : CS} {pc : Nat} {lv : List (Nat × Value)} {r : List Value} {α : Type} {z : α} {a : Nat} {v : Option Nat} {K : CS → Option α} (T : cOK X E cc RJ11 nL ret z0 l0 z1 l1) (h : pR s a [10] 2501 v K = some z) (d : decode cc pc = .ok (.putfield 17, 3)) (kk : ∀ s', K s' = some z → cW X z1 l1 s' (pc + 3) lv r) : cW X z1 l1 s pc lv (va_rf v :: .ref a :: r) := by
  obtain ⟨h1, h2⟩ := if_of h
  obtain ⟨c, n, ha, hc⟩ := isW_of h1
  have k := kk _ h2
  simp only [List.mem_cons, List.not_mem_nil, or_false] at hc
  rcases hc with rfl
  · exact c_put (k := 1) (ty := (.array (.object "java/lang/StackTraceElement"))) (p := (2, 2501)) T kX10 ha rfl uR_v (fun q hq => uR_o q hq) (fun b c n hb => uR_b b c n hb) rfl rfl rfl rfl q791 (fun _ h9 => h9) rfl (by decide +kernel) (by cases v <;> rfl) (by cases v <;> rfl) d k
/-- java/lang/Throwable.suppressedExceptions -/
theorem cp_J11_24 {X : KC CS} {E : CE} {cc : ByteArray} {nL : Nat} {ret : Option FieldType} {z0 l0 z1 l1 : Nat} {s : CS} {pc : Nat} {lv : List (Nat × Value)} {r : List Value} {α : Type} {z : α} {a : Nat} {v : Nat} {K : CS → Option α} (T : cOK X E cc RJ11 nL ret z0 l0 z1 l1) (h : pR s a [10] 2502 (some v) K = some z) (d : decode cc pc = .ok (.putfield 24, 3)) (kk : ∀ s', K s' = some z → cW X z1 l1 s' (pc + 3) lv r) : cW X z1 l1 s pc lv (.ref v :: .ref a :: r) := by
  obtain ⟨h1, h2⟩ := if_of h
  obtain ⟨c, n, ha, hc⟩ := isW_of h1
  have k := kk _ h2
  simp only [List.mem_cons, List.not_mem_nil, or_false] at hc
  rcases hc with rfl
  · exact c_put (k := 2) (ty := (.object "java/util/List")) (p := (2, 2502)) T kX10 ha rfl uR_v (fun q hq => uR_o q hq) (fun b c n hb => uR_b b c n hb) rfl rfl rfl rfl q792 (fun _ h9 => h9) rfl (by decide +kernel) rfl rfl d k
/-- java/lang/Throwable.suppressedExceptions -/
theorem cp_J11_24z {X : KC CS} {E : CE} {cc : ByteArray} {nL : Nat} {ret : Option FieldType} {z0 l0 z1 l1 : Nat} {s : CS} {pc : Nat} {lv : List (Nat × Value)} {r : List Value} {α : Type} {z : α} {a : Nat}  {K : CS → Option α} (T : cOK X E cc RJ11 nL ret z0 l0 z1 l1) (h : pR s a [10] 2502 none K = some z) (d : decode cc pc = .ok (.putfield 24, 3)) (kk : ∀ s', K s' = some z → cW X z1 l1 s' (pc + 3) lv r) : cW X z1 l1 s pc lv (.null :: .ref a :: r) := by
  obtain ⟨h1, h2⟩ := if_of h
  obtain ⟨c, n, ha, hc⟩ := isW_of h1
  have k := kk _ h2
  simp only [List.mem_cons, List.not_mem_nil, or_false] at hc
  rcases hc with rfl
  · exact c_put (k := 2) (ty := (.object "java/util/List")) (p := (2, 2502)) T kX10 ha rfl uR_v (fun q hq => uR_o q hq) (fun b c n hb => uR_b b c n hb) rfl rfl rfl rfl q792 (fun _ h9 => h9) rfl (by decide +kernel) rfl rfl d k
/-- java/lang/Throwable.suppressedExceptions -/
theorem cp_J11_24o {X : KC CS} {E : CE} {cc : ByteArray} {nL : Nat} {ret : Option FieldType} {z0 l0 z1 l1 : Nat} {s : CS} {pc : Nat} {lv : List (Nat × Value)} {r : List Value} {α : Type} {z : α} {a : Nat} {v : Option Nat} {K : CS → Option α} (T : cOK X E cc RJ11 nL ret z0 l0 z1 l1) (h : pR s a [10] 2502 v K = some z) (d : decode cc pc = .ok (.putfield 24, 3)) (kk : ∀ s', K s' = some z → cW X z1 l1 s' (pc + 3) lv r) : cW X z1 l1 s pc lv (va_rf v :: .ref a :: r) := by
  obtain ⟨h1, h2⟩ := if_of h
  obtain ⟨c, n, ha, hc⟩ := isW_of h1
  have k := kk _ h2
  simp only [List.mem_cons, List.not_mem_nil, or_false] at hc
  rcases hc with rfl
  · exact c_put (k := 2) (ty := (.object "java/util/List")) (p := (2, 2502)) T kX10 ha rfl uR_v (fun q hq => uR_o q hq) (fun b c n hb => uR_b b c n hb) rfl rfl rfl rfl q792 (fun _ h9 => h9) rfl (by decide +kernel) (by cases v <;> rfl) (by cases v <;> rfl) d k
/-- java/lang/Throwable.detailMessage -/
theorem cp_J11_31 {X : KC CS} {E : CE} {cc : ByteArray} {nL : Nat} {ret : Option FieldType} {z0 l0 z1 l1 : Nat} {s : CS} {pc : Nat} {lv : List (Nat × Value)} {r : List Value} {α : Type} {z : α} {a : Nat} {v : Nat} {K : CS → Option α} (T : cOK X E cc RJ11 nL ret z0 l0 z1 l1) (h : pR s a [10] 2503 (some v) K = some z) (d : decode cc pc = .ok (.putfield 31, 3)) (kk : ∀ s', K s' = some z → cW X z1 l1 s' (pc + 3) lv r) : cW X z1 l1 s pc lv (.ref v :: .ref a :: r) := by
  obtain ⟨h1, h2⟩ := if_of h
  obtain ⟨c, n, ha, hc⟩ := isW_of h1
  have k := kk _ h2
  simp only [List.mem_cons, List.not_mem_nil, or_false] at hc
  rcases hc with rfl
  · exact c_put (k := 3) (ty := (.object "java/lang/String")) (p := (2, 2503)) T kX10 ha rfl uR_v (fun q hq => uR_o q hq) (fun b c n hb => uR_b b c n hb) rfl rfl rfl rfl q789 (fun _ h9 => h9) rfl (by decide +kernel) rfl rfl d k
/-- java/lang/Throwable.detailMessage -/
theorem cp_J11_31z {X : KC CS} {E : CE} {cc : ByteArray} {nL : Nat} {ret : Option FieldType} {z0 l0 z1 l1 : Nat} {s : CS} {pc : Nat} {lv : List (Nat × Value)} {r : List Value} {α : Type} {z : α} {a : Nat}  {K : CS → Option α} (T : cOK X E cc RJ11 nL ret z0 l0 z1 l1) (h : pR s a [10] 2503 none K = some z) (d : decode cc pc = .ok (.putfield 31, 3)) (kk : ∀ s', K s' = some z → cW X z1 l1 s' (pc + 3) lv r) : cW X z1 l1 s pc lv (.null :: .ref a :: r) := by
  obtain ⟨h1, h2⟩ := if_of h
  obtain ⟨c, n, ha, hc⟩ := isW_of h1
  have k := kk _ h2
  simp only [List.mem_cons, List.not_mem_nil, or_false] at hc
  rcases hc with rfl
  · exact c_put (k := 3) (ty := (.object "java/lang/String")) (p := (2, 2503)) T kX10 ha rfl uR_v (fun q hq => uR_o q hq) (fun b c n hb => uR_b b c n hb) rfl rfl rfl rfl q789 (fun _ h9 => h9) rfl (by decide +kernel) rfl rfl d k
/-- java/lang/Throwable.detailMessage -/
theorem cp_J11_31o {X : KC CS} {E : CE} {cc : ByteArray} {nL : Nat} {ret : Option FieldType} {z0 l0 z1 l1 : Nat} {s : CS} {pc : Nat} {lv : List (Nat × Value)} {r : List Value} {α : Type} {z : α} {a : Nat} {v : Option Nat} {K : CS → Option α} (T : cOK X E cc RJ11 nL ret z0 l0 z1 l1) (h : pR s a [10] 2503 v K = some z) (d : decode cc pc = .ok (.putfield 31, 3)) (kk : ∀ s', K s' = some z → cW X z1 l1 s' (pc + 3) lv r) : cW X z1 l1 s pc lv (va_rf v :: .ref a :: r) := by
  obtain ⟨h1, h2⟩ := if_of h
  obtain ⟨c, n, ha, hc⟩ := isW_of h1
  have k := kk _ h2
  simp only [List.mem_cons, List.not_mem_nil, or_false] at hc
  rcases hc with rfl
  · exact c_put (k := 3) (ty := (.object "java/lang/String")) (p := (2, 2503)) T kX10 ha rfl uR_v (fun q hq => uR_o q hq) (fun b c n hb => uR_b b c n hb) rfl rfl rfl rfl q789 (fun _ h9 => h9) rfl (by decide +kernel) (by cases v <;> rfl) (by cases v <;> rfl) d k
/-- java/lang/AbstractStringBuilder.value -/
theorem cp_J14_15 {X : KC CS} {E : CE} {cc : ByteArray} {nL : Nat} {ret : Option FieldType} {z0 l0 z1 l1 : Nat} {s : CS} {pc : Nat} {lv : List (Nat × Value)} {r : List Value} {α : Type} {z : α} {a : Nat} {v : Nat} {K : CS → Option α} (T : cOK X E cc RJ14 nL ret z0 l0 z1 l1) (h : pR s a [24] 2400 (some v) K = some z) (d : decode cc pc = .ok (.putfield 15, 3)) (kk : ∀ s', K s' = some z → cW X z1 l1 s' (pc + 3) lv r) : cW X z1 l1 s pc lv (.ref v :: .ref a :: r) := by
  obtain ⟨h1, h2⟩ := if_of h
  obtain ⟨c, n, ha, hc⟩ := isW_of h1
  have k := kk _ h2
  simp only [List.mem_cons, List.not_mem_nil, or_false] at hc
  rcases hc with rfl
  · exact c_put (k := 0) (ty := (.array .byte)) (p := (2, 2400)) T kJ15 ha rfl uR_v (fun q hq => uR_o q hq) (fun b c n hb => uR_b b c n hb) rfl rfl rfl rfl q938 (fun _ h9 => h9) rfl (by decide +kernel) rfl rfl d k
/-- java/lang/AbstractStringBuilder.value -/
theorem cp_J14_15z {X : KC CS} {E : CE} {cc : ByteArray} {nL : Nat} {ret : Option FieldType} {z0 l0 z1 l1 : Nat} {s : CS} {pc : Nat} {lv : List (Nat × Value)} {r : List Value} {α : Type} {z : α} {a : Nat}  {K : CS → Option α} (T : cOK X E cc RJ14 nL ret z0 l0 z1 l1) (h : pR s a [24] 2400 none K = some z) (d : decode cc pc = .ok (.putfield 15, 3)) (kk : ∀ s', K s' = some z → cW X z1 l1 s' (pc + 3) lv r) : cW X z1 l1 s pc lv (.null :: .ref a :: r) := by
  obtain ⟨h1, h2⟩ := if_of h
  obtain ⟨c, n, ha, hc⟩ := isW_of h1
  have k := kk _ h2
  simp only [List.mem_cons, List.not_mem_nil, or_false] at hc
  rcases hc with rfl
  · exact c_put (k := 0) (ty := (.array .byte)) (p := (2, 2400)) T kJ15 ha rfl uR_v (fun q hq => uR_o q hq) (fun b c n hb => uR_b b c n hb) rfl rfl rfl rfl q938 (fun _ h9 => h9) rfl (by decide +kernel) rfl rfl d k
/-- java/lang/AbstractStringBuilder.value -/
theorem cp_J14_15o {X : KC CS} {E : CE} {cc : ByteArray} {nL : Nat} {ret : Option FieldType} {z0 l0 z1 l1 : Nat} {s : CS} {pc : Nat} {lv : List (Nat × Value)} {r : List Value} {α : Type} {z : α} {a : Nat} {v : Option Nat} {K : CS → Option α} (T : cOK X E cc RJ14 nL ret z0 l0 z1 l1) (h : pR s a [24] 2400 v K = some z) (d : decode cc pc = .ok (.putfield 15, 3)) (kk : ∀ s', K s' = some z → cW X z1 l1 s' (pc + 3) lv r) : cW X z1 l1 s pc lv (va_rf v :: .ref a :: r) := by
  obtain ⟨h1, h2⟩ := if_of h
  obtain ⟨c, n, ha, hc⟩ := isW_of h1
  have k := kk _ h2
  simp only [List.mem_cons, List.not_mem_nil, or_false] at hc
  rcases hc with rfl
  · exact c_put (k := 0) (ty := (.array .byte)) (p := (2, 2400)) T kJ15 ha rfl uR_v (fun q hq => uR_o q hq) (fun b c n hb => uR_b b c n hb) rfl rfl rfl rfl q938 (fun _ h9 => h9) rfl (by decide +kernel) (by cases v <;> rfl) (by cases v <;> rfl) d k
/-- java/lang/AbstractStringBuilder.coder -/
theorem cp_J14_22 {X : KC CS} {E : CE} {cc : ByteArray} {nL : Nat} {ret : Option FieldType} {z0 l0 z1 l1 : Nat} {s : CS} {pc : Nat} {lv : List (Nat × Value)} {r : List Value} {α : Type} {z : α} {a : Nat} {v : Int32} {K : CS → Option α} (T : cOK X E cc RJ14 nL ret z0 l0 z1 l1) (h : gd (isyb v) (pI s a [24] 2401 v K) = some z) (d : decode cc pc = .ok (.putfield 22, 3)) (kk : ∀ s', K s' = some z → cW X z1 l1 s' (pc + 3) lv r) : cW X z1 l1 s pc lv (.int v :: .ref a :: r) := by
  obtain ⟨hb, h⟩ := gd_of h
  obtain ⟨h1, h2⟩ := if_of h
  obtain ⟨c, n, ha, hc⟩ := isW_of h1
  have k := kk _ h2
  simp only [List.mem_cons, List.not_mem_nil, or_false] at hc
  rcases hc with rfl
  · exact c_put (k := 1) (ty := .byte) (p := (0, 2401)) T kJ15 ha rfl uI_v (fun q hq => uI_o q hq) (fun b c n hb => uI_b b c n hb) rfl rfl rfl rfl q939 (fun _ h9 => h9) rfl (by decide +kernel) (isyb_nar hb) (isyb_fit hb) d k
/-- java/lang/AbstractStringBuilder.count -/
theorem cp_J14_79 {X : KC CS} {E : CE} {cc : ByteArray} {nL : Nat} {ret : Option FieldType} {z0 l0 z1 l1 : Nat} {s : CS} {pc : Nat} {lv : List (Nat × Value)} {r : List Value} {α : Type} {z : α} {a : Nat} {v : Int32} {K : CS → Option α} (T : cOK X E cc RJ14 nL ret z0 l0 z1 l1) (h : pI s a [24] 2403 v K = some z) (d : decode cc pc = .ok (.putfield 79, 3)) (kk : ∀ s', K s' = some z → cW X z1 l1 s' (pc + 3) lv r) : cW X z1 l1 s pc lv (.int v :: .ref a :: r) := by
  obtain ⟨h1, h2⟩ := if_of h
  obtain ⟨c, n, ha, hc⟩ := isW_of h1
  have k := kk _ h2
  simp only [List.mem_cons, List.not_mem_nil, or_false] at hc
  rcases hc with rfl
  · exact c_put (k := 3) (ty := .int) (p := (0, 2403)) T kJ15 ha rfl uI_v (fun q hq => uI_o q hq) (fun b c n hb => uI_b b c n hb) rfl rfl rfl rfl q941 (fun _ h9 => h9) rfl (by decide +kernel) rfl rfl d k
/-- java/util/ArrayList.elementData -/
theorem cp_J2_9 {X : KC CS} {E : CE} {cc : ByteArray} {nL : Nat} {ret : Option FieldType} {z0 l0 z1 l1 : Nat} {s : CS} {pc : Nat} {lv : List (Nat × Value)} {r : List Value} {α : Type} {z : α} {a : Nat} {v : Nat} {K : CS → Option α} (T : cOK X E cc RJ2 nL ret z0 l0 z1 l1) (h : pR s a [22] 2200 (some v) K = some z) (d : decode cc pc = .ok (.putfield 9, 3)) (kk : ∀ s', K s' = some z → cW X z1 l1 s' (pc + 3) lv r) : cW X z1 l1 s pc lv (.ref v :: .ref a :: r) := by
  obtain ⟨h1, h2⟩ := if_of h
  obtain ⟨c, n, ha, hc⟩ := isW_of h1
  have k := kk _ h2
  simp only [List.mem_cons, List.not_mem_nil, or_false] at hc
  rcases hc with rfl
  · exact c_put (k := 1) (ty := (.array (.object "java/lang/Object"))) (p := (2, 2200)) T kJ2 ha rfl uR_v (fun q hq => uR_o q hq) (fun b c n hb => uR_b b c n hb) rfl rfl rfl rfl q241 (fun _ h9 => h9) rfl (by decide +kernel) rfl rfl d k
/-- java/util/ArrayList.elementData -/
theorem cp_J2_9z {X : KC CS} {E : CE} {cc : ByteArray} {nL : Nat} {ret : Option FieldType} {z0 l0 z1 l1 : Nat} {s : CS} {pc : Nat} {lv : List (Nat × Value)} {r : List Value} {α : Type} {z : α} {a : Nat}  {K : CS → Option α} (T : cOK X E cc RJ2 nL ret z0 l0 z1 l1) (h : pR s a [22] 2200 none K = some z) (d : decode cc pc = .ok (.putfield 9, 3)) (kk : ∀ s', K s' = some z → cW X z1 l1 s' (pc + 3) lv r) : cW X z1 l1 s pc lv (.null :: .ref a :: r) := by
  obtain ⟨h1, h2⟩ := if_of h
  obtain ⟨c, n, ha, hc⟩ := isW_of h1
  have k := kk _ h2
  simp only [List.mem_cons, List.not_mem_nil, or_false] at hc
  rcases hc with rfl
  · exact c_put (k := 1) (ty := (.array (.object "java/lang/Object"))) (p := (2, 2200)) T kJ2 ha rfl uR_v (fun q hq => uR_o q hq) (fun b c n hb => uR_b b c n hb) rfl rfl rfl rfl q241 (fun _ h9 => h9) rfl (by decide +kernel) rfl rfl d k
/-- java/util/ArrayList.elementData -/
theorem cp_J2_9o {X : KC CS} {E : CE} {cc : ByteArray} {nL : Nat} {ret : Option FieldType} {z0 l0 z1 l1 : Nat} {s : CS} {pc : Nat} {lv : List (Nat × Value)} {r : List Value} {α : Type} {z : α} {a : Nat} {v : Option Nat} {K : CS → Option α} (T : cOK X E cc RJ2 nL ret z0 l0 z1 l1) (h : pR s a [22] 2200 v K = some z) (d : decode cc pc = .ok (.putfield 9, 3)) (kk : ∀ s', K s' = some z → cW X z1 l1 s' (pc + 3) lv r) : cW X z1 l1 s pc lv (va_rf v :: .ref a :: r) := by
  obtain ⟨h1, h2⟩ := if_of h
  obtain ⟨c, n, ha, hc⟩ := isW_of h1
  have k := kk _ h2
  simp only [List.mem_cons, List.not_mem_nil, or_false] at hc
  rcases hc with rfl
  · exact c_put (k := 1) (ty := (.array (.object "java/lang/Object"))) (p := (2, 2200)) T kJ2 ha rfl uR_v (fun q hq => uR_o q hq) (fun b c n hb => uR_b b c n hb) rfl rfl rfl rfl q241 (fun _ h9 => h9) rfl (by decide +kernel) (by cases v <;> rfl) (by cases v <;> rfl) d k
/-- java/util/ArrayList.size -/
theorem cp_J2_48 {X : KC CS} {E : CE} {cc : ByteArray} {nL : Nat} {ret : Option FieldType} {z0 l0 z1 l1 : Nat} {s : CS} {pc : Nat} {lv : List (Nat × Value)} {r : List Value} {α : Type} {z : α} {a : Nat} {v : Int32} {K : CS → Option α} (T : cOK X E cc RJ2 nL ret z0 l0 z1 l1) (h : pI s a [22] 2201 v K = some z) (d : decode cc pc = .ok (.putfield 48, 3)) (kk : ∀ s', K s' = some z → cW X z1 l1 s' (pc + 3) lv r) : cW X z1 l1 s pc lv (.int v :: .ref a :: r) := by
  obtain ⟨h1, h2⟩ := if_of h
  obtain ⟨c, n, ha, hc⟩ := isW_of h1
  have k := kk _ h2
  simp only [List.mem_cons, List.not_mem_nil, or_false] at hc
  rcases hc with rfl
  · exact c_put (k := 2) (ty := .int) (p := (0, 2201)) T kJ2 ha rfl uI_v (fun q hq => uI_o q hq) (fun b c n hb => uI_b b c n hb) rfl rfl rfl rfl q242 (fun _ h9 => h9) rfl (by decide +kernel) rfl rfl d k
/-- java/util/ArrayList.modCount -/
theorem cp_J2_63 {X : KC CS} {E : CE} {cc : ByteArray} {nL : Nat} {ret : Option FieldType} {z0 l0 z1 l1 : Nat} {s : CS} {pc : Nat} {lv : List (Nat × Value)} {r : List Value} {α : Type} {z : α} {a : Nat} {v : Int32} {K : CS → Option α} (T : cOK X E cc RJ2 nL ret z0 l0 z1 l1) (h : pI s a [22] 2600 v K = some z) (d : decode cc pc = .ok (.putfield 63, 3)) (kk : ∀ s', K s' = some z → cW X z1 l1 s' (pc + 3) lv r) : cW X z1 l1 s pc lv (.int v :: .ref a :: r) := by
  obtain ⟨h1, h2⟩ := if_of h
  obtain ⟨c, n, ha, hc⟩ := isW_of h1
  have k := kk _ h2
  simp only [List.mem_cons, List.not_mem_nil, or_false] at hc
  rcases hc with rfl
  · exact c_put (k := 0) (ty := .int) (p := (0, 2600)) T kJ2 ha rfl uI_v (fun q hq => uI_o q hq) (fun b c n hb => uI_b b c n hb) rfl rfl rfl rfl q244 (fun x hx => u_same (T.1.2.2.2.2 _ q245) x hx) rfl (by decide +kernel) rfl rfl d k
/-- java/lang/String.value -/
theorem cp_J6_9 {X : KC CS} {E : CE} {cc : ByteArray} {nL : Nat} {ret : Option FieldType} {z0 l0 z1 l1 : Nat} {s : CS} {pc : Nat} {lv : List (Nat × Value)} {r : List Value} {α : Type} {z : α} {a : Nat} {v : Nat} {K : CS → Option α} (T : cOK X E cc RJ6 nL ret z0 l0 z1 l1) (hin : X.2.1.2.2.2.1.name = "<init>") (h : pR s a [23, 25] 2300 (some v) K = some z) (d : decode cc pc = .ok (.putfield 9, 3)) (kk : ∀ s', K s' = some z → cW X z1 l1 s' (pc + 3) lv r) : cW X z1 l1 s pc lv (.ref v :: .ref a :: r) := by
  obtain ⟨h1, h2⟩ := if_of h
  obtain ⟨c, n, ha, hc⟩ := isW_of h1
  have k := kk _ h2
  simp only [List.mem_cons, List.not_mem_nil, or_false] at hc
  rcases hc with rfl | rfl
  · exact c_putF (k := 0) (ty := (.array .byte)) (p := (2, 2300)) T kJ6 ha rfl uR_v (fun q hq => uR_o q hq) (fun b c n hb => uR_b b c n hb) rfl rfl rfl rfl q1057 (fun _ h9 => h9) rfl hin rfl (by decide +kernel) rfl rfl d k
  · exact c_putF (k := 0) (ty := (.array .byte)) (p := (2, 2300)) T kJ6c ha rfl uR_v (fun q hq => uR_o q hq) (fun b c n hb => uR_b b c n hb) rfl rfl rfl rfl q1057 (fun _ h9 => h9) rfl hin rfl (by decide +kernel) rfl rfl d k
/-- java/lang/String.value -/
theorem cp_J6_9z {X : KC CS} {E : CE} {cc : ByteArray} {nL : Nat} {ret : Option FieldType} {z0 l0 z1 l1 : Nat} {s : CS} {pc : Nat} {lv : List (Nat × Value)} {r : List Value} {α : Type} {z : α} {a : Nat}  {K : CS → Option α} (T : cOK X E cc RJ6 nL ret z0 l0 z1 l1) (hin : X.2.1.2.2.2.1.name = "<init>") (h : pR s a [23, 25] 2300 none K = some z) (d : decode cc pc = .ok (.putfield 9, 3)) (kk : ∀ s', K s' = some z → cW X z1 l1 s' (pc + 3) lv r) : cW X z1 l1 s pc lv (.null :: .ref a :: r) := by
  obtain ⟨h1, h2⟩ := if_of h
  obtain ⟨c, n, ha, hc⟩ := isW_of h1
  have k := kk _ h2
  simp only [List.mem_cons, List.not_mem_nil, or_false] at hc
  rcases hc with rfl | rfl
  · exact c_putF (k := 0) (ty := (.array .byte)) (p := (2, 2300)) T kJ6 ha rfl uR_v (fun q hq => uR_o q hq) (fun b c n hb => uR_b b c n hb) rfl rfl rfl rfl q1057 (fun _ h9 => h9) rfl hin rfl (by decide +kernel) rfl rfl d k
  · exact c_putF (k := 0) (ty := (.array .byte)) (p := (2, 2300)) T kJ6c ha rfl uR_v (fun q hq => uR_o q hq) (fun b c n hb => uR_b b c n hb) rfl rfl rfl rfl q1057 (fun _ h9 => h9) rfl hin rfl (by decide +kernel) rfl rfl d k
/-- java/lang/String.value -/
theorem cp_J6_9o {X : KC CS} {E : CE} {cc : ByteArray} {nL : Nat} {ret : Option FieldType} {z0 l0 z1 l1 : Nat} {s : CS} {pc : Nat} {lv : List (Nat × Value)} {r : List Value} {α : Type} {z : α} {a : Nat} {v : Option Nat} {K : CS → Option α} (T : cOK X E cc RJ6 nL ret z0 l0 z1 l1) (hin : X.2.1.2.2.2.1.name = "<init>") (h : pR s a [23, 25] 2300 v K = some z) (d : decode cc pc = .ok (.putfield 9, 3)) (kk : ∀ s', K s' = some z → cW X z1 l1 s' (pc + 3) lv r) : cW X z1 l1 s pc lv (va_rf v :: .ref a :: r) := by
  obtain ⟨h1, h2⟩ := if_of h
  obtain ⟨c, n, ha, hc⟩ := isW_of h1
  have k := kk _ h2
  simp only [List.mem_cons, List.not_mem_nil, or_false] at hc
  rcases hc with rfl | rfl
  · exact c_putF (k := 0) (ty := (.array .byte)) (p := (2, 2300)) T kJ6 ha rfl uR_v (fun q hq => uR_o q hq) (fun b c n hb => uR_b b c n hb) rfl rfl rfl rfl q1057 (fun _ h9 => h9) rfl hin rfl (by decide +kernel) (by cases v <;> rfl) (by cases v <;> rfl) d k
  · exact c_putF (k := 0) (ty := (.array .byte)) (p := (2, 2300)) T kJ6c ha rfl uR_v (fun q hq => uR_o q hq) (fun b c n hb => uR_b b c n hb) rfl rfl rfl rfl q1057 (fun _ h9 => h9) rfl hin rfl (by decide +kernel) (by cases v <;> rfl) (by cases v <;> rfl) d k
/-- java/lang/String.coder -/
theorem cp_J6_15 {X : KC CS} {E : CE} {cc : ByteArray} {nL : Nat} {ret : Option FieldType} {z0 l0 z1 l1 : Nat} {s : CS} {pc : Nat} {lv : List (Nat × Value)} {r : List Value} {α : Type} {z : α} {a : Nat} {v : Int32} {K : CS → Option α} (T : cOK X E cc RJ6 nL ret z0 l0 z1 l1) (hin : X.2.1.2.2.2.1.name = "<init>") (h : gd (isyb v) (pI s a [23, 25] 2301 v K) = some z) (d : decode cc pc = .ok (.putfield 15, 3)) (kk : ∀ s', K s' = some z → cW X z1 l1 s' (pc + 3) lv r) : cW X z1 l1 s pc lv (.int v :: .ref a :: r) := by
  obtain ⟨hb, h⟩ := gd_of h
  obtain ⟨h1, h2⟩ := if_of h
  obtain ⟨c, n, ha, hc⟩ := isW_of h1
  have k := kk _ h2
  simp only [List.mem_cons, List.not_mem_nil, or_false] at hc
  rcases hc with rfl | rfl
  · exact c_putF (k := 1) (ty := .byte) (p := (0, 2301)) T kJ6 ha rfl uI_v (fun q hq => uI_o q hq) (fun b c n hb => uI_b b c n hb) rfl rfl rfl rfl q1058 (fun _ h9 => h9) rfl hin rfl (by decide +kernel) (isyb_nar hb) (isyb_fit hb) d k
  · exact c_putF (k := 1) (ty := .byte) (p := (0, 2301)) T kJ6c ha rfl uI_v (fun q hq => uI_o q hq) (fun b c n hb => uI_b b c n hb) rfl rfl rfl rfl q1058 (fun _ h9 => h9) rfl hin rfl (by decide +kernel) (isyb_nar hb) (isyb_fit hb) d k
/-- OverFirst.tape -/
theorem cp_X0_21 {X : KC CS} {E : CE} {cc : ByteArray} {nL : Nat} {ret : Option FieldType} {z0 l0 z1 l1 : Nat} {s : CS} {pc : Nat} {lv : List (Nat × Value)} {r : List Value} {α : Type} {z : α} {a : Nat} {v : Nat} {K : CS → Option α} (T : cOK X E cc RX0 nL ret z0 l0 z1 l1) (hin : X.2.1.2.2.2.1.name = "<init>") (h : pR s a [0] 0 (some v) K = some z) (d : decode cc pc = .ok (.putfield 21, 3)) (kk : ∀ s', K s' = some z → cW X z1 l1 s' (pc + 3) lv r) : cW X z1 l1 s pc lv (.ref v :: .ref a :: r) := by
  obtain ⟨h1, h2⟩ := if_of h
  obtain ⟨c, n, ha, hc⟩ := isW_of h1
  have k := kk _ h2
  simp only [List.mem_cons, List.not_mem_nil, or_false] at hc
  rcases hc with rfl
  · exact c_putF (k := 0) (ty := (.array .byte)) (p := (2, 0)) T kX0 ha rfl uR_v (fun q hq => uR_o q hq) (fun b c n hb => uR_b b c n hb) rfl rfl rfl rfl q490 (fun _ h9 => h9) rfl hin rfl (by decide +kernel) rfl rfl d k
/-- OverFirst.tape -/
theorem cp_X0_21z {X : KC CS} {E : CE} {cc : ByteArray} {nL : Nat} {ret : Option FieldType} {z0 l0 z1 l1 : Nat} {s : CS} {pc : Nat} {lv : List (Nat × Value)} {r : List Value} {α : Type} {z : α} {a : Nat}  {K : CS → Option α} (T : cOK X E cc RX0 nL ret z0 l0 z1 l1) (hin : X.2.1.2.2.2.1.name = "<init>") (h : pR s a [0] 0 none K = some z) (d : decode cc pc = .ok (.putfield 21, 3)) (kk : ∀ s', K s' = some z → cW X z1 l1 s' (pc + 3) lv r) : cW X z1 l1 s pc lv (.null :: .ref a :: r) := by
  obtain ⟨h1, h2⟩ := if_of h
  obtain ⟨c, n, ha, hc⟩ := isW_of h1
  have k := kk _ h2
  simp only [List.mem_cons, List.not_mem_nil, or_false] at hc
  rcases hc with rfl
  · exact c_putF (k := 0) (ty := (.array .byte)) (p := (2, 0)) T kX0 ha rfl uR_v (fun q hq => uR_o q hq) (fun b c n hb => uR_b b c n hb) rfl rfl rfl rfl q490 (fun _ h9 => h9) rfl hin rfl (by decide +kernel) rfl rfl d k
/-- OverFirst.tape -/
theorem cp_X0_21o {X : KC CS} {E : CE} {cc : ByteArray} {nL : Nat} {ret : Option FieldType} {z0 l0 z1 l1 : Nat} {s : CS} {pc : Nat} {lv : List (Nat × Value)} {r : List Value} {α : Type} {z : α} {a : Nat} {v : Option Nat} {K : CS → Option α} (T : cOK X E cc RX0 nL ret z0 l0 z1 l1) (hin : X.2.1.2.2.2.1.name = "<init>") (h : pR s a [0] 0 v K = some z) (d : decode cc pc = .ok (.putfield 21, 3)) (kk : ∀ s', K s' = some z → cW X z1 l1 s' (pc + 3) lv r) : cW X z1 l1 s pc lv (va_rf v :: .ref a :: r) := by
  obtain ⟨h1, h2⟩ := if_of h
  obtain ⟨c, n, ha, hc⟩ := isW_of h1
  have k := kk _ h2
  simp only [List.mem_cons, List.not_mem_nil, or_false] at hc
  rcases hc with rfl
  · exact c_putF (k := 0) (ty := (.array .byte)) (p := (2, 0)) T kX0 ha rfl uR_v (fun q hq => uR_o q hq) (fun b c n hb => uR_b b c n hb) rfl rfl rfl rfl q490 (fun _ h9 => h9) rfl hin rfl (by decide +kernel) (by cases v <;> rfl) (by cases v <;> rfl) d k
/-- OverFirst.reader -/
theorem cp_X0_28 {X : KC CS} {E : CE} {cc : ByteArray} {nL : Nat} {ret : Option FieldType} {z0 l0 z1 l1 : Nat} {s : CS} {pc : Nat} {lv : List (Nat × Value)} {r : List Value} {α : Type} {z : α} {a : Nat} {v : Nat} {K : CS → Option α} (T : cOK X E cc RX0 nL ret z0 l0 z1 l1) (hin : X.2.1.2.2.2.1.name = "<init>") (h : pR s a [0] 1 (some v) K = some z) (d : decode cc pc = .ok (.putfield 28, 3)) (kk : ∀ s', K s' = some z → cW X z1 l1 s' (pc + 3) lv r) : cW X z1 l1 s pc lv (.ref v :: .ref a :: r) := by
  obtain ⟨h1, h2⟩ := if_of h
  obtain ⟨c, n, ha, hc⟩ := isW_of h1
  have k := kk _ h2
  simp only [List.mem_cons, List.not_mem_nil, or_false] at hc
  rcases hc with rfl
  · exact c_putF (k := 1) (ty := (.object "OverFirst$Reader")) (p := (2, 1)) T kX0 ha rfl uR_v (fun q hq => uR_o q hq) (fun b c n hb => uR_b b c n hb) rfl rfl rfl rfl q491 (fun _ h9 => h9) rfl hin rfl (by decide +kernel) rfl rfl d k
/-- OverFirst.reader -/
theorem cp_X0_28z {X : KC CS} {E : CE} {cc : ByteArray} {nL : Nat} {ret : Option FieldType} {z0 l0 z1 l1 : Nat} {s : CS} {pc : Nat} {lv : List (Nat × Value)} {r : List Value} {α : Type} {z : α} {a : Nat}  {K : CS → Option α} (T : cOK X E cc RX0 nL ret z0 l0 z1 l1) (hin : X.2.1.2.2.2.1.name = "<init>") (h : pR s a [0] 1 none K = some z) (d : decode cc pc = .ok (.putfield 28, 3)) (kk : ∀ s', K s' = some z → cW X z1 l1 s' (pc + 3) lv r) : cW X z1 l1 s pc lv (.null :: .ref a :: r) := by
  obtain ⟨h1, h2⟩ := if_of h
  obtain ⟨c, n, ha, hc⟩ := isW_of h1
  have k := kk _ h2
  simp only [List.mem_cons, List.not_mem_nil, or_false] at hc
  rcases hc with rfl
  · exact c_putF (k := 1) (ty := (.object "OverFirst$Reader")) (p := (2, 1)) T kX0 ha rfl uR_v (fun q hq => uR_o q hq) (fun b c n hb => uR_b b c n hb) rfl rfl rfl rfl q491 (fun _ h9 => h9) rfl hin rfl (by decide +kernel) rfl rfl d k
/-- OverFirst.reader -/
theorem cp_X0_28o {X : KC CS} {E : CE} {cc : ByteArray} {nL : Nat} {ret : Option FieldType} {z0 l0 z1 l1 : Nat} {s : CS} {pc : Nat} {lv : List (Nat × Value)} {r : List Value} {α : Type} {z : α} {a : Nat} {v : Option Nat} {K : CS → Option α} (T : cOK X E cc RX0 nL ret z0 l0 z1 l1) (hin : X.2.1.2.2.2.1.name = "<init>") (h : pR s a [0] 1 v K = some z) (d : decode cc pc = .ok (.putfield 28, 3)) (kk : ∀ s', K s' = some z → cW X z1 l1 s' (pc + 3) lv r) : cW X z1 l1 s pc lv (va_rf v :: .ref a :: r) := by
  obtain ⟨h1, h2⟩ := if_of h
  obtain ⟨c, n, ha, hc⟩ := isW_of h1
  have k := kk _ h2
  simp only [List.mem_cons, List.not_mem_nil, or_false] at hc
  rcases hc with rfl
  · exact c_putF (k := 1) (ty := (.object "OverFirst$Reader")) (p := (2, 1)) T kX0 ha rfl uR_v (fun q hq => uR_o q hq) (fun b c n hb => uR_b b c n hb) rfl rfl rfl rfl q491 (fun _ h9 => h9) rfl hin rfl (by decide +kernel) (by cases v <;> rfl) (by cases v <;> rfl) d k
/-- OverFirst.town -/
theorem cp_X0_35 {X : KC CS} {E : CE} {cc : ByteArray} {nL : Nat} {ret : Option FieldType} {z0 l0 z1 l1 : Nat} {s : CS} {pc : Nat} {lv : List (Nat × Value)} {r : List Value} {α : Type} {z : α} {a : Nat} {v : Nat} {K : CS → Option α} (T : cOK X E cc RX0 nL ret z0 l0 z1 l1) (h : pR s a [0] 2 (some v) K = some z) (d : decode cc pc = .ok (.putfield 35, 3)) (kk : ∀ s', K s' = some z → cW X z1 l1 s' (pc + 3) lv r) : cW X z1 l1 s pc lv (.ref v :: .ref a :: r) := by
  obtain ⟨h1, h2⟩ := if_of h
  obtain ⟨c, n, ha, hc⟩ := isW_of h1
  have k := kk _ h2
  simp only [List.mem_cons, List.not_mem_nil, or_false] at hc
  rcases hc with rfl
  · exact c_put (k := 2) (ty := (.object "OverFirst$Town")) (p := (2, 2)) T kX0 ha rfl uR_v (fun q hq => uR_o q hq) (fun b c n hb => uR_b b c n hb) rfl rfl rfl rfl q492 (fun _ h9 => h9) rfl (by decide +kernel) rfl rfl d k
/-- OverFirst.town -/
theorem cp_X0_35z {X : KC CS} {E : CE} {cc : ByteArray} {nL : Nat} {ret : Option FieldType} {z0 l0 z1 l1 : Nat} {s : CS} {pc : Nat} {lv : List (Nat × Value)} {r : List Value} {α : Type} {z : α} {a : Nat}  {K : CS → Option α} (T : cOK X E cc RX0 nL ret z0 l0 z1 l1) (h : pR s a [0] 2 none K = some z) (d : decode cc pc = .ok (.putfield 35, 3)) (kk : ∀ s', K s' = some z → cW X z1 l1 s' (pc + 3) lv r) : cW X z1 l1 s pc lv (.null :: .ref a :: r) := by
  obtain ⟨h1, h2⟩ := if_of h
  obtain ⟨c, n, ha, hc⟩ := isW_of h1
  have k := kk _ h2
  simp only [List.mem_cons, List.not_mem_nil, or_false] at hc
  rcases hc with rfl
  · exact c_put (k := 2) (ty := (.object "OverFirst$Town")) (p := (2, 2)) T kX0 ha rfl uR_v (fun q hq => uR_o q hq) (fun b c n hb => uR_b b c n hb) rfl rfl rfl rfl q492 (fun _ h9 => h9) rfl (by decide +kernel) rfl rfl d k
/-- OverFirst.town -/
theorem cp_X0_35o {X : KC CS} {E : CE} {cc : ByteArray} {nL : Nat} {ret : Option FieldType} {z0 l0 z1 l1 : Nat} {s : CS} {pc : Nat} {lv : List (Nat × Value)} {r : List Value} {α : Type} {z : α} {a : Nat} {v : Option Nat} {K : CS → Option α} (T : cOK X E cc RX0 nL ret z0 l0 z1 l1) (h : pR s a [0] 2 v K = some z) (d : decode cc pc = .ok (.putfield 35, 3)) (kk : ∀ s', K s' = some z → cW X z1 l1 s' (pc + 3) lv r) : cW X z1 l1 s pc lv (va_rf v :: .ref a :: r) := by
  obtain ⟨h1, h2⟩ := if_of h
  obtain ⟨c, n, ha, hc⟩ := isW_of h1
  have k := kk _ h2
  simp only [List.mem_cons, List.not_mem_nil, or_false] at hc
  rcases hc with rfl
  · exact c_put (k := 2) (ty := (.object "OverFirst$Town")) (p := (2, 2)) T kX0 ha rfl uR_v (fun q hq => uR_o q hq) (fun b c n hb => uR_b b c n hb) rfl rfl rfl rfl q492 (fun _ h9 => h9) rfl (by decide +kernel) (by cases v <;> rfl) (by cases v <;> rfl) d k
/-- OverFirst.walk -/
theorem cp_X0_42 {X : KC CS} {E : CE} {cc : ByteArray} {nL : Nat} {ret : Option FieldType} {z0 l0 z1 l1 : Nat} {s : CS} {pc : Nat} {lv : List (Nat × Value)} {r : List Value} {α : Type} {z : α} {a : Nat} {v : Nat} {K : CS → Option α} (T : cOK X E cc RX0 nL ret z0 l0 z1 l1) (h : pR s a [0] 3 (some v) K = some z) (d : decode cc pc = .ok (.putfield 42, 3)) (kk : ∀ s', K s' = some z → cW X z1 l1 s' (pc + 3) lv r) : cW X z1 l1 s pc lv (.ref v :: .ref a :: r) := by
  obtain ⟨h1, h2⟩ := if_of h
  obtain ⟨c, n, ha, hc⟩ := isW_of h1
  have k := kk _ h2
  simp only [List.mem_cons, List.not_mem_nil, or_false] at hc
  rcases hc with rfl
  · exact c_put (k := 3) (ty := (.object "OverFirst$Walk")) (p := (2, 3)) T kX0 ha rfl uR_v (fun q hq => uR_o q hq) (fun b c n hb => uR_b b c n hb) rfl rfl rfl rfl q493 (fun _ h9 => h9) rfl (by decide +kernel) rfl rfl d k
/-- OverFirst.walk -/
theorem cp_X0_42z {X : KC CS} {E : CE} {cc : ByteArray} {nL : Nat} {ret : Option FieldType} {z0 l0 z1 l1 : Nat} {s : CS} {pc : Nat} {lv : List (Nat × Value)} {r : List Value} {α : Type} {z : α} {a : Nat}  {K : CS → Option α} (T : cOK X E cc RX0 nL ret z0 l0 z1 l1) (h : pR s a [0] 3 none K = some z) (d : decode cc pc = .ok (.putfield 42, 3)) (kk : ∀ s', K s' = some z → cW X z1 l1 s' (pc + 3) lv r) : cW X z1 l1 s pc lv (.null :: .ref a :: r) := by
  obtain ⟨h1, h2⟩ := if_of h
  obtain ⟨c, n, ha, hc⟩ := isW_of h1
  have k := kk _ h2
  simp only [List.mem_cons, List.not_mem_nil, or_false] at hc
  rcases hc with rfl
  · exact c_put (k := 3) (ty := (.object "OverFirst$Walk")) (p := (2, 3)) T kX0 ha rfl uR_v (fun q hq => uR_o q hq) (fun b c n hb => uR_b b c n hb) rfl rfl rfl rfl q493 (fun _ h9 => h9) rfl (by decide +kernel) rfl rfl d k
/-- OverFirst.walk -/
theorem cp_X0_42o {X : KC CS} {E : CE} {cc : ByteArray} {nL : Nat} {ret : Option FieldType} {z0 l0 z1 l1 : Nat} {s : CS} {pc : Nat} {lv : List (Nat × Value)} {r : List Value} {α : Type} {z : α} {a : Nat} {v : Option Nat} {K : CS → Option α} (T : cOK X E cc RX0 nL ret z0 l0 z1 l1) (h : pR s a [0] 3 v K = some z) (d : decode cc pc = .ok (.putfield 42, 3)) (kk : ∀ s', K s' = some z → cW X z1 l1 s' (pc + 3) lv r) : cW X z1 l1 s pc lv (va_rf v :: .ref a :: r) := by
  obtain ⟨h1, h2⟩ := if_of h
  obtain ⟨c, n, ha, hc⟩ := isW_of h1
  have k := kk _ h2
  simp only [List.mem_cons, List.not_mem_nil, or_false] at hc
  rcases hc with rfl
  · exact c_put (k := 3) (ty := (.object "OverFirst$Walk")) (p := (2, 3)) T kX0 ha rfl uR_v (fun q hq => uR_o q hq) (fun b c n hb => uR_b b c n hb) rfl rfl rfl rfl q493 (fun _ h9 => h9) rfl (by decide +kernel) (by cases v <;> rfl) (by cases v <;> rfl) d k
/-- OverFirst.state -/
theorem cp_X0_49 {X : KC CS} {E : CE} {cc : ByteArray} {nL : Nat} {ret : Option FieldType} {z0 l0 z1 l1 : Nat} {s : CS} {pc : Nat} {lv : List (Nat × Value)} {r : List Value} {α : Type} {z : α} {a : Nat} {v : Nat} {K : CS → Option α} (T : cOK X E cc RX0 nL ret z0 l0 z1 l1) (hin : X.2.1.2.2.2.1.name = "<init>") (h : pR s a [0] 4 (some v) K = some z) (d : decode cc pc = .ok (.putfield 49, 3)) (kk : ∀ s', K s' = some z → cW X z1 l1 s' (pc + 3) lv r) : cW X z1 l1 s pc lv (.ref v :: .ref a :: r) := by
  obtain ⟨h1, h2⟩ := if_of h
  obtain ⟨c, n, ha, hc⟩ := isW_of h1
  have k := kk _ h2
  simp only [List.mem_cons, List.not_mem_nil, or_false] at hc
  rcases hc with rfl
  · exact c_putF (k := 4) (ty := (.object "OverFirst$State")) (p := (2, 4)) T kX0 ha rfl uR_v (fun q hq => uR_o q hq) (fun b c n hb => uR_b b c n hb) rfl rfl rfl rfl q494 (fun _ h9 => h9) rfl hin rfl (by decide +kernel) rfl rfl d k
/-- OverFirst.state -/
theorem cp_X0_49z {X : KC CS} {E : CE} {cc : ByteArray} {nL : Nat} {ret : Option FieldType} {z0 l0 z1 l1 : Nat} {s : CS} {pc : Nat} {lv : List (Nat × Value)} {r : List Value} {α : Type} {z : α} {a : Nat}  {K : CS → Option α} (T : cOK X E cc RX0 nL ret z0 l0 z1 l1) (hin : X.2.1.2.2.2.1.name = "<init>") (h : pR s a [0] 4 none K = some z) (d : decode cc pc = .ok (.putfield 49, 3)) (kk : ∀ s', K s' = some z → cW X z1 l1 s' (pc + 3) lv r) : cW X z1 l1 s pc lv (.null :: .ref a :: r) := by
  obtain ⟨h1, h2⟩ := if_of h
  obtain ⟨c, n, ha, hc⟩ := isW_of h1
  have k := kk _ h2
  simp only [List.mem_cons, List.not_mem_nil, or_false] at hc
  rcases hc with rfl
  · exact c_putF (k := 4) (ty := (.object "OverFirst$State")) (p := (2, 4)) T kX0 ha rfl uR_v (fun q hq => uR_o q hq) (fun b c n hb => uR_b b c n hb) rfl rfl rfl rfl q494 (fun _ h9 => h9) rfl hin rfl (by decide +kernel) rfl rfl d k
/-- OverFirst.state -/
theorem cp_X0_49o {X : KC CS} {E : CE} {cc : ByteArray} {nL : Nat} {ret : Option FieldType} {z0 l0 z1 l1 : Nat} {s : CS} {pc : Nat} {lv : List (Nat × Value)} {r : List Value} {α : Type} {z : α} {a : Nat} {v : Option Nat} {K : CS → Option α} (T : cOK X E cc RX0 nL ret z0 l0 z1 l1) (hin : X.2.1.2.2.2.1.name = "<init>") (h : pR s a [0] 4 v K = some z) (d : decode cc pc = .ok (.putfield 49, 3)) (kk : ∀ s', K s' = some z → cW X z1 l1 s' (pc + 3) lv r) : cW X z1 l1 s pc lv (va_rf v :: .ref a :: r) := by
  obtain ⟨h1, h2⟩ := if_of h
  obtain ⟨c, n, ha, hc⟩ := isW_of h1
  have k := kk _ h2
  simp only [List.mem_cons, List.not_mem_nil, or_false] at hc
  rcases hc with rfl
  · exact c_putF (k := 4) (ty := (.object "OverFirst$State")) (p := (2, 4)) T kX0 ha rfl uR_v (fun q hq => uR_o q hq) (fun b c n hb => uR_b b c n hb) rfl rfl rfl rfl q494 (fun _ h9 => h9) rfl hin rfl (by decide +kernel) (by cases v <;> rfl) (by cases v <;> rfl) d k
/-- OverFirst.undone -/
theorem cp_X0_53 {X : KC CS} {E : CE} {cc : ByteArray} {nL : Nat} {ret : Option FieldType} {z0 l0 z1 l1 : Nat} {s : CS} {pc : Nat} {lv : List (Nat × Value)} {r : List Value} {α : Type} {z : α} {a : Nat} {v : Nat} {K : CS → Option α} (T : cOK X E cc RX0 nL ret z0 l0 z1 l1) (hin : X.2.1.2.2.2.1.name = "<init>") (h : pR s a [0] 6 (some v) K = some z) (d : decode cc pc = .ok (.putfield 53, 3)) (kk : ∀ s', K s' = some z → cW X z1 l1 s' (pc + 3) lv r) : cW X z1 l1 s pc lv (.ref v :: .ref a :: r) := by
  obtain ⟨h1, h2⟩ := if_of h
  obtain ⟨c, n, ha, hc⟩ := isW_of h1
  have k := kk _ h2
  simp only [List.mem_cons, List.not_mem_nil, or_false] at hc
  rcases hc with rfl
  · exact c_putF (k := 6) (ty := (.array (.object "OverFirst$State"))) (p := (2, 6)) T kX0 ha rfl uR_v (fun q hq => uR_o q hq) (fun b c n hb => uR_b b c n hb) rfl rfl rfl rfl q496 (fun _ h9 => h9) rfl hin rfl (by decide +kernel) rfl rfl d k
/-- OverFirst.undone -/
theorem cp_X0_53z {X : KC CS} {E : CE} {cc : ByteArray} {nL : Nat} {ret : Option FieldType} {z0 l0 z1 l1 : Nat} {s : CS} {pc : Nat} {lv : List (Nat × Value)} {r : List Value} {α : Type} {z : α} {a : Nat}  {K : CS → Option α} (T : cOK X E cc RX0 nL ret z0 l0 z1 l1) (hin : X.2.1.2.2.2.1.name = "<init>") (h : pR s a [0] 6 none K = some z) (d : decode cc pc = .ok (.putfield 53, 3)) (kk : ∀ s', K s' = some z → cW X z1 l1 s' (pc + 3) lv r) : cW X z1 l1 s pc lv (.null :: .ref a :: r) := by
  obtain ⟨h1, h2⟩ := if_of h
  obtain ⟨c, n, ha, hc⟩ := isW_of h1
  have k := kk _ h2
  simp only [List.mem_cons, List.not_mem_nil, or_false] at hc
  rcases hc with rfl
  · exact c_putF (k := 6) (ty := (.array (.object "OverFirst$State"))) (p := (2, 6)) T kX0 ha rfl uR_v (fun q hq => uR_o q hq) (fun b c n hb => uR_b b c n hb) rfl rfl rfl rfl q496 (fun _ h9 => h9) rfl hin rfl (by decide +kernel) rfl rfl d k
/-- OverFirst.undone -/
theorem cp_X0_53o {X : KC CS} {E : CE} {cc : ByteArray} {nL : Nat} {ret : Option FieldType} {z0 l0 z1 l1 : Nat} {s : CS} {pc : Nat} {lv : List (Nat × Value)} {r : List Value} {α : Type} {z : α} {a : Nat} {v : Option Nat} {K : CS → Option α} (T : cOK X E cc RX0 nL ret z0 l0 z1 l1) (hin : X.2.1.2.2.2.1.name = "<init>") (h : pR s a [0] 6 v K = some z) (d : decode cc pc = .ok (.putfield 53, 3)) (kk : ∀ s', K s' = some z → cW X z1 l1 s' (pc + 3) lv r) : cW X z1 l1 s pc lv (va_rf v :: .ref a :: r) := by
  obtain ⟨h1, h2⟩ := if_of h
  obtain ⟨c, n, ha, hc⟩ := isW_of h1
  have k := kk _ h2
  simp only [List.mem_cons, List.not_mem_nil, or_false] at hc
  rcases hc with rfl
  · exact c_putF (k := 6) (ty := (.array (.object "OverFirst$State"))) (p := (2, 6)) T kX0 ha rfl uR_v (fun q hq => uR_o q hq) (fun b c n hb => uR_b b c n hb) rfl rfl rfl rfl q496 (fun _ h9 => h9) rfl hin rfl (by decide +kernel) (by cases v <;> rfl) (by cases v <;> rfl) d k
/-- OverFirst.takes -/
theorem cp_X0_58 {X : KC CS} {E : CE} {cc : ByteArray} {nL : Nat} {ret : Option FieldType} {z0 l0 z1 l1 : Nat} {s : CS} {pc : Nat} {lv : List (Nat × Value)} {r : List Value} {α : Type} {z : α} {a : Nat} {v : Nat} {K : CS → Option α} (T : cOK X E cc RX0 nL ret z0 l0 z1 l1) (hin : X.2.1.2.2.2.1.name = "<init>") (h : pR s a [0] 8 (some v) K = some z) (d : decode cc pc = .ok (.putfield 58, 3)) (kk : ∀ s', K s' = some z → cW X z1 l1 s' (pc + 3) lv r) : cW X z1 l1 s pc lv (.ref v :: .ref a :: r) := by
  obtain ⟨h1, h2⟩ := if_of h
  obtain ⟨c, n, ha, hc⟩ := isW_of h1
  have k := kk _ h2
  simp only [List.mem_cons, List.not_mem_nil, or_false] at hc
  rcases hc with rfl
  · exact c_putF (k := 8) (ty := (.array .int)) (p := (2, 8)) T kX0 ha rfl uR_v (fun q hq => uR_o q hq) (fun b c n hb => uR_b b c n hb) rfl rfl rfl rfl q498 (fun _ h9 => h9) rfl hin rfl (by decide +kernel) rfl rfl d k
/-- OverFirst.takes -/
theorem cp_X0_58z {X : KC CS} {E : CE} {cc : ByteArray} {nL : Nat} {ret : Option FieldType} {z0 l0 z1 l1 : Nat} {s : CS} {pc : Nat} {lv : List (Nat × Value)} {r : List Value} {α : Type} {z : α} {a : Nat}  {K : CS → Option α} (T : cOK X E cc RX0 nL ret z0 l0 z1 l1) (hin : X.2.1.2.2.2.1.name = "<init>") (h : pR s a [0] 8 none K = some z) (d : decode cc pc = .ok (.putfield 58, 3)) (kk : ∀ s', K s' = some z → cW X z1 l1 s' (pc + 3) lv r) : cW X z1 l1 s pc lv (.null :: .ref a :: r) := by
  obtain ⟨h1, h2⟩ := if_of h
  obtain ⟨c, n, ha, hc⟩ := isW_of h1
  have k := kk _ h2
  simp only [List.mem_cons, List.not_mem_nil, or_false] at hc
  rcases hc with rfl
  · exact c_putF (k := 8) (ty := (.array .int)) (p := (2, 8)) T kX0 ha rfl uR_v (fun q hq => uR_o q hq) (fun b c n hb => uR_b b c n hb) rfl rfl rfl rfl q498 (fun _ h9 => h9) rfl hin rfl (by decide +kernel) rfl rfl d k
/-- OverFirst.takes -/
theorem cp_X0_58o {X : KC CS} {E : CE} {cc : ByteArray} {nL : Nat} {ret : Option FieldType} {z0 l0 z1 l1 : Nat} {s : CS} {pc : Nat} {lv : List (Nat × Value)} {r : List Value} {α : Type} {z : α} {a : Nat} {v : Option Nat} {K : CS → Option α} (T : cOK X E cc RX0 nL ret z0 l0 z1 l1) (hin : X.2.1.2.2.2.1.name = "<init>") (h : pR s a [0] 8 v K = some z) (d : decode cc pc = .ok (.putfield 58, 3)) (kk : ∀ s', K s' = some z → cW X z1 l1 s' (pc + 3) lv r) : cW X z1 l1 s pc lv (va_rf v :: .ref a :: r) := by
  obtain ⟨h1, h2⟩ := if_of h
  obtain ⟨c, n, ha, hc⟩ := isW_of h1
  have k := kk _ h2
  simp only [List.mem_cons, List.not_mem_nil, or_false] at hc
  rcases hc with rfl
  · exact c_putF (k := 8) (ty := (.array .int)) (p := (2, 8)) T kX0 ha rfl uR_v (fun q hq => uR_o q hq) (fun b c n hb => uR_b b c n hb) rfl rfl rfl rfl q498 (fun _ h9 => h9) rfl hin rfl (by decide +kernel) (by cases v <;> rfl) (by cases v <;> rfl) d k
/-- OverFirst.watched -/
theorem cp_X0_62 {X : KC CS} {E : CE} {cc : ByteArray} {nL : Nat} {ret : Option FieldType} {z0 l0 z1 l1 : Nat} {s : CS} {pc : Nat} {lv : List (Nat × Value)} {r : List Value} {α : Type} {z : α} {a : Nat} {v : Int32} {K : CS → Option α} (T : cOK X E cc RX0 nL ret z0 l0 z1 l1) (h : pI s a [0] 11 v K = some z) (d : decode cc pc = .ok (.putfield 62, 3)) (kk : ∀ s', K s' = some z → cW X z1 l1 s' (pc + 3) lv r) : cW X z1 l1 s pc lv (.int v :: .ref a :: r) := by
  obtain ⟨h1, h2⟩ := if_of h
  obtain ⟨c, n, ha, hc⟩ := isW_of h1
  have k := kk _ h2
  simp only [List.mem_cons, List.not_mem_nil, or_false] at hc
  rcases hc with rfl
  · exact c_put (k := 11) (ty := .int) (p := (0, 11)) T kX0 ha rfl uI_v (fun q hq => uI_o q hq) (fun b c n hb => uI_b b c n hb) rfl rfl rfl rfl q501 (fun _ h9 => h9) rfl (by decide +kernel) rfl rfl d k
/-- OverFirst.comes -/
theorem cp_X0_66 {X : KC CS} {E : CE} {cc : ByteArray} {nL : Nat} {ret : Option FieldType} {z0 l0 z1 l1 : Nat} {s : CS} {pc : Nat} {lv : List (Nat × Value)} {r : List Value} {α : Type} {z : α} {a : Nat} {v : Nat} {K : CS → Option α} (T : cOK X E cc RX0 nL ret z0 l0 z1 l1) (hin : X.2.1.2.2.2.1.name = "<init>") (h : pR s a [0] 13 (some v) K = some z) (d : decode cc pc = .ok (.putfield 66, 3)) (kk : ∀ s', K s' = some z → cW X z1 l1 s' (pc + 3) lv r) : cW X z1 l1 s pc lv (.ref v :: .ref a :: r) := by
  obtain ⟨h1, h2⟩ := if_of h
  obtain ⟨c, n, ha, hc⟩ := isW_of h1
  have k := kk _ h2
  simp only [List.mem_cons, List.not_mem_nil, or_false] at hc
  rcases hc with rfl
  · exact c_putF (k := 13) (ty := (.array .int)) (p := (2, 13)) T kX0 ha rfl uR_v (fun q hq => uR_o q hq) (fun b c n hb => uR_b b c n hb) rfl rfl rfl rfl q503 (fun _ h9 => h9) rfl hin rfl (by decide +kernel) rfl rfl d k
/-- OverFirst.comes -/
theorem cp_X0_66z {X : KC CS} {E : CE} {cc : ByteArray} {nL : Nat} {ret : Option FieldType} {z0 l0 z1 l1 : Nat} {s : CS} {pc : Nat} {lv : List (Nat × Value)} {r : List Value} {α : Type} {z : α} {a : Nat}  {K : CS → Option α} (T : cOK X E cc RX0 nL ret z0 l0 z1 l1) (hin : X.2.1.2.2.2.1.name = "<init>") (h : pR s a [0] 13 none K = some z) (d : decode cc pc = .ok (.putfield 66, 3)) (kk : ∀ s', K s' = some z → cW X z1 l1 s' (pc + 3) lv r) : cW X z1 l1 s pc lv (.null :: .ref a :: r) := by
  obtain ⟨h1, h2⟩ := if_of h
  obtain ⟨c, n, ha, hc⟩ := isW_of h1
  have k := kk _ h2
  simp only [List.mem_cons, List.not_mem_nil, or_false] at hc
  rcases hc with rfl
  · exact c_putF (k := 13) (ty := (.array .int)) (p := (2, 13)) T kX0 ha rfl uR_v (fun q hq => uR_o q hq) (fun b c n hb => uR_b b c n hb) rfl rfl rfl rfl q503 (fun _ h9 => h9) rfl hin rfl (by decide +kernel) rfl rfl d k
/-- OverFirst.comes -/
theorem cp_X0_66o {X : KC CS} {E : CE} {cc : ByteArray} {nL : Nat} {ret : Option FieldType} {z0 l0 z1 l1 : Nat} {s : CS} {pc : Nat} {lv : List (Nat × Value)} {r : List Value} {α : Type} {z : α} {a : Nat} {v : Option Nat} {K : CS → Option α} (T : cOK X E cc RX0 nL ret z0 l0 z1 l1) (hin : X.2.1.2.2.2.1.name = "<init>") (h : pR s a [0] 13 v K = some z) (d : decode cc pc = .ok (.putfield 66, 3)) (kk : ∀ s', K s' = some z → cW X z1 l1 s' (pc + 3) lv r) : cW X z1 l1 s pc lv (va_rf v :: .ref a :: r) := by
  obtain ⟨h1, h2⟩ := if_of h
  obtain ⟨c, n, ha, hc⟩ := isW_of h1
  have k := kk _ h2
  simp only [List.mem_cons, List.not_mem_nil, or_false] at hc
  rcases hc with rfl
  · exact c_putF (k := 13) (ty := (.array .int)) (p := (2, 13)) T kX0 ha rfl uR_v (fun q hq => uR_o q hq) (fun b c n hb => uR_b b c n hb) rfl rfl rfl rfl q503 (fun _ h9 => h9) rfl hin rfl (by decide +kernel) (by cases v <;> rfl) (by cases v <;> rfl) d k
/-- OverFirst.odds -/
theorem cp_X0_70 {X : KC CS} {E : CE} {cc : ByteArray} {nL : Nat} {ret : Option FieldType} {z0 l0 z1 l1 : Nat} {s : CS} {pc : Nat} {lv : List (Nat × Value)} {r : List Value} {α : Type} {z : α} {a : Nat} {v : Nat} {K : CS → Option α} (T : cOK X E cc RX0 nL ret z0 l0 z1 l1) (hin : X.2.1.2.2.2.1.name = "<init>") (h : pR s a [0] 14 (some v) K = some z) (d : decode cc pc = .ok (.putfield 70, 3)) (kk : ∀ s', K s' = some z → cW X z1 l1 s' (pc + 3) lv r) : cW X z1 l1 s pc lv (.ref v :: .ref a :: r) := by
  obtain ⟨h1, h2⟩ := if_of h
  obtain ⟨c, n, ha, hc⟩ := isW_of h1
  have k := kk _ h2
  simp only [List.mem_cons, List.not_mem_nil, or_false] at hc
  rcases hc with rfl
  · exact c_putF (k := 14) (ty := (.array .int)) (p := (2, 14)) T kX0 ha rfl uR_v (fun q hq => uR_o q hq) (fun b c n hb => uR_b b c n hb) rfl rfl rfl rfl q504 (fun _ h9 => h9) rfl hin rfl (by decide +kernel) rfl rfl d k
/-- OverFirst.odds -/
theorem cp_X0_70z {X : KC CS} {E : CE} {cc : ByteArray} {nL : Nat} {ret : Option FieldType} {z0 l0 z1 l1 : Nat} {s : CS} {pc : Nat} {lv : List (Nat × Value)} {r : List Value} {α : Type} {z : α} {a : Nat}  {K : CS → Option α} (T : cOK X E cc RX0 nL ret z0 l0 z1 l1) (hin : X.2.1.2.2.2.1.name = "<init>") (h : pR s a [0] 14 none K = some z) (d : decode cc pc = .ok (.putfield 70, 3)) (kk : ∀ s', K s' = some z → cW X z1 l1 s' (pc + 3) lv r) : cW X z1 l1 s pc lv (.null :: .ref a :: r) := by
  obtain ⟨h1, h2⟩ := if_of h
  obtain ⟨c, n, ha, hc⟩ := isW_of h1
  have k := kk _ h2
  simp only [List.mem_cons, List.not_mem_nil, or_false] at hc
  rcases hc with rfl
  · exact c_putF (k := 14) (ty := (.array .int)) (p := (2, 14)) T kX0 ha rfl uR_v (fun q hq => uR_o q hq) (fun b c n hb => uR_b b c n hb) rfl rfl rfl rfl q504 (fun _ h9 => h9) rfl hin rfl (by decide +kernel) rfl rfl d k
/-- OverFirst.odds -/
theorem cp_X0_70o {X : KC CS} {E : CE} {cc : ByteArray} {nL : Nat} {ret : Option FieldType} {z0 l0 z1 l1 : Nat} {s : CS} {pc : Nat} {lv : List (Nat × Value)} {r : List Value} {α : Type} {z : α} {a : Nat} {v : Option Nat} {K : CS → Option α} (T : cOK X E cc RX0 nL ret z0 l0 z1 l1) (hin : X.2.1.2.2.2.1.name = "<init>") (h : pR s a [0] 14 v K = some z) (d : decode cc pc = .ok (.putfield 70, 3)) (kk : ∀ s', K s' = some z → cW X z1 l1 s' (pc + 3) lv r) : cW X z1 l1 s pc lv (va_rf v :: .ref a :: r) := by
  obtain ⟨h1, h2⟩ := if_of h
  obtain ⟨c, n, ha, hc⟩ := isW_of h1
  have k := kk _ h2
  simp only [List.mem_cons, List.not_mem_nil, or_false] at hc
  rcases hc with rfl
  · exact c_putF (k := 14) (ty := (.array .int)) (p := (2, 14)) T kX0 ha rfl uR_v (fun q hq => uR_o q hq) (fun b c n hb => uR_b b c n hb) rfl rfl rfl rfl q504 (fun _ h9 => h9) rfl hin rfl (by decide +kernel) (by cases v <;> rfl) (by cases v <;> rfl) d k
/-- OverFirst.paces -/
theorem cp_X0_74 {X : KC CS} {E : CE} {cc : ByteArray} {nL : Nat} {ret : Option FieldType} {z0 l0 z1 l1 : Nat} {s : CS} {pc : Nat} {lv : List (Nat × Value)} {r : List Value} {α : Type} {z : α} {a : Nat} {v : Nat} {K : CS → Option α} (T : cOK X E cc RX0 nL ret z0 l0 z1 l1) (hin : X.2.1.2.2.2.1.name = "<init>") (h : pR s a [0] 15 (some v) K = some z) (d : decode cc pc = .ok (.putfield 74, 3)) (kk : ∀ s', K s' = some z → cW X z1 l1 s' (pc + 3) lv r) : cW X z1 l1 s pc lv (.ref v :: .ref a :: r) := by
  obtain ⟨h1, h2⟩ := if_of h
  obtain ⟨c, n, ha, hc⟩ := isW_of h1
  have k := kk _ h2
  simp only [List.mem_cons, List.not_mem_nil, or_false] at hc
  rcases hc with rfl
  · exact c_putF (k := 15) (ty := (.array .int)) (p := (2, 15)) T kX0 ha rfl uR_v (fun q hq => uR_o q hq) (fun b c n hb => uR_b b c n hb) rfl rfl rfl rfl q505 (fun _ h9 => h9) rfl hin rfl (by decide +kernel) rfl rfl d k
/-- OverFirst.paces -/
theorem cp_X0_74z {X : KC CS} {E : CE} {cc : ByteArray} {nL : Nat} {ret : Option FieldType} {z0 l0 z1 l1 : Nat} {s : CS} {pc : Nat} {lv : List (Nat × Value)} {r : List Value} {α : Type} {z : α} {a : Nat}  {K : CS → Option α} (T : cOK X E cc RX0 nL ret z0 l0 z1 l1) (hin : X.2.1.2.2.2.1.name = "<init>") (h : pR s a [0] 15 none K = some z) (d : decode cc pc = .ok (.putfield 74, 3)) (kk : ∀ s', K s' = some z → cW X z1 l1 s' (pc + 3) lv r) : cW X z1 l1 s pc lv (.null :: .ref a :: r) := by
  obtain ⟨h1, h2⟩ := if_of h
  obtain ⟨c, n, ha, hc⟩ := isW_of h1
  have k := kk _ h2
  simp only [List.mem_cons, List.not_mem_nil, or_false] at hc
  rcases hc with rfl
  · exact c_putF (k := 15) (ty := (.array .int)) (p := (2, 15)) T kX0 ha rfl uR_v (fun q hq => uR_o q hq) (fun b c n hb => uR_b b c n hb) rfl rfl rfl rfl q505 (fun _ h9 => h9) rfl hin rfl (by decide +kernel) rfl rfl d k
/-- OverFirst.paces -/
theorem cp_X0_74o {X : KC CS} {E : CE} {cc : ByteArray} {nL : Nat} {ret : Option FieldType} {z0 l0 z1 l1 : Nat} {s : CS} {pc : Nat} {lv : List (Nat × Value)} {r : List Value} {α : Type} {z : α} {a : Nat} {v : Option Nat} {K : CS → Option α} (T : cOK X E cc RX0 nL ret z0 l0 z1 l1) (hin : X.2.1.2.2.2.1.name = "<init>") (h : pR s a [0] 15 v K = some z) (d : decode cc pc = .ok (.putfield 74, 3)) (kk : ∀ s', K s' = some z → cW X z1 l1 s' (pc + 3) lv r) : cW X z1 l1 s pc lv (va_rf v :: .ref a :: r) := by
  obtain ⟨h1, h2⟩ := if_of h
  obtain ⟨c, n, ha, hc⟩ := isW_of h1
  have k := kk _ h2
  simp only [List.mem_cons, List.not_mem_nil, or_false] at hc
  rcases hc with rfl
  · exact c_putF (k := 15) (ty := (.array .int)) (p := (2, 15)) T kX0 ha rfl uR_v (fun q hq => uR_o q hq) (fun b c n hb => uR_b b c n hb) rfl rfl rfl rfl q505 (fun _ h9 => h9) rfl hin rfl (by decide +kernel) (by cases v <;> rfl) (by cases v <;> rfl) d k
/-- OverFirst.greens -/
theorem cp_X0_77 {X : KC CS} {E : CE} {cc : ByteArray} {nL : Nat} {ret : Option FieldType} {z0 l0 z1 l1 : Nat} {s : CS} {pc : Nat} {lv : List (Nat × Value)} {r : List Value} {α : Type} {z : α} {a : Nat} {v : Nat} {K : CS → Option α} (T : cOK X E cc RX0 nL ret z0 l0 z1 l1) (hin : X.2.1.2.2.2.1.name = "<init>") (h : pR s a [0] 16 (some v) K = some z) (d : decode cc pc = .ok (.putfield 77, 3)) (kk : ∀ s', K s' = some z → cW X z1 l1 s' (pc + 3) lv r) : cW X z1 l1 s pc lv (.ref v :: .ref a :: r) := by
  obtain ⟨h1, h2⟩ := if_of h
  obtain ⟨c, n, ha, hc⟩ := isW_of h1
  have k := kk _ h2
  simp only [List.mem_cons, List.not_mem_nil, or_false] at hc
  rcases hc with rfl
  · exact c_putF (k := 16) (ty := (.array .long)) (p := (2, 16)) T kX0 ha rfl uR_v (fun q hq => uR_o q hq) (fun b c n hb => uR_b b c n hb) rfl rfl rfl rfl q506 (fun _ h9 => h9) rfl hin rfl (by decide +kernel) rfl rfl d k
/-- OverFirst.greens -/
theorem cp_X0_77z {X : KC CS} {E : CE} {cc : ByteArray} {nL : Nat} {ret : Option FieldType} {z0 l0 z1 l1 : Nat} {s : CS} {pc : Nat} {lv : List (Nat × Value)} {r : List Value} {α : Type} {z : α} {a : Nat}  {K : CS → Option α} (T : cOK X E cc RX0 nL ret z0 l0 z1 l1) (hin : X.2.1.2.2.2.1.name = "<init>") (h : pR s a [0] 16 none K = some z) (d : decode cc pc = .ok (.putfield 77, 3)) (kk : ∀ s', K s' = some z → cW X z1 l1 s' (pc + 3) lv r) : cW X z1 l1 s pc lv (.null :: .ref a :: r) := by
  obtain ⟨h1, h2⟩ := if_of h
  obtain ⟨c, n, ha, hc⟩ := isW_of h1
  have k := kk _ h2
  simp only [List.mem_cons, List.not_mem_nil, or_false] at hc
  rcases hc with rfl
  · exact c_putF (k := 16) (ty := (.array .long)) (p := (2, 16)) T kX0 ha rfl uR_v (fun q hq => uR_o q hq) (fun b c n hb => uR_b b c n hb) rfl rfl rfl rfl q506 (fun _ h9 => h9) rfl hin rfl (by decide +kernel) rfl rfl d k
/-- OverFirst.greens -/
theorem cp_X0_77o {X : KC CS} {E : CE} {cc : ByteArray} {nL : Nat} {ret : Option FieldType} {z0 l0 z1 l1 : Nat} {s : CS} {pc : Nat} {lv : List (Nat × Value)} {r : List Value} {α : Type} {z : α} {a : Nat} {v : Option Nat} {K : CS → Option α} (T : cOK X E cc RX0 nL ret z0 l0 z1 l1) (hin : X.2.1.2.2.2.1.name = "<init>") (h : pR s a [0] 16 v K = some z) (d : decode cc pc = .ok (.putfield 77, 3)) (kk : ∀ s', K s' = some z → cW X z1 l1 s' (pc + 3) lv r) : cW X z1 l1 s pc lv (va_rf v :: .ref a :: r) := by
  obtain ⟨h1, h2⟩ := if_of h
  obtain ⟨c, n, ha, hc⟩ := isW_of h1
  have k := kk _ h2
  simp only [List.mem_cons, List.not_mem_nil, or_false] at hc
  rcases hc with rfl
  · exact c_putF (k := 16) (ty := (.array .long)) (p := (2, 16)) T kX0 ha rfl uR_v (fun q hq => uR_o q hq) (fun b c n hb => uR_b b c n hb) rfl rfl rfl rfl q506 (fun _ h9 => h9) rfl hin rfl (by decide +kernel) (by cases v <;> rfl) (by cases v <;> rfl) d k
/-- OverFirst.backs -/
theorem cp_X0_81 {X : KC CS} {E : CE} {cc : ByteArray} {nL : Nat} {ret : Option FieldType} {z0 l0 z1 l1 : Nat} {s : CS} {pc : Nat} {lv : List (Nat × Value)} {r : List Value} {α : Type} {z : α} {a : Nat} {v : Nat} {K : CS → Option α} (T : cOK X E cc RX0 nL ret z0 l0 z1 l1) (hin : X.2.1.2.2.2.1.name = "<init>") (h : pR s a [0] 17 (some v) K = some z) (d : decode cc pc = .ok (.putfield 81, 3)) (kk : ∀ s', K s' = some z → cW X z1 l1 s' (pc + 3) lv r) : cW X z1 l1 s pc lv (.ref v :: .ref a :: r) := by
  obtain ⟨h1, h2⟩ := if_of h
  obtain ⟨c, n, ha, hc⟩ := isW_of h1
  have k := kk _ h2
  simp only [List.mem_cons, List.not_mem_nil, or_false] at hc
  rcases hc with rfl
  · exact c_putF (k := 17) (ty := (.array .long)) (p := (2, 17)) T kX0 ha rfl uR_v (fun q hq => uR_o q hq) (fun b c n hb => uR_b b c n hb) rfl rfl rfl rfl q507 (fun _ h9 => h9) rfl hin rfl (by decide +kernel) rfl rfl d k
/-- OverFirst.backs -/
theorem cp_X0_81z {X : KC CS} {E : CE} {cc : ByteArray} {nL : Nat} {ret : Option FieldType} {z0 l0 z1 l1 : Nat} {s : CS} {pc : Nat} {lv : List (Nat × Value)} {r : List Value} {α : Type} {z : α} {a : Nat}  {K : CS → Option α} (T : cOK X E cc RX0 nL ret z0 l0 z1 l1) (hin : X.2.1.2.2.2.1.name = "<init>") (h : pR s a [0] 17 none K = some z) (d : decode cc pc = .ok (.putfield 81, 3)) (kk : ∀ s', K s' = some z → cW X z1 l1 s' (pc + 3) lv r) : cW X z1 l1 s pc lv (.null :: .ref a :: r) := by
  obtain ⟨h1, h2⟩ := if_of h
  obtain ⟨c, n, ha, hc⟩ := isW_of h1
  have k := kk _ h2
  simp only [List.mem_cons, List.not_mem_nil, or_false] at hc
  rcases hc with rfl
  · exact c_putF (k := 17) (ty := (.array .long)) (p := (2, 17)) T kX0 ha rfl uR_v (fun q hq => uR_o q hq) (fun b c n hb => uR_b b c n hb) rfl rfl rfl rfl q507 (fun _ h9 => h9) rfl hin rfl (by decide +kernel) rfl rfl d k
/-- OverFirst.backs -/
theorem cp_X0_81o {X : KC CS} {E : CE} {cc : ByteArray} {nL : Nat} {ret : Option FieldType} {z0 l0 z1 l1 : Nat} {s : CS} {pc : Nat} {lv : List (Nat × Value)} {r : List Value} {α : Type} {z : α} {a : Nat} {v : Option Nat} {K : CS → Option α} (T : cOK X E cc RX0 nL ret z0 l0 z1 l1) (hin : X.2.1.2.2.2.1.name = "<init>") (h : pR s a [0] 17 v K = some z) (d : decode cc pc = .ok (.putfield 81, 3)) (kk : ∀ s', K s' = some z → cW X z1 l1 s' (pc + 3) lv r) : cW X z1 l1 s pc lv (va_rf v :: .ref a :: r) := by
  obtain ⟨h1, h2⟩ := if_of h
  obtain ⟨c, n, ha, hc⟩ := isW_of h1
  have k := kk _ h2
  simp only [List.mem_cons, List.not_mem_nil, or_false] at hc
  rcases hc with rfl
  · exact c_putF (k := 17) (ty := (.array .long)) (p := (2, 17)) T kX0 ha rfl uR_v (fun q hq => uR_o q hq) (fun b c n hb => uR_b b c n hb) rfl rfl rfl rfl q507 (fun _ h9 => h9) rfl hin rfl (by decide +kernel) (by cases v <;> rfl) (by cases v <;> rfl) d k
/-- OverFirst.begins -/
theorem cp_X0_84 {X : KC CS} {E : CE} {cc : ByteArray} {nL : Nat} {ret : Option FieldType} {z0 l0 z1 l1 : Nat} {s : CS} {pc : Nat} {lv : List (Nat × Value)} {r : List Value} {α : Type} {z : α} {a : Nat} {v : Nat} {K : CS → Option α} (T : cOK X E cc RX0 nL ret z0 l0 z1 l1) (hin : X.2.1.2.2.2.1.name = "<init>") (h : pR s a [0] 18 (some v) K = some z) (d : decode cc pc = .ok (.putfield 84, 3)) (kk : ∀ s', K s' = some z → cW X z1 l1 s' (pc + 3) lv r) : cW X z1 l1 s pc lv (.ref v :: .ref a :: r) := by
  obtain ⟨h1, h2⟩ := if_of h
  obtain ⟨c, n, ha, hc⟩ := isW_of h1
  have k := kk _ h2
  simp only [List.mem_cons, List.not_mem_nil, or_false] at hc
  rcases hc with rfl
  · exact c_putF (k := 18) (ty := (.array .int)) (p := (2, 18)) T kX0 ha rfl uR_v (fun q hq => uR_o q hq) (fun b c n hb => uR_b b c n hb) rfl rfl rfl rfl q508 (fun _ h9 => h9) rfl hin rfl (by decide +kernel) rfl rfl d k
/-- OverFirst.begins -/
theorem cp_X0_84z {X : KC CS} {E : CE} {cc : ByteArray} {nL : Nat} {ret : Option FieldType} {z0 l0 z1 l1 : Nat} {s : CS} {pc : Nat} {lv : List (Nat × Value)} {r : List Value} {α : Type} {z : α} {a : Nat}  {K : CS → Option α} (T : cOK X E cc RX0 nL ret z0 l0 z1 l1) (hin : X.2.1.2.2.2.1.name = "<init>") (h : pR s a [0] 18 none K = some z) (d : decode cc pc = .ok (.putfield 84, 3)) (kk : ∀ s', K s' = some z → cW X z1 l1 s' (pc + 3) lv r) : cW X z1 l1 s pc lv (.null :: .ref a :: r) := by
  obtain ⟨h1, h2⟩ := if_of h
  obtain ⟨c, n, ha, hc⟩ := isW_of h1
  have k := kk _ h2
  simp only [List.mem_cons, List.not_mem_nil, or_false] at hc
  rcases hc with rfl
  · exact c_putF (k := 18) (ty := (.array .int)) (p := (2, 18)) T kX0 ha rfl uR_v (fun q hq => uR_o q hq) (fun b c n hb => uR_b b c n hb) rfl rfl rfl rfl q508 (fun _ h9 => h9) rfl hin rfl (by decide +kernel) rfl rfl d k
/-- OverFirst.begins -/
theorem cp_X0_84o {X : KC CS} {E : CE} {cc : ByteArray} {nL : Nat} {ret : Option FieldType} {z0 l0 z1 l1 : Nat} {s : CS} {pc : Nat} {lv : List (Nat × Value)} {r : List Value} {α : Type} {z : α} {a : Nat} {v : Option Nat} {K : CS → Option α} (T : cOK X E cc RX0 nL ret z0 l0 z1 l1) (hin : X.2.1.2.2.2.1.name = "<init>") (h : pR s a [0] 18 v K = some z) (d : decode cc pc = .ok (.putfield 84, 3)) (kk : ∀ s', K s' = some z → cW X z1 l1 s' (pc + 3) lv r) : cW X z1 l1 s pc lv (va_rf v :: .ref a :: r) := by
  obtain ⟨h1, h2⟩ := if_of h
  obtain ⟨c, n, ha, hc⟩ := isW_of h1
  have k := kk _ h2
  simp only [List.mem_cons, List.not_mem_nil, or_false] at hc
  rcases hc with rfl
  · exact c_putF (k := 18) (ty := (.array .int)) (p := (2, 18)) T kX0 ha rfl uR_v (fun q hq => uR_o q hq) (fun b c n hb => uR_b b c n hb) rfl rfl rfl rfl q508 (fun _ h9 => h9) rfl hin rfl (by decide +kernel) (by cases v <;> rfl) (by cases v <;> rfl) d k
/-- OverFirst.bestBegins -/
theorem cp_X0_87 {X : KC CS} {E : CE} {cc : ByteArray} {nL : Nat} {ret : Option FieldType} {z0 l0 z1 l1 : Nat} {s : CS} {pc : Nat} {lv : List (Nat × Value)} {r : List Value} {α : Type} {z : α} {a : Nat} {v : Nat} {K : CS → Option α} (T : cOK X E cc RX0 nL ret z0 l0 z1 l1) (hin : X.2.1.2.2.2.1.name = "<init>") (h : pR s a [0] 19 (some v) K = some z) (d : decode cc pc = .ok (.putfield 87, 3)) (kk : ∀ s', K s' = some z → cW X z1 l1 s' (pc + 3) lv r) : cW X z1 l1 s pc lv (.ref v :: .ref a :: r) := by
  obtain ⟨h1, h2⟩ := if_of h
  obtain ⟨c, n, ha, hc⟩ := isW_of h1
  have k := kk _ h2
  simp only [List.mem_cons, List.not_mem_nil, or_false] at hc
  rcases hc with rfl
  · exact c_putF (k := 19) (ty := (.array .int)) (p := (2, 19)) T kX0 ha rfl uR_v (fun q hq => uR_o q hq) (fun b c n hb => uR_b b c n hb) rfl rfl rfl rfl q509 (fun _ h9 => h9) rfl hin rfl (by decide +kernel) rfl rfl d k
/-- OverFirst.bestBegins -/
theorem cp_X0_87z {X : KC CS} {E : CE} {cc : ByteArray} {nL : Nat} {ret : Option FieldType} {z0 l0 z1 l1 : Nat} {s : CS} {pc : Nat} {lv : List (Nat × Value)} {r : List Value} {α : Type} {z : α} {a : Nat}  {K : CS → Option α} (T : cOK X E cc RX0 nL ret z0 l0 z1 l1) (hin : X.2.1.2.2.2.1.name = "<init>") (h : pR s a [0] 19 none K = some z) (d : decode cc pc = .ok (.putfield 87, 3)) (kk : ∀ s', K s' = some z → cW X z1 l1 s' (pc + 3) lv r) : cW X z1 l1 s pc lv (.null :: .ref a :: r) := by
  obtain ⟨h1, h2⟩ := if_of h
  obtain ⟨c, n, ha, hc⟩ := isW_of h1
  have k := kk _ h2
  simp only [List.mem_cons, List.not_mem_nil, or_false] at hc
  rcases hc with rfl
  · exact c_putF (k := 19) (ty := (.array .int)) (p := (2, 19)) T kX0 ha rfl uR_v (fun q hq => uR_o q hq) (fun b c n hb => uR_b b c n hb) rfl rfl rfl rfl q509 (fun _ h9 => h9) rfl hin rfl (by decide +kernel) rfl rfl d k
/-- OverFirst.bestBegins -/
theorem cp_X0_87o {X : KC CS} {E : CE} {cc : ByteArray} {nL : Nat} {ret : Option FieldType} {z0 l0 z1 l1 : Nat} {s : CS} {pc : Nat} {lv : List (Nat × Value)} {r : List Value} {α : Type} {z : α} {a : Nat} {v : Option Nat} {K : CS → Option α} (T : cOK X E cc RX0 nL ret z0 l0 z1 l1) (hin : X.2.1.2.2.2.1.name = "<init>") (h : pR s a [0] 19 v K = some z) (d : decode cc pc = .ok (.putfield 87, 3)) (kk : ∀ s', K s' = some z → cW X z1 l1 s' (pc + 3) lv r) : cW X z1 l1 s pc lv (va_rf v :: .ref a :: r) := by
  obtain ⟨h1, h2⟩ := if_of h
  obtain ⟨c, n, ha, hc⟩ := isW_of h1
  have k := kk _ h2
  simp only [List.mem_cons, List.not_mem_nil, or_false] at hc
  rcases hc with rfl
  · exact c_putF (k := 19) (ty := (.array .int)) (p := (2, 19)) T kX0 ha rfl uR_v (fun q hq => uR_o q hq) (fun b c n hb => uR_b b c n hb) rfl rfl rfl rfl q509 (fun _ h9 => h9) rfl hin rfl (by decide +kernel) (by cases v <;> rfl) (by cases v <;> rfl) d k
/-- OverFirst.shift -/
theorem cp_X0_90 {X : KC CS} {E : CE} {cc : ByteArray} {nL : Nat} {ret : Option FieldType} {z0 l0 z1 l1 : Nat} {s : CS} {pc : Nat} {lv : List (Nat × Value)} {r : List Value} {α : Type} {z : α} {a : Nat} {v : Nat} {K : CS → Option α} (T : cOK X E cc RX0 nL ret z0 l0 z1 l1) (hin : X.2.1.2.2.2.1.name = "<init>") (h : pR s a [0] 26 (some v) K = some z) (d : decode cc pc = .ok (.putfield 90, 3)) (kk : ∀ s', K s' = some z → cW X z1 l1 s' (pc + 3) lv r) : cW X z1 l1 s pc lv (.ref v :: .ref a :: r) := by
  obtain ⟨h1, h2⟩ := if_of h
  obtain ⟨c, n, ha, hc⟩ := isW_of h1
  have k := kk _ h2
  simp only [List.mem_cons, List.not_mem_nil, or_false] at hc
  rcases hc with rfl
  · exact c_putF (k := 26) (ty := (.array .int)) (p := (2, 26)) T kX0 ha rfl uR_v (fun q hq => uR_o q hq) (fun b c n hb => uR_b b c n hb) rfl rfl rfl rfl q516 (fun _ h9 => h9) rfl hin rfl (by decide +kernel) rfl rfl d k
/-- OverFirst.shift -/
theorem cp_X0_90z {X : KC CS} {E : CE} {cc : ByteArray} {nL : Nat} {ret : Option FieldType} {z0 l0 z1 l1 : Nat} {s : CS} {pc : Nat} {lv : List (Nat × Value)} {r : List Value} {α : Type} {z : α} {a : Nat}  {K : CS → Option α} (T : cOK X E cc RX0 nL ret z0 l0 z1 l1) (hin : X.2.1.2.2.2.1.name = "<init>") (h : pR s a [0] 26 none K = some z) (d : decode cc pc = .ok (.putfield 90, 3)) (kk : ∀ s', K s' = some z → cW X z1 l1 s' (pc + 3) lv r) : cW X z1 l1 s pc lv (.null :: .ref a :: r) := by
  obtain ⟨h1, h2⟩ := if_of h
  obtain ⟨c, n, ha, hc⟩ := isW_of h1
  have k := kk _ h2
  simp only [List.mem_cons, List.not_mem_nil, or_false] at hc
  rcases hc with rfl
  · exact c_putF (k := 26) (ty := (.array .int)) (p := (2, 26)) T kX0 ha rfl uR_v (fun q hq => uR_o q hq) (fun b c n hb => uR_b b c n hb) rfl rfl rfl rfl q516 (fun _ h9 => h9) rfl hin rfl (by decide +kernel) rfl rfl d k
/-- OverFirst.shift -/
theorem cp_X0_90o {X : KC CS} {E : CE} {cc : ByteArray} {nL : Nat} {ret : Option FieldType} {z0 l0 z1 l1 : Nat} {s : CS} {pc : Nat} {lv : List (Nat × Value)} {r : List Value} {α : Type} {z : α} {a : Nat} {v : Option Nat} {K : CS → Option α} (T : cOK X E cc RX0 nL ret z0 l0 z1 l1) (hin : X.2.1.2.2.2.1.name = "<init>") (h : pR s a [0] 26 v K = some z) (d : decode cc pc = .ok (.putfield 90, 3)) (kk : ∀ s', K s' = some z → cW X z1 l1 s' (pc + 3) lv r) : cW X z1 l1 s pc lv (va_rf v :: .ref a :: r) := by
  obtain ⟨h1, h2⟩ := if_of h
  obtain ⟨c, n, ha, hc⟩ := isW_of h1
  have k := kk _ h2
  simp only [List.mem_cons, List.not_mem_nil, or_false] at hc
  rcases hc with rfl
  · exact c_putF (k := 26) (ty := (.array .int)) (p := (2, 26)) T kX0 ha rfl uR_v (fun q hq => uR_o q hq) (fun b c n hb => uR_b b c n hb) rfl rfl rfl rfl q516 (fun _ h9 => h9) rfl hin rfl (by decide +kernel) (by cases v <;> rfl) (by cases v <;> rfl) d k
/-- OverFirst.marks -/
theorem cp_X0_93 {X : KC CS} {E : CE} {cc : ByteArray} {nL : Nat} {ret : Option FieldType} {z0 l0 z1 l1 : Nat} {s : CS} {pc : Nat} {lv : List (Nat × Value)} {r : List Value} {α : Type} {z : α} {a : Nat} {v : Nat} {K : CS → Option α} (T : cOK X E cc RX0 nL ret z0 l0 z1 l1) (hin : X.2.1.2.2.2.1.name = "<init>") (h : pR s a [0] 27 (some v) K = some z) (d : decode cc pc = .ok (.putfield 93, 3)) (kk : ∀ s', K s' = some z → cW X z1 l1 s' (pc + 3) lv r) : cW X z1 l1 s pc lv (.ref v :: .ref a :: r) := by
  obtain ⟨h1, h2⟩ := if_of h
  obtain ⟨c, n, ha, hc⟩ := isW_of h1
  have k := kk _ h2
  simp only [List.mem_cons, List.not_mem_nil, or_false] at hc
  rcases hc with rfl
  · exact c_putF (k := 27) (ty := (.array (.object "OverFirst$State"))) (p := (2, 27)) T kX0 ha rfl uR_v (fun q hq => uR_o q hq) (fun b c n hb => uR_b b c n hb) rfl rfl rfl rfl q517 (fun _ h9 => h9) rfl hin rfl (by decide +kernel) rfl rfl d k
/-- OverFirst.marks -/
theorem cp_X0_93z {X : KC CS} {E : CE} {cc : ByteArray} {nL : Nat} {ret : Option FieldType} {z0 l0 z1 l1 : Nat} {s : CS} {pc : Nat} {lv : List (Nat × Value)} {r : List Value} {α : Type} {z : α} {a : Nat}  {K : CS → Option α} (T : cOK X E cc RX0 nL ret z0 l0 z1 l1) (hin : X.2.1.2.2.2.1.name = "<init>") (h : pR s a [0] 27 none K = some z) (d : decode cc pc = .ok (.putfield 93, 3)) (kk : ∀ s', K s' = some z → cW X z1 l1 s' (pc + 3) lv r) : cW X z1 l1 s pc lv (.null :: .ref a :: r) := by
  obtain ⟨h1, h2⟩ := if_of h
  obtain ⟨c, n, ha, hc⟩ := isW_of h1
  have k := kk _ h2
  simp only [List.mem_cons, List.not_mem_nil, or_false] at hc
  rcases hc with rfl
  · exact c_putF (k := 27) (ty := (.array (.object "OverFirst$State"))) (p := (2, 27)) T kX0 ha rfl uR_v (fun q hq => uR_o q hq) (fun b c n hb => uR_b b c n hb) rfl rfl rfl rfl q517 (fun _ h9 => h9) rfl hin rfl (by decide +kernel) rfl rfl d k
/-- OverFirst.marks -/
theorem cp_X0_93o {X : KC CS} {E : CE} {cc : ByteArray} {nL : Nat} {ret : Option FieldType} {z0 l0 z1 l1 : Nat} {s : CS} {pc : Nat} {lv : List (Nat × Value)} {r : List Value} {α : Type} {z : α} {a : Nat} {v : Option Nat} {K : CS → Option α} (T : cOK X E cc RX0 nL ret z0 l0 z1 l1) (hin : X.2.1.2.2.2.1.name = "<init>") (h : pR s a [0] 27 v K = some z) (d : decode cc pc = .ok (.putfield 93, 3)) (kk : ∀ s', K s' = some z → cW X z1 l1 s' (pc + 3) lv r) : cW X z1 l1 s pc lv (va_rf v :: .ref a :: r) := by
  obtain ⟨h1, h2⟩ := if_of h
  obtain ⟨c, n, ha, hc⟩ := isW_of h1
  have k := kk _ h2
  simp only [List.mem_cons, List.not_mem_nil, or_false] at hc
  rcases hc with rfl
  · exact c_putF (k := 27) (ty := (.array (.object "OverFirst$State"))) (p := (2, 27)) T kX0 ha rfl uR_v (fun q hq => uR_o q hq) (fun b c n hb => uR_b b c n hb) rfl rfl rfl rfl q517 (fun _ h9 => h9) rfl hin rfl (by decide +kernel) (by cases v <;> rfl) (by cases v <;> rfl) d k
/-- OverFirst.taped -/
theorem cp_X0_96 {X : KC CS} {E : CE} {cc : ByteArray} {nL : Nat} {ret : Option FieldType} {z0 l0 z1 l1 : Nat} {s : CS} {pc : Nat} {lv : List (Nat × Value)} {r : List Value} {α : Type} {z : α} {a : Nat} {v : Int32} {K : CS → Option α} (T : cOK X E cc RX0 nL ret z0 l0 z1 l1) (h : pI s a [0] 5 v K = some z) (d : decode cc pc = .ok (.putfield 96, 3)) (kk : ∀ s', K s' = some z → cW X z1 l1 s' (pc + 3) lv r) : cW X z1 l1 s pc lv (.int v :: .ref a :: r) := by
  obtain ⟨h1, h2⟩ := if_of h
  obtain ⟨c, n, ha, hc⟩ := isW_of h1
  have k := kk _ h2
  simp only [List.mem_cons, List.not_mem_nil, or_false] at hc
  rcases hc with rfl
  · exact c_put (k := 5) (ty := .int) (p := (0, 5)) T kX0 ha rfl uI_v (fun q hq => uI_o q hq) (fun b c n hb => uI_b b c n hb) rfl rfl rfl rfl q495 (fun _ h9 => h9) rfl (by decide +kernel) rfl rfl d k
/-- OverFirst.done -/
theorem cp_X0_116 {X : KC CS} {E : CE} {cc : ByteArray} {nL : Nat} {ret : Option FieldType} {z0 l0 z1 l1 : Nat} {s : CS} {pc : Nat} {lv : List (Nat × Value)} {r : List Value} {α : Type} {z : α} {a : Nat} {v : Int32} {K : CS → Option α} (T : cOK X E cc RX0 nL ret z0 l0 z1 l1) (h : pI s a [0] 7 v K = some z) (d : decode cc pc = .ok (.putfield 116, 3)) (kk : ∀ s', K s' = some z → cW X z1 l1 s' (pc + 3) lv r) : cW X z1 l1 s pc lv (.int v :: .ref a :: r) := by
  obtain ⟨h1, h2⟩ := if_of h
  obtain ⟨c, n, ha, hc⟩ := isW_of h1
  have k := kk _ h2
  simp only [List.mem_cons, List.not_mem_nil, or_false] at hc
  rcases hc with rfl
  · exact c_put (k := 7) (ty := .int) (p := (0, 7)) T kX0 ha rfl uI_v (fun q hq => uI_o q hq) (fun b c n hb => uI_b b c n hb) rfl rfl rfl rfl q497 (fun _ h9 => h9) rfl (by decide +kernel) rfl rfl d k
/-- OverFirst$State.x -/
theorem cp_X0_197 {X : KC CS} {E : CE} {cc : ByteArray} {nL : Nat} {ret : Option FieldType} {z0 l0 z1 l1 : Nat} {s : CS} {pc : Nat} {lv : List (Nat × Value)} {r : List Value} {α : Type} {z : α} {a : Nat} {v : Int32} {K : CS → Option α} (T : cOK X E cc RX0 nL ret z0 l0 z1 l1) (h : pI s a [8] 800 v K = some z) (d : decode cc pc = .ok (.putfield 197, 3)) (kk : ∀ s', K s' = some z → cW X z1 l1 s' (pc + 3) lv r) : cW X z1 l1 s pc lv (.int v :: .ref a :: r) := by
  obtain ⟨h1, h2⟩ := if_of h
  obtain ⟨c, n, ha, hc⟩ := isW_of h1
  have k := kk _ h2
  simp only [List.mem_cons, List.not_mem_nil, or_false] at hc
  rcases hc with rfl
  · exact c_putN (k := 0) (ty := .int) (p := (0, 800)) T kX8 ha rfl uI_v (fun q hq => uI_o q hq) (fun b c n hb => uI_b b c n hb) rfl rfl rfl rfl q437 (fun _ h9 => h9) rfl (by decide +kernel) rfl rfl d k
/-- OverFirst$State.y -/
theorem cp_X0_200 {X : KC CS} {E : CE} {cc : ByteArray} {nL : Nat} {ret : Option FieldType} {z0 l0 z1 l1 : Nat} {s : CS} {pc : Nat} {lv : List (Nat × Value)} {r : List Value} {α : Type} {z : α} {a : Nat} {v : Int32} {K : CS → Option α} (T : cOK X E cc RX0 nL ret z0 l0 z1 l1) (h : pI s a [8] 801 v K = some z) (d : decode cc pc = .ok (.putfield 200, 3)) (kk : ∀ s', K s' = some z → cW X z1 l1 s' (pc + 3) lv r) : cW X z1 l1 s pc lv (.int v :: .ref a :: r) := by
  obtain ⟨h1, h2⟩ := if_of h
  obtain ⟨c, n, ha, hc⟩ := isW_of h1
  have k := kk _ h2
  simp only [List.mem_cons, List.not_mem_nil, or_false] at hc
  rcases hc with rfl
  · exact c_putN (k := 1) (ty := .int) (p := (0, 801)) T kX8 ha rfl uI_v (fun q hq => uI_o q hq) (fun b c n hb => uI_b b c n hb) rfl rfl rfl rfl q439 (fun _ h9 => h9) rfl (by decide +kernel) rfl rfl d k
/-- OverFirst$State.second -/
theorem cp_X0_203 {X : KC CS} {E : CE} {cc : ByteArray} {nL : Nat} {ret : Option FieldType} {z0 l0 z1 l1 : Nat} {s : CS} {pc : Nat} {lv : List (Nat × Value)} {r : List Value} {α : Type} {z : α} {a : Nat} {v : Int32} {K : CS → Option α} (T : cOK X E cc RX0 nL ret z0 l0 z1 l1) (h : pI s a [8] 802 v K = some z) (d : decode cc pc = .ok (.putfield 203, 3)) (kk : ∀ s', K s' = some z → cW X z1 l1 s' (pc + 3) lv r) : cW X z1 l1 s pc lv (.int v :: .ref a :: r) := by
  obtain ⟨h1, h2⟩ := if_of h
  obtain ⟨c, n, ha, hc⟩ := isW_of h1
  have k := kk _ h2
  simp only [List.mem_cons, List.not_mem_nil, or_false] at hc
  rcases hc with rfl
  · exact c_putN (k := 2) (ty := .int) (p := (0, 802)) T kX8 ha rfl uI_v (fun q hq => uI_o q hq) (fun b c n hb => uI_b b c n hb) rfl rfl rfl rfl q441 (fun _ h9 => h9) rfl (by decide +kernel) rfl rfl d k
/-- OverFirst$State.runs -/
theorem cp_X0_206 {X : KC CS} {E : CE} {cc : ByteArray} {nL : Nat} {ret : Option FieldType} {z0 l0 z1 l1 : Nat} {s : CS} {pc : Nat} {lv : List (Nat × Value)} {r : List Value} {α : Type} {z : α} {a : Nat} {v : Int32} {K : CS → Option α} (T : cOK X E cc RX0 nL ret z0 l0 z1 l1) (h : pI s a [8] 803 v K = some z) (d : decode cc pc = .ok (.putfield 206, 3)) (kk : ∀ s', K s' = some z → cW X z1 l1 s' (pc + 3) lv r) : cW X z1 l1 s pc lv (.int v :: .ref a :: r) := by
  obtain ⟨h1, h2⟩ := if_of h
  obtain ⟨c, n, ha, hc⟩ := isW_of h1
  have k := kk _ h2
  simp only [List.mem_cons, List.not_mem_nil, or_false] at hc
  rcases hc with rfl
  · exact c_putN (k := 3) (ty := .int) (p := (0, 803)) T kX8 ha rfl uI_v (fun q hq => uI_o q hq) (fun b c n hb => uI_b b c n hb) rfl rfl rfl rfl q443 (fun _ h9 => h9) rfl (by decide +kernel) rfl rfl d k
/-- OverFirst.isWorst -/
theorem cp_X0_237 {X : KC CS} {E : CE} {cc : ByteArray} {nL : Nat} {ret : Option FieldType} {z0 l0 z1 l1 : Nat} {s : CS} {pc : Nat} {lv : List (Nat × Value)} {r : List Value} {α : Type} {z : α} {a : Nat} {v : Int32} {K : CS → Option α} (T : cOK X E cc RX0 nL ret z0 l0 z1 l1) (h : gd (isb v) (pI s a [0] 10 v K) = some z) (d : decode cc pc = .ok (.putfield 237, 3)) (kk : ∀ s', K s' = some z → cW X z1 l1 s' (pc + 3) lv r) : cW X z1 l1 s pc lv (.int v :: .ref a :: r) := by
  obtain ⟨hb, h⟩ := gd_of h
  obtain ⟨h1, h2⟩ := if_of h
  obtain ⟨c, n, ha, hc⟩ := isW_of h1
  have k := kk _ h2
  simp only [List.mem_cons, List.not_mem_nil, or_false] at hc
  rcases hc with rfl
  · exact c_put (k := 10) (ty := .boolean) (p := (0, 10)) T kX0 ha rfl uI_v (fun q hq => uI_o q hq) (fun b c n hb => uI_b b c n hb) rfl rfl rfl rfl q500 (fun _ h9 => h9) rfl (by decide +kernel) (isb_nar hb) (isb_fit hb) d k
/-- OverFirst.stands -/
theorem cp_X0_281 {X : KC CS} {E : CE} {cc : ByteArray} {nL : Nat} {ret : Option FieldType} {z0 l0 z1 l1 : Nat} {s : CS} {pc : Nat} {lv : List (Nat × Value)} {r : List Value} {α : Type} {z : α} {a : Nat} {v : Int32} {K : CS → Option α} (T : cOK X E cc RX0 nL ret z0 l0 z1 l1) (h : pI s a [0] 12 v K = some z) (d : decode cc pc = .ok (.putfield 281, 3)) (kk : ∀ s', K s' = some z → cW X z1 l1 s' (pc + 3) lv r) : cW X z1 l1 s pc lv (.int v :: .ref a :: r) := by
  obtain ⟨h1, h2⟩ := if_of h
  obtain ⟨c, n, ha, hc⟩ := isW_of h1
  have k := kk _ h2
  simp only [List.mem_cons, List.not_mem_nil, or_false] at hc
  rcases hc with rfl
  · exact c_put (k := 12) (ty := .int) (p := (0, 12)) T kX0 ha rfl uI_v (fun q hq => uI_o q hq) (fun b c n hb => uI_b b c n hb) rfl rfl rfl rfl q502 (fun _ h9 => h9) rfl (by decide +kernel) rfl rfl d k
/-- OverFirst.areTold -/
theorem cp_X0_284 {X : KC CS} {E : CE} {cc : ByteArray} {nL : Nat} {ret : Option FieldType} {z0 l0 z1 l1 : Nat} {s : CS} {pc : Nat} {lv : List (Nat × Value)} {r : List Value} {α : Type} {z : α} {a : Nat} {v : Int32} {K : CS → Option α} (T : cOK X E cc RX0 nL ret z0 l0 z1 l1) (h : gd (isb v) (pI s a [0] 9 v K) = some z) (d : decode cc pc = .ok (.putfield 284, 3)) (kk : ∀ s', K s' = some z → cW X z1 l1 s' (pc + 3) lv r) : cW X z1 l1 s pc lv (.int v :: .ref a :: r) := by
  obtain ⟨hb, h⟩ := gd_of h
  obtain ⟨h1, h2⟩ := if_of h
  obtain ⟨c, n, ha, hc⟩ := isW_of h1
  have k := kk _ h2
  simp only [List.mem_cons, List.not_mem_nil, or_false] at hc
  rcases hc with rfl
  · exact c_put (k := 9) (ty := .boolean) (p := (0, 9)) T kX0 ha rfl uI_v (fun q hq => uI_o q hq) (fun b c n hb => uI_b b c n hb) rfl rfl rfl rfl q499 (fun _ h9 => h9) rfl (by decide +kernel) (isb_nar hb) (isb_fit hb) d k
/-- OverFirst$State.tried -/
theorem cp_X0_376 {X : KC CS} {E : CE} {cc : ByteArray} {nL : Nat} {ret : Option FieldType} {z0 l0 z1 l1 : Nat} {s : CS} {pc : Nat} {lv : List (Nat × Value)} {r : List Value} {α : Type} {z : α} {a : Nat} {v : Int32} {K : CS → Option α} (T : cOK X E cc RX0 nL ret z0 l0 z1 l1) (h : pI s a [8] 804 v K = some z) (d : decode cc pc = .ok (.putfield 376, 3)) (kk : ∀ s', K s' = some z → cW X z1 l1 s' (pc + 3) lv r) : cW X z1 l1 s pc lv (.int v :: .ref a :: r) := by
  obtain ⟨h1, h2⟩ := if_of h
  obtain ⟨c, n, ha, hc⟩ := isW_of h1
  have k := kk _ h2
  simp only [List.mem_cons, List.not_mem_nil, or_false] at hc
  rcases hc with rfl
  · exact c_putN (k := 4) (ty := .int) (p := (0, 804)) T kX8 ha rfl uI_v (fun q hq => uI_o q hq) (fun b c n hb => uI_b b c n hb) rfl rfl rfl rfl q445 (fun _ h9 => h9) rfl (by decide +kernel) rfl rfl d k
/-- OverFirst.bestWave -/
theorem cp_X0_396 {X : KC CS} {E : CE} {cc : ByteArray} {nL : Nat} {ret : Option FieldType} {z0 l0 z1 l1 : Nat} {s : CS} {pc : Nat} {lv : List (Nat × Value)} {r : List Value} {α : Type} {z : α} {a : Nat} {v : Int32} {K : CS → Option α} (T : cOK X E cc RX0 nL ret z0 l0 z1 l1) (h : pI s a [0] 20 v K = some z) (d : decode cc pc = .ok (.putfield 396, 3)) (kk : ∀ s', K s' = some z → cW X z1 l1 s' (pc + 3) lv r) : cW X z1 l1 s pc lv (.int v :: .ref a :: r) := by
  obtain ⟨h1, h2⟩ := if_of h
  obtain ⟨c, n, ha, hc⟩ := isW_of h1
  have k := kk _ h2
  simp only [List.mem_cons, List.not_mem_nil, or_false] at hc
  rcases hc with rfl
  · exact c_put (k := 20) (ty := .int) (p := (0, 20)) T kX0 ha rfl uI_v (fun q hq => uI_o q hq) (fun b c n hb => uI_b b c n hb) rfl rfl rfl rfl q510 (fun _ h9 => h9) rfl (by decide +kernel) rfl rfl d k
/-- OverFirst$State.was -/
theorem cp_X0_410 {X : KC CS} {E : CE} {cc : ByteArray} {nL : Nat} {ret : Option FieldType} {z0 l0 z1 l1 : Nat} {s : CS} {pc : Nat} {lv : List (Nat × Value)} {r : List Value} {α : Type} {z : α} {a : Nat} {v : Int32} {K : CS → Option α} (T : cOK X E cc RX0 nL ret z0 l0 z1 l1) (h : pI s a [8] 805 v K = some z) (d : decode cc pc = .ok (.putfield 410, 3)) (kk : ∀ s', K s' = some z → cW X z1 l1 s' (pc + 3) lv r) : cW X z1 l1 s pc lv (.int v :: .ref a :: r) := by
  obtain ⟨h1, h2⟩ := if_of h
  obtain ⟨c, n, ha, hc⟩ := isW_of h1
  have k := kk _ h2
  simp only [List.mem_cons, List.not_mem_nil, or_false] at hc
  rcases hc with rfl
  · exact c_putN (k := 5) (ty := .int) (p := (0, 805)) T kX8 ha rfl uI_v (fun q hq => uI_o q hq) (fun b c n hb => uI_b b c n hb) rfl rfl rfl rfl q447 (fun _ h9 => h9) rfl (by decide +kernel) rfl rfl d k
/-- OverFirst.fits -/
theorem cp_X0_422 {X : KC CS} {E : CE} {cc : ByteArray} {nL : Nat} {ret : Option FieldType} {z0 l0 z1 l1 : Nat} {s : CS} {pc : Nat} {lv : List (Nat × Value)} {r : List Value} {α : Type} {z : α} {a : Nat} {v : Int32} {K : CS → Option α} (T : cOK X E cc RX0 nL ret z0 l0 z1 l1) (h : pI s a [0] 21 v K = some z) (d : decode cc pc = .ok (.putfield 422, 3)) (kk : ∀ s', K s' = some z → cW X z1 l1 s' (pc + 3) lv r) : cW X z1 l1 s pc lv (.int v :: .ref a :: r) := by
  obtain ⟨h1, h2⟩ := if_of h
  obtain ⟨c, n, ha, hc⟩ := isW_of h1
  have k := kk _ h2
  simp only [List.mem_cons, List.not_mem_nil, or_false] at hc
  rcases hc with rfl
  · exact c_put (k := 21) (ty := .int) (p := (0, 21)) T kX0 ha rfl uI_v (fun q hq => uI_o q hq) (fun b c n hb => uI_b b c n hb) rfl rfl rfl rfl q511 (fun _ h9 => h9) rfl (by decide +kernel) rfl rfl d k
/-- OverFirst.firstFit -/
theorem cp_X0_425 {X : KC CS} {E : CE} {cc : ByteArray} {nL : Nat} {ret : Option FieldType} {z0 l0 z1 l1 : Nat} {s : CS} {pc : Nat} {lv : List (Nat × Value)} {r : List Value} {α : Type} {z : α} {a : Nat} {v : Int32} {K : CS → Option α} (T : cOK X E cc RX0 nL ret z0 l0 z1 l1) (h : pI s a [0] 22 v K = some z) (d : decode cc pc = .ok (.putfield 425, 3)) (kk : ∀ s', K s' = some z → cW X z1 l1 s' (pc + 3) lv r) : cW X z1 l1 s pc lv (.int v :: .ref a :: r) := by
  obtain ⟨h1, h2⟩ := if_of h
  obtain ⟨c, n, ha, hc⟩ := isW_of h1
  have k := kk _ h2
  simp only [List.mem_cons, List.not_mem_nil, or_false] at hc
  rcases hc with rfl
  · exact c_put (k := 22) (ty := .int) (p := (0, 22)) T kX0 ha rfl uI_v (fun q hq => uI_o q hq) (fun b c n hb => uI_b b c n hb) rfl rfl rfl rfl q512 (fun _ h9 => h9) rfl (by decide +kernel) rfl rfl d k
/-- OverFirst.onAll -/
theorem cp_X0_428 {X : KC CS} {E : CE} {cc : ByteArray} {nL : Nat} {ret : Option FieldType} {z0 l0 z1 l1 : Nat} {s : CS} {pc : Nat} {lv : List (Nat × Value)} {r : List Value} {α : Type} {z : α} {a : Nat} {v : Int64} {K : CS → Option α} (T : cOK X E cc RX0 nL ret z0 l0 z1 l1) (h : pJ s a [0] 23 v K = some z) (d : decode cc pc = .ok (.putfield 428, 3)) (kk : ∀ s', K s' = some z → cW X z1 l1 s' (pc + 3) lv r) : cW X z1 l1 s pc lv (.long v :: .ref a :: r) := by
  obtain ⟨h1, h2⟩ := if_of h
  obtain ⟨c, n, ha, hc⟩ := isW_of h1
  have k := kk _ h2
  simp only [List.mem_cons, List.not_mem_nil, or_false] at hc
  rcases hc with rfl
  · exact c_put (k := 23) (ty := .long) (p := (1, 23)) T kX0 ha rfl uJ_v (fun q hq => uJ_o q hq) (fun b c n hb => uJ_b b c n hb) rfl rfl rfl rfl q513 (fun _ h9 => h9) rfl (by decide +kernel) rfl rfl d k
/-- OverFirst.onAllHigh -/
theorem cp_X0_432 {X : KC CS} {E : CE} {cc : ByteArray} {nL : Nat} {ret : Option FieldType} {z0 l0 z1 l1 : Nat} {s : CS} {pc : Nat} {lv : List (Nat × Value)} {r : List Value} {α : Type} {z : α} {a : Nat} {v : Int64} {K : CS → Option α} (T : cOK X E cc RX0 nL ret z0 l0 z1 l1) (h : pJ s a [0] 24 v K = some z) (d : decode cc pc = .ok (.putfield 432, 3)) (kk : ∀ s', K s' = some z → cW X z1 l1 s' (pc + 3) lv r) : cW X z1 l1 s pc lv (.long v :: .ref a :: r) := by
  obtain ⟨h1, h2⟩ := if_of h
  obtain ⟨c, n, ha, hc⟩ := isW_of h1
  have k := kk _ h2
  simp only [List.mem_cons, List.not_mem_nil, or_false] at hc
  rcases hc with rfl
  · exact c_put (k := 24) (ty := .long) (p := (1, 24)) T kX0 ha rfl uJ_v (fun q hq => uJ_o q hq) (fun b c n hb => uJ_b b c n hb) rfl rfl rfl rfl q514 (fun _ h9 => h9) rfl (by decide +kernel) rfl rfl d k
/-- OverFirst.g -/
theorem cp_X0_439 {X : KC CS} {E : CE} {cc : ByteArray} {nL : Nat} {ret : Option FieldType} {z0 l0 z1 l1 : Nat} {s : CS} {pc : Nat} {lv : List (Nat × Value)} {r : List Value} {α : Type} {z : α} {a : Nat} {v : Int64} {K : CS → Option α} (T : cOK X E cc RX0 nL ret z0 l0 z1 l1) (h : pJ s a [0] 25 v K = some z) (d : decode cc pc = .ok (.putfield 439, 3)) (kk : ∀ s', K s' = some z → cW X z1 l1 s' (pc + 3) lv r) : cW X z1 l1 s pc lv (.long v :: .ref a :: r) := by
  obtain ⟨h1, h2⟩ := if_of h
  obtain ⟨c, n, ha, hc⟩ := isW_of h1
  have k := kk _ h2
  simp only [List.mem_cons, List.not_mem_nil, or_false] at hc
  rcases hc with rfl
  · exact c_put (k := 25) (ty := .long) (p := (1, 25)) T kX0 ha rfl uJ_v (fun q hq => uJ_o q hq) (fun b c n hb => uJ_b b c n hb) rfl rfl rfl rfl q515 (fun _ h9 => h9) rfl (by decide +kernel) rfl rfl d k
/-- OverFirst$Reader.text -/
theorem cp_X1_9 {X : KC CS} {E : CE} {cc : ByteArray} {nL : Nat} {ret : Option FieldType} {z0 l0 z1 l1 : Nat} {s : CS} {pc : Nat} {lv : List (Nat × Value)} {r : List Value} {α : Type} {z : α} {a : Nat} {v : Nat} {K : CS → Option α} (T : cOK X E cc RX1 nL ret z0 l0 z1 l1) (h : pR s a [1] 100 (some v) K = some z) (d : decode cc pc = .ok (.putfield 9, 3)) (kk : ∀ s', K s' = some z → cW X z1 l1 s' (pc + 3) lv r) : cW X z1 l1 s pc lv (.ref v :: .ref a :: r) := by
  obtain ⟨h1, h2⟩ := if_of h
  obtain ⟨c, n, ha, hc⟩ := isW_of h1
  have k := kk _ h2
  simp only [List.mem_cons, List.not_mem_nil, or_false] at hc
  rcases hc with rfl
  · exact c_put (k := 0) (ty := (.array .byte)) (p := (2, 100)) T kX1 ha rfl uR_v (fun q hq => uR_o q hq) (fun b c n hb => uR_b b c n hb) rfl rfl rfl rfl q191 (fun _ h9 => h9) rfl (by decide +kernel) rfl rfl d k
/-- OverFirst$Reader.text -/
theorem cp_X1_9z {X : KC CS} {E : CE} {cc : ByteArray} {nL : Nat} {ret : Option FieldType} {z0 l0 z1 l1 : Nat} {s : CS} {pc : Nat} {lv : List (Nat × Value)} {r : List Value} {α : Type} {z : α} {a : Nat}  {K : CS → Option α} (T : cOK X E cc RX1 nL ret z0 l0 z1 l1) (h : pR s a [1] 100 none K = some z) (d : decode cc pc = .ok (.putfield 9, 3)) (kk : ∀ s', K s' = some z → cW X z1 l1 s' (pc + 3) lv r) : cW X z1 l1 s pc lv (.null :: .ref a :: r) := by
  obtain ⟨h1, h2⟩ := if_of h
  obtain ⟨c, n, ha, hc⟩ := isW_of h1
  have k := kk _ h2
  simp only [List.mem_cons, List.not_mem_nil, or_false] at hc
  rcases hc with rfl
  · exact c_put (k := 0) (ty := (.array .byte)) (p := (2, 100)) T kX1 ha rfl uR_v (fun q hq => uR_o q hq) (fun b c n hb => uR_b b c n hb) rfl rfl rfl rfl q191 (fun _ h9 => h9) rfl (by decide +kernel) rfl rfl d k
/-- OverFirst$Reader.text -/
theorem cp_X1_9o {X : KC CS} {E : CE} {cc : ByteArray} {nL : Nat} {ret : Option FieldType} {z0 l0 z1 l1 : Nat} {s : CS} {pc : Nat} {lv : List (Nat × Value)} {r : List Value} {α : Type} {z : α} {a : Nat} {v : Option Nat} {K : CS → Option α} (T : cOK X E cc RX1 nL ret z0 l0 z1 l1) (h : pR s a [1] 100 v K = some z) (d : decode cc pc = .ok (.putfield 9, 3)) (kk : ∀ s', K s' = some z → cW X z1 l1 s' (pc + 3) lv r) : cW X z1 l1 s pc lv (va_rf v :: .ref a :: r) := by
  obtain ⟨h1, h2⟩ := if_of h
  obtain ⟨c, n, ha, hc⟩ := isW_of h1
  have k := kk _ h2
  simp only [List.mem_cons, List.not_mem_nil, or_false] at hc
  rcases hc with rfl
  · exact c_put (k := 0) (ty := (.array .byte)) (p := (2, 100)) T kX1 ha rfl uR_v (fun q hq => uR_o q hq) (fun b c n hb => uR_b b c n hb) rfl rfl rfl rfl q191 (fun _ h9 => h9) rfl (by decide +kernel) (by cases v <;> rfl) (by cases v <;> rfl) d k
/-- OverFirst$Reader.size -/
theorem cp_X1_15 {X : KC CS} {E : CE} {cc : ByteArray} {nL : Nat} {ret : Option FieldType} {z0 l0 z1 l1 : Nat} {s : CS} {pc : Nat} {lv : List (Nat × Value)} {r : List Value} {α : Type} {z : α} {a : Nat} {v : Int32} {K : CS → Option α} (T : cOK X E cc RX1 nL ret z0 l0 z1 l1) (h : pI s a [1] 101 v K = some z) (d : decode cc pc = .ok (.putfield 15, 3)) (kk : ∀ s', K s' = some z → cW X z1 l1 s' (pc + 3) lv r) : cW X z1 l1 s pc lv (.int v :: .ref a :: r) := by
  obtain ⟨h1, h2⟩ := if_of h
  obtain ⟨c, n, ha, hc⟩ := isW_of h1
  have k := kk _ h2
  simp only [List.mem_cons, List.not_mem_nil, or_false] at hc
  rcases hc with rfl
  · exact c_put (k := 1) (ty := .int) (p := (0, 101)) T kX1 ha rfl uI_v (fun q hq => uI_o q hq) (fun b c n hb => uI_b b c n hb) rfl rfl rfl rfl q192 (fun _ h9 => h9) rfl (by decide +kernel) rfl rfl d k
/-- OverFirst$Reader.to -/
theorem cp_X1_19 {X : KC CS} {E : CE} {cc : ByteArray} {nL : Nat} {ret : Option FieldType} {z0 l0 z1 l1 : Nat} {s : CS} {pc : Nat} {lv : List (Nat × Value)} {r : List Value} {α : Type} {z : α} {a : Nat} {v : Int32} {K : CS → Option α} (T : cOK X E cc RX1 nL ret z0 l0 z1 l1) (h : pI s a [1] 102 v K = some z) (d : decode cc pc = .ok (.putfield 19, 3)) (kk : ∀ s', K s' = some z → cW X z1 l1 s' (pc + 3) lv r) : cW X z1 l1 s pc lv (.int v :: .ref a :: r) := by
  obtain ⟨h1, h2⟩ := if_of h
  obtain ⟨c, n, ha, hc⟩ := isW_of h1
  have k := kk _ h2
  simp only [List.mem_cons, List.not_mem_nil, or_false] at hc
  rcases hc with rfl
  · exact c_put (k := 2) (ty := .int) (p := (0, 102)) T kX1 ha rfl uI_v (fun q hq => uI_o q hq) (fun b c n hb => uI_b b c n hb) rfl rfl rfl rfl q193 (fun _ h9 => h9) rfl (by decide +kernel) rfl rfl d k
/-- OverFirst$Reader.within -/
theorem cp_X1_22 {X : KC CS} {E : CE} {cc : ByteArray} {nL : Nat} {ret : Option FieldType} {z0 l0 z1 l1 : Nat} {s : CS} {pc : Nat} {lv : List (Nat × Value)} {r : List Value} {α : Type} {z : α} {a : Nat} {v : Int32} {K : CS → Option α} (T : cOK X E cc RX1 nL ret z0 l0 z1 l1) (h : pI s a [1] 106 v K = some z) (d : decode cc pc = .ok (.putfield 22, 3)) (kk : ∀ s', K s' = some z → cW X z1 l1 s' (pc + 3) lv r) : cW X z1 l1 s pc lv (.int v :: .ref a :: r) := by
  obtain ⟨h1, h2⟩ := if_of h
  obtain ⟨c, n, ha, hc⟩ := isW_of h1
  have k := kk _ h2
  simp only [List.mem_cons, List.not_mem_nil, or_false] at hc
  rcases hc with rfl
  · exact c_put (k := 6) (ty := .int) (p := (0, 106)) T kX1 ha rfl uI_v (fun q hq => uI_o q hq) (fun b c n hb => uI_b b c n hb) rfl rfl rfl rfl q197 (fun _ h9 => h9) rfl (by decide +kernel) rfl rfl d k
/-- OverFirst$Reader.from -/
theorem cp_X1_28 {X : KC CS} {E : CE} {cc : ByteArray} {nL : Nat} {ret : Option FieldType} {z0 l0 z1 l1 : Nat} {s : CS} {pc : Nat} {lv : List (Nat × Value)} {r : List Value} {α : Type} {z : α} {a : Nat} {v : Int32} {K : CS → Option α} (T : cOK X E cc RX1 nL ret z0 l0 z1 l1) (h : pI s a [1] 104 v K = some z) (d : decode cc pc = .ok (.putfield 28, 3)) (kk : ∀ s', K s' = some z → cW X z1 l1 s' (pc + 3) lv r) : cW X z1 l1 s pc lv (.int v :: .ref a :: r) := by
  obtain ⟨h1, h2⟩ := if_of h
  obtain ⟨c, n, ha, hc⟩ := isW_of h1
  have k := kk _ h2
  simp only [List.mem_cons, List.not_mem_nil, or_false] at hc
  rcases hc with rfl
  · exact c_put (k := 4) (ty := .int) (p := (0, 104)) T kX1 ha rfl uI_v (fun q hq => uI_o q hq) (fun b c n hb => uI_b b c n hb) rfl rfl rfl rfl q195 (fun _ h9 => h9) rfl (by decide +kernel) rfl rfl d k
/-- OverFirst$Reader.kind -/
theorem cp_X1_31 {X : KC CS} {E : CE} {cc : ByteArray} {nL : Nat} {ret : Option FieldType} {z0 l0 z1 l1 : Nat} {s : CS} {pc : Nat} {lv : List (Nat × Value)} {r : List Value} {α : Type} {z : α} {a : Nat} {v : Int32} {K : CS → Option α} (T : cOK X E cc RX1 nL ret z0 l0 z1 l1) (h : pI s a [1] 103 v K = some z) (d : decode cc pc = .ok (.putfield 31, 3)) (kk : ∀ s', K s' = some z → cW X z1 l1 s' (pc + 3) lv r) : cW X z1 l1 s pc lv (.int v :: .ref a :: r) := by
  obtain ⟨h1, h2⟩ := if_of h
  obtain ⟨c, n, ha, hc⟩ := isW_of h1
  have k := kk _ h2
  simp only [List.mem_cons, List.not_mem_nil, or_false] at hc
  rcases hc with rfl
  · exact c_put (k := 3) (ty := .int) (p := (0, 103)) T kX1 ha rfl uI_v (fun q hq => uI_o q hq) (fun b c n hb => uI_b b c n hb) rfl rfl rfl rfl q194 (fun _ h9 => h9) rfl (by decide +kernel) rfl rfl d k
/-- OverFirst$Reader.value -/
theorem cp_X1_45 {X : KC CS} {E : CE} {cc : ByteArray} {nL : Nat} {ret : Option FieldType} {z0 l0 z1 l1 : Nat} {s : CS} {pc : Nat} {lv : List (Nat × Value)} {r : List Value} {α : Type} {z : α} {a : Nat} {v : Int32} {K : CS → Option α} (T : cOK X E cc RX1 nL ret z0 l0 z1 l1) (h : pI s a [1] 105 v K = some z) (d : decode cc pc = .ok (.putfield 45, 3)) (kk : ∀ s', K s' = some z → cW X z1 l1 s' (pc + 3) lv r) : cW X z1 l1 s pc lv (.int v :: .ref a :: r) := by
  obtain ⟨h1, h2⟩ := if_of h
  obtain ⟨c, n, ha, hc⟩ := isW_of h1
  have k := kk _ h2
  simp only [List.mem_cons, List.not_mem_nil, or_false] at hc
  rcases hc with rfl
  · exact c_put (k := 5) (ty := .int) (p := (0, 105)) T kX1 ha rfl uI_v (fun q hq => uI_o q hq) (fun b c n hb => uI_b b c n hb) rfl rfl rfl rfl q196 (fun _ h9 => h9) rfl (by decide +kernel) rfl rfl d k
/-- OverFirst$Reader.town -/
theorem cp_X1_98 {X : KC CS} {E : CE} {cc : ByteArray} {nL : Nat} {ret : Option FieldType} {z0 l0 z1 l1 : Nat} {s : CS} {pc : Nat} {lv : List (Nat × Value)} {r : List Value} {α : Type} {z : α} {a : Nat} {v : Nat} {K : CS → Option α} (T : cOK X E cc RX1 nL ret z0 l0 z1 l1) (h : pR s a [1] 107 (some v) K = some z) (d : decode cc pc = .ok (.putfield 98, 3)) (kk : ∀ s', K s' = some z → cW X z1 l1 s' (pc + 3) lv r) : cW X z1 l1 s pc lv (.ref v :: .ref a :: r) := by
  obtain ⟨h1, h2⟩ := if_of h
  obtain ⟨c, n, ha, hc⟩ := isW_of h1
  have k := kk _ h2
  simp only [List.mem_cons, List.not_mem_nil, or_false] at hc
  rcases hc with rfl
  · exact c_put (k := 7) (ty := (.object "OverFirst$Town")) (p := (2, 107)) T kX1 ha rfl uR_v (fun q hq => uR_o q hq) (fun b c n hb => uR_b b c n hb) rfl rfl rfl rfl q198 (fun _ h9 => h9) rfl (by decide +kernel) rfl rfl d k
/-- OverFirst$Reader.town -/
theorem cp_X1_98z {X : KC CS} {E : CE} {cc : ByteArray} {nL : Nat} {ret : Option FieldType} {z0 l0 z1 l1 : Nat} {s : CS} {pc : Nat} {lv : List (Nat × Value)} {r : List Value} {α : Type} {z : α} {a : Nat}  {K : CS → Option α} (T : cOK X E cc RX1 nL ret z0 l0 z1 l1) (h : pR s a [1] 107 none K = some z) (d : decode cc pc = .ok (.putfield 98, 3)) (kk : ∀ s', K s' = some z → cW X z1 l1 s' (pc + 3) lv r) : cW X z1 l1 s pc lv (.null :: .ref a :: r) := by
  obtain ⟨h1, h2⟩ := if_of h
  obtain ⟨c, n, ha, hc⟩ := isW_of h1
  have k := kk _ h2
  simp only [List.mem_cons, List.not_mem_nil, or_false] at hc
  rcases hc with rfl
  · exact c_put (k := 7) (ty := (.object "OverFirst$Town")) (p := (2, 107)) T kX1 ha rfl uR_v (fun q hq => uR_o q hq) (fun b c n hb => uR_b b c n hb) rfl rfl rfl rfl q198 (fun _ h9 => h9) rfl (by decide +kernel) rfl rfl d k
/-- OverFirst$Reader.town -/
theorem cp_X1_98o {X : KC CS} {E : CE} {cc : ByteArray} {nL : Nat} {ret : Option FieldType} {z0 l0 z1 l1 : Nat} {s : CS} {pc : Nat} {lv : List (Nat × Value)} {r : List Value} {α : Type} {z : α} {a : Nat} {v : Option Nat} {K : CS → Option α} (T : cOK X E cc RX1 nL ret z0 l0 z1 l1) (h : pR s a [1] 107 v K = some z) (d : decode cc pc = .ok (.putfield 98, 3)) (kk : ∀ s', K s' = some z → cW X z1 l1 s' (pc + 3) lv r) : cW X z1 l1 s pc lv (va_rf v :: .ref a :: r) := by
  obtain ⟨h1, h2⟩ := if_of h
  obtain ⟨c, n, ha, hc⟩ := isW_of h1
  have k := kk _ h2
  simp only [List.mem_cons, List.not_mem_nil, or_false] at hc
  rcases hc with rfl
  · exact c_put (k := 7) (ty := (.object "OverFirst$Town")) (p := (2, 107)) T kX1 ha rfl uR_v (fun q hq => uR_o q hq) (fun b c n hb => uR_b b c n hb) rfl rfl rfl rfl q198 (fun _ h9 => h9) rfl (by decide +kernel) (by cases v <;> rfl) (by cases v <;> rfl) d k
/-- OverFirst$Town.walk -/
theorem cp_X1_127 {X : KC CS} {E : CE} {cc : ByteArray} {nL : Nat} {ret : Option FieldType} {z0 l0 z1 l1 : Nat} {s : CS} {pc : Nat} {lv : List (Nat × Value)} {r : List Value} {α : Type} {z : α} {a : Nat} {v : Int32} {K : CS → Option α} (T : cOK X E cc RX1 nL ret z0 l0 z1 l1) (h : pI s a [2] 202 v K = some z) (d : decode cc pc = .ok (.putfield 127, 3)) (kk : ∀ s', K s' = some z → cW X z1 l1 s' (pc + 3) lv r) : cW X z1 l1 s pc lv (.int v :: .ref a :: r) := by
  obtain ⟨h1, h2⟩ := if_of h
  obtain ⟨c, n, ha, hc⟩ := isW_of h1
  have k := kk _ h2
  simp only [List.mem_cons, List.not_mem_nil, or_false] at hc
  rcases hc with rfl
  · exact c_putN (k := 2) (ty := .int) (p := (0, 202)) T kX2 ha rfl uI_v (fun q hq => uI_o q hq) (fun b c n hb => uI_b b c n hb) rfl rfl rfl rfl q357 (fun _ h9 => h9) rfl (by decide +kernel) rfl rfl d k
/-- OverFirst$Town.run -/
theorem cp_X1_130 {X : KC CS} {E : CE} {cc : ByteArray} {nL : Nat} {ret : Option FieldType} {z0 l0 z1 l1 : Nat} {s : CS} {pc : Nat} {lv : List (Nat × Value)} {r : List Value} {α : Type} {z : α} {a : Nat} {v : Int32} {K : CS → Option α} (T : cOK X E cc RX1 nL ret z0 l0 z1 l1) (h : pI s a [2] 203 v K = some z) (d : decode cc pc = .ok (.putfield 130, 3)) (kk : ∀ s', K s' = some z → cW X z1 l1 s' (pc + 3) lv r) : cW X z1 l1 s pc lv (.int v :: .ref a :: r) := by
  obtain ⟨h1, h2⟩ := if_of h
  obtain ⟨c, n, ha, hc⟩ := isW_of h1
  have k := kk _ h2
  simp only [List.mem_cons, List.not_mem_nil, or_false] at hc
  rcases hc with rfl
  · exact c_putN (k := 3) (ty := .int) (p := (0, 203)) T kX2 ha rfl uI_v (fun q hq => uI_o q hq) (fun b c n hb => uI_b b c n hb) rfl rfl rfl rfl q359 (fun _ h9 => h9) rfl (by decide +kernel) rfl rfl d k
/-- OverFirst$Town.slow -/
theorem cp_X1_133 {X : KC CS} {E : CE} {cc : ByteArray} {nL : Nat} {ret : Option FieldType} {z0 l0 z1 l1 : Nat} {s : CS} {pc : Nat} {lv : List (Nat × Value)} {r : List Value} {α : Type} {z : α} {a : Nat} {v : Int32} {K : CS → Option α} (T : cOK X E cc RX1 nL ret z0 l0 z1 l1) (h : pI s a [2] 204 v K = some z) (d : decode cc pc = .ok (.putfield 133, 3)) (kk : ∀ s', K s' = some z → cW X z1 l1 s' (pc + 3) lv r) : cW X z1 l1 s pc lv (.int v :: .ref a :: r) := by
  obtain ⟨h1, h2⟩ := if_of h
  obtain ⟨c, n, ha, hc⟩ := isW_of h1
  have k := kk _ h2
  simp only [List.mem_cons, List.not_mem_nil, or_false] at hc
  rcases hc with rfl
  · exact c_putN (k := 4) (ty := .int) (p := (0, 204)) T kX2 ha rfl uI_v (fun q hq => uI_o q hq) (fun b c n hb => uI_b b c n hb) rfl rfl rfl rfl q361 (fun _ h9 => h9) rfl (by decide +kernel) rfl rfl d k
/-- OverFirst$Town.runs -/
theorem cp_X1_136 {X : KC CS} {E : CE} {cc : ByteArray} {nL : Nat} {ret : Option FieldType} {z0 l0 z1 l1 : Nat} {s : CS} {pc : Nat} {lv : List (Nat × Value)} {r : List Value} {α : Type} {z : α} {a : Nat} {v : Int32} {K : CS → Option α} (T : cOK X E cc RX1 nL ret z0 l0 z1 l1) (h : pI s a [2] 205 v K = some z) (d : decode cc pc = .ok (.putfield 136, 3)) (kk : ∀ s', K s' = some z → cW X z1 l1 s' (pc + 3) lv r) : cW X z1 l1 s pc lv (.int v :: .ref a :: r) := by
  obtain ⟨h1, h2⟩ := if_of h
  obtain ⟨c, n, ha, hc⟩ := isW_of h1
  have k := kk _ h2
  simp only [List.mem_cons, List.not_mem_nil, or_false] at hc
  rcases hc with rfl
  · exact c_putN (k := 5) (ty := .int) (p := (0, 205)) T kX2 ha rfl uI_v (fun q hq => uI_o q hq) (fun b c n hb => uI_b b c n hb) rfl rfl rfl rfl q363 (fun _ h9 => h9) rfl (by decide +kernel) rfl rfl d k
/-- OverFirst$Town.isChild -/
theorem cp_X1_139 {X : KC CS} {E : CE} {cc : ByteArray} {nL : Nat} {ret : Option FieldType} {z0 l0 z1 l1 : Nat} {s : CS} {pc : Nat} {lv : List (Nat × Value)} {r : List Value} {α : Type} {z : α} {a : Nat} {v : Int32} {K : CS → Option α} (T : cOK X E cc RX1 nL ret z0 l0 z1 l1) (h : gd (isb v) (pI s a [2] 208 v K) = some z) (d : decode cc pc = .ok (.putfield 139, 3)) (kk : ∀ s', K s' = some z → cW X z1 l1 s' (pc + 3) lv r) : cW X z1 l1 s pc lv (.int v :: .ref a :: r) := by
  obtain ⟨hb, h⟩ := gd_of h
  obtain ⟨h1, h2⟩ := if_of h
  obtain ⟨c, n, ha, hc⟩ := isW_of h1
  have k := kk _ h2
  simp only [List.mem_cons, List.not_mem_nil, or_false] at hc
  rcases hc with rfl
  · exact c_putN (k := 8) (ty := .boolean) (p := (0, 208)) T kX2 ha rfl uI_v (fun q hq => uI_o q hq) (fun b c n hb => uI_b b c n hb) rfl rfl rfl rfl q369 (fun _ h9 => h9) rfl (by decide +kernel) (isb_nar hb) (isb_fit hb) d k
/-- OverFirst$Town.wide -/
theorem cp_X1_149 {X : KC CS} {E : CE} {cc : ByteArray} {nL : Nat} {ret : Option FieldType} {z0 l0 z1 l1 : Nat} {s : CS} {pc : Nat} {lv : List (Nat × Value)} {r : List Value} {α : Type} {z : α} {a : Nat} {v : Int32} {K : CS → Option α} (T : cOK X E cc RX1 nL ret z0 l0 z1 l1) (h : pI s a [2] 200 v K = some z) (d : decode cc pc = .ok (.putfield 149, 3)) (kk : ∀ s', K s' = some z → cW X z1 l1 s' (pc + 3) lv r) : cW X z1 l1 s pc lv (.int v :: .ref a :: r) := by
  obtain ⟨h1, h2⟩ := if_of h
  obtain ⟨c, n, ha, hc⟩ := isW_of h1
  have k := kk _ h2
  simp only [List.mem_cons, List.not_mem_nil, or_false] at hc
  rcases hc with rfl
  · exact c_putN (k := 0) (ty := .int) (p := (0, 200)) T kX2 ha rfl uI_v (fun q hq => uI_o q hq) (fun b c n hb => uI_b b c n hb) rfl rfl rfl rfl q352 (fun _ h9 => h9) rfl (by decide +kernel) rfl rfl d k
/-- OverFirst$Town.deep -/
theorem cp_X1_152 {X : KC CS} {E : CE} {cc : ByteArray} {nL : Nat} {ret : Option FieldType} {z0 l0 z1 l1 : Nat} {s : CS} {pc : Nat} {lv : List (Nat × Value)} {r : List Value} {α : Type} {z : α} {a : Nat} {v : Int32} {K : CS → Option α} (T : cOK X E cc RX1 nL ret z0 l0 z1 l1) (h : pI s a [2] 201 v K = some z) (d : decode cc pc = .ok (.putfield 152, 3)) (kk : ∀ s', K s' = some z → cW X z1 l1 s' (pc + 3) lv r) : cW X z1 l1 s pc lv (.int v :: .ref a :: r) := by
  obtain ⟨h1, h2⟩ := if_of h
  obtain ⟨c, n, ha, hc⟩ := isW_of h1
  have k := kk _ h2
  simp only [List.mem_cons, List.not_mem_nil, or_false] at hc
  rcases hc with rfl
  · exact c_putN (k := 1) (ty := .int) (p := (0, 201)) T kX2 ha rfl uI_v (fun q hq => uI_o q hq) (fun b c n hb => uI_b b c n hb) rfl rfl rfl rfl q355 (fun _ h9 => h9) rfl (by decide +kernel) rfl rfl d k
/-- OverFirst$Town.common -/
theorem cp_X1_185 {X : KC CS} {E : CE} {cc : ByteArray} {nL : Nat} {ret : Option FieldType} {z0 l0 z1 l1 : Nat} {s : CS} {pc : Nat} {lv : List (Nat × Value)} {r : List Value} {α : Type} {z : α} {a : Nat} {v : Int32} {K : CS → Option α} (T : cOK X E cc RX1 nL ret z0 l0 z1 l1) (h : pI s a [2] 206 v K = some z) (d : decode cc pc = .ok (.putfield 185, 3)) (kk : ∀ s', K s' = some z → cW X z1 l1 s' (pc + 3) lv r) : cW X z1 l1 s pc lv (.int v :: .ref a :: r) := by
  obtain ⟨h1, h2⟩ := if_of h
  obtain ⟨c, n, ha, hc⟩ := isW_of h1
  have k := kk _ h2
  simp only [List.mem_cons, List.not_mem_nil, or_false] at hc
  rcases hc with rfl
  · exact c_putN (k := 6) (ty := .int) (p := (0, 206)) T kX2 ha rfl uI_v (fun q hq => uI_o q hq) (fun b c n hb => uI_b b c n hb) rfl rfl rfl rfl q365 (fun _ h9 => h9) rfl (by decide +kernel) rfl rfl d k
/-- OverFirst$Town.hidden -/
theorem cp_X1_195 {X : KC CS} {E : CE} {cc : ByteArray} {nL : Nat} {ret : Option FieldType} {z0 l0 z1 l1 : Nat} {s : CS} {pc : Nat} {lv : List (Nat × Value)} {r : List Value} {α : Type} {z : α} {a : Nat} {v : Int32} {K : CS → Option α} (T : cOK X E cc RX1 nL ret z0 l0 z1 l1) (h : pI s a [2] 207 v K = some z) (d : decode cc pc = .ok (.putfield 195, 3)) (kk : ∀ s', K s' = some z → cW X z1 l1 s' (pc + 3) lv r) : cW X z1 l1 s pc lv (.int v :: .ref a :: r) := by
  obtain ⟨h1, h2⟩ := if_of h
  obtain ⟨c, n, ha, hc⟩ := isW_of h1
  have k := kk _ h2
  simp only [List.mem_cons, List.not_mem_nil, or_false] at hc
  rcases hc with rfl
  · exact c_putN (k := 7) (ty := .int) (p := (0, 207)) T kX2 ha rfl uI_v (fun q hq => uI_o q hq) (fun b c n hb => uI_b b c n hb) rfl rfl rfl rfl q367 (fun _ h9 => h9) rfl (by decide +kernel) rfl rfl d k
/-- OverFirst$Walk.many -/
theorem cp_X1_244 {X : KC CS} {E : CE} {cc : ByteArray} {nL : Nat} {ret : Option FieldType} {z0 l0 z1 l1 : Nat} {s : CS} {pc : Nat} {lv : List (Nat × Value)} {r : List Value} {α : Type} {z : α} {a : Nat} {v : Int32} {K : CS → Option α} (T : cOK X E cc RX1 nL ret z0 l0 z1 l1) (h : pI s a [7] 702 v K = some z) (d : decode cc pc = .ok (.putfield 244, 3)) (kk : ∀ s', K s' = some z → cW X z1 l1 s' (pc + 3) lv r) : cW X z1 l1 s pc lv (.int v :: .ref a :: r) := by
  obtain ⟨h1, h2⟩ := if_of h
  obtain ⟨c, n, ha, hc⟩ := isW_of h1
  have k := kk _ h2
  simp only [List.mem_cons, List.not_mem_nil, or_false] at hc
  rcases hc with rfl
  · exact c_putN (k := 2) (ty := .int) (p := (0, 702)) T kX7 ha rfl uI_v (fun q hq => uI_o q hq) (fun b c n hb => uI_b b c n hb) rfl rfl rfl rfl q421 (fun _ h9 => h9) rfl (by decide +kernel) rfl rfl d k
/-- OverFirst$Wrong.fault -/
theorem cp_X10_7 {X : KC CS} {E : CE} {cc : ByteArray} {nL : Nat} {ret : Option FieldType} {z0 l0 z1 l1 : Nat} {s : CS} {pc : Nat} {lv : List (Nat × Value)} {r : List Value} {α : Type} {z : α} {a : Nat} {v : Int32} {K : CS → Option α} (T : cOK X E cc RX10 nL ret z0 l0 z1 l1) (hin : X.2.1.2.2.2.1.name = "<init>") (h : pI s a [10] 1000 v K = some z) (d : decode cc pc = .ok (.putfield 7, 3)) (kk : ∀ s', K s' = some z → cW X z1 l1 s' (pc + 3) lv r) : cW X z1 l1 s pc lv (.int v :: .ref a :: r) := by
  obtain ⟨h1, h2⟩ := if_of h
  obtain ⟨c, n, ha, hc⟩ := isW_of h1
  have k := kk _ h2
  simp only [List.mem_cons, List.not_mem_nil, or_false] at hc
  rcases hc with rfl
  · exact c_putF (k := 6) (ty := .int) (p := (0, 1000)) T kX10 ha rfl uI_v (fun q hq => uI_o q hq) (fun b c n hb => uI_b b c n hb) rfl rfl rfl rfl q786 (fun _ h9 => h9) rfl hin rfl (by decide +kernel) rfl rfl d k
/-- OverFirst$Light.round -/
theorem cp_X11_7 {X : KC CS} {E : CE} {cc : ByteArray} {nL : Nat} {ret : Option FieldType} {z0 l0 z1 l1 : Nat} {s : CS} {pc : Nat} {lv : List (Nat × Value)} {r : List Value} {α : Type} {z : α} {a : Nat} {v : Int32} {K : CS → Option α} (T : cOK X E cc RX11 nL ret z0 l0 z1 l1) (hin : X.2.1.2.2.2.1.name = "<init>") (h : pI s a [12, 13, 14, 15] 1100 v K = some z) (d : decode cc pc = .ok (.putfield 7, 3)) (kk : ∀ s', K s' = some z → cW X z1 l1 s' (pc + 3) lv r) : cW X z1 l1 s pc lv (.int v :: .ref a :: r) := by
  obtain ⟨h1, h2⟩ := if_of h
  obtain ⟨c, n, ha, hc⟩ := isW_of h1
  have k := kk _ h2
  simp only [List.mem_cons, List.not_mem_nil, or_false] at hc
  rcases hc with rfl | rfl | rfl | rfl
  · exact c_putF (k := 0) (ty := .int) (p := (0, 1100)) T kX12 ha rfl uI_v (fun q hq => uI_o q hq) (fun b c n hb => uI_b b c n hb) rfl rfl rfl rfl q856 (fun _ h9 => h9) rfl hin rfl (by decide +kernel) rfl rfl d k
  · exact c_putF (k := 0) (ty := .int) (p := (0, 1100)) T kX13 ha rfl uI_v (fun q hq => uI_o q hq) (fun b c n hb => uI_b b c n hb) rfl rfl rfl rfl q856 (fun _ h9 => h9) rfl hin rfl (by decide +kernel) rfl rfl d k
  · exact c_putF (k := 0) (ty := .int) (p := (0, 1100)) T kX14 ha rfl uI_v (fun q hq => uI_o q hq) (fun b c n hb => uI_b b c n hb) rfl rfl rfl rfl q856 (fun _ h9 => h9) rfl hin rfl (by decide +kernel) rfl rfl d k
  · exact c_putF (k := 0) (ty := .int) (p := (0, 1100)) T kX15 ha rfl uI_v (fun q hq => uI_o q hq) (fun b c n hb => uI_b b c n hb) rfl rfl rfl rfl q856 (fun _ h9 => h9) rfl hin rfl (by decide +kernel) rfl rfl d k
/-- OverFirst$Light.over -/
theorem cp_X11_13 {X : KC CS} {E : CE} {cc : ByteArray} {nL : Nat} {ret : Option FieldType} {z0 l0 z1 l1 : Nat} {s : CS} {pc : Nat} {lv : List (Nat × Value)} {r : List Value} {α : Type} {z : α} {a : Nat} {v : Int32} {K : CS → Option α} (T : cOK X E cc RX11 nL ret z0 l0 z1 l1) (hin : X.2.1.2.2.2.1.name = "<init>") (h : pI s a [12, 13, 14, 15] 1101 v K = some z) (d : decode cc pc = .ok (.putfield 13, 3)) (kk : ∀ s', K s' = some z → cW X z1 l1 s' (pc + 3) lv r) : cW X z1 l1 s pc lv (.int v :: .ref a :: r) := by
  obtain ⟨h1, h2⟩ := if_of h
  obtain ⟨c, n, ha, hc⟩ := isW_of h1
  have k := kk _ h2
  simp only [List.mem_cons, List.not_mem_nil, or_false] at hc
  rcases hc with rfl | rfl | rfl | rfl
  · exact c_putF (k := 1) (ty := .int) (p := (0, 1101)) T kX12 ha rfl uI_v (fun q hq => uI_o q hq) (fun b c n hb => uI_b b c n hb) rfl rfl rfl rfl q860 (fun _ h9 => h9) rfl hin rfl (by decide +kernel) rfl rfl d k
  · exact c_putF (k := 1) (ty := .int) (p := (0, 1101)) T kX13 ha rfl uI_v (fun q hq => uI_o q hq) (fun b c n hb => uI_b b c n hb) rfl rfl rfl rfl q860 (fun _ h9 => h9) rfl hin rfl (by decide +kernel) rfl rfl d k
  · exact c_putF (k := 1) (ty := .int) (p := (0, 1101)) T kX14 ha rfl uI_v (fun q hq => uI_o q hq) (fun b c n hb => uI_b b c n hb) rfl rfl rfl rfl q860 (fun _ h9 => h9) rfl hin rfl (by decide +kernel) rfl rfl d k
  · exact c_putF (k := 1) (ty := .int) (p := (0, 1101)) T kX15 ha rfl uI_v (fun q hq => uI_o q hq) (fun b c n hb => uI_b b c n hb) rfl rfl rfl rfl q860 (fun _ h9 => h9) rfl hin rfl (by decide +kernel) rfl rfl d k
/-- OverFirst$Light.length -/
theorem cp_X11_16 {X : KC CS} {E : CE} {cc : ByteArray} {nL : Nat} {ret : Option FieldType} {z0 l0 z1 l1 : Nat} {s : CS} {pc : Nat} {lv : List (Nat × Value)} {r : List Value} {α : Type} {z : α} {a : Nat} {v : Int32} {K : CS → Option α} (T : cOK X E cc RX11 nL ret z0 l0 z1 l1) (hin : X.2.1.2.2.2.1.name = "<init>") (h : pI s a [12, 13, 14, 15] 1102 v K = some z) (d : decode cc pc = .ok (.putfield 16, 3)) (kk : ∀ s', K s' = some z → cW X z1 l1 s' (pc + 3) lv r) : cW X z1 l1 s pc lv (.int v :: .ref a :: r) := by
  obtain ⟨h1, h2⟩ := if_of h
  obtain ⟨c, n, ha, hc⟩ := isW_of h1
  have k := kk _ h2
  simp only [List.mem_cons, List.not_mem_nil, or_false] at hc
  rcases hc with rfl | rfl | rfl | rfl
  · exact c_putF (k := 2) (ty := .int) (p := (0, 1102)) T kX12 ha rfl uI_v (fun q hq => uI_o q hq) (fun b c n hb => uI_b b c n hb) rfl rfl rfl rfl q866 (fun _ h9 => h9) rfl hin rfl (by decide +kernel) rfl rfl d k
  · exact c_putF (k := 2) (ty := .int) (p := (0, 1102)) T kX13 ha rfl uI_v (fun q hq => uI_o q hq) (fun b c n hb => uI_b b c n hb) rfl rfl rfl rfl q866 (fun _ h9 => h9) rfl hin rfl (by decide +kernel) rfl rfl d k
  · exact c_putF (k := 2) (ty := .int) (p := (0, 1102)) T kX14 ha rfl uI_v (fun q hq => uI_o q hq) (fun b c n hb => uI_b b c n hb) rfl rfl rfl rfl q866 (fun _ h9 => h9) rfl hin rfl (by decide +kernel) rfl rfl d k
  · exact c_putF (k := 2) (ty := .int) (p := (0, 1102)) T kX15 ha rfl uI_v (fun q hq => uI_o q hq) (fun b c n hb => uI_b b c n hb) rfl rfl rfl rfl q866 (fun _ h9 => h9) rfl hin rfl (by decide +kernel) rfl rfl d k
/-- OverFirst$Ruled.facts -/
theorem cp_X16_9 {X : KC CS} {E : CE} {cc : ByteArray} {nL : Nat} {ret : Option FieldType} {z0 l0 z1 l1 : Nat} {s : CS} {pc : Nat} {lv : List (Nat × Value)} {r : List Value} {α : Type} {z : α} {a : Nat} {v : Nat} {K : CS → Option α} (T : cOK X E cc RX16 nL ret z0 l0 z1 l1) (hin : X.2.1.2.2.2.1.name = "<init>") (h : pR s a [16] 1601 (some v) K = some z) (d : decode cc pc = .ok (.putfield 9, 3)) (kk : ∀ s', K s' = some z → cW X z1 l1 s' (pc + 3) lv r) : cW X z1 l1 s pc lv (.ref v :: .ref a :: r) := by
  obtain ⟨h1, h2⟩ := if_of h
  obtain ⟨c, n, ha, hc⟩ := isW_of h1
  have k := kk _ h2
  simp only [List.mem_cons, List.not_mem_nil, or_false] at hc
  rcases hc with rfl
  · exact c_putF (k := 1) (ty := (.array .int)) (p := (2, 1601)) T kX16 ha rfl uR_v (fun q hq => uR_o q hq) (fun b c n hb => uR_b b c n hb) rfl rfl rfl rfl q1168 (fun _ h9 => h9) rfl hin rfl (by decide +kernel) rfl rfl d k
/-- OverFirst$Ruled.facts -/
theorem cp_X16_9z {X : KC CS} {E : CE} {cc : ByteArray} {nL : Nat} {ret : Option FieldType} {z0 l0 z1 l1 : Nat} {s : CS} {pc : Nat} {lv : List (Nat × Value)} {r : List Value} {α : Type} {z : α} {a : Nat}  {K : CS → Option α} (T : cOK X E cc RX16 nL ret z0 l0 z1 l1) (hin : X.2.1.2.2.2.1.name = "<init>") (h : pR s a [16] 1601 none K = some z) (d : decode cc pc = .ok (.putfield 9, 3)) (kk : ∀ s', K s' = some z → cW X z1 l1 s' (pc + 3) lv r) : cW X z1 l1 s pc lv (.null :: .ref a :: r) := by
  obtain ⟨h1, h2⟩ := if_of h
  obtain ⟨c, n, ha, hc⟩ := isW_of h1
  have k := kk _ h2
  simp only [List.mem_cons, List.not_mem_nil, or_false] at hc
  rcases hc with rfl
  · exact c_putF (k := 1) (ty := (.array .int)) (p := (2, 1601)) T kX16 ha rfl uR_v (fun q hq => uR_o q hq) (fun b c n hb => uR_b b c n hb) rfl rfl rfl rfl q1168 (fun _ h9 => h9) rfl hin rfl (by decide +kernel) rfl rfl d k
/-- OverFirst$Ruled.facts -/
theorem cp_X16_9o {X : KC CS} {E : CE} {cc : ByteArray} {nL : Nat} {ret : Option FieldType} {z0 l0 z1 l1 : Nat} {s : CS} {pc : Nat} {lv : List (Nat × Value)} {r : List Value} {α : Type} {z : α} {a : Nat} {v : Option Nat} {K : CS → Option α} (T : cOK X E cc RX16 nL ret z0 l0 z1 l1) (hin : X.2.1.2.2.2.1.name = "<init>") (h : pR s a [16] 1601 v K = some z) (d : decode cc pc = .ok (.putfield 9, 3)) (kk : ∀ s', K s' = some z → cW X z1 l1 s' (pc + 3) lv r) : cW X z1 l1 s pc lv (va_rf v :: .ref a :: r) := by
  obtain ⟨h1, h2⟩ := if_of h
  obtain ⟨c, n, ha, hc⟩ := isW_of h1
  have k := kk _ h2
  simp only [List.mem_cons, List.not_mem_nil, or_false] at hc
  rcases hc with rfl
  · exact c_putF (k := 1) (ty := (.array .int)) (p := (2, 1601)) T kX16 ha rfl uR_v (fun q hq => uR_o q hq) (fun b c n hb => uR_b b c n hb) rfl rfl rfl rfl q1168 (fun _ h9 => h9) rfl hin rfl (by decide +kernel) (by cases v <;> rfl) (by cases v <;> rfl) d k
/-- OverFirst$Ruled.rule -/
theorem cp_X16_15 {X : KC CS} {E : CE} {cc : ByteArray} {nL : Nat} {ret : Option FieldType} {z0 l0 z1 l1 : Nat} {s : CS} {pc : Nat} {lv : List (Nat × Value)} {r : List Value} {α : Type} {z : α} {a : Nat} {v : Nat} {K : CS → Option α} (T : cOK X E cc RX16 nL ret z0 l0 z1 l1) (hin : X.2.1.2.2.2.1.name = "<init>") (h : pR s a [16] 1600 (some v) K = some z) (d : decode cc pc = .ok (.putfield 15, 3)) (kk : ∀ s', K s' = some z → cW X z1 l1 s' (pc + 3) lv r) : cW X z1 l1 s pc lv (.ref v :: .ref a :: r) := by
  obtain ⟨h1, h2⟩ := if_of h
  obtain ⟨c, n, ha, hc⟩ := isW_of h1
  have k := kk _ h2
  simp only [List.mem_cons, List.not_mem_nil, or_false] at hc
  rcases hc with rfl
  · exact c_putF (k := 0) (ty := (.object "OverFirst$Expression")) (p := (2, 1600)) T kX16 ha rfl uR_v (fun q hq => uR_o q hq) (fun b c n hb => uR_b b c n hb) rfl rfl rfl rfl q1167 (fun _ h9 => h9) rfl hin rfl (by decide +kernel) rfl rfl d k
/-- OverFirst$Ruled.rule -/
theorem cp_X16_15z {X : KC CS} {E : CE} {cc : ByteArray} {nL : Nat} {ret : Option FieldType} {z0 l0 z1 l1 : Nat} {s : CS} {pc : Nat} {lv : List (Nat × Value)} {r : List Value} {α : Type} {z : α} {a : Nat}  {K : CS → Option α} (T : cOK X E cc RX16 nL ret z0 l0 z1 l1) (hin : X.2.1.2.2.2.1.name = "<init>") (h : pR s a [16] 1600 none K = some z) (d : decode cc pc = .ok (.putfield 15, 3)) (kk : ∀ s', K s' = some z → cW X z1 l1 s' (pc + 3) lv r) : cW X z1 l1 s pc lv (.null :: .ref a :: r) := by
  obtain ⟨h1, h2⟩ := if_of h
  obtain ⟨c, n, ha, hc⟩ := isW_of h1
  have k := kk _ h2
  simp only [List.mem_cons, List.not_mem_nil, or_false] at hc
  rcases hc with rfl
  · exact c_putF (k := 0) (ty := (.object "OverFirst$Expression")) (p := (2, 1600)) T kX16 ha rfl uR_v (fun q hq => uR_o q hq) (fun b c n hb => uR_b b c n hb) rfl rfl rfl rfl q1167 (fun _ h9 => h9) rfl hin rfl (by decide +kernel) rfl rfl d k
/-- OverFirst$Ruled.rule -/
theorem cp_X16_15o {X : KC CS} {E : CE} {cc : ByteArray} {nL : Nat} {ret : Option FieldType} {z0 l0 z1 l1 : Nat} {s : CS} {pc : Nat} {lv : List (Nat × Value)} {r : List Value} {α : Type} {z : α} {a : Nat} {v : Option Nat} {K : CS → Option α} (T : cOK X E cc RX16 nL ret z0 l0 z1 l1) (hin : X.2.1.2.2.2.1.name = "<init>") (h : pR s a [16] 1600 v K = some z) (d : decode cc pc = .ok (.putfield 15, 3)) (kk : ∀ s', K s' = some z → cW X z1 l1 s' (pc + 3) lv r) : cW X z1 l1 s pc lv (va_rf v :: .ref a :: r) := by
  obtain ⟨h1, h2⟩ := if_of h
  obtain ⟨c, n, ha, hc⟩ := isW_of h1
  have k := kk _ h2
  simp only [List.mem_cons, List.not_mem_nil, or_false] at hc
  rcases hc with rfl
  · exact c_putF (k := 0) (ty := (.object "OverFirst$Expression")) (p := (2, 1600)) T kX16 ha rfl uR_v (fun q hq => uR_o q hq) (fun b c n hb => uR_b b c n hb) rfl rfl rfl rfl q1167 (fun _ h9 => h9) rfl hin rfl (by decide +kernel) (by cases v <;> rfl) (by cases v <;> rfl) d k
/-- OverFirst$Given.n -/
theorem cp_X18_7 {X : KC CS} {E : CE} {cc : ByteArray} {nL : Nat} {ret : Option FieldType} {z0 l0 z1 l1 : Nat} {s : CS} {pc : Nat} {lv : List (Nat × Value)} {r : List Value} {α : Type} {z : α} {a : Nat} {v : Int32} {K : CS → Option α} (T : cOK X E cc RX18 nL ret z0 l0 z1 l1) (hin : X.2.1.2.2.2.1.name = "<init>") (h : pI s a [18] 1800 v K = some z) (d : decode cc pc = .ok (.putfield 7, 3)) (kk : ∀ s', K s' = some z → cW X z1 l1 s' (pc + 3) lv r) : cW X z1 l1 s pc lv (.int v :: .ref a :: r) := by
  obtain ⟨h1, h2⟩ := if_of h
  obtain ⟨c, n, ha, hc⟩ := isW_of h1
  have k := kk _ h2
  simp only [List.mem_cons, List.not_mem_nil, or_false] at hc
  rcases hc with rfl
  · exact c_putF (k := 0) (ty := .int) (p := (0, 1800)) T kX18 ha rfl uI_v (fun q hq => uI_o q hq) (fun b c n hb => uI_b b c n hb) rfl rfl rfl rfl q1122 (fun _ h9 => h9) rfl hin rfl (by decide +kernel) rfl rfl d k
/-- OverFirst$Fact.which -/
theorem cp_X19_7 {X : KC CS} {E : CE} {cc : ByteArray} {nL : Nat} {ret : Option FieldType} {z0 l0 z1 l1 : Nat} {s : CS} {pc : Nat} {lv : List (Nat × Value)} {r : List Value} {α : Type} {z : α} {a : Nat} {v : Int32} {K : CS → Option α} (T : cOK X E cc RX19 nL ret z0 l0 z1 l1) (hin : X.2.1.2.2.2.1.name = "<init>") (h : pI s a [19] 1900 v K = some z) (d : decode cc pc = .ok (.putfield 7, 3)) (kk : ∀ s', K s' = some z → cW X z1 l1 s' (pc + 3) lv r) : cW X z1 l1 s pc lv (.int v :: .ref a :: r) := by
  obtain ⟨h1, h2⟩ := if_of h
  obtain ⟨c, n, ha, hc⟩ := isW_of h1
  have k := kk _ h2
  simp only [List.mem_cons, List.not_mem_nil, or_false] at hc
  rcases hc with rfl
  · exact c_putF (k := 0) (ty := .int) (p := (0, 1900)) T kX19 ha rfl uI_v (fun q hq => uI_o q hq) (fun b c n hb => uI_b b c n hb) rfl rfl rfl rfl q1132 (fun _ h9 => h9) rfl hin rfl (by decide +kernel) rfl rfl d k
/-- OverFirst$Town.wide -/
theorem cp_X2_9 {X : KC CS} {E : CE} {cc : ByteArray} {nL : Nat} {ret : Option FieldType} {z0 l0 z1 l1 : Nat} {s : CS} {pc : Nat} {lv : List (Nat × Value)} {r : List Value} {α : Type} {z : α} {a : Nat} {v : Int32} {K : CS → Option α} (T : cOK X E cc RX2 nL ret z0 l0 z1 l1) (h : pI s a [2] 200 v K = some z) (d : decode cc pc = .ok (.putfield 9, 3)) (kk : ∀ s', K s' = some z → cW X z1 l1 s' (pc + 3) lv r) : cW X z1 l1 s pc lv (.int v :: .ref a :: r) := by
  obtain ⟨h1, h2⟩ := if_of h
  obtain ⟨c, n, ha, hc⟩ := isW_of h1
  have k := kk _ h2
  simp only [List.mem_cons, List.not_mem_nil, or_false] at hc
  rcases hc with rfl
  · exact c_put (k := 0) (ty := .int) (p := (0, 200)) T kX2 ha rfl uI_v (fun q hq => uI_o q hq) (fun b c n hb => uI_b b c n hb) rfl rfl rfl rfl q350 (fun _ h9 => h9) rfl (by decide +kernel) rfl rfl d k
/-- OverFirst$Town.deep -/
theorem cp_X2_15 {X : KC CS} {E : CE} {cc : ByteArray} {nL : Nat} {ret : Option FieldType} {z0 l0 z1 l1 : Nat} {s : CS} {pc : Nat} {lv : List (Nat × Value)} {r : List Value} {α : Type} {z : α} {a : Nat} {v : Int32} {K : CS → Option α} (T : cOK X E cc RX2 nL ret z0 l0 z1 l1) (h : pI s a [2] 201 v K = some z) (d : decode cc pc = .ok (.putfield 15, 3)) (kk : ∀ s', K s' = some z → cW X z1 l1 s' (pc + 3) lv r) : cW X z1 l1 s pc lv (.int v :: .ref a :: r) := by
  obtain ⟨h1, h2⟩ := if_of h
  obtain ⟨c, n, ha, hc⟩ := isW_of h1
  have k := kk _ h2
  simp only [List.mem_cons, List.not_mem_nil, or_false] at hc
  rcases hc with rfl
  · exact c_put (k := 1) (ty := .int) (p := (0, 201)) T kX2 ha rfl uI_v (fun q hq => uI_o q hq) (fun b c n hb => uI_b b c n hb) rfl rfl rfl rfl q353 (fun _ h9 => h9) rfl (by decide +kernel) rfl rfl d k
/-- OverFirst$Town.walk -/
theorem cp_X2_18 {X : KC CS} {E : CE} {cc : ByteArray} {nL : Nat} {ret : Option FieldType} {z0 l0 z1 l1 : Nat} {s : CS} {pc : Nat} {lv : List (Nat × Value)} {r : List Value} {α : Type} {z : α} {a : Nat} {v : Int32} {K : CS → Option α} (T : cOK X E cc RX2 nL ret z0 l0 z1 l1) (h : pI s a [2] 202 v K = some z) (d : decode cc pc = .ok (.putfield 18, 3)) (kk : ∀ s', K s' = some z → cW X z1 l1 s' (pc + 3) lv r) : cW X z1 l1 s pc lv (.int v :: .ref a :: r) := by
  obtain ⟨h1, h2⟩ := if_of h
  obtain ⟨c, n, ha, hc⟩ := isW_of h1
  have k := kk _ h2
  simp only [List.mem_cons, List.not_mem_nil, or_false] at hc
  rcases hc with rfl
  · exact c_put (k := 2) (ty := .int) (p := (0, 202)) T kX2 ha rfl uI_v (fun q hq => uI_o q hq) (fun b c n hb => uI_b b c n hb) rfl rfl rfl rfl q356 (fun _ h9 => h9) rfl (by decide +kernel) rfl rfl d k
/-- OverFirst$Town.run -/
theorem cp_X2_21 {X : KC CS} {E : CE} {cc : ByteArray} {nL : Nat} {ret : Option FieldType} {z0 l0 z1 l1 : Nat} {s : CS} {pc : Nat} {lv : List (Nat × Value)} {r : List Value} {α : Type} {z : α} {a : Nat} {v : Int32} {K : CS → Option α} (T : cOK X E cc RX2 nL ret z0 l0 z1 l1) (h : pI s a [2] 203 v K = some z) (d : decode cc pc = .ok (.putfield 21, 3)) (kk : ∀ s', K s' = some z → cW X z1 l1 s' (pc + 3) lv r) : cW X z1 l1 s pc lv (.int v :: .ref a :: r) := by
  obtain ⟨h1, h2⟩ := if_of h
  obtain ⟨c, n, ha, hc⟩ := isW_of h1
  have k := kk _ h2
  simp only [List.mem_cons, List.not_mem_nil, or_false] at hc
  rcases hc with rfl
  · exact c_put (k := 3) (ty := .int) (p := (0, 203)) T kX2 ha rfl uI_v (fun q hq => uI_o q hq) (fun b c n hb => uI_b b c n hb) rfl rfl rfl rfl q358 (fun _ h9 => h9) rfl (by decide +kernel) rfl rfl d k
/-- OverFirst$Town.slow -/
theorem cp_X2_24 {X : KC CS} {E : CE} {cc : ByteArray} {nL : Nat} {ret : Option FieldType} {z0 l0 z1 l1 : Nat} {s : CS} {pc : Nat} {lv : List (Nat × Value)} {r : List Value} {α : Type} {z : α} {a : Nat} {v : Int32} {K : CS → Option α} (T : cOK X E cc RX2 nL ret z0 l0 z1 l1) (h : pI s a [2] 204 v K = some z) (d : decode cc pc = .ok (.putfield 24, 3)) (kk : ∀ s', K s' = some z → cW X z1 l1 s' (pc + 3) lv r) : cW X z1 l1 s pc lv (.int v :: .ref a :: r) := by
  obtain ⟨h1, h2⟩ := if_of h
  obtain ⟨c, n, ha, hc⟩ := isW_of h1
  have k := kk _ h2
  simp only [List.mem_cons, List.not_mem_nil, or_false] at hc
  rcases hc with rfl
  · exact c_put (k := 4) (ty := .int) (p := (0, 204)) T kX2 ha rfl uI_v (fun q hq => uI_o q hq) (fun b c n hb => uI_b b c n hb) rfl rfl rfl rfl q360 (fun _ h9 => h9) rfl (by decide +kernel) rfl rfl d k
/-- OverFirst$Town.runs -/
theorem cp_X2_27 {X : KC CS} {E : CE} {cc : ByteArray} {nL : Nat} {ret : Option FieldType} {z0 l0 z1 l1 : Nat} {s : CS} {pc : Nat} {lv : List (Nat × Value)} {r : List Value} {α : Type} {z : α} {a : Nat} {v : Int32} {K : CS → Option α} (T : cOK X E cc RX2 nL ret z0 l0 z1 l1) (h : pI s a [2] 205 v K = some z) (d : decode cc pc = .ok (.putfield 27, 3)) (kk : ∀ s', K s' = some z → cW X z1 l1 s' (pc + 3) lv r) : cW X z1 l1 s pc lv (.int v :: .ref a :: r) := by
  obtain ⟨h1, h2⟩ := if_of h
  obtain ⟨c, n, ha, hc⟩ := isW_of h1
  have k := kk _ h2
  simp only [List.mem_cons, List.not_mem_nil, or_false] at hc
  rcases hc with rfl
  · exact c_put (k := 5) (ty := .int) (p := (0, 205)) T kX2 ha rfl uI_v (fun q hq => uI_o q hq) (fun b c n hb => uI_b b c n hb) rfl rfl rfl rfl q362 (fun _ h9 => h9) rfl (by decide +kernel) rfl rfl d k
/-- OverFirst$Town.common -/
theorem cp_X2_30 {X : KC CS} {E : CE} {cc : ByteArray} {nL : Nat} {ret : Option FieldType} {z0 l0 z1 l1 : Nat} {s : CS} {pc : Nat} {lv : List (Nat × Value)} {r : List Value} {α : Type} {z : α} {a : Nat} {v : Int32} {K : CS → Option α} (T : cOK X E cc RX2 nL ret z0 l0 z1 l1) (h : pI s a [2] 206 v K = some z) (d : decode cc pc = .ok (.putfield 30, 3)) (kk : ∀ s', K s' = some z → cW X z1 l1 s' (pc + 3) lv r) : cW X z1 l1 s pc lv (.int v :: .ref a :: r) := by
  obtain ⟨h1, h2⟩ := if_of h
  obtain ⟨c, n, ha, hc⟩ := isW_of h1
  have k := kk _ h2
  simp only [List.mem_cons, List.not_mem_nil, or_false] at hc
  rcases hc with rfl
  · exact c_put (k := 6) (ty := .int) (p := (0, 206)) T kX2 ha rfl uI_v (fun q hq => uI_o q hq) (fun b c n hb => uI_b b c n hb) rfl rfl rfl rfl q364 (fun _ h9 => h9) rfl (by decide +kernel) rfl rfl d k
/-- OverFirst$Town.light -/
theorem cp_X2_35 {X : KC CS} {E : CE} {cc : ByteArray} {nL : Nat} {ret : Option FieldType} {z0 l0 z1 l1 : Nat} {s : CS} {pc : Nat} {lv : List (Nat × Value)} {r : List Value} {α : Type} {z : α} {a : Nat} {v : Nat} {K : CS → Option α} (T : cOK X E cc RX2 nL ret z0 l0 z1 l1) (hin : X.2.1.2.2.2.1.name = "<init>") (h : pR s a [2] 209 (some v) K = some z) (d : decode cc pc = .ok (.putfield 35, 3)) (kk : ∀ s', K s' = some z → cW X z1 l1 s' (pc + 3) lv r) : cW X z1 l1 s pc lv (.ref v :: .ref a :: r) := by
  obtain ⟨h1, h2⟩ := if_of h
  obtain ⟨c, n, ha, hc⟩ := isW_of h1
  have k := kk _ h2
  simp only [List.mem_cons, List.not_mem_nil, or_false] at hc
  rcases hc with rfl
  · exact c_putF (k := 9) (ty := (.array (.object "OverFirst$Light"))) (p := (2, 209)) T kX2 ha rfl uR_v (fun q hq => uR_o q hq) (fun b c n hb => uR_b b c n hb) rfl rfl rfl rfl q370 (fun _ h9 => h9) rfl hin rfl (by decide +kernel) rfl rfl d k
/-- OverFirst$Town.light -/
theorem cp_X2_35z {X : KC CS} {E : CE} {cc : ByteArray} {nL : Nat} {ret : Option FieldType} {z0 l0 z1 l1 : Nat} {s : CS} {pc : Nat} {lv : List (Nat × Value)} {r : List Value} {α : Type} {z : α} {a : Nat}  {K : CS → Option α} (T : cOK X E cc RX2 nL ret z0 l0 z1 l1) (hin : X.2.1.2.2.2.1.name = "<init>") (h : pR s a [2] 209 none K = some z) (d : decode cc pc = .ok (.putfield 35, 3)) (kk : ∀ s', K s' = some z → cW X z1 l1 s' (pc + 3) lv r) : cW X z1 l1 s pc lv (.null :: .ref a :: r) := by
  obtain ⟨h1, h2⟩ := if_of h
  obtain ⟨c, n, ha, hc⟩ := isW_of h1
  have k := kk _ h2
  simp only [List.mem_cons, List.not_mem_nil, or_false] at hc
  rcases hc with rfl
  · exact c_putF (k := 9) (ty := (.array (.object "OverFirst$Light"))) (p := (2, 209)) T kX2 ha rfl uR_v (fun q hq => uR_o q hq) (fun b c n hb => uR_b b c n hb) rfl rfl rfl rfl q370 (fun _ h9 => h9) rfl hin rfl (by decide +kernel) rfl rfl d k
/-- OverFirst$Town.light -/
theorem cp_X2_35o {X : KC CS} {E : CE} {cc : ByteArray} {nL : Nat} {ret : Option FieldType} {z0 l0 z1 l1 : Nat} {s : CS} {pc : Nat} {lv : List (Nat × Value)} {r : List Value} {α : Type} {z : α} {a : Nat} {v : Option Nat} {K : CS → Option α} (T : cOK X E cc RX2 nL ret z0 l0 z1 l1) (hin : X.2.1.2.2.2.1.name = "<init>") (h : pR s a [2] 209 v K = some z) (d : decode cc pc = .ok (.putfield 35, 3)) (kk : ∀ s', K s' = some z → cW X z1 l1 s' (pc + 3) lv r) : cW X z1 l1 s pc lv (va_rf v :: .ref a :: r) := by
  obtain ⟨h1, h2⟩ := if_of h
  obtain ⟨c, n, ha, hc⟩ := isW_of h1
  have k := kk _ h2
  simp only [List.mem_cons, List.not_mem_nil, or_false] at hc
  rcases hc with rfl
  · exact c_putF (k := 9) (ty := (.array (.object "OverFirst$Light"))) (p := (2, 209)) T kX2 ha rfl uR_v (fun q hq => uR_o q hq) (fun b c n hb => uR_b b c n hb) rfl rfl rfl rfl q370 (fun _ h9 => h9) rfl hin rfl (by decide +kernel) (by cases v <;> rfl) (by cases v <;> rfl) d k
/-- OverFirst$Town.bar -/
theorem cp_X2_39 {X : KC CS} {E : CE} {cc : ByteArray} {nL : Nat} {ret : Option FieldType} {z0 l0 z1 l1 : Nat} {s : CS} {pc : Nat} {lv : List (Nat × Value)} {r : List Value} {α : Type} {z : α} {a : Nat} {v : Nat} {K : CS → Option α} (T : cOK X E cc RX2 nL ret z0 l0 z1 l1) (hin : X.2.1.2.2.2.1.name = "<init>") (h : pR s a [2] 210 (some v) K = some z) (d : decode cc pc = .ok (.putfield 39, 3)) (kk : ∀ s', K s' = some z → cW X z1 l1 s' (pc + 3) lv r) : cW X z1 l1 s pc lv (.ref v :: .ref a :: r) := by
  obtain ⟨h1, h2⟩ := if_of h
  obtain ⟨c, n, ha, hc⟩ := isW_of h1
  have k := kk _ h2
  simp only [List.mem_cons, List.not_mem_nil, or_false] at hc
  rcases hc with rfl
  · exact c_putF (k := 10) (ty := (.array .int)) (p := (2, 210)) T kX2 ha rfl uR_v (fun q hq => uR_o q hq) (fun b c n hb => uR_b b c n hb) rfl rfl rfl rfl q373 (fun _ h9 => h9) rfl hin rfl (by decide +kernel) rfl rfl d k
/-- OverFirst$Town.bar -/
theorem cp_X2_39z {X : KC CS} {E : CE} {cc : ByteArray} {nL : Nat} {ret : Option FieldType} {z0 l0 z1 l1 : Nat} {s : CS} {pc : Nat} {lv : List (Nat × Value)} {r : List Value} {α : Type} {z : α} {a : Nat}  {K : CS → Option α} (T : cOK X E cc RX2 nL ret z0 l0 z1 l1) (hin : X.2.1.2.2.2.1.name = "<init>") (h : pR s a [2] 210 none K = some z) (d : decode cc pc = .ok (.putfield 39, 3)) (kk : ∀ s', K s' = some z → cW X z1 l1 s' (pc + 3) lv r) : cW X z1 l1 s pc lv (.null :: .ref a :: r) := by
  obtain ⟨h1, h2⟩ := if_of h
  obtain ⟨c, n, ha, hc⟩ := isW_of h1
  have k := kk _ h2
  simp only [List.mem_cons, List.not_mem_nil, or_false] at hc
  rcases hc with rfl
  · exact c_putF (k := 10) (ty := (.array .int)) (p := (2, 210)) T kX2 ha rfl uR_v (fun q hq => uR_o q hq) (fun b c n hb => uR_b b c n hb) rfl rfl rfl rfl q373 (fun _ h9 => h9) rfl hin rfl (by decide +kernel) rfl rfl d k
/-- OverFirst$Town.bar -/
theorem cp_X2_39o {X : KC CS} {E : CE} {cc : ByteArray} {nL : Nat} {ret : Option FieldType} {z0 l0 z1 l1 : Nat} {s : CS} {pc : Nat} {lv : List (Nat × Value)} {r : List Value} {α : Type} {z : α} {a : Nat} {v : Option Nat} {K : CS → Option α} (T : cOK X E cc RX2 nL ret z0 l0 z1 l1) (hin : X.2.1.2.2.2.1.name = "<init>") (h : pR s a [2] 210 v K = some z) (d : decode cc pc = .ok (.putfield 39, 3)) (kk : ∀ s', K s' = some z → cW X z1 l1 s' (pc + 3) lv r) : cW X z1 l1 s pc lv (va_rf v :: .ref a :: r) := by
  obtain ⟨h1, h2⟩ := if_of h
  obtain ⟨c, n, ha, hc⟩ := isW_of h1
  have k := kk _ h2
  simp only [List.mem_cons, List.not_mem_nil, or_false] at hc
  rcases hc with rfl
  · exact c_putF (k := 10) (ty := (.array .int)) (p := (2, 210)) T kX2 ha rfl uR_v (fun q hq => uR_o q hq) (fun b c n hb => uR_b b c n hb) rfl rfl rfl rfl q373 (fun _ h9 => h9) rfl hin rfl (by decide +kernel) (by cases v <;> rfl) (by cases v <;> rfl) d k
/-- OverFirst$Town.names -/
theorem cp_X2_48 {X : KC CS} {E : CE} {cc : ByteArray} {nL : Nat} {ret : Option FieldType} {z0 l0 z1 l1 : Nat} {s : CS} {pc : Nat} {lv : List (Nat × Value)} {r : List Value} {α : Type} {z : α} {a : Nat} {v : Nat} {K : CS → Option α} (T : cOK X E cc RX2 nL ret z0 l0 z1 l1) (hin : X.2.1.2.2.2.1.name = "<init>") (h : pR s a [2] 211 (some v) K = some z) (d : decode cc pc = .ok (.putfield 48, 3)) (kk : ∀ s', K s' = some z → cW X z1 l1 s' (pc + 3) lv r) : cW X z1 l1 s pc lv (.ref v :: .ref a :: r) := by
  obtain ⟨h1, h2⟩ := if_of h
  obtain ⟨c, n, ha, hc⟩ := isW_of h1
  have k := kk _ h2
  simp only [List.mem_cons, List.not_mem_nil, or_false] at hc
  rcases hc with rfl
  · exact c_putF (k := 11) (ty := (.object "java/util/ArrayList")) (p := (2, 211)) T kX2 ha rfl uR_v (fun q hq => uR_o q hq) (fun b c n hb => uR_b b c n hb) rfl rfl rfl rfl q376 (fun _ h9 => h9) rfl hin rfl (by decide +kernel) rfl rfl d k
/-- OverFirst$Town.names -/
theorem cp_X2_48z {X : KC CS} {E : CE} {cc : ByteArray} {nL : Nat} {ret : Option FieldType} {z0 l0 z1 l1 : Nat} {s : CS} {pc : Nat} {lv : List (Nat × Value)} {r : List Value} {α : Type} {z : α} {a : Nat}  {K : CS → Option α} (T : cOK X E cc RX2 nL ret z0 l0 z1 l1) (hin : X.2.1.2.2.2.1.name = "<init>") (h : pR s a [2] 211 none K = some z) (d : decode cc pc = .ok (.putfield 48, 3)) (kk : ∀ s', K s' = some z → cW X z1 l1 s' (pc + 3) lv r) : cW X z1 l1 s pc lv (.null :: .ref a :: r) := by
  obtain ⟨h1, h2⟩ := if_of h
  obtain ⟨c, n, ha, hc⟩ := isW_of h1
  have k := kk _ h2
  simp only [List.mem_cons, List.not_mem_nil, or_false] at hc
  rcases hc with rfl
  · exact c_putF (k := 11) (ty := (.object "java/util/ArrayList")) (p := (2, 211)) T kX2 ha rfl uR_v (fun q hq => uR_o q hq) (fun b c n hb => uR_b b c n hb) rfl rfl rfl rfl q376 (fun _ h9 => h9) rfl hin rfl (by decide +kernel) rfl rfl d k
/-- OverFirst$Town.names -/
theorem cp_X2_48o {X : KC CS} {E : CE} {cc : ByteArray} {nL : Nat} {ret : Option FieldType} {z0 l0 z1 l1 : Nat} {s : CS} {pc : Nat} {lv : List (Nat × Value)} {r : List Value} {α : Type} {z : α} {a : Nat} {v : Option Nat} {K : CS → Option α} (T : cOK X E cc RX2 nL ret z0 l0 z1 l1) (hin : X.2.1.2.2.2.1.name = "<init>") (h : pR s a [2] 211 v K = some z) (d : decode cc pc = .ok (.putfield 48, 3)) (kk : ∀ s', K s' = some z → cW X z1 l1 s' (pc + 3) lv r) : cW X z1 l1 s pc lv (va_rf v :: .ref a :: r) := by
  obtain ⟨h1, h2⟩ := if_of h
  obtain ⟨c, n, ha, hc⟩ := isW_of h1
  have k := kk _ h2
  simp only [List.mem_cons, List.not_mem_nil, or_false] at hc
  rcases hc with rfl
  · exact c_putF (k := 11) (ty := (.object "java/util/ArrayList")) (p := (2, 211)) T kX2 ha rfl uR_v (fun q hq => uR_o q hq) (fun b c n hb => uR_b b c n hb) rfl rfl rfl rfl q376 (fun _ h9 => h9) rfl hin rfl (by decide +kernel) (by cases v <;> rfl) (by cases v <;> rfl) d k
/-- OverFirst$Town.goers -/
theorem cp_X2_52 {X : KC CS} {E : CE} {cc : ByteArray} {nL : Nat} {ret : Option FieldType} {z0 l0 z1 l1 : Nat} {s : CS} {pc : Nat} {lv : List (Nat × Value)} {r : List Value} {α : Type} {z : α} {a : Nat} {v : Nat} {K : CS → Option α} (T : cOK X E cc RX2 nL ret z0 l0 z1 l1) (hin : X.2.1.2.2.2.1.name = "<init>") (h : pR s a [2] 212 (some v) K = some z) (d : decode cc pc = .ok (.putfield 52, 3)) (kk : ∀ s', K s' = some z → cW X z1 l1 s' (pc + 3) lv r) : cW X z1 l1 s pc lv (.ref v :: .ref a :: r) := by
  obtain ⟨h1, h2⟩ := if_of h
  obtain ⟨c, n, ha, hc⟩ := isW_of h1
  have k := kk _ h2
  simp only [List.mem_cons, List.not_mem_nil, or_false] at hc
  rcases hc with rfl
  · exact c_putF (k := 12) (ty := (.object "java/util/ArrayList")) (p := (2, 212)) T kX2 ha rfl uR_v (fun q hq => uR_o q hq) (fun b c n hb => uR_b b c n hb) rfl rfl rfl rfl q379 (fun _ h9 => h9) rfl hin rfl (by decide +kernel) rfl rfl d k
/-- OverFirst$Town.goers -/
theorem cp_X2_52z {X : KC CS} {E : CE} {cc : ByteArray} {nL : Nat} {ret : Option FieldType} {z0 l0 z1 l1 : Nat} {s : CS} {pc : Nat} {lv : List (Nat × Value)} {r : List Value} {α : Type} {z : α} {a : Nat}  {K : CS → Option α} (T : cOK X E cc RX2 nL ret z0 l0 z1 l1) (hin : X.2.1.2.2.2.1.name = "<init>") (h : pR s a [2] 212 none K = some z) (d : decode cc pc = .ok (.putfield 52, 3)) (kk : ∀ s', K s' = some z → cW X z1 l1 s' (pc + 3) lv r) : cW X z1 l1 s pc lv (.null :: .ref a :: r) := by
  obtain ⟨h1, h2⟩ := if_of h
  obtain ⟨c, n, ha, hc⟩ := isW_of h1
  have k := kk _ h2
  simp only [List.mem_cons, List.not_mem_nil, or_false] at hc
  rcases hc with rfl
  · exact c_putF (k := 12) (ty := (.object "java/util/ArrayList")) (p := (2, 212)) T kX2 ha rfl uR_v (fun q hq => uR_o q hq) (fun b c n hb => uR_b b c n hb) rfl rfl rfl rfl q379 (fun _ h9 => h9) rfl hin rfl (by decide +kernel) rfl rfl d k
/-- OverFirst$Town.goers -/
theorem cp_X2_52o {X : KC CS} {E : CE} {cc : ByteArray} {nL : Nat} {ret : Option FieldType} {z0 l0 z1 l1 : Nat} {s : CS} {pc : Nat} {lv : List (Nat × Value)} {r : List Value} {α : Type} {z : α} {a : Nat} {v : Option Nat} {K : CS → Option α} (T : cOK X E cc RX2 nL ret z0 l0 z1 l1) (hin : X.2.1.2.2.2.1.name = "<init>") (h : pR s a [2] 212 v K = some z) (d : decode cc pc = .ok (.putfield 52, 3)) (kk : ∀ s', K s' = some z → cW X z1 l1 s' (pc + 3) lv r) : cW X z1 l1 s pc lv (va_rf v :: .ref a :: r) := by
  obtain ⟨h1, h2⟩ := if_of h
  obtain ⟨c, n, ha, hc⟩ := isW_of h1
  have k := kk _ h2
  simp only [List.mem_cons, List.not_mem_nil, or_false] at hc
  rcases hc with rfl
  · exact c_putF (k := 12) (ty := (.object "java/util/ArrayList")) (p := (2, 212)) T kX2 ha rfl uR_v (fun q hq => uR_o q hq) (fun b c n hb => uR_b b c n hb) rfl rfl rfl rfl q379 (fun _ h9 => h9) rfl hin rfl (by decide +kernel) (by cases v <;> rfl) (by cases v <;> rfl) d k
/-- OverFirst$Not.part -/
theorem cp_X20_7 {X : KC CS} {E : CE} {cc : ByteArray} {nL : Nat} {ret : Option FieldType} {z0 l0 z1 l1 : Nat} {s : CS} {pc : Nat} {lv : List (Nat × Value)} {r : List Value} {α : Type} {z : α} {a : Nat} {v : Nat} {K : CS → Option α} (T : cOK X E cc RX20 nL ret z0 l0 z1 l1) (hin : X.2.1.2.2.2.1.name = "<init>") (h : pR s a [20] 2000 (some v) K = some z) (d : decode cc pc = .ok (.putfield 7, 3)) (kk : ∀ s', K s' = some z → cW X z1 l1 s' (pc + 3) lv r) : cW X z1 l1 s pc lv (.ref v :: .ref a :: r) := by
  obtain ⟨h1, h2⟩ := if_of h
  obtain ⟨c, n, ha, hc⟩ := isW_of h1
  have k := kk _ h2
  simp only [List.mem_cons, List.not_mem_nil, or_false] at hc
  rcases hc with rfl
  · exact c_putF (k := 0) (ty := (.object "OverFirst$Expression")) (p := (2, 2000)) T kX20 ha rfl uR_v (fun q hq => uR_o q hq) (fun b c n hb => uR_b b c n hb) rfl rfl rfl rfl q1142 (fun _ h9 => h9) rfl hin rfl (by decide +kernel) rfl rfl d k
/-- OverFirst$Not.part -/
theorem cp_X20_7z {X : KC CS} {E : CE} {cc : ByteArray} {nL : Nat} {ret : Option FieldType} {z0 l0 z1 l1 : Nat} {s : CS} {pc : Nat} {lv : List (Nat × Value)} {r : List Value} {α : Type} {z : α} {a : Nat}  {K : CS → Option α} (T : cOK X E cc RX20 nL ret z0 l0 z1 l1) (hin : X.2.1.2.2.2.1.name = "<init>") (h : pR s a [20] 2000 none K = some z) (d : decode cc pc = .ok (.putfield 7, 3)) (kk : ∀ s', K s' = some z → cW X z1 l1 s' (pc + 3) lv r) : cW X z1 l1 s pc lv (.null :: .ref a :: r) := by
  obtain ⟨h1, h2⟩ := if_of h
  obtain ⟨c, n, ha, hc⟩ := isW_of h1
  have k := kk _ h2
  simp only [List.mem_cons, List.not_mem_nil, or_false] at hc
  rcases hc with rfl
  · exact c_putF (k := 0) (ty := (.object "OverFirst$Expression")) (p := (2, 2000)) T kX20 ha rfl uR_v (fun q hq => uR_o q hq) (fun b c n hb => uR_b b c n hb) rfl rfl rfl rfl q1142 (fun _ h9 => h9) rfl hin rfl (by decide +kernel) rfl rfl d k
/-- OverFirst$Not.part -/
theorem cp_X20_7o {X : KC CS} {E : CE} {cc : ByteArray} {nL : Nat} {ret : Option FieldType} {z0 l0 z1 l1 : Nat} {s : CS} {pc : Nat} {lv : List (Nat × Value)} {r : List Value} {α : Type} {z : α} {a : Nat} {v : Option Nat} {K : CS → Option α} (T : cOK X E cc RX20 nL ret z0 l0 z1 l1) (hin : X.2.1.2.2.2.1.name = "<init>") (h : pR s a [20] 2000 v K = some z) (d : decode cc pc = .ok (.putfield 7, 3)) (kk : ∀ s', K s' = some z → cW X z1 l1 s' (pc + 3) lv r) : cW X z1 l1 s pc lv (va_rf v :: .ref a :: r) := by
  obtain ⟨h1, h2⟩ := if_of h
  obtain ⟨c, n, ha, hc⟩ := isW_of h1
  have k := kk _ h2
  simp only [List.mem_cons, List.not_mem_nil, or_false] at hc
  rcases hc with rfl
  · exact c_putF (k := 0) (ty := (.object "OverFirst$Expression")) (p := (2, 2000)) T kX20 ha rfl uR_v (fun q hq => uR_o q hq) (fun b c n hb => uR_b b c n hb) rfl rfl rfl rfl q1142 (fun _ h9 => h9) rfl hin rfl (by decide +kernel) (by cases v <;> rfl) (by cases v <;> rfl) d k
/-- OverFirst$Two.way -/
theorem cp_X21_7 {X : KC CS} {E : CE} {cc : ByteArray} {nL : Nat} {ret : Option FieldType} {z0 l0 z1 l1 : Nat} {s : CS} {pc : Nat} {lv : List (Nat × Value)} {r : List Value} {α : Type} {z : α} {a : Nat} {v : Int32} {K : CS → Option α} (T : cOK X E cc RX21 nL ret z0 l0 z1 l1) (hin : X.2.1.2.2.2.1.name = "<init>") (h : gd (isc v) (pI s a [21] 2100 v K) = some z) (d : decode cc pc = .ok (.putfield 7, 3)) (kk : ∀ s', K s' = some z → cW X z1 l1 s' (pc + 3) lv r) : cW X z1 l1 s pc lv (.int v :: .ref a :: r) := by
  obtain ⟨hb, h⟩ := gd_of h
  obtain ⟨h1, h2⟩ := if_of h
  obtain ⟨c, n, ha, hc⟩ := isW_of h1
  have k := kk _ h2
  simp only [List.mem_cons, List.not_mem_nil, or_false] at hc
  rcases hc with rfl
  · exact c_putF (k := 0) (ty := .char) (p := (0, 2100)) T kX21 ha rfl uI_v (fun q hq => uI_o q hq) (fun b c n hb => uI_b b c n hb) rfl rfl rfl rfl q1152 (fun _ h9 => h9) rfl hin rfl (by decide +kernel) (isc_nar hb) (isc_fit hb) d k
/-- OverFirst$Two.a -/
theorem cp_X21_13 {X : KC CS} {E : CE} {cc : ByteArray} {nL : Nat} {ret : Option FieldType} {z0 l0 z1 l1 : Nat} {s : CS} {pc : Nat} {lv : List (Nat × Value)} {r : List Value} {α : Type} {z : α} {a : Nat} {v : Nat} {K : CS → Option α} (T : cOK X E cc RX21 nL ret z0 l0 z1 l1) (hin : X.2.1.2.2.2.1.name = "<init>") (h : pR s a [21] 2101 (some v) K = some z) (d : decode cc pc = .ok (.putfield 13, 3)) (kk : ∀ s', K s' = some z → cW X z1 l1 s' (pc + 3) lv r) : cW X z1 l1 s pc lv (.ref v :: .ref a :: r) := by
  obtain ⟨h1, h2⟩ := if_of h
  obtain ⟨c, n, ha, hc⟩ := isW_of h1
  have k := kk _ h2
  simp only [List.mem_cons, List.not_mem_nil, or_false] at hc
  rcases hc with rfl
  · exact c_putF (k := 1) (ty := (.object "OverFirst$Expression")) (p := (2, 2101)) T kX21 ha rfl uR_v (fun q hq => uR_o q hq) (fun b c n hb => uR_b b c n hb) rfl rfl rfl rfl q1153 (fun _ h9 => h9) rfl hin rfl (by decide +kernel) rfl rfl d k
/-- OverFirst$Two.a -/
theorem cp_X21_13z {X : KC CS} {E : CE} {cc : ByteArray} {nL : Nat} {ret : Option FieldType} {z0 l0 z1 l1 : Nat} {s : CS} {pc : Nat} {lv : List (Nat × Value)} {r : List Value} {α : Type} {z : α} {a : Nat}  {K : CS → Option α} (T : cOK X E cc RX21 nL ret z0 l0 z1 l1) (hin : X.2.1.2.2.2.1.name = "<init>") (h : pR s a [21] 2101 none K = some z) (d : decode cc pc = .ok (.putfield 13, 3)) (kk : ∀ s', K s' = some z → cW X z1 l1 s' (pc + 3) lv r) : cW X z1 l1 s pc lv (.null :: .ref a :: r) := by
  obtain ⟨h1, h2⟩ := if_of h
  obtain ⟨c, n, ha, hc⟩ := isW_of h1
  have k := kk _ h2
  simp only [List.mem_cons, List.not_mem_nil, or_false] at hc
  rcases hc with rfl
  · exact c_putF (k := 1) (ty := (.object "OverFirst$Expression")) (p := (2, 2101)) T kX21 ha rfl uR_v (fun q hq => uR_o q hq) (fun b c n hb => uR_b b c n hb) rfl rfl rfl rfl q1153 (fun _ h9 => h9) rfl hin rfl (by decide +kernel) rfl rfl d k
/-- OverFirst$Two.a -/
theorem cp_X21_13o {X : KC CS} {E : CE} {cc : ByteArray} {nL : Nat} {ret : Option FieldType} {z0 l0 z1 l1 : Nat} {s : CS} {pc : Nat} {lv : List (Nat × Value)} {r : List Value} {α : Type} {z : α} {a : Nat} {v : Option Nat} {K : CS → Option α} (T : cOK X E cc RX21 nL ret z0 l0 z1 l1) (hin : X.2.1.2.2.2.1.name = "<init>") (h : pR s a [21] 2101 v K = some z) (d : decode cc pc = .ok (.putfield 13, 3)) (kk : ∀ s', K s' = some z → cW X z1 l1 s' (pc + 3) lv r) : cW X z1 l1 s pc lv (va_rf v :: .ref a :: r) := by
  obtain ⟨h1, h2⟩ := if_of h
  obtain ⟨c, n, ha, hc⟩ := isW_of h1
  have k := kk _ h2
  simp only [List.mem_cons, List.not_mem_nil, or_false] at hc
  rcases hc with rfl
  · exact c_putF (k := 1) (ty := (.object "OverFirst$Expression")) (p := (2, 2101)) T kX21 ha rfl uR_v (fun q hq => uR_o q hq) (fun b c n hb => uR_b b c n hb) rfl rfl rfl rfl q1153 (fun _ h9 => h9) rfl hin rfl (by decide +kernel) (by cases v <;> rfl) (by cases v <;> rfl) d k
/-- OverFirst$Two.b -/
theorem cp_X21_17 {X : KC CS} {E : CE} {cc : ByteArray} {nL : Nat} {ret : Option FieldType} {z0 l0 z1 l1 : Nat} {s : CS} {pc : Nat} {lv : List (Nat × Value)} {r : List Value} {α : Type} {z : α} {a : Nat} {v : Nat} {K : CS → Option α} (T : cOK X E cc RX21 nL ret z0 l0 z1 l1) (hin : X.2.1.2.2.2.1.name = "<init>") (h : pR s a [21] 2102 (some v) K = some z) (d : decode cc pc = .ok (.putfield 17, 3)) (kk : ∀ s', K s' = some z → cW X z1 l1 s' (pc + 3) lv r) : cW X z1 l1 s pc lv (.ref v :: .ref a :: r) := by
  obtain ⟨h1, h2⟩ := if_of h
  obtain ⟨c, n, ha, hc⟩ := isW_of h1
  have k := kk _ h2
  simp only [List.mem_cons, List.not_mem_nil, or_false] at hc
  rcases hc with rfl
  · exact c_putF (k := 2) (ty := (.object "OverFirst$Expression")) (p := (2, 2102)) T kX21 ha rfl uR_v (fun q hq => uR_o q hq) (fun b c n hb => uR_b b c n hb) rfl rfl rfl rfl q1154 (fun _ h9 => h9) rfl hin rfl (by decide +kernel) rfl rfl d k
/-- OverFirst$Two.b -/
theorem cp_X21_17z {X : KC CS} {E : CE} {cc : ByteArray} {nL : Nat} {ret : Option FieldType} {z0 l0 z1 l1 : Nat} {s : CS} {pc : Nat} {lv : List (Nat × Value)} {r : List Value} {α : Type} {z : α} {a : Nat}  {K : CS → Option α} (T : cOK X E cc RX21 nL ret z0 l0 z1 l1) (hin : X.2.1.2.2.2.1.name = "<init>") (h : pR s a [21] 2102 none K = some z) (d : decode cc pc = .ok (.putfield 17, 3)) (kk : ∀ s', K s' = some z → cW X z1 l1 s' (pc + 3) lv r) : cW X z1 l1 s pc lv (.null :: .ref a :: r) := by
  obtain ⟨h1, h2⟩ := if_of h
  obtain ⟨c, n, ha, hc⟩ := isW_of h1
  have k := kk _ h2
  simp only [List.mem_cons, List.not_mem_nil, or_false] at hc
  rcases hc with rfl
  · exact c_putF (k := 2) (ty := (.object "OverFirst$Expression")) (p := (2, 2102)) T kX21 ha rfl uR_v (fun q hq => uR_o q hq) (fun b c n hb => uR_b b c n hb) rfl rfl rfl rfl q1154 (fun _ h9 => h9) rfl hin rfl (by decide +kernel) rfl rfl d k
/-- OverFirst$Two.b -/
theorem cp_X21_17o {X : KC CS} {E : CE} {cc : ByteArray} {nL : Nat} {ret : Option FieldType} {z0 l0 z1 l1 : Nat} {s : CS} {pc : Nat} {lv : List (Nat × Value)} {r : List Value} {α : Type} {z : α} {a : Nat} {v : Option Nat} {K : CS → Option α} (T : cOK X E cc RX21 nL ret z0 l0 z1 l1) (hin : X.2.1.2.2.2.1.name = "<init>") (h : pR s a [21] 2102 v K = some z) (d : decode cc pc = .ok (.putfield 17, 3)) (kk : ∀ s', K s' = some z → cW X z1 l1 s' (pc + 3) lv r) : cW X z1 l1 s pc lv (va_rf v :: .ref a :: r) := by
  obtain ⟨h1, h2⟩ := if_of h
  obtain ⟨c, n, ha, hc⟩ := isW_of h1
  have k := kk _ h2
  simp only [List.mem_cons, List.not_mem_nil, or_false] at hc
  rcases hc with rfl
  · exact c_putF (k := 2) (ty := (.object "OverFirst$Expression")) (p := (2, 2102)) T kX21 ha rfl uR_v (fun q hq => uR_o q hq) (fun b c n hb => uR_b b c n hb) rfl rfl rfl rfl q1154 (fun _ h9 => h9) rfl hin rfl (by decide +kernel) (by cases v <;> rfl) (by cases v <;> rfl) d k
/-- OverFirst$First.way -/
theorem cp_X4_9 {X : KC CS} {E : CE} {cc : ByteArray} {nL : Nat} {ret : Option FieldType} {z0 l0 z1 l1 : Nat} {s : CS} {pc : Nat} {lv : List (Nat × Value)} {r : List Value} {α : Type} {z : α} {a : Nat} {v : Int32} {K : CS → Option α} (T : cOK X E cc RX4 nL ret z0 l0 z1 l1) (hin : X.2.1.2.2.2.1.name = "<init>") (h : pI s a [4] 400 v K = some z) (d : decode cc pc = .ok (.putfield 9, 3)) (kk : ∀ s', K s' = some z → cW X z1 l1 s' (pc + 3) lv r) : cW X z1 l1 s pc lv (.int v :: .ref a :: r) := by
  obtain ⟨h1, h2⟩ := if_of h
  obtain ⟨c, n, ha, hc⟩ := isW_of h1
  have k := kk _ h2
  simp only [List.mem_cons, List.not_mem_nil, or_false] at hc
  rcases hc with rfl
  · exact c_putF (k := 0) (ty := .int) (p := (0, 400)) T kX4 ha rfl uI_v (fun q hq => uI_o q hq) (fun b c n hb => uI_b b c n hb) rfl rfl rfl rfl q263 (fun _ h9 => h9) rfl hin rfl (by decide +kernel) rfl rfl d k
/-- OverFirst$Walk.way -/
theorem cp_X7_9 {X : KC CS} {E : CE} {cc : ByteArray} {nL : Nat} {ret : Option FieldType} {z0 l0 z1 l1 : Nat} {s : CS} {pc : Nat} {lv : List (Nat × Value)} {r : List Value} {α : Type} {z : α} {a : Nat} {v : Nat} {K : CS → Option α} (T : cOK X E cc RX7 nL ret z0 l0 z1 l1) (hin : X.2.1.2.2.2.1.name = "<init>") (h : pR s a [7] 700 (some v) K = some z) (d : decode cc pc = .ok (.putfield 9, 3)) (kk : ∀ s', K s' = some z → cW X z1 l1 s' (pc + 3) lv r) : cW X z1 l1 s pc lv (.ref v :: .ref a :: r) := by
  obtain ⟨h1, h2⟩ := if_of h
  obtain ⟨c, n, ha, hc⟩ := isW_of h1
  have k := kk _ h2
  simp only [List.mem_cons, List.not_mem_nil, or_false] at hc
  rcases hc with rfl
  · exact c_putF (k := 0) (ty := (.array .int)) (p := (2, 700)) T kX7 ha rfl uR_v (fun q hq => uR_o q hq) (fun b c n hb => uR_b b c n hb) rfl rfl rfl rfl q415 (fun _ h9 => h9) rfl hin rfl (by decide +kernel) rfl rfl d k
/-- OverFirst$Walk.way -/
theorem cp_X7_9z {X : KC CS} {E : CE} {cc : ByteArray} {nL : Nat} {ret : Option FieldType} {z0 l0 z1 l1 : Nat} {s : CS} {pc : Nat} {lv : List (Nat × Value)} {r : List Value} {α : Type} {z : α} {a : Nat}  {K : CS → Option α} (T : cOK X E cc RX7 nL ret z0 l0 z1 l1) (hin : X.2.1.2.2.2.1.name = "<init>") (h : pR s a [7] 700 none K = some z) (d : decode cc pc = .ok (.putfield 9, 3)) (kk : ∀ s', K s' = some z → cW X z1 l1 s' (pc + 3) lv r) : cW X z1 l1 s pc lv (.null :: .ref a :: r) := by
  obtain ⟨h1, h2⟩ := if_of h
  obtain ⟨c, n, ha, hc⟩ := isW_of h1
  have k := kk _ h2
  simp only [List.mem_cons, List.not_mem_nil, or_false] at hc
  rcases hc with rfl
  · exact c_putF (k := 0) (ty := (.array .int)) (p := (2, 700)) T kX7 ha rfl uR_v (fun q hq => uR_o q hq) (fun b c n hb => uR_b b c n hb) rfl rfl rfl rfl q415 (fun _ h9 => h9) rfl hin rfl (by decide +kernel) rfl rfl d k
/-- OverFirst$Walk.way -/
theorem cp_X7_9o {X : KC CS} {E : CE} {cc : ByteArray} {nL : Nat} {ret : Option FieldType} {z0 l0 z1 l1 : Nat} {s : CS} {pc : Nat} {lv : List (Nat × Value)} {r : List Value} {α : Type} {z : α} {a : Nat} {v : Option Nat} {K : CS → Option α} (T : cOK X E cc RX7 nL ret z0 l0 z1 l1) (hin : X.2.1.2.2.2.1.name = "<init>") (h : pR s a [7] 700 v K = some z) (d : decode cc pc = .ok (.putfield 9, 3)) (kk : ∀ s', K s' = some z → cW X z1 l1 s' (pc + 3) lv r) : cW X z1 l1 s pc lv (va_rf v :: .ref a :: r) := by
  obtain ⟨h1, h2⟩ := if_of h
  obtain ⟨c, n, ha, hc⟩ := isW_of h1
  have k := kk _ h2
  simp only [List.mem_cons, List.not_mem_nil, or_false] at hc
  rcases hc with rfl
  · exact c_putF (k := 0) (ty := (.array .int)) (p := (2, 700)) T kX7 ha rfl uR_v (fun q hq => uR_o q hq) (fun b c n hb => uR_b b c n hb) rfl rfl rfl rfl q415 (fun _ h9 => h9) rfl hin rfl (by decide +kernel) (by cases v <;> rfl) (by cases v <;> rfl) d k
/-- OverFirst$Walk.second -/
theorem cp_X7_15 {X : KC CS} {E : CE} {cc : ByteArray} {nL : Nat} {ret : Option FieldType} {z0 l0 z1 l1 : Nat} {s : CS} {pc : Nat} {lv : List (Nat × Value)} {r : List Value} {α : Type} {z : α} {a : Nat} {v : Nat} {K : CS → Option α} (T : cOK X E cc RX7 nL ret z0 l0 z1 l1) (hin : X.2.1.2.2.2.1.name = "<init>") (h : pR s a [7] 701 (some v) K = some z) (d : decode cc pc = .ok (.putfield 15, 3)) (kk : ∀ s', K s' = some z → cW X z1 l1 s' (pc + 3) lv r) : cW X z1 l1 s pc lv (.ref v :: .ref a :: r) := by
  obtain ⟨h1, h2⟩ := if_of h
  obtain ⟨c, n, ha, hc⟩ := isW_of h1
  have k := kk _ h2
  simp only [List.mem_cons, List.not_mem_nil, or_false] at hc
  rcases hc with rfl
  · exact c_putF (k := 1) (ty := (.array .int)) (p := (2, 701)) T kX7 ha rfl uR_v (fun q hq => uR_o q hq) (fun b c n hb => uR_b b c n hb) rfl rfl rfl rfl q418 (fun _ h9 => h9) rfl hin rfl (by decide +kernel) rfl rfl d k
/-- OverFirst$Walk.second -/
theorem cp_X7_15z {X : KC CS} {E : CE} {cc : ByteArray} {nL : Nat} {ret : Option FieldType} {z0 l0 z1 l1 : Nat} {s : CS} {pc : Nat} {lv : List (Nat × Value)} {r : List Value} {α : Type} {z : α} {a : Nat}  {K : CS → Option α} (T : cOK X E cc RX7 nL ret z0 l0 z1 l1) (hin : X.2.1.2.2.2.1.name = "<init>") (h : pR s a [7] 701 none K = some z) (d : decode cc pc = .ok (.putfield 15, 3)) (kk : ∀ s', K s' = some z → cW X z1 l1 s' (pc + 3) lv r) : cW X z1 l1 s pc lv (.null :: .ref a :: r) := by
  obtain ⟨h1, h2⟩ := if_of h
  obtain ⟨c, n, ha, hc⟩ := isW_of h1
  have k := kk _ h2
  simp only [List.mem_cons, List.not_mem_nil, or_false] at hc
  rcases hc with rfl
  · exact c_putF (k := 1) (ty := (.array .int)) (p := (2, 701)) T kX7 ha rfl uR_v (fun q hq => uR_o q hq) (fun b c n hb => uR_b b c n hb) rfl rfl rfl rfl q418 (fun _ h9 => h9) rfl hin rfl (by decide +kernel) rfl rfl d k
/-- OverFirst$Walk.second -/
theorem cp_X7_15o {X : KC CS} {E : CE} {cc : ByteArray} {nL : Nat} {ret : Option FieldType} {z0 l0 z1 l1 : Nat} {s : CS} {pc : Nat} {lv : List (Nat × Value)} {r : List Value} {α : Type} {z : α} {a : Nat} {v : Option Nat} {K : CS → Option α} (T : cOK X E cc RX7 nL ret z0 l0 z1 l1) (hin : X.2.1.2.2.2.1.name = "<init>") (h : pR s a [7] 701 v K = some z) (d : decode cc pc = .ok (.putfield 15, 3)) (kk : ∀ s', K s' = some z → cW X z1 l1 s' (pc + 3) lv r) : cW X z1 l1 s pc lv (va_rf v :: .ref a :: r) := by
  obtain ⟨h1, h2⟩ := if_of h
  obtain ⟨c, n, ha, hc⟩ := isW_of h1
  have k := kk _ h2
  simp only [List.mem_cons, List.not_mem_nil, or_false] at hc
  rcases hc with rfl
  · exact c_putF (k := 1) (ty := (.array .int)) (p := (2, 701)) T kX7 ha rfl uR_v (fun q hq => uR_o q hq) (fun b c n hb => uR_b b c n hb) rfl rfl rfl rfl q418 (fun _ h9 => h9) rfl hin rfl (by decide +kernel) (by cases v <;> rfl) (by cases v <;> rfl) d k
/-- OverFirst$State.known -/
theorem cp_X8_9 {X : KC CS} {E : CE} {cc : ByteArray} {nL : Nat} {ret : Option FieldType} {z0 l0 z1 l1 : Nat} {s : CS} {pc : Nat} {lv : List (Nat × Value)} {r : List Value} {α : Type} {z : α} {a : Nat} {v : Nat} {K : CS → Option α} (T : cOK X E cc RX8 nL ret z0 l0 z1 l1) (hin : X.2.1.2.2.2.1.name = "<init>") (h : pR s a [8] 806 (some v) K = some z) (d : decode cc pc = .ok (.putfield 9, 3)) (kk : ∀ s', K s' = some z → cW X z1 l1 s' (pc + 3) lv r) : cW X z1 l1 s pc lv (.ref v :: .ref a :: r) := by
  obtain ⟨h1, h2⟩ := if_of h
  obtain ⟨c, n, ha, hc⟩ := isW_of h1
  have k := kk _ h2
  simp only [List.mem_cons, List.not_mem_nil, or_false] at hc
  rcases hc with rfl
  · exact c_putF (k := 6) (ty := (.array .boolean)) (p := (2, 806)) T kX8 ha rfl uR_v (fun q hq => uR_o q hq) (fun b c n hb => uR_b b c n hb) rfl rfl rfl rfl q448 (fun _ h9 => h9) rfl hin rfl (by decide +kernel) rfl rfl d k
/-- OverFirst$State.known -/
theorem cp_X8_9z {X : KC CS} {E : CE} {cc : ByteArray} {nL : Nat} {ret : Option FieldType} {z0 l0 z1 l1 : Nat} {s : CS} {pc : Nat} {lv : List (Nat × Value)} {r : List Value} {α : Type} {z : α} {a : Nat}  {K : CS → Option α} (T : cOK X E cc RX8 nL ret z0 l0 z1 l1) (hin : X.2.1.2.2.2.1.name = "<init>") (h : pR s a [8] 806 none K = some z) (d : decode cc pc = .ok (.putfield 9, 3)) (kk : ∀ s', K s' = some z → cW X z1 l1 s' (pc + 3) lv r) : cW X z1 l1 s pc lv (.null :: .ref a :: r) := by
  obtain ⟨h1, h2⟩ := if_of h
  obtain ⟨c, n, ha, hc⟩ := isW_of h1
  have k := kk _ h2
  simp only [List.mem_cons, List.not_mem_nil, or_false] at hc
  rcases hc with rfl
  · exact c_putF (k := 6) (ty := (.array .boolean)) (p := (2, 806)) T kX8 ha rfl uR_v (fun q hq => uR_o q hq) (fun b c n hb => uR_b b c n hb) rfl rfl rfl rfl q448 (fun _ h9 => h9) rfl hin rfl (by decide +kernel) rfl rfl d k
/-- OverFirst$State.known -/
theorem cp_X8_9o {X : KC CS} {E : CE} {cc : ByteArray} {nL : Nat} {ret : Option FieldType} {z0 l0 z1 l1 : Nat} {s : CS} {pc : Nat} {lv : List (Nat × Value)} {r : List Value} {α : Type} {z : α} {a : Nat} {v : Option Nat} {K : CS → Option α} (T : cOK X E cc RX8 nL ret z0 l0 z1 l1) (hin : X.2.1.2.2.2.1.name = "<init>") (h : pR s a [8] 806 v K = some z) (d : decode cc pc = .ok (.putfield 9, 3)) (kk : ∀ s', K s' = some z → cW X z1 l1 s' (pc + 3) lv r) : cW X z1 l1 s pc lv (va_rf v :: .ref a :: r) := by
  obtain ⟨h1, h2⟩ := if_of h
  obtain ⟨c, n, ha, hc⟩ := isW_of h1
  have k := kk _ h2
  simp only [List.mem_cons, List.not_mem_nil, or_false] at hc
  rcases hc with rfl
  · exact c_putF (k := 6) (ty := (.array .boolean)) (p := (2, 806)) T kX8 ha rfl uR_v (fun q hq => uR_o q hq) (fun b c n hb => uR_b b c n hb) rfl rfl rfl rfl q448 (fun _ h9 => h9) rfl hin rfl (by decide +kernel) (by cases v <;> rfl) (by cases v <;> rfl) d k
/-- OverFirst$State.pressed -/
theorem cp_X8_15 {X : KC CS} {E : CE} {cc : ByteArray} {nL : Nat} {ret : Option FieldType} {z0 l0 z1 l1 : Nat} {s : CS} {pc : Nat} {lv : List (Nat × Value)} {r : List Value} {α : Type} {z : α} {a : Nat} {v : Nat} {K : CS → Option α} (T : cOK X E cc RX8 nL ret z0 l0 z1 l1) (hin : X.2.1.2.2.2.1.name = "<init>") (h : pR s a [8] 807 (some v) K = some z) (d : decode cc pc = .ok (.putfield 15, 3)) (kk : ∀ s', K s' = some z → cW X z1 l1 s' (pc + 3) lv r) : cW X z1 l1 s pc lv (.ref v :: .ref a :: r) := by
  obtain ⟨h1, h2⟩ := if_of h
  obtain ⟨c, n, ha, hc⟩ := isW_of h1
  have k := kk _ h2
  simp only [List.mem_cons, List.not_mem_nil, or_false] at hc
  rcases hc with rfl
  · exact c_putF (k := 7) (ty := (.array .boolean)) (p := (2, 807)) T kX8 ha rfl uR_v (fun q hq => uR_o q hq) (fun b c n hb => uR_b b c n hb) rfl rfl rfl rfl q450 (fun _ h9 => h9) rfl hin rfl (by decide +kernel) rfl rfl d k
/-- OverFirst$State.pressed -/
theorem cp_X8_15z {X : KC CS} {E : CE} {cc : ByteArray} {nL : Nat} {ret : Option FieldType} {z0 l0 z1 l1 : Nat} {s : CS} {pc : Nat} {lv : List (Nat × Value)} {r : List Value} {α : Type} {z : α} {a : Nat}  {K : CS → Option α} (T : cOK X E cc RX8 nL ret z0 l0 z1 l1) (hin : X.2.1.2.2.2.1.name = "<init>") (h : pR s a [8] 807 none K = some z) (d : decode cc pc = .ok (.putfield 15, 3)) (kk : ∀ s', K s' = some z → cW X z1 l1 s' (pc + 3) lv r) : cW X z1 l1 s pc lv (.null :: .ref a :: r) := by
  obtain ⟨h1, h2⟩ := if_of h
  obtain ⟨c, n, ha, hc⟩ := isW_of h1
  have k := kk _ h2
  simp only [List.mem_cons, List.not_mem_nil, or_false] at hc
  rcases hc with rfl
  · exact c_putF (k := 7) (ty := (.array .boolean)) (p := (2, 807)) T kX8 ha rfl uR_v (fun q hq => uR_o q hq) (fun b c n hb => uR_b b c n hb) rfl rfl rfl rfl q450 (fun _ h9 => h9) rfl hin rfl (by decide +kernel) rfl rfl d k
/-- OverFirst$State.pressed -/
theorem cp_X8_15o {X : KC CS} {E : CE} {cc : ByteArray} {nL : Nat} {ret : Option FieldType} {z0 l0 z1 l1 : Nat} {s : CS} {pc : Nat} {lv : List (Nat × Value)} {r : List Value} {α : Type} {z : α} {a : Nat} {v : Option Nat} {K : CS → Option α} (T : cOK X E cc RX8 nL ret z0 l0 z1 l1) (hin : X.2.1.2.2.2.1.name = "<init>") (h : pR s a [8] 807 v K = some z) (d : decode cc pc = .ok (.putfield 15, 3)) (kk : ∀ s', K s' = some z → cW X z1 l1 s' (pc + 3) lv r) : cW X z1 l1 s pc lv (va_rf v :: .ref a :: r) := by
  obtain ⟨h1, h2⟩ := if_of h
  obtain ⟨c, n, ha, hc⟩ := isW_of h1
  have k := kk _ h2
  simp only [List.mem_cons, List.not_mem_nil, or_false] at hc
  rcases hc with rfl
  · exact c_putF (k := 7) (ty := (.array .boolean)) (p := (2, 807)) T kX8 ha rfl uR_v (fun q hq => uR_o q hq) (fun b c n hb => uR_b b c n hb) rfl rfl rfl rfl q450 (fun _ h9 => h9) rfl hin rfl (by decide +kernel) (by cases v <;> rfl) (by cases v <;> rfl) d k
/-- OverFirst$State.triedAt -/
theorem cp_X8_18 {X : KC CS} {E : CE} {cc : ByteArray} {nL : Nat} {ret : Option FieldType} {z0 l0 z1 l1 : Nat} {s : CS} {pc : Nat} {lv : List (Nat × Value)} {r : List Value} {α : Type} {z : α} {a : Nat} {v : Nat} {K : CS → Option α} (T : cOK X E cc RX8 nL ret z0 l0 z1 l1) (hin : X.2.1.2.2.2.1.name = "<init>") (h : pR s a [8] 808 (some v) K = some z) (d : decode cc pc = .ok (.putfield 18, 3)) (kk : ∀ s', K s' = some z → cW X z1 l1 s' (pc + 3) lv r) : cW X z1 l1 s pc lv (.ref v :: .ref a :: r) := by
  obtain ⟨h1, h2⟩ := if_of h
  obtain ⟨c, n, ha, hc⟩ := isW_of h1
  have k := kk _ h2
  simp only [List.mem_cons, List.not_mem_nil, or_false] at hc
  rcases hc with rfl
  · exact c_putF (k := 8) (ty := (.array .int)) (p := (2, 808)) T kX8 ha rfl uR_v (fun q hq => uR_o q hq) (fun b c n hb => uR_b b c n hb) rfl rfl rfl rfl q452 (fun _ h9 => h9) rfl hin rfl (by decide +kernel) rfl rfl d k
/-- OverFirst$State.triedAt -/
theorem cp_X8_18z {X : KC CS} {E : CE} {cc : ByteArray} {nL : Nat} {ret : Option FieldType} {z0 l0 z1 l1 : Nat} {s : CS} {pc : Nat} {lv : List (Nat × Value)} {r : List Value} {α : Type} {z : α} {a : Nat}  {K : CS → Option α} (T : cOK X E cc RX8 nL ret z0 l0 z1 l1) (hin : X.2.1.2.2.2.1.name = "<init>") (h : pR s a [8] 808 none K = some z) (d : decode cc pc = .ok (.putfield 18, 3)) (kk : ∀ s', K s' = some z → cW X z1 l1 s' (pc + 3) lv r) : cW X z1 l1 s pc lv (.null :: .ref a :: r) := by
  obtain ⟨h1, h2⟩ := if_of h
  obtain ⟨c, n, ha, hc⟩ := isW_of h1
  have k := kk _ h2
  simp only [List.mem_cons, List.not_mem_nil, or_false] at hc
  rcases hc with rfl
  · exact c_putF (k := 8) (ty := (.array .int)) (p := (2, 808)) T kX8 ha rfl uR_v (fun q hq => uR_o q hq) (fun b c n hb => uR_b b c n hb) rfl rfl rfl rfl q452 (fun _ h9 => h9) rfl hin rfl (by decide +kernel) rfl rfl d k
/-- OverFirst$State.triedAt -/
theorem cp_X8_18o {X : KC CS} {E : CE} {cc : ByteArray} {nL : Nat} {ret : Option FieldType} {z0 l0 z1 l1 : Nat} {s : CS} {pc : Nat} {lv : List (Nat × Value)} {r : List Value} {α : Type} {z : α} {a : Nat} {v : Option Nat} {K : CS → Option α} (T : cOK X E cc RX8 nL ret z0 l0 z1 l1) (hin : X.2.1.2.2.2.1.name = "<init>") (h : pR s a [8] 808 v K = some z) (d : decode cc pc = .ok (.putfield 18, 3)) (kk : ∀ s', K s' = some z → cW X z1 l1 s' (pc + 3) lv r) : cW X z1 l1 s pc lv (va_rf v :: .ref a :: r) := by
  obtain ⟨h1, h2⟩ := if_of h
  obtain ⟨c, n, ha, hc⟩ := isW_of h1
  have k := kk _ h2
  simp only [List.mem_cons, List.not_mem_nil, or_false] at hc
  rcases hc with rfl
  · exact c_putF (k := 8) (ty := (.array .int)) (p := (2, 808)) T kX8 ha rfl uR_v (fun q hq => uR_o q hq) (fun b c n hb => uR_b b c n hb) rfl rfl rfl rfl q452 (fun _ h9 => h9) rfl hin rfl (by decide +kernel) (by cases v <;> rfl) (by cases v <;> rfl) d k
/-- OverFirst$State.waited -/
theorem cp_X8_22 {X : KC CS} {E : CE} {cc : ByteArray} {nL : Nat} {ret : Option FieldType} {z0 l0 z1 l1 : Nat} {s : CS} {pc : Nat} {lv : List (Nat × Value)} {r : List Value} {α : Type} {z : α} {a : Nat} {v : Nat} {K : CS → Option α} (T : cOK X E cc RX8 nL ret z0 l0 z1 l1) (hin : X.2.1.2.2.2.1.name = "<init>") (h : pR s a [8] 809 (some v) K = some z) (d : decode cc pc = .ok (.putfield 22, 3)) (kk : ∀ s', K s' = some z → cW X z1 l1 s' (pc + 3) lv r) : cW X z1 l1 s pc lv (.ref v :: .ref a :: r) := by
  obtain ⟨h1, h2⟩ := if_of h
  obtain ⟨c, n, ha, hc⟩ := isW_of h1
  have k := kk _ h2
  simp only [List.mem_cons, List.not_mem_nil, or_false] at hc
  rcases hc with rfl
  · exact c_putF (k := 9) (ty := (.array .int)) (p := (2, 809)) T kX8 ha rfl uR_v (fun q hq => uR_o q hq) (fun b c n hb => uR_b b c n hb) rfl rfl rfl rfl q454 (fun _ h9 => h9) rfl hin rfl (by decide +kernel) rfl rfl d k
/-- OverFirst$State.waited -/
theorem cp_X8_22z {X : KC CS} {E : CE} {cc : ByteArray} {nL : Nat} {ret : Option FieldType} {z0 l0 z1 l1 : Nat} {s : CS} {pc : Nat} {lv : List (Nat × Value)} {r : List Value} {α : Type} {z : α} {a : Nat}  {K : CS → Option α} (T : cOK X E cc RX8 nL ret z0 l0 z1 l1) (hin : X.2.1.2.2.2.1.name = "<init>") (h : pR s a [8] 809 none K = some z) (d : decode cc pc = .ok (.putfield 22, 3)) (kk : ∀ s', K s' = some z → cW X z1 l1 s' (pc + 3) lv r) : cW X z1 l1 s pc lv (.null :: .ref a :: r) := by
  obtain ⟨h1, h2⟩ := if_of h
  obtain ⟨c, n, ha, hc⟩ := isW_of h1
  have k := kk _ h2
  simp only [List.mem_cons, List.not_mem_nil, or_false] at hc
  rcases hc with rfl
  · exact c_putF (k := 9) (ty := (.array .int)) (p := (2, 809)) T kX8 ha rfl uR_v (fun q hq => uR_o q hq) (fun b c n hb => uR_b b c n hb) rfl rfl rfl rfl q454 (fun _ h9 => h9) rfl hin rfl (by decide +kernel) rfl rfl d k
/-- OverFirst$State.waited -/
theorem cp_X8_22o {X : KC CS} {E : CE} {cc : ByteArray} {nL : Nat} {ret : Option FieldType} {z0 l0 z1 l1 : Nat} {s : CS} {pc : Nat} {lv : List (Nat × Value)} {r : List Value} {α : Type} {z : α} {a : Nat} {v : Option Nat} {K : CS → Option α} (T : cOK X E cc RX8 nL ret z0 l0 z1 l1) (hin : X.2.1.2.2.2.1.name = "<init>") (h : pR s a [8] 809 v K = some z) (d : decode cc pc = .ok (.putfield 22, 3)) (kk : ∀ s', K s' = some z → cW X z1 l1 s' (pc + 3) lv r) : cW X z1 l1 s pc lv (va_rf v :: .ref a :: r) := by
  obtain ⟨h1, h2⟩ := if_of h
  obtain ⟨c, n, ha, hc⟩ := isW_of h1
  have k := kk _ h2
  simp only [List.mem_cons, List.not_mem_nil, or_false] at hc
  rcases hc with rfl
  · exact c_putF (k := 9) (ty := (.array .int)) (p := (2, 809)) T kX8 ha rfl uR_v (fun q hq => uR_o q hq) (fun b c n hb => uR_b b c n hb) rfl rfl rfl rfl q454 (fun _ h9 => h9) rfl hin rfl (by decide +kernel) (by cases v <;> rfl) (by cases v <;> rfl) d k
/-- OverFirst$State.wasAt -/
theorem cp_X8_25 {X : KC CS} {E : CE} {cc : ByteArray} {nL : Nat} {ret : Option FieldType} {z0 l0 z1 l1 : Nat} {s : CS} {pc : Nat} {lv : List (Nat × Value)} {r : List Value} {α : Type} {z : α} {a : Nat} {v : Nat} {K : CS → Option α} (T : cOK X E cc RX8 nL ret z0 l0 z1 l1) (hin : X.2.1.2.2.2.1.name = "<init>") (h : pR s a [8] 810 (some v) K = some z) (d : decode cc pc = .ok (.putfield 25, 3)) (kk : ∀ s', K s' = some z → cW X z1 l1 s' (pc + 3) lv r) : cW X z1 l1 s pc lv (.ref v :: .ref a :: r) := by
  obtain ⟨h1, h2⟩ := if_of h
  obtain ⟨c, n, ha, hc⟩ := isW_of h1
  have k := kk _ h2
  simp only [List.mem_cons, List.not_mem_nil, or_false] at hc
  rcases hc with rfl
  · exact c_putF (k := 10) (ty := (.array .int)) (p := (2, 810)) T kX8 ha rfl uR_v (fun q hq => uR_o q hq) (fun b c n hb => uR_b b c n hb) rfl rfl rfl rfl q456 (fun _ h9 => h9) rfl hin rfl (by decide +kernel) rfl rfl d k
/-- OverFirst$State.wasAt -/
theorem cp_X8_25z {X : KC CS} {E : CE} {cc : ByteArray} {nL : Nat} {ret : Option FieldType} {z0 l0 z1 l1 : Nat} {s : CS} {pc : Nat} {lv : List (Nat × Value)} {r : List Value} {α : Type} {z : α} {a : Nat}  {K : CS → Option α} (T : cOK X E cc RX8 nL ret z0 l0 z1 l1) (hin : X.2.1.2.2.2.1.name = "<init>") (h : pR s a [8] 810 none K = some z) (d : decode cc pc = .ok (.putfield 25, 3)) (kk : ∀ s', K s' = some z → cW X z1 l1 s' (pc + 3) lv r) : cW X z1 l1 s pc lv (.null :: .ref a :: r) := by
  obtain ⟨h1, h2⟩ := if_of h
  obtain ⟨c, n, ha, hc⟩ := isW_of h1
  have k := kk _ h2
  simp only [List.mem_cons, List.not_mem_nil, or_false] at hc
  rcases hc with rfl
  · exact c_putF (k := 10) (ty := (.array .int)) (p := (2, 810)) T kX8 ha rfl uR_v (fun q hq => uR_o q hq) (fun b c n hb => uR_b b c n hb) rfl rfl rfl rfl q456 (fun _ h9 => h9) rfl hin rfl (by decide +kernel) rfl rfl d k
/-- OverFirst$State.wasAt -/
theorem cp_X8_25o {X : KC CS} {E : CE} {cc : ByteArray} {nL : Nat} {ret : Option FieldType} {z0 l0 z1 l1 : Nat} {s : CS} {pc : Nat} {lv : List (Nat × Value)} {r : List Value} {α : Type} {z : α} {a : Nat} {v : Option Nat} {K : CS → Option α} (T : cOK X E cc RX8 nL ret z0 l0 z1 l1) (hin : X.2.1.2.2.2.1.name = "<init>") (h : pR s a [8] 810 v K = some z) (d : decode cc pc = .ok (.putfield 25, 3)) (kk : ∀ s', K s' = some z → cW X z1 l1 s' (pc + 3) lv r) : cW X z1 l1 s pc lv (va_rf v :: .ref a :: r) := by
  obtain ⟨h1, h2⟩ := if_of h
  obtain ⟨c, n, ha, hc⟩ := isW_of h1
  have k := kk _ h2
  simp only [List.mem_cons, List.not_mem_nil, or_false] at hc
  rcases hc with rfl
  · exact c_putF (k := 10) (ty := (.array .int)) (p := (2, 810)) T kX8 ha rfl uR_v (fun q hq => uR_o q hq) (fun b c n hb => uR_b b c n hb) rfl rfl rfl rfl q456 (fun _ h9 => h9) rfl hin rfl (by decide +kernel) (by cases v <;> rfl) (by cases v <;> rfl) d k
/-- OverFirst$State.wasWhen -/
theorem cp_X8_28 {X : KC CS} {E : CE} {cc : ByteArray} {nL : Nat} {ret : Option FieldType} {z0 l0 z1 l1 : Nat} {s : CS} {pc : Nat} {lv : List (Nat × Value)} {r : List Value} {α : Type} {z : α} {a : Nat} {v : Nat} {K : CS → Option α} (T : cOK X E cc RX8 nL ret z0 l0 z1 l1) (hin : X.2.1.2.2.2.1.name = "<init>") (h : pR s a [8] 811 (some v) K = some z) (d : decode cc pc = .ok (.putfield 28, 3)) (kk : ∀ s', K s' = some z → cW X z1 l1 s' (pc + 3) lv r) : cW X z1 l1 s pc lv (.ref v :: .ref a :: r) := by
  obtain ⟨h1, h2⟩ := if_of h
  obtain ⟨c, n, ha, hc⟩ := isW_of h1
  have k := kk _ h2
  simp only [List.mem_cons, List.not_mem_nil, or_false] at hc
  rcases hc with rfl
  · exact c_putF (k := 11) (ty := (.array .int)) (p := (2, 811)) T kX8 ha rfl uR_v (fun q hq => uR_o q hq) (fun b c n hb => uR_b b c n hb) rfl rfl rfl rfl q458 (fun _ h9 => h9) rfl hin rfl (by decide +kernel) rfl rfl d k
/-- OverFirst$State.wasWhen -/
theorem cp_X8_28z {X : KC CS} {E : CE} {cc : ByteArray} {nL : Nat} {ret : Option FieldType} {z0 l0 z1 l1 : Nat} {s : CS} {pc : Nat} {lv : List (Nat × Value)} {r : List Value} {α : Type} {z : α} {a : Nat}  {K : CS → Option α} (T : cOK X E cc RX8 nL ret z0 l0 z1 l1) (hin : X.2.1.2.2.2.1.name = "<init>") (h : pR s a [8] 811 none K = some z) (d : decode cc pc = .ok (.putfield 28, 3)) (kk : ∀ s', K s' = some z → cW X z1 l1 s' (pc + 3) lv r) : cW X z1 l1 s pc lv (.null :: .ref a :: r) := by
  obtain ⟨h1, h2⟩ := if_of h
  obtain ⟨c, n, ha, hc⟩ := isW_of h1
  have k := kk _ h2
  simp only [List.mem_cons, List.not_mem_nil, or_false] at hc
  rcases hc with rfl
  · exact c_putF (k := 11) (ty := (.array .int)) (p := (2, 811)) T kX8 ha rfl uR_v (fun q hq => uR_o q hq) (fun b c n hb => uR_b b c n hb) rfl rfl rfl rfl q458 (fun _ h9 => h9) rfl hin rfl (by decide +kernel) rfl rfl d k
/-- OverFirst$State.wasWhen -/
theorem cp_X8_28o {X : KC CS} {E : CE} {cc : ByteArray} {nL : Nat} {ret : Option FieldType} {z0 l0 z1 l1 : Nat} {s : CS} {pc : Nat} {lv : List (Nat × Value)} {r : List Value} {α : Type} {z : α} {a : Nat} {v : Option Nat} {K : CS → Option α} (T : cOK X E cc RX8 nL ret z0 l0 z1 l1) (hin : X.2.1.2.2.2.1.name = "<init>") (h : pR s a [8] 811 v K = some z) (d : decode cc pc = .ok (.putfield 28, 3)) (kk : ∀ s', K s' = some z → cW X z1 l1 s' (pc + 3) lv r) : cW X z1 l1 s pc lv (va_rf v :: .ref a :: r) := by
  obtain ⟨h1, h2⟩ := if_of h
  obtain ⟨c, n, ha, hc⟩ := isW_of h1
  have k := kk _ h2
  simp only [List.mem_cons, List.not_mem_nil, or_false] at hc
  rcases hc with rfl
  · exact c_putF (k := 11) (ty := (.array .int)) (p := (2, 811)) T kX8 ha rfl uR_v (fun q hq => uR_o q hq) (fun b c n hb => uR_b b c n hb) rfl rfl rfl rfl q458 (fun _ h9 => h9) rfl hin rfl (by decide +kernel) (by cases v <;> rfl) (by cases v <;> rfl) d k
/-- OverFirst$State.x -/
theorem cp_X8_31 {X : KC CS} {E : CE} {cc : ByteArray} {nL : Nat} {ret : Option FieldType} {z0 l0 z1 l1 : Nat} {s : CS} {pc : Nat} {lv : List (Nat × Value)} {r : List Value} {α : Type} {z : α} {a : Nat} {v : Int32} {K : CS → Option α} (T : cOK X E cc RX8 nL ret z0 l0 z1 l1) (h : pI s a [8] 800 v K = some z) (d : decode cc pc = .ok (.putfield 31, 3)) (kk : ∀ s', K s' = some z → cW X z1 l1 s' (pc + 3) lv r) : cW X z1 l1 s pc lv (.int v :: .ref a :: r) := by
  obtain ⟨h1, h2⟩ := if_of h
  obtain ⟨c, n, ha, hc⟩ := isW_of h1
  have k := kk _ h2
  simp only [List.mem_cons, List.not_mem_nil, or_false] at hc
  rcases hc with rfl
  · exact c_put (k := 0) (ty := .int) (p := (0, 800)) T kX8 ha rfl uI_v (fun q hq => uI_o q hq) (fun b c n hb => uI_b b c n hb) rfl rfl rfl rfl q436 (fun _ h9 => h9) rfl (by decide +kernel) rfl rfl d k
/-- OverFirst$State.y -/
theorem cp_X8_35 {X : KC CS} {E : CE} {cc : ByteArray} {nL : Nat} {ret : Option FieldType} {z0 l0 z1 l1 : Nat} {s : CS} {pc : Nat} {lv : List (Nat × Value)} {r : List Value} {α : Type} {z : α} {a : Nat} {v : Int32} {K : CS → Option α} (T : cOK X E cc RX8 nL ret z0 l0 z1 l1) (h : pI s a [8] 801 v K = some z) (d : decode cc pc = .ok (.putfield 35, 3)) (kk : ∀ s', K s' = some z → cW X z1 l1 s' (pc + 3) lv r) : cW X z1 l1 s pc lv (.int v :: .ref a :: r) := by
  obtain ⟨h1, h2⟩ := if_of h
  obtain ⟨c, n, ha, hc⟩ := isW_of h1
  have k := kk _ h2
  simp only [List.mem_cons, List.not_mem_nil, or_false] at hc
  rcases hc with rfl
  · exact c_put (k := 1) (ty := .int) (p := (0, 801)) T kX8 ha rfl uI_v (fun q hq => uI_o q hq) (fun b c n hb => uI_b b c n hb) rfl rfl rfl rfl q438 (fun _ h9 => h9) rfl (by decide +kernel) rfl rfl d k
/-- OverFirst$State.second -/
theorem cp_X8_38 {X : KC CS} {E : CE} {cc : ByteArray} {nL : Nat} {ret : Option FieldType} {z0 l0 z1 l1 : Nat} {s : CS} {pc : Nat} {lv : List (Nat × Value)} {r : List Value} {α : Type} {z : α} {a : Nat} {v : Int32} {K : CS → Option α} (T : cOK X E cc RX8 nL ret z0 l0 z1 l1) (h : pI s a [8] 802 v K = some z) (d : decode cc pc = .ok (.putfield 38, 3)) (kk : ∀ s', K s' = some z → cW X z1 l1 s' (pc + 3) lv r) : cW X z1 l1 s pc lv (.int v :: .ref a :: r) := by
  obtain ⟨h1, h2⟩ := if_of h
  obtain ⟨c, n, ha, hc⟩ := isW_of h1
  have k := kk _ h2
  simp only [List.mem_cons, List.not_mem_nil, or_false] at hc
  rcases hc with rfl
  · exact c_put (k := 2) (ty := .int) (p := (0, 802)) T kX8 ha rfl uI_v (fun q hq => uI_o q hq) (fun b c n hb => uI_b b c n hb) rfl rfl rfl rfl q440 (fun _ h9 => h9) rfl (by decide +kernel) rfl rfl d k
/-- OverFirst$State.runs -/
theorem cp_X8_41 {X : KC CS} {E : CE} {cc : ByteArray} {nL : Nat} {ret : Option FieldType} {z0 l0 z1 l1 : Nat} {s : CS} {pc : Nat} {lv : List (Nat × Value)} {r : List Value} {α : Type} {z : α} {a : Nat} {v : Int32} {K : CS → Option α} (T : cOK X E cc RX8 nL ret z0 l0 z1 l1) (h : pI s a [8] 803 v K = some z) (d : decode cc pc = .ok (.putfield 41, 3)) (kk : ∀ s', K s' = some z → cW X z1 l1 s' (pc + 3) lv r) : cW X z1 l1 s pc lv (.int v :: .ref a :: r) := by
  obtain ⟨h1, h2⟩ := if_of h
  obtain ⟨c, n, ha, hc⟩ := isW_of h1
  have k := kk _ h2
  simp only [List.mem_cons, List.not_mem_nil, or_false] at hc
  rcases hc with rfl
  · exact c_put (k := 3) (ty := .int) (p := (0, 803)) T kX8 ha rfl uI_v (fun q hq => uI_o q hq) (fun b c n hb => uI_b b c n hb) rfl rfl rfl rfl q442 (fun _ h9 => h9) rfl (by decide +kernel) rfl rfl d k
/-- OverFirst$State.tried -/
theorem cp_X8_48 {X : KC CS} {E : CE} {cc : ByteArray} {nL : Nat} {ret : Option FieldType} {z0 l0 z1 l1 : Nat} {s : CS} {pc : Nat} {lv : List (Nat × Value)} {r : List Value} {α : Type} {z : α} {a : Nat} {v : Int32} {K : CS → Option α} (T : cOK X E cc RX8 nL ret z0 l0 z1 l1) (h : pI s a [8] 804 v K = some z) (d : decode cc pc = .ok (.putfield 48, 3)) (kk : ∀ s', K s' = some z → cW X z1 l1 s' (pc + 3) lv r) : cW X z1 l1 s pc lv (.int v :: .ref a :: r) := by
  obtain ⟨h1, h2⟩ := if_of h
  obtain ⟨c, n, ha, hc⟩ := isW_of h1
  have k := kk _ h2
  simp only [List.mem_cons, List.not_mem_nil, or_false] at hc
  rcases hc with rfl
  · exact c_put (k := 4) (ty := .int) (p := (0, 804)) T kX8 ha rfl uI_v (fun q hq => uI_o q hq) (fun b c n hb => uI_b b c n hb) rfl rfl rfl rfl q444 (fun _ h9 => h9) rfl (by decide +kernel) rfl rfl d k
/-- OverFirst$State.was -/
theorem cp_X8_51 {X : KC CS} {E : CE} {cc : ByteArray} {nL : Nat} {ret : Option FieldType} {z0 l0 z1 l1 : Nat} {s : CS} {pc : Nat} {lv : List (Nat × Value)} {r : List Value} {α : Type} {z : α} {a : Nat} {v : Int32} {K : CS → Option α} (T : cOK X E cc RX8 nL ret z0 l0 z1 l1) (h : pI s a [8] 805 v K = some z) (d : decode cc pc = .ok (.putfield 51, 3)) (kk : ∀ s', K s' = some z → cW X z1 l1 s' (pc + 3) lv r) : cW X z1 l1 s pc lv (.int v :: .ref a :: r) := by
  obtain ⟨h1, h2⟩ := if_of h
  obtain ⟨c, n, ha, hc⟩ := isW_of h1
  have k := kk _ h2
  simp only [List.mem_cons, List.not_mem_nil, or_false] at hc
  rcases hc with rfl
  · exact c_put (k := 5) (ty := .int) (p := (0, 805)) T kX8 ha rfl uI_v (fun q hq => uI_o q hq) (fun b c n hb => uI_b b c n hb) rfl rfl rfl rfl q446 (fun _ h9 => h9) rfl (by decide +kernel) rfl rfl d k
/-- OverFirstModel.tape -/
theorem cp_X9_14 {X : KC CS} {E : CE} {cc : ByteArray} {nL : Nat} {ret : Option FieldType} {z0 l0 z1 l1 : Nat} {s : CS} {pc : Nat} {lv : List (Nat × Value)} {r : List Value} {α : Type} {z : α} {a : Nat} {v : Nat} {K : CS → Option α} (T : cOK X E cc RX9 nL ret z0 l0 z1 l1) (hin : X.2.1.2.2.2.1.name = "<init>") (h : pR s a [9] 901 (some v) K = some z) (d : decode cc pc = .ok (.putfield 14, 3)) (kk : ∀ s', K s' = some z → cW X z1 l1 s' (pc + 3) lv r) : cW X z1 l1 s pc lv (.ref v :: .ref a :: r) := by
  obtain ⟨h1, h2⟩ := if_of h
  obtain ⟨c, n, ha, hc⟩ := isW_of h1
  have k := kk _ h2
  simp only [List.mem_cons, List.not_mem_nil, or_false] at hc
  rcases hc with rfl
  · exact c_putF (k := 1) (ty := (.array .int)) (p := (2, 901)) T kX9 ha rfl uR_v (fun q hq => uR_o q hq) (fun b c n hb => uR_b b c n hb) rfl rfl rfl rfl q1669 (fun _ h9 => h9) rfl hin rfl (by decide +kernel) rfl rfl d k
/-- OverFirstModel.tape -/
theorem cp_X9_14z {X : KC CS} {E : CE} {cc : ByteArray} {nL : Nat} {ret : Option FieldType} {z0 l0 z1 l1 : Nat} {s : CS} {pc : Nat} {lv : List (Nat × Value)} {r : List Value} {α : Type} {z : α} {a : Nat}  {K : CS → Option α} (T : cOK X E cc RX9 nL ret z0 l0 z1 l1) (hin : X.2.1.2.2.2.1.name = "<init>") (h : pR s a [9] 901 none K = some z) (d : decode cc pc = .ok (.putfield 14, 3)) (kk : ∀ s', K s' = some z → cW X z1 l1 s' (pc + 3) lv r) : cW X z1 l1 s pc lv (.null :: .ref a :: r) := by
  obtain ⟨h1, h2⟩ := if_of h
  obtain ⟨c, n, ha, hc⟩ := isW_of h1
  have k := kk _ h2
  simp only [List.mem_cons, List.not_mem_nil, or_false] at hc
  rcases hc with rfl
  · exact c_putF (k := 1) (ty := (.array .int)) (p := (2, 901)) T kX9 ha rfl uR_v (fun q hq => uR_o q hq) (fun b c n hb => uR_b b c n hb) rfl rfl rfl rfl q1669 (fun _ h9 => h9) rfl hin rfl (by decide +kernel) rfl rfl d k
/-- OverFirstModel.tape -/
theorem cp_X9_14o {X : KC CS} {E : CE} {cc : ByteArray} {nL : Nat} {ret : Option FieldType} {z0 l0 z1 l1 : Nat} {s : CS} {pc : Nat} {lv : List (Nat × Value)} {r : List Value} {α : Type} {z : α} {a : Nat} {v : Option Nat} {K : CS → Option α} (T : cOK X E cc RX9 nL ret z0 l0 z1 l1) (hin : X.2.1.2.2.2.1.name = "<init>") (h : pR s a [9] 901 v K = some z) (d : decode cc pc = .ok (.putfield 14, 3)) (kk : ∀ s', K s' = some z → cW X z1 l1 s' (pc + 3) lv r) : cW X z1 l1 s pc lv (va_rf v :: .ref a :: r) := by
  obtain ⟨h1, h2⟩ := if_of h
  obtain ⟨c, n, ha, hc⟩ := isW_of h1
  have k := kk _ h2
  simp only [List.mem_cons, List.not_mem_nil, or_false] at hc
  rcases hc with rfl
  · exact c_putF (k := 1) (ty := (.array .int)) (p := (2, 901)) T kX9 ha rfl uR_v (fun q hq => uR_o q hq) (fun b c n hb => uR_b b c n hb) rfl rfl rfl rfl q1669 (fun _ h9 => h9) rfl hin rfl (by decide +kernel) (by cases v <;> rfl) (by cases v <;> rfl) d k
/-- OverFirstModel.sort -/
theorem cp_X9_24 {X : KC CS} {E : CE} {cc : ByteArray} {nL : Nat} {ret : Option FieldType} {z0 l0 z1 l1 : Nat} {s : CS} {pc : Nat} {lv : List (Nat × Value)} {r : List Value} {α : Type} {z : α} {a : Nat} {v : Nat} {K : CS → Option α} (T : cOK X E cc RX9 nL ret z0 l0 z1 l1) (hin : X.2.1.2.2.2.1.name = "<init>") (h : pR s a [9] 904 (some v) K = some z) (d : decode cc pc = .ok (.putfield 24, 3)) (kk : ∀ s', K s' = some z → cW X z1 l1 s' (pc + 3) lv r) : cW X z1 l1 s pc lv (.ref v :: .ref a :: r) := by
  obtain ⟨h1, h2⟩ := if_of h
  obtain ⟨c, n, ha, hc⟩ := isW_of h1
  have k := kk _ h2
  simp only [List.mem_cons, List.not_mem_nil, or_false] at hc
  rcases hc with rfl
  · exact c_putF (k := 4) (ty := (.array .int)) (p := (2, 904)) T kX9 ha rfl uR_v (fun q hq => uR_o q hq) (fun b c n hb => uR_b b c n hb) rfl rfl rfl rfl q1672 (fun _ h9 => h9) rfl hin rfl (by decide +kernel) rfl rfl d k
/-- OverFirstModel.sort -/
theorem cp_X9_24z {X : KC CS} {E : CE} {cc : ByteArray} {nL : Nat} {ret : Option FieldType} {z0 l0 z1 l1 : Nat} {s : CS} {pc : Nat} {lv : List (Nat × Value)} {r : List Value} {α : Type} {z : α} {a : Nat}  {K : CS → Option α} (T : cOK X E cc RX9 nL ret z0 l0 z1 l1) (hin : X.2.1.2.2.2.1.name = "<init>") (h : pR s a [9] 904 none K = some z) (d : decode cc pc = .ok (.putfield 24, 3)) (kk : ∀ s', K s' = some z → cW X z1 l1 s' (pc + 3) lv r) : cW X z1 l1 s pc lv (.null :: .ref a :: r) := by
  obtain ⟨h1, h2⟩ := if_of h
  obtain ⟨c, n, ha, hc⟩ := isW_of h1
  have k := kk _ h2
  simp only [List.mem_cons, List.not_mem_nil, or_false] at hc
  rcases hc with rfl
  · exact c_putF (k := 4) (ty := (.array .int)) (p := (2, 904)) T kX9 ha rfl uR_v (fun q hq => uR_o q hq) (fun b c n hb => uR_b b c n hb) rfl rfl rfl rfl q1672 (fun _ h9 => h9) rfl hin rfl (by decide +kernel) rfl rfl d k
/-- OverFirstModel.sort -/
theorem cp_X9_24o {X : KC CS} {E : CE} {cc : ByteArray} {nL : Nat} {ret : Option FieldType} {z0 l0 z1 l1 : Nat} {s : CS} {pc : Nat} {lv : List (Nat × Value)} {r : List Value} {α : Type} {z : α} {a : Nat} {v : Option Nat} {K : CS → Option α} (T : cOK X E cc RX9 nL ret z0 l0 z1 l1) (hin : X.2.1.2.2.2.1.name = "<init>") (h : pR s a [9] 904 v K = some z) (d : decode cc pc = .ok (.putfield 24, 3)) (kk : ∀ s', K s' = some z → cW X z1 l1 s' (pc + 3) lv r) : cW X z1 l1 s pc lv (va_rf v :: .ref a :: r) := by
  obtain ⟨h1, h2⟩ := if_of h
  obtain ⟨c, n, ha, hc⟩ := isW_of h1
  have k := kk _ h2
  simp only [List.mem_cons, List.not_mem_nil, or_false] at hc
  rcases hc with rfl
  · exact c_putF (k := 4) (ty := (.array .int)) (p := (2, 904)) T kX9 ha rfl uR_v (fun q hq => uR_o q hq) (fun b c n hb => uR_b b c n hb) rfl rfl rfl rfl q1672 (fun _ h9 => h9) rfl hin rfl (by decide +kernel) (by cases v <;> rfl) (by cases v <;> rfl) d k
/-- OverFirstModel.place -/
theorem cp_X9_27 {X : KC CS} {E : CE} {cc : ByteArray} {nL : Nat} {ret : Option FieldType} {z0 l0 z1 l1 : Nat} {s : CS} {pc : Nat} {lv : List (Nat × Value)} {r : List Value} {α : Type} {z : α} {a : Nat} {v : Nat} {K : CS → Option α} (T : cOK X E cc RX9 nL ret z0 l0 z1 l1) (hin : X.2.1.2.2.2.1.name = "<init>") (h : pR s a [9] 905 (some v) K = some z) (d : decode cc pc = .ok (.putfield 27, 3)) (kk : ∀ s', K s' = some z → cW X z1 l1 s' (pc + 3) lv r) : cW X z1 l1 s pc lv (.ref v :: .ref a :: r) := by
  obtain ⟨h1, h2⟩ := if_of h
  obtain ⟨c, n, ha, hc⟩ := isW_of h1
  have k := kk _ h2
  simp only [List.mem_cons, List.not_mem_nil, or_false] at hc
  rcases hc with rfl
  · exact c_putF (k := 5) (ty := (.array .int)) (p := (2, 905)) T kX9 ha rfl uR_v (fun q hq => uR_o q hq) (fun b c n hb => uR_b b c n hb) rfl rfl rfl rfl q1673 (fun _ h9 => h9) rfl hin rfl (by decide +kernel) rfl rfl d k
/-- OverFirstModel.place -/
theorem cp_X9_27z {X : KC CS} {E : CE} {cc : ByteArray} {nL : Nat} {ret : Option FieldType} {z0 l0 z1 l1 : Nat} {s : CS} {pc : Nat} {lv : List (Nat × Value)} {r : List Value} {α : Type} {z : α} {a : Nat}  {K : CS → Option α} (T : cOK X E cc RX9 nL ret z0 l0 z1 l1) (hin : X.2.1.2.2.2.1.name = "<init>") (h : pR s a [9] 905 none K = some z) (d : decode cc pc = .ok (.putfield 27, 3)) (kk : ∀ s', K s' = some z → cW X z1 l1 s' (pc + 3) lv r) : cW X z1 l1 s pc lv (.null :: .ref a :: r) := by
  obtain ⟨h1, h2⟩ := if_of h
  obtain ⟨c, n, ha, hc⟩ := isW_of h1
  have k := kk _ h2
  simp only [List.mem_cons, List.not_mem_nil, or_false] at hc
  rcases hc with rfl
  · exact c_putF (k := 5) (ty := (.array .int)) (p := (2, 905)) T kX9 ha rfl uR_v (fun q hq => uR_o q hq) (fun b c n hb => uR_b b c n hb) rfl rfl rfl rfl q1673 (fun _ h9 => h9) rfl hin rfl (by decide +kernel) rfl rfl d k
/-- OverFirstModel.place -/
theorem cp_X9_27o {X : KC CS} {E : CE} {cc : ByteArray} {nL : Nat} {ret : Option FieldType} {z0 l0 z1 l1 : Nat} {s : CS} {pc : Nat} {lv : List (Nat × Value)} {r : List Value} {α : Type} {z : α} {a : Nat} {v : Option Nat} {K : CS → Option α} (T : cOK X E cc RX9 nL ret z0 l0 z1 l1) (hin : X.2.1.2.2.2.1.name = "<init>") (h : pR s a [9] 905 v K = some z) (d : decode cc pc = .ok (.putfield 27, 3)) (kk : ∀ s', K s' = some z → cW X z1 l1 s' (pc + 3) lv r) : cW X z1 l1 s pc lv (va_rf v :: .ref a :: r) := by
  obtain ⟨h1, h2⟩ := if_of h
  obtain ⟨c, n, ha, hc⟩ := isW_of h1
  have k := kk _ h2
  simp only [List.mem_cons, List.not_mem_nil, or_false] at hc
  rcases hc with rfl
  · exact c_putF (k := 5) (ty := (.array .int)) (p := (2, 905)) T kX9 ha rfl uR_v (fun q hq => uR_o q hq) (fun b c n hb => uR_b b c n hb) rfl rfl rfl rfl q1673 (fun _ h9 => h9) rfl hin rfl (by decide +kernel) (by cases v <;> rfl) (by cases v <;> rfl) d k
/-- OverFirstModel.value -/
theorem cp_X9_30 {X : KC CS} {E : CE} {cc : ByteArray} {nL : Nat} {ret : Option FieldType} {z0 l0 z1 l1 : Nat} {s : CS} {pc : Nat} {lv : List (Nat × Value)} {r : List Value} {α : Type} {z : α} {a : Nat} {v : Nat} {K : CS → Option α} (T : cOK X E cc RX9 nL ret z0 l0 z1 l1) (hin : X.2.1.2.2.2.1.name = "<init>") (h : pR s a [9] 906 (some v) K = some z) (d : decode cc pc = .ok (.putfield 30, 3)) (kk : ∀ s', K s' = some z → cW X z1 l1 s' (pc + 3) lv r) : cW X z1 l1 s pc lv (.ref v :: .ref a :: r) := by
  obtain ⟨h1, h2⟩ := if_of h
  obtain ⟨c, n, ha, hc⟩ := isW_of h1
  have k := kk _ h2
  simp only [List.mem_cons, List.not_mem_nil, or_false] at hc
  rcases hc with rfl
  · exact c_putF (k := 6) (ty := (.array .long)) (p := (2, 906)) T kX9 ha rfl uR_v (fun q hq => uR_o q hq) (fun b c n hb => uR_b b c n hb) rfl rfl rfl rfl q1674 (fun _ h9 => h9) rfl hin rfl (by decide +kernel) rfl rfl d k
/-- OverFirstModel.value -/
theorem cp_X9_30z {X : KC CS} {E : CE} {cc : ByteArray} {nL : Nat} {ret : Option FieldType} {z0 l0 z1 l1 : Nat} {s : CS} {pc : Nat} {lv : List (Nat × Value)} {r : List Value} {α : Type} {z : α} {a : Nat}  {K : CS → Option α} (T : cOK X E cc RX9 nL ret z0 l0 z1 l1) (hin : X.2.1.2.2.2.1.name = "<init>") (h : pR s a [9] 906 none K = some z) (d : decode cc pc = .ok (.putfield 30, 3)) (kk : ∀ s', K s' = some z → cW X z1 l1 s' (pc + 3) lv r) : cW X z1 l1 s pc lv (.null :: .ref a :: r) := by
  obtain ⟨h1, h2⟩ := if_of h
  obtain ⟨c, n, ha, hc⟩ := isW_of h1
  have k := kk _ h2
  simp only [List.mem_cons, List.not_mem_nil, or_false] at hc
  rcases hc with rfl
  · exact c_putF (k := 6) (ty := (.array .long)) (p := (2, 906)) T kX9 ha rfl uR_v (fun q hq => uR_o q hq) (fun b c n hb => uR_b b c n hb) rfl rfl rfl rfl q1674 (fun _ h9 => h9) rfl hin rfl (by decide +kernel) rfl rfl d k
/-- OverFirstModel.value -/
theorem cp_X9_30o {X : KC CS} {E : CE} {cc : ByteArray} {nL : Nat} {ret : Option FieldType} {z0 l0 z1 l1 : Nat} {s : CS} {pc : Nat} {lv : List (Nat × Value)} {r : List Value} {α : Type} {z : α} {a : Nat} {v : Option Nat} {K : CS → Option α} (T : cOK X E cc RX9 nL ret z0 l0 z1 l1) (hin : X.2.1.2.2.2.1.name = "<init>") (h : pR s a [9] 906 v K = some z) (d : decode cc pc = .ok (.putfield 30, 3)) (kk : ∀ s', K s' = some z → cW X z1 l1 s' (pc + 3) lv r) : cW X z1 l1 s pc lv (va_rf v :: .ref a :: r) := by
  obtain ⟨h1, h2⟩ := if_of h
  obtain ⟨c, n, ha, hc⟩ := isW_of h1
  have k := kk _ h2
  simp only [List.mem_cons, List.not_mem_nil, or_false] at hc
  rcases hc with rfl
  · exact c_putF (k := 6) (ty := (.array .long)) (p := (2, 906)) T kX9 ha rfl uR_v (fun q hq => uR_o q hq) (fun b c n hb => uR_b b c n hb) rfl rfl rfl rfl q1674 (fun _ h9 => h9) rfl hin rfl (by decide +kernel) (by cases v <;> rfl) (by cases v <;> rfl) d k
/-- OverFirstModel.words -/
theorem cp_X9_78 {X : KC CS} {E : CE} {cc : ByteArray} {nL : Nat} {ret : Option FieldType} {z0 l0 z1 l1 : Nat} {s : CS} {pc : Nat} {lv : List (Nat × Value)} {r : List Value} {α : Type} {z : α} {a : Nat} {v : Nat} {K : CS → Option α} (T : cOK X E cc RX9 nL ret z0 l0 z1 l1) (hin : X.2.1.2.2.2.1.name = "<init>") (h : pR s a [9] 909 (some v) K = some z) (d : decode cc pc = .ok (.putfield 78, 3)) (kk : ∀ s', K s' = some z → cW X z1 l1 s' (pc + 3) lv r) : cW X z1 l1 s pc lv (.ref v :: .ref a :: r) := by
  obtain ⟨h1, h2⟩ := if_of h
  obtain ⟨c, n, ha, hc⟩ := isW_of h1
  have k := kk _ h2
  simp only [List.mem_cons, List.not_mem_nil, or_false] at hc
  rcases hc with rfl
  · exact c_putF (k := 9) (ty := (.array .long)) (p := (2, 909)) T kX9 ha rfl uR_v (fun q hq => uR_o q hq) (fun b c n hb => uR_b b c n hb) rfl rfl rfl rfl q1677 (fun _ h9 => h9) rfl hin rfl (by decide +kernel) rfl rfl d k
/-- OverFirstModel.words -/
theorem cp_X9_78z {X : KC CS} {E : CE} {cc : ByteArray} {nL : Nat} {ret : Option FieldType} {z0 l0 z1 l1 : Nat} {s : CS} {pc : Nat} {lv : List (Nat × Value)} {r : List Value} {α : Type} {z : α} {a : Nat}  {K : CS → Option α} (T : cOK X E cc RX9 nL ret z0 l0 z1 l1) (hin : X.2.1.2.2.2.1.name = "<init>") (h : pR s a [9] 909 none K = some z) (d : decode cc pc = .ok (.putfield 78, 3)) (kk : ∀ s', K s' = some z → cW X z1 l1 s' (pc + 3) lv r) : cW X z1 l1 s pc lv (.null :: .ref a :: r) := by
  obtain ⟨h1, h2⟩ := if_of h
  obtain ⟨c, n, ha, hc⟩ := isW_of h1
  have k := kk _ h2
  simp only [List.mem_cons, List.not_mem_nil, or_false] at hc
  rcases hc with rfl
  · exact c_putF (k := 9) (ty := (.array .long)) (p := (2, 909)) T kX9 ha rfl uR_v (fun q hq => uR_o q hq) (fun b c n hb => uR_b b c n hb) rfl rfl rfl rfl q1677 (fun _ h9 => h9) rfl hin rfl (by decide +kernel) rfl rfl d k
/-- OverFirstModel.words -/
theorem cp_X9_78o {X : KC CS} {E : CE} {cc : ByteArray} {nL : Nat} {ret : Option FieldType} {z0 l0 z1 l1 : Nat} {s : CS} {pc : Nat} {lv : List (Nat × Value)} {r : List Value} {α : Type} {z : α} {a : Nat} {v : Option Nat} {K : CS → Option α} (T : cOK X E cc RX9 nL ret z0 l0 z1 l1) (hin : X.2.1.2.2.2.1.name = "<init>") (h : pR s a [9] 909 v K = some z) (d : decode cc pc = .ok (.putfield 78, 3)) (kk : ∀ s', K s' = some z → cW X z1 l1 s' (pc + 3) lv r) : cW X z1 l1 s pc lv (va_rf v :: .ref a :: r) := by
  obtain ⟨h1, h2⟩ := if_of h
  obtain ⟨c, n, ha, hc⟩ := isW_of h1
  have k := kk _ h2
  simp only [List.mem_cons, List.not_mem_nil, or_false] at hc
  rcases hc with rfl
  · exact c_putF (k := 9) (ty := (.array .long)) (p := (2, 909)) T kX9 ha rfl uR_v (fun q hq => uR_o q hq) (fun b c n hb => uR_b b c n hb) rfl rfl rfl rfl q1677 (fun _ h9 => h9) rfl hin rfl (by decide +kernel) (by cases v <;> rfl) (by cases v <;> rfl) d k
/-- OverFirstModel.towns -/
theorem cp_X9_81 {X : KC CS} {E : CE} {cc : ByteArray} {nL : Nat} {ret : Option FieldType} {z0 l0 z1 l1 : Nat} {s : CS} {pc : Nat} {lv : List (Nat × Value)} {r : List Value} {α : Type} {z : α} {a : Nat} {v : Nat} {K : CS → Option α} (T : cOK X E cc RX9 nL ret z0 l0 z1 l1) (hin : X.2.1.2.2.2.1.name = "<init>") (h : pR s a [9] 910 (some v) K = some z) (d : decode cc pc = .ok (.putfield 81, 3)) (kk : ∀ s', K s' = some z → cW X z1 l1 s' (pc + 3) lv r) : cW X z1 l1 s pc lv (.ref v :: .ref a :: r) := by
  obtain ⟨h1, h2⟩ := if_of h
  obtain ⟨c, n, ha, hc⟩ := isW_of h1
  have k := kk _ h2
  simp only [List.mem_cons, List.not_mem_nil, or_false] at hc
  rcases hc with rfl
  · exact c_putF (k := 10) (ty := (.array .int)) (p := (2, 910)) T kX9 ha rfl uR_v (fun q hq => uR_o q hq) (fun b c n hb => uR_b b c n hb) rfl rfl rfl rfl q1678 (fun _ h9 => h9) rfl hin rfl (by decide +kernel) rfl rfl d k
/-- OverFirstModel.towns -/
theorem cp_X9_81z {X : KC CS} {E : CE} {cc : ByteArray} {nL : Nat} {ret : Option FieldType} {z0 l0 z1 l1 : Nat} {s : CS} {pc : Nat} {lv : List (Nat × Value)} {r : List Value} {α : Type} {z : α} {a : Nat}  {K : CS → Option α} (T : cOK X E cc RX9 nL ret z0 l0 z1 l1) (hin : X.2.1.2.2.2.1.name = "<init>") (h : pR s a [9] 910 none K = some z) (d : decode cc pc = .ok (.putfield 81, 3)) (kk : ∀ s', K s' = some z → cW X z1 l1 s' (pc + 3) lv r) : cW X z1 l1 s pc lv (.null :: .ref a :: r) := by
  obtain ⟨h1, h2⟩ := if_of h
  obtain ⟨c, n, ha, hc⟩ := isW_of h1
  have k := kk _ h2
  simp only [List.mem_cons, List.not_mem_nil, or_false] at hc
  rcases hc with rfl
  · exact c_putF (k := 10) (ty := (.array .int)) (p := (2, 910)) T kX9 ha rfl uR_v (fun q hq => uR_o q hq) (fun b c n hb => uR_b b c n hb) rfl rfl rfl rfl q1678 (fun _ h9 => h9) rfl hin rfl (by decide +kernel) rfl rfl d k
/-- OverFirstModel.towns -/
theorem cp_X9_81o {X : KC CS} {E : CE} {cc : ByteArray} {nL : Nat} {ret : Option FieldType} {z0 l0 z1 l1 : Nat} {s : CS} {pc : Nat} {lv : List (Nat × Value)} {r : List Value} {α : Type} {z : α} {a : Nat} {v : Option Nat} {K : CS → Option α} (T : cOK X E cc RX9 nL ret z0 l0 z1 l1) (hin : X.2.1.2.2.2.1.name = "<init>") (h : pR s a [9] 910 v K = some z) (d : decode cc pc = .ok (.putfield 81, 3)) (kk : ∀ s', K s' = some z → cW X z1 l1 s' (pc + 3) lv r) : cW X z1 l1 s pc lv (va_rf v :: .ref a :: r) := by
  obtain ⟨h1, h2⟩ := if_of h
  obtain ⟨c, n, ha, hc⟩ := isW_of h1
  have k := kk _ h2
  simp only [List.mem_cons, List.not_mem_nil, or_false] at hc
  rcases hc with rfl
  · exact c_putF (k := 10) (ty := (.array .int)) (p := (2, 910)) T kX9 ha rfl uR_v (fun q hq => uR_o q hq) (fun b c n hb => uR_b b c n hb) rfl rfl rfl rfl q1678 (fun _ h9 => h9) rfl hin rfl (by decide +kernel) (by cases v <;> rfl) (by cases v <;> rfl) d k
/-- OverFirstModel.op -/
theorem cp_X9_84 {X : KC CS} {E : CE} {cc : ByteArray} {nL : Nat} {ret : Option FieldType} {z0 l0 z1 l1 : Nat} {s : CS} {pc : Nat} {lv : List (Nat × Value)} {r : List Value} {α : Type} {z : α} {a : Nat} {v : Nat} {K : CS → Option α} (T : cOK X E cc RX9 nL ret z0 l0 z1 l1) (hin : X.2.1.2.2.2.1.name = "<init>") (h : pR s a [9] 911 (some v) K = some z) (d : decode cc pc = .ok (.putfield 84, 3)) (kk : ∀ s', K s' = some z → cW X z1 l1 s' (pc + 3) lv r) : cW X z1 l1 s pc lv (.ref v :: .ref a :: r) := by
  obtain ⟨h1, h2⟩ := if_of h
  obtain ⟨c, n, ha, hc⟩ := isW_of h1
  have k := kk _ h2
  simp only [List.mem_cons, List.not_mem_nil, or_false] at hc
  rcases hc with rfl
  · exact c_putF (k := 11) (ty := (.array .int)) (p := (2, 911)) T kX9 ha rfl uR_v (fun q hq => uR_o q hq) (fun b c n hb => uR_b b c n hb) rfl rfl rfl rfl q1679 (fun _ h9 => h9) rfl hin rfl (by decide +kernel) rfl rfl d k
/-- OverFirstModel.op -/
theorem cp_X9_84z {X : KC CS} {E : CE} {cc : ByteArray} {nL : Nat} {ret : Option FieldType} {z0 l0 z1 l1 : Nat} {s : CS} {pc : Nat} {lv : List (Nat × Value)} {r : List Value} {α : Type} {z : α} {a : Nat}  {K : CS → Option α} (T : cOK X E cc RX9 nL ret z0 l0 z1 l1) (hin : X.2.1.2.2.2.1.name = "<init>") (h : pR s a [9] 911 none K = some z) (d : decode cc pc = .ok (.putfield 84, 3)) (kk : ∀ s', K s' = some z → cW X z1 l1 s' (pc + 3) lv r) : cW X z1 l1 s pc lv (.null :: .ref a :: r) := by
  obtain ⟨h1, h2⟩ := if_of h
  obtain ⟨c, n, ha, hc⟩ := isW_of h1
  have k := kk _ h2
  simp only [List.mem_cons, List.not_mem_nil, or_false] at hc
  rcases hc with rfl
  · exact c_putF (k := 11) (ty := (.array .int)) (p := (2, 911)) T kX9 ha rfl uR_v (fun q hq => uR_o q hq) (fun b c n hb => uR_b b c n hb) rfl rfl rfl rfl q1679 (fun _ h9 => h9) rfl hin rfl (by decide +kernel) rfl rfl d k
/-- OverFirstModel.op -/
theorem cp_X9_84o {X : KC CS} {E : CE} {cc : ByteArray} {nL : Nat} {ret : Option FieldType} {z0 l0 z1 l1 : Nat} {s : CS} {pc : Nat} {lv : List (Nat × Value)} {r : List Value} {α : Type} {z : α} {a : Nat} {v : Option Nat} {K : CS → Option α} (T : cOK X E cc RX9 nL ret z0 l0 z1 l1) (hin : X.2.1.2.2.2.1.name = "<init>") (h : pR s a [9] 911 v K = some z) (d : decode cc pc = .ok (.putfield 84, 3)) (kk : ∀ s', K s' = some z → cW X z1 l1 s' (pc + 3) lv r) : cW X z1 l1 s pc lv (va_rf v :: .ref a :: r) := by
  obtain ⟨h1, h2⟩ := if_of h
  obtain ⟨c, n, ha, hc⟩ := isW_of h1
  have k := kk _ h2
  simp only [List.mem_cons, List.not_mem_nil, or_false] at hc
  rcases hc with rfl
  · exact c_putF (k := 11) (ty := (.array .int)) (p := (2, 911)) T kX9 ha rfl uR_v (fun q hq => uR_o q hq) (fun b c n hb => uR_b b c n hb) rfl rfl rfl rfl q1679 (fun _ h9 => h9) rfl hin rfl (by decide +kernel) (by cases v <;> rfl) (by cases v <;> rfl) d k
/-- OverFirstModel.arg -/
theorem cp_X9_87 {X : KC CS} {E : CE} {cc : ByteArray} {nL : Nat} {ret : Option FieldType} {z0 l0 z1 l1 : Nat} {s : CS} {pc : Nat} {lv : List (Nat × Value)} {r : List Value} {α : Type} {z : α} {a : Nat} {v : Nat} {K : CS → Option α} (T : cOK X E cc RX9 nL ret z0 l0 z1 l1) (hin : X.2.1.2.2.2.1.name = "<init>") (h : pR s a [9] 912 (some v) K = some z) (d : decode cc pc = .ok (.putfield 87, 3)) (kk : ∀ s', K s' = some z → cW X z1 l1 s' (pc + 3) lv r) : cW X z1 l1 s pc lv (.ref v :: .ref a :: r) := by
  obtain ⟨h1, h2⟩ := if_of h
  obtain ⟨c, n, ha, hc⟩ := isW_of h1
  have k := kk _ h2
  simp only [List.mem_cons, List.not_mem_nil, or_false] at hc
  rcases hc with rfl
  · exact c_putF (k := 12) (ty := (.array .int)) (p := (2, 912)) T kX9 ha rfl uR_v (fun q hq => uR_o q hq) (fun b c n hb => uR_b b c n hb) rfl rfl rfl rfl q1680 (fun _ h9 => h9) rfl hin rfl (by decide +kernel) rfl rfl d k
/-- OverFirstModel.arg -/
theorem cp_X9_87z {X : KC CS} {E : CE} {cc : ByteArray} {nL : Nat} {ret : Option FieldType} {z0 l0 z1 l1 : Nat} {s : CS} {pc : Nat} {lv : List (Nat × Value)} {r : List Value} {α : Type} {z : α} {a : Nat}  {K : CS → Option α} (T : cOK X E cc RX9 nL ret z0 l0 z1 l1) (hin : X.2.1.2.2.2.1.name = "<init>") (h : pR s a [9] 912 none K = some z) (d : decode cc pc = .ok (.putfield 87, 3)) (kk : ∀ s', K s' = some z → cW X z1 l1 s' (pc + 3) lv r) : cW X z1 l1 s pc lv (.null :: .ref a :: r) := by
  obtain ⟨h1, h2⟩ := if_of h
  obtain ⟨c, n, ha, hc⟩ := isW_of h1
  have k := kk _ h2
  simp only [List.mem_cons, List.not_mem_nil, or_false] at hc
  rcases hc with rfl
  · exact c_putF (k := 12) (ty := (.array .int)) (p := (2, 912)) T kX9 ha rfl uR_v (fun q hq => uR_o q hq) (fun b c n hb => uR_b b c n hb) rfl rfl rfl rfl q1680 (fun _ h9 => h9) rfl hin rfl (by decide +kernel) rfl rfl d k
/-- OverFirstModel.arg -/
theorem cp_X9_87o {X : KC CS} {E : CE} {cc : ByteArray} {nL : Nat} {ret : Option FieldType} {z0 l0 z1 l1 : Nat} {s : CS} {pc : Nat} {lv : List (Nat × Value)} {r : List Value} {α : Type} {z : α} {a : Nat} {v : Option Nat} {K : CS → Option α} (T : cOK X E cc RX9 nL ret z0 l0 z1 l1) (hin : X.2.1.2.2.2.1.name = "<init>") (h : pR s a [9] 912 v K = some z) (d : decode cc pc = .ok (.putfield 87, 3)) (kk : ∀ s', K s' = some z → cW X z1 l1 s' (pc + 3) lv r) : cW X z1 l1 s pc lv (va_rf v :: .ref a :: r) := by
  obtain ⟨h1, h2⟩ := if_of h
  obtain ⟨c, n, ha, hc⟩ := isW_of h1
  have k := kk _ h2
  simp only [List.mem_cons, List.not_mem_nil, or_false] at hc
  rcases hc with rfl
  · exact c_putF (k := 12) (ty := (.array .int)) (p := (2, 912)) T kX9 ha rfl uR_v (fun q hq => uR_o q hq) (fun b c n hb => uR_b b c n hb) rfl rfl rfl rfl q1680 (fun _ h9 => h9) rfl hin rfl (by decide +kernel) (by cases v <;> rfl) (by cases v <;> rfl) d k
/-- OverFirstModel.names -/
theorem cp_X9_90 {X : KC CS} {E : CE} {cc : ByteArray} {nL : Nat} {ret : Option FieldType} {z0 l0 z1 l1 : Nat} {s : CS} {pc : Nat} {lv : List (Nat × Value)} {r : List Value} {α : Type} {z : α} {a : Nat} {v : Nat} {K : CS → Option α} (T : cOK X E cc RX9 nL ret z0 l0 z1 l1) (hin : X.2.1.2.2.2.1.name = "<init>") (h : pR s a [9] 914 (some v) K = some z) (d : decode cc pc = .ok (.putfield 90, 3)) (kk : ∀ s', K s' = some z → cW X z1 l1 s' (pc + 3) lv r) : cW X z1 l1 s pc lv (.ref v :: .ref a :: r) := by
  obtain ⟨h1, h2⟩ := if_of h
  obtain ⟨c, n, ha, hc⟩ := isW_of h1
  have k := kk _ h2
  simp only [List.mem_cons, List.not_mem_nil, or_false] at hc
  rcases hc with rfl
  · exact c_putF (k := 14) (ty := (.array .long)) (p := (2, 914)) T kX9 ha rfl uR_v (fun q hq => uR_o q hq) (fun b c n hb => uR_b b c n hb) rfl rfl rfl rfl q1682 (fun _ h9 => h9) rfl hin rfl (by decide +kernel) rfl rfl d k
/-- OverFirstModel.names -/
theorem cp_X9_90z {X : KC CS} {E : CE} {cc : ByteArray} {nL : Nat} {ret : Option FieldType} {z0 l0 z1 l1 : Nat} {s : CS} {pc : Nat} {lv : List (Nat × Value)} {r : List Value} {α : Type} {z : α} {a : Nat}  {K : CS → Option α} (T : cOK X E cc RX9 nL ret z0 l0 z1 l1) (hin : X.2.1.2.2.2.1.name = "<init>") (h : pR s a [9] 914 none K = some z) (d : decode cc pc = .ok (.putfield 90, 3)) (kk : ∀ s', K s' = some z → cW X z1 l1 s' (pc + 3) lv r) : cW X z1 l1 s pc lv (.null :: .ref a :: r) := by
  obtain ⟨h1, h2⟩ := if_of h
  obtain ⟨c, n, ha, hc⟩ := isW_of h1
  have k := kk _ h2
  simp only [List.mem_cons, List.not_mem_nil, or_false] at hc
  rcases hc with rfl
  · exact c_putF (k := 14) (ty := (.array .long)) (p := (2, 914)) T kX9 ha rfl uR_v (fun q hq => uR_o q hq) (fun b c n hb => uR_b b c n hb) rfl rfl rfl rfl q1682 (fun _ h9 => h9) rfl hin rfl (by decide +kernel) rfl rfl d k
/-- OverFirstModel.names -/
theorem cp_X9_90o {X : KC CS} {E : CE} {cc : ByteArray} {nL : Nat} {ret : Option FieldType} {z0 l0 z1 l1 : Nat} {s : CS} {pc : Nat} {lv : List (Nat × Value)} {r : List Value} {α : Type} {z : α} {a : Nat} {v : Option Nat} {K : CS → Option α} (T : cOK X E cc RX9 nL ret z0 l0 z1 l1) (hin : X.2.1.2.2.2.1.name = "<init>") (h : pR s a [9] 914 v K = some z) (d : decode cc pc = .ok (.putfield 90, 3)) (kk : ∀ s', K s' = some z → cW X z1 l1 s' (pc + 3) lv r) : cW X z1 l1 s pc lv (va_rf v :: .ref a :: r) := by
  obtain ⟨h1, h2⟩ := if_of h
  obtain ⟨c, n, ha, hc⟩ := isW_of h1
  have k := kk _ h2
  simp only [List.mem_cons, List.not_mem_nil, or_false] at hc
  rcases hc with rfl
  · exact c_putF (k := 14) (ty := (.array .long)) (p := (2, 914)) T kX9 ha rfl uR_v (fun q hq => uR_o q hq) (fun b c n hb => uR_b b c n hb) rfl rfl rfl rfl q1682 (fun _ h9 => h9) rfl hin rfl (by decide +kernel) (by cases v <;> rfl) (by cases v <;> rfl) d k
/-- OverFirstModel.walks -/
theorem cp_X9_93 {X : KC CS} {E : CE} {cc : ByteArray} {nL : Nat} {ret : Option FieldType} {z0 l0 z1 l1 : Nat} {s : CS} {pc : Nat} {lv : List (Nat × Value)} {r : List Value} {α : Type} {z : α} {a : Nat} {v : Nat} {K : CS → Option α} (T : cOK X E cc RX9 nL ret z0 l0 z1 l1) (hin : X.2.1.2.2.2.1.name = "<init>") (h : pR s a [9] 916 (some v) K = some z) (d : decode cc pc = .ok (.putfield 93, 3)) (kk : ∀ s', K s' = some z → cW X z1 l1 s' (pc + 3) lv r) : cW X z1 l1 s pc lv (.ref v :: .ref a :: r) := by
  obtain ⟨h1, h2⟩ := if_of h
  obtain ⟨c, n, ha, hc⟩ := isW_of h1
  have k := kk _ h2
  simp only [List.mem_cons, List.not_mem_nil, or_false] at hc
  rcases hc with rfl
  · exact c_putF (k := 16) (ty := (.array .int)) (p := (2, 916)) T kX9 ha rfl uR_v (fun q hq => uR_o q hq) (fun b c n hb => uR_b b c n hb) rfl rfl rfl rfl q1684 (fun _ h9 => h9) rfl hin rfl (by decide +kernel) rfl rfl d k
/-- OverFirstModel.walks -/
theorem cp_X9_93z {X : KC CS} {E : CE} {cc : ByteArray} {nL : Nat} {ret : Option FieldType} {z0 l0 z1 l1 : Nat} {s : CS} {pc : Nat} {lv : List (Nat × Value)} {r : List Value} {α : Type} {z : α} {a : Nat}  {K : CS → Option α} (T : cOK X E cc RX9 nL ret z0 l0 z1 l1) (hin : X.2.1.2.2.2.1.name = "<init>") (h : pR s a [9] 916 none K = some z) (d : decode cc pc = .ok (.putfield 93, 3)) (kk : ∀ s', K s' = some z → cW X z1 l1 s' (pc + 3) lv r) : cW X z1 l1 s pc lv (.null :: .ref a :: r) := by
  obtain ⟨h1, h2⟩ := if_of h
  obtain ⟨c, n, ha, hc⟩ := isW_of h1
  have k := kk _ h2
  simp only [List.mem_cons, List.not_mem_nil, or_false] at hc
  rcases hc with rfl
  · exact c_putF (k := 16) (ty := (.array .int)) (p := (2, 916)) T kX9 ha rfl uR_v (fun q hq => uR_o q hq) (fun b c n hb => uR_b b c n hb) rfl rfl rfl rfl q1684 (fun _ h9 => h9) rfl hin rfl (by decide +kernel) rfl rfl d k
/-- OverFirstModel.walks -/
theorem cp_X9_93o {X : KC CS} {E : CE} {cc : ByteArray} {nL : Nat} {ret : Option FieldType} {z0 l0 z1 l1 : Nat} {s : CS} {pc : Nat} {lv : List (Nat × Value)} {r : List Value} {α : Type} {z : α} {a : Nat} {v : Option Nat} {K : CS → Option α} (T : cOK X E cc RX9 nL ret z0 l0 z1 l1) (hin : X.2.1.2.2.2.1.name = "<init>") (h : pR s a [9] 916 v K = some z) (d : decode cc pc = .ok (.putfield 93, 3)) (kk : ∀ s', K s' = some z → cW X z1 l1 s' (pc + 3) lv r) : cW X z1 l1 s pc lv (va_rf v :: .ref a :: r) := by
  obtain ⟨h1, h2⟩ := if_of h
  obtain ⟨c, n, ha, hc⟩ := isW_of h1
  have k := kk _ h2
  simp only [List.mem_cons, List.not_mem_nil, or_false] at hc
  rcases hc with rfl
  · exact c_putF (k := 16) (ty := (.array .int)) (p := (2, 916)) T kX9 ha rfl uR_v (fun q hq => uR_o q hq) (fun b c n hb => uR_b b c n hb) rfl rfl rfl rfl q1684 (fun _ h9 => h9) rfl hin rfl (by decide +kernel) (by cases v <;> rfl) (by cases v <;> rfl) d k
/-- OverFirstModel.facts -/
theorem cp_X9_96 {X : KC CS} {E : CE} {cc : ByteArray} {nL : Nat} {ret : Option FieldType} {z0 l0 z1 l1 : Nat} {s : CS} {pc : Nat} {lv : List (Nat × Value)} {r : List Value} {α : Type} {z : α} {a : Nat} {v : Nat} {K : CS → Option α} (T : cOK X E cc RX9 nL ret z0 l0 z1 l1) (hin : X.2.1.2.2.2.1.name = "<init>") (h : pR s a [9] 917 (some v) K = some z) (d : decode cc pc = .ok (.putfield 96, 3)) (kk : ∀ s', K s' = some z → cW X z1 l1 s' (pc + 3) lv r) : cW X z1 l1 s pc lv (.ref v :: .ref a :: r) := by
  obtain ⟨h1, h2⟩ := if_of h
  obtain ⟨c, n, ha, hc⟩ := isW_of h1
  have k := kk _ h2
  simp only [List.mem_cons, List.not_mem_nil, or_false] at hc
  rcases hc with rfl
  · exact c_putF (k := 17) (ty := (.array .int)) (p := (2, 917)) T kX9 ha rfl uR_v (fun q hq => uR_o q hq) (fun b c n hb => uR_b b c n hb) rfl rfl rfl rfl q1685 (fun _ h9 => h9) rfl hin rfl (by decide +kernel) rfl rfl d k
/-- OverFirstModel.facts -/
theorem cp_X9_96z {X : KC CS} {E : CE} {cc : ByteArray} {nL : Nat} {ret : Option FieldType} {z0 l0 z1 l1 : Nat} {s : CS} {pc : Nat} {lv : List (Nat × Value)} {r : List Value} {α : Type} {z : α} {a : Nat}  {K : CS → Option α} (T : cOK X E cc RX9 nL ret z0 l0 z1 l1) (hin : X.2.1.2.2.2.1.name = "<init>") (h : pR s a [9] 917 none K = some z) (d : decode cc pc = .ok (.putfield 96, 3)) (kk : ∀ s', K s' = some z → cW X z1 l1 s' (pc + 3) lv r) : cW X z1 l1 s pc lv (.null :: .ref a :: r) := by
  obtain ⟨h1, h2⟩ := if_of h
  obtain ⟨c, n, ha, hc⟩ := isW_of h1
  have k := kk _ h2
  simp only [List.mem_cons, List.not_mem_nil, or_false] at hc
  rcases hc with rfl
  · exact c_putF (k := 17) (ty := (.array .int)) (p := (2, 917)) T kX9 ha rfl uR_v (fun q hq => uR_o q hq) (fun b c n hb => uR_b b c n hb) rfl rfl rfl rfl q1685 (fun _ h9 => h9) rfl hin rfl (by decide +kernel) rfl rfl d k
/-- OverFirstModel.facts -/
theorem cp_X9_96o {X : KC CS} {E : CE} {cc : ByteArray} {nL : Nat} {ret : Option FieldType} {z0 l0 z1 l1 : Nat} {s : CS} {pc : Nat} {lv : List (Nat × Value)} {r : List Value} {α : Type} {z : α} {a : Nat} {v : Option Nat} {K : CS → Option α} (T : cOK X E cc RX9 nL ret z0 l0 z1 l1) (hin : X.2.1.2.2.2.1.name = "<init>") (h : pR s a [9] 917 v K = some z) (d : decode cc pc = .ok (.putfield 96, 3)) (kk : ∀ s', K s' = some z → cW X z1 l1 s' (pc + 3) lv r) : cW X z1 l1 s pc lv (va_rf v :: .ref a :: r) := by
  obtain ⟨h1, h2⟩ := if_of h
  obtain ⟨c, n, ha, hc⟩ := isW_of h1
  have k := kk _ h2
  simp only [List.mem_cons, List.not_mem_nil, or_false] at hc
  rcases hc with rfl
  · exact c_putF (k := 17) (ty := (.array .int)) (p := (2, 917)) T kX9 ha rfl uR_v (fun q hq => uR_o q hq) (fun b c n hb => uR_b b c n hb) rfl rfl rfl rfl q1685 (fun _ h9 => h9) rfl hin rfl (by decide +kernel) (by cases v <;> rfl) (by cases v <;> rfl) d k
/-- OverFirstModel.pile -/
theorem cp_X9_99 {X : KC CS} {E : CE} {cc : ByteArray} {nL : Nat} {ret : Option FieldType} {z0 l0 z1 l1 : Nat} {s : CS} {pc : Nat} {lv : List (Nat × Value)} {r : List Value} {α : Type} {z : α} {a : Nat} {v : Nat} {K : CS → Option α} (T : cOK X E cc RX9 nL ret z0 l0 z1 l1) (hin : X.2.1.2.2.2.1.name = "<init>") (h : pR s a [9] 918 (some v) K = some z) (d : decode cc pc = .ok (.putfield 99, 3)) (kk : ∀ s', K s' = some z → cW X z1 l1 s' (pc + 3) lv r) : cW X z1 l1 s pc lv (.ref v :: .ref a :: r) := by
  obtain ⟨h1, h2⟩ := if_of h
  obtain ⟨c, n, ha, hc⟩ := isW_of h1
  have k := kk _ h2
  simp only [List.mem_cons, List.not_mem_nil, or_false] at hc
  rcases hc with rfl
  · exact c_putF (k := 18) (ty := (.array .int)) (p := (2, 918)) T kX9 ha rfl uR_v (fun q hq => uR_o q hq) (fun b c n hb => uR_b b c n hb) rfl rfl rfl rfl q1686 (fun _ h9 => h9) rfl hin rfl (by decide +kernel) rfl rfl d k
/-- OverFirstModel.pile -/
theorem cp_X9_99z {X : KC CS} {E : CE} {cc : ByteArray} {nL : Nat} {ret : Option FieldType} {z0 l0 z1 l1 : Nat} {s : CS} {pc : Nat} {lv : List (Nat × Value)} {r : List Value} {α : Type} {z : α} {a : Nat}  {K : CS → Option α} (T : cOK X E cc RX9 nL ret z0 l0 z1 l1) (hin : X.2.1.2.2.2.1.name = "<init>") (h : pR s a [9] 918 none K = some z) (d : decode cc pc = .ok (.putfield 99, 3)) (kk : ∀ s', K s' = some z → cW X z1 l1 s' (pc + 3) lv r) : cW X z1 l1 s pc lv (.null :: .ref a :: r) := by
  obtain ⟨h1, h2⟩ := if_of h
  obtain ⟨c, n, ha, hc⟩ := isW_of h1
  have k := kk _ h2
  simp only [List.mem_cons, List.not_mem_nil, or_false] at hc
  rcases hc with rfl
  · exact c_putF (k := 18) (ty := (.array .int)) (p := (2, 918)) T kX9 ha rfl uR_v (fun q hq => uR_o q hq) (fun b c n hb => uR_b b c n hb) rfl rfl rfl rfl q1686 (fun _ h9 => h9) rfl hin rfl (by decide +kernel) rfl rfl d k
/-- OverFirstModel.pile -/
theorem cp_X9_99o {X : KC CS} {E : CE} {cc : ByteArray} {nL : Nat} {ret : Option FieldType} {z0 l0 z1 l1 : Nat} {s : CS} {pc : Nat} {lv : List (Nat × Value)} {r : List Value} {α : Type} {z : α} {a : Nat} {v : Option Nat} {K : CS → Option α} (T : cOK X E cc RX9 nL ret z0 l0 z1 l1) (hin : X.2.1.2.2.2.1.name = "<init>") (h : pR s a [9] 918 v K = some z) (d : decode cc pc = .ok (.putfield 99, 3)) (kk : ∀ s', K s' = some z → cW X z1 l1 s' (pc + 3) lv r) : cW X z1 l1 s pc lv (va_rf v :: .ref a :: r) := by
  obtain ⟨h1, h2⟩ := if_of h
  obtain ⟨c, n, ha, hc⟩ := isW_of h1
  have k := kk _ h2
  simp only [List.mem_cons, List.not_mem_nil, or_false] at hc
  rcases hc with rfl
  · exact c_putF (k := 18) (ty := (.array .int)) (p := (2, 918)) T kX9 ha rfl uR_v (fun q hq => uR_o q hq) (fun b c n hb => uR_b b c n hb) rfl rfl rfl rfl q1686 (fun _ h9 => h9) rfl hin rfl (by decide +kernel) (by cases v <;> rfl) (by cases v <;> rfl) d k
/-- OverFirstModel.state -/
theorem cp_X9_102 {X : KC CS} {E : CE} {cc : ByteArray} {nL : Nat} {ret : Option FieldType} {z0 l0 z1 l1 : Nat} {s : CS} {pc : Nat} {lv : List (Nat × Value)} {r : List Value} {α : Type} {z : α} {a : Nat} {v : Nat} {K : CS → Option α} (T : cOK X E cc RX9 nL ret z0 l0 z1 l1) (hin : X.2.1.2.2.2.1.name = "<init>") (h : pR s a [9] 919 (some v) K = some z) (d : decode cc pc = .ok (.putfield 102, 3)) (kk : ∀ s', K s' = some z → cW X z1 l1 s' (pc + 3) lv r) : cW X z1 l1 s pc lv (.ref v :: .ref a :: r) := by
  obtain ⟨h1, h2⟩ := if_of h
  obtain ⟨c, n, ha, hc⟩ := isW_of h1
  have k := kk _ h2
  simp only [List.mem_cons, List.not_mem_nil, or_false] at hc
  rcases hc with rfl
  · exact c_putF (k := 19) (ty := (.array .int)) (p := (2, 919)) T kX9 ha rfl uR_v (fun q hq => uR_o q hq) (fun b c n hb => uR_b b c n hb) rfl rfl rfl rfl q1687 (fun _ h9 => h9) rfl hin rfl (by decide +kernel) rfl rfl d k
/-- OverFirstModel.state -/
theorem cp_X9_102z {X : KC CS} {E : CE} {cc : ByteArray} {nL : Nat} {ret : Option FieldType} {z0 l0 z1 l1 : Nat} {s : CS} {pc : Nat} {lv : List (Nat × Value)} {r : List Value} {α : Type} {z : α} {a : Nat}  {K : CS → Option α} (T : cOK X E cc RX9 nL ret z0 l0 z1 l1) (hin : X.2.1.2.2.2.1.name = "<init>") (h : pR s a [9] 919 none K = some z) (d : decode cc pc = .ok (.putfield 102, 3)) (kk : ∀ s', K s' = some z → cW X z1 l1 s' (pc + 3) lv r) : cW X z1 l1 s pc lv (.null :: .ref a :: r) := by
  obtain ⟨h1, h2⟩ := if_of h
  obtain ⟨c, n, ha, hc⟩ := isW_of h1
  have k := kk _ h2
  simp only [List.mem_cons, List.not_mem_nil, or_false] at hc
  rcases hc with rfl
  · exact c_putF (k := 19) (ty := (.array .int)) (p := (2, 919)) T kX9 ha rfl uR_v (fun q hq => uR_o q hq) (fun b c n hb => uR_b b c n hb) rfl rfl rfl rfl q1687 (fun _ h9 => h9) rfl hin rfl (by decide +kernel) rfl rfl d k
/-- OverFirstModel.state -/
theorem cp_X9_102o {X : KC CS} {E : CE} {cc : ByteArray} {nL : Nat} {ret : Option FieldType} {z0 l0 z1 l1 : Nat} {s : CS} {pc : Nat} {lv : List (Nat × Value)} {r : List Value} {α : Type} {z : α} {a : Nat} {v : Option Nat} {K : CS → Option α} (T : cOK X E cc RX9 nL ret z0 l0 z1 l1) (hin : X.2.1.2.2.2.1.name = "<init>") (h : pR s a [9] 919 v K = some z) (d : decode cc pc = .ok (.putfield 102, 3)) (kk : ∀ s', K s' = some z → cW X z1 l1 s' (pc + 3) lv r) : cW X z1 l1 s pc lv (va_rf v :: .ref a :: r) := by
  obtain ⟨h1, h2⟩ := if_of h
  obtain ⟨c, n, ha, hc⟩ := isW_of h1
  have k := kk _ h2
  simp only [List.mem_cons, List.not_mem_nil, or_false] at hc
  rcases hc with rfl
  · exact c_putF (k := 19) (ty := (.array .int)) (p := (2, 919)) T kX9 ha rfl uR_v (fun q hq => uR_o q hq) (fun b c n hb => uR_b b c n hb) rfl rfl rfl rfl q1687 (fun _ h9 => h9) rfl hin rfl (by decide +kernel) (by cases v <;> rfl) (by cases v <;> rfl) d k
/-- OverFirstModel.isMarked -/
theorem cp_X9_105 {X : KC CS} {E : CE} {cc : ByteArray} {nL : Nat} {ret : Option FieldType} {z0 l0 z1 l1 : Nat} {s : CS} {pc : Nat} {lv : List (Nat × Value)} {r : List Value} {α : Type} {z : α} {a : Nat} {v : Nat} {K : CS → Option α} (T : cOK X E cc RX9 nL ret z0 l0 z1 l1) (hin : X.2.1.2.2.2.1.name = "<init>") (h : pR s a [9] 921 (some v) K = some z) (d : decode cc pc = .ok (.putfield 105, 3)) (kk : ∀ s', K s' = some z → cW X z1 l1 s' (pc + 3) lv r) : cW X z1 l1 s pc lv (.ref v :: .ref a :: r) := by
  obtain ⟨h1, h2⟩ := if_of h
  obtain ⟨c, n, ha, hc⟩ := isW_of h1
  have k := kk _ h2
  simp only [List.mem_cons, List.not_mem_nil, or_false] at hc
  rcases hc with rfl
  · exact c_putF (k := 21) (ty := (.array .boolean)) (p := (2, 921)) T kX9 ha rfl uR_v (fun q hq => uR_o q hq) (fun b c n hb => uR_b b c n hb) rfl rfl rfl rfl q1689 (fun _ h9 => h9) rfl hin rfl (by decide +kernel) rfl rfl d k
/-- OverFirstModel.isMarked -/
theorem cp_X9_105z {X : KC CS} {E : CE} {cc : ByteArray} {nL : Nat} {ret : Option FieldType} {z0 l0 z1 l1 : Nat} {s : CS} {pc : Nat} {lv : List (Nat × Value)} {r : List Value} {α : Type} {z : α} {a : Nat}  {K : CS → Option α} (T : cOK X E cc RX9 nL ret z0 l0 z1 l1) (hin : X.2.1.2.2.2.1.name = "<init>") (h : pR s a [9] 921 none K = some z) (d : decode cc pc = .ok (.putfield 105, 3)) (kk : ∀ s', K s' = some z → cW X z1 l1 s' (pc + 3) lv r) : cW X z1 l1 s pc lv (.null :: .ref a :: r) := by
  obtain ⟨h1, h2⟩ := if_of h
  obtain ⟨c, n, ha, hc⟩ := isW_of h1
  have k := kk _ h2
  simp only [List.mem_cons, List.not_mem_nil, or_false] at hc
  rcases hc with rfl
  · exact c_putF (k := 21) (ty := (.array .boolean)) (p := (2, 921)) T kX9 ha rfl uR_v (fun q hq => uR_o q hq) (fun b c n hb => uR_b b c n hb) rfl rfl rfl rfl q1689 (fun _ h9 => h9) rfl hin rfl (by decide +kernel) rfl rfl d k
/-- OverFirstModel.isMarked -/
theorem cp_X9_105o {X : KC CS} {E : CE} {cc : ByteArray} {nL : Nat} {ret : Option FieldType} {z0 l0 z1 l1 : Nat} {s : CS} {pc : Nat} {lv : List (Nat × Value)} {r : List Value} {α : Type} {z : α} {a : Nat} {v : Option Nat} {K : CS → Option α} (T : cOK X E cc RX9 nL ret z0 l0 z1 l1) (hin : X.2.1.2.2.2.1.name = "<init>") (h : pR s a [9] 921 v K = some z) (d : decode cc pc = .ok (.putfield 105, 3)) (kk : ∀ s', K s' = some z → cW X z1 l1 s' (pc + 3) lv r) : cW X z1 l1 s pc lv (va_rf v :: .ref a :: r) := by
  obtain ⟨h1, h2⟩ := if_of h
  obtain ⟨c, n, ha, hc⟩ := isW_of h1
  have k := kk _ h2
  simp only [List.mem_cons, List.not_mem_nil, or_false] at hc
  rcases hc with rfl
  · exact c_putF (k := 21) (ty := (.array .boolean)) (p := (2, 921)) T kX9 ha rfl uR_v (fun q hq => uR_o q hq) (fun b c n hb => uR_b b c n hb) rfl rfl rfl rfl q1689 (fun _ h9 => h9) rfl hin rfl (by decide +kernel) (by cases v <;> rfl) (by cases v <;> rfl) d k
/-- OverFirstModel.worth -/
theorem cp_X9_110 {X : KC CS} {E : CE} {cc : ByteArray} {nL : Nat} {ret : Option FieldType} {z0 l0 z1 l1 : Nat} {s : CS} {pc : Nat} {lv : List (Nat × Value)} {r : List Value} {α : Type} {z : α} {a : Nat} {v : Nat} {K : CS → Option α} (T : cOK X E cc RX9 nL ret z0 l0 z1 l1) (hin : X.2.1.2.2.2.1.name = "<init>") (h : pR s a [9] 923 (some v) K = some z) (d : decode cc pc = .ok (.putfield 110, 3)) (kk : ∀ s', K s' = some z → cW X z1 l1 s' (pc + 3) lv r) : cW X z1 l1 s pc lv (.ref v :: .ref a :: r) := by
  obtain ⟨h1, h2⟩ := if_of h
  obtain ⟨c, n, ha, hc⟩ := isW_of h1
  have k := kk _ h2
  simp only [List.mem_cons, List.not_mem_nil, or_false] at hc
  rcases hc with rfl
  · exact c_putF (k := 23) (ty := (.array .int)) (p := (2, 923)) T kX9 ha rfl uR_v (fun q hq => uR_o q hq) (fun b c n hb => uR_b b c n hb) rfl rfl rfl rfl q1691 (fun _ h9 => h9) rfl hin rfl (by decide +kernel) rfl rfl d k
/-- OverFirstModel.worth -/
theorem cp_X9_110z {X : KC CS} {E : CE} {cc : ByteArray} {nL : Nat} {ret : Option FieldType} {z0 l0 z1 l1 : Nat} {s : CS} {pc : Nat} {lv : List (Nat × Value)} {r : List Value} {α : Type} {z : α} {a : Nat}  {K : CS → Option α} (T : cOK X E cc RX9 nL ret z0 l0 z1 l1) (hin : X.2.1.2.2.2.1.name = "<init>") (h : pR s a [9] 923 none K = some z) (d : decode cc pc = .ok (.putfield 110, 3)) (kk : ∀ s', K s' = some z → cW X z1 l1 s' (pc + 3) lv r) : cW X z1 l1 s pc lv (.null :: .ref a :: r) := by
  obtain ⟨h1, h2⟩ := if_of h
  obtain ⟨c, n, ha, hc⟩ := isW_of h1
  have k := kk _ h2
  simp only [List.mem_cons, List.not_mem_nil, or_false] at hc
  rcases hc with rfl
  · exact c_putF (k := 23) (ty := (.array .int)) (p := (2, 923)) T kX9 ha rfl uR_v (fun q hq => uR_o q hq) (fun b c n hb => uR_b b c n hb) rfl rfl rfl rfl q1691 (fun _ h9 => h9) rfl hin rfl (by decide +kernel) rfl rfl d k
/-- OverFirstModel.worth -/
theorem cp_X9_110o {X : KC CS} {E : CE} {cc : ByteArray} {nL : Nat} {ret : Option FieldType} {z0 l0 z1 l1 : Nat} {s : CS} {pc : Nat} {lv : List (Nat × Value)} {r : List Value} {α : Type} {z : α} {a : Nat} {v : Option Nat} {K : CS → Option α} (T : cOK X E cc RX9 nL ret z0 l0 z1 l1) (hin : X.2.1.2.2.2.1.name = "<init>") (h : pR s a [9] 923 v K = some z) (d : decode cc pc = .ok (.putfield 110, 3)) (kk : ∀ s', K s' = some z → cW X z1 l1 s' (pc + 3) lv r) : cW X z1 l1 s pc lv (va_rf v :: .ref a :: r) := by
  obtain ⟨h1, h2⟩ := if_of h
  obtain ⟨c, n, ha, hc⟩ := isW_of h1
  have k := kk _ h2
  simp only [List.mem_cons, List.not_mem_nil, or_false] at hc
  rcases hc with rfl
  · exact c_putF (k := 23) (ty := (.array .int)) (p := (2, 923)) T kX9 ha rfl uR_v (fun q hq => uR_o q hq) (fun b c n hb => uR_b b c n hb) rfl rfl rfl rfl q1691 (fun _ h9 => h9) rfl hin rfl (by decide +kernel) (by cases v <;> rfl) (by cases v <;> rfl) d k
/-- OverFirstModel.stamp -/
theorem cp_X9_113 {X : KC CS} {E : CE} {cc : ByteArray} {nL : Nat} {ret : Option FieldType} {z0 l0 z1 l1 : Nat} {s : CS} {pc : Nat} {lv : List (Nat × Value)} {r : List Value} {α : Type} {z : α} {a : Nat} {v : Nat} {K : CS → Option α} (T : cOK X E cc RX9 nL ret z0 l0 z1 l1) (hin : X.2.1.2.2.2.1.name = "<init>") (h : pR s a [9] 924 (some v) K = some z) (d : decode cc pc = .ok (.putfield 113, 3)) (kk : ∀ s', K s' = some z → cW X z1 l1 s' (pc + 3) lv r) : cW X z1 l1 s pc lv (.ref v :: .ref a :: r) := by
  obtain ⟨h1, h2⟩ := if_of h
  obtain ⟨c, n, ha, hc⟩ := isW_of h1
  have k := kk _ h2
  simp only [List.mem_cons, List.not_mem_nil, or_false] at hc
  rcases hc with rfl
  · exact c_putF (k := 24) (ty := (.array .int)) (p := (2, 924)) T kX9 ha rfl uR_v (fun q hq => uR_o q hq) (fun b c n hb => uR_b b c n hb) rfl rfl rfl rfl q1692 (fun _ h9 => h9) rfl hin rfl (by decide +kernel) rfl rfl d k
/-- OverFirstModel.stamp -/
theorem cp_X9_113z {X : KC CS} {E : CE} {cc : ByteArray} {nL : Nat} {ret : Option FieldType} {z0 l0 z1 l1 : Nat} {s : CS} {pc : Nat} {lv : List (Nat × Value)} {r : List Value} {α : Type} {z : α} {a : Nat}  {K : CS → Option α} (T : cOK X E cc RX9 nL ret z0 l0 z1 l1) (hin : X.2.1.2.2.2.1.name = "<init>") (h : pR s a [9] 924 none K = some z) (d : decode cc pc = .ok (.putfield 113, 3)) (kk : ∀ s', K s' = some z → cW X z1 l1 s' (pc + 3) lv r) : cW X z1 l1 s pc lv (.null :: .ref a :: r) := by
  obtain ⟨h1, h2⟩ := if_of h
  obtain ⟨c, n, ha, hc⟩ := isW_of h1
  have k := kk _ h2
  simp only [List.mem_cons, List.not_mem_nil, or_false] at hc
  rcases hc with rfl
  · exact c_putF (k := 24) (ty := (.array .int)) (p := (2, 924)) T kX9 ha rfl uR_v (fun q hq => uR_o q hq) (fun b c n hb => uR_b b c n hb) rfl rfl rfl rfl q1692 (fun _ h9 => h9) rfl hin rfl (by decide +kernel) rfl rfl d k
/-- OverFirstModel.stamp -/
theorem cp_X9_113o {X : KC CS} {E : CE} {cc : ByteArray} {nL : Nat} {ret : Option FieldType} {z0 l0 z1 l1 : Nat} {s : CS} {pc : Nat} {lv : List (Nat × Value)} {r : List Value} {α : Type} {z : α} {a : Nat} {v : Option Nat} {K : CS → Option α} (T : cOK X E cc RX9 nL ret z0 l0 z1 l1) (hin : X.2.1.2.2.2.1.name = "<init>") (h : pR s a [9] 924 v K = some z) (d : decode cc pc = .ok (.putfield 113, 3)) (kk : ∀ s', K s' = some z → cW X z1 l1 s' (pc + 3) lv r) : cW X z1 l1 s pc lv (va_rf v :: .ref a :: r) := by
  obtain ⟨h1, h2⟩ := if_of h
  obtain ⟨c, n, ha, hc⟩ := isW_of h1
  have k := kk _ h2
  simp only [List.mem_cons, List.not_mem_nil, or_false] at hc
  rcases hc with rfl
  · exact c_putF (k := 24) (ty := (.array .int)) (p := (2, 924)) T kX9 ha rfl uR_v (fun q hq => uR_o q hq) (fun b c n hb => uR_b b c n hb) rfl rfl rfl rfl q1692 (fun _ h9 => h9) rfl hin rfl (by decide +kernel) (by cases v <;> rfl) (by cases v <;> rfl) d k
/-- OverFirstModel.goerKept -/
theorem cp_X9_116 {X : KC CS} {E : CE} {cc : ByteArray} {nL : Nat} {ret : Option FieldType} {z0 l0 z1 l1 : Nat} {s : CS} {pc : Nat} {lv : List (Nat × Value)} {r : List Value} {α : Type} {z : α} {a : Nat} {v : Int32} {K : CS → Option α} (T : cOK X E cc RX9 nL ret z0 l0 z1 l1) (h : pI s a [9] 926 v K = some z) (d : decode cc pc = .ok (.putfield 116, 3)) (kk : ∀ s', K s' = some z → cW X z1 l1 s' (pc + 3) lv r) : cW X z1 l1 s pc lv (.int v :: .ref a :: r) := by
  obtain ⟨h1, h2⟩ := if_of h
  obtain ⟨c, n, ha, hc⟩ := isW_of h1
  have k := kk _ h2
  simp only [List.mem_cons, List.not_mem_nil, or_false] at hc
  rcases hc with rfl
  · exact c_put (k := 26) (ty := .int) (p := (0, 926)) T kX9 ha rfl uI_v (fun q hq => uI_o q hq) (fun b c n hb => uI_b b c n hb) rfl rfl rfl rfl q1694 (fun _ h9 => h9) rfl (by decide +kernel) rfl rfl d k
/-- OverFirstModel.watched -/
theorem cp_X9_119 {X : KC CS} {E : CE} {cc : ByteArray} {nL : Nat} {ret : Option FieldType} {z0 l0 z1 l1 : Nat} {s : CS} {pc : Nat} {lv : List (Nat × Value)} {r : List Value} {α : Type} {z : α} {a : Nat} {v : Int32} {K : CS → Option α} (T : cOK X E cc RX9 nL ret z0 l0 z1 l1) (h : pI s a [9] 929 v K = some z) (d : decode cc pc = .ok (.putfield 119, 3)) (kk : ∀ s', K s' = some z → cW X z1 l1 s' (pc + 3) lv r) : cW X z1 l1 s pc lv (.int v :: .ref a :: r) := by
  obtain ⟨h1, h2⟩ := if_of h
  obtain ⟨c, n, ha, hc⟩ := isW_of h1
  have k := kk _ h2
  simp only [List.mem_cons, List.not_mem_nil, or_false] at hc
  rcases hc with rfl
  · exact c_put (k := 29) (ty := .int) (p := (0, 929)) T kX9 ha rfl uI_v (fun q hq => uI_o q hq) (fun b c n hb => uI_b b c n hb) rfl rfl rfl rfl q1697 (fun _ h9 => h9) rfl (by decide +kernel) rfl rfl d k
/-- OverFirstModel.chances -/
theorem cp_X9_122 {X : KC CS} {E : CE} {cc : ByteArray} {nL : Nat} {ret : Option FieldType} {z0 l0 z1 l1 : Nat} {s : CS} {pc : Nat} {lv : List (Nat × Value)} {r : List Value} {α : Type} {z : α} {a : Nat} {v : Nat} {K : CS → Option α} (T : cOK X E cc RX9 nL ret z0 l0 z1 l1) (hin : X.2.1.2.2.2.1.name = "<init>") (h : pR s a [9] 931 (some v) K = some z) (d : decode cc pc = .ok (.putfield 122, 3)) (kk : ∀ s', K s' = some z → cW X z1 l1 s' (pc + 3) lv r) : cW X z1 l1 s pc lv (.ref v :: .ref a :: r) := by
  obtain ⟨h1, h2⟩ := if_of h
  obtain ⟨c, n, ha, hc⟩ := isW_of h1
  have k := kk _ h2
  simp only [List.mem_cons, List.not_mem_nil, or_false] at hc
  rcases hc with rfl
  · exact c_putF (k := 31) (ty := (.array .int)) (p := (2, 931)) T kX9 ha rfl uR_v (fun q hq => uR_o q hq) (fun b c n hb => uR_b b c n hb) rfl rfl rfl rfl q1699 (fun _ h9 => h9) rfl hin rfl (by decide +kernel) rfl rfl d k
/-- OverFirstModel.chances -/
theorem cp_X9_122z {X : KC CS} {E : CE} {cc : ByteArray} {nL : Nat} {ret : Option FieldType} {z0 l0 z1 l1 : Nat} {s : CS} {pc : Nat} {lv : List (Nat × Value)} {r : List Value} {α : Type} {z : α} {a : Nat}  {K : CS → Option α} (T : cOK X E cc RX9 nL ret z0 l0 z1 l1) (hin : X.2.1.2.2.2.1.name = "<init>") (h : pR s a [9] 931 none K = some z) (d : decode cc pc = .ok (.putfield 122, 3)) (kk : ∀ s', K s' = some z → cW X z1 l1 s' (pc + 3) lv r) : cW X z1 l1 s pc lv (.null :: .ref a :: r) := by
  obtain ⟨h1, h2⟩ := if_of h
  obtain ⟨c, n, ha, hc⟩ := isW_of h1
  have k := kk _ h2
  simp only [List.mem_cons, List.not_mem_nil, or_false] at hc
  rcases hc with rfl
  · exact c_putF (k := 31) (ty := (.array .int)) (p := (2, 931)) T kX9 ha rfl uR_v (fun q hq => uR_o q hq) (fun b c n hb => uR_b b c n hb) rfl rfl rfl rfl q1699 (fun _ h9 => h9) rfl hin rfl (by decide +kernel) rfl rfl d k
/-- OverFirstModel.chances -/
theorem cp_X9_122o {X : KC CS} {E : CE} {cc : ByteArray} {nL : Nat} {ret : Option FieldType} {z0 l0 z1 l1 : Nat} {s : CS} {pc : Nat} {lv : List (Nat × Value)} {r : List Value} {α : Type} {z : α} {a : Nat} {v : Option Nat} {K : CS → Option α} (T : cOK X E cc RX9 nL ret z0 l0 z1 l1) (hin : X.2.1.2.2.2.1.name = "<init>") (h : pR s a [9] 931 v K = some z) (d : decode cc pc = .ok (.putfield 122, 3)) (kk : ∀ s', K s' = some z → cW X z1 l1 s' (pc + 3) lv r) : cW X z1 l1 s pc lv (va_rf v :: .ref a :: r) := by
  obtain ⟨h1, h2⟩ := if_of h
  obtain ⟨c, n, ha, hc⟩ := isW_of h1
  have k := kk _ h2
  simp only [List.mem_cons, List.not_mem_nil, or_false] at hc
  rcases hc with rfl
  · exact c_putF (k := 31) (ty := (.array .int)) (p := (2, 931)) T kX9 ha rfl uR_v (fun q hq => uR_o q hq) (fun b c n hb => uR_b b c n hb) rfl rfl rfl rfl q1699 (fun _ h9 => h9) rfl hin rfl (by decide +kernel) (by cases v <;> rfl) (by cases v <;> rfl) d k
/-- OverFirstModel.chanceStamp -/
theorem cp_X9_125 {X : KC CS} {E : CE} {cc : ByteArray} {nL : Nat} {ret : Option FieldType} {z0 l0 z1 l1 : Nat} {s : CS} {pc : Nat} {lv : List (Nat × Value)} {r : List Value} {α : Type} {z : α} {a : Nat} {v : Nat} {K : CS → Option α} (T : cOK X E cc RX9 nL ret z0 l0 z1 l1) (hin : X.2.1.2.2.2.1.name = "<init>") (h : pR s a [9] 932 (some v) K = some z) (d : decode cc pc = .ok (.putfield 125, 3)) (kk : ∀ s', K s' = some z → cW X z1 l1 s' (pc + 3) lv r) : cW X z1 l1 s pc lv (.ref v :: .ref a :: r) := by
  obtain ⟨h1, h2⟩ := if_of h
  obtain ⟨c, n, ha, hc⟩ := isW_of h1
  have k := kk _ h2
  simp only [List.mem_cons, List.not_mem_nil, or_false] at hc
  rcases hc with rfl
  · exact c_putF (k := 32) (ty := (.array .int)) (p := (2, 932)) T kX9 ha rfl uR_v (fun q hq => uR_o q hq) (fun b c n hb => uR_b b c n hb) rfl rfl rfl rfl q1700 (fun _ h9 => h9) rfl hin rfl (by decide +kernel) rfl rfl d k
/-- OverFirstModel.chanceStamp -/
theorem cp_X9_125z {X : KC CS} {E : CE} {cc : ByteArray} {nL : Nat} {ret : Option FieldType} {z0 l0 z1 l1 : Nat} {s : CS} {pc : Nat} {lv : List (Nat × Value)} {r : List Value} {α : Type} {z : α} {a : Nat}  {K : CS → Option α} (T : cOK X E cc RX9 nL ret z0 l0 z1 l1) (hin : X.2.1.2.2.2.1.name = "<init>") (h : pR s a [9] 932 none K = some z) (d : decode cc pc = .ok (.putfield 125, 3)) (kk : ∀ s', K s' = some z → cW X z1 l1 s' (pc + 3) lv r) : cW X z1 l1 s pc lv (.null :: .ref a :: r) := by
  obtain ⟨h1, h2⟩ := if_of h
  obtain ⟨c, n, ha, hc⟩ := isW_of h1
  have k := kk _ h2
  simp only [List.mem_cons, List.not_mem_nil, or_false] at hc
  rcases hc with rfl
  · exact c_putF (k := 32) (ty := (.array .int)) (p := (2, 932)) T kX9 ha rfl uR_v (fun q hq => uR_o q hq) (fun b c n hb => uR_b b c n hb) rfl rfl rfl rfl q1700 (fun _ h9 => h9) rfl hin rfl (by decide +kernel) rfl rfl d k
/-- OverFirstModel.chanceStamp -/
theorem cp_X9_125o {X : KC CS} {E : CE} {cc : ByteArray} {nL : Nat} {ret : Option FieldType} {z0 l0 z1 l1 : Nat} {s : CS} {pc : Nat} {lv : List (Nat × Value)} {r : List Value} {α : Type} {z : α} {a : Nat} {v : Option Nat} {K : CS → Option α} (T : cOK X E cc RX9 nL ret z0 l0 z1 l1) (hin : X.2.1.2.2.2.1.name = "<init>") (h : pR s a [9] 932 v K = some z) (d : decode cc pc = .ok (.putfield 125, 3)) (kk : ∀ s', K s' = some z → cW X z1 l1 s' (pc + 3) lv r) : cW X z1 l1 s pc lv (va_rf v :: .ref a :: r) := by
  obtain ⟨h1, h2⟩ := if_of h
  obtain ⟨c, n, ha, hc⟩ := isW_of h1
  have k := kk _ h2
  simp only [List.mem_cons, List.not_mem_nil, or_false] at hc
  rcases hc with rfl
  · exact c_putF (k := 32) (ty := (.array .int)) (p := (2, 932)) T kX9 ha rfl uR_v (fun q hq => uR_o q hq) (fun b c n hb => uR_b b c n hb) rfl rfl rfl rfl q1700 (fun _ h9 => h9) rfl hin rfl (by decide +kernel) (by cases v <;> rfl) (by cases v <;> rfl) d k
/-- OverFirstModel.paces -/
theorem cp_X9_129 {X : KC CS} {E : CE} {cc : ByteArray} {nL : Nat} {ret : Option FieldType} {z0 l0 z1 l1 : Nat} {s : CS} {pc : Nat} {lv : List (Nat × Value)} {r : List Value} {α : Type} {z : α} {a : Nat} {v : Nat} {K : CS → Option α} (T : cOK X E cc RX9 nL ret z0 l0 z1 l1) (hin : X.2.1.2.2.2.1.name = "<init>") (h : pR s a [9] 936 (some v) K = some z) (d : decode cc pc = .ok (.putfield 129, 3)) (kk : ∀ s', K s' = some z → cW X z1 l1 s' (pc + 3) lv r) : cW X z1 l1 s pc lv (.ref v :: .ref a :: r) := by
  obtain ⟨h1, h2⟩ := if_of h
  obtain ⟨c, n, ha, hc⟩ := isW_of h1
  have k := kk _ h2
  simp only [List.mem_cons, List.not_mem_nil, or_false] at hc
  rcases hc with rfl
  · exact c_putF (k := 36) (ty := (.array .int)) (p := (2, 936)) T kX9 ha rfl uR_v (fun q hq => uR_o q hq) (fun b c n hb => uR_b b c n hb) rfl rfl rfl rfl q1704 (fun _ h9 => h9) rfl hin rfl (by decide +kernel) rfl rfl d k
/-- OverFirstModel.paces -/
theorem cp_X9_129z {X : KC CS} {E : CE} {cc : ByteArray} {nL : Nat} {ret : Option FieldType} {z0 l0 z1 l1 : Nat} {s : CS} {pc : Nat} {lv : List (Nat × Value)} {r : List Value} {α : Type} {z : α} {a : Nat}  {K : CS → Option α} (T : cOK X E cc RX9 nL ret z0 l0 z1 l1) (hin : X.2.1.2.2.2.1.name = "<init>") (h : pR s a [9] 936 none K = some z) (d : decode cc pc = .ok (.putfield 129, 3)) (kk : ∀ s', K s' = some z → cW X z1 l1 s' (pc + 3) lv r) : cW X z1 l1 s pc lv (.null :: .ref a :: r) := by
  obtain ⟨h1, h2⟩ := if_of h
  obtain ⟨c, n, ha, hc⟩ := isW_of h1
  have k := kk _ h2
  simp only [List.mem_cons, List.not_mem_nil, or_false] at hc
  rcases hc with rfl
  · exact c_putF (k := 36) (ty := (.array .int)) (p := (2, 936)) T kX9 ha rfl uR_v (fun q hq => uR_o q hq) (fun b c n hb => uR_b b c n hb) rfl rfl rfl rfl q1704 (fun _ h9 => h9) rfl hin rfl (by decide +kernel) rfl rfl d k
/-- OverFirstModel.paces -/
theorem cp_X9_129o {X : KC CS} {E : CE} {cc : ByteArray} {nL : Nat} {ret : Option FieldType} {z0 l0 z1 l1 : Nat} {s : CS} {pc : Nat} {lv : List (Nat × Value)} {r : List Value} {α : Type} {z : α} {a : Nat} {v : Option Nat} {K : CS → Option α} (T : cOK X E cc RX9 nL ret z0 l0 z1 l1) (hin : X.2.1.2.2.2.1.name = "<init>") (h : pR s a [9] 936 v K = some z) (d : decode cc pc = .ok (.putfield 129, 3)) (kk : ∀ s', K s' = some z → cW X z1 l1 s' (pc + 3) lv r) : cW X z1 l1 s pc lv (va_rf v :: .ref a :: r) := by
  obtain ⟨h1, h2⟩ := if_of h
  obtain ⟨c, n, ha, hc⟩ := isW_of h1
  have k := kk _ h2
  simp only [List.mem_cons, List.not_mem_nil, or_false] at hc
  rcases hc with rfl
  · exact c_putF (k := 36) (ty := (.array .int)) (p := (2, 936)) T kX9 ha rfl uR_v (fun q hq => uR_o q hq) (fun b c n hb => uR_b b c n hb) rfl rfl rfl rfl q1704 (fun _ h9 => h9) rfl hin rfl (by decide +kernel) (by cases v <;> rfl) (by cases v <;> rfl) d k
/-- OverFirstModel.onward -/
theorem cp_X9_132 {X : KC CS} {E : CE} {cc : ByteArray} {nL : Nat} {ret : Option FieldType} {z0 l0 z1 l1 : Nat} {s : CS} {pc : Nat} {lv : List (Nat × Value)} {r : List Value} {α : Type} {z : α} {a : Nat} {v : Nat} {K : CS → Option α} (T : cOK X E cc RX9 nL ret z0 l0 z1 l1) (hin : X.2.1.2.2.2.1.name = "<init>") (h : pR s a [9] 938 (some v) K = some z) (d : decode cc pc = .ok (.putfield 132, 3)) (kk : ∀ s', K s' = some z → cW X z1 l1 s' (pc + 3) lv r) : cW X z1 l1 s pc lv (.ref v :: .ref a :: r) := by
  obtain ⟨h1, h2⟩ := if_of h
  obtain ⟨c, n, ha, hc⟩ := isW_of h1
  have k := kk _ h2
  simp only [List.mem_cons, List.not_mem_nil, or_false] at hc
  rcases hc with rfl
  · exact c_putF (k := 38) (ty := (.array .long)) (p := (2, 938)) T kX9 ha rfl uR_v (fun q hq => uR_o q hq) (fun b c n hb => uR_b b c n hb) rfl rfl rfl rfl q1706 (fun _ h9 => h9) rfl hin rfl (by decide +kernel) rfl rfl d k
/-- OverFirstModel.onward -/
theorem cp_X9_132z {X : KC CS} {E : CE} {cc : ByteArray} {nL : Nat} {ret : Option FieldType} {z0 l0 z1 l1 : Nat} {s : CS} {pc : Nat} {lv : List (Nat × Value)} {r : List Value} {α : Type} {z : α} {a : Nat}  {K : CS → Option α} (T : cOK X E cc RX9 nL ret z0 l0 z1 l1) (hin : X.2.1.2.2.2.1.name = "<init>") (h : pR s a [9] 938 none K = some z) (d : decode cc pc = .ok (.putfield 132, 3)) (kk : ∀ s', K s' = some z → cW X z1 l1 s' (pc + 3) lv r) : cW X z1 l1 s pc lv (.null :: .ref a :: r) := by
  obtain ⟨h1, h2⟩ := if_of h
  obtain ⟨c, n, ha, hc⟩ := isW_of h1
  have k := kk _ h2
  simp only [List.mem_cons, List.not_mem_nil, or_false] at hc
  rcases hc with rfl
  · exact c_putF (k := 38) (ty := (.array .long)) (p := (2, 938)) T kX9 ha rfl uR_v (fun q hq => uR_o q hq) (fun b c n hb => uR_b b c n hb) rfl rfl rfl rfl q1706 (fun _ h9 => h9) rfl hin rfl (by decide +kernel) rfl rfl d k
/-- OverFirstModel.onward -/
theorem cp_X9_132o {X : KC CS} {E : CE} {cc : ByteArray} {nL : Nat} {ret : Option FieldType} {z0 l0 z1 l1 : Nat} {s : CS} {pc : Nat} {lv : List (Nat × Value)} {r : List Value} {α : Type} {z : α} {a : Nat} {v : Option Nat} {K : CS → Option α} (T : cOK X E cc RX9 nL ret z0 l0 z1 l1) (hin : X.2.1.2.2.2.1.name = "<init>") (h : pR s a [9] 938 v K = some z) (d : decode cc pc = .ok (.putfield 132, 3)) (kk : ∀ s', K s' = some z → cW X z1 l1 s' (pc + 3) lv r) : cW X z1 l1 s pc lv (va_rf v :: .ref a :: r) := by
  obtain ⟨h1, h2⟩ := if_of h
  obtain ⟨c, n, ha, hc⟩ := isW_of h1
  have k := kk _ h2
  simp only [List.mem_cons, List.not_mem_nil, or_false] at hc
  rcases hc with rfl
  · exact c_putF (k := 38) (ty := (.array .long)) (p := (2, 938)) T kX9 ha rfl uR_v (fun q hq => uR_o q hq) (fun b c n hb => uR_b b c n hb) rfl rfl rfl rfl q1706 (fun _ h9 => h9) rfl hin rfl (by decide +kernel) (by cases v <;> rfl) (by cases v <;> rfl) d k
/-- OverFirstModel.back -/
theorem cp_X9_135 {X : KC CS} {E : CE} {cc : ByteArray} {nL : Nat} {ret : Option FieldType} {z0 l0 z1 l1 : Nat} {s : CS} {pc : Nat} {lv : List (Nat × Value)} {r : List Value} {α : Type} {z : α} {a : Nat} {v : Nat} {K : CS → Option α} (T : cOK X E cc RX9 nL ret z0 l0 z1 l1) (hin : X.2.1.2.2.2.1.name = "<init>") (h : pR s a [9] 939 (some v) K = some z) (d : decode cc pc = .ok (.putfield 135, 3)) (kk : ∀ s', K s' = some z → cW X z1 l1 s' (pc + 3) lv r) : cW X z1 l1 s pc lv (.ref v :: .ref a :: r) := by
  obtain ⟨h1, h2⟩ := if_of h
  obtain ⟨c, n, ha, hc⟩ := isW_of h1
  have k := kk _ h2
  simp only [List.mem_cons, List.not_mem_nil, or_false] at hc
  rcases hc with rfl
  · exact c_putF (k := 39) (ty := (.array .long)) (p := (2, 939)) T kX9 ha rfl uR_v (fun q hq => uR_o q hq) (fun b c n hb => uR_b b c n hb) rfl rfl rfl rfl q1707 (fun _ h9 => h9) rfl hin rfl (by decide +kernel) rfl rfl d k
/-- OverFirstModel.back -/
theorem cp_X9_135z {X : KC CS} {E : CE} {cc : ByteArray} {nL : Nat} {ret : Option FieldType} {z0 l0 z1 l1 : Nat} {s : CS} {pc : Nat} {lv : List (Nat × Value)} {r : List Value} {α : Type} {z : α} {a : Nat}  {K : CS → Option α} (T : cOK X E cc RX9 nL ret z0 l0 z1 l1) (hin : X.2.1.2.2.2.1.name = "<init>") (h : pR s a [9] 939 none K = some z) (d : decode cc pc = .ok (.putfield 135, 3)) (kk : ∀ s', K s' = some z → cW X z1 l1 s' (pc + 3) lv r) : cW X z1 l1 s pc lv (.null :: .ref a :: r) := by
  obtain ⟨h1, h2⟩ := if_of h
  obtain ⟨c, n, ha, hc⟩ := isW_of h1
  have k := kk _ h2
  simp only [List.mem_cons, List.not_mem_nil, or_false] at hc
  rcases hc with rfl
  · exact c_putF (k := 39) (ty := (.array .long)) (p := (2, 939)) T kX9 ha rfl uR_v (fun q hq => uR_o q hq) (fun b c n hb => uR_b b c n hb) rfl rfl rfl rfl q1707 (fun _ h9 => h9) rfl hin rfl (by decide +kernel) rfl rfl d k
/-- OverFirstModel.back -/
theorem cp_X9_135o {X : KC CS} {E : CE} {cc : ByteArray} {nL : Nat} {ret : Option FieldType} {z0 l0 z1 l1 : Nat} {s : CS} {pc : Nat} {lv : List (Nat × Value)} {r : List Value} {α : Type} {z : α} {a : Nat} {v : Option Nat} {K : CS → Option α} (T : cOK X E cc RX9 nL ret z0 l0 z1 l1) (hin : X.2.1.2.2.2.1.name = "<init>") (h : pR s a [9] 939 v K = some z) (d : decode cc pc = .ok (.putfield 135, 3)) (kk : ∀ s', K s' = some z → cW X z1 l1 s' (pc + 3) lv r) : cW X z1 l1 s pc lv (va_rf v :: .ref a :: r) := by
  obtain ⟨h1, h2⟩ := if_of h
  obtain ⟨c, n, ha, hc⟩ := isW_of h1
  have k := kk _ h2
  simp only [List.mem_cons, List.not_mem_nil, or_false] at hc
  rcases hc with rfl
  · exact c_putF (k := 39) (ty := (.array .long)) (p := (2, 939)) T kX9 ha rfl uR_v (fun q hq => uR_o q hq) (fun b c n hb => uR_b b c n hb) rfl rfl rfl rfl q1707 (fun _ h9 => h9) rfl hin rfl (by decide +kernel) (by cases v <;> rfl) (by cases v <;> rfl) d k
/-- OverFirstModel.begins0 -/
theorem cp_X9_138 {X : KC CS} {E : CE} {cc : ByteArray} {nL : Nat} {ret : Option FieldType} {z0 l0 z1 l1 : Nat} {s : CS} {pc : Nat} {lv : List (Nat × Value)} {r : List Value} {α : Type} {z : α} {a : Nat} {v : Nat} {K : CS → Option α} (T : cOK X E cc RX9 nL ret z0 l0 z1 l1) (hin : X.2.1.2.2.2.1.name = "<init>") (h : pR s a [9] 940 (some v) K = some z) (d : decode cc pc = .ok (.putfield 138, 3)) (kk : ∀ s', K s' = some z → cW X z1 l1 s' (pc + 3) lv r) : cW X z1 l1 s pc lv (.ref v :: .ref a :: r) := by
  obtain ⟨h1, h2⟩ := if_of h
  obtain ⟨c, n, ha, hc⟩ := isW_of h1
  have k := kk _ h2
  simp only [List.mem_cons, List.not_mem_nil, or_false] at hc
  rcases hc with rfl
  · exact c_putF (k := 40) (ty := (.array .int)) (p := (2, 940)) T kX9 ha rfl uR_v (fun q hq => uR_o q hq) (fun b c n hb => uR_b b c n hb) rfl rfl rfl rfl q1708 (fun _ h9 => h9) rfl hin rfl (by decide +kernel) rfl rfl d k
/-- OverFirstModel.begins0 -/
theorem cp_X9_138z {X : KC CS} {E : CE} {cc : ByteArray} {nL : Nat} {ret : Option FieldType} {z0 l0 z1 l1 : Nat} {s : CS} {pc : Nat} {lv : List (Nat × Value)} {r : List Value} {α : Type} {z : α} {a : Nat}  {K : CS → Option α} (T : cOK X E cc RX9 nL ret z0 l0 z1 l1) (hin : X.2.1.2.2.2.1.name = "<init>") (h : pR s a [9] 940 none K = some z) (d : decode cc pc = .ok (.putfield 138, 3)) (kk : ∀ s', K s' = some z → cW X z1 l1 s' (pc + 3) lv r) : cW X z1 l1 s pc lv (.null :: .ref a :: r) := by
  obtain ⟨h1, h2⟩ := if_of h
  obtain ⟨c, n, ha, hc⟩ := isW_of h1
  have k := kk _ h2
  simp only [List.mem_cons, List.not_mem_nil, or_false] at hc
  rcases hc with rfl
  · exact c_putF (k := 40) (ty := (.array .int)) (p := (2, 940)) T kX9 ha rfl uR_v (fun q hq => uR_o q hq) (fun b c n hb => uR_b b c n hb) rfl rfl rfl rfl q1708 (fun _ h9 => h9) rfl hin rfl (by decide +kernel) rfl rfl d k
/-- OverFirstModel.begins0 -/
theorem cp_X9_138o {X : KC CS} {E : CE} {cc : ByteArray} {nL : Nat} {ret : Option FieldType} {z0 l0 z1 l1 : Nat} {s : CS} {pc : Nat} {lv : List (Nat × Value)} {r : List Value} {α : Type} {z : α} {a : Nat} {v : Option Nat} {K : CS → Option α} (T : cOK X E cc RX9 nL ret z0 l0 z1 l1) (hin : X.2.1.2.2.2.1.name = "<init>") (h : pR s a [9] 940 v K = some z) (d : decode cc pc = .ok (.putfield 138, 3)) (kk : ∀ s', K s' = some z → cW X z1 l1 s' (pc + 3) lv r) : cW X z1 l1 s pc lv (va_rf v :: .ref a :: r) := by
  obtain ⟨h1, h2⟩ := if_of h
  obtain ⟨c, n, ha, hc⟩ := isW_of h1
  have k := kk _ h2
  simp only [List.mem_cons, List.not_mem_nil, or_false] at hc
  rcases hc with rfl
  · exact c_putF (k := 40) (ty := (.array .int)) (p := (2, 940)) T kX9 ha rfl uR_v (fun q hq => uR_o q hq) (fun b c n hb => uR_b b c n hb) rfl rfl rfl rfl q1708 (fun _ h9 => h9) rfl hin rfl (by decide +kernel) (by cases v <;> rfl) (by cases v <;> rfl) d k
/-- OverFirstModel.bestBegins -/
theorem cp_X9_141 {X : KC CS} {E : CE} {cc : ByteArray} {nL : Nat} {ret : Option FieldType} {z0 l0 z1 l1 : Nat} {s : CS} {pc : Nat} {lv : List (Nat × Value)} {r : List Value} {α : Type} {z : α} {a : Nat} {v : Nat} {K : CS → Option α} (T : cOK X E cc RX9 nL ret z0 l0 z1 l1) (hin : X.2.1.2.2.2.1.name = "<init>") (h : pR s a [9] 941 (some v) K = some z) (d : decode cc pc = .ok (.putfield 141, 3)) (kk : ∀ s', K s' = some z → cW X z1 l1 s' (pc + 3) lv r) : cW X z1 l1 s pc lv (.ref v :: .ref a :: r) := by
  obtain ⟨h1, h2⟩ := if_of h
  obtain ⟨c, n, ha, hc⟩ := isW_of h1
  have k := kk _ h2
  simp only [List.mem_cons, List.not_mem_nil, or_false] at hc
  rcases hc with rfl
  · exact c_putF (k := 41) (ty := (.array .int)) (p := (2, 941)) T kX9 ha rfl uR_v (fun q hq => uR_o q hq) (fun b c n hb => uR_b b c n hb) rfl rfl rfl rfl q1709 (fun _ h9 => h9) rfl hin rfl (by decide +kernel) rfl rfl d k
/-- OverFirstModel.bestBegins -/
theorem cp_X9_141z {X : KC CS} {E : CE} {cc : ByteArray} {nL : Nat} {ret : Option FieldType} {z0 l0 z1 l1 : Nat} {s : CS} {pc : Nat} {lv : List (Nat × Value)} {r : List Value} {α : Type} {z : α} {a : Nat}  {K : CS → Option α} (T : cOK X E cc RX9 nL ret z0 l0 z1 l1) (hin : X.2.1.2.2.2.1.name = "<init>") (h : pR s a [9] 941 none K = some z) (d : decode cc pc = .ok (.putfield 141, 3)) (kk : ∀ s', K s' = some z → cW X z1 l1 s' (pc + 3) lv r) : cW X z1 l1 s pc lv (.null :: .ref a :: r) := by
  obtain ⟨h1, h2⟩ := if_of h
  obtain ⟨c, n, ha, hc⟩ := isW_of h1
  have k := kk _ h2
  simp only [List.mem_cons, List.not_mem_nil, or_false] at hc
  rcases hc with rfl
  · exact c_putF (k := 41) (ty := (.array .int)) (p := (2, 941)) T kX9 ha rfl uR_v (fun q hq => uR_o q hq) (fun b c n hb => uR_b b c n hb) rfl rfl rfl rfl q1709 (fun _ h9 => h9) rfl hin rfl (by decide +kernel) rfl rfl d k
/-- OverFirstModel.bestBegins -/
theorem cp_X9_141o {X : KC CS} {E : CE} {cc : ByteArray} {nL : Nat} {ret : Option FieldType} {z0 l0 z1 l1 : Nat} {s : CS} {pc : Nat} {lv : List (Nat × Value)} {r : List Value} {α : Type} {z : α} {a : Nat} {v : Option Nat} {K : CS → Option α} (T : cOK X E cc RX9 nL ret z0 l0 z1 l1) (hin : X.2.1.2.2.2.1.name = "<init>") (h : pR s a [9] 941 v K = some z) (d : decode cc pc = .ok (.putfield 141, 3)) (kk : ∀ s', K s' = some z → cW X z1 l1 s' (pc + 3) lv r) : cW X z1 l1 s pc lv (va_rf v :: .ref a :: r) := by
  obtain ⟨h1, h2⟩ := if_of h
  obtain ⟨c, n, ha, hc⟩ := isW_of h1
  have k := kk _ h2
  simp only [List.mem_cons, List.not_mem_nil, or_false] at hc
  rcases hc with rfl
  · exact c_putF (k := 41) (ty := (.array .int)) (p := (2, 941)) T kX9 ha rfl uR_v (fun q hq => uR_o q hq) (fun b c n hb => uR_b b c n hb) rfl rfl rfl rfl q1709 (fun _ h9 => h9) rfl hin rfl (by decide +kernel) (by cases v <;> rfl) (by cases v <;> rfl) d k
/-- OverFirstModel.standsAt -/
theorem cp_X9_144 {X : KC CS} {E : CE} {cc : ByteArray} {nL : Nat} {ret : Option FieldType} {z0 l0 z1 l1 : Nat} {s : CS} {pc : Nat} {lv : List (Nat × Value)} {r : List Value} {α : Type} {z : α} {a : Nat} {v : Nat} {K : CS → Option α} (T : cOK X E cc RX9 nL ret z0 l0 z1 l1) (hin : X.2.1.2.2.2.1.name = "<init>") (h : pR s a [9] 947 (some v) K = some z) (d : decode cc pc = .ok (.putfield 144, 3)) (kk : ∀ s', K s' = some z → cW X z1 l1 s' (pc + 3) lv r) : cW X z1 l1 s pc lv (.ref v :: .ref a :: r) := by
  obtain ⟨h1, h2⟩ := if_of h
  obtain ⟨c, n, ha, hc⟩ := isW_of h1
  have k := kk _ h2
  simp only [List.mem_cons, List.not_mem_nil, or_false] at hc
  rcases hc with rfl
  · exact c_putF (k := 47) (ty := (.array .int)) (p := (2, 947)) T kX9 ha rfl uR_v (fun q hq => uR_o q hq) (fun b c n hb => uR_b b c n hb) rfl rfl rfl rfl q1715 (fun _ h9 => h9) rfl hin rfl (by decide +kernel) rfl rfl d k
/-- OverFirstModel.standsAt -/
theorem cp_X9_144z {X : KC CS} {E : CE} {cc : ByteArray} {nL : Nat} {ret : Option FieldType} {z0 l0 z1 l1 : Nat} {s : CS} {pc : Nat} {lv : List (Nat × Value)} {r : List Value} {α : Type} {z : α} {a : Nat}  {K : CS → Option α} (T : cOK X E cc RX9 nL ret z0 l0 z1 l1) (hin : X.2.1.2.2.2.1.name = "<init>") (h : pR s a [9] 947 none K = some z) (d : decode cc pc = .ok (.putfield 144, 3)) (kk : ∀ s', K s' = some z → cW X z1 l1 s' (pc + 3) lv r) : cW X z1 l1 s pc lv (.null :: .ref a :: r) := by
  obtain ⟨h1, h2⟩ := if_of h
  obtain ⟨c, n, ha, hc⟩ := isW_of h1
  have k := kk _ h2
  simp only [List.mem_cons, List.not_mem_nil, or_false] at hc
  rcases hc with rfl
  · exact c_putF (k := 47) (ty := (.array .int)) (p := (2, 947)) T kX9 ha rfl uR_v (fun q hq => uR_o q hq) (fun b c n hb => uR_b b c n hb) rfl rfl rfl rfl q1715 (fun _ h9 => h9) rfl hin rfl (by decide +kernel) rfl rfl d k
/-- OverFirstModel.standsAt -/
theorem cp_X9_144o {X : KC CS} {E : CE} {cc : ByteArray} {nL : Nat} {ret : Option FieldType} {z0 l0 z1 l1 : Nat} {s : CS} {pc : Nat} {lv : List (Nat × Value)} {r : List Value} {α : Type} {z : α} {a : Nat} {v : Option Nat} {K : CS → Option α} (T : cOK X E cc RX9 nL ret z0 l0 z1 l1) (hin : X.2.1.2.2.2.1.name = "<init>") (h : pR s a [9] 947 v K = some z) (d : decode cc pc = .ok (.putfield 144, 3)) (kk : ∀ s', K s' = some z → cW X z1 l1 s' (pc + 3) lv r) : cW X z1 l1 s pc lv (va_rf v :: .ref a :: r) := by
  obtain ⟨h1, h2⟩ := if_of h
  obtain ⟨c, n, ha, hc⟩ := isW_of h1
  have k := kk _ h2
  simp only [List.mem_cons, List.not_mem_nil, or_false] at hc
  rcases hc with rfl
  · exact c_putF (k := 47) (ty := (.array .int)) (p := (2, 947)) T kX9 ha rfl uR_v (fun q hq => uR_o q hq) (fun b c n hb => uR_b b c n hb) rfl rfl rfl rfl q1715 (fun _ h9 => h9) rfl hin rfl (by decide +kernel) (by cases v <;> rfl) (by cases v <;> rfl) d k
/-- OverFirstModel.undos -/
theorem cp_X9_319 {X : KC CS} {E : CE} {cc : ByteArray} {nL : Nat} {ret : Option FieldType} {z0 l0 z1 l1 : Nat} {s : CS} {pc : Nat} {lv : List (Nat × Value)} {r : List Value} {α : Type} {z : α} {a : Nat} {v : Int32} {K : CS → Option α} (T : cOK X E cc RX9 nL ret z0 l0 z1 l1) (h : pI s a [9] 920 v K = some z) (d : decode cc pc = .ok (.putfield 319, 3)) (kk : ∀ s', K s' = some z → cW X z1 l1 s' (pc + 3) lv r) : cW X z1 l1 s pc lv (.int v :: .ref a :: r) := by
  obtain ⟨h1, h2⟩ := if_of h
  obtain ⟨c, n, ha, hc⟩ := isW_of h1
  have k := kk _ h2
  simp only [List.mem_cons, List.not_mem_nil, or_false] at hc
  rcases hc with rfl
  · exact c_put (k := 20) (ty := .int) (p := (0, 920)) T kX9 ha rfl uI_v (fun q hq => uI_o q hq) (fun b c n hb => uI_b b c n hb) rfl rfl rfl rfl q1688 (fun _ h9 => h9) rfl (by decide +kernel) rfl rfl d k
/-- OverFirstModel.version -/
theorem cp_X9_322 {X : KC CS} {E : CE} {cc : ByteArray} {nL : Nat} {ret : Option FieldType} {z0 l0 z1 l1 : Nat} {s : CS} {pc : Nat} {lv : List (Nat × Value)} {r : List Value} {α : Type} {z : α} {a : Nat} {v : Int32} {K : CS → Option α} (T : cOK X E cc RX9 nL ret z0 l0 z1 l1) (h : pI s a [9] 922 v K = some z) (d : decode cc pc = .ok (.putfield 322, 3)) (kk : ∀ s', K s' = some z → cW X z1 l1 s' (pc + 3) lv r) : cW X z1 l1 s pc lv (.int v :: .ref a :: r) := by
  obtain ⟨h1, h2⟩ := if_of h
  obtain ⟨c, n, ha, hc⟩ := isW_of h1
  have k := kk _ h2
  simp only [List.mem_cons, List.not_mem_nil, or_false] at hc
  rcases hc with rfl
  · exact c_put (k := 22) (ty := .int) (p := (0, 922)) T kX9 ha rfl uI_v (fun q hq => uI_o q hq) (fun b c n hb => uI_b b c n hb) rfl rfl rfl rfl q1690 (fun _ h9 => h9) rfl (by decide +kernel) rfl rfl d k
theorem cc_J6_10 {X : KC CS} {E : CE} {cc : ByteArray} {nL : Nat} {ret : Option FieldType} {z0 l0 z1 l1 : Nat} {s : CS} {pc : Nat} {lv : List (Nat × Value)} {r : List Value} {a : Nat} (T : cOK X E cc RJ6 nL ret z0 l0 z1 l1) (hg : isK s a [23, 25] = true) (d : decode cc pc = .ok (.checkcast 10, 3)) (kk : kW X s (pc + 3) lv (.ref a :: r)) : kW X s pc lv (.ref a :: r) := by
  obtain ⟨w, c, n, hb, hc⟩ := isK_of hg
  intro H q cells slots ls hr hl
  have hr2 := hr
  rw [T.2.1] at hr2
  simp only [List.mem_cons, List.not_mem_nil, or_false] at hc
  rcases hc with rfl | rfl
  · exact va_castS (nm := "java/lang/String") T.1.1 T.1.2.1 T.1.2.2.1 (T.1.2.2.2.2 _ q1085) (T.2.2.1.1 23 _ rfl).2 (c_recv T kJ6 hr2.1 hb) d (kk H q cells slots ls hr hl)
  · exact va_castS (nm := "java/lang/String") T.1.1 T.1.2.1 T.1.2.2.1 (T.1.2.2.2.2 _ q1085) (T.2.2.1.1 25 _ rfl).2 (c_recv T kJ6c hr2.1 hb) d (kk H q cells slots ls hr hl)
theorem cc_X0_252 {X : KC CS} {E : CE} {cc : ByteArray} {nL : Nat} {ret : Option FieldType} {z0 l0 z1 l1 : Nat} {s : CS} {pc : Nat} {lv : List (Nat × Value)} {r : List Value} {a : Nat} (T : cOK X E cc RX0 nL ret z0 l0 z1 l1) (hg : isK s a [4, 5, 6, 16] = true) (d : decode cc pc = .ok (.checkcast 252, 3)) (kk : kW X s (pc + 3) lv (.ref a :: r)) : kW X s pc lv (.ref a :: r) := by
  obtain ⟨w, c, n, hb, hc⟩ := isK_of hg
  intro H q cells slots ls hr hl
  have hr2 := hr
  rw [T.2.1] at hr2
  simp only [List.mem_cons, List.not_mem_nil, or_false] at hc
  rcases hc with rfl | rfl | rfl | rfl
  · exact va_castY (C := "OverFirst$First") (nm := "OverFirst$Goer") T.1.1 T.1.2.1 T.1.2.2.1 (T.1.2.2.2.2 _ q1338) (T.2.2.2.1.2.2.2.1 _ _ q2256) (c_recv T kX4 hr2.1 hb) d (kk H q cells slots ls hr hl)
  · exact va_castY (C := "OverFirst$Green") (nm := "OverFirst$Goer") T.1.1 T.1.2.1 T.1.2.2.1 (T.1.2.2.2.2 _ q1338) (T.2.2.2.1.2.2.2.1 _ _ q2257) (c_recv T kX5 hr2.1 hb) d (kk H q cells slots ls hr hl)
  · exact va_castY (C := "OverFirst$Best") (nm := "OverFirst$Goer") T.1.1 T.1.2.1 T.1.2.2.1 (T.1.2.2.2.2 _ q1338) (T.2.2.2.1.2.2.2.1 _ _ q2255) (c_recv T kX6 hr2.1 hb) d (kk H q cells slots ls hr hl)
  · exact va_castY (C := "OverFirst$Ruled") (nm := "OverFirst$Goer") T.1.1 T.1.2.1 T.1.2.2.1 (T.1.2.2.2.2 _ q1338) (T.2.2.2.1.2.2.2.1 _ _ q2258) (c_recv T kX16 hr2.1 hb) d (kk H q cells slots ls hr hl)
theorem cc_X1_51 {X : KC CS} {E : CE} {cc : ByteArray} {nL : Nat} {ret : Option FieldType} {z0 l0 z1 l1 : Nat} {s : CS} {pc : Nat} {lv : List (Nat × Value)} {r : List Value} {a : Nat} (T : cOK X E cc RX1 nL ret z0 l0 z1 l1) (hg : isK s a [23, 25] = true) (d : decode cc pc = .ok (.checkcast 51, 3)) (kk : kW X s (pc + 3) lv (.ref a :: r)) : kW X s pc lv (.ref a :: r) := by
  obtain ⟨w, c, n, hb, hc⟩ := isK_of hg
  intro H q cells slots ls hr hl
  have hr2 := hr
  rw [T.2.1] at hr2
  simp only [List.mem_cons, List.not_mem_nil, or_false] at hc
  rcases hc with rfl | rfl
  · exact va_castS (nm := "java/lang/String") T.1.1 T.1.2.1 T.1.2.2.1 (T.1.2.2.2.2 _ q1080) (T.2.2.1.1 23 _ rfl).2 (c_recv T kJ6 hr2.1 hb) d (kk H q cells slots ls hr hl)
  · exact va_castS (nm := "java/lang/String") T.1.1 T.1.2.1 T.1.2.2.1 (T.1.2.2.2.2 _ q1080) (T.2.2.1.1 25 _ rfl).2 (c_recv T kJ6c hr2.1 hb) d (kk H q cells slots ls hr hl)
