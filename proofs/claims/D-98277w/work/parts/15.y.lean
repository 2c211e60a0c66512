/-! THE COMPONENT: comparing references, instanceof String, System.arraycopy, byte[].clone, getClass and the class constant of Object[] -/
set_option maxRecDepth 100000
def uAr (s : CS) (a : Nat) (f : Nat → Int32) : CS := (s.1, s.2.1, s.2.2.1, s.2.2.2.1, up1 s.2.2.2.2.1 a f, s.2.2.2.2.2)
def uQr (s : CS) (a : Nat) (f : Nat → Option Nat) : CS := (s.1, s.2.1, s.2.2.1, s.2.2.2.1, s.2.2.2.2.1, s.2.2.2.2.2.1, up1 s.2.2.2.2.2.2.1 a f, s.2.2.2.2.2.2.2)
/-- two arrays of a type, and the bounds of a copy -/
def cpG (s : CS) (c src : Nat) (sp : Int32) (dst : Nat) (dp n : Int32) : Bool := match s.1 src, s.1 dst with
  | some (w0, c0, n0), some (w1, c1, n1) => w0 && w1 && (c0 == c) && (c1 == c) && decide (¬ sp < 0 ∧ ¬ dp < 0 ∧ ¬ n < 0 ∧ sp.toNatClampNeg + n.toNatClampNeg ≤ n0 ∧ dp.toNatClampNeg + n.toNatClampNeg ≤ n1)
  | _, _ => false
theorem cpG_of {s : CS} {c src : Nat} {sp : Int32} {dst : Nat} {dp n : Int32} (h : cpG s c src sp dst dp n = true) : ∃ n0 n1, s.1 src = some (true, c, n0) ∧ s.1 dst = some (true, c, n1) ∧ ¬ sp < 0 ∧ ¬ dp < 0 ∧ ¬ n < 0 ∧ sp.toNatClampNeg + n.toNatClampNeg ≤ n0 ∧ dp.toNatClampNeg + n.toNatClampNeg ≤ n1 := by
  unfold cpG at h
  cases q0 : s.1 src with
  | none => rw [q0] at h; cases h
  | some x0 =>
    cases q1 : s.1 dst with
    | none => rw [q0, q1] at h; cases h
    | some x1 =>
      obtain ⟨w0, c0, n0⟩ := x0
      obtain ⟨w1, c1, n1⟩ := x1
      rw [q0, q1] at h
      simp only [Bool.and_eq_true, decide_eq_true_eq] at h
      obtain ⟨⟨⟨⟨h1, h2⟩, h3⟩, h4⟩, h5⟩ := h
      have h1 : w0 = true := h1
      have h2 : w1 = true := h2
      have h3 : c0 = c := eq_of_beq h3
      have h4 : c1 = c := eq_of_beq h4
      subst h1; subst h2; subst h3; subst h4
      exact ⟨n0, n1, rfl, rfl, h5⟩
def cpB {α : Type} (s : CS) (src : Nat) (sp : Int32) (dst : Nat) (dp n : Int32) (K : CS → Option α) : Option α := if (cpG s 103 src sp dst dp n && (List.range n.toNatClampNeg).all (fun i => isyb (cA s src (sp.toNatClampNeg + i)))) = true then K (uAr s dst (va_cpy (cA s src) (cA s dst) sp.toNatClampNeg dp.toNatClampNeg n.toNatClampNeg)) else none
def cpQ {α : Type} (s : CS) (src : Nat) (sp : Int32) (dst : Nat) (dp n : Int32) (K : CS → Option α) : Option α := if (cpG s 106 src sp dst dp n && (List.range n.toNatClampNeg).all (fun i => match cQ s src (sp.toNatClampNeg + i) with | none => true | some y => isK s y [4, 5, 6, 16, 23])) = true then K (uQr s dst (va_cpy (cQ s src) (cQ s dst) sp.toNatClampNeg dp.toNatClampNeg n.toNatClampNeg)) else none
def clB {α : Type} (s : CS) (a : Nat) (K : Nat → CS → Option α) : Option α := match s.1 a with
  | some (w, c, n) => if (w && ((c == 103) && (List.range n).all (fun i => isyb (cA s a i)))) = true then K (cz s) (uAr (uN s 103 n n) (cz s) (cA s a)) else none
  | none => none
section CY
variable {S : Type} {X : KC S} {cc : ByteArray} {own : String} {nL : Nat} {τ : S} {pc : Nat} {lv lv' : List (Nat × Value)} {r : List Value} {α : Type} {z : α}
theorem k_acmp_eq {rx ry : Option Nat} {off : Int} {tgt : Nat} {A B : Option α} (hX : kOK X cc own nL) (h : (if rx = ry then A else B) = some z) (d : decode cc pc = .ok (.if_acmp .eq off, 3)) (ht : (pc : Int) + off = (tgt : Int)) (kt : A = some z → kW X τ tgt lv r) (kf : B = some z → kW X τ (pc + 3) lv r) : kW X τ pc lv (va_rf ry :: va_rf rx :: r) := fun H q a b ls hR hl => lv_acmp_eq hX.1 hX.2.1 d ht (fun c => kt (ite_t c h) H q a b ls hR hl) (fun c => kf (ite_f c h) H q a b ls hR hl)
theorem k_acmp_ne {rx ry : Option Nat} {off : Int} {tgt : Nat} {A B : Option α} (hX : kOK X cc own nL) (h : (if rx = ry then A else B) = some z) (d : decode cc pc = .ok (.if_acmp .ne off, 3)) (ht : (pc : Int) + off = (tgt : Int)) (kt : B = some z → kW X τ tgt lv r) (kf : A = some z → kW X τ (pc + 3) lv r) : kW X τ pc lv (va_rf ry :: va_rf rx :: r) := fun H q a b ls hR hl => lv_acmp_ne hX.1 hX.2.1 d ht (fun c => kt (ite_f c h) H q a b ls hR hl) (fun c => kf (ite_t c h) H q a b ls hR hl)
end CY
section CZ
variable {X : KC CS} {E : CE} {cc : ByteArray} {own : String} {nL : Nat} {ret : Option FieldType} {z0 l0 z1 l1 : Nat} {s s' : CS} {pc : Nat} {lv : List (Nat × Value)} {r : List Value} {α : Type} {z : α} {a : Nat}
theorem c_instS {idx : Nat} (T : cOK X E cc own nL ret z0 l0 z1 l1) (hg : isK s a [23, 25] = true) (hq : Cond.classLink own idx "java/lang/String" ∈ lw_all) (d : decode cc pc = .ok (.instanceof idx, 3)) (kk : kW X s (pc + 3) lv (.int 1 :: r)) : kW X s pc lv (.ref a :: r) := by
  obtain ⟨w, c, n, hb, hc⟩ := isK_of hg
  intro H q cells slots ls hr hl
  have hr2 := hr
  rw [T.2.1] at hr2
  simp only [List.mem_cons, List.not_mem_nil, or_false] at hc
  rcases hc with rfl | rfl
  · exact va_instS T.1.1 T.1.2.1 T.1.2.2.1 (T.1.2.2.2.2 _ hq) (T.2.2.1.1 23 _ rfl).2 (c_recv T kJ6 hr2.1 hb) d (kk H q cells slots ls hr hl)
  · exact va_instS T.1.1 T.1.2.1 T.1.2.2.1 (T.1.2.2.2.2 _ hq) (T.2.2.1.1 25 _ rfl).2 (c_recv T kJ6c hr2.1 hb) d (kk H q cells slots ls hr hl)
theorem uAr_b {f : Nat → Int32} {dA : Nat → ClassId} (b c n : Nat) (h : b ≠ a) : cE dA (uAr s a f) b c n = cE dA s b c n := by
  unfold cE uAr up1
  simp only [h, if_false]
  rfl
theorem uQr_b {f : Nat → Option Nat} {dA : Nat → ClassId} (b c n : Nat) (h : b ≠ a) : cE dA (uQr s a f) b c n = cE dA s b c n := by
  unfold cE uQr up1
  simp only [h, if_false]
  rfl
theorem c_cpB {F L index src dst : Nat} {sp dp n : Int32} {K : CS → Option α} (hq : Cond.methodLink own index arraycopyName ∈ lw_all) (hR : cRoom X F L) (hF : (Nat.ble 1 F && Nat.ble 60 L && Nat.ble (r.map Value.category).sum 8) = true) (T : cOK X E cc own nL ret z0 l0 z1 l1) (h : cpB s src sp dst dp n K = some z) (d : decode cc pc = .ok (.invokestatic index, 3)) (kk : ∀ s', K s' = some z → cW X z1 l1 s' (pc + 3) lv r) : cW X z1 l1 s pc lv (.int n :: .int dp :: .ref dst :: .int sp :: .ref src :: r) := by
  simp only [Bool.and_eq_true] at hF
  have h1 := Nat.le_of_ble_eq_true hF.1.1
  have h2 := Nat.le_of_ble_eq_true hF.1.2
  have h3 : (List.map (fun v => v.category) r).sum ≤ 8 := Nat.le_of_ble_eq_true hF.2
  have h4 := hR.1
  have h5 := hR.2
  obtain ⟨g, h⟩ := if_of h
  obtain ⟨g1, g2⟩ := Bool.and_eq_true_iff.mp g
  obtain ⟨n0, n1, q0, q1, b1, b2, b3, b4, b5⟩ := cpG_of g1
  have k := kk _ h
  refine ⟨k.1, k.2.1, ?_⟩
  intro H locs cells slots ls hr hl
  rw [T.2.1] at hr
  obtain ⟨j0, hj0⟩ := cWs_ix hr.1 q0
  obtain ⟨j1, hj1⟩ := cWs_ix hr.1 q1
  have hw : nativeFrameWords "java/lang/System" "arraycopy" 5 ≤ 20 := by decide
  refine va_copyi T.1.1 T.1.2.1 hl.1.symm T.1.2.2.1 (T.1.2.2.2.2 _ hq) (T.1.2.2.2.2 _ q334) (T.1.2.2.2.2 _ q333) (T.1.2.2.2.2 _ q147) T.2.2.1 (cWs_P hr.1) (cWs_D hr.1) hr.2.1.self j0 j1 3 3 hj0 hj1 rfl rfl rfl b1 b2 b3 b4 b5 (fun i hi => isyb_fit (List.all_eq_true.mp g2 i (List.mem_range.mpr hi))) (by omega) (by omega) d (fun H1 l1' p1 d1 s1 => w_sz (fun hsz => ?_))
  refine k.2.2 H1 l1' cells slots ls ?_ hl
  rw [T.2.1]
  refine cRel_put T hr q1 hj1 rfl rfl rfl (fun b c n hb => uAr_b b c n hb) ?_ s1 hsz
  have e : cE E.2.2.1 (uAr s dst (va_cpy (cA s src) (cA s dst) sp.toNatClampNeg dp.toNatClampNeg n.toNatClampNeg)) dst 103 n1 = .inl (E.2.2.1 3, n1, .inl (va_cpy (cA s src) (cA s dst) sp.toNatClampNeg dp.toNatClampNeg n.toNatClampNeg)) := by
    simp [cE, uAr, up1]
  rw [e]
  exact p1
theorem c_any {y ci n' : Nat} (h25 : ci ≠ 25) {w : Bool} {C : String} {T0 : u_T} {N : Nat} {ty0 : Nat → FieldType} {U : State} {H : Heap} (T : cOK X E cc own nL ret z0 l0 z1 l1) (hc : cCls ci C T0 N ty0) (hr : cHp E U s H) (hv : s.1 y = some (w, ci, n')) (hca : Cond.castable C "java/lang/Object" ∈ lw_tbl) : va_Any "java/lang/Object" X.1.2.2.2.2 H y := by
  have hP := c_at hr hv (Or.inr ⟨by have := hc.2.2.2.2.2.2; omega, h25⟩)
  rw [cE_o hc.2.2.2.2.2.2] at hP
  refine va_rAny T.2.2.1 hP (q0 := 0) rfl hc.1 (fun comp c0 e1 e2 => ?_)
  obtain ⟨c1, t1, f1, f2, f3⟩ := Cond.castable_spec (va_Nw.use (A := X.2.1.2.1) rfl (T.2.2.2.1.2.2.2.1 _ _ hca))
  cases e1.symm.trans f2
  cases e2.symm.trans f1
  exact f3
theorem c_cpQ {F L index src dst : Nat} {sp dp n : Int32} {K : CS → Option α} (hq : Cond.methodLink own index arraycopyName ∈ lw_all) (hR : cRoom X F L) (hF : (Nat.ble 1 F && Nat.ble 60 L && Nat.ble (r.map Value.category).sum 8) = true) (T : cOK X E cc own nL ret z0 l0 z1 l1) (h : cpQ s src sp dst dp n K = some z) (d : decode cc pc = .ok (.invokestatic index, 3)) (kk : ∀ s', K s' = some z → cW X z1 l1 s' (pc + 3) lv r) : cW X z1 l1 s pc lv (.int n :: .int dp :: .ref dst :: .int sp :: .ref src :: r) := by
  simp only [Bool.and_eq_true] at hF
  have h1 := Nat.le_of_ble_eq_true hF.1.1
  have h2 := Nat.le_of_ble_eq_true hF.1.2
  have h3 : (List.map (fun v => v.category) r).sum ≤ 8 := Nat.le_of_ble_eq_true hF.2
  have h4 := hR.1
  have h5 := hR.2
  obtain ⟨g, h⟩ := if_of h
  obtain ⟨g1, g2⟩ := Bool.and_eq_true_iff.mp g
  obtain ⟨n0, n1, q0, q1, b1, b2, b3, b4, b5⟩ := cpG_of g1
  have k := kk _ h
  refine ⟨k.1, k.2.1, ?_⟩
  intro H locs cells slots ls hr hl
  rw [T.2.1] at hr
  obtain ⟨j0, hj0⟩ := cWs_ix hr.1 q0
  obtain ⟨j1, hj1⟩ := cWs_ix hr.1 q1
  have e0 : cE E.2.2.1 s src 106 n0 = .inl (E.2.2.1 6, n0, .inr (.inr (.inr (.inr (cQ s src))))) := by simp [cE, cQ]
  have e1 : cE E.2.2.1 s dst 106 n1 = .inl (E.2.2.1 6, n1, .inr (.inr (.inr (.inr (cQ s dst))))) := by simp [cE, cQ]
  have hw : nativeFrameWords "java/lang/System" "arraycopy" 5 ≤ 20 := by decide
  refine va_copyM T.1.1 T.1.2.1 hl.1.symm T.1.2.2.1 (T.1.2.2.2.2 _ hq) (T.1.2.2.2.2 _ q334) (T.1.2.2.2.2 _ q333) (T.1.2.2.2.2 _ q147) T.2.2.1 (cWs_P hr.1) (cWs_D hr.1) hr.2.1.self j0 j1 6 6 (E0 := "java/lang/Object") (E1 := "java/lang/Object") (by rw [hj0, e0]) (by rw [hj1, e1]) rfl rfl b1 b2 b3 b4 b5 (fun i hi y hy => ?_) (by omega) (by omega) d (fun H1 l1' p1 d1 s1 => w_sz (fun hsz => ?_))
  · have g3 := List.all_eq_true.mp g2 i (List.mem_range.mpr hi)
    rw [hy] at g3
    obtain ⟨w, c, n', hb, hc⟩ := isK_of g3
    simp only [List.mem_cons, List.not_mem_nil, or_false] at hc
    rcases hc with rfl | rfl | rfl | rfl | rfl
    · exact c_any (by decide) T kX4 hr.1 hb q2265
    · exact c_any (by decide) T kX5 hr.1 hb q2266
    · exact c_any (by decide) T kX6 hr.1 hb q2267
    · exact c_any (by decide) T kX16 hr.1 hb q2277
    · exact c_any (by decide) T kJ6 hr.1 hb q2276
  refine k.2.2 H1 l1' cells slots ls ?_ hl
  rw [T.2.1]
  refine cRel_put T hr q1 hj1 rfl rfl rfl (fun b c n hb => uQr_b b c n hb) ?_ s1 hsz
  have e : cE E.2.2.1 (uQr s dst (va_cpy (cQ s src) (cQ s dst) sp.toNatClampNeg dp.toNatClampNeg n.toNatClampNeg)) dst 106 n1 = .inl (E.2.2.1 6, n1, .inr (.inr (.inr (.inr (va_cpy (cQ s src) (cQ s dst) sp.toNatClampNeg dp.toNatClampNeg n.toNatClampNeg))))) := by
    simp [cE, uQr, up1]
  rw [e]
  exact p1
theorem c_castB {idx : Nat} (T : cOK X E cc own nL ret z0 l0 z1 l1) (hg : isW s a [103] = true) (hq : Cond.classLink own idx "[B" ∈ lw_all) (d : decode cc pc = .ok (.checkcast idx, 3)) (kk : kW X s (pc + 3) lv (.ref a :: r)) : kW X s pc lv (.ref a :: r) := by
  obtain ⟨c, n, hb, hc⟩ := isW_of hg
  simp only [List.mem_cons, List.not_mem_nil, or_false] at hc
  subst hc
  intro H q cells slots ls hr hl
  have hr2 := hr
  rw [T.2.1] at hr2
  have hP := c_at hr2.1 hb (Or.inl rfl)
  have e : cE E.2.2.1 s a 103 n = .inl (E.2.2.1 3, n, .inl (cA s a)) := by simp [cE, cA]
  rw [e] at hP
  exact va_castA T.1.1 T.1.2.1 T.1.2.2.1 (T.1.2.2.2.2 _ hq) hP 0 rfl (T.2.2.1.2 3 _ rfl).2 d (kk H q cells slots ls hr hl)
theorem c_getC {F L idx : Nat} {mi : Nat} (hq : Cond.methodLink own idx ⟨"java/lang/Object", "getClass", "()Ljava/lang/Class;"⟩ ∈ lw_all) (hR : cRoom X F L) (hF : (Nat.ble 1 F && Nat.ble 60 L && Nat.ble (r.map Value.category).sum 8) = true) (T : cOK X E cc own nL ret z0 l0 z1 l1) (hs : E.2.2.2 3 = some mi) (hg : isW s a [106] = true) (d : decode cc pc = .ok (.invokevirtual idx, 3)) (kk : kW X s (pc + 3) lv (.ref mi :: r)) : kW X s pc lv (.ref a :: r) := by
  simp only [Bool.and_eq_true] at hF
  have h1 := Nat.le_of_ble_eq_true hF.1.1
  have h2 := Nat.le_of_ble_eq_true hF.1.2
  have h3 : (List.map (fun v => v.category) r).sum ≤ 8 := Nat.le_of_ble_eq_true hF.2
  have h4 := hR.1
  have h5 := hR.2
  obtain ⟨c, n, hb, hc⟩ := isW_of hg
  simp only [List.mem_cons, List.not_mem_nil, or_false] at hc
  subst hc
  intro H q cells slots ls hr hl
  have hr2 := hr
  rw [T.2.1] at hr2
  have hP := c_at hr2.1 hb (Or.inl rfl) 0 _ rfl
  have e : cE E.2.2.1 s a 106 n = .inl (E.2.2.1 6, n, .inr (.inr (.inr (.inr (cQ s a))))) := by simp [cE, cQ]
  rw [e] at hP
  have hM := T.2.2.2.2.2.2.2.2.2.2.2.2.2.2.1
  rw [hs] at hM
  exact va_getC (C := "[Ljava/lang/Object;") T.1.1 T.1.2.1 hl.1.symm T.1.2.2.1 (T.1.2.2.2.2 _ hq) (va_Nw.use (A := X.2.1.2.1) rfl (T.2.2.2.1.2.2.1 _ q2289)) (T.1.2.2.2.2 _ q2288) (T.1.2.2.2.2 _ q299) (T.1.2.2.2.2 _ q323) hM ⟨_, hP, rfl, va_nmO (C := "java/lang/Object") (T.2.2.1.2 6 _ rfl).2 rfl⟩ (by omega) (by omega) d (kk H q cells slots ls hr hl)
theorem k_ldcM {idx mi : Nat} (T : cOK X E cc own nL ret z0 l0 z1 l1) (hs : E.2.2.2 3 = some mi) (hq : Cond.classLink own idx "[Ljava/lang/Object;" ∈ lw_all) (d : decode cc pc = .ok (.ldc idx, 2)) (kk : kW X s (pc + 2) lv (.ref mi :: r)) : kW X s pc lv r := fun H q a b ls hR hl => by
  have hM := T.2.2.2.2.2.2.2.2.2.2.2.2.2.2.1
  rw [hs] at hM
  exact va_ldcM T.1.1 T.1.2.1 T.1.2.2.1 (T.1.2.2.2.2 _ hq) hM d (kk H q a b ls hR hl)
theorem c_clB {F L idx : Nat} {K : Nat → CS → Option α} (hq : Cond.methodLink own idx ⟨"[B", "clone", "()Ljava/lang/Object;"⟩ ∈ lw_all) (hR : cRoom X F L) (hF : (Nat.ble 1 F && Nat.ble 60 L && Nat.ble (r.map Value.category).sum 8) = true) (T : cOK X E cc own nL ret z0 l0 z1 l1) (h : clB s a K = some z) (d : decode cc pc = .ok (.invokevirtual idx, 3)) (kk : ∀ b s', K b s' = some z → cW X z1 l1 s' (pc + 3) lv (.ref b :: r)) : cW X z1 l1 s pc lv (.ref a :: r) := by
  simp only [Bool.and_eq_true] at hF
  have h1 := Nat.le_of_ble_eq_true hF.1.1
  have h2 := Nat.le_of_ble_eq_true hF.1.2
  have h3 : (List.map (fun v => v.category) r).sum ≤ 8 := Nat.le_of_ble_eq_true hF.2
  have h4 := hR.1
  have h5 := hR.2
  unfold clB at h
  cases qa : s.1 a with
  | none => rw [qa] at h; cases h
  | some x =>
  obtain ⟨w, c, n⟩ := x
  rw [qa] at h
  dsimp only at h
  by_cases g : (w && ((c == 103) && (List.range n).all (fun i => isyb (cA s a i)))) = true
  case neg => rw [if_neg g] at h; cases h
  rw [if_pos g] at h
  obtain ⟨g1, g2⟩ := Bool.and_eq_true_iff.mp g
  obtain ⟨g2, g3⟩ := Bool.and_eq_true_iff.mp g2
  have g1 : w = true := g1
  have g2 : c = 103 := eq_of_beq g2
  subst g1; subst g2
  have k := kk _ _ h
  have k1 : cz s + 1 ≤ z1 := k.1
  have k2 : cl s + n ≤ l1 := k.2.1
  refine ⟨by omega, by omega, ?_⟩
  intro H locs cells slots ls hr hl
  rw [T.2.1] at hr
  have e1 := hr.2.2.1
  have e2 := hr.2.2.2
  have e3 := T.2.2.2.2.2.2.2.1
  have e4 := T.2.2.2.2.2.2.2.2.1
  have hcell : H[a]? = some (vp_cell (E.2.2.1 3) (n, .inl (cA s a))) := by
    have hP := c_at hr.1 qa (Or.inl rfl) 0 _ rfl
    have e : cE E.2.2.1 s a 103 n = .inl (E.2.2.1 3, n, .inl (cA s a)) := by simp [cE, cA]
    rw [e] at hP
    exact hP
  have hnm : X.1.2.2.2.2.vm.findClass "[B" = some (E.2.2.1 3) := (T.2.2.1.2 3 _ rfl).2
  obtain ⟨c0, t0', f1, f2, f3⟩ := Cond.castable_spec (va_Nw.use (A := X.2.1.2.1) rfl (T.2.2.2.1.2.2.2.1 _ _ q976))
  cases hnm.symm.trans f1
  intro T1 hT X1
  have hcellT : T1.heap[a]? = some (vp_cell (E.2.2.1 3) (n, .inl (cA s a))) := by rw [hT]; exact hcell
  obtain ⟨-, kA, hkA, comp, hkind⟩ := State.isArrayOf_alike X1.warmed.alike ((T.2.2.1.2 3 _ rfl).1 0 (fun _ => .null))
  obtain ⟨-, kS, hkS, compS, hkindS⟩ := (T.2.2.1.2 3 _ rfl).1 0 (fun _ => .null)
  obtain ⟨vm', X', st⟩ := X1.cloneArray T.1.1 T.1.2.2.1 (T.1.2.2.2.2 _ hq) (T.1.2.2.2.2 _ q972) (T.1.2.2.2.2 _ q973) (T.1.2.2.2.2 _ q974) (T.1.2.2.2.2 _ q975) (a := a) (cell := vp_cell (E.2.2.1 3) (n, .inl (cA s a))) hcellT (fun k h => by cases h) (fun h => by cases h) hnm f2 f3
    (fun i v hv => by
      have hk' : T1.vm.classes[(vp_cell (E.2.2.1 3) (n, .inl (cA s a))).cls]? = some kA := hkA
      have hf : fits .byte v = true := by
        have hi : i < n := by
          have h9 := (Array.getElem?_eq_some_iff.mp hv).1
          rwa [show (vp_cell (E.2.2.1 3) (n, .inl (cA s a))).slots.size = n from arrV_size _ _ _] at h9
        have h8 : (vp_cell (E.2.2.1 3) (n, .inl (cA s a))).slots[i]? = some (.int (cA s a i)) := arrV_read _ _ hi
        rw [h8] at hv
        cases hv
        exact isyb_fit (List.all_eq_true.mp g3 i (List.mem_range.mpr hi))
      simpa [State.fitsSlot, State.slotType?, hk', hkind] using hf)
    (g := F0 X.2.1.1 pc ls (.ref a :: r)) rfl (by rw [hl.1]) rfl (by rw [T.1.2.1]; exact d) (by omega) (by show 2 * 0 + _ + 14 ≤ _; omega) (by omega) (by show slots + (vp_cell (E.2.2.1 3) (n, .inl (cA s a))).slots.size ≤ _; rw [show (vp_cell (E.2.2.1 3) (n, .inl (cA s a))).slots.size = n from arrV_size _ _ _]; omega) (hloader := Vm.clonesLoader_of_array hkS hkindS)
  generalize hH1 : H.push (vp_cell (E.2.2.1 3) (n, .inl (cA s a))) = H1
  have z1' : H1.size = H.size + 1 := by rw [← hH1, Array.size_push]
  have y1 : H1[H.size]? = some (vp_cell (E.2.2.1 3) (n, .inl (cA s a))) := by rw [← hH1, Array.getElem?_push_size]
  have o1 : ∀ q : Nat, q < H.size → H1[q]? = H[q]? := fun q hq => by rw [← hH1, Array.getElem?_push, if_neg (Nat.ne_of_lt hq)]
  have hz : H.size = cz s := hr.1.2.1
  have K9 := k.2.2 H1 locs (cells + 1) (slots + n) ls (by
    rw [T.2.1]
    obtain ⟨r1, r2, r3, r4⟩ := hr
    refine ⟨⟨fun b w c' n' hb => ?_, by rw [z1', hz]; rfl, fun b n' hb => ?_, fun b n' hb => ?_⟩, ⟨by have := r2.1; omega, fun q a b => (o1 q (Nat.lt_of_lt_of_le a r2.1)).trans (r2.2.1 q a b), r2.2.2⟩, by show cells + 1 + z0 = cz s + 1; omega, by show slots + n + l0 = cl s + n; omega⟩
    · by_cases q : b = cz s
      · subst q
        have hb : some (true, 103, n) = some (w, c', n') := by rw [← hb]; simp [uAr, uN, up1]
        cases hb
        refine ⟨Nat.lt_succ_self _, fun _ => ?_, fun _ => T.2.2.2.2.2.2.1 _ (by rw [← hz]; exact r2.1), fun h => (by cases h)⟩
        have e : cE E.2.2.1 (uAr (uN s 103 n n) (cz s) (cA s a)) (cz s) 103 n = .inl (E.2.2.1 3, n, .inl (cA s a)) := by
          simp [cE, uAr, up1]
        rw [e, ← hz]
        exact y1
      · have hb : s.1 b = some (w, c', n') := by rw [← hb]; simp [uAr, uN, up1, q]
        obtain ⟨b0, b1, b2⟩ := r1.1 b w c' n' hb
        rw [uAr_b b c' n' q, uN_b b c' n' q]
        exact ⟨Nat.lt_succ_of_lt b0, fun hw => (b1 hw).kept (o1 b (b1 hw).lt), b2⟩
    · have q : b ≠ cz s := fun e => by
        subst e
        simp [uAr, uN, up1] at hb
      have hb : s.1 b = some (false, 103, n') := by rw [← hb]; simp [uAr, uN, up1, q]
      have e : (uAr (uN s 103 n n) (cz s) (cA s a)).2.2.2.2.1 b = s.2.2.2.2.1 b := by simp [uAr, uN, up1, q]
      rw [e]
      exact (r1.2.2.1 b n' hb).kept (fun a h _ => o1 a h)
    · have q : b ≠ cz s := fun e => by
        subst e
        simp [uAr, uN, up1] at hb
      have hb : s.1 b = some (false, 25, n') := by rw [← hb]; simp [uAr, uN, up1, q]
      exact (r1.2.2.2 b n' hb).next (n := n') (by rw [uAr_b b 25 n' q, uN_b b 25 n' q]) (o1 b (by rw [hz]; exact (r1.1 b _ _ _ hb).1))) hl
  obtain ⟨t, b1, b2⟩ := K9 ((T1.setVm vm').pushCell (vp_cell (E.2.2.1 3) (n, .inl (cA s a)))) (by rw [← hH1, ← hT]; rfl) (by
    have e : (vp_cell (E.2.2.1 3) (n, .inl (cA s a))).slots.size = n := arrV_size _ _ _
    rw [e] at X'
    exact X')
  refine ⟨t, st t ?_, b2⟩
  rw [← hz] at b1
  rw [hT]
  exact b1
end CZ
/-! private methods called on an object of a subclass -/
theorem sel_priv {s : State} {A : Array Value} {C : String} {y x0 : MethodName} (hpriv : (Cond.privateMethod y).before A s = true) (hinst : (Cond.instanceMethod y).before A s = true) (h0 : (Cond.selects C x0 x0).before A s = true) (hcls : x0.cls = y.cls) (hy : y.cls ≠ "java/lang/invoke/MethodHandle" ∧ y.cls ≠ "java/lang/invoke/VarHandle") : (Cond.selects C y y).before A s = true := by
  obtain ⟨c, r, m0, f1, f2, f3, f4, k0, f5, f6⟩ := Cond.selects_spec h0
  obtain ⟨mk, methM, hnamed, hmethM, -, -⟩ := Cond.instanceMethod_spec hinst
  have hfound : s.methodFound? y.cls y.name y.desc = some mk := State.methodFound?_of_named hnamed hy
  have hcl : m0.cls = mk.cls := by
    have g1 := findClass_of_methodNamed f3
    have g2 := findClass_of_methodNamed hnamed
    rw [hcls] at g1
    exact Option.some.inj (g1.symm.trans g2)
  rw [hcl] at f5
  have hsel : selectMethod {} s.vm c mk = .method mk := selectMethod_private hmethM (Cond.privateMethod_at hpriv mk methM hnamed hmethM)
  simp only [Cond.before, Cond.holds, Cond.value, f1, hfound, hnamed, hsel, f5]
  simp
  exact f6
theorem cwP {R : Room} {s : State} {args : Array Value} {own C : String} {index : Nat} {y : MethodName} {bytes : ByteArray} {maxL : Nat} {ret : Option FieldType} {rm : Room} {mc ms : Nat} (n : Nat) (ht : ∀ w ∈ lw_all, w.before args s = true) (hc : Cond.code y bytes maxL ret ∈ lw_all) (hini : Cond.initialized y.cls ∈ lw_all) (hl : Cond.methodLink own index y ∈ lw_all) (hin : Cond.instanceMethod y ∈ lw_all) (hpriv : va_Nw (.privateMethod y) s) {x0 : MethodName} (h0 : Cond.selects C x0 x0 ∈ lw_all) (hcls : x0.cls = y.cls) (hrc : rm.cells = mc) (hrs : rm.slots = ms) (hd : y.cls ≠ "java/lang/invoke/MethodHandle" ∧ y.cls ≠ "java/lang/invoke/VarHandle" ∧ (parseMethodDescriptor y.desc).map (fun d => d.parameters.length) = some n) (hR : rm.frames + 1 ≤ R.frames ∧ 8 + (maxL + 11) + rm.locals ≤ R.locals) : CallW R s args own C index y bytes maxL ret (ws_ y bytes maxL ret) rm mc ms n := by
  have hG : GoodIn lw_all (ws_ y bytes maxL ret) := lw_meth hc
  refine ⟨⟨hrc, hrs, hR.1, hR.2, pay_in ht hG, List.mem_cons_self, ht _ hc, ht _ hini, ⟨hd.1, hd.2.1⟩, fun sig h => ?_, ht _ hl⟩, ht _ hin, sel_priv (va_Nw.use (A := args) rfl hpriv) (ht _ hin) (ht _ h0) hcls ⟨hd.1, hd.2.1⟩⟩
  have h2 := hd.2.2
  rw [h] at h2
  exact (Option.some.inj h2).symm
