/-! THE COMPONENT: contracts, calls, returns, new cells -/
set_option maxRecDepth 100000
def cRoom (X : KC CS) (F L : Nat) : Prop := F ≤ X.1.2.2.2.1.frames ∧ L ≤ X.1.2.2.2.1.locals
def cPre (E : CE) (s : CS) (U : State) : Prop := cHp E U s U.heap ∧ va_K E.1 vwCl (tysL E.2.2.1) U ∧ cNw U ∧ (∀ q, U.heap.size ≤ q → E.2.1 q) ∧ cSt E U
def cPost (E : CE) (u : CS) (t : State) : Prop := cHp E t u t.heap
/-- the method makes no fewer cells than none -/
def mz {α : Type} (s : CS) (p : α → CS) (o : Option α) : Option α := match o with
  | some z => if cz s ≤ cz (p z) ∧ cl s ≤ cl (p z) then some z else none
  | none => none
theorem mz_of {α : Type} {s : CS} {p : α → CS} {o : Option α} {z : α} (h : mz s p o = some z) : (cz s ≤ cz (p z) ∧ cl s ≤ cl (p z)) ∧ o = some z := by
  unfold mz at h
  cases o with
  | none => cases h
  | some x =>
    by_cases q : cz s ≤ cz (p x) ∧ cl s ≤ cl (p x)
    · simp only [q, and_self, if_true] at h
      cases h
      exact ⟨q, rfl⟩
    · simp only [q, if_false] at h
      cases h

def cQ_i (E : CE) (v : Int32) (s' : CS) : Array Value → State → Outcome → State → Prop := va_Qi (fun (r : Int32) (u : CS) => r = v ∧ u = s') (cPost E) E.2.1
/-- the contract of a method of the component; the state doesn't shrink -/
def cMet_i (l : Launch) (E : CE) (y : MethodName) (ws : List Cond) (F L : Nat) (As : List Value) (s : CS) (v : Int32) (s' : CS) : Prop := (cz s ≤ cz s' ∧ cl s ≤ cl s') ∧ Met l y ws ({ frames := F, cells := cz s' - cz s, slots := cl s' - cl s, locals := L }) (va_Pc As (cPre E s)) (cQ_i E v s') (cz s' - cz s) (cl s' - cl s) E.2.1
def cE_i (X : KC CS) (E : CE) (z0 l0 z1 l1 : Nat) (v : Int32) (s' : CS) : Prop := X.2.2.2 = MQ X.2.1.2.2.1 (cQ_i E v s') X.2.1.2.1 X.1.2.2.2.2 (cz s' - z0) (cl s' - l0) E.2.1 ∧ cz s' ≤ z1 ∧ cl s' ≤ l1
theorem c_met_i {l : Launch} {E : CE} {y : MethodName} {F L nL : Nat} {As : List Value} {s s' : CS} {v : Int32} {cc : ByteArray} {ret : Option FieldType} (hm : cz s ≤ cz s' ∧ cl s ≤ cl s') (hy : plainName y.cls = true) (hA : Nat.ble (lg_sl As).length nL = true) (body : ∀ X : KC CS, X.1.2.1 = l → X.2.1.2.2.2.1.name = y.name → cOK X E cc y.cls nL ret (cz s) (cl s) (cz s') (cl s') → cRoom X F L → cE_i X E (cz s) (cl s) (cz s') (cl s') v s' → cW X (cz s') (cl s') s 0 (lv_args 0 As) []) : cMet_i l E y (ws_ y cc nL ret) F L As s v s' := by
  refine ⟨hm, Met.ofW (cc := cc) (maxL := nL) (ret := ret) hy rfl ?_⟩
  intro p e u m args below meth c s₁ B hml hv
  obtain ⟨rfl, hP, hK, hN, hA1, hSt⟩ := hv
  have hts := atoms_spec (ws := ws_ y cc nL ret) B.pre
  have hts : ∀ w ∈ lw_all, w.before As.toArray u = true := fun w h => hts w (List.mem_cons_of_mem _ h)
  have hown : u.vm.findClass y.cls = some m.cls := findClass_of_methodNamed B.named
  have hl := lv_entry As (n := nL) (Nat.le_of_ble_eq_true hA)
  rw [lg_entry_eq]
  rw [← hml] at hl
  have K := body ((p, l, e, (headSpec (ws_ y cc nL ret) { frames := F, cells := cz s' - cz s, slots := cl s' - cl s, locals := L }).room, u), (m, As.toArray, below, meth, c), cRel E u (cz s) (cl s), MQ below (cQ_i E v s') As.toArray u (cz s' - cz s) (cl s' - cl s) E.2.1) rfl ((name_of_methodNamed B.named B.method).1) ⟨⟨B.exec, B.bytes, hown, hml, hts⟩, rfl, hK, hN, B.returns, B.notSynchronized, hA1, by show cz s' - cz s + cz s = cz s'; omega, by show cl s' - cl s + cl s = cl s'; omega, hP.2.1, hSt⟩ ⟨Nat.le_refl _, Nat.le_refl _⟩ ⟨rfl, Nat.le_refl _, Nat.le_refl _⟩
  rw [← hml]
  exact K.2.2 u.heap [] 0 0 _ ⟨hP, va_S.rf, by omega, by omega⟩ hl
def cQ_l (E : CE) (v : Int64) (s' : CS) : Array Value → State → Outcome → State → Prop := va_Ql (fun (r : Int64) (u : CS) => r = v ∧ u = s') (cPost E) E.2.1
/-- the contract of a method of the component; the state doesn't shrink -/
def cMet_l (l : Launch) (E : CE) (y : MethodName) (ws : List Cond) (F L : Nat) (As : List Value) (s : CS) (v : Int64) (s' : CS) : Prop := (cz s ≤ cz s' ∧ cl s ≤ cl s') ∧ Met l y ws ({ frames := F, cells := cz s' - cz s, slots := cl s' - cl s, locals := L }) (va_Pc As (cPre E s)) (cQ_l E v s') (cz s' - cz s) (cl s' - cl s) E.2.1
def cE_l (X : KC CS) (E : CE) (z0 l0 z1 l1 : Nat) (v : Int64) (s' : CS) : Prop := X.2.2.2 = MQ X.2.1.2.2.1 (cQ_l E v s') X.2.1.2.1 X.1.2.2.2.2 (cz s' - z0) (cl s' - l0) E.2.1 ∧ cz s' ≤ z1 ∧ cl s' ≤ l1
theorem c_met_l {l : Launch} {E : CE} {y : MethodName} {F L nL : Nat} {As : List Value} {s s' : CS} {v : Int64} {cc : ByteArray} {ret : Option FieldType} (hm : cz s ≤ cz s' ∧ cl s ≤ cl s') (hy : plainName y.cls = true) (hA : Nat.ble (lg_sl As).length nL = true) (body : ∀ X : KC CS, X.1.2.1 = l → X.2.1.2.2.2.1.name = y.name → cOK X E cc y.cls nL ret (cz s) (cl s) (cz s') (cl s') → cRoom X F L → cE_l X E (cz s) (cl s) (cz s') (cl s') v s' → cW X (cz s') (cl s') s 0 (lv_args 0 As) []) : cMet_l l E y (ws_ y cc nL ret) F L As s v s' := by
  refine ⟨hm, Met.ofW (cc := cc) (maxL := nL) (ret := ret) hy rfl ?_⟩
  intro p e u m args below meth c s₁ B hml hv
  obtain ⟨rfl, hP, hK, hN, hA1, hSt⟩ := hv
  have hts := atoms_spec (ws := ws_ y cc nL ret) B.pre
  have hts : ∀ w ∈ lw_all, w.before As.toArray u = true := fun w h => hts w (List.mem_cons_of_mem _ h)
  have hown : u.vm.findClass y.cls = some m.cls := findClass_of_methodNamed B.named
  have hl := lv_entry As (n := nL) (Nat.le_of_ble_eq_true hA)
  rw [lg_entry_eq]
  rw [← hml] at hl
  have K := body ((p, l, e, (headSpec (ws_ y cc nL ret) { frames := F, cells := cz s' - cz s, slots := cl s' - cl s, locals := L }).room, u), (m, As.toArray, below, meth, c), cRel E u (cz s) (cl s), MQ below (cQ_l E v s') As.toArray u (cz s' - cz s) (cl s' - cl s) E.2.1) rfl ((name_of_methodNamed B.named B.method).1) ⟨⟨B.exec, B.bytes, hown, hml, hts⟩, rfl, hK, hN, B.returns, B.notSynchronized, hA1, by show cz s' - cz s + cz s = cz s'; omega, by show cl s' - cl s + cl s = cl s'; omega, hP.2.1, hSt⟩ ⟨Nat.le_refl _, Nat.le_refl _⟩ ⟨rfl, Nat.le_refl _, Nat.le_refl _⟩
  rw [← hml]
  exact K.2.2 u.heap [] 0 0 _ ⟨hP, va_S.rf, by omega, by omega⟩ hl
def cQ_q (E : CE) (v : (Option Nat)) (s' : CS) : Array Value → State → Outcome → State → Prop := va_Qq (fun (r : Option Nat) (u : CS) => r = v ∧ u = s') (cPost E) E.2.1
/-- the contract of a method of the component; the state doesn't shrink -/
def cMet_q (l : Launch) (E : CE) (y : MethodName) (ws : List Cond) (F L : Nat) (As : List Value) (s : CS) (v : (Option Nat)) (s' : CS) : Prop := (cz s ≤ cz s' ∧ cl s ≤ cl s') ∧ Met l y ws ({ frames := F, cells := cz s' - cz s, slots := cl s' - cl s, locals := L }) (va_Pc As (cPre E s)) (cQ_q E v s') (cz s' - cz s) (cl s' - cl s) E.2.1
def cE_q (X : KC CS) (E : CE) (z0 l0 z1 l1 : Nat) (v : (Option Nat)) (s' : CS) : Prop := X.2.2.2 = MQ X.2.1.2.2.1 (cQ_q E v s') X.2.1.2.1 X.1.2.2.2.2 (cz s' - z0) (cl s' - l0) E.2.1 ∧ cz s' ≤ z1 ∧ cl s' ≤ l1
theorem c_met_q {l : Launch} {E : CE} {y : MethodName} {F L nL : Nat} {As : List Value} {s s' : CS} {v : (Option Nat)} {cc : ByteArray} {ret : Option FieldType} (hm : cz s ≤ cz s' ∧ cl s ≤ cl s') (hy : plainName y.cls = true) (hA : Nat.ble (lg_sl As).length nL = true) (body : ∀ X : KC CS, X.1.2.1 = l → X.2.1.2.2.2.1.name = y.name → cOK X E cc y.cls nL ret (cz s) (cl s) (cz s') (cl s') → cRoom X F L → cE_q X E (cz s) (cl s) (cz s') (cl s') v s' → cW X (cz s') (cl s') s 0 (lv_args 0 As) []) : cMet_q l E y (ws_ y cc nL ret) F L As s v s' := by
  refine ⟨hm, Met.ofW (cc := cc) (maxL := nL) (ret := ret) hy rfl ?_⟩
  intro p e u m args below meth c s₁ B hml hv
  obtain ⟨rfl, hP, hK, hN, hA1, hSt⟩ := hv
  have hts := atoms_spec (ws := ws_ y cc nL ret) B.pre
  have hts : ∀ w ∈ lw_all, w.before As.toArray u = true := fun w h => hts w (List.mem_cons_of_mem _ h)
  have hown : u.vm.findClass y.cls = some m.cls := findClass_of_methodNamed B.named
  have hl := lv_entry As (n := nL) (Nat.le_of_ble_eq_true hA)
  rw [lg_entry_eq]
  rw [← hml] at hl
  have K := body ((p, l, e, (headSpec (ws_ y cc nL ret) { frames := F, cells := cz s' - cz s, slots := cl s' - cl s, locals := L }).room, u), (m, As.toArray, below, meth, c), cRel E u (cz s) (cl s), MQ below (cQ_q E v s') As.toArray u (cz s' - cz s) (cl s' - cl s) E.2.1) rfl ((name_of_methodNamed B.named B.method).1) ⟨⟨B.exec, B.bytes, hown, hml, hts⟩, rfl, hK, hN, B.returns, B.notSynchronized, hA1, by show cz s' - cz s + cz s = cz s'; omega, by show cl s' - cl s + cl s = cl s'; omega, hP.2.1, hSt⟩ ⟨Nat.le_refl _, Nat.le_refl _⟩ ⟨rfl, Nat.le_refl _, Nat.le_refl _⟩
  rw [← hml]
  exact K.2.2 u.heap [] 0 0 _ ⟨hP, va_S.rf, by omega, by omega⟩ hl
def cQ_v (E : CE) (s' : CS) : Array Value → State → Outcome → State → Prop := va_Qv (fun (u : CS) => u = s') (cPost E) E.2.1
/-- the contract of a method of the component; the state doesn't shrink -/
def cMet_v (l : Launch) (E : CE) (y : MethodName) (ws : List Cond) (F L : Nat) (As : List Value) (s : CS) (s' : CS) : Prop := (cz s ≤ cz s' ∧ cl s ≤ cl s') ∧ Met l y ws ({ frames := F, cells := cz s' - cz s, slots := cl s' - cl s, locals := L }) (va_Pc As (cPre E s)) (cQ_v E s') (cz s' - cz s) (cl s' - cl s) E.2.1
def cE_v (X : KC CS) (E : CE) (z0 l0 z1 l1 : Nat) (s' : CS) : Prop := X.2.2.2 = MQ X.2.1.2.2.1 (cQ_v E s') X.2.1.2.1 X.1.2.2.2.2 (cz s' - z0) (cl s' - l0) E.2.1 ∧ cz s' ≤ z1 ∧ cl s' ≤ l1
theorem c_met_v {l : Launch} {E : CE} {y : MethodName} {F L nL : Nat} {As : List Value} {s s' : CS} {cc : ByteArray} {ret : Option FieldType} (hm : cz s ≤ cz s' ∧ cl s ≤ cl s') (hy : plainName y.cls = true) (hA : Nat.ble (lg_sl As).length nL = true) (body : ∀ X : KC CS, X.1.2.1 = l → X.2.1.2.2.2.1.name = y.name → cOK X E cc y.cls nL ret (cz s) (cl s) (cz s') (cl s') → cRoom X F L → cE_v X E (cz s) (cl s) (cz s') (cl s') s' → cW X (cz s') (cl s') s 0 (lv_args 0 As) []) : cMet_v l E y (ws_ y cc nL ret) F L As s s' := by
  refine ⟨hm, Met.ofW (cc := cc) (maxL := nL) (ret := ret) hy rfl ?_⟩
  intro p e u m args below meth c s₁ B hml hv
  obtain ⟨rfl, hP, hK, hN, hA1, hSt⟩ := hv
  have hts := atoms_spec (ws := ws_ y cc nL ret) B.pre
  have hts : ∀ w ∈ lw_all, w.before As.toArray u = true := fun w h => hts w (List.mem_cons_of_mem _ h)
  have hown : u.vm.findClass y.cls = some m.cls := findClass_of_methodNamed B.named
  have hl := lv_entry As (n := nL) (Nat.le_of_ble_eq_true hA)
  rw [lg_entry_eq]
  rw [← hml] at hl
  have K := body ((p, l, e, (headSpec (ws_ y cc nL ret) { frames := F, cells := cz s' - cz s, slots := cl s' - cl s, locals := L }).room, u), (m, As.toArray, below, meth, c), cRel E u (cz s) (cl s), MQ below (cQ_v E s') As.toArray u (cz s' - cz s) (cl s' - cl s) E.2.1) rfl ((name_of_methodNamed B.named B.method).1) ⟨⟨B.exec, B.bytes, hown, hml, hts⟩, rfl, hK, hN, B.returns, B.notSynchronized, hA1, by show cz s' - cz s + cz s = cz s'; omega, by show cl s' - cl s + cl s = cl s'; omega, hP.2.1, hSt⟩ ⟨Nat.le_refl _, Nat.le_refl _⟩ ⟨rfl, Nat.le_refl _, Nat.le_refl _⟩
  rw [← hml]
  exact K.2.2 u.heap [] 0 0 _ ⟨hP, va_S.rf, by omega, by omega⟩ hl
section C2
variable {X : KC CS} {E : CE} {cc : ByteArray} {own : String} {nL : Nat} {ret : Option FieldType} {z0 l0 z1 l1 : Nat} {s s' : CS} {pc : Nat} {lv : List (Nat × Value)} {r : List Value} {α : Type} {z : α} {a : Nat}
theorem c_room {F0 L0 a F L : Nat} (h : cRoom X F0 L0) (h1 : Nat.ble (F + 1) F0 = true) (h2 : Nat.ble (8 + (a + 11) + L) L0 = true) : F + 1 ≤ X.1.2.2.2.1.frames ∧ 8 + (a + 11) + L ≤ X.1.2.2.2.1.locals := ⟨Nat.le_trans (Nat.le_of_ble_eq_true h1) h.1, Nat.le_trans (Nat.le_of_ble_eq_true h2) h.2⟩
theorem c_roomo {F0 L0 a F L : Nat} (h : cRoom X F0 L0) (h1 : F + 1 ≤ F0) (h2 : 8 + (a + 11) + L ≤ L0) : F + 1 ≤ X.1.2.2.2.1.frames ∧ 8 + (a + 11) + L ≤ X.1.2.2.2.1.locals := ⟨Nat.le_trans h1 h.1, Nat.le_trans h2 h.2⟩
theorem c_pre {H : Heap} {locs : List Loc} {cells slots : Nat} (T : cOK X E cc own nL ret z0 l0 z1 l1) (hr : cRel E X.1.2.2.2.2 z0 l0 s H locs cells slots) (U : State) (hU : U.heap = H) (hW : X.1.2.2.2.2.WarmedH U.vm) : cPre E s U := by
  refine ⟨by rw [hU]; exact hr.1.moved hW.alike, va_K.moved hW.alike T.2.2.1, T.2.2.2.1.warm hW, fun q h => T.2.2.2.2.2.2.1 q (Nat.le_trans hr.2.1.1 (by rw [← hU]; exact h)), T.2.2.2.2.2.2.2.2.2.2.warm hW (fun a h1 h2 => by rw [hU]; exact hr.2.1.2.1 a h1 h2)⟩
theorem c_blind {As : List Value} : FrameBlind (va_Pc As (cPre E s)) := fun a U g mk q => ⟨q.1, cHp.moved (u := U) (U := U.calling g mk a) (Vm.Alike.refl U.vm) q.2.1, va_K.moved (u := U) (U := U.calling g mk a) (Vm.Alike.refl U.vm) q.2.2.1, cNw.same (u := U) (U := U.calling g mk a) rfl q.2.2.2.1, q.2.2.2.2.1, cSt.same (u := U) (U := U.calling g mk a) rfl (fun _ _ _ => rfl) q.2.2.2.2.2⟩

theorem w_runV16 {p : Program} {l : Launch} {e : Env} {R : Room} {s : State} {m : MethodId} {args : Array Value} {below : List Frame} {meth : Method} {c : Code} {H : Heap} {locs : List Loc} {cells slots : Nat} {y : MethodName} {bytes cc : ByteArray} {maxL nL mc ms n index : Nat} {ret : Option FieldType} {ws : List Cond} {rm : Room} {Pc : Array Value → State → Prop} {Qc : Array Value → State → Outcome → State → Prop} {free : Addr → Prop} {Ts : List Cond} {own C : String} {b : Addr} {As rest : List Value} {g : JFrame} (S : CallFix p m c cc nL s args Ts own) (hM : Met l y ws rm Pc Qc mc ms free) (cw : CallW R s args own C index y bytes maxL ret ws rm mc ms n) (hlo : 16 + (maxL + 11) + rm.locals ≤ R.locals) (hp : PreV s H C b Pc As)
    (hg : g.method = m) (hn : As.length = n) (hsize : g.locals.size = nL) (hstack : g.stack = As.reverse ++ .ref b :: rest) (hW : 2 * g.monitorRoom + (rest.map fun v => v.category).sum ≤ 16) (hdg : decode cc g.pc = .ok (.invokevirtual index, 3)) (hf : cells + mc ≤ R.cells ∧ slots + ms ≤ R.slots) :
    va_Run p l e R s m args below meth c H locs cells slots mc ms g rest (Qc (Value.ref b :: As).toArray) free := by
  obtain ⟨⟨hrc, hrs, hfr, -, hws, hcw, hcode, hini, hy, hlen, hl⟩, hin, hse⟩ := cw
  have hK : Back l R p e below s args y 3 16 (PreOf R mc ms Pc) (PostOf Qc mc ms free) := back_of (bytes := bytes) (maxL := maxL) (ret := ret) hM hp.1 hrc hrs hfr hlo hws hcw (fun a' U hW => word_at hW (Or.inl (by first | rfl | simp [Cond.onTables, Cond.keeps, Cond.steady])) hini)
  intro T hT X
  obtain ⟨cellB, b1, b2, b3⟩ := hp.2.1
  obtain ⟨v, vm1, ⟨U', l2, c2, s2⟩, hW1, X', ⟨g', mk, t, L, e1, e2, hq, h1, hL, h2, h3⟩, st⟩ := callV X S.1 (C := C) (bytes := bytes) (maxL := maxL) (ret := ret) S.2.2.2.1 hl hin hse hcode hy hK (by rw [hT]; exact b1) b2 b3 hg (hsize.trans S.2.2.1.symm) (argsL := As) (rest := rest) (fun sig h => hn.trans (hlen sig h)) hstack hW (by rw [S.2.1]; exact hdg) (fun vm1 hW1 => ⟨hf.1, hf.2, hp.2.2 (T.setVm vm1) hT hW1⟩)
  dsimp only [Pt.U, Pt.locs, Pt.cells, Pt.slots] at X' e1 e2 h1 h2 h3 st
  subst h1 h2 h3
  exact ⟨v, (T.setVm vm1).calling g' mk (Value.ref b :: As).toArray, t, U', L, hT, X', hL, e1, e2, hq, st⟩
theorem c_room16 {F0 L0 a F L : Nat} (h : cRoom X F0 L0) (h1 : Nat.ble (F + 1) F0 = true) (h2 : Nat.ble (16 + (a + 11) + L) L0 = true) : F + 1 ≤ X.1.2.2.2.1.frames ∧ 16 + (a + 11) + L ≤ X.1.2.2.2.1.locals := ⟨Nat.le_trans (Nat.le_of_ble_eq_true h1) h.1, Nat.le_trans (Nat.le_of_ble_eq_true h2) h.2⟩
theorem c_roomo16 {F0 L0 a F L : Nat} (h : cRoom X F0 L0) (h1 : F + 1 ≤ F0) (h2 : 16 + (a + 11) + L ≤ L0) : F + 1 ≤ X.1.2.2.2.1.frames ∧ 16 + (a + 11) + L ≤ X.1.2.2.2.1.locals := ⟨Nat.le_trans h1 h.1, Nat.le_trans h2 h.2⟩
theorem c_callV_i {As : List Value} {y : MethodName} {ws : List Cond} {F L index n maxL b : Nat} {bytes : ByteArray} {rt : Option FieldType} {v : Int32} {ci n' : Nat} {w : Bool} {C : String} {T0 : u_T} {N : Nat} {ty0 : Nat → FieldType} (hc : cCls ci C T0 N ty0) (hb : s.1 b = some (w, ci, n')) (T : cOK X E cc own nL ret z0 l0 z1 l1) (hM : cMet_i X.1.2.1 E y ws F L (.ref b :: As) s v s') (cw : CallW X.1.2.2.2.1 X.1.2.2.2.2 X.2.1.2.1 own C index y bytes maxL rt ws ({ frames := F, cells := cz s' - cz s, slots := cl s' - cl s, locals := L }) (cz s' - cz s) (cl s' - cl s) n) (hn : As.length = n) (hst : Nat.ble (r.map Value.category).sum 8 = true) (d : decode cc pc = .ok (.invokevirtual index, 3)) (k : cW X z1 l1 s' (pc + 3) lv (.int v :: r)) : cW X z1 l1 s pc lv (As.reverse ++ .ref b :: r) := by
  obtain ⟨hm, hM⟩ := hM
  refine ⟨Nat.le_trans hm.1 k.1, Nat.le_trans hm.2 k.2.1, ?_⟩
  intro H q cells slots ls hr hl
  have hr2 := hr
  rw [T.2.1] at hr2
  have e1 := hr2.2.2.1
  have e2 := hr2.2.2.2
  have e3 := T.2.2.2.2.2.2.2.1
  have e4 := T.2.2.2.2.2.2.2.2.1
  have k1 := k.1
  have k2 := k.2.1
  refine va_calli (va_runV (As := As) (rest := r)  ⟨T.1.1, T.1.2.1, T.1.2.2.2.1, T.1.2.2.1, T.1.2.2.2.2⟩ hM cw ⟨c_blind, c_recv T hc hr2.1 hb, fun U hU hW => ⟨rfl, c_pre T hr2 U hU hW⟩⟩ rfl hn (hl.1.trans T.1.2.2.2.1) rfl (lv_room (Nat.le_of_ble_eq_true hst)) d ?_) hr2.2.1 (fun q _ h => h) (fun q h => h) (fun v1 u t H1 l1 ht hvm hw hB hz hk hS => ?_)
  · constructor <;> omega
  obtain ⟨rfl, rfl⟩ := hw
  refine k.2.2 H1 l1 _ _ ls ?_ hl
  rw [T.2.1]
  refine ⟨?_, hS, by omega, by omega⟩
  rw [← ht]
  exact cHp.moved hvm.symm hB
theorem c_callV_l {As : List Value} {y : MethodName} {ws : List Cond} {F L index n maxL b : Nat} {bytes : ByteArray} {rt : Option FieldType} {v : Int64} {ci n' : Nat} {w : Bool} {C : String} {T0 : u_T} {N : Nat} {ty0 : Nat → FieldType} (hc : cCls ci C T0 N ty0) (hb : s.1 b = some (w, ci, n')) (T : cOK X E cc own nL ret z0 l0 z1 l1) (hM : cMet_l X.1.2.1 E y ws F L (.ref b :: As) s v s') (cw : CallW X.1.2.2.2.1 X.1.2.2.2.2 X.2.1.2.1 own C index y bytes maxL rt ws ({ frames := F, cells := cz s' - cz s, slots := cl s' - cl s, locals := L }) (cz s' - cz s) (cl s' - cl s) n) (hn : As.length = n) (hst : Nat.ble (r.map Value.category).sum 8 = true) (d : decode cc pc = .ok (.invokevirtual index, 3)) (k : cW X z1 l1 s' (pc + 3) lv (.long v :: r)) : cW X z1 l1 s pc lv (As.reverse ++ .ref b :: r) := by
  obtain ⟨hm, hM⟩ := hM
  refine ⟨Nat.le_trans hm.1 k.1, Nat.le_trans hm.2 k.2.1, ?_⟩
  intro H q cells slots ls hr hl
  have hr2 := hr
  rw [T.2.1] at hr2
  have e1 := hr2.2.2.1
  have e2 := hr2.2.2.2
  have e3 := T.2.2.2.2.2.2.2.1
  have e4 := T.2.2.2.2.2.2.2.2.1
  have k1 := k.1
  have k2 := k.2.1
  refine va_calll (va_runV (As := As) (rest := r)  ⟨T.1.1, T.1.2.1, T.1.2.2.2.1, T.1.2.2.1, T.1.2.2.2.2⟩ hM cw ⟨c_blind, c_recv T hc hr2.1 hb, fun U hU hW => ⟨rfl, c_pre T hr2 U hU hW⟩⟩ rfl hn (hl.1.trans T.1.2.2.2.1) rfl (lv_room (Nat.le_of_ble_eq_true hst)) d ?_) hr2.2.1 (fun q _ h => h) (fun q h => h) (fun v1 u t H1 l1 ht hvm hw hB hz hk hS => ?_)
  · constructor <;> omega
  obtain ⟨rfl, rfl⟩ := hw
  refine k.2.2 H1 l1 _ _ ls ?_ hl
  rw [T.2.1]
  refine ⟨?_, hS, by omega, by omega⟩
  rw [← ht]
  exact cHp.moved hvm.symm hB
theorem c_callV_q {As : List Value} {y : MethodName} {ws : List Cond} {F L index n maxL b : Nat} {bytes : ByteArray} {rt : Option FieldType} {v : (Option Nat)} {ci n' : Nat} {w : Bool} {C : String} {T0 : u_T} {N : Nat} {ty0 : Nat → FieldType} (hc : cCls ci C T0 N ty0) (hb : s.1 b = some (w, ci, n')) (T : cOK X E cc own nL ret z0 l0 z1 l1) (hM : cMet_q X.1.2.1 E y ws F L (.ref b :: As) s v s') (cw : CallW X.1.2.2.2.1 X.1.2.2.2.2 X.2.1.2.1 own C index y bytes maxL rt ws ({ frames := F, cells := cz s' - cz s, slots := cl s' - cl s, locals := L }) (cz s' - cz s) (cl s' - cl s) n) (hn : As.length = n) (hst : Nat.ble (r.map Value.category).sum 8 = true) (d : decode cc pc = .ok (.invokevirtual index, 3)) (k : cW X z1 l1 s' (pc + 3) lv (va_rf v :: r)) : cW X z1 l1 s pc lv (As.reverse ++ .ref b :: r) := by
  obtain ⟨hm, hM⟩ := hM
  refine ⟨Nat.le_trans hm.1 k.1, Nat.le_trans hm.2 k.2.1, ?_⟩
  intro H q cells slots ls hr hl
  have hr2 := hr
  rw [T.2.1] at hr2
  have e1 := hr2.2.2.1
  have e2 := hr2.2.2.2
  have e3 := T.2.2.2.2.2.2.2.1
  have e4 := T.2.2.2.2.2.2.2.2.1
  have k1 := k.1
  have k2 := k.2.1
  refine va_callq (va_runV (As := As) (rest := r)  ⟨T.1.1, T.1.2.1, T.1.2.2.2.1, T.1.2.2.1, T.1.2.2.2.2⟩ hM cw ⟨c_blind, c_recv T hc hr2.1 hb, fun U hU hW => ⟨rfl, c_pre T hr2 U hU hW⟩⟩ rfl hn (hl.1.trans T.1.2.2.2.1) rfl (lv_room (Nat.le_of_ble_eq_true hst)) d ?_) hr2.2.1 (fun q _ h => h) (fun q h => h) (fun v1 u t H1 l1 ht hvm hw hB hz hk hS => ?_)
  · constructor <;> omega
  obtain ⟨rfl, rfl⟩ := hw
  refine k.2.2 H1 l1 _ _ ls ?_ hl
  rw [T.2.1]
  refine ⟨?_, hS, by omega, by omega⟩
  rw [← ht]
  exact cHp.moved hvm.symm hB
theorem c_callV_v {As : List Value} {y : MethodName} {ws : List Cond} {F L index n maxL b : Nat} {bytes : ByteArray} {rt : Option FieldType} {ci n' : Nat} {w : Bool} {C : String} {T0 : u_T} {N : Nat} {ty0 : Nat → FieldType} (hc : cCls ci C T0 N ty0) (hb : s.1 b = some (w, ci, n')) (T : cOK X E cc own nL ret z0 l0 z1 l1) (hM : cMet_v X.1.2.1 E y ws F L (.ref b :: As) s s') (cw : CallW X.1.2.2.2.1 X.1.2.2.2.2 X.2.1.2.1 own C index y bytes maxL rt ws ({ frames := F, cells := cz s' - cz s, slots := cl s' - cl s, locals := L }) (cz s' - cz s) (cl s' - cl s) n) (hn : As.length = n) (hst : Nat.ble (r.map Value.category).sum 8 = true) (d : decode cc pc = .ok (.invokevirtual index, 3)) (k : cW X z1 l1 s' (pc + 3) lv (r)) : cW X z1 l1 s pc lv (As.reverse ++ .ref b :: r) := by
  obtain ⟨hm, hM⟩ := hM
  refine ⟨Nat.le_trans hm.1 k.1, Nat.le_trans hm.2 k.2.1, ?_⟩
  intro H q cells slots ls hr hl
  have hr2 := hr
  rw [T.2.1] at hr2
  have e1 := hr2.2.2.1
  have e2 := hr2.2.2.2
  have e3 := T.2.2.2.2.2.2.2.1
  have e4 := T.2.2.2.2.2.2.2.2.1
  have k1 := k.1
  have k2 := k.2.1
  refine va_callv (va_runV (As := As) (rest := r)  ⟨T.1.1, T.1.2.1, T.1.2.2.2.1, T.1.2.2.1, T.1.2.2.2.2⟩ hM cw ⟨c_blind, c_recv T hc hr2.1 hb, fun U hU hW => ⟨rfl, c_pre T hr2 U hU hW⟩⟩ rfl hn (hl.1.trans T.1.2.2.2.1) rfl (lv_room (Nat.le_of_ble_eq_true hst)) d ?_) hr2.2.1 (fun q _ h => h) (fun q h => h) (fun u t H1 l1 ht hvm hw hB hz hk hS => ?_)
  · constructor <;> omega
  have hw : u = s' := hw
  subst hw
  refine k.2.2 H1 l1 _ _ ls ?_ hl
  rw [T.2.1]
  refine ⟨?_, hS, by omega, by omega⟩
  rw [← ht]
  exact cHp.moved hvm.symm hB
theorem c_callVN_i {As : List Value} {y : MethodName} {ws : List Cond} {F L index n maxL b : Nat} {bytes : ByteArray} {rt : Option FieldType} {host : String} {v : Int32} {ci n' : Nat} {w : Bool} {C : String} {T0 : u_T} {N : Nat} {ty0 : Nat → FieldType} (hc : cCls ci C T0 N ty0) (hb : s.1 b = some (w, ci, n')) (T : cOK X E cc own nL ret z0 l0 z1 l1) (hM : cMet_i X.1.2.1 E y ws F L (.ref b :: As) s v s') (cw : va_CN X.1.2.2.2.1 X.1.2.2.2.2 X.2.1.2.1 own index y host bytes maxL rt ws ({ frames := F, cells := cz s' - cz s, slots := cl s' - cl s, locals := L }) (cz s' - cz s) (cl s' - cl s) n ∧ (Cond.instanceMethod y).before X.2.1.2.1 X.1.2.2.2.2 = true ∧ (Cond.selects C y y).before X.2.1.2.1 X.1.2.2.2.2 = true) (hn : As.length = n) (hst : Nat.ble (r.map Value.category).sum 8 = true) (d : decode cc pc = .ok (.invokevirtual index, 3)) (k : cW X z1 l1 s' (pc + 3) lv (.int v :: r)) : cW X z1 l1 s pc lv (As.reverse ++ .ref b :: r) := by
  obtain ⟨hm, hM⟩ := hM
  refine ⟨Nat.le_trans hm.1 k.1, Nat.le_trans hm.2 k.2.1, ?_⟩
  intro H q cells slots ls hr hl
  have hr2 := hr
  rw [T.2.1] at hr2
  have e1 := hr2.2.2.1
  have e2 := hr2.2.2.2
  have e3 := T.2.2.2.2.2.2.2.1
  have e4 := T.2.2.2.2.2.2.2.2.1
  have k1 := k.1
  have k2 := k.2.1
  refine va_calli (va_runVN (As := As) (rest := r)  ⟨T.1.1, T.1.2.1, T.1.2.2.2.1, T.1.2.2.1, T.1.2.2.2.2⟩ hM cw ⟨c_blind, c_recv T hc hr2.1 hb, fun U hU hW => ⟨rfl, c_pre T hr2 U hU hW⟩⟩ rfl hn (hl.1.trans T.1.2.2.2.1) rfl (lv_room (Nat.le_of_ble_eq_true hst)) d ?_) hr2.2.1 (fun q _ h => h) (fun q h => h) (fun v1 u t H1 l1 ht hvm hw hB hz hk hS => ?_)
  · constructor <;> omega
  obtain ⟨rfl, rfl⟩ := hw
  refine k.2.2 H1 l1 _ _ ls ?_ hl
  rw [T.2.1]
  refine ⟨?_, hS, by omega, by omega⟩
  rw [← ht]
  exact cHp.moved hvm.symm hB
theorem c_callVN_l {As : List Value} {y : MethodName} {ws : List Cond} {F L index n maxL b : Nat} {bytes : ByteArray} {rt : Option FieldType} {host : String} {v : Int64} {ci n' : Nat} {w : Bool} {C : String} {T0 : u_T} {N : Nat} {ty0 : Nat → FieldType} (hc : cCls ci C T0 N ty0) (hb : s.1 b = some (w, ci, n')) (T : cOK X E cc own nL ret z0 l0 z1 l1) (hM : cMet_l X.1.2.1 E y ws F L (.ref b :: As) s v s') (cw : va_CN X.1.2.2.2.1 X.1.2.2.2.2 X.2.1.2.1 own index y host bytes maxL rt ws ({ frames := F, cells := cz s' - cz s, slots := cl s' - cl s, locals := L }) (cz s' - cz s) (cl s' - cl s) n ∧ (Cond.instanceMethod y).before X.2.1.2.1 X.1.2.2.2.2 = true ∧ (Cond.selects C y y).before X.2.1.2.1 X.1.2.2.2.2 = true) (hn : As.length = n) (hst : Nat.ble (r.map Value.category).sum 8 = true) (d : decode cc pc = .ok (.invokevirtual index, 3)) (k : cW X z1 l1 s' (pc + 3) lv (.long v :: r)) : cW X z1 l1 s pc lv (As.reverse ++ .ref b :: r) := by
  obtain ⟨hm, hM⟩ := hM
  refine ⟨Nat.le_trans hm.1 k.1, Nat.le_trans hm.2 k.2.1, ?_⟩
  intro H q cells slots ls hr hl
  have hr2 := hr
  rw [T.2.1] at hr2
  have e1 := hr2.2.2.1
  have e2 := hr2.2.2.2
  have e3 := T.2.2.2.2.2.2.2.1
  have e4 := T.2.2.2.2.2.2.2.2.1
  have k1 := k.1
  have k2 := k.2.1
  refine va_calll (va_runVN (As := As) (rest := r)  ⟨T.1.1, T.1.2.1, T.1.2.2.2.1, T.1.2.2.1, T.1.2.2.2.2⟩ hM cw ⟨c_blind, c_recv T hc hr2.1 hb, fun U hU hW => ⟨rfl, c_pre T hr2 U hU hW⟩⟩ rfl hn (hl.1.trans T.1.2.2.2.1) rfl (lv_room (Nat.le_of_ble_eq_true hst)) d ?_) hr2.2.1 (fun q _ h => h) (fun q h => h) (fun v1 u t H1 l1 ht hvm hw hB hz hk hS => ?_)
  · constructor <;> omega
  obtain ⟨rfl, rfl⟩ := hw
  refine k.2.2 H1 l1 _ _ ls ?_ hl
  rw [T.2.1]
  refine ⟨?_, hS, by omega, by omega⟩
  rw [← ht]
  exact cHp.moved hvm.symm hB
theorem c_callVN_q {As : List Value} {y : MethodName} {ws : List Cond} {F L index n maxL b : Nat} {bytes : ByteArray} {rt : Option FieldType} {host : String} {v : (Option Nat)} {ci n' : Nat} {w : Bool} {C : String} {T0 : u_T} {N : Nat} {ty0 : Nat → FieldType} (hc : cCls ci C T0 N ty0) (hb : s.1 b = some (w, ci, n')) (T : cOK X E cc own nL ret z0 l0 z1 l1) (hM : cMet_q X.1.2.1 E y ws F L (.ref b :: As) s v s') (cw : va_CN X.1.2.2.2.1 X.1.2.2.2.2 X.2.1.2.1 own index y host bytes maxL rt ws ({ frames := F, cells := cz s' - cz s, slots := cl s' - cl s, locals := L }) (cz s' - cz s) (cl s' - cl s) n ∧ (Cond.instanceMethod y).before X.2.1.2.1 X.1.2.2.2.2 = true ∧ (Cond.selects C y y).before X.2.1.2.1 X.1.2.2.2.2 = true) (hn : As.length = n) (hst : Nat.ble (r.map Value.category).sum 8 = true) (d : decode cc pc = .ok (.invokevirtual index, 3)) (k : cW X z1 l1 s' (pc + 3) lv (va_rf v :: r)) : cW X z1 l1 s pc lv (As.reverse ++ .ref b :: r) := by
  obtain ⟨hm, hM⟩ := hM
  refine ⟨Nat.le_trans hm.1 k.1, Nat.le_trans hm.2 k.2.1, ?_⟩
  intro H q cells slots ls hr hl
  have hr2 := hr
  rw [T.2.1] at hr2
  have e1 := hr2.2.2.1
  have e2 := hr2.2.2.2
  have e3 := T.2.2.2.2.2.2.2.1
  have e4 := T.2.2.2.2.2.2.2.2.1
  have k1 := k.1
  have k2 := k.2.1
  refine va_callq (va_runVN (As := As) (rest := r)  ⟨T.1.1, T.1.2.1, T.1.2.2.2.1, T.1.2.2.1, T.1.2.2.2.2⟩ hM cw ⟨c_blind, c_recv T hc hr2.1 hb, fun U hU hW => ⟨rfl, c_pre T hr2 U hU hW⟩⟩ rfl hn (hl.1.trans T.1.2.2.2.1) rfl (lv_room (Nat.le_of_ble_eq_true hst)) d ?_) hr2.2.1 (fun q _ h => h) (fun q h => h) (fun v1 u t H1 l1 ht hvm hw hB hz hk hS => ?_)
  · constructor <;> omega
  obtain ⟨rfl, rfl⟩ := hw
  refine k.2.2 H1 l1 _ _ ls ?_ hl
  rw [T.2.1]
  refine ⟨?_, hS, by omega, by omega⟩
  rw [← ht]
  exact cHp.moved hvm.symm hB
theorem c_callVN_v {As : List Value} {y : MethodName} {ws : List Cond} {F L index n maxL b : Nat} {bytes : ByteArray} {rt : Option FieldType} {host : String} {ci n' : Nat} {w : Bool} {C : String} {T0 : u_T} {N : Nat} {ty0 : Nat → FieldType} (hc : cCls ci C T0 N ty0) (hb : s.1 b = some (w, ci, n')) (T : cOK X E cc own nL ret z0 l0 z1 l1) (hM : cMet_v X.1.2.1 E y ws F L (.ref b :: As) s s') (cw : va_CN X.1.2.2.2.1 X.1.2.2.2.2 X.2.1.2.1 own index y host bytes maxL rt ws ({ frames := F, cells := cz s' - cz s, slots := cl s' - cl s, locals := L }) (cz s' - cz s) (cl s' - cl s) n ∧ (Cond.instanceMethod y).before X.2.1.2.1 X.1.2.2.2.2 = true ∧ (Cond.selects C y y).before X.2.1.2.1 X.1.2.2.2.2 = true) (hn : As.length = n) (hst : Nat.ble (r.map Value.category).sum 8 = true) (d : decode cc pc = .ok (.invokevirtual index, 3)) (k : cW X z1 l1 s' (pc + 3) lv (r)) : cW X z1 l1 s pc lv (As.reverse ++ .ref b :: r) := by
  obtain ⟨hm, hM⟩ := hM
  refine ⟨Nat.le_trans hm.1 k.1, Nat.le_trans hm.2 k.2.1, ?_⟩
  intro H q cells slots ls hr hl
  have hr2 := hr
  rw [T.2.1] at hr2
  have e1 := hr2.2.2.1
  have e2 := hr2.2.2.2
  have e3 := T.2.2.2.2.2.2.2.1
  have e4 := T.2.2.2.2.2.2.2.2.1
  have k1 := k.1
  have k2 := k.2.1
  refine va_callv (va_runVN (As := As) (rest := r)  ⟨T.1.1, T.1.2.1, T.1.2.2.2.1, T.1.2.2.1, T.1.2.2.2.2⟩ hM cw ⟨c_blind, c_recv T hc hr2.1 hb, fun U hU hW => ⟨rfl, c_pre T hr2 U hU hW⟩⟩ rfl hn (hl.1.trans T.1.2.2.2.1) rfl (lv_room (Nat.le_of_ble_eq_true hst)) d ?_) hr2.2.1 (fun q _ h => h) (fun q h => h) (fun u t H1 l1 ht hvm hw hB hz hk hS => ?_)
  · constructor <;> omega
  have hw : u = s' := hw
  subst hw
  refine k.2.2 H1 l1 _ _ ls ?_ hl
  rw [T.2.1]
  refine ⟨?_, hS, by omega, by omega⟩
  rw [← ht]
  exact cHp.moved hvm.symm hB
theorem c_callVU_i {As : List Value} {y : MethodName} {ws : List Cond} {F L index n maxL b : Nat} {bytes : ByteArray} {rt : Option FieldType} {owner : String} {x : MethodName} {v : Int32} {ci n' : Nat} {w : Bool} {C : String} {T0 : u_T} {N : Nat} {ty0 : Nat → FieldType} (hc : cCls ci C T0 N ty0) (hb : s.1 b = some (w, ci, n')) (T : cOK X E cc own nL ret z0 l0 z1 l1) (hM : cMet_i X.1.2.1 E y ws F L (.ref b :: As) s v s') (cw : va_CU X.1.2.2.2.1 X.1.2.2.2.2 X.2.1.2.1 own C owner index x y bytes maxL rt ws ({ frames := F, cells := cz s' - cz s, slots := cl s' - cl s, locals := L }) (cz s' - cz s) (cl s' - cl s) n) (hn : As.length = n) (hst : Nat.ble (r.map Value.category).sum 8 = true) (d : decode cc pc = .ok (.invokevirtual index, 3)) (k : cW X z1 l1 s' (pc + 3) lv (.int v :: r)) : cW X z1 l1 s pc lv (As.reverse ++ .ref b :: r) := by
  obtain ⟨hm, hM⟩ := hM
  refine ⟨Nat.le_trans hm.1 k.1, Nat.le_trans hm.2 k.2.1, ?_⟩
  intro H q cells slots ls hr hl
  have hr2 := hr
  rw [T.2.1] at hr2
  have e1 := hr2.2.2.1
  have e2 := hr2.2.2.2
  have e3 := T.2.2.2.2.2.2.2.1
  have e4 := T.2.2.2.2.2.2.2.2.1
  have k1 := k.1
  have k2 := k.2.1
  refine va_calli (va_runU (As := As) (rest := r)  ⟨T.1.1, T.1.2.1, T.1.2.2.2.1, T.1.2.2.1, T.1.2.2.2.2⟩ hM cw ⟨c_blind, c_recv T hc hr2.1 hb, fun U hU hW => ⟨rfl, c_pre T hr2 U hU hW⟩⟩ rfl hn (hl.1.trans T.1.2.2.2.1) rfl (lv_room (Nat.le_of_ble_eq_true hst)) d ?_) hr2.2.1 (fun q _ h => h) (fun q h => h) (fun v1 u t H1 l1 ht hvm hw hB hz hk hS => ?_)
  · constructor <;> omega
  obtain ⟨rfl, rfl⟩ := hw
  refine k.2.2 H1 l1 _ _ ls ?_ hl
  rw [T.2.1]
  refine ⟨?_, hS, by omega, by omega⟩
  rw [← ht]
  exact cHp.moved hvm.symm hB
theorem c_callVU_l {As : List Value} {y : MethodName} {ws : List Cond} {F L index n maxL b : Nat} {bytes : ByteArray} {rt : Option FieldType} {owner : String} {x : MethodName} {v : Int64} {ci n' : Nat} {w : Bool} {C : String} {T0 : u_T} {N : Nat} {ty0 : Nat → FieldType} (hc : cCls ci C T0 N ty0) (hb : s.1 b = some (w, ci, n')) (T : cOK X E cc own nL ret z0 l0 z1 l1) (hM : cMet_l X.1.2.1 E y ws F L (.ref b :: As) s v s') (cw : va_CU X.1.2.2.2.1 X.1.2.2.2.2 X.2.1.2.1 own C owner index x y bytes maxL rt ws ({ frames := F, cells := cz s' - cz s, slots := cl s' - cl s, locals := L }) (cz s' - cz s) (cl s' - cl s) n) (hn : As.length = n) (hst : Nat.ble (r.map Value.category).sum 8 = true) (d : decode cc pc = .ok (.invokevirtual index, 3)) (k : cW X z1 l1 s' (pc + 3) lv (.long v :: r)) : cW X z1 l1 s pc lv (As.reverse ++ .ref b :: r) := by
  obtain ⟨hm, hM⟩ := hM
  refine ⟨Nat.le_trans hm.1 k.1, Nat.le_trans hm.2 k.2.1, ?_⟩
  intro H q cells slots ls hr hl
  have hr2 := hr
  rw [T.2.1] at hr2
  have e1 := hr2.2.2.1
  have e2 := hr2.2.2.2
  have e3 := T.2.2.2.2.2.2.2.1
  have e4 := T.2.2.2.2.2.2.2.2.1
  have k1 := k.1
  have k2 := k.2.1
  refine va_calll (va_runU (As := As) (rest := r)  ⟨T.1.1, T.1.2.1, T.1.2.2.2.1, T.1.2.2.1, T.1.2.2.2.2⟩ hM cw ⟨c_blind, c_recv T hc hr2.1 hb, fun U hU hW => ⟨rfl, c_pre T hr2 U hU hW⟩⟩ rfl hn (hl.1.trans T.1.2.2.2.1) rfl (lv_room (Nat.le_of_ble_eq_true hst)) d ?_) hr2.2.1 (fun q _ h => h) (fun q h => h) (fun v1 u t H1 l1 ht hvm hw hB hz hk hS => ?_)
  · constructor <;> omega
  obtain ⟨rfl, rfl⟩ := hw
  refine k.2.2 H1 l1 _ _ ls ?_ hl
  rw [T.2.1]
  refine ⟨?_, hS, by omega, by omega⟩
  rw [← ht]
  exact cHp.moved hvm.symm hB
theorem c_callVU_q {As : List Value} {y : MethodName} {ws : List Cond} {F L index n maxL b : Nat} {bytes : ByteArray} {rt : Option FieldType} {owner : String} {x : MethodName} {v : (Option Nat)} {ci n' : Nat} {w : Bool} {C : String} {T0 : u_T} {N : Nat} {ty0 : Nat → FieldType} (hc : cCls ci C T0 N ty0) (hb : s.1 b = some (w, ci, n')) (T : cOK X E cc own nL ret z0 l0 z1 l1) (hM : cMet_q X.1.2.1 E y ws F L (.ref b :: As) s v s') (cw : va_CU X.1.2.2.2.1 X.1.2.2.2.2 X.2.1.2.1 own C owner index x y bytes maxL rt ws ({ frames := F, cells := cz s' - cz s, slots := cl s' - cl s, locals := L }) (cz s' - cz s) (cl s' - cl s) n) (hn : As.length = n) (hst : Nat.ble (r.map Value.category).sum 8 = true) (d : decode cc pc = .ok (.invokevirtual index, 3)) (k : cW X z1 l1 s' (pc + 3) lv (va_rf v :: r)) : cW X z1 l1 s pc lv (As.reverse ++ .ref b :: r) := by
  obtain ⟨hm, hM⟩ := hM
  refine ⟨Nat.le_trans hm.1 k.1, Nat.le_trans hm.2 k.2.1, ?_⟩
  intro H q cells slots ls hr hl
  have hr2 := hr
  rw [T.2.1] at hr2
  have e1 := hr2.2.2.1
  have e2 := hr2.2.2.2
  have e3 := T.2.2.2.2.2.2.2.1
  have e4 := T.2.2.2.2.2.2.2.2.1
  have k1 := k.1
  have k2 := k.2.1
  refine va_callq (va_runU (As := As) (rest := r)  ⟨T.1.1, T.1.2.1, T.1.2.2.2.1, T.1.2.2.1, T.1.2.2.2.2⟩ hM cw ⟨c_blind, c_recv T hc hr2.1 hb, fun U hU hW => ⟨rfl, c_pre T hr2 U hU hW⟩⟩ rfl hn (hl.1.trans T.1.2.2.2.1) rfl (lv_room (Nat.le_of_ble_eq_true hst)) d ?_) hr2.2.1 (fun q _ h => h) (fun q h => h) (fun v1 u t H1 l1 ht hvm hw hB hz hk hS => ?_)
  · constructor <;> omega
  obtain ⟨rfl, rfl⟩ := hw
  refine k.2.2 H1 l1 _ _ ls ?_ hl
  rw [T.2.1]
  refine ⟨?_, hS, by omega, by omega⟩
  rw [← ht]
  exact cHp.moved hvm.symm hB
theorem c_callVU_v {As : List Value} {y : MethodName} {ws : List Cond} {F L index n maxL b : Nat} {bytes : ByteArray} {rt : Option FieldType} {owner : String} {x : MethodName} {ci n' : Nat} {w : Bool} {C : String} {T0 : u_T} {N : Nat} {ty0 : Nat → FieldType} (hc : cCls ci C T0 N ty0) (hb : s.1 b = some (w, ci, n')) (T : cOK X E cc own nL ret z0 l0 z1 l1) (hM : cMet_v X.1.2.1 E y ws F L (.ref b :: As) s s') (cw : va_CU X.1.2.2.2.1 X.1.2.2.2.2 X.2.1.2.1 own C owner index x y bytes maxL rt ws ({ frames := F, cells := cz s' - cz s, slots := cl s' - cl s, locals := L }) (cz s' - cz s) (cl s' - cl s) n) (hn : As.length = n) (hst : Nat.ble (r.map Value.category).sum 8 = true) (d : decode cc pc = .ok (.invokevirtual index, 3)) (k : cW X z1 l1 s' (pc + 3) lv (r)) : cW X z1 l1 s pc lv (As.reverse ++ .ref b :: r) := by
  obtain ⟨hm, hM⟩ := hM
  refine ⟨Nat.le_trans hm.1 k.1, Nat.le_trans hm.2 k.2.1, ?_⟩
  intro H q cells slots ls hr hl
  have hr2 := hr
  rw [T.2.1] at hr2
  have e1 := hr2.2.2.1
  have e2 := hr2.2.2.2
  have e3 := T.2.2.2.2.2.2.2.1
  have e4 := T.2.2.2.2.2.2.2.2.1
  have k1 := k.1
  have k2 := k.2.1
  refine va_callv (va_runU (As := As) (rest := r)  ⟨T.1.1, T.1.2.1, T.1.2.2.2.1, T.1.2.2.1, T.1.2.2.2.2⟩ hM cw ⟨c_blind, c_recv T hc hr2.1 hb, fun U hU hW => ⟨rfl, c_pre T hr2 U hU hW⟩⟩ rfl hn (hl.1.trans T.1.2.2.2.1) rfl (lv_room (Nat.le_of_ble_eq_true hst)) d ?_) hr2.2.1 (fun q _ h => h) (fun q h => h) (fun u t H1 l1 ht hvm hw hB hz hk hS => ?_)
  · constructor <;> omega
  have hw : u = s' := hw
  subst hw
  refine k.2.2 H1 l1 _ _ ls ?_ hl
  rw [T.2.1]
  refine ⟨?_, hS, by omega, by omega⟩
  rw [← ht]
  exact cHp.moved hvm.symm hB
theorem c_callS_i {As : List Value} {y : MethodName} {ws : List Cond} {F L index n maxL : Nat} {bytes : ByteArray} {rt : Option FieldType} {v : Int32} (T : cOK X E cc own nL ret z0 l0 z1 l1) (hM : cMet_i X.1.2.1 E y ws F L As s v s') (cw : CallB X.1.2.2.2.1 X.1.2.2.2.2 X.2.1.2.1 own index y bytes maxL rt ws ({ frames := F, cells := cz s' - cz s, slots := cl s' - cl s, locals := L }) (cz s' - cz s) (cl s' - cl s) n ∧ (Cond.static y).before X.2.1.2.1 X.1.2.2.2.2 = true) (hn : As.length = n) (hst : Nat.ble (r.map Value.category).sum 8 = true) (d : decode cc pc = .ok (.invokestatic index, 3)) (k : cW X z1 l1 s' (pc + 3) lv (.int v :: r)) : cW X z1 l1 s pc lv (As.reverse ++ r) := by
  obtain ⟨hm, hM⟩ := hM
  refine ⟨Nat.le_trans hm.1 k.1, Nat.le_trans hm.2 k.2.1, ?_⟩
  intro H q cells slots ls hr hl
  have hr2 := hr
  rw [T.2.1] at hr2
  have e1 := hr2.2.2.1
  have e2 := hr2.2.2.2
  have e3 := T.2.2.2.2.2.2.2.1
  have e4 := T.2.2.2.2.2.2.2.2.1
  have k1 := k.1
  have k2 := k.2.1
  refine va_calli (va_runS (As := As) (rest := r)  ⟨T.1.1, T.1.2.1, T.1.2.2.2.1, T.1.2.2.1, T.1.2.2.2.2⟩ hM cw ⟨c_blind, fun U hU hW => ⟨rfl, c_pre T hr2 U hU hW⟩⟩ rfl hn (hl.1.trans T.1.2.2.2.1) rfl (lv_room (Nat.le_of_ble_eq_true hst)) d ?_) hr2.2.1 (fun q _ h => h) (fun q h => h) (fun v1 u t H1 l1 ht hvm hw hB hz hk hS => ?_)
  · constructor <;> omega
  obtain ⟨rfl, rfl⟩ := hw
  refine k.2.2 H1 l1 _ _ ls ?_ hl
  rw [T.2.1]
  refine ⟨?_, hS, by omega, by omega⟩
  rw [← ht]
  exact cHp.moved hvm.symm hB
theorem c_callS_l {As : List Value} {y : MethodName} {ws : List Cond} {F L index n maxL : Nat} {bytes : ByteArray} {rt : Option FieldType} {v : Int64} (T : cOK X E cc own nL ret z0 l0 z1 l1) (hM : cMet_l X.1.2.1 E y ws F L As s v s') (cw : CallB X.1.2.2.2.1 X.1.2.2.2.2 X.2.1.2.1 own index y bytes maxL rt ws ({ frames := F, cells := cz s' - cz s, slots := cl s' - cl s, locals := L }) (cz s' - cz s) (cl s' - cl s) n ∧ (Cond.static y).before X.2.1.2.1 X.1.2.2.2.2 = true) (hn : As.length = n) (hst : Nat.ble (r.map Value.category).sum 8 = true) (d : decode cc pc = .ok (.invokestatic index, 3)) (k : cW X z1 l1 s' (pc + 3) lv (.long v :: r)) : cW X z1 l1 s pc lv (As.reverse ++ r) := by
  obtain ⟨hm, hM⟩ := hM
  refine ⟨Nat.le_trans hm.1 k.1, Nat.le_trans hm.2 k.2.1, ?_⟩
  intro H q cells slots ls hr hl
  have hr2 := hr
  rw [T.2.1] at hr2
  have e1 := hr2.2.2.1
  have e2 := hr2.2.2.2
  have e3 := T.2.2.2.2.2.2.2.1
  have e4 := T.2.2.2.2.2.2.2.2.1
  have k1 := k.1
  have k2 := k.2.1
  refine va_calll (va_runS (As := As) (rest := r)  ⟨T.1.1, T.1.2.1, T.1.2.2.2.1, T.1.2.2.1, T.1.2.2.2.2⟩ hM cw ⟨c_blind, fun U hU hW => ⟨rfl, c_pre T hr2 U hU hW⟩⟩ rfl hn (hl.1.trans T.1.2.2.2.1) rfl (lv_room (Nat.le_of_ble_eq_true hst)) d ?_) hr2.2.1 (fun q _ h => h) (fun q h => h) (fun v1 u t H1 l1 ht hvm hw hB hz hk hS => ?_)
  · constructor <;> omega
  obtain ⟨rfl, rfl⟩ := hw
  refine k.2.2 H1 l1 _ _ ls ?_ hl
  rw [T.2.1]
  refine ⟨?_, hS, by omega, by omega⟩
  rw [← ht]
  exact cHp.moved hvm.symm hB
theorem c_callS_q {As : List Value} {y : MethodName} {ws : List Cond} {F L index n maxL : Nat} {bytes : ByteArray} {rt : Option FieldType} {v : (Option Nat)} (T : cOK X E cc own nL ret z0 l0 z1 l1) (hM : cMet_q X.1.2.1 E y ws F L As s v s') (cw : CallB X.1.2.2.2.1 X.1.2.2.2.2 X.2.1.2.1 own index y bytes maxL rt ws ({ frames := F, cells := cz s' - cz s, slots := cl s' - cl s, locals := L }) (cz s' - cz s) (cl s' - cl s) n ∧ (Cond.static y).before X.2.1.2.1 X.1.2.2.2.2 = true) (hn : As.length = n) (hst : Nat.ble (r.map Value.category).sum 8 = true) (d : decode cc pc = .ok (.invokestatic index, 3)) (k : cW X z1 l1 s' (pc + 3) lv (va_rf v :: r)) : cW X z1 l1 s pc lv (As.reverse ++ r) := by
  obtain ⟨hm, hM⟩ := hM
  refine ⟨Nat.le_trans hm.1 k.1, Nat.le_trans hm.2 k.2.1, ?_⟩
  intro H q cells slots ls hr hl
  have hr2 := hr
  rw [T.2.1] at hr2
  have e1 := hr2.2.2.1
  have e2 := hr2.2.2.2
  have e3 := T.2.2.2.2.2.2.2.1
  have e4 := T.2.2.2.2.2.2.2.2.1
  have k1 := k.1
  have k2 := k.2.1
  refine va_callq (va_runS (As := As) (rest := r)  ⟨T.1.1, T.1.2.1, T.1.2.2.2.1, T.1.2.2.1, T.1.2.2.2.2⟩ hM cw ⟨c_blind, fun U hU hW => ⟨rfl, c_pre T hr2 U hU hW⟩⟩ rfl hn (hl.1.trans T.1.2.2.2.1) rfl (lv_room (Nat.le_of_ble_eq_true hst)) d ?_) hr2.2.1 (fun q _ h => h) (fun q h => h) (fun v1 u t H1 l1 ht hvm hw hB hz hk hS => ?_)
  · constructor <;> omega
  obtain ⟨rfl, rfl⟩ := hw
  refine k.2.2 H1 l1 _ _ ls ?_ hl
  rw [T.2.1]
  refine ⟨?_, hS, by omega, by omega⟩
  rw [← ht]
  exact cHp.moved hvm.symm hB
theorem c_callS_v {As : List Value} {y : MethodName} {ws : List Cond} {F L index n maxL : Nat} {bytes : ByteArray} {rt : Option FieldType} (T : cOK X E cc own nL ret z0 l0 z1 l1) (hM : cMet_v X.1.2.1 E y ws F L As s s') (cw : CallB X.1.2.2.2.1 X.1.2.2.2.2 X.2.1.2.1 own index y bytes maxL rt ws ({ frames := F, cells := cz s' - cz s, slots := cl s' - cl s, locals := L }) (cz s' - cz s) (cl s' - cl s) n ∧ (Cond.static y).before X.2.1.2.1 X.1.2.2.2.2 = true) (hn : As.length = n) (hst : Nat.ble (r.map Value.category).sum 8 = true) (d : decode cc pc = .ok (.invokestatic index, 3)) (k : cW X z1 l1 s' (pc + 3) lv (r)) : cW X z1 l1 s pc lv (As.reverse ++ r) := by
  obtain ⟨hm, hM⟩ := hM
  refine ⟨Nat.le_trans hm.1 k.1, Nat.le_trans hm.2 k.2.1, ?_⟩
  intro H q cells slots ls hr hl
  have hr2 := hr
  rw [T.2.1] at hr2
  have e1 := hr2.2.2.1
  have e2 := hr2.2.2.2
  have e3 := T.2.2.2.2.2.2.2.1
  have e4 := T.2.2.2.2.2.2.2.2.1
  have k1 := k.1
  have k2 := k.2.1
  refine va_callv (va_runS (As := As) (rest := r)  ⟨T.1.1, T.1.2.1, T.1.2.2.2.1, T.1.2.2.1, T.1.2.2.2.2⟩ hM cw ⟨c_blind, fun U hU hW => ⟨rfl, c_pre T hr2 U hU hW⟩⟩ rfl hn (hl.1.trans T.1.2.2.2.1) rfl (lv_room (Nat.le_of_ble_eq_true hst)) d ?_) hr2.2.1 (fun q _ h => h) (fun q h => h) (fun u t H1 l1 ht hvm hw hB hz hk hS => ?_)
  · constructor <;> omega
  have hw : u = s' := hw
  subst hw
  refine k.2.2 H1 l1 _ _ ls ?_ hl
  rw [T.2.1]
  refine ⟨?_, hS, by omega, by omega⟩
  rw [← ht]
  exact cHp.moved hvm.symm hB
theorem c_callSN_i {As : List Value} {y : MethodName} {ws : List Cond} {F L index n maxL : Nat} {bytes : ByteArray} {rt : Option FieldType} {host : String} {v : Int32} (T : cOK X E cc own nL ret z0 l0 z1 l1) (hM : cMet_i X.1.2.1 E y ws F L As s v s') (cw : va_CN X.1.2.2.2.1 X.1.2.2.2.2 X.2.1.2.1 own index y host bytes maxL rt ws ({ frames := F, cells := cz s' - cz s, slots := cl s' - cl s, locals := L }) (cz s' - cz s) (cl s' - cl s) n ∧ (Cond.static y).before X.2.1.2.1 X.1.2.2.2.2 = true ∧ True) (hn : As.length = n) (hst : Nat.ble (r.map Value.category).sum 8 = true) (d : decode cc pc = .ok (.invokestatic index, 3)) (k : cW X z1 l1 s' (pc + 3) lv (.int v :: r)) : cW X z1 l1 s pc lv (As.reverse ++ r) := by
  obtain ⟨hm, hM⟩ := hM
  refine ⟨Nat.le_trans hm.1 k.1, Nat.le_trans hm.2 k.2.1, ?_⟩
  intro H q cells slots ls hr hl
  have hr2 := hr
  rw [T.2.1] at hr2
  have e1 := hr2.2.2.1
  have e2 := hr2.2.2.2
  have e3 := T.2.2.2.2.2.2.2.1
  have e4 := T.2.2.2.2.2.2.2.2.1
  have k1 := k.1
  have k2 := k.2.1
  refine va_calli (va_runSN (As := As) (rest := r)  ⟨T.1.1, T.1.2.1, T.1.2.2.2.1, T.1.2.2.1, T.1.2.2.2.2⟩ hM cw ⟨c_blind, fun U hU hW => ⟨rfl, c_pre T hr2 U hU hW⟩⟩ rfl hn (hl.1.trans T.1.2.2.2.1) rfl (lv_room (Nat.le_of_ble_eq_true hst)) d ?_) hr2.2.1 (fun q _ h => h) (fun q h => h) (fun v1 u t H1 l1 ht hvm hw hB hz hk hS => ?_)
  · constructor <;> omega
  obtain ⟨rfl, rfl⟩ := hw
  refine k.2.2 H1 l1 _ _ ls ?_ hl
  rw [T.2.1]
  refine ⟨?_, hS, by omega, by omega⟩
  rw [← ht]
  exact cHp.moved hvm.symm hB
theorem c_callSN_l {As : List Value} {y : MethodName} {ws : List Cond} {F L index n maxL : Nat} {bytes : ByteArray} {rt : Option FieldType} {host : String} {v : Int64} (T : cOK X E cc own nL ret z0 l0 z1 l1) (hM : cMet_l X.1.2.1 E y ws F L As s v s') (cw : va_CN X.1.2.2.2.1 X.1.2.2.2.2 X.2.1.2.1 own index y host bytes maxL rt ws ({ frames := F, cells := cz s' - cz s, slots := cl s' - cl s, locals := L }) (cz s' - cz s) (cl s' - cl s) n ∧ (Cond.static y).before X.2.1.2.1 X.1.2.2.2.2 = true ∧ True) (hn : As.length = n) (hst : Nat.ble (r.map Value.category).sum 8 = true) (d : decode cc pc = .ok (.invokestatic index, 3)) (k : cW X z1 l1 s' (pc + 3) lv (.long v :: r)) : cW X z1 l1 s pc lv (As.reverse ++ r) := by
  obtain ⟨hm, hM⟩ := hM
  refine ⟨Nat.le_trans hm.1 k.1, Nat.le_trans hm.2 k.2.1, ?_⟩
  intro H q cells slots ls hr hl
  have hr2 := hr
  rw [T.2.1] at hr2
  have e1 := hr2.2.2.1
  have e2 := hr2.2.2.2
  have e3 := T.2.2.2.2.2.2.2.1
  have e4 := T.2.2.2.2.2.2.2.2.1
  have k1 := k.1
  have k2 := k.2.1
  refine va_calll (va_runSN (As := As) (rest := r)  ⟨T.1.1, T.1.2.1, T.1.2.2.2.1, T.1.2.2.1, T.1.2.2.2.2⟩ hM cw ⟨c_blind, fun U hU hW => ⟨rfl, c_pre T hr2 U hU hW⟩⟩ rfl hn (hl.1.trans T.1.2.2.2.1) rfl (lv_room (Nat.le_of_ble_eq_true hst)) d ?_) hr2.2.1 (fun q _ h => h) (fun q h => h) (fun v1 u t H1 l1 ht hvm hw hB hz hk hS => ?_)
  · constructor <;> omega
  obtain ⟨rfl, rfl⟩ := hw
  refine k.2.2 H1 l1 _ _ ls ?_ hl
  rw [T.2.1]
  refine ⟨?_, hS, by omega, by omega⟩
  rw [← ht]
  exact cHp.moved hvm.symm hB
theorem c_callSN_q {As : List Value} {y : MethodName} {ws : List Cond} {F L index n maxL : Nat} {bytes : ByteArray} {rt : Option FieldType} {host : String} {v : (Option Nat)} (T : cOK X E cc own nL ret z0 l0 z1 l1) (hM : cMet_q X.1.2.1 E y ws F L As s v s') (cw : va_CN X.1.2.2.2.1 X.1.2.2.2.2 X.2.1.2.1 own index y host bytes maxL rt ws ({ frames := F, cells := cz s' - cz s, slots := cl s' - cl s, locals := L }) (cz s' - cz s) (cl s' - cl s) n ∧ (Cond.static y).before X.2.1.2.1 X.1.2.2.2.2 = true ∧ True) (hn : As.length = n) (hst : Nat.ble (r.map Value.category).sum 8 = true) (d : decode cc pc = .ok (.invokestatic index, 3)) (k : cW X z1 l1 s' (pc + 3) lv (va_rf v :: r)) : cW X z1 l1 s pc lv (As.reverse ++ r) := by
  obtain ⟨hm, hM⟩ := hM
  refine ⟨Nat.le_trans hm.1 k.1, Nat.le_trans hm.2 k.2.1, ?_⟩
  intro H q cells slots ls hr hl
  have hr2 := hr
  rw [T.2.1] at hr2
  have e1 := hr2.2.2.1
  have e2 := hr2.2.2.2
  have e3 := T.2.2.2.2.2.2.2.1
  have e4 := T.2.2.2.2.2.2.2.2.1
  have k1 := k.1
  have k2 := k.2.1
  refine va_callq (va_runSN (As := As) (rest := r)  ⟨T.1.1, T.1.2.1, T.1.2.2.2.1, T.1.2.2.1, T.1.2.2.2.2⟩ hM cw ⟨c_blind, fun U hU hW => ⟨rfl, c_pre T hr2 U hU hW⟩⟩ rfl hn (hl.1.trans T.1.2.2.2.1) rfl (lv_room (Nat.le_of_ble_eq_true hst)) d ?_) hr2.2.1 (fun q _ h => h) (fun q h => h) (fun v1 u t H1 l1 ht hvm hw hB hz hk hS => ?_)
  · constructor <;> omega
  obtain ⟨rfl, rfl⟩ := hw
  refine k.2.2 H1 l1 _ _ ls ?_ hl
  rw [T.2.1]
  refine ⟨?_, hS, by omega, by omega⟩
  rw [← ht]
  exact cHp.moved hvm.symm hB
theorem c_callSN_v {As : List Value} {y : MethodName} {ws : List Cond} {F L index n maxL : Nat} {bytes : ByteArray} {rt : Option FieldType} {host : String} (T : cOK X E cc own nL ret z0 l0 z1 l1) (hM : cMet_v X.1.2.1 E y ws F L As s s') (cw : va_CN X.1.2.2.2.1 X.1.2.2.2.2 X.2.1.2.1 own index y host bytes maxL rt ws ({ frames := F, cells := cz s' - cz s, slots := cl s' - cl s, locals := L }) (cz s' - cz s) (cl s' - cl s) n ∧ (Cond.static y).before X.2.1.2.1 X.1.2.2.2.2 = true ∧ True) (hn : As.length = n) (hst : Nat.ble (r.map Value.category).sum 8 = true) (d : decode cc pc = .ok (.invokestatic index, 3)) (k : cW X z1 l1 s' (pc + 3) lv (r)) : cW X z1 l1 s pc lv (As.reverse ++ r) := by
  obtain ⟨hm, hM⟩ := hM
  refine ⟨Nat.le_trans hm.1 k.1, Nat.le_trans hm.2 k.2.1, ?_⟩
  intro H q cells slots ls hr hl
  have hr2 := hr
  rw [T.2.1] at hr2
  have e1 := hr2.2.2.1
  have e2 := hr2.2.2.2
  have e3 := T.2.2.2.2.2.2.2.1
  have e4 := T.2.2.2.2.2.2.2.2.1
  have k1 := k.1
  have k2 := k.2.1
  refine va_callv (va_runSN (As := As) (rest := r)  ⟨T.1.1, T.1.2.1, T.1.2.2.2.1, T.1.2.2.1, T.1.2.2.2.2⟩ hM cw ⟨c_blind, fun U hU hW => ⟨rfl, c_pre T hr2 U hU hW⟩⟩ rfl hn (hl.1.trans T.1.2.2.2.1) rfl (lv_room (Nat.le_of_ble_eq_true hst)) d ?_) hr2.2.1 (fun q _ h => h) (fun q h => h) (fun u t H1 l1 ht hvm hw hB hz hk hS => ?_)
  · constructor <;> omega
  have hw : u = s' := hw
  subst hw
  refine k.2.2 H1 l1 _ _ ls ?_ hl
  rw [T.2.1]
  refine ⟨?_, hS, by omega, by omega⟩
  rw [← ht]
  exact cHp.moved hvm.symm hB
theorem c_callI_v {As : List Value} {y : MethodName} {ws : List Cond} {F L index n maxL b : Nat} {bytes : ByteArray} (T : cOK X E cc own nL ret z0 l0 z1 l1) (hM : cMet_v X.1.2.1 E y ws F L (.ref b :: As) s s') (cw : CallB X.1.2.2.2.1 X.1.2.2.2.2 X.2.1.2.1 own index y bytes maxL none ws ({ frames := F, cells := cz s' - cz s, slots := cl s' - cl s, locals := L }) (cz s' - cz s) (cl s' - cl s) n ∧ y.name = "<init>" ∧ (Cond.instanceMethod y).before X.2.1.2.1 X.1.2.2.2.2 = true) (hn : As.length = n) (hst : Nat.ble (r.map Value.category).sum 8 = true) (d : decode cc pc = .ok (.invokespecial index, 3)) (k : cW X z1 l1 s' (pc + 3) lv (r)) : cW X z1 l1 s pc lv (As.reverse ++ .ref b :: r) := by
  obtain ⟨hm, hM⟩ := hM
  refine ⟨Nat.le_trans hm.1 k.1, Nat.le_trans hm.2 k.2.1, ?_⟩
  intro H q cells slots ls hr hl
  have hr2 := hr
  rw [T.2.1] at hr2
  have e1 := hr2.2.2.1
  have e2 := hr2.2.2.2
  have e3 := T.2.2.2.2.2.2.2.1
  have e4 := T.2.2.2.2.2.2.2.2.1
  have k1 := k.1
  have k2 := k.2.1
  refine va_callv (va_runI (As := As) (rest := r)  ⟨T.1.1, T.1.2.1, T.1.2.2.2.1, T.1.2.2.1, T.1.2.2.2.2⟩ hM cw ⟨c_blind, fun U hU hW => ⟨rfl, c_pre T hr2 U hU hW⟩⟩ rfl hn (hl.1.trans T.1.2.2.2.1) rfl (lv_room (Nat.le_of_ble_eq_true hst)) d ?_) hr2.2.1 (fun q _ h => h) (fun q h => h) (fun u t H1 l1 ht hvm hw hB hz hk hS => ?_)
  · constructor <;> omega
  have hw : u = s' := hw
  subst hw
  refine k.2.2 H1 l1 _ _ ls ?_ hl
  rw [T.2.1]
  refine ⟨?_, hS, by omega, by omega⟩
  rw [← ht]
  exact cHp.moved hvm.symm hB
theorem c_callIN_v {As : List Value} {y : MethodName} {ws : List Cond} {F L index n maxL b : Nat} {bytes : ByteArray} {host : String} (T : cOK X E cc own nL ret z0 l0 z1 l1) (hM : cMet_v X.1.2.1 E y ws F L (.ref b :: As) s s') (cw : va_CN X.1.2.2.2.1 X.1.2.2.2.2 X.2.1.2.1 own index y host bytes maxL none ws ({ frames := F, cells := cz s' - cz s, slots := cl s' - cl s, locals := L }) (cz s' - cz s) (cl s' - cl s) n ∧ y.name = "<init>" ∧ (Cond.instanceMethod y).before X.2.1.2.1 X.1.2.2.2.2 = true) (hn : As.length = n) (hst : Nat.ble (r.map Value.category).sum 8 = true) (d : decode cc pc = .ok (.invokespecial index, 3)) (k : cW X z1 l1 s' (pc + 3) lv (r)) : cW X z1 l1 s pc lv (As.reverse ++ .ref b :: r) := by
  obtain ⟨hm, hM⟩ := hM
  refine ⟨Nat.le_trans hm.1 k.1, Nat.le_trans hm.2 k.2.1, ?_⟩
  intro H q cells slots ls hr hl
  have hr2 := hr
  rw [T.2.1] at hr2
  have e1 := hr2.2.2.1
  have e2 := hr2.2.2.2
  have e3 := T.2.2.2.2.2.2.2.1
  have e4 := T.2.2.2.2.2.2.2.2.1
  have k1 := k.1
  have k2 := k.2.1
  refine va_callv (va_runIN (As := As) (rest := r)  ⟨T.1.1, T.1.2.1, T.1.2.2.2.1, T.1.2.2.1, T.1.2.2.2.2⟩ hM cw ⟨c_blind, fun U hU hW => ⟨rfl, c_pre T hr2 U hU hW⟩⟩ rfl hn (hl.1.trans T.1.2.2.2.1) rfl (lv_room (Nat.le_of_ble_eq_true hst)) d ?_) hr2.2.1 (fun q _ h => h) (fun q h => h) (fun u t H1 l1 ht hvm hw hB hz hk hS => ?_)
  · constructor <;> omega
  have hw : u = s' := hw
  subst hw
  refine k.2.2 H1 l1 _ _ ls ?_ hl
  rw [T.2.1]
  refine ⟨?_, hS, by omega, by omega⟩
  rw [← ht]
  exact cHp.moved hvm.symm hB
theorem c_callSU_i {As : List Value} {y : MethodName} {ws : List Cond} {F L index n maxL b : Nat} {bytes : ByteArray} {rt : Option FieldType} {v : Int32} {ci n' : Nat} {w : Bool} {C : String} {T0 : u_T} {N : Nat} {ty0 : Nat → FieldType} (hc : cCls ci C T0 N ty0) (hb : s.1 b = some (w, ci, n')) (T : cOK X E cc own nL ret z0 l0 z1 l1) (hM : cMet_i X.1.2.1 E y ws F L (.ref b :: As) s v s') (cw : va_CS X.1.2.2.2.1 X.1.2.2.2.2 X.2.1.2.1 own index y bytes maxL rt ws ({ frames := F, cells := cz s' - cz s, slots := cl s' - cl s, locals := L }) (cz s' - cz s) (cl s' - cl s) n) (hn : As.length = n) (hst : Nat.ble (r.map Value.category).sum 8 = true) (d : decode cc pc = .ok (.invokespecial index, 3)) (k : cW X z1 l1 s' (pc + 3) lv (.int v :: r)) : cW X z1 l1 s pc lv (As.reverse ++ .ref b :: r) := by
  obtain ⟨hm, hM⟩ := hM
  refine ⟨Nat.le_trans hm.1 k.1, Nat.le_trans hm.2 k.2.1, ?_⟩
  intro H q cells slots ls hr hl
  have hr2 := hr
  rw [T.2.1] at hr2
  have e1 := hr2.2.2.1
  have e2 := hr2.2.2.2
  have e3 := T.2.2.2.2.2.2.2.1
  have e4 := T.2.2.2.2.2.2.2.2.1
  have k1 := k.1
  have k2 := k.2.1
  refine va_calli (va_runSU (As := As) (rest := r) (T.2.2.1.1 ci _ hc.1).2 ⟨T.1.1, T.1.2.1, T.1.2.2.2.1, T.1.2.2.1, T.1.2.2.2.2⟩ hM cw ⟨c_blind, c_recv T hc hr2.1 hb, fun U hU hW => ⟨rfl, c_pre T hr2 U hU hW⟩⟩ rfl hn (hl.1.trans T.1.2.2.2.1) rfl (lv_room (Nat.le_of_ble_eq_true hst)) d ?_) hr2.2.1 (fun q _ h => h) (fun q h => h) (fun v1 u t H1 l1 ht hvm hw hB hz hk hS => ?_)
  · constructor <;> omega
  obtain ⟨rfl, rfl⟩ := hw
  refine k.2.2 H1 l1 _ _ ls ?_ hl
  rw [T.2.1]
  refine ⟨?_, hS, by omega, by omega⟩
  rw [← ht]
  exact cHp.moved hvm.symm hB
theorem c_callSU_l {As : List Value} {y : MethodName} {ws : List Cond} {F L index n maxL b : Nat} {bytes : ByteArray} {rt : Option FieldType} {v : Int64} {ci n' : Nat} {w : Bool} {C : String} {T0 : u_T} {N : Nat} {ty0 : Nat → FieldType} (hc : cCls ci C T0 N ty0) (hb : s.1 b = some (w, ci, n')) (T : cOK X E cc own nL ret z0 l0 z1 l1) (hM : cMet_l X.1.2.1 E y ws F L (.ref b :: As) s v s') (cw : va_CS X.1.2.2.2.1 X.1.2.2.2.2 X.2.1.2.1 own index y bytes maxL rt ws ({ frames := F, cells := cz s' - cz s, slots := cl s' - cl s, locals := L }) (cz s' - cz s) (cl s' - cl s) n) (hn : As.length = n) (hst : Nat.ble (r.map Value.category).sum 8 = true) (d : decode cc pc = .ok (.invokespecial index, 3)) (k : cW X z1 l1 s' (pc + 3) lv (.long v :: r)) : cW X z1 l1 s pc lv (As.reverse ++ .ref b :: r) := by
  obtain ⟨hm, hM⟩ := hM
  refine ⟨Nat.le_trans hm.1 k.1, Nat.le_trans hm.2 k.2.1, ?_⟩
  intro H q cells slots ls hr hl
  have hr2 := hr
  rw [T.2.1] at hr2
  have e1 := hr2.2.2.1
  have e2 := hr2.2.2.2
  have e3 := T.2.2.2.2.2.2.2.1
  have e4 := T.2.2.2.2.2.2.2.2.1
  have k1 := k.1
  have k2 := k.2.1
  refine va_calll (va_runSU (As := As) (rest := r) (T.2.2.1.1 ci _ hc.1).2 ⟨T.1.1, T.1.2.1, T.1.2.2.2.1, T.1.2.2.1, T.1.2.2.2.2⟩ hM cw ⟨c_blind, c_recv T hc hr2.1 hb, fun U hU hW => ⟨rfl, c_pre T hr2 U hU hW⟩⟩ rfl hn (hl.1.trans T.1.2.2.2.1) rfl (lv_room (Nat.le_of_ble_eq_true hst)) d ?_) hr2.2.1 (fun q _ h => h) (fun q h => h) (fun v1 u t H1 l1 ht hvm hw hB hz hk hS => ?_)
  · constructor <;> omega
  obtain ⟨rfl, rfl⟩ := hw
  refine k.2.2 H1 l1 _ _ ls ?_ hl
  rw [T.2.1]
  refine ⟨?_, hS, by omega, by omega⟩
  rw [← ht]
  exact cHp.moved hvm.symm hB
theorem c_callSU_q {As : List Value} {y : MethodName} {ws : List Cond} {F L index n maxL b : Nat} {bytes : ByteArray} {rt : Option FieldType} {v : (Option Nat)} {ci n' : Nat} {w : Bool} {C : String} {T0 : u_T} {N : Nat} {ty0 : Nat → FieldType} (hc : cCls ci C T0 N ty0) (hb : s.1 b = some (w, ci, n')) (T : cOK X E cc own nL ret z0 l0 z1 l1) (hM : cMet_q X.1.2.1 E y ws F L (.ref b :: As) s v s') (cw : va_CS X.1.2.2.2.1 X.1.2.2.2.2 X.2.1.2.1 own index y bytes maxL rt ws ({ frames := F, cells := cz s' - cz s, slots := cl s' - cl s, locals := L }) (cz s' - cz s) (cl s' - cl s) n) (hn : As.length = n) (hst : Nat.ble (r.map Value.category).sum 8 = true) (d : decode cc pc = .ok (.invokespecial index, 3)) (k : cW X z1 l1 s' (pc + 3) lv (va_rf v :: r)) : cW X z1 l1 s pc lv (As.reverse ++ .ref b :: r) := by
  obtain ⟨hm, hM⟩ := hM
  refine ⟨Nat.le_trans hm.1 k.1, Nat.le_trans hm.2 k.2.1, ?_⟩
  intro H q cells slots ls hr hl
  have hr2 := hr
  rw [T.2.1] at hr2
  have e1 := hr2.2.2.1
  have e2 := hr2.2.2.2
  have e3 := T.2.2.2.2.2.2.2.1
  have e4 := T.2.2.2.2.2.2.2.2.1
  have k1 := k.1
  have k2 := k.2.1
  refine va_callq (va_runSU (As := As) (rest := r) (T.2.2.1.1 ci _ hc.1).2 ⟨T.1.1, T.1.2.1, T.1.2.2.2.1, T.1.2.2.1, T.1.2.2.2.2⟩ hM cw ⟨c_blind, c_recv T hc hr2.1 hb, fun U hU hW => ⟨rfl, c_pre T hr2 U hU hW⟩⟩ rfl hn (hl.1.trans T.1.2.2.2.1) rfl (lv_room (Nat.le_of_ble_eq_true hst)) d ?_) hr2.2.1 (fun q _ h => h) (fun q h => h) (fun v1 u t H1 l1 ht hvm hw hB hz hk hS => ?_)
  · constructor <;> omega
  obtain ⟨rfl, rfl⟩ := hw
  refine k.2.2 H1 l1 _ _ ls ?_ hl
  rw [T.2.1]
  refine ⟨?_, hS, by omega, by omega⟩
  rw [← ht]
  exact cHp.moved hvm.symm hB
theorem c_callSU_v {As : List Value} {y : MethodName} {ws : List Cond} {F L index n maxL b : Nat} {bytes : ByteArray} {rt : Option FieldType} {ci n' : Nat} {w : Bool} {C : String} {T0 : u_T} {N : Nat} {ty0 : Nat → FieldType} (hc : cCls ci C T0 N ty0) (hb : s.1 b = some (w, ci, n')) (T : cOK X E cc own nL ret z0 l0 z1 l1) (hM : cMet_v X.1.2.1 E y ws F L (.ref b :: As) s s') (cw : va_CS X.1.2.2.2.1 X.1.2.2.2.2 X.2.1.2.1 own index y bytes maxL rt ws ({ frames := F, cells := cz s' - cz s, slots := cl s' - cl s, locals := L }) (cz s' - cz s) (cl s' - cl s) n) (hn : As.length = n) (hst : Nat.ble (r.map Value.category).sum 8 = true) (d : decode cc pc = .ok (.invokespecial index, 3)) (k : cW X z1 l1 s' (pc + 3) lv (r)) : cW X z1 l1 s pc lv (As.reverse ++ .ref b :: r) := by
  obtain ⟨hm, hM⟩ := hM
  refine ⟨Nat.le_trans hm.1 k.1, Nat.le_trans hm.2 k.2.1, ?_⟩
  intro H q cells slots ls hr hl
  have hr2 := hr
  rw [T.2.1] at hr2
  have e1 := hr2.2.2.1
  have e2 := hr2.2.2.2
  have e3 := T.2.2.2.2.2.2.2.1
  have e4 := T.2.2.2.2.2.2.2.2.1
  have k1 := k.1
  have k2 := k.2.1
  refine va_callv (va_runSU (As := As) (rest := r) (T.2.2.1.1 ci _ hc.1).2 ⟨T.1.1, T.1.2.1, T.1.2.2.2.1, T.1.2.2.1, T.1.2.2.2.2⟩ hM cw ⟨c_blind, c_recv T hc hr2.1 hb, fun U hU hW => ⟨rfl, c_pre T hr2 U hU hW⟩⟩ rfl hn (hl.1.trans T.1.2.2.2.1) rfl (lv_room (Nat.le_of_ble_eq_true hst)) d ?_) hr2.2.1 (fun q _ h => h) (fun q h => h) (fun u t H1 l1 ht hvm hw hB hz hk hS => ?_)
  · constructor <;> omega
  have hw : u = s' := hw
  subst hw
  refine k.2.2 H1 l1 _ _ ls ?_ hl
  rw [T.2.1]
  refine ⟨?_, hS, by omega, by omega⟩
  rw [← ht]
  exact cHp.moved hvm.symm hB
theorem c_callV16_i {As : List Value} {y : MethodName} {ws : List Cond} {F L index n maxL b : Nat} {bytes : ByteArray} {rt : Option FieldType} {v : Int32} {ci n' : Nat} {w : Bool} {C : String} {T0 : u_T} {N : Nat} {ty0 : Nat → FieldType} (hc : cCls ci C T0 N ty0) (hb : s.1 b = some (w, ci, n')) (T : cOK X E cc own nL ret z0 l0 z1 l1) (hM : cMet_i X.1.2.1 E y ws F L (.ref b :: As) s v s') (cw : CallW X.1.2.2.2.1 X.1.2.2.2.2 X.2.1.2.1 own C index y bytes maxL rt ws ({ frames := F, cells := cz s' - cz s, slots := cl s' - cl s, locals := L }) (cz s' - cz s) (cl s' - cl s) n) (hlo : 16 + (maxL + 11) + L ≤ X.1.2.2.2.1.locals) (hn : As.length = n) (hst : Nat.ble (r.map Value.category).sum 16 = true) (d : decode cc pc = .ok (.invokevirtual index, 3)) (k : cW X z1 l1 s' (pc + 3) lv (.int v :: r)) : cW X z1 l1 s pc lv (As.reverse ++ .ref b :: r) := by
  obtain ⟨hm, hM⟩ := hM
  refine ⟨Nat.le_trans hm.1 k.1, Nat.le_trans hm.2 k.2.1, ?_⟩
  intro H q cells slots ls hr hl
  have hr2 := hr
  rw [T.2.1] at hr2
  have e1 := hr2.2.2.1
  have e2 := hr2.2.2.2
  have e3 := T.2.2.2.2.2.2.2.1
  have e4 := T.2.2.2.2.2.2.2.2.1
  have k1 := k.1
  have k2 := k.2.1
  refine va_calli (w_runV16 (As := As) (rest := r)  ⟨T.1.1, T.1.2.1, T.1.2.2.2.1, T.1.2.2.1, T.1.2.2.2.2⟩ hM cw hlo ⟨c_blind, c_recv T hc hr2.1 hb, fun U hU hW => ⟨rfl, c_pre T hr2 U hU hW⟩⟩ rfl hn (hl.1.trans T.1.2.2.2.1) rfl (by show 2 * 0 + _ ≤ 16; rw [Nat.zero_add]; exact Nat.le_of_ble_eq_true hst) d ?_) hr2.2.1 (fun q _ h => h) (fun q h => h) (fun v1 u t H1 l1 ht hvm hw hB hz hk hS => ?_)
  · constructor <;> omega
  obtain ⟨rfl, rfl⟩ := hw
  refine k.2.2 H1 l1 _ _ ls ?_ hl
  rw [T.2.1]
  refine ⟨?_, hS, by omega, by omega⟩
  rw [← ht]
  exact cHp.moved hvm.symm hB
theorem c_ret_i {v : Int32} {z : Int32 × CS} (T : cOK X E cc own nL (some .int) z0 l0 z1 l1) (e : cE_i X E z0 l0 z1 l1 z.1 z.2) (h : some (v, s) = some z) (d : decode cc pc = .ok (.ireturn, 1)) : cW X z1 l1 s pc lv [.int v] := by
  skip
  cases h
  refine ⟨e.2.1, e.2.2, ?_⟩
  intro H q a b ls hr2 hl
  rw [T.2.1] at hr2
  obtain ⟨hP, hS, ha, hb2⟩ := hr2
  rw [show X.2.2.2 = _ from e.1]
  have ea : a = cz s - z0 := by omega
  have eb : b = cl s - l0 := by omega
  subst ea; subst eb
  exact W.iret T.1.1 T.1.2.1 T.2.2.2.2.1 (fun t ht hW => ⟨⟨v, s, rfl, ⟨rfl, rfl⟩, by rw [cPost, ht]; exact hP.moved hW.alike⟩, hS.F ht⟩) hS.2.2 d T.2.2.2.2.2.1
theorem c_ret_ir {v z : Int32} (T : cOK X E cc own nL (some .int) z0 l0 z1 l1) (e : cE_i X E z0 l0 z1 l1 z s) (h : some v = some z) (d : decode cc pc = .ok (.ireturn, 1)) : cW X z1 l1 s pc lv [.int v] := by
  skip
  cases h
  exact c_ret_i (z := (v, s)) T e rfl d
theorem c_ret_z {v : Int32} {z : Int32 × CS} (T : cOK X E cc own nL (some .boolean) z0 l0 z1 l1) (e : cE_i X E z0 l0 z1 l1 z.1 z.2) (h : gd (isb v) (some (v, s)) = some z) (d : decode cc pc = .ok (.ireturn, 1)) : cW X z1 l1 s pc lv [.int v] := by
  obtain ⟨hb, h⟩ := gd_of h
  cases h
  refine ⟨e.2.1, e.2.2, ?_⟩
  intro H q a b ls hr2 hl
  rw [T.2.1] at hr2
  obtain ⟨hP, hS, ha, hb2⟩ := hr2
  rw [show X.2.2.2 = _ from e.1]
  have ea : a = cz s - z0 := by omega
  have eb : b = cl s - l0 := by omega
  subst ea; subst eb
  exact W.zret T.1.1 T.1.2.1 T.2.2.2.2.1 (isb_nar hb) (fun t ht hW => ⟨⟨v, s, rfl, ⟨rfl, rfl⟩, by rw [cPost, ht]; exact hP.moved hW.alike⟩, hS.F ht⟩) hS.2.2 d T.2.2.2.2.2.1
theorem c_ret_zr {v z : Int32} (T : cOK X E cc own nL (some .boolean) z0 l0 z1 l1) (e : cE_i X E z0 l0 z1 l1 z s) (h : gd (isb v) (some v) = some z) (d : decode cc pc = .ok (.ireturn, 1)) : cW X z1 l1 s pc lv [.int v] := by
  obtain ⟨hb, h⟩ := gd_of h
  cases h
  exact c_ret_z (z := (v, s)) T e (by rw [hb]; rfl) d
theorem c_ret_c {v : Int32} {z : Int32 × CS} (T : cOK X E cc own nL (some .char) z0 l0 z1 l1) (e : cE_i X E z0 l0 z1 l1 z.1 z.2) (h : gd (isc v) (some (v, s)) = some z) (d : decode cc pc = .ok (.ireturn, 1)) : cW X z1 l1 s pc lv [.int v] := by
  obtain ⟨hb, h⟩ := gd_of h
  cases h
  refine ⟨e.2.1, e.2.2, ?_⟩
  intro H q a b ls hr2 hl
  rw [T.2.1] at hr2
  obtain ⟨hP, hS, ha, hb2⟩ := hr2
  rw [show X.2.2.2 = _ from e.1]
  have ea : a = cz s - z0 := by omega
  have eb : b = cl s - l0 := by omega
  subst ea; subst eb
  exact W.zret T.1.1 T.1.2.1 T.2.2.2.2.1 (isc_nar hb) (fun t ht hW => ⟨⟨v, s, rfl, ⟨rfl, rfl⟩, by rw [cPost, ht]; exact hP.moved hW.alike⟩, hS.F ht⟩) hS.2.2 d T.2.2.2.2.2.1
theorem c_ret_cr {v z : Int32} (T : cOK X E cc own nL (some .char) z0 l0 z1 l1) (e : cE_i X E z0 l0 z1 l1 z s) (h : gd (isc v) (some v) = some z) (d : decode cc pc = .ok (.ireturn, 1)) : cW X z1 l1 s pc lv [.int v] := by
  obtain ⟨hb, h⟩ := gd_of h
  cases h
  exact c_ret_c (z := (v, s)) T e (by rw [hb]; rfl) d
theorem c_ret_y {v : Int32} {z : Int32 × CS} (T : cOK X E cc own nL (some .byte) z0 l0 z1 l1) (e : cE_i X E z0 l0 z1 l1 z.1 z.2) (h : gd (isyb v) (some (v, s)) = some z) (d : decode cc pc = .ok (.ireturn, 1)) : cW X z1 l1 s pc lv [.int v] := by
  obtain ⟨hb, h⟩ := gd_of h
  cases h
  refine ⟨e.2.1, e.2.2, ?_⟩
  intro H q a b ls hr2 hl
  rw [T.2.1] at hr2
  obtain ⟨hP, hS, ha, hb2⟩ := hr2
  rw [show X.2.2.2 = _ from e.1]
  have ea : a = cz s - z0 := by omega
  have eb : b = cl s - l0 := by omega
  subst ea; subst eb
  exact W.zret T.1.1 T.1.2.1 T.2.2.2.2.1 (isyb_nar hb) (fun t ht hW => ⟨⟨v, s, rfl, ⟨rfl, rfl⟩, by rw [cPost, ht]; exact hP.moved hW.alike⟩, hS.F ht⟩) hS.2.2 d T.2.2.2.2.2.1
theorem c_ret_yr {v z : Int32} (T : cOK X E cc own nL (some .byte) z0 l0 z1 l1) (e : cE_i X E z0 l0 z1 l1 z s) (h : gd (isyb v) (some v) = some z) (d : decode cc pc = .ok (.ireturn, 1)) : cW X z1 l1 s pc lv [.int v] := by
  obtain ⟨hb, h⟩ := gd_of h
  cases h
  exact c_ret_y (z := (v, s)) T e (by rw [hb]; rfl) d
theorem c_ret_l {v : Int64} {z : Int64 × CS} (T : cOK X E cc own nL (some .long) z0 l0 z1 l1) (e : cE_l X E z0 l0 z1 l1 z.1 z.2) (h : some (v, s) = some z) (d : decode cc pc = .ok (.lreturn, 1)) : cW X z1 l1 s pc lv [.long v] := by
  skip
  cases h
  refine ⟨e.2.1, e.2.2, ?_⟩
  intro H q a b ls hr2 hl
  rw [T.2.1] at hr2
  obtain ⟨hP, hS, ha, hb2⟩ := hr2
  rw [show X.2.2.2 = _ from e.1]
  have ea : a = cz s - z0 := by omega
  have eb : b = cl s - l0 := by omega
  subst ea; subst eb
  exact W.lret T.1.1 T.1.2.1 T.2.2.2.2.1 (fun t ht hW => ⟨⟨v, s, rfl, ⟨rfl, rfl⟩, by rw [cPost, ht]; exact hP.moved hW.alike⟩, hS.F ht⟩) hS.2.2 d T.2.2.2.2.2.1
theorem c_ret_lr {v z : Int64} (T : cOK X E cc own nL (some .long) z0 l0 z1 l1) (e : cE_l X E z0 l0 z1 l1 z s) (h : some v = some z) (d : decode cc pc = .ok (.lreturn, 1)) : cW X z1 l1 s pc lv [.long v] := by
  skip
  cases h
  exact c_ret_l (z := (v, s)) T e rfl d
theorem c_ret_v {z : CS} (T : cOK X E cc own nL none z0 l0 z1 l1) (e : cE_v X E z0 l0 z1 l1 z) (h : some s = some z) (d : decode cc pc = .ok (.return_, 1)) : cW X z1 l1 s pc lv [] := by
  cases h
  refine ⟨e.2.1, e.2.2, ?_⟩
  intro H q a b ls hr2 hl
  rw [T.2.1] at hr2
  obtain ⟨hP, hS, ha, hb2⟩ := hr2
  rw [show X.2.2.2 = _ from e.1]
  have ea : a = cz s - z0 := by omega
  have eb : b = cl s - l0 := by omega
  subst ea; subst eb
  exact W.vret T.1.1 T.1.2.1 T.2.2.2.2.1 (fun t ht hW => ⟨⟨s, rfl, rfl, by rw [cPost, ht]; exact hP.moved hW.alike⟩, hS.F ht⟩) hS.2.2 d T.2.2.2.2.2.1
theorem c_ret_vr {z : Unit} (T : cOK X E cc own nL none z0 l0 z1 l1) (e : cE_v X E z0 l0 z1 l1 s) (d : decode cc pc = .ok (.return_, 1)) : cW X z1 l1 s pc lv [] := c_ret_v T e rfl d
theorem c_ret_q {v : Option Nat} {z : Option Nat × CS} {rt : FieldType} (T : cOK X E cc own nL (some rt) z0 l0 z1 l1) (hrt : (∃ n, rt = .object n) ∨ ∃ t, rt = .array t) (e : cE_q X E z0 l0 z1 l1 z.1 z.2) (h : some (v, s) = some z) (d : decode cc pc = .ok (.areturn, 1)) : cW X z1 l1 s pc lv [va_rf v] := by
  cases h
  refine ⟨e.2.1, e.2.2, ?_⟩
  intro H q a b ls hr2 hl
  rw [T.2.1] at hr2
  obtain ⟨hP, hS, ha, hb2⟩ := hr2
  rw [show X.2.2.2 = _ from e.1]
  have ea : a = cz s - z0 := by omega
  have eb : b = cl s - l0 := by omega
  subst ea; subst eb
  exact W.aret T.1.1 T.1.2.1 T.2.2.2.2.1 hrt (by cases v with | none => exact Or.inl rfl | some x => exact Or.inr ⟨x, rfl⟩) (fun t ht hW => ⟨⟨v, s, rfl, ⟨rfl, rfl⟩, by rw [cPost, ht]; exact hP.moved hW.alike⟩, hS.F ht⟩) hS.2.2 d T.2.2.2.2.2.1
theorem c_ret_qr {v z : Option Nat} {rt : FieldType} (T : cOK X E cc own nL (some rt) z0 l0 z1 l1) (hrt : (∃ n, rt = .object n) ∨ ∃ t, rt = .array t) (e : cE_q X E z0 l0 z1 l1 z s) (h : some v = some z) (d : decode cc pc = .ok (.areturn, 1)) : cW X z1 l1 s pc lv [va_rf v] := by
  cases h
  exact c_ret_q (z := (v, s)) T hrt e rfl d
theorem c_ret_zc {v : Int32} {z : Int32 × CS} (T : cOK X E cc own nL (some .boolean) z0 l0 z1 l1) (e : cE_i X E z0 l0 z1 l1 z.1 z.2) (hb : isb v = true) (h : some (v, s) = some z) (d : decode cc pc = .ok (.ireturn, 1)) : cW X z1 l1 s pc lv [.int v] := c_ret_z T e (by rw [hb]; exact h) d
theorem c_ret_zrc {v z : Int32} (T : cOK X E cc own nL (some .boolean) z0 l0 z1 l1) (e : cE_i X E z0 l0 z1 l1 z s) (hb : isb v = true) (h : some v = some z) (d : decode cc pc = .ok (.ireturn, 1)) : cW X z1 l1 s pc lv [.int v] := c_ret_zr T e (by rw [hb]; exact h) d
/-! new cells -/
theorem uN_b {c n k : Nat} {dA : Nat → ClassId} (b c' n' : Nat) (h : b ≠ cz s) : cE dA (uN s c n k) b c' n' = cE dA s b c' n' := by
  unfold cE
  rw [cF_congr (s' := uN s c n k) (s := s) (fun q => by unfold fVal uN; simp [h])]
  simp [uN, h]
theorem cRel_new {H H1 : Heap} {locs : List Loc} {cells slots c n k : Nat} (T : cOK X E cc own nL ret z0 l0 z1 l1) (hr : cRel E X.1.2.2.2.2 z0 l0 s H locs cells slots) (e1 : va_at E.1 vwCl (cz s, cE E.2.2.1 (uN s c n k) (cz s) c n) H1) (e2 : H1.size = H.size + 1) (e3 : ∀ q, q < H.size → H1[q]? = H[q]?) : cRel E X.1.2.2.2.2 z0 l0 (uN s c n k) H1 locs (cells + 1) (slots + k) := by
  obtain ⟨h1, h2, h3, h4⟩ := hr
  have hz : H.size = cz s := h1.2.1
  refine ⟨⟨fun b w c' n' hb => ?_, by rw [e2, hz]; rfl, fun b n' hb => ?_, fun b n' hb => ?_⟩, ⟨by have := h2.1; omega, fun q a b => (e3 q (Nat.lt_of_lt_of_le a h2.1)).trans (h2.2.1 q a b), h2.2.2⟩, by show cells + 1 + z0 = cz s + 1; omega, by show slots + k + l0 = cl s + k; omega⟩
  · by_cases q : b = cz s
    · subst q
      have hb : some (true, c, n) = some (w, c', n') := by rw [← hb]; simp [uN, up1]
      cases hb
      refine ⟨Nat.lt_succ_self _, fun _ => e1, fun _ => T.2.2.2.2.2.2.1 _ (by rw [← hz]; exact h2.1), fun h => (by cases h)⟩
    · have hb : s.1 b = some (w, c', n') := by rw [← hb]; simp [uN, up1, q]
      obtain ⟨g0, g1, g2⟩ := h1.1 b w c' n' hb
      rw [uN_b b c' n' q]
      exact ⟨Nat.lt_succ_of_lt g0, fun hw => (g1 hw).kept (e3 b (g1 hw).lt), g2⟩
  · have q : b ≠ cz s := fun e => by
      subst e
      simp [uN, up1] at hb
    have hb : s.1 b = some (false, 103, n') := by rw [← hb]; simp [uN, up1, q]
    have e : (uN s c n k).2.2.2.2.1 b = s.2.2.2.2.1 b := by simp [uN, q]
    rw [e]
    exact (h1.2.2.1 b n' hb).kept (fun a h _ => e3 a h)
  · have q : b ≠ cz s := fun e => by
      subst e
      simp [uN, up1] at hb
    have hb : s.1 b = some (false, 25, n') := by rw [← hb]; simp [uN, up1, q]
    exact (h1.2.2.2 b n' hb).next (n := n') (uN_b b 25 n' q) (e3 b (by rw [hz]; exact (h1.1 b _ _ _ hb).1))
theorem c_newO {ci index N : Nat} {C : String} {T0 : u_T} {ty0 : Nat → FieldType} {K : Nat → CS → Option α} (hc : cCls ci C T0 N ty0) (hcl : Cond.classLink own index C ∈ lw_all) (hin : Cond.instantiable C N ∈ lw_all) (hini : Cond.initialized C ∈ lw_all) (hdef : ∀ j p, (fdesc ci)[j]? = some p → defaultValue (ty0 j) = fVal (uN s ci 0 N) (cz s) p) (T : cOK X E cc own nL ret z0 l0 z1 l1) (h : nwO s ci N K = some z) (d : decode cc pc = .ok (.new index, 3)) (kk : ∀ a s', K a s' = some z → cW X z1 l1 s' (pc + 3) lv (.ref a :: r)) : cW X z1 l1 s pc lv r := by
  have k := kk _ _ h
  have k1 : cz s + 1 ≤ z1 := k.1
  have k2 : cl s + N ≤ l1 := k.2.1
  refine ⟨by omega, by omega, ?_⟩
  intro H q cells slots ls hr hl
  rw [T.2.1] at hr
  have e1 := hr.2.2.1
  have e2 := hr.2.2.2
  have e3 := T.2.2.2.2.2.2.2.1
  have e4 := T.2.2.2.2.2.2.2.2.1
  have hKn := T.2.2.1.1 ci _ hc.1
  refine W.newcK T.1.1 T.1.2.1 T.1.2.2.1 (T.1.2.2.2.2 _ hcl) (T.1.2.2.2.2 _ hin) (T.1.2.2.2.2 _ hini) rfl d (by omega) (by omega) hKn.2.1 rfl fun H1 kC hkC g1 g2 g3 => ?_
  rw [hr.1.2.1] at g1 ⊢
  refine k.2.2 H1 q _ _ ls ?_ hl
  rw [T.2.1]
  refine cRel_new T hr ?_ g2 g3
  rw [cE_o hc.2.2.2.2.2.2]
  refine ⟨_, hc.1, (u_born ty0 T.1.2.2.2.2 hc.2.1 hKn hkC g1 hc.2.2.1).to (fun j hj => ?_)⟩
  have hj : j < (fdesc ci).length := by rw [hc.2.2.2.2.2.1]; exact hj
  rw [hdef j _ (List.getElem?_eq_getElem hj)]
  simp [vp_V, cF, hj]

theorem c_newAi {i : Int32} {K : Nat → CS → Option α} (T : cOK X E cc own nL ret z0 l0 z1 l1) (h : nwA s 100 i K = some z) (d : decode cc pc = .ok (.newarray .int, 2)) (kk : ∀ a s', K a s' = some z → cW X z1 l1 s' (pc + 2) lv (.ref a :: r)) : cW X z1 l1 s pc lv (.int i :: r) := by
  obtain ⟨h1, h2⟩ := if_of h
  have hin := inb_in h1
  have k := kk _ _ h2
  have k1 : cz s + 1 ≤ z1 := k.1
  have k2 : cl s + i.toNatClampNeg ≤ l1 := k.2.1
  have hn0 : ¬ i < 0 := fun q => hin (Or.inl q)
  have hlt : i.toNatClampNeg < 2000000 := Nat.not_le.mp fun q => hin (Or.inr q)
  refine ⟨by omega, by omega, ?_⟩
  intro H q cells slots ls hr hl
  rw [T.2.1] at hr
  have e1 := hr.2.2.1
  have e2 := hr.2.2.2
  have e3 := T.2.2.2.2.2.2.2.1
  have e4 := T.2.2.2.2.2.2.2.2.1
  refine va_newaK (atype := .int) T.1.1 T.1.2.1 (T.1.2.2.2.2 _ q253) rfl d rfl hn0 rfl (by show i.toNatClampNeg * _ ≤ _; simp only [newarray.typeOf, componentBytes]; omega) (by omega) (by omega) hr.1.2.1 fun H1 cA g1 g2 g3 g4 g5 => ?_
  refine k.2.2 H1 q _ _ ls ?_ hl
  rw [T.2.1]
  refine cRel_new T hr ?_ (by rw [g2, hr.1.2.1]) (fun q hq => g3 q (by rw [← hr.1.2.1]; exact hq))
  have hA : cA = E.2.2.1 0 := Option.some.inj (g5.symm.trans (T.2.2.1.2 0 _ rfl).2)
  subst hA
  have e : cE E.2.2.1 (uN s 100 i.toNatClampNeg i.toNatClampNeg) (cz s) 100 i.toNatClampNeg = .inl (E.2.2.1 0, i.toNatClampNeg, .inl (fun _ => 0)) := by
    simp [cE, uN]
  rw [e]
  exact g1
theorem c_newAl {i : Int32} {K : Nat → CS → Option α} (T : cOK X E cc own nL ret z0 l0 z1 l1) (h : nwA s 101 i K = some z) (d : decode cc pc = .ok (.newarray .long, 2)) (kk : ∀ a s', K a s' = some z → cW X z1 l1 s' (pc + 2) lv (.ref a :: r)) : cW X z1 l1 s pc lv (.int i :: r) := by
  obtain ⟨h1, h2⟩ := if_of h
  have hin := inb_in h1
  have k := kk _ _ h2
  have k1 : cz s + 1 ≤ z1 := k.1
  have k2 : cl s + i.toNatClampNeg ≤ l1 := k.2.1
  have hn0 : ¬ i < 0 := fun q => hin (Or.inl q)
  have hlt : i.toNatClampNeg < 2000000 := Nat.not_le.mp fun q => hin (Or.inr q)
  refine ⟨by omega, by omega, ?_⟩
  intro H q cells slots ls hr hl
  rw [T.2.1] at hr
  have e1 := hr.2.2.1
  have e2 := hr.2.2.2
  have e3 := T.2.2.2.2.2.2.2.1
  have e4 := T.2.2.2.2.2.2.2.2.1
  refine va_newaK (atype := .long) T.1.1 T.1.2.1 (T.1.2.2.2.2 _ q575) rfl d rfl hn0 rfl (by show i.toNatClampNeg * _ ≤ _; simp only [newarray.typeOf, componentBytes]; omega) (by omega) (by omega) hr.1.2.1 fun H1 cA g1 g2 g3 g4 g5 => ?_
  refine k.2.2 H1 q _ _ ls ?_ hl
  rw [T.2.1]
  refine cRel_new T hr ?_ (by rw [g2, hr.1.2.1]) (fun q hq => g3 q (by rw [← hr.1.2.1]; exact hq))
  have hA : cA = E.2.2.1 1 := Option.some.inj (g5.symm.trans (T.2.2.1.2 1 _ rfl).2)
  subst hA
  have e : cE E.2.2.1 (uN s 101 i.toNatClampNeg i.toNatClampNeg) (cz s) 101 i.toNatClampNeg = .inl (E.2.2.1 1, i.toNatClampNeg, .inr (.inl (fun _ => 0))) := by
    simp [cE, uN]
  rw [e]
  exact g1
theorem c_newAz {i : Int32} {K : Nat → CS → Option α} (T : cOK X E cc own nL ret z0 l0 z1 l1) (h : nwA s 102 i K = some z) (d : decode cc pc = .ok (.newarray .boolean, 2)) (kk : ∀ a s', K a s' = some z → cW X z1 l1 s' (pc + 2) lv (.ref a :: r)) : cW X z1 l1 s pc lv (.int i :: r) := by
  obtain ⟨h1, h2⟩ := if_of h
  have hin := inb_in h1
  have k := kk _ _ h2
  have k1 : cz s + 1 ≤ z1 := k.1
  have k2 : cl s + i.toNatClampNeg ≤ l1 := k.2.1
  have hn0 : ¬ i < 0 := fun q => hin (Or.inl q)
  have hlt : i.toNatClampNeg < 2000000 := Nat.not_le.mp fun q => hin (Or.inr q)
  refine ⟨by omega, by omega, ?_⟩
  intro H q cells slots ls hr hl
  rw [T.2.1] at hr
  have e1 := hr.2.2.1
  have e2 := hr.2.2.2
  have e3 := T.2.2.2.2.2.2.2.1
  have e4 := T.2.2.2.2.2.2.2.2.1
  refine va_newaK (atype := .boolean) T.1.1 T.1.2.1 (T.1.2.2.2.2 _ q485) rfl d rfl hn0 rfl (by show i.toNatClampNeg * _ ≤ _; simp only [newarray.typeOf, componentBytes]; omega) (by omega) (by omega) hr.1.2.1 fun H1 cA g1 g2 g3 g4 g5 => ?_
  refine k.2.2 H1 q _ _ ls ?_ hl
  rw [T.2.1]
  refine cRel_new T hr ?_ (by rw [g2, hr.1.2.1]) (fun q hq => g3 q (by rw [← hr.1.2.1]; exact hq))
  have hA : cA = E.2.2.1 2 := Option.some.inj (g5.symm.trans (T.2.2.1.2 2 _ rfl).2)
  subst hA
  have e : cE E.2.2.1 (uN s 102 i.toNatClampNeg i.toNatClampNeg) (cz s) 102 i.toNatClampNeg = .inl (E.2.2.1 2, i.toNatClampNeg, .inl (fun _ => 0)) := by
    simp [cE, uN]
  rw [e]
  exact g1
theorem c_newAb {i : Int32} {K : Nat → CS → Option α} (T : cOK X E cc own nL ret z0 l0 z1 l1) (h : nwA s 103 i K = some z) (d : decode cc pc = .ok (.newarray .byte, 2)) (kk : ∀ a s', K a s' = some z → cW X z1 l1 s' (pc + 2) lv (.ref a :: r)) : cW X z1 l1 s pc lv (.int i :: r) := by
  obtain ⟨h1, h2⟩ := if_of h
  have hin := inb_in h1
  have k := kk _ _ h2
  have k1 : cz s + 1 ≤ z1 := k.1
  have k2 : cl s + i.toNatClampNeg ≤ l1 := k.2.1
  have hn0 : ¬ i < 0 := fun q => hin (Or.inl q)
  have hlt : i.toNatClampNeg < 2000000 := Nat.not_le.mp fun q => hin (Or.inr q)
  refine ⟨by omega, by omega, ?_⟩
  intro H q cells slots ls hr hl
  rw [T.2.1] at hr
  have e1 := hr.2.2.1
  have e2 := hr.2.2.2
  have e3 := T.2.2.2.2.2.2.2.1
  have e4 := T.2.2.2.2.2.2.2.2.1
  refine va_newaK (atype := .byte) T.1.1 T.1.2.1 (T.1.2.2.2.2 _ q216) rfl d rfl hn0 rfl (by show i.toNatClampNeg * _ ≤ _; simp only [newarray.typeOf, componentBytes]; omega) (by omega) (by omega) hr.1.2.1 fun H1 cA g1 g2 g3 g4 g5 => ?_
  refine k.2.2 H1 q _ _ ls ?_ hl
  rw [T.2.1]
  refine cRel_new T hr ?_ (by rw [g2, hr.1.2.1]) (fun q hq => g3 q (by rw [← hr.1.2.1]; exact hq))
  have hA : cA = E.2.2.1 3 := Option.some.inj (g5.symm.trans (T.2.2.1.2 3 _ rfl).2)
  subst hA
  have e : cE E.2.2.1 (uN s 103 i.toNatClampNeg i.toNatClampNeg) (cz s) 103 i.toNatClampNeg = .inl (E.2.2.1 3, i.toNatClampNeg, .inl (fun _ => 0)) := by
    simp [cE, uN]
  rw [e]
  exact g1
theorem c_newQ104 {i : Int32} {index : Nat} {K : Nat → CS → Option α} (hcl : Cond.classLink own index "OverFirst$Light" ∈ lw_all) (T : cOK X E cc own nL ret z0 l0 z1 l1) (h : nwA s 104 i K = some z) (d : decode cc pc = .ok (.anewarray index, 3)) (kk : ∀ a s', K a s' = some z → cW X z1 l1 s' (pc + 3) lv (.ref a :: r)) : cW X z1 l1 s pc lv (.int i :: r) := by
  obtain ⟨h1, h2⟩ := if_of h
  have hin := inb_in h1
  have k := kk _ _ h2
  have k1 : cz s + 1 ≤ z1 := k.1
  have k2 : cl s + i.toNatClampNeg ≤ l1 := k.2.1
  have hn0 : ¬ i < 0 := fun q => hin (Or.inl q)
  have hlt : i.toNatClampNeg < 2000000 := Nat.not_le.mp fun q => hin (Or.inr q)
  refine ⟨by omega, by omega, ?_⟩
  intro H q cells slots ls hr hl
  rw [T.2.1] at hr
  have e1 := hr.2.2.1
  have e2 := hr.2.2.2
  have e3 := T.2.2.2.2.2.2.2.1
  have e4 := T.2.2.2.2.2.2.2.2.1
  refine W.anew T.1.1 T.1.2.1 T.1.2.2.1 (T.1.2.2.2.2 _ hcl) (va_AO.use (T.2.2.2.1.2.2.2.2.1 _ q224)) rfl d rfl hn0 (by omega) (by omega) (by omega) fun cA kA comp f1 f2 f3 f4 => ?_
  generalize hH1 : H.push ({ cls := cA, slots := Array.replicate i.toNatClampNeg .null, vm := .none } : Cell) = H1
  have g2 : H1.size = H.size + 1 := by rw [← hH1, Array.size_push]
  have g1 : H1[H.size]? = some (arrV cA i.toNatClampNeg (fun _ => .null)) := by rw [← hH1, Array.getElem?_push_size, ← arrV_new]
  have g3 : ∀ q : Nat, q < H.size → H1[q]? = H[q]? := fun q hq => by rw [← hH1, Array.getElem?_push, if_neg (Nat.ne_of_lt hq)]
  rw [hr.1.2.1] at g1 ⊢
  refine k.2.2 H1 q _ _ ls ?_ hl
  rw [T.2.1]
  refine cRel_new T hr ?_ g2 g3
  obtain ⟨-, kA', comp', -, -, -, y4⟩ := T.2.2.1.2 4 _ rfl
  have hA : cA = E.2.2.1 4 := Option.some.inj (f1.symm.trans y4)
  subst hA
  have e : cE E.2.2.1 (uN s 104 i.toNatClampNeg i.toNatClampNeg) (cz s) 104 i.toNatClampNeg = .inl (E.2.2.1 4, i.toNatClampNeg, .inr (.inr (.inr (.inr (fun _ => none))))) := by
    simp [cE, uN]
  rw [e]
  exact g1
theorem c_newQ105 {i : Int32} {index : Nat} {K : Nat → CS → Option α} (hcl : Cond.classLink own index "OverFirst$State" ∈ lw_all) (T : cOK X E cc own nL ret z0 l0 z1 l1) (h : nwA s 105 i K = some z) (d : decode cc pc = .ok (.anewarray index, 3)) (kk : ∀ a s', K a s' = some z → cW X z1 l1 s' (pc + 3) lv (.ref a :: r)) : cW X z1 l1 s pc lv (.int i :: r) := by
  obtain ⟨h1, h2⟩ := if_of h
  have hin := inb_in h1
  have k := kk _ _ h2
  have k1 : cz s + 1 ≤ z1 := k.1
  have k2 : cl s + i.toNatClampNeg ≤ l1 := k.2.1
  have hn0 : ¬ i < 0 := fun q => hin (Or.inl q)
  have hlt : i.toNatClampNeg < 2000000 := Nat.not_le.mp fun q => hin (Or.inr q)
  refine ⟨by omega, by omega, ?_⟩
  intro H q cells slots ls hr hl
  rw [T.2.1] at hr
  have e1 := hr.2.2.1
  have e2 := hr.2.2.2
  have e3 := T.2.2.2.2.2.2.2.1
  have e4 := T.2.2.2.2.2.2.2.2.1
  refine W.anew T.1.1 T.1.2.1 T.1.2.2.1 (T.1.2.2.2.2 _ hcl) (va_AO.use (T.2.2.2.1.2.2.2.2.1 _ q486)) rfl d rfl hn0 (by omega) (by omega) (by omega) fun cA kA comp f1 f2 f3 f4 => ?_
  generalize hH1 : H.push ({ cls := cA, slots := Array.replicate i.toNatClampNeg .null, vm := .none } : Cell) = H1
  have g2 : H1.size = H.size + 1 := by rw [← hH1, Array.size_push]
  have g1 : H1[H.size]? = some (arrV cA i.toNatClampNeg (fun _ => .null)) := by rw [← hH1, Array.getElem?_push_size, ← arrV_new]
  have g3 : ∀ q : Nat, q < H.size → H1[q]? = H[q]? := fun q hq => by rw [← hH1, Array.getElem?_push, if_neg (Nat.ne_of_lt hq)]
  rw [hr.1.2.1] at g1 ⊢
  refine k.2.2 H1 q _ _ ls ?_ hl
  rw [T.2.1]
  refine cRel_new T hr ?_ g2 g3
  obtain ⟨-, kA', comp', -, -, -, y4⟩ := T.2.2.1.2 5 _ rfl
  have hA : cA = E.2.2.1 5 := Option.some.inj (f1.symm.trans y4)
  subst hA
  have e : cE E.2.2.1 (uN s 105 i.toNatClampNeg i.toNatClampNeg) (cz s) 105 i.toNatClampNeg = .inl (E.2.2.1 5, i.toNatClampNeg, .inr (.inr (.inr (.inr (fun _ => none))))) := by
    simp [cE, uN]
  rw [e]
  exact g1
theorem c_newQ106 {i : Int32} {index : Nat} {K : Nat → CS → Option α} (hcl : Cond.classLink own index "java/lang/Object" ∈ lw_all) (T : cOK X E cc own nL ret z0 l0 z1 l1) (h : nwA s 106 i K = some z) (d : decode cc pc = .ok (.anewarray index, 3)) (kk : ∀ a s', K a s' = some z → cW X z1 l1 s' (pc + 3) lv (.ref a :: r)) : cW X z1 l1 s pc lv (.int i :: r) := by
  obtain ⟨h1, h2⟩ := if_of h
  have hin := inb_in h1
  have k := kk _ _ h2
  have k1 : cz s + 1 ≤ z1 := k.1
  have k2 : cl s + i.toNatClampNeg ≤ l1 := k.2.1
  have hn0 : ¬ i < 0 := fun q => hin (Or.inl q)
  have hlt : i.toNatClampNeg < 2000000 := Nat.not_le.mp fun q => hin (Or.inr q)
  refine ⟨by omega, by omega, ?_⟩
  intro H q cells slots ls hr hl
  rw [T.2.1] at hr
  have e1 := hr.2.2.1
  have e2 := hr.2.2.2
  have e3 := T.2.2.2.2.2.2.2.1
  have e4 := T.2.2.2.2.2.2.2.2.1
  refine W.anew T.1.1 T.1.2.1 T.1.2.2.1 (T.1.2.2.2.2 _ hcl) (va_AO.use (T.2.2.2.1.2.2.2.2.1 _ q238)) rfl d rfl hn0 (by omega) (by omega) (by omega) fun cA kA comp f1 f2 f3 f4 => ?_
  generalize hH1 : H.push ({ cls := cA, slots := Array.replicate i.toNatClampNeg .null, vm := .none } : Cell) = H1
  have g2 : H1.size = H.size + 1 := by rw [← hH1, Array.size_push]
  have g1 : H1[H.size]? = some (arrV cA i.toNatClampNeg (fun _ => .null)) := by rw [← hH1, Array.getElem?_push_size, ← arrV_new]
  have g3 : ∀ q : Nat, q < H.size → H1[q]? = H[q]? := fun q hq => by rw [← hH1, Array.getElem?_push, if_neg (Nat.ne_of_lt hq)]
  rw [hr.1.2.1] at g1 ⊢
  refine k.2.2 H1 q _ _ ls ?_ hl
  rw [T.2.1]
  refine cRel_new T hr ?_ g2 g3
  obtain ⟨-, kA', comp', -, -, -, y4⟩ := T.2.2.1.2 6 _ rfl
  have hA : cA = E.2.2.1 6 := Option.some.inj (f1.symm.trans y4)
  subst hA
  have e : cE E.2.2.1 (uN s 106 i.toNatClampNeg i.toNatClampNeg) (cz s) 106 i.toNatClampNeg = .inl (E.2.2.1 6, i.toNatClampNeg, .inr (.inr (.inr (.inr (fun _ => none))))) := by
    simp [cE, uN]
  rw [e]
  exact g1
end C2
