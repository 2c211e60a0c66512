/-! THE COMPONENT: methods that may throw (Reader's): the outcome is .inl q (q is thrown, a Wrong) or .inr v -/
set_option maxRecDepth 100000
def thr {α β : Type} (o : Option ((Nat ⊕ α) × CS)) (K : α → CS → Option ((Nat ⊕ β) × CS)) : Option ((Nat ⊕ β) × CS) := match o with
  | none => none
  | some (.inl q, s) => some (.inl q, s)
  | some (.inr v, s) => K v s
theorem thr_of {α β : Type} {o : Option ((Nat ⊕ α) × CS)} {K : α → CS → Option ((Nat ⊕ β) × CS)} {z : (Nat ⊕ β) × CS} (h : thr o K = some z) : ∃ x s, o = some (x, s) ∧ (∀ q, x = .inl q → (.inl q, s) = z) ∧ (∀ v, x = .inr v → K v s = some z) := by
  unfold thr at h
  match o, h with
  | some (.inl q, s), h => exact ⟨_, s, rfl, fun q' e => (by cases e; exact Option.some.inj h), fun v e => (by cases e)⟩
  | some (.inr v, s), h => exact ⟨_, s, rfl, fun q' e => (by cases e), fun v' e => (by cases e; exact h)⟩
def xX (E : CE) (q? : Option Nat) (s' : CS) : String → Nat → State → State → Prop := wx_X (fun u : CS => u = s') (fun Ec q u t => q? = some q ∧ Ec = "OverFirst$Wrong" ∧ cPost E u t) E.2.1
def xgl {α : Type} (o : Nat ⊕ α) : Option Nat := match o with
  | .inl q => some q
  | .inr _ => none
def xE (X : KC CS) (E : CE) (z0 l0 z1 l1 : Nat) (Qc : Array Value → State → Outcome → State → Prop) (q? : Option Nat) (s' : CS) : Prop := X.2.2.2 = wx_MQ X.2.1.2.2.1 Qc (xX E q? s') X.2.1.2.1 X.1.2.2.2.2 (cz s' - z0) (cl s' - l0) E.2.1 ∧ cz s' ≤ z1 ∧ cl s' ≤ l1 ∧ ∀ x ∈ X.2.1.2.2.2.2.exceptionTable.toList, False

def xQ_i (E : CE) (o : Nat ⊕ Int32) (s' : CS) : Array Value → State → Outcome → State → Prop := va_Qi (fun (r : Int32) (u : CS) => o = .inr r ∧ u = s') (cPost E) E.2.1
def xMet_i (l : Launch) (E : CE) (y : MethodName) (ws : List Cond) (F L : Nat) (As : List Value) (s : CS) (o : Nat ⊕ Int32) (s' : CS) : Prop := (cz s ≤ cz s' ∧ cl s ≤ cl s') ∧ wx_Met l y ws ({ frames := F, cells := cz s' - cz s, slots := cl s' - cl s, locals := L }) (va_Pc As (cPre E s)) (xQ_i E o s') (xX E (xgl o) s') (cz s' - cz s) (cl s' - cl s) E.2.1
theorem x_met_i {l : Launch} {E : CE} {y : MethodName} {F L nL : Nat} {As : List Value} {s s' : CS} {o : Nat ⊕ Int32} {cc : ByteArray} {ret : Option FieldType} (hm : cz s ≤ cz s' ∧ cl s ≤ cl s') (hy : plainName y.cls = true) (hA : Nat.ble (lg_sl As).length nL = true) (body : ∀ X : KC CS, X.1.2.1 = l → X.2.1.2.2.2.1.name = y.name → cOK X E cc y.cls nL ret (cz s) (cl s) (cz s') (cl s') → cRoom X F L → xE X E (cz s) (cl s) (cz s') (cl s') (xQ_i E o s') (xgl o) s' → cW X (cz s') (cl s') s 0 (lv_args 0 As) []) : xMet_i l E y (ws_ y cc nL ret) F L As s o s' := by
  refine ⟨hm, wx_ofW (cc := cc) (maxL := nL) (ret := ret) hy rfl ?_⟩
  intro p e u m args below meth c s₁ B hml htab hv
  obtain ⟨rfl, hP, hK, hN, hA1, hSt⟩ := hv
  have hts := atoms_spec (ws := ws_ y cc nL ret) B.pre
  have hts : ∀ w ∈ lw_all, w.before As.toArray u = true := fun w h => hts w (List.mem_cons_of_mem _ h)
  have hown : u.vm.findClass y.cls = some m.cls := findClass_of_methodNamed B.named
  have hl := lv_entry As (n := nL) (Nat.le_of_ble_eq_true hA)
  rw [lg_entry_eq]
  rw [← hml] at hl
  have K := body ((p, l, e, (headSpec (ws_ y cc nL ret) { frames := F, cells := cz s' - cz s, slots := cl s' - cl s, locals := L }).room, u), (m, As.toArray, below, meth, c), cRel E u (cz s) (cl s), wx_MQ below (xQ_i E o s') (xX E (xgl o) s') As.toArray u (cz s' - cz s) (cl s' - cl s) E.2.1) rfl ((name_of_methodNamed B.named B.method).1) ⟨⟨B.exec, B.bytes, hown, hml, hts⟩, rfl, hK, hN, B.returns, B.notSynchronized, hA1, by show cz s' - cz s + cz s = cz s'; omega, by show cl s' - cl s + cl s = cl s'; omega, hP.2.1, hSt⟩ ⟨Nat.le_refl _, Nat.le_refl _⟩ ⟨rfl, Nat.le_refl _, Nat.le_refl _, htab⟩
  rw [← hml]
  exact K.2.2 u.heap [] 0 0 _ ⟨hP, va_S.rf, by omega, by omega⟩ hl
def xQ_q (E : CE) (o : Nat ⊕ Option Nat) (s' : CS) : Array Value → State → Outcome → State → Prop := va_Qq (fun (r : Option Nat) (u : CS) => o = .inr r ∧ u = s') (cPost E) E.2.1
def xMet_q (l : Launch) (E : CE) (y : MethodName) (ws : List Cond) (F L : Nat) (As : List Value) (s : CS) (o : Nat ⊕ Option Nat) (s' : CS) : Prop := (cz s ≤ cz s' ∧ cl s ≤ cl s') ∧ wx_Met l y ws ({ frames := F, cells := cz s' - cz s, slots := cl s' - cl s, locals := L }) (va_Pc As (cPre E s)) (xQ_q E o s') (xX E (xgl o) s') (cz s' - cz s) (cl s' - cl s) E.2.1
theorem x_met_q {l : Launch} {E : CE} {y : MethodName} {F L nL : Nat} {As : List Value} {s s' : CS} {o : Nat ⊕ Option Nat} {cc : ByteArray} {ret : Option FieldType} (hm : cz s ≤ cz s' ∧ cl s ≤ cl s') (hy : plainName y.cls = true) (hA : Nat.ble (lg_sl As).length nL = true) (body : ∀ X : KC CS, X.1.2.1 = l → X.2.1.2.2.2.1.name = y.name → cOK X E cc y.cls nL ret (cz s) (cl s) (cz s') (cl s') → cRoom X F L → xE X E (cz s) (cl s) (cz s') (cl s') (xQ_q E o s') (xgl o) s' → cW X (cz s') (cl s') s 0 (lv_args 0 As) []) : xMet_q l E y (ws_ y cc nL ret) F L As s o s' := by
  refine ⟨hm, wx_ofW (cc := cc) (maxL := nL) (ret := ret) hy rfl ?_⟩
  intro p e u m args below meth c s₁ B hml htab hv
  obtain ⟨rfl, hP, hK, hN, hA1, hSt⟩ := hv
  have hts := atoms_spec (ws := ws_ y cc nL ret) B.pre
  have hts : ∀ w ∈ lw_all, w.before As.toArray u = true := fun w h => hts w (List.mem_cons_of_mem _ h)
  have hown : u.vm.findClass y.cls = some m.cls := findClass_of_methodNamed B.named
  have hl := lv_entry As (n := nL) (Nat.le_of_ble_eq_true hA)
  rw [lg_entry_eq]
  rw [← hml] at hl
  have K := body ((p, l, e, (headSpec (ws_ y cc nL ret) { frames := F, cells := cz s' - cz s, slots := cl s' - cl s, locals := L }).room, u), (m, As.toArray, below, meth, c), cRel E u (cz s) (cl s), wx_MQ below (xQ_q E o s') (xX E (xgl o) s') As.toArray u (cz s' - cz s) (cl s' - cl s) E.2.1) rfl ((name_of_methodNamed B.named B.method).1) ⟨⟨B.exec, B.bytes, hown, hml, hts⟩, rfl, hK, hN, B.returns, B.notSynchronized, hA1, by show cz s' - cz s + cz s = cz s'; omega, by show cl s' - cl s + cl s = cl s'; omega, hP.2.1, hSt⟩ ⟨Nat.le_refl _, Nat.le_refl _⟩ ⟨rfl, Nat.le_refl _, Nat.le_refl _, htab⟩
  rw [← hml]
  exact K.2.2 u.heap [] 0 0 _ ⟨hP, va_S.rf, by omega, by omega⟩ hl
def xQ_v (E : CE) (o : Nat ⊕ Unit) (s' : CS) : Array Value → State → Outcome → State → Prop := va_Qv (fun (u : CS) => o = .inr () ∧ u = s') (cPost E) E.2.1
def xMet_v (l : Launch) (E : CE) (y : MethodName) (ws : List Cond) (F L : Nat) (As : List Value) (s : CS) (o : Nat ⊕ Unit) (s' : CS) : Prop := (cz s ≤ cz s' ∧ cl s ≤ cl s') ∧ wx_Met l y ws ({ frames := F, cells := cz s' - cz s, slots := cl s' - cl s, locals := L }) (va_Pc As (cPre E s)) (xQ_v E o s') (xX E (xgl o) s') (cz s' - cz s) (cl s' - cl s) E.2.1
theorem x_met_v {l : Launch} {E : CE} {y : MethodName} {F L nL : Nat} {As : List Value} {s s' : CS} {o : Nat ⊕ Unit} {cc : ByteArray} {ret : Option FieldType} (hm : cz s ≤ cz s' ∧ cl s ≤ cl s') (hy : plainName y.cls = true) (hA : Nat.ble (lg_sl As).length nL = true) (body : ∀ X : KC CS, X.1.2.1 = l → X.2.1.2.2.2.1.name = y.name → cOK X E cc y.cls nL ret (cz s) (cl s) (cz s') (cl s') → cRoom X F L → xE X E (cz s) (cl s) (cz s') (cl s') (xQ_v E o s') (xgl o) s' → cW X (cz s') (cl s') s 0 (lv_args 0 As) []) : xMet_v l E y (ws_ y cc nL ret) F L As s o s' := by
  refine ⟨hm, wx_ofW (cc := cc) (maxL := nL) (ret := ret) hy rfl ?_⟩
  intro p e u m args below meth c s₁ B hml htab hv
  obtain ⟨rfl, hP, hK, hN, hA1, hSt⟩ := hv
  have hts := atoms_spec (ws := ws_ y cc nL ret) B.pre
  have hts : ∀ w ∈ lw_all, w.before As.toArray u = true := fun w h => hts w (List.mem_cons_of_mem _ h)
  have hown : u.vm.findClass y.cls = some m.cls := findClass_of_methodNamed B.named
  have hl := lv_entry As (n := nL) (Nat.le_of_ble_eq_true hA)
  rw [lg_entry_eq]
  rw [← hml] at hl
  have K := body ((p, l, e, (headSpec (ws_ y cc nL ret) { frames := F, cells := cz s' - cz s, slots := cl s' - cl s, locals := L }).room, u), (m, As.toArray, below, meth, c), cRel E u (cz s) (cl s), wx_MQ below (xQ_v E o s') (xX E (xgl o) s') As.toArray u (cz s' - cz s) (cl s' - cl s) E.2.1) rfl ((name_of_methodNamed B.named B.method).1) ⟨⟨B.exec, B.bytes, hown, hml, hts⟩, rfl, hK, hN, B.returns, B.notSynchronized, hA1, by show cz s' - cz s + cz s = cz s'; omega, by show cl s' - cl s + cl s = cl s'; omega, hP.2.1, hSt⟩ ⟨Nat.le_refl _, Nat.le_refl _⟩ ⟨rfl, Nat.le_refl _, Nat.le_refl _, htab⟩
  rw [← hml]
  exact K.2.2 u.heap [] 0 0 _ ⟨hP, va_S.rf, by omega, by omega⟩ hl
theorem w_ldcwString {p : Program} {l : Launch} {e : Env} {R : Room} {s : State} {m : MethodId} {args : Array Value} {below : List Frame} {meth : Method} {c : Code} {T : State} {locs : List Loc} {cells slots : Nat} (X : Stand p l e R s m args below meth c T locs cells slots) (hexec : p.tables.exec = Jvm.exec) {own text : String} {index : Nat} {a : Addr} (hown : s.vm.findClass own = some m.cls) (hconst : (Cond.stringRef own index text).before args s = true) (hev : (Term.string own index).eval args s none [] s = some (.ref a)) {g : JFrame} (hg : g.method = m) (hdg : decode c.code g.pc = .ok (.ldc_w index, 3)) :
    ∀ target, Steps p.tables e below (T.setTop { g with pc := g.pc + 3, stack := .ref a :: g.stack }) target → Steps p.tables e below (T.setTop g) target := by
  obtain ⟨k, cf, i, a', hk, hcf, hcp, -, hr, hev'⟩ := Cond.stringRef_spec hown hconst
  cases hev.symm.trans hev'
  obtain ⟨k', hk', he⟩ := X.warmed.alike.2.2 _ _ hk
  have hr' : k'.resolved[index]? = some (some (.string a)) := by
    rcases X.warmed.entry hk hk' index with h | ⟨h, -⟩
    · rw [h]; exact hr
    · rw [hr] at h; cases h
  intro target hrest
  subst hg
  jvm_step X.here [hexec, hdg, ldc_w.wp_string (e := e) (s := T) (f := g) X.here.top hk' (by rw [he]; exact hcf) hcp hr']
  exact hrest

section X2
variable {X : KC CS} {E : CE} {cc : ByteArray} {own : String} {nL : Nat} {ret : Option FieldType} {z0 l0 z1 l1 : Nat} {s s' : CS} {pc : Nat} {lv : List (Nat × Value)} {r : List Value} {α : Type} {z : α} {a : Nat}
theorem x_leave {Qc : Array Value → State → Outcome → State → Prop} {q cells slots : Nat} {H : Heap} {locs : List Loc} {ls : Array Slot} {ce : Cell} (T : cOK X E cc own nL ret z0 l0 z1 l1) (e : xE X E z0 l0 z1 l1 Qc (some q) s) (hr : cRel E X.1.2.2.2.2 z0 l0 s H locs cells slots) (hcell : H[q]? = some ce) (hv : ce.vm = .none) (hcl : X.1.2.2.2.2.vm.findClass "OverFirst$Wrong" = some ce.cls) : wx_W X.1.1 X.1.2.1 X.1.2.2.1 X.1.2.2.2.1 X.1.2.2.2.2 X.2.1.1 X.2.1.2.1 X.2.1.2.2.1 X.2.1.2.2.2.1 X.2.1.2.2.2.2 H locs cells slots X.2.2.2 (F0 X.2.1.1 pc ls r) q := by
  obtain ⟨hP, hS, ha, hb2⟩ := hr
  rw [show X.2.2.2 = _ from e.1]
  exact wx_out (E := "OverFirst$Wrong") (fun x hx => (e.2.2.2 x hx).elim) T.2.2.2.2.2.1 hcell hv hcl (fun t ht hW => ⟨s, rfl, ⟨rfl, rfl, by rw [cPost, ht]; exact hP.moved hW⟩, hS.F ht⟩) hS.2.2 (by omega) (by omega)
theorem x_throw {β : Type} {Qc : Array Value → State → Outcome → State → Prop} {q : Nat} {z : (Nat ⊕ β) × CS} (T : cOK X E cc own nL ret z0 l0 z1 l1) (e : xE X E z0 l0 z1 l1 Qc (xgl z.1) z.2) (h : gd (isK s q [10]) (some (.inl q, s)) = some z) (d : decode cc pc = .ok (.athrow, 1)) : cW X z1 l1 s pc lv (.ref q :: r) := by
  obtain ⟨hg, h⟩ := gd_of h
  cases h
  obtain ⟨w, c, n, hb, hc⟩ := isK_of hg
  simp only [List.mem_cons, List.not_mem_nil, or_false] at hc
  subst hc
  refine ⟨e.2.1, e.2.2.1, ?_⟩
  intro H locs cells slots ls hr hl
  have hr2 := hr
  rw [T.2.1] at hr2
  have hP := c_at hr2.1 hb (Or.inr (by decide))
  rw [cE_o (by decide)] at hP
  obtain ⟨q', h1, cell, g1, g2, g3, -⟩ := hP 0 _ rfl
  cases h1
  have g2 : cell.cls = E.1.1 10 := g2
  refine wx_athrow T.1.1 T.1.2.1 d (x_leave T e hr2 g1 g3 ?_)
  rw [g2]
  exact (T.2.2.1.1 10 _ rfl).2.1
theorem k_ldcS {k p : Nat} {x : Nat × String} (T : cOK X E cc "OverFirst$Reader" nL ret z0 l0 z1 l1) (hs : E.2.2.2 (10 + k) = some p) (hk : cStr[k]? = some x) (d : decode cc pc = .ok (.ldc x.1, 2)) (kk : kW X s (pc + 2) lv (.ref p :: r)) : kW X s pc lv r := fun H q a b ls hR hl => by
  have h := T.2.2.2.2.2.2.2.2.2.2.2.2.2.2.2 k x hk
  rw [hs] at h
  exact va_ldcS T.1.1 T.1.2.1 T.1.2.2.1 h d (kk H q a b ls hR hl)
theorem k_ldcwS {k p : Nat} {x : Nat × String} (T : cOK X E cc "OverFirst$Reader" nL ret z0 l0 z1 l1) (hs : E.2.2.2 (10 + k) = some p) (hk : cStr[k]? = some x) (d : decode cc pc = .ok (.ldc_w x.1, 3)) (kk : kW X s (pc + 3) lv (.ref p :: r)) : kW X s pc lv r := fun H q a b ls hR hl => by
  have h := T.2.2.2.2.2.2.2.2.2.2.2.2.2.2.2 k x hk
  rw [hs] at h
  intro T1 hT X1
  obtain ⟨t, a1, b1⟩ := kk H q a b ls hR hl T1 hT X1
  exact ⟨t, w_ldcwString X1 T.1.1 T.1.2.2.1 (text := x.2) (a := p) h.1 h.2 (g := F0 X.2.1.1 pc ls r) rfl (by rw [T.1.2.1]; exact d) t a1, b1⟩

theorem x_callV_i {As : List Value} {y : MethodName} {ws : List Cond} {F L index n maxL b : Nat} {bytes : ByteArray} {rt : Option FieldType} {o : Nat ⊕ Int32} {ci n' : Nat} {w : Bool} {C : String} {T0 : u_T} {N : Nat} {ty0 : Nat → FieldType} (hc : cCls ci C T0 N ty0) (hb : s.1 b = some (w, ci, n')) (T : cOK X E cc own nL ret z0 l0 z1 l1) (hM : xMet_i X.1.2.1 E y ws F L (.ref b :: As) s o s') (cw : CallW X.1.2.2.2.1 X.1.2.2.2.2 X.2.1.2.1 own C index y bytes maxL rt ws ({ frames := F, cells := cz s' - cz s, slots := cl s' - cl s, locals := L }) (cz s' - cz s) (cl s' - cl s) n) (hn : As.length = n) (hst : Nat.ble (r.map Value.category).sum 8 = true) (d : decode cc pc = .ok (.invokevirtual index, 3)) (kt : ∀ q, o = .inl q → ∃ Qc, xE X E z0 l0 z1 l1 Qc (some q) s') (k : ∀ v, o = .inr v → cW X z1 l1 s' (pc + 3) lv (.int v :: r)) : cW X z1 l1 s pc lv (As.reverse ++ .ref b :: r) := by
  obtain ⟨hm, hM⟩ := hM
  have k0 : cz s' ≤ z1 ∧ cl s' ≤ l1 := by
    cases o with
    | inl q => obtain ⟨Qc, e⟩ := kt q rfl; exact ⟨e.2.1, e.2.2.1⟩
    | inr v => exact ⟨(k v rfl).1, (k v rfl).2.1⟩
  refine ⟨Nat.le_trans hm.1 k0.1, Nat.le_trans hm.2 k0.2, ?_⟩
  intro H q cells slots ls hr hl
  have hr2 := hr
  rw [T.2.1] at hr2
  have e1 := hr2.2.2.1
  have e2 := hr2.2.2.2
  have e3 := T.2.2.2.2.2.2.2.1
  have e4 := T.2.2.2.2.2.2.2.2.1
  have k1 := k0.1
  have k2 := k0.2
  refine wx_calli (wx_runV (As := As) (rest := r) ⟨T.1.1, T.1.2.1, T.1.2.2.2.1, T.1.2.2.1, T.1.2.2.2.2⟩ hM cw ⟨c_blind, c_recv T hc hr2.1 hb, fun U hU hW => ⟨rfl, c_pre T hr2 U hU hW⟩⟩ rfl hn (hl.1.trans T.1.2.2.2.1) rfl (lv_room (Nat.le_of_ble_eq_true hst)) d ?_) hr2.2.1 (fun q _ h => h) (fun q h => h) (fun q _ h => h) (fun Ec ce q9 u t H1 l1 ht hvm hw hB hz hk hS hce hcv hcl => ?_) (fun v1 u t H1 l1 ht hvm hw hB hz hk hS => ?_)
  · constructor <;> omega
  · have hw : u = s' := hw
    subst hw
    obtain ⟨ho, rfl, hB⟩ := hB
    cases o with
    | inr v => cases ho
    | inl q' =>
      cases ho
      obtain ⟨Qc, e⟩ := kt _ rfl
      refine x_leave T e ⟨?_, hS, by omega, by omega⟩ hce hcv hcl
      rw [← ht]
      exact cHp.moved hvm.symm hB
  · obtain ⟨ho, rfl⟩ := hw
    refine (k _ ho).2.2 H1 l1 _ _ ls ?_ hl
    rw [T.2.1]
    refine ⟨?_, hS, by omega, by omega⟩
    rw [← ht]
    exact cHp.moved hvm.symm hB
theorem x_callV_q {As : List Value} {y : MethodName} {ws : List Cond} {F L index n maxL b : Nat} {bytes : ByteArray} {rt : Option FieldType} {o : Nat ⊕ Option Nat} {ci n' : Nat} {w : Bool} {C : String} {T0 : u_T} {N : Nat} {ty0 : Nat → FieldType} (hc : cCls ci C T0 N ty0) (hb : s.1 b = some (w, ci, n')) (T : cOK X E cc own nL ret z0 l0 z1 l1) (hM : xMet_q X.1.2.1 E y ws F L (.ref b :: As) s o s') (cw : CallW X.1.2.2.2.1 X.1.2.2.2.2 X.2.1.2.1 own C index y bytes maxL rt ws ({ frames := F, cells := cz s' - cz s, slots := cl s' - cl s, locals := L }) (cz s' - cz s) (cl s' - cl s) n) (hn : As.length = n) (hst : Nat.ble (r.map Value.category).sum 8 = true) (d : decode cc pc = .ok (.invokevirtual index, 3)) (kt : ∀ q, o = .inl q → ∃ Qc, xE X E z0 l0 z1 l1 Qc (some q) s') (k : ∀ v, o = .inr v → cW X z1 l1 s' (pc + 3) lv (va_rf v :: r)) : cW X z1 l1 s pc lv (As.reverse ++ .ref b :: r) := by
  obtain ⟨hm, hM⟩ := hM
  have k0 : cz s' ≤ z1 ∧ cl s' ≤ l1 := by
    cases o with
    | inl q => obtain ⟨Qc, e⟩ := kt q rfl; exact ⟨e.2.1, e.2.2.1⟩
    | inr v => exact ⟨(k v rfl).1, (k v rfl).2.1⟩
  refine ⟨Nat.le_trans hm.1 k0.1, Nat.le_trans hm.2 k0.2, ?_⟩
  intro H q cells slots ls hr hl
  have hr2 := hr
  rw [T.2.1] at hr2
  have e1 := hr2.2.2.1
  have e2 := hr2.2.2.2
  have e3 := T.2.2.2.2.2.2.2.1
  have e4 := T.2.2.2.2.2.2.2.2.1
  have k1 := k0.1
  have k2 := k0.2
  refine wx_callq (wx_runV (As := As) (rest := r) ⟨T.1.1, T.1.2.1, T.1.2.2.2.1, T.1.2.2.1, T.1.2.2.2.2⟩ hM cw ⟨c_blind, c_recv T hc hr2.1 hb, fun U hU hW => ⟨rfl, c_pre T hr2 U hU hW⟩⟩ rfl hn (hl.1.trans T.1.2.2.2.1) rfl (lv_room (Nat.le_of_ble_eq_true hst)) d ?_) hr2.2.1 (fun q _ h => h) (fun q h => h) (fun q _ h => h) (fun Ec ce q9 u t H1 l1 ht hvm hw hB hz hk hS hce hcv hcl => ?_) (fun v1 u t H1 l1 ht hvm hw hB hz hk hS => ?_)
  · constructor <;> omega
  · have hw : u = s' := hw
    subst hw
    obtain ⟨ho, rfl, hB⟩ := hB
    cases o with
    | inr v => cases ho
    | inl q' =>
      cases ho
      obtain ⟨Qc, e⟩ := kt _ rfl
      refine x_leave T e ⟨?_, hS, by omega, by omega⟩ hce hcv hcl
      rw [← ht]
      exact cHp.moved hvm.symm hB
  · obtain ⟨ho, rfl⟩ := hw
    refine (k _ ho).2.2 H1 l1 _ _ ls ?_ hl
    rw [T.2.1]
    refine ⟨?_, hS, by omega, by omega⟩
    rw [← ht]
    exact cHp.moved hvm.symm hB
theorem x_callV_v {As : List Value} {y : MethodName} {ws : List Cond} {F L index n maxL b : Nat} {bytes : ByteArray} {rt : Option FieldType} {o : Nat ⊕ Unit} {ci n' : Nat} {w : Bool} {C : String} {T0 : u_T} {N : Nat} {ty0 : Nat → FieldType} (hc : cCls ci C T0 N ty0) (hb : s.1 b = some (w, ci, n')) (T : cOK X E cc own nL ret z0 l0 z1 l1) (hM : xMet_v X.1.2.1 E y ws F L (.ref b :: As) s o s') (cw : CallW X.1.2.2.2.1 X.1.2.2.2.2 X.2.1.2.1 own C index y bytes maxL rt ws ({ frames := F, cells := cz s' - cz s, slots := cl s' - cl s, locals := L }) (cz s' - cz s) (cl s' - cl s) n) (hn : As.length = n) (hst : Nat.ble (r.map Value.category).sum 8 = true) (d : decode cc pc = .ok (.invokevirtual index, 3)) (kt : ∀ q, o = .inl q → ∃ Qc, xE X E z0 l0 z1 l1 Qc (some q) s') (k : o = .inr () → cW X z1 l1 s' (pc + 3) lv r) : cW X z1 l1 s pc lv (As.reverse ++ .ref b :: r) := by
  obtain ⟨hm, hM⟩ := hM
  have k0 : cz s' ≤ z1 ∧ cl s' ≤ l1 := by
    cases o with
    | inl q => obtain ⟨Qc, e⟩ := kt q rfl; exact ⟨e.2.1, e.2.2.1⟩
    | inr v => exact ⟨(k rfl).1, (k rfl).2.1⟩
  refine ⟨Nat.le_trans hm.1 k0.1, Nat.le_trans hm.2 k0.2, ?_⟩
  intro H q cells slots ls hr hl
  have hr2 := hr
  rw [T.2.1] at hr2
  have e1 := hr2.2.2.1
  have e2 := hr2.2.2.2
  have e3 := T.2.2.2.2.2.2.2.1
  have e4 := T.2.2.2.2.2.2.2.2.1
  have k1 := k0.1
  have k2 := k0.2
  refine wx_callv (wx_runV (As := As) (rest := r) ⟨T.1.1, T.1.2.1, T.1.2.2.2.1, T.1.2.2.1, T.1.2.2.2.2⟩ hM cw ⟨c_blind, c_recv T hc hr2.1 hb, fun U hU hW => ⟨rfl, c_pre T hr2 U hU hW⟩⟩ rfl hn (hl.1.trans T.1.2.2.2.1) rfl (lv_room (Nat.le_of_ble_eq_true hst)) d ?_) hr2.2.1 (fun q _ h => h) (fun q h => h) (fun q _ h => h) (fun Ec ce q9 u t H1 l1 ht hvm hw hB hz hk hS hce hcv hcl => ?_) (fun u t H1 l1 ht hvm hw hB hz hk hS => ?_)
  · constructor <;> omega
  · have hw : u = s' := hw
    subst hw
    obtain ⟨ho, rfl, hB⟩ := hB
    cases o with
    | inr v => cases ho
    | inl q' =>
      cases ho
      obtain ⟨Qc, e⟩ := kt _ rfl
      refine x_leave T e ⟨?_, hS, by omega, by omega⟩ hce hcv hcl
      rw [← ht]
      exact cHp.moved hvm.symm hB
  · obtain ⟨ho, rfl⟩ := hw
    refine (k ho).2.2 H1 l1 _ _ ls ?_ hl
    rw [T.2.1]
    refine ⟨?_, hS, by omega, by omega⟩
    rw [← ht]
    exact cHp.moved hvm.symm hB
theorem x_ret_i {v : Int32} {q? : Option Nat} {z : (Nat ⊕ Int32) × CS} (T : cOK X E cc own nL (some .int) z0 l0 z1 l1) (e : xE X E z0 l0 z1 l1 (xQ_i E z.1 z.2) q? z.2) (h : some (.inr v, s) = some z) (d : decode cc pc = .ok (.ireturn, 1)) : cW X z1 l1 s pc lv [.int v] := by
  cases h
  refine ⟨e.2.1, e.2.2.1, ?_⟩
  intro H q a b ls hr2 hl
  rw [T.2.1] at hr2
  obtain ⟨hP, hS, ha, hb2⟩ := hr2
  rw [show X.2.2.2 = _ from e.1]
  have ea : a = cz s - z0 := by omega
  have eb : b = cl s - l0 := by omega
  subst ea; subst eb
  exact wx_ret (W.iret T.1.1 T.1.2.1 T.2.2.2.2.1 (fun t ht hW => ⟨⟨v, s, rfl, ⟨rfl, rfl⟩, by rw [cPost, ht]; exact hP.moved hW.alike⟩, hS.F ht⟩) hS.2.2 d T.2.2.2.2.2.1)
theorem x_ret_q {v : Option Nat} {rt : FieldType} {q? : Option Nat} {z : (Nat ⊕ Option Nat) × CS} (T : cOK X E cc own nL (some rt) z0 l0 z1 l1) (hrt : (∃ n, rt = .object n) ∨ ∃ t, rt = .array t) (e : xE X E z0 l0 z1 l1 (xQ_q E z.1 z.2) q? z.2) (h : some (.inr v, s) = some z) (d : decode cc pc = .ok (.areturn, 1)) : cW X z1 l1 s pc lv [va_rf v] := by
  cases h
  refine ⟨e.2.1, e.2.2.1, ?_⟩
  intro H q a b ls hr2 hl
  rw [T.2.1] at hr2
  obtain ⟨hP, hS, ha, hb2⟩ := hr2
  rw [show X.2.2.2 = _ from e.1]
  have ea : a = cz s - z0 := by omega
  have eb : b = cl s - l0 := by omega
  subst ea; subst eb
  exact wx_ret (W.aret T.1.1 T.1.2.1 T.2.2.2.2.1 hrt (by cases v with | none => exact Or.inl rfl | some x => exact Or.inr ⟨x, rfl⟩) (fun t ht hW => ⟨⟨v, s, rfl, ⟨rfl, rfl⟩, by rw [cPost, ht]; exact hP.moved hW.alike⟩, hS.F ht⟩) hS.2.2 d T.2.2.2.2.2.1)
theorem x_ret_v {q? : Option Nat} {z : (Nat ⊕ Unit) × CS} (T : cOK X E cc own nL none z0 l0 z1 l1) (e : xE X E z0 l0 z1 l1 (xQ_v E z.1 z.2) q? z.2) (h : some (.inr (), s) = some z) (d : decode cc pc = .ok (.return_, 1)) : cW X z1 l1 s pc lv [] := by
  cases h
  refine ⟨e.2.1, e.2.2.1, ?_⟩
  intro H q a b ls hr2 hl
  rw [T.2.1] at hr2
  obtain ⟨hP, hS, ha, hb2⟩ := hr2
  rw [show X.2.2.2 = _ from e.1]
  have ea : a = cz s - z0 := by omega
  have eb : b = cl s - l0 := by omega
  subst ea; subst eb
  exact wx_ret (W.vret T.1.1 T.1.2.1 T.2.2.2.2.1 (fun t ht hW => ⟨⟨s, rfl, ⟨rfl, rfl⟩, by rw [cPost, ht]; exact hP.moved hW.alike⟩, hS.F ht⟩) hS.2.2 d T.2.2.2.2.2.1)
end X2
/-! methods with a handler for Wrong -/
def thrH {α γ : Type} (o : Option ((Nat ⊕ α) × CS)) (Kx : Nat → CS → Option γ) (K : α → CS → Option γ) : Option γ := match o with
  | none => none
  | some (.inl q, s) => Kx q s
  | some (.inr v, s) => K v s
theorem thrH_of {α γ : Type} {o : Option ((Nat ⊕ α) × CS)} {Kx : Nat → CS → Option γ} {K : α → CS → Option γ} {z : γ} (h : thrH o Kx K = some z) : ∃ x s, o = some (x, s) ∧ (∀ q, x = .inl q → Kx q s = some z) ∧ (∀ v, x = .inr v → K v s = some z) := by
  unfold thrH at h
  match o, h with
  | some (.inl q, s), h => exact ⟨_, s, rfl, fun q' e => (by cases e; exact h), fun v e => (by cases e)⟩
  | some (.inr v, s), h => exact ⟨_, s, rfl, fun q' e => (by cases e), fun v' e => (by cases e; exact h)⟩
def xH (X : KC CS) (E : CE) (z0 l0 z1 l1 : Nat) (Qc : Array Value → State → Outcome → State → Prop) (s' : CS) (hh : List (Nat × Nat × Nat × Nat)) : Prop := X.2.2.2 = wx_MQ X.2.1.2.2.1 Qc (xX E none s') X.2.1.2.1 X.1.2.2.2.2 (cz s' - z0) (cl s' - l0) E.2.1 ∧ cz s' ≤ z1 ∧ cl s' ≤ l1 ∧ X.2.1.2.2.2.2.exceptionTable.toList.map (fun h => (h.startPc, h.endPc, h.handlerPc, h.catchType)) = hh
theorem x_hmet_i {l : Launch} {E : CE} {y : MethodName} {F L nL : Nat} {As : List Value} {s s' : CS} {v : Int32} {cc : ByteArray} {ret : Option FieldType} {hh : List (Nat × Nat × Nat × Nat)} (hm : cz s ≤ cz s' ∧ cl s ≤ cl s') (hy : plainName y.cls = true) (hA : Nat.ble (lg_sl As).length nL = true) (body : ∀ X : KC CS, X.1.2.1 = l → X.2.1.2.2.2.1.name = y.name → cOK X E cc y.cls nL ret (cz s) (cl s) (cz s') (cl s') → cRoom X F L → xH X E (cz s) (cl s) (cz s') (cl s') (xQ_i E (.inr v) s') s' hh → cW X (cz s') (cl s') s 0 (lv_args 0 As) []) : xMet_i l E y (wsW_ y cc nL ret hh) F L As s (.inr v) s' := by
  refine ⟨hm, wx_ofWH (cc := cc) (maxL := nL) (ret := ret) (hh := hh) hy rfl ?_⟩
  intro p e u m args below meth c s₁ B hml hv
  obtain ⟨rfl, hP, hK, hN, hA1, hSt⟩ := hv
  have hts := atoms_spec (ws := wsW_ y cc nL ret hh) B.pre
  have htab : c.exceptionTable.toList.map (fun h => (h.startPc, h.endPc, h.handlerPc, h.catchType)) = hh := by
    obtain ⟨m9, meth9, c9, hn9, g1, g2, -, -, g5, -⟩ := Cond.codeWith_spec (hts _ List.mem_cons_self)
    cases Option.some.inj (B.named.symm.trans hn9)
    cases Option.some.inj (g1.symm.trans B.method)
    cases Option.some.inj (g2.symm.trans (Stand.of_body B).code)
    exact g5
  have hts : ∀ w ∈ lw_all, w.before As.toArray u = true := fun w h => hts w (List.mem_cons_of_mem _ h)
  have hown : u.vm.findClass y.cls = some m.cls := findClass_of_methodNamed B.named
  have hl := lv_entry As (n := nL) (Nat.le_of_ble_eq_true hA)
  rw [lg_entry_eq]
  rw [← hml] at hl
  have K := body ((p, l, e, (headSpec (wsW_ y cc nL ret hh) { frames := F, cells := cz s' - cz s, slots := cl s' - cl s, locals := L }).room, u), (m, As.toArray, below, meth, c), cRel E u (cz s) (cl s), wx_MQ below (xQ_i E (.inr v) s') (xX E none s') As.toArray u (cz s' - cz s) (cl s' - cl s) E.2.1) rfl ((name_of_methodNamed B.named B.method).1) ⟨⟨B.exec, B.bytes, hown, hml, hts⟩, rfl, hK, hN, B.returns, B.notSynchronized, hA1, by show cz s' - cz s + cz s = cz s'; omega, by show cl s' - cl s + cl s = cl s'; omega, hP.2.1, hSt⟩ ⟨Nat.le_refl _, Nat.le_refl _⟩ ⟨rfl, Nat.le_refl _, Nat.le_refl _, htab⟩
  rw [← hml]
  exact K.2.2 u.heap [] 0 0 _ ⟨hP, va_S.rf, by omega, by omega⟩ hl
section X3
variable {X : KC CS} {E : CE} {cc : ByteArray} {own : String} {nL : Nat} {ret : Option FieldType} {z0 l0 z1 l1 : Nat} {s s' : CS} {pc : Nat} {lv : List (Nat × Value)} {r : List Value} {α : Type} {z : α} {a : Nat}
theorem x_hret_i {v : Int32} {z : Int32 × CS} {hh : List (Nat × Nat × Nat × Nat)} (T : cOK X E cc own nL (some .int) z0 l0 z1 l1) (e : xH X E z0 l0 z1 l1 (xQ_i E (.inr z.1) z.2) z.2 hh) (h : some (v, s) = some z) (d : decode cc pc = .ok (.ireturn, 1)) : cW X z1 l1 s pc lv [.int v] := by
  cases h
  refine ⟨e.2.1, e.2.2.1, ?_⟩
  intro H q a b ls hr2 hl
  rw [T.2.1] at hr2
  obtain ⟨hP, hS, ha, hb2⟩ := hr2
  rw [show X.2.2.2 = _ from e.1]
  have ea : a = cz s - z0 := by omega
  have eb : b = cl s - l0 := by omega
  subst ea; subst eb
  exact wx_ret (W.iret T.1.1 T.1.2.1 T.2.2.2.2.1 (fun t ht hW => ⟨⟨v, s, rfl, ⟨rfl, rfl⟩, by rw [cPost, ht]; exact hP.moved hW.alike⟩, hS.F ht⟩) hS.2.2 d T.2.2.2.2.2.1)
theorem x_hcallV_q {As : List Value} {y : MethodName} {ws : List Cond} {F L index n maxL b : Nat} {bytes : ByteArray} {rt : Option FieldType} {o : Nat ⊕ Option Nat} {ci n' : Nat} {w : Bool} {C : String} {T0 : u_T} {N : Nat} {ty0 : Nat → FieldType} {Qc : Array Value → State → Outcome → State → Prop} {se : CS} {p0 p1 hpc ct : Nat} (hc : cCls ci C T0 N ty0) (hb : s.1 b = some (w, ci, n')) (T : cOK X E cc own nL ret z0 l0 z1 l1) (e : xH X E z0 l0 z1 l1 Qc se [(p0, p1, hpc, ct)]) (hcl : Cond.classLink own ct "OverFirst$Wrong" ∈ lw_all) (hin : (Nat.ble p0 pc && Nat.blt pc p1) = true) (hct : ct ≠ 0) (hM : xMet_q X.1.2.1 E y ws F L (.ref b :: As) s o s') (cw : CallW X.1.2.2.2.1 X.1.2.2.2.2 X.2.1.2.1 own C index y bytes maxL rt ws ({ frames := F, cells := cz s' - cz s, slots := cl s' - cl s, locals := L }) (cz s' - cz s) (cl s' - cl s) n) (hn : As.length = n) (hst : Nat.ble (r.map Value.category).sum 8 = true) (d : decode cc pc = .ok (.invokevirtual index, 3)) (kt : ∀ q, o = .inl q → cW X z1 l1 s' hpc lv [.ref q]) (k : ∀ v, o = .inr v → cW X z1 l1 s' (pc + 3) lv (va_rf v :: r)) : cW X z1 l1 s pc lv (As.reverse ++ .ref b :: r) := by
  obtain ⟨hm, hM⟩ := hM
  have k0 : cz s' ≤ z1 ∧ cl s' ≤ l1 := by
    cases o with
    | inl q => exact ⟨(kt q rfl).1, (kt q rfl).2.1⟩
    | inr v => exact ⟨(k v rfl).1, (k v rfl).2.1⟩
  refine ⟨Nat.le_trans hm.1 k0.1, Nat.le_trans hm.2 k0.2, ?_⟩
  intro H q cells slots ls hr hl
  have hr2 := hr
  rw [T.2.1] at hr2
  have e1 := hr2.2.2.1
  have e2 := hr2.2.2.2
  have e3 := T.2.2.2.2.2.2.2.1
  have e4 := T.2.2.2.2.2.2.2.2.1
  have k1 := k0.1
  have k2 := k0.2
  refine wx_callq (wx_runV (As := As) (rest := r) ⟨T.1.1, T.1.2.1, T.1.2.2.2.1, T.1.2.2.1, T.1.2.2.2.2⟩ hM cw ⟨c_blind, c_recv T hc hr2.1 hb, fun U hU hW => ⟨rfl, c_pre T hr2 U hU hW⟩⟩ rfl hn (hl.1.trans T.1.2.2.2.1) rfl (lv_room (Nat.le_of_ble_eq_true hst)) d ?_) hr2.2.1 (fun q _ h => h) (fun q h => h) (fun q _ h => h) (fun Ec ce q9 u t H1 l1 ht hvm hw hB hz hk hS hce hcv hcl9 => ?_) (fun v1 u t H1 l1 ht hvm hw hB hz hk hS => ?_)
  · constructor <;> omega
  · have hw : u = s' := hw
    subst hw
    obtain ⟨ho, rfl, hB⟩ := hB
    cases o with
    | inr v => cases ho
    | inl q' =>
      cases ho
      obtain ⟨x, hx0, hx1⟩ : ∃ x : ExceptionTableEntry, X.2.1.2.2.2.2.exceptionTable.toList = [x] ∧ (x.startPc, x.endPc, x.handlerPc, x.catchType) = (p0, p1, hpc, ct) := by
        have h9 := e.2.2.2
        match q9 : X.2.1.2.2.2.2.exceptionTable.toList, h9 with
        | [x], h9 => exact ⟨x, rfl, (List.cons.inj h9).1⟩
      cases hx1
      simp only [Bool.and_eq_true] at hin
      have i1 := Nat.le_of_ble_eq_true hin.1
      have i2 : pc < x.endPc := Nat.le_of_ble_eq_true hin.2
      refine wx_catch T.1.2.2.1 [] x [] hx0 (fun z hz => by cases hz) (by simp [covers, i1, i2]) hct (T.1.2.2.2.2 _ hcl) (va_Nw.use (A := X.2.1.2.1) rfl (T.2.2.2.1.2.2.2.1 _ _ q737)) hce hcv hcl9 ?_
      refine (kt _ rfl).2.2 H1 l1 _ _ ls ?_ hl
      rw [T.2.1]
      refine ⟨?_, hS, by omega, by omega⟩
      rw [← ht]
      exact cHp.moved hvm.symm hB
  · obtain ⟨ho, rfl⟩ := hw
    refine (k _ ho).2.2 H1 l1 _ _ ls ?_ hl
    rw [T.2.1]
    refine ⟨?_, hS, by omega, by omega⟩
    rw [← ht]
    exact cHp.moved hvm.symm hB
end X3
