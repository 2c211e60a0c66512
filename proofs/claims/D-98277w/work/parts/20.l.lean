/-! THE LAW's WALK: the component's state and the twin's, side by side -/
set_option maxRecDepth 100000
abbrev LWS : Type := CS × TS
def lRel (E : CE) (Et : TE) (S0 : State) (z0 l0 zT : Nat) : LWS → Heap → List Loc → Nat → Nat → Prop := fun σ H locs cells slots => cHp E S0 σ.1 H ∧ va_P Et.1 Et.2.1 (Wt Et σ.2) H ∧ va_S (fun q => z0 ≤ q) S0.heap H locs ∧ (cells + z0 = cz σ.1 ∧ slots + l0 = cl σ.1) ∧ zT ≤ cz σ.1
/-- the law's surroundings: b the script's cell; z0, l0 cells and slots at the law's start; zT cells when the loop begins -/
def lOK (X : KC LWS) (E : CE) (Et : TE) (b L : Nat) (xs : Nat → Int32) (z0 l0 zT : Nat) : Prop := kOK X code R_law 4 ∧ X.2.2.1 = lRel E Et X.1.2.2.2.2 z0 l0 zT ∧ va_K E.1 vwCl (tysL E.2.2.1) X.1.2.2.2.2 ∧ cNw X.1.2.2.2.2 ∧ cSt E X.1.2.2.2.2 ∧ (X.1.2.2.2.1 = room_1 ∧ X.1.2.2.2.2.heap.size = z0 ∧ z0 ≤ zT) ∧ (∀ q, E.2.1 q → z0 ≤ q) ∧ (∀ q, zT ≤ q → E.2.1 q) ∧ (tEnv Et ∧ Et.1 = E.1 ∧ Et.2.1 = vwCl ∧ Et.2.2.1 = tysL E.2.2.1) ∧ (∀ q, Et.2.2.2.1 q → z0 ≤ q ∧ ¬ E.2.1 q) ∧ (∀ a c, E.2.2.2 (1000 + a) = some c → a < z0) ∧ (va_X b L xs X.1.2.2.2.2 X.1.2.2.2.2.heap ∧ b < z0) ∧ X.2.2.2 = lw_Z X.2.1.2.2.1 #[Value.ref b] X.1.2.2.2.2 ∧ X.2.1.2.1 = #[Value.ref b] ∧ X.2.1.2.2.2.1.sig.returnType = ret ∧ X.2.1.2.2.2.1.locks = false
/-- what a call of the component may take of the law's room -/
def lcR {α : Type} (z0 l0 : Nat) (o : Option (Int32 × CS)) (K : Int32 → CS → Option α) : Option α := match o with
  | some (v, s) => if cz s ≤ 1200128 + z0 ∧ cl s ≤ 5501098 + l0 then K v s else none
  | none => none
def lcL {α : Type} (z0 l0 : Nat) (o : Option (Int64 × CS)) (K : Int64 → CS → Option α) : Option α := match o with
  | some (v, s) => if cz s ≤ 1200128 + z0 ∧ cl s ≤ 5501098 + l0 then K v s else none
  | none => none
theorem lcR_of {α : Type} {z0 l0 : Nat} {o : Option (Int32 × CS)} {K : Int32 → CS → Option α} {z : α} (h : lcR z0 l0 o K = some z) : ∃ v s, o = some (v, s) ∧ (cz s ≤ 1200128 + z0 ∧ cl s ≤ 5501098 + l0) ∧ K v s = some z := by
  unfold lcR at h
  match o, h with
  | some (v, s), h =>
    dsimp only at h
    by_cases q : cz s ≤ 1200128 + z0 ∧ cl s ≤ 5501098 + l0
    · rw [if_pos q] at h; exact ⟨v, s, rfl, q, h⟩
    · rw [if_neg q] at h; cases h
theorem lcL_of {α : Type} {z0 l0 : Nat} {o : Option (Int64 × CS)} {K : Int64 → CS → Option α} {z : α} (h : lcL z0 l0 o K = some z) : ∃ v s, o = some (v, s) ∧ (cz s ≤ 1200128 + z0 ∧ cl s ≤ 5501098 + l0) ∧ K v s = some z := by
  unfold lcL at h
  match o, h with
  | some (v, s), h =>
    dsimp only at h
    by_cases q : cz s ≤ 1200128 + z0 ∧ cl s ≤ 5501098 + l0
    · rw [if_pos q] at h; exact ⟨v, s, rfl, q, h⟩
    · rw [if_neg q] at h; cases h
def lX {α : Type} (xs : Nat → Int32) (L : Nat) (i : Int32) (K : Int32 → Option α) : Option α := if inb i L = true then K (xs i.toNatClampNeg) else none
section LW
variable {X : KC LWS} {E : CE} {Et : TE} {b L z0 l0 zT : Nat} {xs : Nat → Int32} {σ : LWS} {s' : CS} {τ' : TS} {pc : Nat} {lv : List (Nat × Value)} {r : List Value} {α : Type} {z : α}
theorem l_recv {H : Heap} {w : Bool} {ci n a : Nat} {C : String} {T0 : u_T} {N : Nat} {ty0 : Nat → FieldType} (T : lOK X E Et b L xs z0 l0 zT) (hc : cCls ci C T0 N ty0) {s : CS} (h : cHp E X.1.2.2.2.2 s H) (ha : s.1 a = some (w, ci, n)) : ∃ cell : Cell, H[a]? = some cell ∧ cell.vm.isStatics = false ∧ X.1.2.2.2.2.vm.findClass C = some cell.cls := c_recv0 T.2.2.1 hc h ha
theorem l_pre {H : Heap} {locs : List Loc} {cells slots : Nat} (T : lOK X E Et b L xs z0 l0 zT) (hr : lRel E Et X.1.2.2.2.2 z0 l0 zT σ H locs cells slots) (U : State) (hU : U.heap = H) (hW : X.1.2.2.2.2.WarmedH U.vm) : cPre E σ.1 U := by
  refine ⟨by rw [hU]; exact hr.1.moved hW.alike, va_K.moved hW.alike T.2.2.1, T.2.2.2.1.warm hW, fun q h => T.2.2.2.2.2.2.2.1 q (Nat.le_trans hr.2.2.2.2 (by rw [← hr.1.2.1, ← hU]; exact h)), T.2.2.2.2.1.warm hW (fun a h1 h2 => by rw [hU]; exact hr.2.2.1.2.1 a h1 (fun h3 => by have := T.2.2.2.2.2.1.2.1; omega))⟩
theorem l_tw {H H1 : Heap} {locs : List Loc} {cells slots : Nat} (T : lOK X E Et b L xs z0 l0 zT) (hr : lRel E Et X.1.2.2.2.2 z0 l0 zT σ H locs cells slots) (hk : ∀ q : Nat, q < H.size → ¬ E.2.1 q → H1[q]? = H[q]?) : va_P Et.1 Et.2.1 (Wt Et σ.2) H1 :=
  hr.2.1.kept (fun k y hy => hk y.1 (hr.2.1 k y hy).lt (T.2.2.2.2.2.2.2.2.2.1 _ ((T.2.2.2.2.2.2.2.2.1.1.2.2.2.2 σ.2).2 k y hy)).2)
/-- the component's cells behind a call of the twin -/
theorem l_cp {H H1 : Heap} {U : State} {s : CS} (T : lOK X E Et b L xs z0 l0 zT) (h : cHp E U s H) (hz : H1.size = H.size) (hk : ∀ q : Nat, q < H.size → ¬ Et.2.2.2.1 q → H1[q]? = H[q]?) : cHp E U s H1 := by
  have hn : ∀ a w c n, s.1 a = some (w, c, n) → ¬ Et.2.2.2.1 a := by
    intro a w c n ha ht
    have h1 := h.1 a w c n ha
    have h2 := T.2.2.2.2.2.2.2.2.2.1 a ht
    cases w with
    | true => exact h2.2 (h1.2.2.1 rfl)
    | false =>
      have h3 := T.2.2.2.2.2.2.2.2.2.2.1 a _ (h1.2.2.2 rfl).2.2
      omega
  refine ⟨fun a w c n ha => ?_, by rw [hz]; exact h.2.1, fun a n ha => ?_, fun a n ha => ?_⟩
  · have h1 := h.1 a w c n ha
    refine ⟨h1.1, fun hw => (h1.2.1 hw).kept (hk a (by rw [h.2.1]; exact h1.1) (hn a w c n ha)), h1.2.2⟩
  · obtain ⟨cell, g1, g2⟩ := h.2.2.1 a n ha
    exact ⟨cell, by rw [hk a (Array.getElem?_eq_some_iff.mp g1).1 (hn a _ _ _ ha)]; exact g1, g2⟩
  · exact (h.2.2.2 a n ha).next (n := n) rfl (hk a (by rw [h.2.1]; exact (h.1 a _ _ _ ha).1) (hn a _ _ _ ha))
theorem l_sld {i : Int32} {K : Int32 → Option α} (T : lOK X E Et b L xs z0 l0 zT) (h : lX xs L i K = some z) (d : decode code pc = .ok (.iaload, 1)) (kk : ∀ v, K v = some z → kW X σ (pc + 1) lv (.int v :: r)) : kW X σ pc lv (.int i :: .ref b :: r) := by
  obtain ⟨h1, h2⟩ := if_of h
  intro H q cells slots ls hr hl
  have hr2 := hr
  rw [T.2.1] at hr2
  have hs := T.2.2.2.2.2.1.2.1
  have hb := T.2.2.2.2.2.2.2.2.2.2.2.1.2
  exact va_sld T.1.1 T.1.2.1 T.2.2.2.2.2.2.2.2.2.2.2.1.1 (by omega) (by omega : ¬ z0 ≤ b) hr2.2.2.1 (inb_in h1) d (kk _ h2 H q cells slots ls hr hl)
theorem l_slen (T : lOK X E Et b L xs z0 l0 zT) (d : decode code pc = .ok (.arraylength, 1)) (kk : kW X σ (pc + 1) lv (.int (Int32.ofNat L) :: r)) : kW X σ pc lv (.ref b :: r) := by
  intro H q cells slots ls hr hl
  have hr2 := hr
  rw [T.2.1] at hr2
  have hs := T.2.2.2.2.2.1.2.1
  have hb := T.2.2.2.2.2.2.2.2.2.2.2.1.2
  exact va_slen T.1.1 T.1.2.1 T.2.2.2.2.2.2.2.2.2.2.2.1.1 (by omega) (by omega : ¬ z0 ≤ b) hr2.2.2.1 d (kk H q cells slots ls hr hl)
/-- the law's answer is true -/
theorem l_ret {v : Int32} (T : lOK X E Et b L xs z0 l0 zT) (hc : cz σ.1 ≤ 1200128 + z0 ∧ cl σ.1 ≤ 5501098 + l0) (h : some v = some (1 : Int32)) (d : decode code pc = .ok (.ireturn, 1)) : kW X σ pc lv [.int v] := by
  cases h
  intro H q cells slots ls hr hl
  have hr2 := hr
  rw [T.2.1] at hr2
  obtain ⟨r1, r2, r3, ⟨r4, r5⟩, r6⟩ := hr2
  have hs := T.2.2.2.2.2.1.2.1
  have hrm := T.2.2.2.2.2.1.1
  have hA := T.2.2.2.2.2.2.2.2.2.2.2.2.2.1
  rw [T.2.2.2.2.2.2.2.2.2.2.2.2.1, hrm, hA]
  refine va_forget (fun q hq => by rw [hs]; exact r3.2.2 q hq) ?_
  refine W.widen (k := 1200128) (n := 5501098) (by omega) (by omega) ?_
  exact lw_ret T.1.1 T.1.2.1 T.2.2.2.2.2.2.2.2.2.2.2.2.2.2.1 T.2.2.2.2.2.2.2.2.2.2.2.2.2.2.2 d
theorem l_callC_i {As : List Value} {y : MethodName} {ws : List Cond} {F L9 index n maxL bx : Nat} {bytes : ByteArray} {rt : Option FieldType} {v : Int32} (T : lOK X E Et b L xs z0 l0 zT) (hM : isK σ.1 bx [0] = true ∧ cMet_i X.1.2.1 E y ws F L9 (.ref bx :: As) σ.1 v s') (cw : CallW X.1.2.2.2.1 X.1.2.2.2.2 X.2.1.2.1 R_law RX0 index y bytes maxL rt ws ({ frames := F, cells := cz s' - cz σ.1, slots := cl s' - cl σ.1, locals := L9 }) (cz s' - cz σ.1) (cl s' - cl σ.1) n) (hn : As.length = n) (hst : Nat.ble (r.map Value.category).sum 8 = true) (hz9 : cz s' ≤ 1200128 + z0 ∧ cl s' ≤ 5501098 + l0) (d : decode code pc = .ok (.invokevirtual index, 3)) (k : kW X (s', σ.2) (pc + 3) lv (.int v :: r)) : kW X σ pc lv (As.reverse ++ .ref bx :: r) := by
  obtain ⟨hg, hm, hM⟩ := hM
  obtain ⟨w, c, n', hb, hc⟩ := isK_of hg
  simp only [List.mem_cons, List.not_mem_nil, or_false] at hc
  subst hc
  intro H q cells slots ls hr hl
  have hr2 := hr
  rw [T.2.1] at hr2
  have e1 := hr2.2.2.2.1.1
  have e2 := hr2.2.2.2.1.2
  have hrm : X.1.2.2.2.1.cells = 1200128 ∧ X.1.2.2.2.1.slots = 5501098 := by rw [T.2.2.2.2.2.1.1]; exact ⟨rfl, rfl⟩
  refine va_calli (va_runV (As := As) (rest := r) ⟨T.1.1, T.1.2.1, T.1.2.2.2.1, T.1.2.2.1, T.1.2.2.2.2⟩ hM cw ⟨c_blind, l_recv T kX0 hr2.1 hb, fun U hU hW => ⟨rfl, l_pre T hr2 U hU hW⟩⟩ rfl hn (hl.1.trans T.1.2.2.2.1) rfl (lv_room (Nat.le_of_ble_eq_true hst)) d ?_) hr2.2.2.1 (fun q _ h => T.2.2.2.2.2.2.1 q h) (fun q h => T.2.2.2.2.2.2.1 q h) (fun v1 u t H1 l1 ht hvm hw hB hz hk hS => ?_)
  · constructor <;> omega
  obtain ⟨rfl, rfl⟩ := hw
  refine k H1 l1 _ _ ls ?_ hl
  rw [T.2.1]
  have r6 := hr2.2.2.2.2
  have htw := l_tw T hr2 hk
  refine ⟨?_, htw, hS, ⟨by show cells + (cz u - cz σ.1) + z0 = cz u; omega, by show slots + (cl u - cl σ.1) + l0 = cl u; omega⟩, by show zT ≤ cz u; omega⟩
  rw [← ht]
  exact cHp.moved hvm.symm hB
theorem l_callT_i {As : List Value} {y : MethodName} {ws : List Cond} {F L9 index n maxL : Nat} {bytes : ByteArray} {rt : Option FieldType} {v : Int32} (T : lOK X E Et b L xs z0 l0 zT) (hM : tMet_i X.1.2.1 Et y ws F L9 (.ref (Et.2.2.2.2.1 0) :: As) σ.2 v τ') (cw : CallW X.1.2.2.2.1 X.1.2.2.2.2 X.2.1.2.1 R_law RX9 index y bytes maxL rt ws ({ frames := F, cells := 0, slots := 0, locals := L9 }) 0 0 n) (hn : As.length = n) (hst : Nat.ble (r.map Value.category).sum 8 = true) (hc9 : cz σ.1 ≤ 1200128 + z0 ∧ cl σ.1 ≤ 5501098 + l0) (d : decode code pc = .ok (.invokevirtual index, 3)) (k : kW X (σ.1, τ') (pc + 3) lv (.int v :: r)) : kW X σ pc lv (As.reverse ++ .ref (Et.2.2.2.2.1 0) :: r) := by
  obtain ⟨hE, hE1, hE2, hE3⟩ := T.2.2.2.2.2.2.2.2.1
  have hK : va_K Et.1 Et.2.1 Et.2.2.1 X.1.2.2.2.2 := by rw [hE1, hE2, hE3]; exact T.2.2.1
  intro H q cells slots ls hr hl
  have hr2 := hr
  rw [T.2.1] at hr2
  have e1 := hr2.2.2.2.1.1
  have e2 := hr2.2.2.2.1.2
  have hrm : X.1.2.2.2.1.cells = 1200128 ∧ X.1.2.2.2.1.slots = 5501098 := by rw [T.2.2.2.2.2.1.1]; exact ⟨rfl, rfl⟩
  refine va_calli (va_runV (As := As) (rest := r) ⟨T.1.1, T.1.2.1, T.1.2.2.2.1, T.1.2.2.1, T.1.2.2.2.2⟩ hM cw ⟨fun a U g mk q => ⟨q.1, q.2.1, va_K.moved (u := U) (U := U.calling g mk a) (Vm.Alike.refl U.vm) q.2.2⟩, va_recv hK hr2.2.1 (ci := 9) (q0 := 0) hE.1 rfl, fun U hU hW => ⟨rfl, by rw [hU]; exact hr2.2.1, va_K.moved hW.alike hK⟩⟩ rfl hn (hl.1.trans T.1.2.2.2.1) rfl (lv_room (Nat.le_of_ble_eq_true hst)) d ?_) hr2.2.2.1 (fun q _ h => (T.2.2.2.2.2.2.2.2.2.1 q h).1) (fun q h => (T.2.2.2.2.2.2.2.2.2.1 q h).1) (fun v1 u t H1 l1 ht hvm hw hB hz hk hS => w_sz (fun hsz => ?_))
  · constructor <;> omega
  obtain ⟨rfl, rfl⟩ := hw
  refine k H1 l1 (cells + 0) (slots + 0) ls ?_ hl
  rw [T.2.1]
  have hs := T.2.2.2.2.2.1.2.1
  have hh := hr2.1.2.1
  refine ⟨l_cp T hr2.1 (by omega) hk, ?_, hS, hr2.2.2.2.1, hr2.2.2.2.2⟩
  rw [← ht]
  exact hB
theorem l_callC_l {As : List Value} {y : MethodName} {ws : List Cond} {F L9 index n maxL bx : Nat} {bytes : ByteArray} {rt : Option FieldType} {v : Int64} (T : lOK X E Et b L xs z0 l0 zT) (hM : isK σ.1 bx [0] = true ∧ cMet_l X.1.2.1 E y ws F L9 (.ref bx :: As) σ.1 v s') (cw : CallW X.1.2.2.2.1 X.1.2.2.2.2 X.2.1.2.1 R_law RX0 index y bytes maxL rt ws ({ frames := F, cells := cz s' - cz σ.1, slots := cl s' - cl σ.1, locals := L9 }) (cz s' - cz σ.1) (cl s' - cl σ.1) n) (hn : As.length = n) (hst : Nat.ble (r.map Value.category).sum 8 = true) (hz9 : cz s' ≤ 1200128 + z0 ∧ cl s' ≤ 5501098 + l0) (d : decode code pc = .ok (.invokevirtual index, 3)) (k : kW X (s', σ.2) (pc + 3) lv (.long v :: r)) : kW X σ pc lv (As.reverse ++ .ref bx :: r) := by
  obtain ⟨hg, hm, hM⟩ := hM
  obtain ⟨w, c, n', hb, hc⟩ := isK_of hg
  simp only [List.mem_cons, List.not_mem_nil, or_false] at hc
  subst hc
  intro H q cells slots ls hr hl
  have hr2 := hr
  rw [T.2.1] at hr2
  have e1 := hr2.2.2.2.1.1
  have e2 := hr2.2.2.2.1.2
  have hrm : X.1.2.2.2.1.cells = 1200128 ∧ X.1.2.2.2.1.slots = 5501098 := by rw [T.2.2.2.2.2.1.1]; exact ⟨rfl, rfl⟩
  refine va_calll (va_runV (As := As) (rest := r) ⟨T.1.1, T.1.2.1, T.1.2.2.2.1, T.1.2.2.1, T.1.2.2.2.2⟩ hM cw ⟨c_blind, l_recv T kX0 hr2.1 hb, fun U hU hW => ⟨rfl, l_pre T hr2 U hU hW⟩⟩ rfl hn (hl.1.trans T.1.2.2.2.1) rfl (lv_room (Nat.le_of_ble_eq_true hst)) d ?_) hr2.2.2.1 (fun q _ h => T.2.2.2.2.2.2.1 q h) (fun q h => T.2.2.2.2.2.2.1 q h) (fun v1 u t H1 l1 ht hvm hw hB hz hk hS => ?_)
  · constructor <;> omega
  obtain ⟨rfl, rfl⟩ := hw
  refine k H1 l1 _ _ ls ?_ hl
  rw [T.2.1]
  have r6 := hr2.2.2.2.2
  have htw := l_tw T hr2 hk
  refine ⟨?_, htw, hS, ⟨by show cells + (cz u - cz σ.1) + z0 = cz u; omega, by show slots + (cl u - cl σ.1) + l0 = cl u; omega⟩, by show zT ≤ cz u; omega⟩
  rw [← ht]
  exact cHp.moved hvm.symm hB
theorem l_callT_l {As : List Value} {y : MethodName} {ws : List Cond} {F L9 index n maxL : Nat} {bytes : ByteArray} {rt : Option FieldType} {v : Int64} (T : lOK X E Et b L xs z0 l0 zT) (hM : tMet_l X.1.2.1 Et y ws F L9 (.ref (Et.2.2.2.2.1 0) :: As) σ.2 v τ') (cw : CallW X.1.2.2.2.1 X.1.2.2.2.2 X.2.1.2.1 R_law RX9 index y bytes maxL rt ws ({ frames := F, cells := 0, slots := 0, locals := L9 }) 0 0 n) (hn : As.length = n) (hst : Nat.ble (r.map Value.category).sum 8 = true) (hc9 : cz σ.1 ≤ 1200128 + z0 ∧ cl σ.1 ≤ 5501098 + l0) (d : decode code pc = .ok (.invokevirtual index, 3)) (k : kW X (σ.1, τ') (pc + 3) lv (.long v :: r)) : kW X σ pc lv (As.reverse ++ .ref (Et.2.2.2.2.1 0) :: r) := by
  obtain ⟨hE, hE1, hE2, hE3⟩ := T.2.2.2.2.2.2.2.2.1
  have hK : va_K Et.1 Et.2.1 Et.2.2.1 X.1.2.2.2.2 := by rw [hE1, hE2, hE3]; exact T.2.2.1
  intro H q cells slots ls hr hl
  have hr2 := hr
  rw [T.2.1] at hr2
  have e1 := hr2.2.2.2.1.1
  have e2 := hr2.2.2.2.1.2
  have hrm : X.1.2.2.2.1.cells = 1200128 ∧ X.1.2.2.2.1.slots = 5501098 := by rw [T.2.2.2.2.2.1.1]; exact ⟨rfl, rfl⟩
  refine va_calll (va_runV (As := As) (rest := r) ⟨T.1.1, T.1.2.1, T.1.2.2.2.1, T.1.2.2.1, T.1.2.2.2.2⟩ hM cw ⟨fun a U g mk q => ⟨q.1, q.2.1, va_K.moved (u := U) (U := U.calling g mk a) (Vm.Alike.refl U.vm) q.2.2⟩, va_recv hK hr2.2.1 (ci := 9) (q0 := 0) hE.1 rfl, fun U hU hW => ⟨rfl, by rw [hU]; exact hr2.2.1, va_K.moved hW.alike hK⟩⟩ rfl hn (hl.1.trans T.1.2.2.2.1) rfl (lv_room (Nat.le_of_ble_eq_true hst)) d ?_) hr2.2.2.1 (fun q _ h => (T.2.2.2.2.2.2.2.2.2.1 q h).1) (fun q h => (T.2.2.2.2.2.2.2.2.2.1 q h).1) (fun v1 u t H1 l1 ht hvm hw hB hz hk hS => w_sz (fun hsz => ?_))
  · constructor <;> omega
  obtain ⟨rfl, rfl⟩ := hw
  refine k H1 l1 (cells + 0) (slots + 0) ls ?_ hl
  rw [T.2.1]
  have hs := T.2.2.2.2.2.1.2.1
  have hh := hr2.1.2.1
  refine ⟨l_cp T hr2.1 (by omega) hk, ?_, hS, hr2.2.2.2.1, hr2.2.2.2.2⟩
  rw [← ht]
  exact hB
theorem l_callX_i {As : List Value} {y : MethodName} {ws : List Cond} {F L9 index n maxL bx : Nat} {bytes : ByteArray} {rt : Option FieldType} {hh : List (Nat × Nat × Nat × Nat)} {v : Int32} (T : lOK X E Et b L xs z0 l0 zT) (hM : isK σ.1 bx [0] = true ∧ xMet_i X.1.2.1 E y ws F L9 (.ref bx :: As) σ.1 (.inr v) s') (cw : wx_CVW X.1.2.2.2.1 X.1.2.2.2.2 X.2.1.2.1 R_law RX0 index y bytes maxL rt hh ws ({ frames := F, cells := cz s' - cz σ.1, slots := cl s' - cl σ.1, locals := L9 }) (cz s' - cz σ.1) (cl s' - cl σ.1) n) (hn : As.length = n) (hst : Nat.ble (r.map Value.category).sum 8 = true) (hz9 : cz s' ≤ 1200128 + z0 ∧ cl s' ≤ 5501098 + l0) (d : decode code pc = .ok (.invokevirtual index, 3)) (k : kW X (s', σ.2) (pc + 3) lv (.int v :: r)) : kW X σ pc lv (As.reverse ++ .ref bx :: r) := by
  obtain ⟨hg, hm, hM⟩ := hM
  obtain ⟨w, c, n', hb, hc⟩ := isK_of hg
  simp only [List.mem_cons, List.not_mem_nil, or_false] at hc
  subst hc
  intro H q cells slots ls hr hl
  have hr2 := hr
  rw [T.2.1] at hr2
  have e1 := hr2.2.2.2.1.1
  have e2 := hr2.2.2.2.1.2
  have hrm : X.1.2.2.2.1.cells = 1200128 ∧ X.1.2.2.2.1.slots = 5501098 := by rw [T.2.2.2.2.2.1.1]; exact ⟨rfl, rfl⟩
  refine wx_calli (wx_runVX (As := As) (rest := r) ⟨T.1.1, T.1.2.1, T.1.2.2.2.1, T.1.2.2.1, T.1.2.2.2.2⟩ hM cw ⟨c_blind, l_recv T kX0 hr2.1 hb, fun U hU hW => ⟨rfl, l_pre T hr2 U hU hW⟩⟩ rfl hn (hl.1.trans T.1.2.2.2.1) rfl (lv_room (Nat.le_of_ble_eq_true hst)) d ?_) hr2.2.2.1 (fun q _ h => T.2.2.2.2.2.2.1 q h) (fun q h => T.2.2.2.2.2.2.1 q h) (fun q _ h => T.2.2.2.2.2.2.1 q h) (fun Ec ce q9 u t H1 l1 ht hvm hw hB hz hk hS hce hcv hcl => ?_) (fun v1 u t H1 l1 ht hvm hw hB hz hk hS => ?_)
  · constructor <;> omega
  · cases hB.1
  obtain ⟨ho, rfl⟩ := hw
  cases ho
  refine k H1 l1 _ _ ls ?_ hl
  rw [T.2.1]
  have r6 := hr2.2.2.2.2
  have htw := l_tw T hr2 hk
  refine ⟨?_, htw, hS, ⟨by show cells + (cz u - cz σ.1) + z0 = cz u; omega, by show slots + (cl u - cl σ.1) + l0 = cl u; omega⟩, by show zT ≤ cz u; omega⟩
  rw [← ht]
  exact cHp.moved hvm.symm hB
end LW
