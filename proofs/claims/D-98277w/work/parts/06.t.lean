/-! THE TWIN: its pure state (fields and arrays by the field's number), its world, its rows -/
set_option maxRecDepth 100000
/-- int fields, long fields, int and boolean arrays, long arrays: by the field's number in TX9 -/
abbrev TS : Type := (Nat → Int32) × (Nat → Int64) × (Nat → Nat → Int32) × (Nat → Nat → Int64)
def tI (τ : TS) (k : Nat) : Int32 := τ.1 k
def tL (τ : TS) (k : Nat) : Int64 := τ.2.1 k
def tA (τ : TS) (k : Nat) : Nat → Int32 := τ.2.2.1 k
def tB (τ : TS) (k : Nat) : Nat → Int64 := τ.2.2.2 k
def sI (τ : TS) (k : Nat) (v : Int32) : TS := (fun j => if j = k then v else τ.1 j, τ.2)
def sL (τ : TS) (k : Nat) (v : Int64) : TS := (τ.1, fun j => if j = k then v else τ.2.1 j, τ.2.2)
def sA (τ : TS) (k : Nat) (i : Nat) (v : Int32) : TS := (τ.1, τ.2.1, fun j => if j = k then upd (τ.2.2.1 k) i v else τ.2.2.1 j, τ.2.2.2)
def sB (τ : TS) (k : Nat) (i : Nat) (v : Int64) : TS := (τ.1, τ.2.1, τ.2.2.1, fun j => if j = k then vp_updL (τ.2.2.2 k) i v else τ.2.2.2 j)
/-- D, classes, array types, places that may be written, addresses, array classes by type (0 int, 1 long, 2 boolean, 3 byte ..) -/
abbrev TE : Type := va_G × List vw_C × List (ClassId × FieldType) × (Nat → Prop) × (Nat → Nat) × (Nat → ClassId)
def tF (E : TE) (τ : TS) : List Value := [.int (τ.1 0), .ref (E.2.2.2.2.1 1), .int (τ.1 2), .int (τ.1 3), .ref (E.2.2.2.2.1 2), .ref (E.2.2.2.2.1 3), .ref (E.2.2.2.2.1 4), .int (τ.1 7), .int (τ.1 8), .ref (E.2.2.2.2.1 5), .ref (E.2.2.2.2.1 6), .ref (E.2.2.2.2.1 7), .ref (E.2.2.2.2.1 8), .int (τ.1 13), .ref (E.2.2.2.2.1 9), .int (τ.1 15), .ref (E.2.2.2.2.1 10), .ref (E.2.2.2.2.1 11), .ref (E.2.2.2.2.1 12), .ref (E.2.2.2.2.1 13), .int (τ.1 20), .ref (E.2.2.2.2.1 14), .int (τ.1 22), .ref (E.2.2.2.2.1 15), .ref (E.2.2.2.2.1 16), .int (τ.1 25), .int (τ.1 26), .int (τ.1 27), .int (τ.1 28), .int (τ.1 29), .int (τ.1 30), .ref (E.2.2.2.2.1 17), .ref (E.2.2.2.2.1 18), .int (τ.1 33), .int (τ.1 34), .int (τ.1 35), .ref (E.2.2.2.2.1 19), .int (τ.1 37), .ref (E.2.2.2.2.1 20), .ref (E.2.2.2.2.1 21), .ref (E.2.2.2.2.1 22), .ref (E.2.2.2.2.1 23), .int (τ.1 42), .long (τ.2.1 43), .int (τ.1 44), .long (τ.2.1 45), .long (τ.2.1 46), .ref (E.2.2.2.2.1 24)]
def Wt (E : TE) (τ : TS) : va_W := [(E.2.2.2.2.1 0, .inr (9, tF E τ)),
  (E.2.2.2.2.1 1, .inl (E.2.2.2.2.2 0, 1000, .inl (τ.2.2.1 1))),
  (E.2.2.2.2.1 2, .inl (E.2.2.2.2.2 0, 1002, .inl (τ.2.2.1 4))),
  (E.2.2.2.2.1 3, .inl (E.2.2.2.2.2 0, 1002, .inl (τ.2.2.1 5))),
  (E.2.2.2.2.1 4, .inl (E.2.2.2.2.2 1, 1002, .inr (.inl (τ.2.2.2 6)))),
  (E.2.2.2.2.1 5, .inl (E.2.2.2.2.2 1, 22, .inr (.inl (τ.2.2.2 9)))),
  (E.2.2.2.2.1 6, .inl (E.2.2.2.2.2 0, 680, .inl (τ.2.2.1 10))),
  (E.2.2.2.2.1 7, .inl (E.2.2.2.2.2 0, 2200, .inl (τ.2.2.1 11))),
  (E.2.2.2.2.1 8, .inl (E.2.2.2.2.2 0, 2200, .inl (τ.2.2.1 12))),
  (E.2.2.2.2.1 9, .inl (E.2.2.2.2.2 1, 4, .inr (.inl (τ.2.2.2 14)))),
  (E.2.2.2.2.1 10, .inl (E.2.2.2.2.2 0, 60, .inl (τ.2.2.1 16))),
  (E.2.2.2.2.1 11, .inl (E.2.2.2.2.2 0, 4, .inl (τ.2.2.1 17))),
  (E.2.2.2.2.1 12, .inl (E.2.2.2.2.2 0, 1100, .inl (τ.2.2.1 18))),
  (E.2.2.2.2.1 13, .inl (E.2.2.2.2.2 0, 2520, .inl (τ.2.2.1 19))),
  (E.2.2.2.2.1 14, .inl (E.2.2.2.2.2 2, 4, .inl (τ.2.2.1 21))),
  (E.2.2.2.2.1 15, .inl (E.2.2.2.2.2 0, 64800, .inl (τ.2.2.1 23))),
  (E.2.2.2.2.1 16, .inl (E.2.2.2.2.2 0, 64800, .inl (τ.2.2.1 24))),
  (E.2.2.2.2.1 17, .inl (E.2.2.2.2.2 0, 64800, .inl (τ.2.2.1 31))),
  (E.2.2.2.2.1 18, .inl (E.2.2.2.2.2 0, 64800, .inl (τ.2.2.1 32))),
  (E.2.2.2.2.1 19, .inl (E.2.2.2.2.2 0, 156000, .inl (τ.2.2.1 36))),
  (E.2.2.2.2.1 20, .inl (E.2.2.2.2.2 1, 240, .inr (.inl (τ.2.2.2 38)))),
  (E.2.2.2.2.1 21, .inl (E.2.2.2.2.2 1, 240, .inr (.inl (τ.2.2.2 39)))),
  (E.2.2.2.2.1 22, .inl (E.2.2.2.2.2 0, 4, .inl (τ.2.2.1 40))),
  (E.2.2.2.2.1 23, .inl (E.2.2.2.2.2 0, 4, .inl (τ.2.2.1 41))),
  (E.2.2.2.2.1 24, .inl (E.2.2.2.2.2 0, 54, .inl (τ.2.2.1 47)))]
def tEnv (E : TE) : Prop := E.2.1[9]? = some (RX9, TX9, 48) ∧ E.2.2.1[0]? = some (E.2.2.2.2.2 0, .int) ∧ E.2.2.1[1]? = some (E.2.2.2.2.2 1, .long) ∧ E.2.2.1[2]? = some (E.2.2.2.2.2 2, .boolean) ∧ ∀ τ : TS, va_D E.2.2.2.1 (Wt E τ)
def tRel (E : TE) (H0 : Heap) : TS → Heap → List Loc → Nat → Nat → Prop := fun τ H locs cells slots => va_P E.1 E.2.1 (Wt E τ) H ∧ va_S E.2.2.2.1 H0 H locs ∧ cells = 0 ∧ slots = 0
def tOK (X : KC TS) (E : TE) (cc : ByteArray) (nL : Nat) (ret : Option FieldType) : Prop := kOK X cc RX9 nL ∧ tEnv E ∧ X.2.2.1 = tRel E X.1.2.2.2.2.heap ∧ va_K E.1 E.2.1 E.2.2.1 X.1.2.2.2.2 ∧ X.2.1.2.2.2.1.sig.returnType = ret ∧ X.2.1.2.2.2.1.locks = false
def tRoom (X : KC TS) (F L : Nat) : Prop := F ≤ X.1.2.2.2.1.frames ∧ L ≤ X.1.2.2.2.1.locals
def tPre (E : TE) (τ : TS) (U : State) : Prop := va_P E.1 E.2.1 (Wt E τ) U.heap ∧ va_K E.1 E.2.1 E.2.2.1 U
def tPost (E : TE) (u : TS) (t : State) : Prop := va_P E.1 E.2.1 (Wt E u) t.heap
def tQ_i (E : TE) (v : Int32) (τ' : TS) : Array Value → State → Outcome → State → Prop := va_Qi (fun (r : Int32) (u : TS) => r = v ∧ u = τ') (tPost E) E.2.2.2.1
/-- the contract of a method of the twin -/
def tMet_i (l : Launch) (E : TE) (y : MethodName) (ws : List Cond) (F L : Nat) (As : List Value) (τ : TS) (v : Int32) (τ' : TS) : Prop := Met l y ws ({ frames := F, cells := 0, slots := 0, locals := L }) (va_Pc As (tPre E τ)) (tQ_i E v τ') 0 0 E.2.2.2.1
def tE_i (X : KC TS) (E : TE) (v : Int32) (τ' : TS) : Prop := X.2.2.2 = MQ X.2.1.2.2.1 (tQ_i E v τ') X.2.1.2.1 X.1.2.2.2.2 0 0 E.2.2.2.1
def tQ_l (E : TE) (v : Int64) (τ' : TS) : Array Value → State → Outcome → State → Prop := va_Ql (fun (r : Int64) (u : TS) => r = v ∧ u = τ') (tPost E) E.2.2.2.1
/-- the contract of a method of the twin -/
def tMet_l (l : Launch) (E : TE) (y : MethodName) (ws : List Cond) (F L : Nat) (As : List Value) (τ : TS) (v : Int64) (τ' : TS) : Prop := Met l y ws ({ frames := F, cells := 0, slots := 0, locals := L }) (va_Pc As (tPre E τ)) (tQ_l E v τ') 0 0 E.2.2.2.1
def tE_l (X : KC TS) (E : TE) (v : Int64) (τ' : TS) : Prop := X.2.2.2 = MQ X.2.1.2.2.1 (tQ_l E v τ') X.2.1.2.1 X.1.2.2.2.2 0 0 E.2.2.2.1
def tQ_v (E : TE) (τ' : TS) : Array Value → State → Outcome → State → Prop := va_Qv (fun (u : TS) => u = τ') (tPost E) E.2.2.2.1
/-- the contract of a method of the twin -/
def tMet_v (l : Launch) (E : TE) (y : MethodName) (ws : List Cond) (F L : Nat) (As : List Value) (τ : TS) (τ' : TS) : Prop := Met l y ws ({ frames := F, cells := 0, slots := 0, locals := L }) (va_Pc As (tPre E τ)) (tQ_v E τ') 0 0 E.2.2.2.1
def tE_v (X : KC TS) (E : TE) (τ' : TS) : Prop := X.2.2.2 = MQ X.2.1.2.2.1 (tQ_v E τ') X.2.1.2.1 X.1.2.2.2.2 0 0 E.2.2.2.1
/-- a contract out of a walk -/
theorem t_met_i {l : Launch} {E : TE} {y : MethodName} {F L nL : Nat} {As : List Value} {τ τ' : TS} {v : Int32} {cc : ByteArray} {ret : Option FieldType} (hE : tEnv E) (hy : plainName y.cls = true) (hc : y.cls = RX9) (hA : Nat.ble (lg_sl As).length nL = true) (body : ∀ X : KC TS, X.1.2.1 = l → tOK X E cc nL ret → tRoom X F L → tE_i X E v τ' → kW X τ 0 (lv_args 0 As) []) : tMet_i l E y (ws_ y cc nL ret) F L As τ v τ' := by
  refine Met.ofW (cc := cc) (maxL := nL) (ret := ret) hy rfl ?_
  intro p e s m args below meth c s₁ B hml hv
  obtain ⟨rfl, hP, hK⟩ := hv
  have hts := atoms_spec (ws := ws_ y cc nL ret) B.pre
  have hts : ∀ w ∈ lw_all, w.before As.toArray s = true := fun w h => hts w (List.mem_cons_of_mem _ h)
  have hown : s.vm.findClass RX9 = some m.cls := by rw [← hc]; exact findClass_of_methodNamed B.named
  have hl := lv_entry As (n := nL) (Nat.le_of_ble_eq_true hA)
  rw [lg_entry_eq]
  rw [← hml] at hl
  have K := body ((p, l, e, (headSpec (ws_ y cc nL ret) { frames := F, cells := 0, slots := 0, locals := L }).room, s), (m, As.toArray, below, meth, c), tRel E s.heap, MQ below (tQ_i E v τ') As.toArray s 0 0 E.2.2.2.1) rfl ⟨⟨B.exec, B.bytes, hown, hml, hts⟩, hE, rfl, hK, B.returns, B.notSynchronized⟩ ⟨Nat.le_refl _, Nat.le_refl _⟩ rfl
  rw [← hml]
  exact K s.heap [] 0 0 _ ⟨hP, va_S.rf, rfl, rfl⟩ hl
theorem t_met_l {l : Launch} {E : TE} {y : MethodName} {F L nL : Nat} {As : List Value} {τ τ' : TS} {v : Int64} {cc : ByteArray} {ret : Option FieldType} (hE : tEnv E) (hy : plainName y.cls = true) (hc : y.cls = RX9) (hA : Nat.ble (lg_sl As).length nL = true) (body : ∀ X : KC TS, X.1.2.1 = l → tOK X E cc nL ret → tRoom X F L → tE_l X E v τ' → kW X τ 0 (lv_args 0 As) []) : tMet_l l E y (ws_ y cc nL ret) F L As τ v τ' := by
  refine Met.ofW (cc := cc) (maxL := nL) (ret := ret) hy rfl ?_
  intro p e s m args below meth c s₁ B hml hv
  obtain ⟨rfl, hP, hK⟩ := hv
  have hts := atoms_spec (ws := ws_ y cc nL ret) B.pre
  have hts : ∀ w ∈ lw_all, w.before As.toArray s = true := fun w h => hts w (List.mem_cons_of_mem _ h)
  have hown : s.vm.findClass RX9 = some m.cls := by rw [← hc]; exact findClass_of_methodNamed B.named
  have hl := lv_entry As (n := nL) (Nat.le_of_ble_eq_true hA)
  rw [lg_entry_eq]
  rw [← hml] at hl
  have K := body ((p, l, e, (headSpec (ws_ y cc nL ret) { frames := F, cells := 0, slots := 0, locals := L }).room, s), (m, As.toArray, below, meth, c), tRel E s.heap, MQ below (tQ_l E v τ') As.toArray s 0 0 E.2.2.2.1) rfl ⟨⟨B.exec, B.bytes, hown, hml, hts⟩, hE, rfl, hK, B.returns, B.notSynchronized⟩ ⟨Nat.le_refl _, Nat.le_refl _⟩ rfl
  rw [← hml]
  exact K s.heap [] 0 0 _ ⟨hP, va_S.rf, rfl, rfl⟩ hl
theorem t_met_v {l : Launch} {E : TE} {y : MethodName} {F L nL : Nat} {As : List Value} {τ τ' : TS} {cc : ByteArray} {ret : Option FieldType} (hE : tEnv E) (hy : plainName y.cls = true) (hc : y.cls = RX9) (hA : Nat.ble (lg_sl As).length nL = true) (body : ∀ X : KC TS, X.1.2.1 = l → tOK X E cc nL ret → tRoom X F L → tE_v X E τ' → kW X τ 0 (lv_args 0 As) []) : tMet_v l E y (ws_ y cc nL ret) F L As τ τ' := by
  refine Met.ofW (cc := cc) (maxL := nL) (ret := ret) hy rfl ?_
  intro p e s m args below meth c s₁ B hml hv
  obtain ⟨rfl, hP, hK⟩ := hv
  have hts := atoms_spec (ws := ws_ y cc nL ret) B.pre
  have hts : ∀ w ∈ lw_all, w.before As.toArray s = true := fun w h => hts w (List.mem_cons_of_mem _ h)
  have hown : s.vm.findClass RX9 = some m.cls := by rw [← hc]; exact findClass_of_methodNamed B.named
  have hl := lv_entry As (n := nL) (Nat.le_of_ble_eq_true hA)
  rw [lg_entry_eq]
  rw [← hml] at hl
  have K := body ((p, l, e, (headSpec (ws_ y cc nL ret) { frames := F, cells := 0, slots := 0, locals := L }).room, s), (m, As.toArray, below, meth, c), tRel E s.heap, MQ below (tQ_v E τ') As.toArray s 0 0 E.2.2.2.1) rfl ⟨⟨B.exec, B.bytes, hown, hml, hts⟩, hE, rfl, hK, B.returns, B.notSynchronized⟩ ⟨Nat.le_refl _, Nat.le_refl _⟩ rfl
  rw [← hml]
  exact K s.heap [] 0 0 _ ⟨hP, va_S.rf, rfl, rfl⟩ hl
def lpN {F : Type} (z : F) (s : F → F) : Nat → F
  | 0 => z
  | n + 1 => s (lpN z s n)
def bd2 {α β γ : Type} (o : Option (α × β)) (K : α → β → Option γ) : Option γ := o.bind fun p => K p.1 p.2
theorem bd2_of {α β γ : Type} {o : Option (α × β)} {K : α → β → Option γ} {r : γ} (h : bd2 o K = some r) : ∃ a b, o = some (a, b) ∧ K a b = some r := by
  obtain ⟨⟨a, b⟩, h1, h2⟩ := bd_of h
  exact ⟨a, b, h1, h2⟩
/-- an array's read, in range -/
def ld {α β : Type} (f : Nat → α) (n : Nat) (i : Int32) (K : α → Option β) : Option β := if inb i n = true then K (f i.toNatClampNeg) else none
theorem ld_of {α β : Type} {f : Nat → α} {n : Nat} {i : Int32} {K : α → Option β} {r : β} (h : ld f n i K = some r) : vp_in i n ∧ K (f i.toNatClampNeg) = some r := by
  unfold ld at h
  by_cases q : inb i n = true
  · rw [if_pos q] at h; exact ⟨inb_in q, h⟩
  · rw [if_neg q] at h; cases h
/-- an array's write, in range -/
def stA {β : Type} (τ : TS) (k n : Nat) (i v : Int32) (K : TS → Option β) : Option β := if inb i n = true then K (sA τ k i.toNatClampNeg v) else none
theorem stA_of {β : Type} {τ : TS} {k n : Nat} {i v : Int32} {K : TS → Option β} {r : β} (h : stA τ k n i v K = some r) : vp_in i n ∧ K (sA τ k i.toNatClampNeg v) = some r := by
  unfold stA at h
  by_cases q : inb i n = true
  · rw [if_pos q] at h; exact ⟨inb_in q, h⟩
  · rw [if_neg q] at h; cases h
def stB {β : Type} (τ : TS) (k n : Nat) (i : Int32) (v : Int64) (K : TS → Option β) : Option β := if inb i n = true then K (sB τ k i.toNatClampNeg v) else none
theorem stB_of {β : Type} {τ : TS} {k n : Nat} {i : Int32} {v : Int64} {K : TS → Option β} {r : β} (h : stB τ k n i v K = some r) : vp_in i n ∧ K (sB τ k i.toNatClampNeg v) = some r := by
  unfold stB at h
  by_cases q : inb i n = true
  · rw [if_pos q] at h; exact ⟨inb_in q, h⟩
  · rw [if_neg q] at h; cases h
theorem isb_vp {v : Int32} (h : isb v = true) : vp_nar .boolean v = v := by
  rcases of_decide_eq_true h with rfl | rfl <;> rfl
section KT
variable {S : Type} {X : KC S} {τ : S} {pc : Nat} {lv lv' : List (Nat × Value)} {r : List Value} {α : Type} {z : α}
theorem k_nm {e : Int32} {K : Int32 → Option α} (h : nm e K = some z) (k : ∀ y, K y = some z → kW X τ pc lv (.int y :: r)) : kW X τ pc lv (.int e :: r) := k e h
theorem k_nml {e : Int64} {K : Int64 → Option α} (h : nm e K = some z) (k : ∀ y, K y = some z → kW X τ pc lv (.long y :: r)) : kW X τ pc lv (.long e :: r) := k e h
end KT
section TR
variable {X : KC TS} {E : TE} {cc : ByteArray} {nL : Nat} {ret : Option FieldType} {τ τ' : TS} {pc : Nat} {lv : List (Nat × Value)} {r : List Value} {α : Type} {z : α}
theorem t_get {k index : Nat} {v : Value} (T : tOK X E cc nL ret) (hv : (tF E τ)[k]? = some v) (hk : Nat.blt k 48 = true) (hq : Cond.fieldLink RX9 index RX9 (TX9 k).2.1 (TX9 k).2.2.1 ∈ lw_all) (h1 : (TX9 k).1 = RX9) (d : decode cc pc = .ok (.getfield index, 3)) (kk : kW X τ (pc + 3) lv (v :: r)) : kW X τ pc lv (.ref (E.2.2.2.2.1 0) :: r) := by
  obtain ⟨hX, hE, hR, hK, -, -⟩ := T
  intro H q a b ls hr hl
  have hr2 := hr
  rw [hR] at hr2
  exact va_get (C := RX9) (T := TX9) (N := 48) (ci := 9) hX.1 hX.2.1 hX.2.2.2.2 in_X9 hX.2.2.1 hK hr2.1 0 rfl hE.1 k (Nat.le_of_ble_eq_true hk) (hX.2.2.2.2 _ hq) (fun x hx => by rw [← h1]; exact hx) hv d (kk H q a b ls hr hl)
theorem t_put {k index : Nat} {v : Value} {ty : FieldType} (T : tOK X E cc nL ret) (hset : (tF E τ).set k v = tF E τ') (hW : ∀ x, (Wt E τ).set 0 (E.2.2.2.2.1 0, .inr (9, x)) = (Wt E τ').set 0 (E.2.2.2.2.1 0, .inr (9, x))) (hk : Nat.blt k 48 = true) (hq : Cond.fieldLink RX9 index RX9 (TX9 k).2.1 (TX9 k).2.2.1 ∈ lw_all) (h1 : (TX9 k).1 = RX9) (hfin : (TX9 k).2.2.2 = false) (hd : parseFieldDescriptor (TX9 k).2.2.1 = some ty) (hn : narrow ty v = v) (hfit : fits ty v = true) (d : decode cc pc = .ok (.putfield index, 3)) (kk : kW X τ' (pc + 3) lv r) : kW X τ pc lv (v :: .ref (E.2.2.2.2.1 0) :: r) := by
  obtain ⟨hX, hE, hR, hK, -, -⟩ := T
  intro H q a b ls hr hl
  rw [hR] at hr
  refine va_put (C := RX9) (T := TX9) (N := 48) (ci := 9) (fs := tF E τ) hX.1 hX.2.1 hX.2.2.2.2 in_X9 tyX9 tyX9_ok nmX9 hX.2.2.1 hK hr.1 (hE.2.2.2.2 τ) hr.2.1 0 rfl hE.1 k (Nat.le_of_ble_eq_true hk) (hX.2.2.2.2 _ hq) (fun x hx => by rw [← h1]; exact hx) hfin hd hn hfit (Nat.le_of_ble_eq_true hk) d (fun H1 l1 p1 d1 s1 => ?_)
  refine kk H1 l1 a b ls ?_ hl
  rw [hR]
  refine ⟨?_, s1, hr.2.2⟩
  rw [hset, hW] at p1
  exact p1
theorem t_iald {p k n : Nat} {i : Int32} {K : Int32 → Option α} (T : tOK X E cc nL ret) (hp : (Wt E τ)[p]? = some (E.2.2.2.2.1 p, .inl (E.2.2.2.2.2 0, n, .inl (tA τ k)))) (h : ld (tA τ k) n i K = some z) (d : decode cc pc = .ok (.iaload, 1)) (kk : ∀ v, K v = some z → kW X τ (pc + 1) lv (.int v :: r)) : kW X τ pc lv (.int i :: .ref (E.2.2.2.2.1 p) :: r) := by
  obtain ⟨hX, hE, hR, hK, -, -⟩ := T
  intro H q a b ls hr hl
  have hr2 := hr
  rw [hR] at hr2
  exact va_iald hX.1 hX.2.1 hK hr2.1 p 0 hp hE.2.1 (ld_of h).1 d (kk _ (ld_of h).2 H q a b ls hr hl)
theorem t_zald {p k n : Nat} {i : Int32} {K : Int32 → Option α} (T : tOK X E cc nL ret) (hp : (Wt E τ)[p]? = some (E.2.2.2.2.1 p, .inl (E.2.2.2.2.2 2, n, .inl (tA τ k)))) (h : ld (tA τ k) n i K = some z) (d : decode cc pc = .ok (.baload, 1)) (kk : ∀ v, K v = some z → kW X τ (pc + 1) lv (.int v :: r)) : kW X τ pc lv (.int i :: .ref (E.2.2.2.2.1 p) :: r) := by
  obtain ⟨hX, hE, hR, hK, -, -⟩ := T
  intro H q a b ls hr hl
  have hr2 := hr
  rw [hR] at hr2
  exact va_zald hX.1 hX.2.1 hK hr2.1 p 2 hp hE.2.2.2.1 (ld_of h).1 d (kk _ (ld_of h).2 H q a b ls hr hl)
theorem t_lald {p k n : Nat} {i : Int32} {K : Int64 → Option α} (T : tOK X E cc nL ret) (hp : (Wt E τ)[p]? = some (E.2.2.2.2.1 p, .inl (E.2.2.2.2.2 1, n, .inr (.inl (tB τ k))))) (h : ld (tB τ k) n i K = some z) (d : decode cc pc = .ok (.laload, 1)) (kk : ∀ v, K v = some z → kW X τ (pc + 1) lv (.long v :: r)) : kW X τ pc lv (.int i :: .ref (E.2.2.2.2.1 p) :: r) := by
  obtain ⟨hX, hE, hR, hK, -, -⟩ := T
  intro H q a b ls hr hl
  have hr2 := hr
  rw [hR] at hr2
  exact va_lald hX.1 hX.2.1 hK hr2.1 p 1 hp hE.2.2.1 (ld_of h).1 d (kk _ (ld_of h).2 H q a b ls hr hl)
theorem t_iast {p k n : Nat} {i x : Int32} {K : TS → Option α} (T : tOK X E cc nL ret) (hp : (Wt E τ)[p]? = some (E.2.2.2.2.1 p, .inl (E.2.2.2.2.2 0, n, .inl (tA τ k)))) (hs : ∀ j v, (Wt E τ).set p (E.2.2.2.2.1 p, .inl (E.2.2.2.2.2 0, n, .inl (upd (tA τ k) j v))) = Wt E (sA τ k j v)) (h : stA τ k n i x K = some z) (d : decode cc pc = .ok (.iastore, 1)) (kk : ∀ τ', K τ' = some z → kW X τ' (pc + 1) lv r) : kW X τ pc lv (.int x :: .int i :: .ref (E.2.2.2.2.1 p) :: r) := by
  obtain ⟨hX, hE, hR, hK, -, -⟩ := T
  intro H q a b ls hr hl
  rw [hR] at hr
  refine va_iast hX.1 hX.2.1 hK hr.1 (hE.2.2.2.2 τ) hr.2.1 p 0 hp hE.2.1 (stA_of h).1 d (fun H1 l1 p1 d1 s1 => kk _ (stA_of h).2 H1 l1 a b ls ?_ hl)
  rw [hR]
  rw [hs] at p1
  exact ⟨p1, s1, hr.2.2⟩
theorem t_zast {p k n : Nat} {i x : Int32} {K : TS → Option α} (T : tOK X E cc nL ret) (hp : (Wt E τ)[p]? = some (E.2.2.2.2.1 p, .inl (E.2.2.2.2.2 2, n, .inl (tA τ k)))) (hs : ∀ j v, (Wt E τ).set p (E.2.2.2.2.1 p, .inl (E.2.2.2.2.2 2, n, .inl (upd (tA τ k) j v))) = Wt E (sA τ k j v)) (h : gd (isb x) (stA τ k n i x K) = some z) (d : decode cc pc = .ok (.bastore, 1)) (kk : ∀ τ', K τ' = some z → kW X τ' (pc + 1) lv r) : kW X τ pc lv (.int x :: .int i :: .ref (E.2.2.2.2.1 p) :: r) := by
  obtain ⟨hX, hE, hR, hK, -, -⟩ := T
  obtain ⟨hb, h⟩ := gd_of h
  intro H q a b ls hr hl
  rw [hR] at hr
  refine va_zast hX.1 hX.2.1 hK hr.1 (hE.2.2.2.2 τ) hr.2.1 p 2 hp hE.2.2.2.1 (stA_of h).1 d (fun H1 l1 p1 d1 s1 => kk _ (stA_of h).2 H1 l1 a b ls ?_ hl)
  rw [hR]
  rw [isb_vp hb, hs] at p1
  exact ⟨p1, s1, hr.2.2⟩
theorem t_last {p k n : Nat} {i : Int32} {x : Int64} {K : TS → Option α} (T : tOK X E cc nL ret) (hp : (Wt E τ)[p]? = some (E.2.2.2.2.1 p, .inl (E.2.2.2.2.2 1, n, .inr (.inl (tB τ k))))) (hs : ∀ j v, (Wt E τ).set p (E.2.2.2.2.1 p, .inl (E.2.2.2.2.2 1, n, .inr (.inl (vp_updL (tB τ k) j v)))) = Wt E (sB τ k j v)) (h : stB τ k n i x K = some z) (d : decode cc pc = .ok (.lastore, 1)) (kk : ∀ τ', K τ' = some z → kW X τ' (pc + 1) lv r) : kW X τ pc lv (.long x :: .int i :: .ref (E.2.2.2.2.1 p) :: r) := by
  obtain ⟨hX, hE, hR, hK, -, -⟩ := T
  intro H q a b ls hr hl
  rw [hR] at hr
  refine va_last hX.1 hX.2.1 hK hr.1 (hE.2.2.2.2 τ) hr.2.1 p 1 hp hE.2.2.1 (stB_of h).1 d (fun H1 l1 p1 d1 s1 => kk _ (stB_of h).2 H1 l1 a b ls ?_ hl)
  rw [hR]
  rw [hs] at p1
  exact ⟨p1, s1, hr.2.2⟩
theorem t_ret_i {v : Int32} {z : Int32 × TS} (T : tOK X E cc nL (some .int)) (e : tE_i X E z.1 z.2) (h : some (v, τ) = some z) (d : decode cc pc = .ok (.ireturn, 1)) : kW X τ pc lv [.int v] := by
  cases h
  obtain ⟨hX, hE, hR, hK, hr, hlk⟩ := T
  intro H q a b ls hr2 hl
  rw [hR] at hr2
  obtain ⟨hP, hS, rfl, rfl⟩ := hr2
  rw [show X.2.2.2 = _ from e]
  exact W.iret hX.1 hX.2.1 hr (fun t ht hW => ⟨⟨v, τ, rfl, ⟨rfl, rfl⟩, by rw [tPost, ht]; exact hP⟩, hS.F ht⟩) hS.2.2 d hlk
theorem t_ret_z {v : Int32} {z : Int32 × TS} (T : tOK X E cc nL (some .boolean)) (e : tE_i X E z.1 z.2) (h : gd (isb v) (some (v, τ)) = some z) (d : decode cc pc = .ok (.ireturn, 1)) : kW X τ pc lv [.int v] := by
  obtain ⟨hb, h⟩ := gd_of h
  cases h
  obtain ⟨hX, hE, hR, hK, hr, hlk⟩ := T
  intro H q a b ls hr2 hl
  rw [hR] at hr2
  obtain ⟨hP, hS, rfl, rfl⟩ := hr2
  rw [show X.2.2.2 = _ from e]
  exact W.zret hX.1 hX.2.1 hr (isb_nar hb) (fun t ht hW => ⟨⟨v, τ, rfl, ⟨rfl, rfl⟩, by rw [tPost, ht]; exact hP⟩, hS.F ht⟩) hS.2.2 d hlk
theorem t_ret_l {v : Int64} {z : Int64 × TS} (T : tOK X E cc nL (some .long)) (e : tE_l X E z.1 z.2) (h : some (v, τ) = some z) (d : decode cc pc = .ok (.lreturn, 1)) : kW X τ pc lv [.long v] := by
  cases h
  obtain ⟨hX, hE, hR, hK, hr, hlk⟩ := T
  intro H q a b ls hr2 hl
  rw [hR] at hr2
  obtain ⟨hP, hS, rfl, rfl⟩ := hr2
  rw [show X.2.2.2 = _ from e]
  exact W.lret hX.1 hX.2.1 hr (fun t ht hW => ⟨⟨v, τ, rfl, ⟨rfl, rfl⟩, by rw [tPost, ht]; exact hP⟩, hS.F ht⟩) hS.2.2 d hlk
theorem t_ret_v {z : TS} (T : tOK X E cc nL none) (e : tE_v X E z) (h : some τ = some z) (d : decode cc pc = .ok (.return_, 1)) : kW X τ pc lv [] := by
  cases h
  obtain ⟨hX, hE, hR, hK, hr, hlk⟩ := T
  intro H q a b ls hr2 hl
  rw [hR] at hr2
  obtain ⟨hP, hS, rfl, rfl⟩ := hr2
  rw [show X.2.2.2 = _ from e]
  exact W.vret hX.1 hX.2.1 hr (fun t ht hW => ⟨⟨τ, rfl, rfl, by rw [tPost, ht]; exact hP⟩, hS.F ht⟩) hS.2.2 d hlk
theorem t_ret_ir {v z : Int32} (T : tOK X E cc nL (some .int)) (e : tE_i X E z τ) (h : some v = some z) (d : decode cc pc = .ok (.ireturn, 1)) : kW X τ pc lv [.int v] := by
  cases h
  exact t_ret_i T (z := (v, τ)) e rfl d
theorem t_ret_zr {v z : Int32} (T : tOK X E cc nL (some .boolean)) (e : tE_i X E z τ) (h : gd (isb v) (some v) = some z) (d : decode cc pc = .ok (.ireturn, 1)) : kW X τ pc lv [.int v] := by
  obtain ⟨hb, h⟩ := gd_of h
  cases h
  exact t_ret_z T (z := (v, τ)) e (by rw [hb]; rfl) d
theorem t_ret_lr {v z : Int64} (T : tOK X E cc nL (some .long)) (e : tE_l X E z τ) (h : some v = some z) (d : decode cc pc = .ok (.lreturn, 1)) : kW X τ pc lv [.long v] := by
  cases h
  exact t_ret_l T (z := (v, τ)) e rfl d
theorem t_callV_i {As : List Value} {y : MethodName} {ws : List Cond} {F L index n maxL : Nat} {bytes : ByteArray} {rt : Option FieldType} {v : Int32} (T : tOK X E cc nL ret) (hM : tMet_i X.1.2.1 E y ws F L (.ref (E.2.2.2.2.1 0) :: As) τ v τ') (cw : CallW X.1.2.2.2.1 X.1.2.2.2.2 X.2.1.2.1 RX9 RX9 index y bytes maxL rt ws ({ frames := F, cells := 0, slots := 0, locals := L }) 0 0 n) (hn : As.length = n) (hst : Nat.ble (r.map Value.category).sum 8 = true) (d : decode cc pc = .ok (.invokevirtual index, 3)) (k : kW X τ' (pc + 3) lv (.int v :: r)) : kW X τ pc lv (As.reverse ++ .ref (E.2.2.2.2.1 0) :: r) := by
  obtain ⟨hX, hE, hR, hK, -, -⟩ := T
  intro H q a b ls hr hl
  have hr2 := hr
  rw [hR] at hr2
  refine va_calli (va_runV (As := As) (rest := r) ⟨hX.1, hX.2.1, hX.2.2.2.1, hX.2.2.1, hX.2.2.2.2⟩ hM cw ⟨fun a U g mk q => ⟨q.1, q.2.1, va_K.moved (u := U) (U := U.calling g mk a) (Vm.Alike.refl U.vm) q.2.2⟩, va_recv hK hr2.1 (ci := 9) (q0 := 0) hE.1 rfl, fun U hU hW => ⟨rfl, by rw [hU]; exact hr2.1, va_K.moved hW.alike hK⟩⟩ rfl hn (hl.1.trans hX.2.2.2.1) rfl (lv_room (Nat.le_of_ble_eq_true hst)) d ?_) hr2.2.1 (fun q _ h => h) (fun q h => h) (fun v1 u t H1 l1 ht hvm hw hB hz hk hS => ?_)
  · rw [hr2.2.2.1, hr2.2.2.2]
    exact ⟨Nat.zero_le _, Nat.zero_le _⟩
  obtain ⟨rfl, rfl⟩ := hw
  refine k H1 l1 (a + 0) (b + 0) ls ?_ hl
  rw [hR]
  refine ⟨?_, hS, hr2.2.2.1, hr2.2.2.2⟩
  rw [← ht]
  exact hB
theorem t_callV_l {As : List Value} {y : MethodName} {ws : List Cond} {F L index n maxL : Nat} {bytes : ByteArray} {rt : Option FieldType} {v : Int64} (T : tOK X E cc nL ret) (hM : tMet_l X.1.2.1 E y ws F L (.ref (E.2.2.2.2.1 0) :: As) τ v τ') (cw : CallW X.1.2.2.2.1 X.1.2.2.2.2 X.2.1.2.1 RX9 RX9 index y bytes maxL rt ws ({ frames := F, cells := 0, slots := 0, locals := L }) 0 0 n) (hn : As.length = n) (hst : Nat.ble (r.map Value.category).sum 8 = true) (d : decode cc pc = .ok (.invokevirtual index, 3)) (k : kW X τ' (pc + 3) lv (.long v :: r)) : kW X τ pc lv (As.reverse ++ .ref (E.2.2.2.2.1 0) :: r) := by
  obtain ⟨hX, hE, hR, hK, -, -⟩ := T
  intro H q a b ls hr hl
  have hr2 := hr
  rw [hR] at hr2
  refine va_calll (va_runV (As := As) (rest := r) ⟨hX.1, hX.2.1, hX.2.2.2.1, hX.2.2.1, hX.2.2.2.2⟩ hM cw ⟨fun a U g mk q => ⟨q.1, q.2.1, va_K.moved (u := U) (U := U.calling g mk a) (Vm.Alike.refl U.vm) q.2.2⟩, va_recv hK hr2.1 (ci := 9) (q0 := 0) hE.1 rfl, fun U hU hW => ⟨rfl, by rw [hU]; exact hr2.1, va_K.moved hW.alike hK⟩⟩ rfl hn (hl.1.trans hX.2.2.2.1) rfl (lv_room (Nat.le_of_ble_eq_true hst)) d ?_) hr2.2.1 (fun q _ h => h) (fun q h => h) (fun v1 u t H1 l1 ht hvm hw hB hz hk hS => ?_)
  · rw [hr2.2.2.1, hr2.2.2.2]
    exact ⟨Nat.zero_le _, Nat.zero_le _⟩
  obtain ⟨rfl, rfl⟩ := hw
  refine k H1 l1 (a + 0) (b + 0) ls ?_ hl
  rw [hR]
  refine ⟨?_, hS, hr2.2.2.1, hr2.2.2.2⟩
  rw [← ht]
  exact hB
theorem t_callV_v {As : List Value} {y : MethodName} {ws : List Cond} {F L index n maxL : Nat} {bytes : ByteArray} {rt : Option FieldType} (T : tOK X E cc nL ret) (hM : tMet_v X.1.2.1 E y ws F L (.ref (E.2.2.2.2.1 0) :: As) τ τ') (cw : CallW X.1.2.2.2.1 X.1.2.2.2.2 X.2.1.2.1 RX9 RX9 index y bytes maxL rt ws ({ frames := F, cells := 0, slots := 0, locals := L }) 0 0 n) (hn : As.length = n) (hst : Nat.ble (r.map Value.category).sum 8 = true) (d : decode cc pc = .ok (.invokevirtual index, 3)) (k : kW X τ' (pc + 3) lv (r)) : kW X τ pc lv (As.reverse ++ .ref (E.2.2.2.2.1 0) :: r) := by
  obtain ⟨hX, hE, hR, hK, -, -⟩ := T
  intro H q a b ls hr hl
  have hr2 := hr
  rw [hR] at hr2
  refine va_callv (va_runV (As := As) (rest := r) ⟨hX.1, hX.2.1, hX.2.2.2.1, hX.2.2.1, hX.2.2.2.2⟩ hM cw ⟨fun a U g mk q => ⟨q.1, q.2.1, va_K.moved (u := U) (U := U.calling g mk a) (Vm.Alike.refl U.vm) q.2.2⟩, va_recv hK hr2.1 (ci := 9) (q0 := 0) hE.1 rfl, fun U hU hW => ⟨rfl, by rw [hU]; exact hr2.1, va_K.moved hW.alike hK⟩⟩ rfl hn (hl.1.trans hX.2.2.2.1) rfl (lv_room (Nat.le_of_ble_eq_true hst)) d ?_) hr2.2.1 (fun q _ h => h) (fun q h => h) (fun u t H1 l1 ht hvm hw hB hz hk hS => ?_)
  · rw [hr2.2.2.1, hr2.2.2.2]
    exact ⟨Nat.zero_le _, Nat.zero_le _⟩
  have hw : u = τ' := hw
  subst hw
  refine k H1 l1 (a + 0) (b + 0) ls ?_ hl
  rw [hR]
  refine ⟨?_, hS, hr2.2.2.1, hr2.2.2.2⟩
  rw [← ht]
  exact hB
theorem t_callS_i {As : List Value} {y : MethodName} {ws : List Cond} {F L index n maxL : Nat} {bytes : ByteArray} {rt : Option FieldType} {v : Int32} (T : tOK X E cc nL ret) (hM : tMet_i X.1.2.1 E y ws F L As τ v τ') (cw : (CallB X.1.2.2.2.1 X.1.2.2.2.2 X.2.1.2.1 RX9 index y bytes maxL rt ws ({ frames := F, cells := 0, slots := 0, locals := L }) 0 0 n ∧ (Cond.static y).before X.2.1.2.1 X.1.2.2.2.2 = true)) (hn : As.length = n) (hst : Nat.ble (r.map Value.category).sum 8 = true) (d : decode cc pc = .ok (.invokestatic index, 3)) (k : kW X τ' (pc + 3) lv (.int v :: r)) : kW X τ pc lv (As.reverse ++ r) := by
  obtain ⟨hX, hE, hR, hK, -, -⟩ := T
  intro H q a b ls hr hl
  have hr2 := hr
  rw [hR] at hr2
  refine va_calli (va_runS (As := As) (rest := r) ⟨hX.1, hX.2.1, hX.2.2.2.1, hX.2.2.1, hX.2.2.2.2⟩ hM cw ⟨fun a U g mk q => ⟨q.1, q.2.1, va_K.moved (u := U) (U := U.calling g mk a) (Vm.Alike.refl U.vm) q.2.2⟩, fun U hU hW => ⟨rfl, by rw [hU]; exact hr2.1, va_K.moved hW.alike hK⟩⟩ rfl hn (hl.1.trans hX.2.2.2.1) rfl (lv_room (Nat.le_of_ble_eq_true hst)) d ?_) hr2.2.1 (fun q _ h => h) (fun q h => h) (fun v1 u t H1 l1 ht hvm hw hB hz hk hS => ?_)
  · rw [hr2.2.2.1, hr2.2.2.2]
    exact ⟨Nat.zero_le _, Nat.zero_le _⟩
  obtain ⟨rfl, rfl⟩ := hw
  refine k H1 l1 (a + 0) (b + 0) ls ?_ hl
  rw [hR]
  refine ⟨?_, hS, hr2.2.2.1, hr2.2.2.2⟩
  rw [← ht]
  exact hB
theorem t_callS_l {As : List Value} {y : MethodName} {ws : List Cond} {F L index n maxL : Nat} {bytes : ByteArray} {rt : Option FieldType} {v : Int64} (T : tOK X E cc nL ret) (hM : tMet_l X.1.2.1 E y ws F L As τ v τ') (cw : (CallB X.1.2.2.2.1 X.1.2.2.2.2 X.2.1.2.1 RX9 index y bytes maxL rt ws ({ frames := F, cells := 0, slots := 0, locals := L }) 0 0 n ∧ (Cond.static y).before X.2.1.2.1 X.1.2.2.2.2 = true)) (hn : As.length = n) (hst : Nat.ble (r.map Value.category).sum 8 = true) (d : decode cc pc = .ok (.invokestatic index, 3)) (k : kW X τ' (pc + 3) lv (.long v :: r)) : kW X τ pc lv (As.reverse ++ r) := by
  obtain ⟨hX, hE, hR, hK, -, -⟩ := T
  intro H q a b ls hr hl
  have hr2 := hr
  rw [hR] at hr2
  refine va_calll (va_runS (As := As) (rest := r) ⟨hX.1, hX.2.1, hX.2.2.2.1, hX.2.2.1, hX.2.2.2.2⟩ hM cw ⟨fun a U g mk q => ⟨q.1, q.2.1, va_K.moved (u := U) (U := U.calling g mk a) (Vm.Alike.refl U.vm) q.2.2⟩, fun U hU hW => ⟨rfl, by rw [hU]; exact hr2.1, va_K.moved hW.alike hK⟩⟩ rfl hn (hl.1.trans hX.2.2.2.1) rfl (lv_room (Nat.le_of_ble_eq_true hst)) d ?_) hr2.2.1 (fun q _ h => h) (fun q h => h) (fun v1 u t H1 l1 ht hvm hw hB hz hk hS => ?_)
  · rw [hr2.2.2.1, hr2.2.2.2]
    exact ⟨Nat.zero_le _, Nat.zero_le _⟩
  obtain ⟨rfl, rfl⟩ := hw
  refine k H1 l1 (a + 0) (b + 0) ls ?_ hl
  rw [hR]
  refine ⟨?_, hS, hr2.2.2.1, hr2.2.2.2⟩
  rw [← ht]
  exact hB
theorem t_callS_v {As : List Value} {y : MethodName} {ws : List Cond} {F L index n maxL : Nat} {bytes : ByteArray} {rt : Option FieldType} (T : tOK X E cc nL ret) (hM : tMet_v X.1.2.1 E y ws F L As τ τ') (cw : (CallB X.1.2.2.2.1 X.1.2.2.2.2 X.2.1.2.1 RX9 index y bytes maxL rt ws ({ frames := F, cells := 0, slots := 0, locals := L }) 0 0 n ∧ (Cond.static y).before X.2.1.2.1 X.1.2.2.2.2 = true)) (hn : As.length = n) (hst : Nat.ble (r.map Value.category).sum 8 = true) (d : decode cc pc = .ok (.invokestatic index, 3)) (k : kW X τ' (pc + 3) lv (r)) : kW X τ pc lv (As.reverse ++ r) := by
  obtain ⟨hX, hE, hR, hK, -, -⟩ := T
  intro H q a b ls hr hl
  have hr2 := hr
  rw [hR] at hr2
  refine va_callv (va_runS (As := As) (rest := r) ⟨hX.1, hX.2.1, hX.2.2.2.1, hX.2.2.1, hX.2.2.2.2⟩ hM cw ⟨fun a U g mk q => ⟨q.1, q.2.1, va_K.moved (u := U) (U := U.calling g mk a) (Vm.Alike.refl U.vm) q.2.2⟩, fun U hU hW => ⟨rfl, by rw [hU]; exact hr2.1, va_K.moved hW.alike hK⟩⟩ rfl hn (hl.1.trans hX.2.2.2.1) rfl (lv_room (Nat.le_of_ble_eq_true hst)) d ?_) hr2.2.1 (fun q _ h => h) (fun q h => h) (fun u t H1 l1 ht hvm hw hB hz hk hS => ?_)
  · rw [hr2.2.2.1, hr2.2.2.2]
    exact ⟨Nat.zero_le _, Nat.zero_le _⟩
  have hw : u = τ' := hw
  subst hw
  refine k H1 l1 (a + 0) (b + 0) ls ?_ hl
  rw [hR]
  refine ⟨?_, hS, hr2.2.2.1, hr2.2.2.2⟩
  rw [← ht]
  exact hB
end TR
/-- thrown -/
theorem tg0 {X : KC TS} {E : TE} {cc : ByteArray} {nL : Nat} {ret : Option FieldType} {τ : TS} {pc : Nat} {lv : List (Nat × Value)} {r : List Value} (T : tOK X E cc nL ret) (d : decode cc pc = .ok (.getfield 1, 3)) (kk : kW X τ (pc + 3) lv (.int (tI τ 0) :: r)) : kW X τ pc lv (.ref (E.2.2.2.2.1 0) :: r) := t_get (k := 0) T rfl rfl q1668 rfl d kk
theorem tp0 {X : KC TS} {E : TE} {cc : ByteArray} {nL : Nat} {ret : Option FieldType} {τ : TS} {pc : Nat} {lv : List (Nat × Value)} {r : List Value} {α : Type} {z : α} {v : Int32} {K : TS → Option α} (T : tOK X E cc nL ret) (h : nm (sI τ 0 v) K = some z) (d : decode cc pc = .ok (.putfield 1, 3)) (kk : ∀ τ', K τ' = some z → kW X τ' (pc + 3) lv r) : kW X τ pc lv (.int v :: .ref (E.2.2.2.2.1 0) :: r) := t_put (k := 0) (ty := .int) (τ' := sI τ 0 v) T rfl (fun _ => rfl) rfl q1668 rfl rfl (by decide +kernel) rfl rfl d (kk _ h)
/-- tape -/
theorem tg1 {X : KC TS} {E : TE} {cc : ByteArray} {nL : Nat} {ret : Option FieldType} {τ : TS} {pc : Nat} {lv : List (Nat × Value)} {r : List Value} (T : tOK X E cc nL ret) (d : decode cc pc = .ok (.getfield 14, 3)) (kk : kW X τ (pc + 3) lv (.ref (E.2.2.2.2.1 1) :: r)) : kW X τ pc lv (.ref (E.2.2.2.2.1 0) :: r) := t_get (k := 1) T rfl rfl q1669 rfl d kk
theorem ta1 {X : KC TS} {E : TE} {cc : ByteArray} {nL : Nat} {ret : Option FieldType} {τ : TS} {pc : Nat} {lv : List (Nat × Value)} {r : List Value} {α : Type} {z : α} {i : Int32} {K : Int32 → Option α} (T : tOK X E cc nL ret) (h : ld (tA τ 1) 1000 i K = some z) (d : decode cc pc = .ok (.iaload, 1)) (kk : ∀ v, K v = some z → kW X τ (pc + 1) lv (.int v :: r)) : kW X τ pc lv (.int i :: .ref (E.2.2.2.2.1 1) :: r) := t_iald (p := 1) T rfl h d kk
theorem ts1 {X : KC TS} {E : TE} {cc : ByteArray} {nL : Nat} {ret : Option FieldType} {τ : TS} {pc : Nat} {lv : List (Nat × Value)} {r : List Value} {α : Type} {z : α} {i x : Int32} {K : TS → Option α} (T : tOK X E cc nL ret) (h : stA τ 1 1000 i x K = some z) (d : decode cc pc = .ok (.iastore, 1)) (kk : ∀ τ', K τ' = some z → kW X τ' (pc + 1) lv r) : kW X τ pc lv (.int x :: .int i :: .ref (E.2.2.2.2.1 1) :: r) := t_iast (p := 1) T rfl (fun _ _ => rfl) h d kk
/-- taped -/
theorem tg2 {X : KC TS} {E : TE} {cc : ByteArray} {nL : Nat} {ret : Option FieldType} {τ : TS} {pc : Nat} {lv : List (Nat × Value)} {r : List Value} (T : tOK X E cc nL ret) (d : decode cc pc = .ok (.getfield 11, 3)) (kk : kW X τ (pc + 3) lv (.int (tI τ 2) :: r)) : kW X τ pc lv (.ref (E.2.2.2.2.1 0) :: r) := t_get (k := 2) T rfl rfl q1670 rfl d kk
theorem tp2 {X : KC TS} {E : TE} {cc : ByteArray} {nL : Nat} {ret : Option FieldType} {τ : TS} {pc : Nat} {lv : List (Nat × Value)} {r : List Value} {α : Type} {z : α} {v : Int32} {K : TS → Option α} (T : tOK X E cc nL ret) (h : nm (sI τ 2 v) K = some z) (d : decode cc pc = .ok (.putfield 11, 3)) (kk : ∀ τ', K τ' = some z → kW X τ' (pc + 3) lv r) : kW X τ pc lv (.int v :: .ref (E.2.2.2.2.1 0) :: r) := t_put (k := 2) (ty := .int) (τ' := sI τ 2 v) T rfl (fun _ => rfl) rfl q1670 rfl rfl (by decide +kernel) rfl rfl d (kk _ h)
/-- size -/
theorem tg3 {X : KC TS} {E : TE} {cc : ByteArray} {nL : Nat} {ret : Option FieldType} {τ : TS} {pc : Nat} {lv : List (Nat × Value)} {r : List Value} (T : tOK X E cc nL ret) (d : decode cc pc = .ok (.getfield 158, 3)) (kk : kW X τ (pc + 3) lv (.int (tI τ 3) :: r)) : kW X τ pc lv (.ref (E.2.2.2.2.1 0) :: r) := t_get (k := 3) T rfl rfl q1671 rfl d kk
theorem tp3 {X : KC TS} {E : TE} {cc : ByteArray} {nL : Nat} {ret : Option FieldType} {τ : TS} {pc : Nat} {lv : List (Nat × Value)} {r : List Value} {α : Type} {z : α} {v : Int32} {K : TS → Option α} (T : tOK X E cc nL ret) (h : nm (sI τ 3 v) K = some z) (d : decode cc pc = .ok (.putfield 158, 3)) (kk : ∀ τ', K τ' = some z → kW X τ' (pc + 3) lv r) : kW X τ pc lv (.int v :: .ref (E.2.2.2.2.1 0) :: r) := t_put (k := 3) (ty := .int) (τ' := sI τ 3 v) T rfl (fun _ => rfl) rfl q1671 rfl rfl (by decide +kernel) rfl rfl d (kk _ h)
/-- sort -/
theorem tg4 {X : KC TS} {E : TE} {cc : ByteArray} {nL : Nat} {ret : Option FieldType} {τ : TS} {pc : Nat} {lv : List (Nat × Value)} {r : List Value} (T : tOK X E cc nL ret) (d : decode cc pc = .ok (.getfield 24, 3)) (kk : kW X τ (pc + 3) lv (.ref (E.2.2.2.2.1 2) :: r)) : kW X τ pc lv (.ref (E.2.2.2.2.1 0) :: r) := t_get (k := 4) T rfl rfl q1672 rfl d kk
theorem ta4 {X : KC TS} {E : TE} {cc : ByteArray} {nL : Nat} {ret : Option FieldType} {τ : TS} {pc : Nat} {lv : List (Nat × Value)} {r : List Value} {α : Type} {z : α} {i : Int32} {K : Int32 → Option α} (T : tOK X E cc nL ret) (h : ld (tA τ 4) 1002 i K = some z) (d : decode cc pc = .ok (.iaload, 1)) (kk : ∀ v, K v = some z → kW X τ (pc + 1) lv (.int v :: r)) : kW X τ pc lv (.int i :: .ref (E.2.2.2.2.1 2) :: r) := t_iald (p := 2) T rfl h d kk
theorem ts4 {X : KC TS} {E : TE} {cc : ByteArray} {nL : Nat} {ret : Option FieldType} {τ : TS} {pc : Nat} {lv : List (Nat × Value)} {r : List Value} {α : Type} {z : α} {i x : Int32} {K : TS → Option α} (T : tOK X E cc nL ret) (h : stA τ 4 1002 i x K = some z) (d : decode cc pc = .ok (.iastore, 1)) (kk : ∀ τ', K τ' = some z → kW X τ' (pc + 1) lv r) : kW X τ pc lv (.int x :: .int i :: .ref (E.2.2.2.2.1 2) :: r) := t_iast (p := 2) T rfl (fun _ _ => rfl) h d kk
/-- place -/
theorem tg5 {X : KC TS} {E : TE} {cc : ByteArray} {nL : Nat} {ret : Option FieldType} {τ : TS} {pc : Nat} {lv : List (Nat × Value)} {r : List Value} (T : tOK X E cc nL ret) (d : decode cc pc = .ok (.getfield 27, 3)) (kk : kW X τ (pc + 3) lv (.ref (E.2.2.2.2.1 3) :: r)) : kW X τ pc lv (.ref (E.2.2.2.2.1 0) :: r) := t_get (k := 5) T rfl rfl q1673 rfl d kk
theorem ta5 {X : KC TS} {E : TE} {cc : ByteArray} {nL : Nat} {ret : Option FieldType} {τ : TS} {pc : Nat} {lv : List (Nat × Value)} {r : List Value} {α : Type} {z : α} {i : Int32} {K : Int32 → Option α} (T : tOK X E cc nL ret) (h : ld (tA τ 5) 1002 i K = some z) (d : decode cc pc = .ok (.iaload, 1)) (kk : ∀ v, K v = some z → kW X τ (pc + 1) lv (.int v :: r)) : kW X τ pc lv (.int i :: .ref (E.2.2.2.2.1 3) :: r) := t_iald (p := 3) T rfl h d kk
theorem ts5 {X : KC TS} {E : TE} {cc : ByteArray} {nL : Nat} {ret : Option FieldType} {τ : TS} {pc : Nat} {lv : List (Nat × Value)} {r : List Value} {α : Type} {z : α} {i x : Int32} {K : TS → Option α} (T : tOK X E cc nL ret) (h : stA τ 5 1002 i x K = some z) (d : decode cc pc = .ok (.iastore, 1)) (kk : ∀ τ', K τ' = some z → kW X τ' (pc + 1) lv r) : kW X τ pc lv (.int x :: .int i :: .ref (E.2.2.2.2.1 3) :: r) := t_iast (p := 3) T rfl (fun _ _ => rfl) h d kk
/-- value -/
theorem tg6 {X : KC TS} {E : TE} {cc : ByteArray} {nL : Nat} {ret : Option FieldType} {τ : TS} {pc : Nat} {lv : List (Nat × Value)} {r : List Value} (T : tOK X E cc nL ret) (d : decode cc pc = .ok (.getfield 30, 3)) (kk : kW X τ (pc + 3) lv (.ref (E.2.2.2.2.1 4) :: r)) : kW X τ pc lv (.ref (E.2.2.2.2.1 0) :: r) := t_get (k := 6) T rfl rfl q1674 rfl d kk
theorem ta6 {X : KC TS} {E : TE} {cc : ByteArray} {nL : Nat} {ret : Option FieldType} {τ : TS} {pc : Nat} {lv : List (Nat × Value)} {r : List Value} {α : Type} {z : α} {i : Int32} {K : Int64 → Option α} (T : tOK X E cc nL ret) (h : ld (tB τ 6) 1002 i K = some z) (d : decode cc pc = .ok (.laload, 1)) (kk : ∀ v, K v = some z → kW X τ (pc + 1) lv (.long v :: r)) : kW X τ pc lv (.int i :: .ref (E.2.2.2.2.1 4) :: r) := t_lald (p := 4) T rfl h d kk
theorem ts6 {X : KC TS} {E : TE} {cc : ByteArray} {nL : Nat} {ret : Option FieldType} {τ : TS} {pc : Nat} {lv : List (Nat × Value)} {r : List Value} {α : Type} {z : α} {i : Int32} {x : Int64} {K : TS → Option α} (T : tOK X E cc nL ret) (h : stB τ 6 1002 i x K = some z) (d : decode cc pc = .ok (.lastore, 1)) (kk : ∀ τ', K τ' = some z → kW X τ' (pc + 1) lv r) : kW X τ pc lv (.long x :: .int i :: .ref (E.2.2.2.2.1 4) :: r) := t_last (p := 4) T rfl (fun _ _ => rfl) h d kk
/-- at -/
theorem tg7 {X : KC TS} {E : TE} {cc : ByteArray} {nL : Nat} {ret : Option FieldType} {τ : TS} {pc : Nat} {lv : List (Nat × Value)} {r : List Value} (T : tOK X E cc nL ret) (d : decode cc pc = .ok (.getfield 177, 3)) (kk : kW X τ (pc + 3) lv (.int (tI τ 7) :: r)) : kW X τ pc lv (.ref (E.2.2.2.2.1 0) :: r) := t_get (k := 7) T rfl rfl q1675 rfl d kk
theorem tp7 {X : KC TS} {E : TE} {cc : ByteArray} {nL : Nat} {ret : Option FieldType} {τ : TS} {pc : Nat} {lv : List (Nat × Value)} {r : List Value} {α : Type} {z : α} {v : Int32} {K : TS → Option α} (T : tOK X E cc nL ret) (h : nm (sI τ 7 v) K = some z) (d : decode cc pc = .ok (.putfield 177, 3)) (kk : ∀ τ', K τ' = some z → kW X τ' (pc + 3) lv r) : kW X τ pc lv (.int v :: .ref (E.2.2.2.2.1 0) :: r) := t_put (k := 7) (ty := .int) (τ' := sI τ 7 v) T rfl (fun _ => rfl) rfl q1675 rfl rfl (by decide +kernel) rfl rfl d (kk _ h)
/-- fault -/
theorem tg8 {X : KC TS} {E : TE} {cc : ByteArray} {nL : Nat} {ret : Option FieldType} {τ : TS} {pc : Nat} {lv : List (Nat × Value)} {r : List Value} (T : tOK X E cc nL ret) (d : decode cc pc = .ok (.getfield 180, 3)) (kk : kW X τ (pc + 3) lv (.int (tI τ 8) :: r)) : kW X τ pc lv (.ref (E.2.2.2.2.1 0) :: r) := t_get (k := 8) T rfl rfl q1676 rfl d kk
theorem tp8 {X : KC TS} {E : TE} {cc : ByteArray} {nL : Nat} {ret : Option FieldType} {τ : TS} {pc : Nat} {lv : List (Nat × Value)} {r : List Value} {α : Type} {z : α} {v : Int32} {K : TS → Option α} (T : tOK X E cc nL ret) (h : nm (sI τ 8 v) K = some z) (d : decode cc pc = .ok (.putfield 180, 3)) (kk : ∀ τ', K τ' = some z → kW X τ' (pc + 3) lv r) : kW X τ pc lv (.int v :: .ref (E.2.2.2.2.1 0) :: r) := t_put (k := 8) (ty := .int) (τ' := sI τ 8 v) T rfl (fun _ => rfl) rfl q1676 rfl rfl (by decide +kernel) rfl rfl d (kk _ h)
/-- words -/
theorem tg9 {X : KC TS} {E : TE} {cc : ByteArray} {nL : Nat} {ret : Option FieldType} {τ : TS} {pc : Nat} {lv : List (Nat × Value)} {r : List Value} (T : tOK X E cc nL ret) (d : decode cc pc = .ok (.getfield 78, 3)) (kk : kW X τ (pc + 3) lv (.ref (E.2.2.2.2.1 5) :: r)) : kW X τ pc lv (.ref (E.2.2.2.2.1 0) :: r) := t_get (k := 9) T rfl rfl q1677 rfl d kk
theorem ta9 {X : KC TS} {E : TE} {cc : ByteArray} {nL : Nat} {ret : Option FieldType} {τ : TS} {pc : Nat} {lv : List (Nat × Value)} {r : List Value} {α : Type} {z : α} {i : Int32} {K : Int64 → Option α} (T : tOK X E cc nL ret) (h : ld (tB τ 9) 22 i K = some z) (d : decode cc pc = .ok (.laload, 1)) (kk : ∀ v, K v = some z → kW X τ (pc + 1) lv (.long v :: r)) : kW X τ pc lv (.int i :: .ref (E.2.2.2.2.1 5) :: r) := t_lald (p := 5) T rfl h d kk
theorem ts9 {X : KC TS} {E : TE} {cc : ByteArray} {nL : Nat} {ret : Option FieldType} {τ : TS} {pc : Nat} {lv : List (Nat × Value)} {r : List Value} {α : Type} {z : α} {i : Int32} {x : Int64} {K : TS → Option α} (T : tOK X E cc nL ret) (h : stB τ 9 22 i x K = some z) (d : decode cc pc = .ok (.lastore, 1)) (kk : ∀ τ', K τ' = some z → kW X τ' (pc + 1) lv r) : kW X τ pc lv (.long x :: .int i :: .ref (E.2.2.2.2.1 5) :: r) := t_last (p := 5) T rfl (fun _ _ => rfl) h d kk
/-- towns -/
theorem tg10 {X : KC TS} {E : TE} {cc : ByteArray} {nL : Nat} {ret : Option FieldType} {τ : TS} {pc : Nat} {lv : List (Nat × Value)} {r : List Value} (T : tOK X E cc nL ret) (d : decode cc pc = .ok (.getfield 81, 3)) (kk : kW X τ (pc + 3) lv (.ref (E.2.2.2.2.1 6) :: r)) : kW X τ pc lv (.ref (E.2.2.2.2.1 0) :: r) := t_get (k := 10) T rfl rfl q1678 rfl d kk
theorem ta10 {X : KC TS} {E : TE} {cc : ByteArray} {nL : Nat} {ret : Option FieldType} {τ : TS} {pc : Nat} {lv : List (Nat × Value)} {r : List Value} {α : Type} {z : α} {i : Int32} {K : Int32 → Option α} (T : tOK X E cc nL ret) (h : ld (tA τ 10) 680 i K = some z) (d : decode cc pc = .ok (.iaload, 1)) (kk : ∀ v, K v = some z → kW X τ (pc + 1) lv (.int v :: r)) : kW X τ pc lv (.int i :: .ref (E.2.2.2.2.1 6) :: r) := t_iald (p := 6) T rfl h d kk
theorem ts10 {X : KC TS} {E : TE} {cc : ByteArray} {nL : Nat} {ret : Option FieldType} {τ : TS} {pc : Nat} {lv : List (Nat × Value)} {r : List Value} {α : Type} {z : α} {i x : Int32} {K : TS → Option α} (T : tOK X E cc nL ret) (h : stA τ 10 680 i x K = some z) (d : decode cc pc = .ok (.iastore, 1)) (kk : ∀ τ', K τ' = some z → kW X τ' (pc + 1) lv r) : kW X τ pc lv (.int x :: .int i :: .ref (E.2.2.2.2.1 6) :: r) := t_iast (p := 6) T rfl (fun _ _ => rfl) h d kk
/-- op -/
theorem tg11 {X : KC TS} {E : TE} {cc : ByteArray} {nL : Nat} {ret : Option FieldType} {τ : TS} {pc : Nat} {lv : List (Nat × Value)} {r : List Value} (T : tOK X E cc nL ret) (d : decode cc pc = .ok (.getfield 84, 3)) (kk : kW X τ (pc + 3) lv (.ref (E.2.2.2.2.1 7) :: r)) : kW X τ pc lv (.ref (E.2.2.2.2.1 0) :: r) := t_get (k := 11) T rfl rfl q1679 rfl d kk
theorem ta11 {X : KC TS} {E : TE} {cc : ByteArray} {nL : Nat} {ret : Option FieldType} {τ : TS} {pc : Nat} {lv : List (Nat × Value)} {r : List Value} {α : Type} {z : α} {i : Int32} {K : Int32 → Option α} (T : tOK X E cc nL ret) (h : ld (tA τ 11) 2200 i K = some z) (d : decode cc pc = .ok (.iaload, 1)) (kk : ∀ v, K v = some z → kW X τ (pc + 1) lv (.int v :: r)) : kW X τ pc lv (.int i :: .ref (E.2.2.2.2.1 7) :: r) := t_iald (p := 7) T rfl h d kk
theorem ts11 {X : KC TS} {E : TE} {cc : ByteArray} {nL : Nat} {ret : Option FieldType} {τ : TS} {pc : Nat} {lv : List (Nat × Value)} {r : List Value} {α : Type} {z : α} {i x : Int32} {K : TS → Option α} (T : tOK X E cc nL ret) (h : stA τ 11 2200 i x K = some z) (d : decode cc pc = .ok (.iastore, 1)) (kk : ∀ τ', K τ' = some z → kW X τ' (pc + 1) lv r) : kW X τ pc lv (.int x :: .int i :: .ref (E.2.2.2.2.1 7) :: r) := t_iast (p := 7) T rfl (fun _ _ => rfl) h d kk
/-- arg -/
theorem tg12 {X : KC TS} {E : TE} {cc : ByteArray} {nL : Nat} {ret : Option FieldType} {τ : TS} {pc : Nat} {lv : List (Nat × Value)} {r : List Value} (T : tOK X E cc nL ret) (d : decode cc pc = .ok (.getfield 87, 3)) (kk : kW X τ (pc + 3) lv (.ref (E.2.2.2.2.1 8) :: r)) : kW X τ pc lv (.ref (E.2.2.2.2.1 0) :: r) := t_get (k := 12) T rfl rfl q1680 rfl d kk
theorem ta12 {X : KC TS} {E : TE} {cc : ByteArray} {nL : Nat} {ret : Option FieldType} {τ : TS} {pc : Nat} {lv : List (Nat × Value)} {r : List Value} {α : Type} {z : α} {i : Int32} {K : Int32 → Option α} (T : tOK X E cc nL ret) (h : ld (tA τ 12) 2200 i K = some z) (d : decode cc pc = .ok (.iaload, 1)) (kk : ∀ v, K v = some z → kW X τ (pc + 1) lv (.int v :: r)) : kW X τ pc lv (.int i :: .ref (E.2.2.2.2.1 8) :: r) := t_iald (p := 8) T rfl h d kk
theorem ts12 {X : KC TS} {E : TE} {cc : ByteArray} {nL : Nat} {ret : Option FieldType} {τ : TS} {pc : Nat} {lv : List (Nat × Value)} {r : List Value} {α : Type} {z : α} {i x : Int32} {K : TS → Option α} (T : tOK X E cc nL ret) (h : stA τ 12 2200 i x K = some z) (d : decode cc pc = .ok (.iastore, 1)) (kk : ∀ τ', K τ' = some z → kW X τ' (pc + 1) lv r) : kW X τ pc lv (.int x :: .int i :: .ref (E.2.2.2.2.1 8) :: r) := t_iast (p := 8) T rfl (fun _ _ => rfl) h d kk
/-- codes -/
theorem tg13 {X : KC TS} {E : TE} {cc : ByteArray} {nL : Nat} {ret : Option FieldType} {τ : TS} {pc : Nat} {lv : List (Nat × Value)} {r : List Value} (T : tOK X E cc nL ret) (d : decode cc pc = .ok (.getfield 208, 3)) (kk : kW X τ (pc + 3) lv (.int (tI τ 13) :: r)) : kW X τ pc lv (.ref (E.2.2.2.2.1 0) :: r) := t_get (k := 13) T rfl rfl q1681 rfl d kk
theorem tp13 {X : KC TS} {E : TE} {cc : ByteArray} {nL : Nat} {ret : Option FieldType} {τ : TS} {pc : Nat} {lv : List (Nat × Value)} {r : List Value} {α : Type} {z : α} {v : Int32} {K : TS → Option α} (T : tOK X E cc nL ret) (h : nm (sI τ 13 v) K = some z) (d : decode cc pc = .ok (.putfield 208, 3)) (kk : ∀ τ', K τ' = some z → kW X τ' (pc + 3) lv r) : kW X τ pc lv (.int v :: .ref (E.2.2.2.2.1 0) :: r) := t_put (k := 13) (ty := .int) (τ' := sI τ 13 v) T rfl (fun _ => rfl) rfl q1681 rfl rfl (by decide +kernel) rfl rfl d (kk _ h)
/-- names -/
theorem tg14 {X : KC TS} {E : TE} {cc : ByteArray} {nL : Nat} {ret : Option FieldType} {τ : TS} {pc : Nat} {lv : List (Nat × Value)} {r : List Value} (T : tOK X E cc nL ret) (d : decode cc pc = .ok (.getfield 90, 3)) (kk : kW X τ (pc + 3) lv (.ref (E.2.2.2.2.1 9) :: r)) : kW X τ pc lv (.ref (E.2.2.2.2.1 0) :: r) := t_get (k := 14) T rfl rfl q1682 rfl d kk
theorem ta14 {X : KC TS} {E : TE} {cc : ByteArray} {nL : Nat} {ret : Option FieldType} {τ : TS} {pc : Nat} {lv : List (Nat × Value)} {r : List Value} {α : Type} {z : α} {i : Int32} {K : Int64 → Option α} (T : tOK X E cc nL ret) (h : ld (tB τ 14) 4 i K = some z) (d : decode cc pc = .ok (.laload, 1)) (kk : ∀ v, K v = some z → kW X τ (pc + 1) lv (.long v :: r)) : kW X τ pc lv (.int i :: .ref (E.2.2.2.2.1 9) :: r) := t_lald (p := 9) T rfl h d kk
theorem ts14 {X : KC TS} {E : TE} {cc : ByteArray} {nL : Nat} {ret : Option FieldType} {τ : TS} {pc : Nat} {lv : List (Nat × Value)} {r : List Value} {α : Type} {z : α} {i : Int32} {x : Int64} {K : TS → Option α} (T : tOK X E cc nL ret) (h : stB τ 14 4 i x K = some z) (d : decode cc pc = .ok (.lastore, 1)) (kk : ∀ τ', K τ' = some z → kW X τ' (pc + 1) lv r) : kW X τ pc lv (.long x :: .int i :: .ref (E.2.2.2.2.1 9) :: r) := t_last (p := 9) T rfl (fun _ _ => rfl) h d kk
/-- told -/
theorem tg15 {X : KC TS} {E : TE} {cc : ByteArray} {nL : Nat} {ret : Option FieldType} {τ : TS} {pc : Nat} {lv : List (Nat × Value)} {r : List Value} (T : tOK X E cc nL ret) (d : decode cc pc = .ok (.getfield 211, 3)) (kk : kW X τ (pc + 3) lv (.int (tI τ 15) :: r)) : kW X τ pc lv (.ref (E.2.2.2.2.1 0) :: r) := t_get (k := 15) T rfl rfl q1683 rfl d kk
theorem tp15 {X : KC TS} {E : TE} {cc : ByteArray} {nL : Nat} {ret : Option FieldType} {τ : TS} {pc : Nat} {lv : List (Nat × Value)} {r : List Value} {α : Type} {z : α} {v : Int32} {K : TS → Option α} (T : tOK X E cc nL ret) (h : nm (sI τ 15 v) K = some z) (d : decode cc pc = .ok (.putfield 211, 3)) (kk : ∀ τ', K τ' = some z → kW X τ' (pc + 3) lv r) : kW X τ pc lv (.int v :: .ref (E.2.2.2.2.1 0) :: r) := t_put (k := 15) (ty := .int) (τ' := sI τ 15 v) T rfl (fun _ => rfl) rfl q1683 rfl rfl (by decide +kernel) rfl rfl d (kk _ h)
/-- walks -/
theorem tg16 {X : KC TS} {E : TE} {cc : ByteArray} {nL : Nat} {ret : Option FieldType} {τ : TS} {pc : Nat} {lv : List (Nat × Value)} {r : List Value} (T : tOK X E cc nL ret) (d : decode cc pc = .ok (.getfield 93, 3)) (kk : kW X τ (pc + 3) lv (.ref (E.2.2.2.2.1 10) :: r)) : kW X τ pc lv (.ref (E.2.2.2.2.1 0) :: r) := t_get (k := 16) T rfl rfl q1684 rfl d kk
theorem ta16 {X : KC TS} {E : TE} {cc : ByteArray} {nL : Nat} {ret : Option FieldType} {τ : TS} {pc : Nat} {lv : List (Nat × Value)} {r : List Value} {α : Type} {z : α} {i : Int32} {K : Int32 → Option α} (T : tOK X E cc nL ret) (h : ld (tA τ 16) 60 i K = some z) (d : decode cc pc = .ok (.iaload, 1)) (kk : ∀ v, K v = some z → kW X τ (pc + 1) lv (.int v :: r)) : kW X τ pc lv (.int i :: .ref (E.2.2.2.2.1 10) :: r) := t_iald (p := 10) T rfl h d kk
theorem ts16 {X : KC TS} {E : TE} {cc : ByteArray} {nL : Nat} {ret : Option FieldType} {τ : TS} {pc : Nat} {lv : List (Nat × Value)} {r : List Value} {α : Type} {z : α} {i x : Int32} {K : TS → Option α} (T : tOK X E cc nL ret) (h : stA τ 16 60 i x K = some z) (d : decode cc pc = .ok (.iastore, 1)) (kk : ∀ τ', K τ' = some z → kW X τ' (pc + 1) lv r) : kW X τ pc lv (.int x :: .int i :: .ref (E.2.2.2.2.1 10) :: r) := t_iast (p := 10) T rfl (fun _ _ => rfl) h d kk
/-- facts -/
theorem tg17 {X : KC TS} {E : TE} {cc : ByteArray} {nL : Nat} {ret : Option FieldType} {τ : TS} {pc : Nat} {lv : List (Nat × Value)} {r : List Value} (T : tOK X E cc nL ret) (d : decode cc pc = .ok (.getfield 96, 3)) (kk : kW X τ (pc + 3) lv (.ref (E.2.2.2.2.1 11) :: r)) : kW X τ pc lv (.ref (E.2.2.2.2.1 0) :: r) := t_get (k := 17) T rfl rfl q1685 rfl d kk
theorem ta17 {X : KC TS} {E : TE} {cc : ByteArray} {nL : Nat} {ret : Option FieldType} {τ : TS} {pc : Nat} {lv : List (Nat × Value)} {r : List Value} {α : Type} {z : α} {i : Int32} {K : Int32 → Option α} (T : tOK X E cc nL ret) (h : ld (tA τ 17) 4 i K = some z) (d : decode cc pc = .ok (.iaload, 1)) (kk : ∀ v, K v = some z → kW X τ (pc + 1) lv (.int v :: r)) : kW X τ pc lv (.int i :: .ref (E.2.2.2.2.1 11) :: r) := t_iald (p := 11) T rfl h d kk
theorem ts17 {X : KC TS} {E : TE} {cc : ByteArray} {nL : Nat} {ret : Option FieldType} {τ : TS} {pc : Nat} {lv : List (Nat × Value)} {r : List Value} {α : Type} {z : α} {i x : Int32} {K : TS → Option α} (T : tOK X E cc nL ret) (h : stA τ 17 4 i x K = some z) (d : decode cc pc = .ok (.iastore, 1)) (kk : ∀ τ', K τ' = some z → kW X τ' (pc + 1) lv r) : kW X τ pc lv (.int x :: .int i :: .ref (E.2.2.2.2.1 11) :: r) := t_iast (p := 11) T rfl (fun _ _ => rfl) h d kk
/-- pile -/
theorem tg18 {X : KC TS} {E : TE} {cc : ByteArray} {nL : Nat} {ret : Option FieldType} {τ : TS} {pc : Nat} {lv : List (Nat × Value)} {r : List Value} (T : tOK X E cc nL ret) (d : decode cc pc = .ok (.getfield 99, 3)) (kk : kW X τ (pc + 3) lv (.ref (E.2.2.2.2.1 12) :: r)) : kW X τ pc lv (.ref (E.2.2.2.2.1 0) :: r) := t_get (k := 18) T rfl rfl q1686 rfl d kk
theorem ta18 {X : KC TS} {E : TE} {cc : ByteArray} {nL : Nat} {ret : Option FieldType} {τ : TS} {pc : Nat} {lv : List (Nat × Value)} {r : List Value} {α : Type} {z : α} {i : Int32} {K : Int32 → Option α} (T : tOK X E cc nL ret) (h : ld (tA τ 18) 1100 i K = some z) (d : decode cc pc = .ok (.iaload, 1)) (kk : ∀ v, K v = some z → kW X τ (pc + 1) lv (.int v :: r)) : kW X τ pc lv (.int i :: .ref (E.2.2.2.2.1 12) :: r) := t_iald (p := 12) T rfl h d kk
theorem ts18 {X : KC TS} {E : TE} {cc : ByteArray} {nL : Nat} {ret : Option FieldType} {τ : TS} {pc : Nat} {lv : List (Nat × Value)} {r : List Value} {α : Type} {z : α} {i x : Int32} {K : TS → Option α} (T : tOK X E cc nL ret) (h : stA τ 18 1100 i x K = some z) (d : decode cc pc = .ok (.iastore, 1)) (kk : ∀ τ', K τ' = some z → kW X τ' (pc + 1) lv r) : kW X τ pc lv (.int x :: .int i :: .ref (E.2.2.2.2.1 12) :: r) := t_iast (p := 12) T rfl (fun _ _ => rfl) h d kk
/-- state -/
theorem tg19 {X : KC TS} {E : TE} {cc : ByteArray} {nL : Nat} {ret : Option FieldType} {τ : TS} {pc : Nat} {lv : List (Nat × Value)} {r : List Value} (T : tOK X E cc nL ret) (d : decode cc pc = .ok (.getfield 102, 3)) (kk : kW X τ (pc + 3) lv (.ref (E.2.2.2.2.1 13) :: r)) : kW X τ pc lv (.ref (E.2.2.2.2.1 0) :: r) := t_get (k := 19) T rfl rfl q1687 rfl d kk
theorem ta19 {X : KC TS} {E : TE} {cc : ByteArray} {nL : Nat} {ret : Option FieldType} {τ : TS} {pc : Nat} {lv : List (Nat × Value)} {r : List Value} {α : Type} {z : α} {i : Int32} {K : Int32 → Option α} (T : tOK X E cc nL ret) (h : ld (tA τ 19) 2520 i K = some z) (d : decode cc pc = .ok (.iaload, 1)) (kk : ∀ v, K v = some z → kW X τ (pc + 1) lv (.int v :: r)) : kW X τ pc lv (.int i :: .ref (E.2.2.2.2.1 13) :: r) := t_iald (p := 13) T rfl h d kk
theorem ts19 {X : KC TS} {E : TE} {cc : ByteArray} {nL : Nat} {ret : Option FieldType} {τ : TS} {pc : Nat} {lv : List (Nat × Value)} {r : List Value} {α : Type} {z : α} {i x : Int32} {K : TS → Option α} (T : tOK X E cc nL ret) (h : stA τ 19 2520 i x K = some z) (d : decode cc pc = .ok (.iastore, 1)) (kk : ∀ τ', K τ' = some z → kW X τ' (pc + 1) lv r) : kW X τ pc lv (.int x :: .int i :: .ref (E.2.2.2.2.1 13) :: r) := t_iast (p := 13) T rfl (fun _ _ => rfl) h d kk
/-- undos -/
theorem tg20 {X : KC TS} {E : TE} {cc : ByteArray} {nL : Nat} {ret : Option FieldType} {τ : TS} {pc : Nat} {lv : List (Nat × Value)} {r : List Value} (T : tOK X E cc nL ret) (d : decode cc pc = .ok (.getfield 319, 3)) (kk : kW X τ (pc + 3) lv (.int (tI τ 20) :: r)) : kW X τ pc lv (.ref (E.2.2.2.2.1 0) :: r) := t_get (k := 20) T rfl rfl q1688 rfl d kk
theorem tp20 {X : KC TS} {E : TE} {cc : ByteArray} {nL : Nat} {ret : Option FieldType} {τ : TS} {pc : Nat} {lv : List (Nat × Value)} {r : List Value} {α : Type} {z : α} {v : Int32} {K : TS → Option α} (T : tOK X E cc nL ret) (h : nm (sI τ 20 v) K = some z) (d : decode cc pc = .ok (.putfield 319, 3)) (kk : ∀ τ', K τ' = some z → kW X τ' (pc + 3) lv r) : kW X τ pc lv (.int v :: .ref (E.2.2.2.2.1 0) :: r) := t_put (k := 20) (ty := .int) (τ' := sI τ 20 v) T rfl (fun _ => rfl) rfl q1688 rfl rfl (by decide +kernel) rfl rfl d (kk _ h)
/-- isMarked -/
theorem tg21 {X : KC TS} {E : TE} {cc : ByteArray} {nL : Nat} {ret : Option FieldType} {τ : TS} {pc : Nat} {lv : List (Nat × Value)} {r : List Value} (T : tOK X E cc nL ret) (d : decode cc pc = .ok (.getfield 105, 3)) (kk : kW X τ (pc + 3) lv (.ref (E.2.2.2.2.1 14) :: r)) : kW X τ pc lv (.ref (E.2.2.2.2.1 0) :: r) := t_get (k := 21) T rfl rfl q1689 rfl d kk
theorem ta21 {X : KC TS} {E : TE} {cc : ByteArray} {nL : Nat} {ret : Option FieldType} {τ : TS} {pc : Nat} {lv : List (Nat × Value)} {r : List Value} {α : Type} {z : α} {i : Int32} {K : Int32 → Option α} (T : tOK X E cc nL ret) (h : ld (tA τ 21) 4 i K = some z) (d : decode cc pc = .ok (.baload, 1)) (kk : ∀ v, K v = some z → kW X τ (pc + 1) lv (.int v :: r)) : kW X τ pc lv (.int i :: .ref (E.2.2.2.2.1 14) :: r) := t_zald (p := 14) T rfl h d kk
theorem ts21 {X : KC TS} {E : TE} {cc : ByteArray} {nL : Nat} {ret : Option FieldType} {τ : TS} {pc : Nat} {lv : List (Nat × Value)} {r : List Value} {α : Type} {z : α} {i x : Int32} {K : TS → Option α} (T : tOK X E cc nL ret) (h : gd (isb x) (stA τ 21 4 i x K) = some z) (d : decode cc pc = .ok (.bastore, 1)) (kk : ∀ τ', K τ' = some z → kW X τ' (pc + 1) lv r) : kW X τ pc lv (.int x :: .int i :: .ref (E.2.2.2.2.1 14) :: r) := t_zast (p := 14) T rfl (fun _ _ => rfl) h d kk
/-- version -/
theorem tg22 {X : KC TS} {E : TE} {cc : ByteArray} {nL : Nat} {ret : Option FieldType} {τ : TS} {pc : Nat} {lv : List (Nat × Value)} {r : List Value} (T : tOK X E cc nL ret) (d : decode cc pc = .ok (.getfield 322, 3)) (kk : kW X τ (pc + 3) lv (.int (tI τ 22) :: r)) : kW X τ pc lv (.ref (E.2.2.2.2.1 0) :: r) := t_get (k := 22) T rfl rfl q1690 rfl d kk
theorem tp22 {X : KC TS} {E : TE} {cc : ByteArray} {nL : Nat} {ret : Option FieldType} {τ : TS} {pc : Nat} {lv : List (Nat × Value)} {r : List Value} {α : Type} {z : α} {v : Int32} {K : TS → Option α} (T : tOK X E cc nL ret) (h : nm (sI τ 22 v) K = some z) (d : decode cc pc = .ok (.putfield 322, 3)) (kk : ∀ τ', K τ' = some z → kW X τ' (pc + 3) lv r) : kW X τ pc lv (.int v :: .ref (E.2.2.2.2.1 0) :: r) := t_put (k := 22) (ty := .int) (τ' := sI τ 22 v) T rfl (fun _ => rfl) rfl q1690 rfl rfl (by decide +kernel) rfl rfl d (kk _ h)
/-- worth -/
theorem tg23 {X : KC TS} {E : TE} {cc : ByteArray} {nL : Nat} {ret : Option FieldType} {τ : TS} {pc : Nat} {lv : List (Nat × Value)} {r : List Value} (T : tOK X E cc nL ret) (d : decode cc pc = .ok (.getfield 110, 3)) (kk : kW X τ (pc + 3) lv (.ref (E.2.2.2.2.1 15) :: r)) : kW X τ pc lv (.ref (E.2.2.2.2.1 0) :: r) := t_get (k := 23) T rfl rfl q1691 rfl d kk
theorem ta23 {X : KC TS} {E : TE} {cc : ByteArray} {nL : Nat} {ret : Option FieldType} {τ : TS} {pc : Nat} {lv : List (Nat × Value)} {r : List Value} {α : Type} {z : α} {i : Int32} {K : Int32 → Option α} (T : tOK X E cc nL ret) (h : ld (tA τ 23) 64800 i K = some z) (d : decode cc pc = .ok (.iaload, 1)) (kk : ∀ v, K v = some z → kW X τ (pc + 1) lv (.int v :: r)) : kW X τ pc lv (.int i :: .ref (E.2.2.2.2.1 15) :: r) := t_iald (p := 15) T rfl h d kk
theorem ts23 {X : KC TS} {E : TE} {cc : ByteArray} {nL : Nat} {ret : Option FieldType} {τ : TS} {pc : Nat} {lv : List (Nat × Value)} {r : List Value} {α : Type} {z : α} {i x : Int32} {K : TS → Option α} (T : tOK X E cc nL ret) (h : stA τ 23 64800 i x K = some z) (d : decode cc pc = .ok (.iastore, 1)) (kk : ∀ τ', K τ' = some z → kW X τ' (pc + 1) lv r) : kW X τ pc lv (.int x :: .int i :: .ref (E.2.2.2.2.1 15) :: r) := t_iast (p := 15) T rfl (fun _ _ => rfl) h d kk
/-- stamp -/
theorem tg24 {X : KC TS} {E : TE} {cc : ByteArray} {nL : Nat} {ret : Option FieldType} {τ : TS} {pc : Nat} {lv : List (Nat × Value)} {r : List Value} (T : tOK X E cc nL ret) (d : decode cc pc = .ok (.getfield 113, 3)) (kk : kW X τ (pc + 3) lv (.ref (E.2.2.2.2.1 16) :: r)) : kW X τ pc lv (.ref (E.2.2.2.2.1 0) :: r) := t_get (k := 24) T rfl rfl q1692 rfl d kk
theorem ta24 {X : KC TS} {E : TE} {cc : ByteArray} {nL : Nat} {ret : Option FieldType} {τ : TS} {pc : Nat} {lv : List (Nat × Value)} {r : List Value} {α : Type} {z : α} {i : Int32} {K : Int32 → Option α} (T : tOK X E cc nL ret) (h : ld (tA τ 24) 64800 i K = some z) (d : decode cc pc = .ok (.iaload, 1)) (kk : ∀ v, K v = some z → kW X τ (pc + 1) lv (.int v :: r)) : kW X τ pc lv (.int i :: .ref (E.2.2.2.2.1 16) :: r) := t_iald (p := 16) T rfl h d kk
theorem ts24 {X : KC TS} {E : TE} {cc : ByteArray} {nL : Nat} {ret : Option FieldType} {τ : TS} {pc : Nat} {lv : List (Nat × Value)} {r : List Value} {α : Type} {z : α} {i x : Int32} {K : TS → Option α} (T : tOK X E cc nL ret) (h : stA τ 24 64800 i x K = some z) (d : decode cc pc = .ok (.iastore, 1)) (kk : ∀ τ', K τ' = some z → kW X τ' (pc + 1) lv r) : kW X τ pc lv (.int x :: .int i :: .ref (E.2.2.2.2.1 16) :: r) := t_iast (p := 16) T rfl (fun _ _ => rfl) h d kk
/-- stamped -/
theorem tg25 {X : KC TS} {E : TE} {cc : ByteArray} {nL : Nat} {ret : Option FieldType} {τ : TS} {pc : Nat} {lv : List (Nat × Value)} {r : List Value} (T : tOK X E cc nL ret) (d : decode cc pc = .ok (.getfield 359, 3)) (kk : kW X τ (pc + 3) lv (.int (tI τ 25) :: r)) : kW X τ pc lv (.ref (E.2.2.2.2.1 0) :: r) := t_get (k := 25) T rfl rfl q1693 rfl d kk
theorem tp25 {X : KC TS} {E : TE} {cc : ByteArray} {nL : Nat} {ret : Option FieldType} {τ : TS} {pc : Nat} {lv : List (Nat × Value)} {r : List Value} {α : Type} {z : α} {v : Int32} {K : TS → Option α} (T : tOK X E cc nL ret) (h : nm (sI τ 25 v) K = some z) (d : decode cc pc = .ok (.putfield 359, 3)) (kk : ∀ τ', K τ' = some z → kW X τ' (pc + 3) lv r) : kW X τ pc lv (.int v :: .ref (E.2.2.2.2.1 0) :: r) := t_put (k := 25) (ty := .int) (τ' := sI τ 25 v) T rfl (fun _ => rfl) rfl q1693 rfl rfl (by decide +kernel) rfl rfl d (kk _ h)
/-- goerKept -/
theorem tg26 {X : KC TS} {E : TE} {cc : ByteArray} {nL : Nat} {ret : Option FieldType} {τ : TS} {pc : Nat} {lv : List (Nat × Value)} {r : List Value} (T : tOK X E cc nL ret) (d : decode cc pc = .ok (.getfield 116, 3)) (kk : kW X τ (pc + 3) lv (.int (tI τ 26) :: r)) : kW X τ pc lv (.ref (E.2.2.2.2.1 0) :: r) := t_get (k := 26) T rfl rfl q1694 rfl d kk
theorem tp26 {X : KC TS} {E : TE} {cc : ByteArray} {nL : Nat} {ret : Option FieldType} {τ : TS} {pc : Nat} {lv : List (Nat × Value)} {r : List Value} {α : Type} {z : α} {v : Int32} {K : TS → Option α} (T : tOK X E cc nL ret) (h : nm (sI τ 26 v) K = some z) (d : decode cc pc = .ok (.putfield 116, 3)) (kk : ∀ τ', K τ' = some z → kW X τ' (pc + 3) lv r) : kW X τ pc lv (.int v :: .ref (E.2.2.2.2.1 0) :: r) := t_put (k := 26) (ty := .int) (τ' := sI τ 26 v) T rfl (fun _ => rfl) rfl q1694 rfl rfl (by decide +kernel) rfl rfl d (kk _ h)
/-- worstKept -/
theorem tg27 {X : KC TS} {E : TE} {cc : ByteArray} {nL : Nat} {ret : Option FieldType} {τ : TS} {pc : Nat} {lv : List (Nat × Value)} {r : List Value} (T : tOK X E cc nL ret) (d : decode cc pc = .ok (.getfield 349, 3)) (kk : kW X τ (pc + 3) lv (.int (tI τ 27) :: r)) : kW X τ pc lv (.ref (E.2.2.2.2.1 0) :: r) := t_get (k := 27) T rfl rfl q1695 rfl d kk
theorem tp27 {X : KC TS} {E : TE} {cc : ByteArray} {nL : Nat} {ret : Option FieldType} {τ : TS} {pc : Nat} {lv : List (Nat × Value)} {r : List Value} {α : Type} {z : α} {v : Int32} {K : TS → Option α} (T : tOK X E cc nL ret) (h : gd (isb v) (nm (sI τ 27 v) K) = some z) (d : decode cc pc = .ok (.putfield 349, 3)) (kk : ∀ τ', K τ' = some z → kW X τ' (pc + 3) lv r) : kW X τ pc lv (.int v :: .ref (E.2.2.2.2.1 0) :: r) := t_put (k := 27) (ty := .boolean) (τ' := sI τ 27 v) T rfl (fun _ => rfl) rfl q1695 rfl rfl (by decide +kernel) (isb_nar (gd_of h).1) (isb_fit (gd_of h).1) d (kk _ (gd_of h).2)
/-- versionKept -/
theorem tg28 {X : KC TS} {E : TE} {cc : ByteArray} {nL : Nat} {ret : Option FieldType} {τ : TS} {pc : Nat} {lv : List (Nat × Value)} {r : List Value} (T : tOK X E cc nL ret) (d : decode cc pc = .ok (.getfield 353, 3)) (kk : kW X τ (pc + 3) lv (.int (tI τ 28) :: r)) : kW X τ pc lv (.ref (E.2.2.2.2.1 0) :: r) := t_get (k := 28) T rfl rfl q1696 rfl d kk
theorem tp28 {X : KC TS} {E : TE} {cc : ByteArray} {nL : Nat} {ret : Option FieldType} {τ : TS} {pc : Nat} {lv : List (Nat × Value)} {r : List Value} {α : Type} {z : α} {v : Int32} {K : TS → Option α} (T : tOK X E cc nL ret) (h : nm (sI τ 28 v) K = some z) (d : decode cc pc = .ok (.putfield 353, 3)) (kk : ∀ τ', K τ' = some z → kW X τ' (pc + 3) lv r) : kW X τ pc lv (.int v :: .ref (E.2.2.2.2.1 0) :: r) := t_put (k := 28) (ty := .int) (τ' := sI τ 28 v) T rfl (fun _ => rfl) rfl q1696 rfl rfl (by decide +kernel) rfl rfl d (kk _ h)
/-- watched -/
theorem tg29 {X : KC TS} {E : TE} {cc : ByteArray} {nL : Nat} {ret : Option FieldType} {τ : TS} {pc : Nat} {lv : List (Nat × Value)} {r : List Value} (T : tOK X E cc nL ret) (d : decode cc pc = .ok (.getfield 119, 3)) (kk : kW X τ (pc + 3) lv (.int (tI τ 29) :: r)) : kW X τ pc lv (.ref (E.2.2.2.2.1 0) :: r) := t_get (k := 29) T rfl rfl q1697 rfl d kk
theorem tp29 {X : KC TS} {E : TE} {cc : ByteArray} {nL : Nat} {ret : Option FieldType} {τ : TS} {pc : Nat} {lv : List (Nat × Value)} {r : List Value} {α : Type} {z : α} {v : Int32} {K : TS → Option α} (T : tOK X E cc nL ret) (h : nm (sI τ 29 v) K = some z) (d : decode cc pc = .ok (.putfield 119, 3)) (kk : ∀ τ', K τ' = some z → kW X τ' (pc + 3) lv r) : kW X τ pc lv (.int v :: .ref (E.2.2.2.2.1 0) :: r) := t_put (k := 29) (ty := .int) (τ' := sI τ 29 v) T rfl (fun _ => rfl) rfl q1697 rfl rfl (by decide +kernel) rfl rfl d (kk _ h)
/-- shift -/
theorem tg30 {X : KC TS} {E : TE} {cc : ByteArray} {nL : Nat} {ret : Option FieldType} {τ : TS} {pc : Nat} {lv : List (Nat × Value)} {r : List Value} (T : tOK X E cc nL ret) (d : decode cc pc = .ok (.getfield 356, 3)) (kk : kW X τ (pc + 3) lv (.int (tI τ 30) :: r)) : kW X τ pc lv (.ref (E.2.2.2.2.1 0) :: r) := t_get (k := 30) T rfl rfl q1698 rfl d kk
theorem tp30 {X : KC TS} {E : TE} {cc : ByteArray} {nL : Nat} {ret : Option FieldType} {τ : TS} {pc : Nat} {lv : List (Nat × Value)} {r : List Value} {α : Type} {z : α} {v : Int32} {K : TS → Option α} (T : tOK X E cc nL ret) (h : nm (sI τ 30 v) K = some z) (d : decode cc pc = .ok (.putfield 356, 3)) (kk : ∀ τ', K τ' = some z → kW X τ' (pc + 3) lv r) : kW X τ pc lv (.int v :: .ref (E.2.2.2.2.1 0) :: r) := t_put (k := 30) (ty := .int) (τ' := sI τ 30 v) T rfl (fun _ => rfl) rfl q1698 rfl rfl (by decide +kernel) rfl rfl d (kk _ h)
/-- chances -/
theorem tg31 {X : KC TS} {E : TE} {cc : ByteArray} {nL : Nat} {ret : Option FieldType} {τ : TS} {pc : Nat} {lv : List (Nat × Value)} {r : List Value} (T : tOK X E cc nL ret) (d : decode cc pc = .ok (.getfield 122, 3)) (kk : kW X τ (pc + 3) lv (.ref (E.2.2.2.2.1 17) :: r)) : kW X τ pc lv (.ref (E.2.2.2.2.1 0) :: r) := t_get (k := 31) T rfl rfl q1699 rfl d kk
theorem ta31 {X : KC TS} {E : TE} {cc : ByteArray} {nL : Nat} {ret : Option FieldType} {τ : TS} {pc : Nat} {lv : List (Nat × Value)} {r : List Value} {α : Type} {z : α} {i : Int32} {K : Int32 → Option α} (T : tOK X E cc nL ret) (h : ld (tA τ 31) 64800 i K = some z) (d : decode cc pc = .ok (.iaload, 1)) (kk : ∀ v, K v = some z → kW X τ (pc + 1) lv (.int v :: r)) : kW X τ pc lv (.int i :: .ref (E.2.2.2.2.1 17) :: r) := t_iald (p := 17) T rfl h d kk
theorem ts31 {X : KC TS} {E : TE} {cc : ByteArray} {nL : Nat} {ret : Option FieldType} {τ : TS} {pc : Nat} {lv : List (Nat × Value)} {r : List Value} {α : Type} {z : α} {i x : Int32} {K : TS → Option α} (T : tOK X E cc nL ret) (h : stA τ 31 64800 i x K = some z) (d : decode cc pc = .ok (.iastore, 1)) (kk : ∀ τ', K τ' = some z → kW X τ' (pc + 1) lv r) : kW X τ pc lv (.int x :: .int i :: .ref (E.2.2.2.2.1 17) :: r) := t_iast (p := 17) T rfl (fun _ _ => rfl) h d kk
/-- chanceStamp -/
theorem tg32 {X : KC TS} {E : TE} {cc : ByteArray} {nL : Nat} {ret : Option FieldType} {τ : TS} {pc : Nat} {lv : List (Nat × Value)} {r : List Value} (T : tOK X E cc nL ret) (d : decode cc pc = .ok (.getfield 125, 3)) (kk : kW X τ (pc + 3) lv (.ref (E.2.2.2.2.1 18) :: r)) : kW X τ pc lv (.ref (E.2.2.2.2.1 0) :: r) := t_get (k := 32) T rfl rfl q1700 rfl d kk
theorem ta32 {X : KC TS} {E : TE} {cc : ByteArray} {nL : Nat} {ret : Option FieldType} {τ : TS} {pc : Nat} {lv : List (Nat × Value)} {r : List Value} {α : Type} {z : α} {i : Int32} {K : Int32 → Option α} (T : tOK X E cc nL ret) (h : ld (tA τ 32) 64800 i K = some z) (d : decode cc pc = .ok (.iaload, 1)) (kk : ∀ v, K v = some z → kW X τ (pc + 1) lv (.int v :: r)) : kW X τ pc lv (.int i :: .ref (E.2.2.2.2.1 18) :: r) := t_iald (p := 18) T rfl h d kk
theorem ts32 {X : KC TS} {E : TE} {cc : ByteArray} {nL : Nat} {ret : Option FieldType} {τ : TS} {pc : Nat} {lv : List (Nat × Value)} {r : List Value} {α : Type} {z : α} {i x : Int32} {K : TS → Option α} (T : tOK X E cc nL ret) (h : stA τ 32 64800 i x K = some z) (d : decode cc pc = .ok (.iastore, 1)) (kk : ∀ τ', K τ' = some z → kW X τ' (pc + 1) lv r) : kW X τ pc lv (.int x :: .int i :: .ref (E.2.2.2.2.1 18) :: r) := t_iast (p := 18) T rfl (fun _ _ => rfl) h d kk
/-- chanceStamped -/
theorem tg33 {X : KC TS} {E : TE} {cc : ByteArray} {nL : Nat} {ret : Option FieldType} {τ : TS} {pc : Nat} {lv : List (Nat × Value)} {r : List Value} (T : tOK X E cc nL ret) (d : decode cc pc = .ok (.getfield 405, 3)) (kk : kW X τ (pc + 3) lv (.int (tI τ 33) :: r)) : kW X τ pc lv (.ref (E.2.2.2.2.1 0) :: r) := t_get (k := 33) T rfl rfl q1701 rfl d kk
theorem tp33 {X : KC TS} {E : TE} {cc : ByteArray} {nL : Nat} {ret : Option FieldType} {τ : TS} {pc : Nat} {lv : List (Nat × Value)} {r : List Value} {α : Type} {z : α} {v : Int32} {K : TS → Option α} (T : tOK X E cc nL ret) (h : nm (sI τ 33 v) K = some z) (d : decode cc pc = .ok (.putfield 405, 3)) (kk : ∀ τ', K τ' = some z → kW X τ' (pc + 3) lv r) : kW X τ pc lv (.int v :: .ref (E.2.2.2.2.1 0) :: r) := t_put (k := 33) (ty := .int) (τ' := sI τ 33 v) T rfl (fun _ => rfl) rfl q1701 rfl rfl (by decide +kernel) rfl rfl d (kk _ h)
/-- leaves -/
theorem tg34 {X : KC TS} {E : TE} {cc : ByteArray} {nL : Nat} {ret : Option FieldType} {τ : TS} {pc : Nat} {lv : List (Nat × Value)} {r : List Value} (T : tOK X E cc nL ret) (d : decode cc pc = .ok (.getfield 399, 3)) (kk : kW X τ (pc + 3) lv (.int (tI τ 34) :: r)) : kW X τ pc lv (.ref (E.2.2.2.2.1 0) :: r) := t_get (k := 34) T rfl rfl q1702 rfl d kk
theorem tp34 {X : KC TS} {E : TE} {cc : ByteArray} {nL : Nat} {ret : Option FieldType} {τ : TS} {pc : Nat} {lv : List (Nat × Value)} {r : List Value} {α : Type} {z : α} {v : Int32} {K : TS → Option α} (T : tOK X E cc nL ret) (h : nm (sI τ 34 v) K = some z) (d : decode cc pc = .ok (.putfield 399, 3)) (kk : ∀ τ', K τ' = some z → kW X τ' (pc + 3) lv r) : kW X τ pc lv (.int v :: .ref (E.2.2.2.2.1 0) :: r) := t_put (k := 34) (ty := .int) (τ' := sI τ 34 v) T rfl (fun _ => rfl) rfl q1702 rfl rfl (by decide +kernel) rfl rfl d (kk _ h)
/-- due -/
theorem tg35 {X : KC TS} {E : TE} {cc : ByteArray} {nL : Nat} {ret : Option FieldType} {τ : TS} {pc : Nat} {lv : List (Nat × Value)} {r : List Value} (T : tOK X E cc nL ret) (d : decode cc pc = .ok (.getfield 402, 3)) (kk : kW X τ (pc + 3) lv (.int (tI τ 35) :: r)) : kW X τ pc lv (.ref (E.2.2.2.2.1 0) :: r) := t_get (k := 35) T rfl rfl q1703 rfl d kk
theorem tp35 {X : KC TS} {E : TE} {cc : ByteArray} {nL : Nat} {ret : Option FieldType} {τ : TS} {pc : Nat} {lv : List (Nat × Value)} {r : List Value} {α : Type} {z : α} {v : Int32} {K : TS → Option α} (T : tOK X E cc nL ret) (h : nm (sI τ 35 v) K = some z) (d : decode cc pc = .ok (.putfield 402, 3)) (kk : ∀ τ', K τ' = some z → kW X τ' (pc + 3) lv r) : kW X τ pc lv (.int v :: .ref (E.2.2.2.2.1 0) :: r) := t_put (k := 35) (ty := .int) (τ' := sI τ 35 v) T rfl (fun _ => rfl) rfl q1703 rfl rfl (by decide +kernel) rfl rfl d (kk _ h)
/-- paces -/
theorem tg36 {X : KC TS} {E : TE} {cc : ByteArray} {nL : Nat} {ret : Option FieldType} {τ : TS} {pc : Nat} {lv : List (Nat × Value)} {r : List Value} (T : tOK X E cc nL ret) (d : decode cc pc = .ok (.getfield 129, 3)) (kk : kW X τ (pc + 3) lv (.ref (E.2.2.2.2.1 19) :: r)) : kW X τ pc lv (.ref (E.2.2.2.2.1 0) :: r) := t_get (k := 36) T rfl rfl q1704 rfl d kk
theorem ta36 {X : KC TS} {E : TE} {cc : ByteArray} {nL : Nat} {ret : Option FieldType} {τ : TS} {pc : Nat} {lv : List (Nat × Value)} {r : List Value} {α : Type} {z : α} {i : Int32} {K : Int32 → Option α} (T : tOK X E cc nL ret) (h : ld (tA τ 36) 156000 i K = some z) (d : decode cc pc = .ok (.iaload, 1)) (kk : ∀ v, K v = some z → kW X τ (pc + 1) lv (.int v :: r)) : kW X τ pc lv (.int i :: .ref (E.2.2.2.2.1 19) :: r) := t_iald (p := 19) T rfl h d kk
theorem ts36 {X : KC TS} {E : TE} {cc : ByteArray} {nL : Nat} {ret : Option FieldType} {τ : TS} {pc : Nat} {lv : List (Nat × Value)} {r : List Value} {α : Type} {z : α} {i x : Int32} {K : TS → Option α} (T : tOK X E cc nL ret) (h : stA τ 36 156000 i x K = some z) (d : decode cc pc = .ok (.iastore, 1)) (kk : ∀ τ', K τ' = some z → kW X τ' (pc + 1) lv r) : kW X τ pc lv (.int x :: .int i :: .ref (E.2.2.2.2.1 19) :: r) := t_iast (p := 19) T rfl (fun _ _ => rfl) h d kk
/-- setsOut -/
theorem tg37 {X : KC TS} {E : TE} {cc : ByteArray} {nL : Nat} {ret : Option FieldType} {τ : TS} {pc : Nat} {lv : List (Nat × Value)} {r : List Value} (T : tOK X E cc nL ret) (d : decode cc pc = .ok (.getfield 426, 3)) (kk : kW X τ (pc + 3) lv (.int (tI τ 37) :: r)) : kW X τ pc lv (.ref (E.2.2.2.2.1 0) :: r) := t_get (k := 37) T rfl rfl q1705 rfl d kk
theorem tp37 {X : KC TS} {E : TE} {cc : ByteArray} {nL : Nat} {ret : Option FieldType} {τ : TS} {pc : Nat} {lv : List (Nat × Value)} {r : List Value} {α : Type} {z : α} {v : Int32} {K : TS → Option α} (T : tOK X E cc nL ret) (h : nm (sI τ 37 v) K = some z) (d : decode cc pc = .ok (.putfield 426, 3)) (kk : ∀ τ', K τ' = some z → kW X τ' (pc + 3) lv r) : kW X τ pc lv (.int v :: .ref (E.2.2.2.2.1 0) :: r) := t_put (k := 37) (ty := .int) (τ' := sI τ 37 v) T rfl (fun _ => rfl) rfl q1705 rfl rfl (by decide +kernel) rfl rfl d (kk _ h)
/-- onward -/
theorem tg38 {X : KC TS} {E : TE} {cc : ByteArray} {nL : Nat} {ret : Option FieldType} {τ : TS} {pc : Nat} {lv : List (Nat × Value)} {r : List Value} (T : tOK X E cc nL ret) (d : decode cc pc = .ok (.getfield 132, 3)) (kk : kW X τ (pc + 3) lv (.ref (E.2.2.2.2.1 20) :: r)) : kW X τ pc lv (.ref (E.2.2.2.2.1 0) :: r) := t_get (k := 38) T rfl rfl q1706 rfl d kk
theorem ta38 {X : KC TS} {E : TE} {cc : ByteArray} {nL : Nat} {ret : Option FieldType} {τ : TS} {pc : Nat} {lv : List (Nat × Value)} {r : List Value} {α : Type} {z : α} {i : Int32} {K : Int64 → Option α} (T : tOK X E cc nL ret) (h : ld (tB τ 38) 240 i K = some z) (d : decode cc pc = .ok (.laload, 1)) (kk : ∀ v, K v = some z → kW X τ (pc + 1) lv (.long v :: r)) : kW X τ pc lv (.int i :: .ref (E.2.2.2.2.1 20) :: r) := t_lald (p := 20) T rfl h d kk
theorem ts38 {X : KC TS} {E : TE} {cc : ByteArray} {nL : Nat} {ret : Option FieldType} {τ : TS} {pc : Nat} {lv : List (Nat × Value)} {r : List Value} {α : Type} {z : α} {i : Int32} {x : Int64} {K : TS → Option α} (T : tOK X E cc nL ret) (h : stB τ 38 240 i x K = some z) (d : decode cc pc = .ok (.lastore, 1)) (kk : ∀ τ', K τ' = some z → kW X τ' (pc + 1) lv r) : kW X τ pc lv (.long x :: .int i :: .ref (E.2.2.2.2.1 20) :: r) := t_last (p := 20) T rfl (fun _ _ => rfl) h d kk
/-- back -/
theorem tg39 {X : KC TS} {E : TE} {cc : ByteArray} {nL : Nat} {ret : Option FieldType} {τ : TS} {pc : Nat} {lv : List (Nat × Value)} {r : List Value} (T : tOK X E cc nL ret) (d : decode cc pc = .ok (.getfield 135, 3)) (kk : kW X τ (pc + 3) lv (.ref (E.2.2.2.2.1 21) :: r)) : kW X τ pc lv (.ref (E.2.2.2.2.1 0) :: r) := t_get (k := 39) T rfl rfl q1707 rfl d kk
theorem ta39 {X : KC TS} {E : TE} {cc : ByteArray} {nL : Nat} {ret : Option FieldType} {τ : TS} {pc : Nat} {lv : List (Nat × Value)} {r : List Value} {α : Type} {z : α} {i : Int32} {K : Int64 → Option α} (T : tOK X E cc nL ret) (h : ld (tB τ 39) 240 i K = some z) (d : decode cc pc = .ok (.laload, 1)) (kk : ∀ v, K v = some z → kW X τ (pc + 1) lv (.long v :: r)) : kW X τ pc lv (.int i :: .ref (E.2.2.2.2.1 21) :: r) := t_lald (p := 21) T rfl h d kk
theorem ts39 {X : KC TS} {E : TE} {cc : ByteArray} {nL : Nat} {ret : Option FieldType} {τ : TS} {pc : Nat} {lv : List (Nat × Value)} {r : List Value} {α : Type} {z : α} {i : Int32} {x : Int64} {K : TS → Option α} (T : tOK X E cc nL ret) (h : stB τ 39 240 i x K = some z) (d : decode cc pc = .ok (.lastore, 1)) (kk : ∀ τ', K τ' = some z → kW X τ' (pc + 1) lv r) : kW X τ pc lv (.long x :: .int i :: .ref (E.2.2.2.2.1 21) :: r) := t_last (p := 21) T rfl (fun _ _ => rfl) h d kk
/-- begins0 -/
theorem tg40 {X : KC TS} {E : TE} {cc : ByteArray} {nL : Nat} {ret : Option FieldType} {τ : TS} {pc : Nat} {lv : List (Nat × Value)} {r : List Value} (T : tOK X E cc nL ret) (d : decode cc pc = .ok (.getfield 138, 3)) (kk : kW X τ (pc + 3) lv (.ref (E.2.2.2.2.1 22) :: r)) : kW X τ pc lv (.ref (E.2.2.2.2.1 0) :: r) := t_get (k := 40) T rfl rfl q1708 rfl d kk
theorem ta40 {X : KC TS} {E : TE} {cc : ByteArray} {nL : Nat} {ret : Option FieldType} {τ : TS} {pc : Nat} {lv : List (Nat × Value)} {r : List Value} {α : Type} {z : α} {i : Int32} {K : Int32 → Option α} (T : tOK X E cc nL ret) (h : ld (tA τ 40) 4 i K = some z) (d : decode cc pc = .ok (.iaload, 1)) (kk : ∀ v, K v = some z → kW X τ (pc + 1) lv (.int v :: r)) : kW X τ pc lv (.int i :: .ref (E.2.2.2.2.1 22) :: r) := t_iald (p := 22) T rfl h d kk
theorem ts40 {X : KC TS} {E : TE} {cc : ByteArray} {nL : Nat} {ret : Option FieldType} {τ : TS} {pc : Nat} {lv : List (Nat × Value)} {r : List Value} {α : Type} {z : α} {i x : Int32} {K : TS → Option α} (T : tOK X E cc nL ret) (h : stA τ 40 4 i x K = some z) (d : decode cc pc = .ok (.iastore, 1)) (kk : ∀ τ', K τ' = some z → kW X τ' (pc + 1) lv r) : kW X τ pc lv (.int x :: .int i :: .ref (E.2.2.2.2.1 22) :: r) := t_iast (p := 22) T rfl (fun _ _ => rfl) h d kk
/-- bestBegins -/
theorem tg41 {X : KC TS} {E : TE} {cc : ByteArray} {nL : Nat} {ret : Option FieldType} {τ : TS} {pc : Nat} {lv : List (Nat × Value)} {r : List Value} (T : tOK X E cc nL ret) (d : decode cc pc = .ok (.getfield 141, 3)) (kk : kW X τ (pc + 3) lv (.ref (E.2.2.2.2.1 23) :: r)) : kW X τ pc lv (.ref (E.2.2.2.2.1 0) :: r) := t_get (k := 41) T rfl rfl q1709 rfl d kk
theorem ta41 {X : KC TS} {E : TE} {cc : ByteArray} {nL : Nat} {ret : Option FieldType} {τ : TS} {pc : Nat} {lv : List (Nat × Value)} {r : List Value} {α : Type} {z : α} {i : Int32} {K : Int32 → Option α} (T : tOK X E cc nL ret) (h : ld (tA τ 41) 4 i K = some z) (d : decode cc pc = .ok (.iaload, 1)) (kk : ∀ v, K v = some z → kW X τ (pc + 1) lv (.int v :: r)) : kW X τ pc lv (.int i :: .ref (E.2.2.2.2.1 23) :: r) := t_iald (p := 23) T rfl h d kk
theorem ts41 {X : KC TS} {E : TE} {cc : ByteArray} {nL : Nat} {ret : Option FieldType} {τ : TS} {pc : Nat} {lv : List (Nat × Value)} {r : List Value} {α : Type} {z : α} {i x : Int32} {K : TS → Option α} (T : tOK X E cc nL ret) (h : stA τ 41 4 i x K = some z) (d : decode cc pc = .ok (.iastore, 1)) (kk : ∀ τ', K τ' = some z → kW X τ' (pc + 1) lv r) : kW X τ pc lv (.int x :: .int i :: .ref (E.2.2.2.2.1 23) :: r) := t_iast (p := 23) T rfl (fun _ _ => rfl) h d kk
/-- bestWave -/
theorem tg42 {X : KC TS} {E : TE} {cc : ByteArray} {nL : Nat} {ret : Option FieldType} {τ : TS} {pc : Nat} {lv : List (Nat × Value)} {r : List Value} (T : tOK X E cc nL ret) (d : decode cc pc = .ok (.getfield 439, 3)) (kk : kW X τ (pc + 3) lv (.int (tI τ 42) :: r)) : kW X τ pc lv (.ref (E.2.2.2.2.1 0) :: r) := t_get (k := 42) T rfl rfl q1710 rfl d kk
theorem tp42 {X : KC TS} {E : TE} {cc : ByteArray} {nL : Nat} {ret : Option FieldType} {τ : TS} {pc : Nat} {lv : List (Nat × Value)} {r : List Value} {α : Type} {z : α} {v : Int32} {K : TS → Option α} (T : tOK X E cc nL ret) (h : nm (sI τ 42 v) K = some z) (d : decode cc pc = .ok (.putfield 439, 3)) (kk : ∀ τ', K τ' = some z → kW X τ' (pc + 3) lv r) : kW X τ pc lv (.int v :: .ref (E.2.2.2.2.1 0) :: r) := t_put (k := 42) (ty := .int) (τ' := sI τ 42 v) T rfl (fun _ => rfl) rfl q1710 rfl rfl (by decide +kernel) rfl rfl d (kk _ h)
/-- fitMany -/
theorem tg43 {X : KC TS} {E : TE} {cc : ByteArray} {nL : Nat} {ret : Option FieldType} {τ : TS} {pc : Nat} {lv : List (Nat × Value)} {r : List Value} (T : tOK X E cc nL ret) (d : decode cc pc = .ok (.getfield 461, 3)) (kk : kW X τ (pc + 3) lv (.long (tL τ 43) :: r)) : kW X τ pc lv (.ref (E.2.2.2.2.1 0) :: r) := t_get (k := 43) T rfl rfl q1711 rfl d kk
theorem tp43 {X : KC TS} {E : TE} {cc : ByteArray} {nL : Nat} {ret : Option FieldType} {τ : TS} {pc : Nat} {lv : List (Nat × Value)} {r : List Value} {α : Type} {z : α} {v : Int64} {K : TS → Option α} (T : tOK X E cc nL ret) (h : nm (sL τ 43 v) K = some z) (d : decode cc pc = .ok (.putfield 461, 3)) (kk : ∀ τ', K τ' = some z → kW X τ' (pc + 3) lv r) : kW X τ pc lv (.long v :: .ref (E.2.2.2.2.1 0) :: r) := t_put (k := 43) (ty := .long) (τ' := sL τ 43 v) T rfl (fun _ => rfl) rfl q1711 rfl rfl (by decide +kernel) rfl rfl d (kk _ h)
/-- fitFirst -/
theorem tg44 {X : KC TS} {E : TE} {cc : ByteArray} {nL : Nat} {ret : Option FieldType} {τ : TS} {pc : Nat} {lv : List (Nat × Value)} {r : List Value} (T : tOK X E cc nL ret) (d : decode cc pc = .ok (.getfield 465, 3)) (kk : kW X τ (pc + 3) lv (.int (tI τ 44) :: r)) : kW X τ pc lv (.ref (E.2.2.2.2.1 0) :: r) := t_get (k := 44) T rfl rfl q1712 rfl d kk
theorem tp44 {X : KC TS} {E : TE} {cc : ByteArray} {nL : Nat} {ret : Option FieldType} {τ : TS} {pc : Nat} {lv : List (Nat × Value)} {r : List Value} {α : Type} {z : α} {v : Int32} {K : TS → Option α} (T : tOK X E cc nL ret) (h : nm (sI τ 44 v) K = some z) (d : decode cc pc = .ok (.putfield 465, 3)) (kk : ∀ τ', K τ' = some z → kW X τ' (pc + 3) lv r) : kW X τ pc lv (.int v :: .ref (E.2.2.2.2.1 0) :: r) := t_put (k := 44) (ty := .int) (τ' := sI τ 44 v) T rfl (fun _ => rfl) rfl q1712 rfl rfl (by decide +kernel) rfl rfl d (kk _ h)
/-- fitCorners -/
theorem tg45 {X : KC TS} {E : TE} {cc : ByteArray} {nL : Nat} {ret : Option FieldType} {τ : TS} {pc : Nat} {lv : List (Nat × Value)} {r : List Value} (T : tOK X E cc nL ret) (d : decode cc pc = .ok (.getfield 468, 3)) (kk : kW X τ (pc + 3) lv (.long (tL τ 45) :: r)) : kW X τ pc lv (.ref (E.2.2.2.2.1 0) :: r) := t_get (k := 45) T rfl rfl q1713 rfl d kk
theorem tp45 {X : KC TS} {E : TE} {cc : ByteArray} {nL : Nat} {ret : Option FieldType} {τ : TS} {pc : Nat} {lv : List (Nat × Value)} {r : List Value} {α : Type} {z : α} {v : Int64} {K : TS → Option α} (T : tOK X E cc nL ret) (h : nm (sL τ 45 v) K = some z) (d : decode cc pc = .ok (.putfield 468, 3)) (kk : ∀ τ', K τ' = some z → kW X τ' (pc + 3) lv r) : kW X τ pc lv (.long v :: .ref (E.2.2.2.2.1 0) :: r) := t_put (k := 45) (ty := .long) (τ' := sL τ 45 v) T rfl (fun _ => rfl) rfl q1713 rfl rfl (by decide +kernel) rfl rfl d (kk _ h)
/-- g -/
theorem tg46 {X : KC TS} {E : TE} {cc : ByteArray} {nL : Nat} {ret : Option FieldType} {τ : TS} {pc : Nat} {lv : List (Nat × Value)} {r : List Value} (T : tOK X E cc nL ret) (d : decode cc pc = .ok (.getfield 471, 3)) (kk : kW X τ (pc + 3) lv (.long (tL τ 46) :: r)) : kW X τ pc lv (.ref (E.2.2.2.2.1 0) :: r) := t_get (k := 46) T rfl rfl q1714 rfl d kk
theorem tp46 {X : KC TS} {E : TE} {cc : ByteArray} {nL : Nat} {ret : Option FieldType} {τ : TS} {pc : Nat} {lv : List (Nat × Value)} {r : List Value} {α : Type} {z : α} {v : Int64} {K : TS → Option α} (T : tOK X E cc nL ret) (h : nm (sL τ 46 v) K = some z) (d : decode cc pc = .ok (.putfield 471, 3)) (kk : ∀ τ', K τ' = some z → kW X τ' (pc + 3) lv r) : kW X τ pc lv (.long v :: .ref (E.2.2.2.2.1 0) :: r) := t_put (k := 46) (ty := .long) (τ' := sL τ 46 v) T rfl (fun _ => rfl) rfl q1714 rfl rfl (by decide +kernel) rfl rfl d (kk _ h)
/-- standsAt -/
theorem tg47 {X : KC TS} {E : TE} {cc : ByteArray} {nL : Nat} {ret : Option FieldType} {τ : TS} {pc : Nat} {lv : List (Nat × Value)} {r : List Value} (T : tOK X E cc nL ret) (d : decode cc pc = .ok (.getfield 144, 3)) (kk : kW X τ (pc + 3) lv (.ref (E.2.2.2.2.1 24) :: r)) : kW X τ pc lv (.ref (E.2.2.2.2.1 0) :: r) := t_get (k := 47) T rfl rfl q1715 rfl d kk
theorem ta47 {X : KC TS} {E : TE} {cc : ByteArray} {nL : Nat} {ret : Option FieldType} {τ : TS} {pc : Nat} {lv : List (Nat × Value)} {r : List Value} {α : Type} {z : α} {i : Int32} {K : Int32 → Option α} (T : tOK X E cc nL ret) (h : ld (tA τ 47) 54 i K = some z) (d : decode cc pc = .ok (.iaload, 1)) (kk : ∀ v, K v = some z → kW X τ (pc + 1) lv (.int v :: r)) : kW X τ pc lv (.int i :: .ref (E.2.2.2.2.1 24) :: r) := t_iald (p := 24) T rfl h d kk
theorem ts47 {X : KC TS} {E : TE} {cc : ByteArray} {nL : Nat} {ret : Option FieldType} {τ : TS} {pc : Nat} {lv : List (Nat × Value)} {r : List Value} {α : Type} {z : α} {i x : Int32} {K : TS → Option α} (T : tOK X E cc nL ret) (h : stA τ 47 54 i x K = some z) (d : decode cc pc = .ok (.iastore, 1)) (kk : ∀ τ', K τ' = some z → kW X τ' (pc + 1) lv r) : kW X τ pc lv (.int x :: .int i :: .ref (E.2.2.2.2.1 24) :: r) := t_iast (p := 24) T rfl (fun _ _ => rfl) h d kk
