/-! THE FRAME OF THE WALKS: one judgement 'kW' (from any heap that holds the pure state), a row an instruction; pure combinators of the decompiled methods -/
set_option maxRecDepth 100000
/-- a name for a computed value -/
def nm {α β : Type} (e : α) (f : α → β) : β := f e
theorem nm_of {α β : Type} {e : α} {f : α → β} {r : β} (h : nm e f = r) : f e = r := h
/-- a guard -/
def gd {α : Type} (b : Bool) (k : Option α) : Option α := match b with
  | true => k
  | false => none
theorem gd_of {α : Type} {b : Bool} {k : Option α} {r : α} (h : gd b k = some r) : b = true ∧ k = some r := by
  cases b with
  | true => exact ⟨rfl, h⟩
  | false => cases h
def inb (i : Int32) (n : Nat) : Bool := decide (0 ≤ i.toInt ∧ i.toInt < n)
theorem inb_in {i : Int32} {n : Nat} (h : inb i n = true) : vp_in i n := vp_in_iff.mpr (of_decide_eq_true h)
def isb (v : Int32) : Bool := decide (v = 0 ∨ v = 1)
theorem isb_nar {v : Int32} (h : isb v = true) : narrow .boolean (.int v) = .int v := by
  rcases of_decide_eq_true h with rfl | rfl <;> rfl
theorem isb_fit {v : Int32} (h : isb v = true) : fits .boolean (.int v) = true := by
  rcases of_decide_eq_true h with rfl | rfl <;> rfl
def rem32 (x y : Int32) : Int32 := x - x / y * y
def rem64 (x y : Int64) : Int64 := x - x / y * y
def shl32 (x y : Int32) : Int32 := x <<< (y &&& 31)
def shr32 (x y : Int32) : Int32 := x >>> (y &&& 31)
def ushr32 (x y : Int32) : Int32 := (x.toUInt32 >>> (y.toUInt32 &&& Int32.toUInt32 31)).toInt32
def shl64 (x : Int64) (y : Int32) : Int64 := x <<< (y.toInt64 &&& 63)
def shr64 (x : Int64) (y : Int32) : Int64 := x >>> (y.toInt64 &&& 63)
def ushr64 (x : Int64) (y : Int32) : Int64 := (x.toUInt64 >>> (y.toInt64.toUInt64 &&& Int64.toUInt64 63)).toInt64
def i2b (x : Int32) : Int32 := x.toInt8.toInt32
def i2c (x : Int32) : Int32 := (x.toUInt32 % 65536).toInt32
def d32 {α : Type} (y : Int32) (k : Option α) : Option α := if y = 0 then none else k
def d64 {α : Type} (y : Int64) (k : Option α) : Option α := if y = 0 then none else k
theorem d32_of {α : Type} {y : Int32} {k : Option α} {r : α} (h : d32 y k = some r) : ¬ y = 0 ∧ k = some r := by
  unfold d32 at h
  by_cases q : y = 0
  · rw [if_pos q] at h; cases h
  · rw [if_neg q] at h; exact ⟨q, h⟩
theorem d64_of {α : Type} {y : Int64} {k : Option α} {r : α} (h : d64 y k = some r) : ¬ y = 0 ∧ k = some r := by
  unfold d64 at h
  by_cases q : y = 0
  · rw [if_pos q] at h; cases h
  · rw [if_neg q] at h; exact ⟨q, h⟩
theorem bd_of {α β : Type} {o : Option α} {f : α → Option β} {r : β} (h : o.bind f = some r) : ∃ a, o = some a ∧ f a = some r := Option.bind_eq_some_iff.mp h
theorem ite_t {α : Type} {c : Prop} [Decidable c] {a b r : α} (hc : c) (h : (if c then a else b) = r) : a = r := by rw [if_pos hc] at h; exact h
theorem ite_f {α : Type} {c : Prop} [Decidable c] {a b r : α} (hc : ¬ c) (h : (if c then a else b) = r) : b = r := by rw [if_neg hc] at h; exact h
/-- the walk's surroundings: the machine's, the relation of the pure state to heap, written places, cells and slots, and the end -/
abbrev KC (S : Type) : Type := (Program × Launch × Env × Room × State) × (MethodId × Array Value × List Frame × Method × Code) × (S → Heap → List Loc → Nat → Nat → Prop) × (State → Prop)
/-- from any heap that holds the pure state, with these locals and operands at pc, the walk comes to its end -/
def kW {S : Type} (X : KC S) (τ : S) (pc : Nat) (lv : List (Nat × Value)) (st : List Value) : Prop :=
  ∀ (H : Heap) (locs : List Loc) (cells slots : Nat) (ls : Array Slot), X.2.2.1 τ H locs cells slots → lv_has ls X.2.1.2.2.2.2.maxLocals lv → W X.1.1 X.1.2.1 X.1.2.2.1 X.1.2.2.2.1 X.1.2.2.2.2 X.2.1.1 X.2.1.2.1 X.2.1.2.2.1 X.2.1.2.2.2.1 X.2.1.2.2.2.2 H locs cells slots X.2.2.2 (F0 X.2.1.1 pc ls st)
/-- the machine runs this code; the frame's class; the tables' words -/
def kOK {S : Type} (X : KC S) (cc : ByteArray) (own : String) (nL : Nat) : Prop := X.1.1.tables.exec = Jvm.exec ∧ X.2.1.2.2.2.2.code = cc ∧ X.1.2.2.2.2.vm.findClass own = some X.2.1.1.cls ∧ X.2.1.2.2.2.2.maxLocals = nL ∧ ∀ w ∈ lw_all, w.before X.2.1.2.1 X.1.2.2.2.2 = true
section KR
variable {S : Type} {X : KC S} {cc : ByteArray} {own : String} {nL : Nat} {τ : S} {pc : Nat} {lv lv' : List (Nat × Value)} {r : List Value} {α : Type} {z : α}
theorem k_iconst {n : Int} {v : Int32} (hX : kOK X cc own nL) (d : decode cc pc = .ok (.iconst n, 1)) (hv : Int32.ofInt n = v) (k : kW X τ (pc + 1) lv (.int v :: r)) : kW X τ pc lv r := fun H q a b ls hR hl => lv_iconst hX.1 hX.2.1 d hv (k H q a b ls hR hl)
theorem k_bipush {n : Int} {v : Int32} (hX : kOK X cc own nL) (d : decode cc pc = .ok (.bipush n, 2)) (hv : (Int8.ofInt n).toInt32 = v) (k : kW X τ (pc + 2) lv (.int v :: r)) : kW X τ pc lv r := fun H q a b ls hR hl => lv_bipush hX.1 hX.2.1 d hv (k H q a b ls hR hl)
theorem k_sipush {n : Int} {v : Int32} (hX : kOK X cc own nL) (d : decode cc pc = .ok (.sipush n, 3)) (hv : (Int16.ofInt n).toInt32 = v) (k : kW X τ (pc + 3) lv (.int v :: r)) : kW X τ pc lv r := fun H q a b ls hR hl => lv_sipush hX.1 hX.2.1 d hv (k H q a b ls hR hl)
theorem k_lconst {n : Fin 2} {v : Int64} (hX : kOK X cc own nL) (d : decode cc pc = .ok (.lconst n, 1)) (hv : Int64.ofNat (n : Nat) = v) (k : kW X τ (pc + 1) lv (.long v :: r)) : kW X τ pc lv r := fun H q a b ls hR hl => lv_lconst hX.1 hX.2.1 d hv (k H q a b ls hR hl)
theorem k_ldc {index : Nat} {v : Int32} (hX : kOK X cc own nL) (hq : Cond.constant own index v ∈ lw_all) (d : decode cc pc = .ok (.ldc index, 2)) (k : kW X τ (pc + 2) lv (.int v :: r)) : kW X τ pc lv r := fun H q a b ls hR hl => lv_ldc hX.1 hX.2.1 hX.2.2.1 (hX.2.2.2.2 _ hq) d (k H q a b ls hR hl)
theorem k_ldcw {index : Nat} {v : Int32} (hX : kOK X cc own nL) (hq : Cond.constant own index v ∈ lw_all) (d : decode cc pc = .ok (.ldc_w index, 3)) (k : kW X τ (pc + 3) lv (.int v :: r)) : kW X τ pc lv r := fun H q a b ls hR hl => lv_ldcw hX.1 hX.2.1 hX.2.2.1 (hX.2.2.2.2 _ hq) d (k H q a b ls hR hl)
theorem k_ldc2 {index : Nat} {v : Int64} (hX : kOK X cc own nL) (hq : Cond.constantLong own index v ∈ lw_all) (d : decode cc pc = .ok (.ldc2_w index, 3)) (k : kW X τ (pc + 3) lv (.long v :: r)) : kW X τ pc lv r := fun H q a b ls hR hl => lv_ldc2 hX.1 hX.2.1 hX.2.2.1 (hX.2.2.2.2 _ hq) d (k H q a b ls hR hl)
theorem k_iload_n {k0 : Fin 4} {i : Nat} {x : Int32} (hX : kOK X cc own nL) (d : decode cc pc = .ok (.iload_n k0, 1)) (hi : (k0 : Nat) = i) (j : Nat) (hl : lv[j]? = some (i, .int x)) (k : kW X τ (pc + 1) lv (.int x :: r)) : kW X τ pc lv r := fun H q a b ls hR h => lv_iload_n hX.1 hX.2.1 d hi (lv_at h j hl) (k H q a b ls hR h)
theorem k_iload {i : Nat} {x : Int32} (hX : kOK X cc own nL) (d : decode cc pc = .ok (.iload i, 2)) (j : Nat) (hl : lv[j]? = some (i, .int x)) (k : kW X τ (pc + 2) lv (.int x :: r)) : kW X τ pc lv r := fun H q a b ls hR h => lv_iload hX.1 hX.2.1 d (lv_at h j hl) (k H q a b ls hR h)
theorem k_lload_n {k0 : Fin 4} {i : Nat} {x : Int64} (hX : kOK X cc own nL) (d : decode cc pc = .ok (.lload_n k0, 1)) (hi : (k0 : Nat) = i) (j : Nat) (hl : lv[j]? = some (i, .long x)) (k : kW X τ (pc + 1) lv (.long x :: r)) : kW X τ pc lv r := fun H q a b ls hR h => lv_lload_n hX.1 hX.2.1 d hi (lv_at h j hl) (k H q a b ls hR h)
theorem k_lload {i : Nat} {x : Int64} (hX : kOK X cc own nL) (d : decode cc pc = .ok (.lload i, 2)) (j : Nat) (hl : lv[j]? = some (i, .long x)) (k : kW X τ (pc + 2) lv (.long x :: r)) : kW X τ pc lv r := fun H q a b ls hR h => lv_lload hX.1 hX.2.1 d (lv_at h j hl) (k H q a b ls hR h)
theorem k_aload_n {k0 : Fin 4} {i : Nat} {x : Nat} (hX : kOK X cc own nL) (d : decode cc pc = .ok (.aload_n k0, 1)) (hi : (k0 : Nat) = i) (j : Nat) (hl : lv[j]? = some (i, .ref x)) (k : kW X τ (pc + 1) lv (.ref x :: r)) : kW X τ pc lv r := fun H q a b ls hR h => lv_aload_n hX.1 hX.2.1 d hi (lv_at h j hl) (k H q a b ls hR h)
theorem k_aload {i : Nat} {x : Nat} (hX : kOK X cc own nL) (d : decode cc pc = .ok (.aload i, 2)) (j : Nat) (hl : lv[j]? = some (i, .ref x)) (k : kW X τ (pc + 2) lv (.ref x :: r)) : kW X τ pc lv r := fun H q a b ls hR h => lv_aload hX.1 hX.2.1 d (lv_at h j hl) (k H q a b ls hR h)
theorem k_istore_n {k0 : Fin 4} {i : Nat} {x : Int32} (lv' : List (Nat × Value)) (hX : kOK X cc own nL) (d : decode cc pc = .ok (.istore_n k0, 1)) (hi : (k0 : Nat) = i) (hn : Nat.blt i nL = true) (hl : (i, Value.int x) :: lv.filter (fun q => !(q.1 == i) && !(q.1 + 1 == i && q.2.category == 2)) = lv') (k : kW X τ (pc + 1) lv' r) : kW X τ pc lv (.int x :: r) := fun H q a b ls hR h => lv_istore_n hX.1 hX.2.1 d hi h (by rw [hX.2.2.2.1]; exact Nat.le_of_ble_eq_true hn) hl (fun ls' h' => k H q a b ls' hR h')
theorem k_istore {i : Nat} {x : Int32} (lv' : List (Nat × Value)) (hX : kOK X cc own nL) (d : decode cc pc = .ok (.istore i, 2)) (hn : Nat.blt i nL = true) (hl : (i, Value.int x) :: lv.filter (fun q => !(q.1 == i) && !(q.1 + 1 == i && q.2.category == 2)) = lv') (k : kW X τ (pc + 2) lv' r) : kW X τ pc lv (.int x :: r) := fun H q a b ls hR h => lv_istore hX.1 hX.2.1 d h (by rw [hX.2.2.2.1]; exact Nat.le_of_ble_eq_true hn) hl (fun ls' h' => k H q a b ls' hR h')
theorem k_lstore_n {k0 : Fin 4} {i : Nat} {x : Int64} (lv' : List (Nat × Value)) (hX : kOK X cc own nL) (d : decode cc pc = .ok (.lstore_n k0, 1)) (hi : (k0 : Nat) = i) (hn : Nat.blt (i + 1) nL = true) (hl : (i, Value.long x) :: lv.filter (fun q => !(q.1 == i) && (!(q.1 == i + 1) && !(q.1 + 1 == i && q.2.category == 2))) = lv') (k : kW X τ (pc + 1) lv' r) : kW X τ pc lv (.long x :: r) := fun H q a b ls hR h => lv_lstore_n hX.1 hX.2.1 d hi h (by rw [hX.2.2.2.1]; exact Nat.le_of_ble_eq_true hn) hl (fun ls' h' => k H q a b ls' hR h')
theorem k_lstore {i : Nat} {x : Int64} (lv' : List (Nat × Value)) (hX : kOK X cc own nL) (d : decode cc pc = .ok (.lstore i, 2)) (hn : Nat.blt (i + 1) nL = true) (hl : (i, Value.long x) :: lv.filter (fun q => !(q.1 == i) && (!(q.1 == i + 1) && !(q.1 + 1 == i && q.2.category == 2))) = lv') (k : kW X τ (pc + 2) lv' r) : kW X τ pc lv (.long x :: r) := fun H q a b ls hR h => lv_lstore hX.1 hX.2.1 d h (by rw [hX.2.2.2.1]; exact Nat.le_of_ble_eq_true hn) hl (fun ls' h' => k H q a b ls' hR h')
theorem k_astore_n {k0 : Fin 4} {i : Nat} {x : Nat} (lv' : List (Nat × Value)) (hX : kOK X cc own nL) (d : decode cc pc = .ok (.astore_n k0, 1)) (hi : (k0 : Nat) = i) (hn : Nat.blt i nL = true) (hl : (i, Value.ref x) :: lv.filter (fun q => !(q.1 == i) && !(q.1 + 1 == i && q.2.category == 2)) = lv') (k : kW X τ (pc + 1) lv' r) : kW X τ pc lv (.ref x :: r) := fun H q a b ls hR h => lv_astore_n hX.1 hX.2.1 d hi h (by rw [hX.2.2.2.1]; exact Nat.le_of_ble_eq_true hn) hl (fun ls' h' => k H q a b ls' hR h')
theorem k_astore {i : Nat} {x : Nat} (lv' : List (Nat × Value)) (hX : kOK X cc own nL) (d : decode cc pc = .ok (.astore i, 2)) (hn : Nat.blt i nL = true) (hl : (i, Value.ref x) :: lv.filter (fun q => !(q.1 == i) && !(q.1 + 1 == i && q.2.category == 2)) = lv') (k : kW X τ (pc + 2) lv' r) : kW X τ pc lv (.ref x :: r) := fun H q a b ls hR h => lv_astore hX.1 hX.2.1 d h (by rw [hX.2.2.2.1]; exact Nat.le_of_ble_eq_true hn) hl (fun ls' h' => k H q a b ls' hR h')
theorem k_iinc {i j : Nat} {n : Int} {x v : Int32} (lv' : List (Nat × Value)) (hX : kOK X cc own nL) (d : decode cc pc = .ok (.iinc i n, 3)) (hk : lv[j]? = some (i, .int x)) (hv : x + Int32.ofInt n = v) (hn : Nat.blt i nL = true) (hl : (i, Value.int v) :: lv.filter (fun q => !(q.1 == i) && !(q.1 + 1 == i && q.2.category == 2)) = lv') (k : kW X τ (pc + 3) lv' r) : kW X τ pc lv r := fun H q a b ls hR h => lv_iinc hX.1 hX.2.1 d h hk hv (by rw [hX.2.2.2.1]; exact Nat.le_of_ble_eq_true hn) hl (fun ls' h' => k H q a b ls' hR h')
/-- the locals in another order, fewer of them -/
theorem k_lv (ks : List Nat) (hl : lv_pick lv ks = lv') (k : kW X τ pc lv' r) : kW X τ pc lv r := fun H q a b ls hR h => k H q a b ls hR (lv_sub h ks hl)
theorem k_topi {x y : Int32} (e : y = x) (k : kW X τ pc lv (.int y :: r)) : kW X τ pc lv (.int x :: r) := e ▸ k
theorem k_topl {x y : Int64} (e : y = x) (k : kW X τ pc lv (.long y :: r)) : kW X τ pc lv (.long x :: r) := e ▸ k
theorem k_dup {v : Value} (hX : kOK X cc own nL) (d : decode cc pc = .ok (.dup, 1)) (hc : v.category = 1) (k : kW X τ (pc + 1) lv (v :: v :: r)) : kW X τ pc lv (v :: r) := fun H q a b ls hR hl => lv_dup hX.1 hX.2.1 d hc (k H q a b ls hR hl)
theorem k_pop {v : Value} (hX : kOK X cc own nL) (d : decode cc pc = .ok (.pop, 1)) (hc : v.category = 1) (k : kW X τ (pc + 1) lv r) : kW X τ pc lv (v :: r) := fun H q a b ls hR hl => lv_pop hX.1 hX.2.1 d hc (k H q a b ls hR hl)
theorem k_dup_x1 {v w : Value} (hX : kOK X cc own nL) (d : decode cc pc = .ok (.dup_x1, 1)) (hc : v.category = 1) (hd : w.category = 1) (k : kW X τ (pc + 1) lv (v :: w :: v :: r)) : kW X τ pc lv (v :: w :: r) := fun H q a b ls hR hl => lv_dup_x1 hX.1 hX.2.1 d hc hd (k H q a b ls hR hl)
theorem k_dup2 {v w : Value} (hX : kOK X cc own nL) (d : decode cc pc = .ok (.dup2, 1)) (hc : v.category = 1) (hd : w.category = 1) (k : kW X τ (pc + 1) lv (v :: w :: v :: w :: r)) : kW X τ pc lv (v :: w :: r) := fun H q a b ls hR hl => lv_dup2_11 hX.1 hX.2.1 d hc hd (k H q a b ls hR hl)
theorem k_dup2l {v : Value} (hX : kOK X cc own nL) (d : decode cc pc = .ok (.dup2, 1)) (hc : v.category = 2) (k : kW X τ (pc + 1) lv (v :: v :: r)) : kW X τ pc lv (v :: r) := fun H q a b ls hR hl => lv_dup2_2 hX.1 hX.2.1 d hc (k H q a b ls hR hl)
theorem k_dup2_x1l {v w : Value} (hX : kOK X cc own nL) (d : decode cc pc = .ok (.dup2_x1, 1)) (hc : v.category = 2) (hd : w.category = 1) (k : kW X τ (pc + 1) lv (v :: w :: v :: r)) : kW X τ pc lv (v :: w :: r) := fun H q a b ls hR hl => lv_dup2_x1_2 hX.1 hX.2.1 d hc hd (k H q a b ls hR hl)
theorem k_goto {off : Int} {tgt : Nat} (hX : kOK X cc own nL) (d : decode cc pc = .ok (.goto off, 3)) (ht : (pc : Int) + off = (tgt : Int)) (k : kW X τ tgt lv r) : kW X τ pc lv r := fun H q a b ls hR hl => lv_goto hX.1 hX.2.1 d ht (k H q a b ls hR hl)
theorem k_iadd {x y : Int32} (hX : kOK X cc own nL) (d : decode cc pc = .ok (.iadd, 1)) (k : kW X τ (pc + 1) lv (.int (x + y) :: r)) : kW X τ pc lv (.int y :: .int x :: r) := fun H q a b ls hR hl => lv_iadd hX.1 hX.2.1 d (k H q a b ls hR hl)
theorem k_isub {x y : Int32} (hX : kOK X cc own nL) (d : decode cc pc = .ok (.isub, 1)) (k : kW X τ (pc + 1) lv (.int (x - y) :: r)) : kW X τ pc lv (.int y :: .int x :: r) := fun H q a b ls hR hl => lv_isub hX.1 hX.2.1 d (k H q a b ls hR hl)
theorem k_imul {x y : Int32} (hX : kOK X cc own nL) (d : decode cc pc = .ok (.imul, 1)) (k : kW X τ (pc + 1) lv (.int (x * y) :: r)) : kW X τ pc lv (.int y :: .int x :: r) := fun H q a b ls hR hl => lv_imul hX.1 hX.2.1 d (k H q a b ls hR hl)
theorem k_iand {x y : Int32} (hX : kOK X cc own nL) (d : decode cc pc = .ok (.iand, 1)) (k : kW X τ (pc + 1) lv (.int (x &&& y) :: r)) : kW X τ pc lv (.int y :: .int x :: r) := fun H q a b ls hR hl => lv_iand hX.1 hX.2.1 d (k H q a b ls hR hl)
theorem k_ior {x y : Int32} (hX : kOK X cc own nL) (d : decode cc pc = .ok (.ior, 1)) (k : kW X τ (pc + 1) lv (.int (x ||| y) :: r)) : kW X τ pc lv (.int y :: .int x :: r) := fun H q a b ls hR hl => lv_ior hX.1 hX.2.1 d (k H q a b ls hR hl)
theorem k_ixor {x y : Int32} (hX : kOK X cc own nL) (d : decode cc pc = .ok (.ixor, 1)) (k : kW X τ (pc + 1) lv (.int (x ^^^ y) :: r)) : kW X τ pc lv (.int y :: .int x :: r) := fun H q a b ls hR hl => lv_ixor hX.1 hX.2.1 d (k H q a b ls hR hl)
theorem k_ishl {x y : Int32} (hX : kOK X cc own nL) (d : decode cc pc = .ok (.ishl, 1)) (k : kW X τ (pc + 1) lv (.int (shl32 x y) :: r)) : kW X τ pc lv (.int y :: .int x :: r) := fun H q a b ls hR hl => lv_ishl hX.1 hX.2.1 d (k H q a b ls hR hl)
theorem k_ishr {x y : Int32} (hX : kOK X cc own nL) (d : decode cc pc = .ok (.ishr, 1)) (k : kW X τ (pc + 1) lv (.int (shr32 x y) :: r)) : kW X τ pc lv (.int y :: .int x :: r) := fun H q a b ls hR hl => lv_ishr hX.1 hX.2.1 d (k H q a b ls hR hl)
theorem k_iushr {x y : Int32} (hX : kOK X cc own nL) (d : decode cc pc = .ok (.iushr, 1)) (k : kW X τ (pc + 1) lv (.int (ushr32 x y) :: r)) : kW X τ pc lv (.int y :: .int x :: r) := fun H q a b ls hR hl => lv_iushr hX.1 hX.2.1 d rfl (k H q a b ls hR hl)
theorem k_idiv {x y : Int32} {K : Option α} (hX : kOK X cc own nL) (h : d32 y K = some z) (d : decode cc pc = .ok (.idiv, 1)) (k : K = some z → kW X τ (pc + 1) lv (.int (x / y) :: r)) : kW X τ pc lv (.int y :: .int x :: r) := fun H q a b ls hR hl => lv_idiv hX.1 hX.2.1 d (d32_of h).1 (k (d32_of h).2 H q a b ls hR hl)
theorem k_idivc {x y : Int32} (hX : kOK X cc own nL) (h : ¬ y = 0) (d : decode cc pc = .ok (.idiv, 1)) (k : kW X τ (pc + 1) lv (.int (x / y) :: r)) : kW X τ pc lv (.int y :: .int x :: r) := fun H q a b ls hR hl => lv_idiv hX.1 hX.2.1 d h (k H q a b ls hR hl)
theorem k_irem {x y : Int32} {K : Option α} (hX : kOK X cc own nL) (h : d32 y K = some z) (d : decode cc pc = .ok (.irem, 1)) (k : K = some z → kW X τ (pc + 1) lv (.int (rem32 x y) :: r)) : kW X τ pc lv (.int y :: .int x :: r) := fun H q a b ls hR hl => lv_irem hX.1 hX.2.1 d (d32_of h).1 (k (d32_of h).2 H q a b ls hR hl)
theorem k_iremc {x y : Int32} (hX : kOK X cc own nL) (h : ¬ y = 0) (d : decode cc pc = .ok (.irem, 1)) (k : kW X τ (pc + 1) lv (.int (rem32 x y) :: r)) : kW X τ pc lv (.int y :: .int x :: r) := fun H q a b ls hR hl => lv_irem hX.1 hX.2.1 d h (k H q a b ls hR hl)
theorem k_ladd {x y : Int64} (hX : kOK X cc own nL) (d : decode cc pc = .ok (.ladd, 1)) (k : kW X τ (pc + 1) lv (.long (x + y) :: r)) : kW X τ pc lv (.long y :: .long x :: r) := fun H q a b ls hR hl => lv_ladd hX.1 hX.2.1 d (k H q a b ls hR hl)
theorem k_lsub {x y : Int64} (hX : kOK X cc own nL) (d : decode cc pc = .ok (.lsub, 1)) (k : kW X τ (pc + 1) lv (.long (x - y) :: r)) : kW X τ pc lv (.long y :: .long x :: r) := fun H q a b ls hR hl => lv_lsub hX.1 hX.2.1 d (k H q a b ls hR hl)
theorem k_lmul {x y : Int64} (hX : kOK X cc own nL) (d : decode cc pc = .ok (.lmul, 1)) (k : kW X τ (pc + 1) lv (.long (x * y) :: r)) : kW X τ pc lv (.long y :: .long x :: r) := fun H q a b ls hR hl => lv_lmul hX.1 hX.2.1 d (k H q a b ls hR hl)
theorem k_land {x y : Int64} (hX : kOK X cc own nL) (d : decode cc pc = .ok (.land, 1)) (k : kW X τ (pc + 1) lv (.long (x &&& y) :: r)) : kW X τ pc lv (.long y :: .long x :: r) := fun H q a b ls hR hl => lv_land hX.1 hX.2.1 d (k H q a b ls hR hl)
theorem k_lor {x y : Int64} (hX : kOK X cc own nL) (d : decode cc pc = .ok (.lor, 1)) (k : kW X τ (pc + 1) lv (.long (x ||| y) :: r)) : kW X τ pc lv (.long y :: .long x :: r) := fun H q a b ls hR hl => lv_lor hX.1 hX.2.1 d (k H q a b ls hR hl)
theorem k_lxor {x y : Int64} (hX : kOK X cc own nL) (d : decode cc pc = .ok (.lxor, 1)) (k : kW X τ (pc + 1) lv (.long (x ^^^ y) :: r)) : kW X τ pc lv (.long y :: .long x :: r) := fun H q a b ls hR hl => lv_lxor hX.1 hX.2.1 d (k H q a b ls hR hl)
theorem k_ldiv {x y : Int64} {K : Option α} (hX : kOK X cc own nL) (h : d64 y K = some z) (d : decode cc pc = .ok (.ldiv, 1)) (k : K = some z → kW X τ (pc + 1) lv (.long (x / y) :: r)) : kW X τ pc lv (.long y :: .long x :: r) := fun H q a b ls hR hl => lv_ldiv hX.1 hX.2.1 d (d64_of h).1 (k (d64_of h).2 H q a b ls hR hl)
theorem k_ldivc {x y : Int64} (hX : kOK X cc own nL) (h : ¬ y = 0) (d : decode cc pc = .ok (.ldiv, 1)) (k : kW X τ (pc + 1) lv (.long (x / y) :: r)) : kW X τ pc lv (.long y :: .long x :: r) := fun H q a b ls hR hl => lv_ldiv hX.1 hX.2.1 d h (k H q a b ls hR hl)
theorem k_lrem {x y : Int64} {K : Option α} (hX : kOK X cc own nL) (h : d64 y K = some z) (d : decode cc pc = .ok (.lrem, 1)) (k : K = some z → kW X τ (pc + 1) lv (.long (rem64 x y) :: r)) : kW X τ pc lv (.long y :: .long x :: r) := fun H q a b ls hR hl => lv_lrem hX.1 hX.2.1 d (d64_of h).1 (k (d64_of h).2 H q a b ls hR hl)
theorem k_lremc {x y : Int64} (hX : kOK X cc own nL) (h : ¬ y = 0) (d : decode cc pc = .ok (.lrem, 1)) (k : kW X τ (pc + 1) lv (.long (rem64 x y) :: r)) : kW X τ pc lv (.long y :: .long x :: r) := fun H q a b ls hR hl => lv_lrem hX.1 hX.2.1 d h (k H q a b ls hR hl)
theorem k_lshl {x : Int64} {y : Int32} (hX : kOK X cc own nL) (d : decode cc pc = .ok (.lshl, 1)) (k : kW X τ (pc + 1) lv (.long (shl64 x y) :: r)) : kW X τ pc lv (.int y :: .long x :: r) := fun H q a b ls hR hl => lv_lshl hX.1 hX.2.1 d rfl (k H q a b ls hR hl)
theorem k_lshr {x : Int64} {y : Int32} (hX : kOK X cc own nL) (d : decode cc pc = .ok (.lshr, 1)) (k : kW X τ (pc + 1) lv (.long (shr64 x y) :: r)) : kW X τ pc lv (.int y :: .long x :: r) := fun H q a b ls hR hl => lv_lshr hX.1 hX.2.1 d rfl (k H q a b ls hR hl)
theorem k_lushr {x : Int64} {y : Int32} (hX : kOK X cc own nL) (d : decode cc pc = .ok (.lushr, 1)) (k : kW X τ (pc + 1) lv (.long (ushr64 x y) :: r)) : kW X τ pc lv (.int y :: .long x :: r) := fun H q a b ls hR hl => lv_lushr hX.1 hX.2.1 d rfl (k H q a b ls hR hl)
theorem k_i2l {x : Int32} (hX : kOK X cc own nL) (d : decode cc pc = .ok (.i2l, 1)) (k : kW X τ (pc + 1) lv (.long (x.toInt64) :: r)) : kW X τ pc lv (.int x :: r) := fun H q a b ls hR hl => lv_i2l hX.1 hX.2.1 d rfl (k H q a b ls hR hl)
theorem k_l2i {x : Int64} (hX : kOK X cc own nL) (d : decode cc pc = .ok (.l2i, 1)) (k : kW X τ (pc + 1) lv (.int (x.toInt32) :: r)) : kW X τ pc lv (.long x :: r) := fun H q a b ls hR hl => lv_l2i hX.1 hX.2.1 d rfl (k H q a b ls hR hl)
theorem k_i2b {x : Int32} (hX : kOK X cc own nL) (d : decode cc pc = .ok (.i2b, 1)) (k : kW X τ (pc + 1) lv (.int (i2b x) :: r)) : kW X τ pc lv (.int x :: r) := fun H q a b ls hR hl => lv_i2b hX.1 hX.2.1 d rfl (k H q a b ls hR hl)
theorem k_i2c {x : Int32} (hX : kOK X cc own nL) (d : decode cc pc = .ok (.i2c, 1)) (k : kW X τ (pc + 1) lv (.int (i2c x) :: r)) : kW X τ pc lv (.int x :: r) := fun H q a b ls hR hl => lv_i2c hX.1 hX.2.1 d rfl (k H q a b ls hR hl)
theorem k_ineg {x : Int32} (hX : kOK X cc own nL) (d : decode cc pc = .ok (.ineg, 1)) (k : kW X τ (pc + 1) lv (.int (-x) :: r)) : kW X τ pc lv (.int x :: r) := fun H q a b ls hR hl => lv_ineg hX.1 hX.2.1 d (k H q a b ls hR hl)
theorem k_lneg {x : Int64} (hX : kOK X cc own nL) (d : decode cc pc = .ok (.lneg, 1)) (k : kW X τ (pc + 1) lv (.long (-x) :: r)) : kW X τ pc lv (.long x :: r) := fun H q a b ls hR hl => lv_lneg hX.1 hX.2.1 d (k H q a b ls hR hl)
theorem k_if_eq {x : Int32} {off : Int} {tgt : Nat} {A B : Option α} (hX : kOK X cc own nL) (h : (if x = 0 then A else B) = some z) (d : decode cc pc = .ok (.ifCond .eq off, 3)) (ht : (pc : Int) + off = (tgt : Int)) (kt : A = some z → kW X τ tgt lv r) (kf : B = some z → kW X τ (pc + 3) lv r) : kW X τ pc lv (.int x :: r) := fun H q a b ls hR hl => lv_if_eq hX.1 hX.2.1 d ht (fun c => kt (ite_t c h) H q a b ls hR hl) (fun c => kf (ite_f c h) H q a b ls hR hl)
theorem k_if_ne {x : Int32} {off : Int} {tgt : Nat} {A B : Option α} (hX : kOK X cc own nL) (h : (if x = 0 then A else B) = some z) (d : decode cc pc = .ok (.ifCond .ne off, 3)) (ht : (pc : Int) + off = (tgt : Int)) (kt : B = some z → kW X τ tgt lv r) (kf : A = some z → kW X τ (pc + 3) lv r) : kW X τ pc lv (.int x :: r) := fun H q a b ls hR hl => lv_if_ne hX.1 hX.2.1 d ht (fun c => kt (ite_f c h) H q a b ls hR hl) (fun c => kf (ite_t c h) H q a b ls hR hl)
theorem k_if_lt {x : Int32} {off : Int} {tgt : Nat} {A B : Option α} (hX : kOK X cc own nL) (h : (if x < 0 then A else B) = some z) (d : decode cc pc = .ok (.ifCond .lt off, 3)) (ht : (pc : Int) + off = (tgt : Int)) (kt : A = some z → kW X τ tgt lv r) (kf : B = some z → kW X τ (pc + 3) lv r) : kW X τ pc lv (.int x :: r) := fun H q a b ls hR hl => lv_if_lt hX.1 hX.2.1 d ht (fun c => kt (ite_t c h) H q a b ls hR hl) (fun c => kf (ite_f c h) H q a b ls hR hl)
theorem k_if_ge {x : Int32} {off : Int} {tgt : Nat} {A B : Option α} (hX : kOK X cc own nL) (h : (if 0 ≤ x then A else B) = some z) (d : decode cc pc = .ok (.ifCond .ge off, 3)) (ht : (pc : Int) + off = (tgt : Int)) (kt : A = some z → kW X τ tgt lv r) (kf : B = some z → kW X τ (pc + 3) lv r) : kW X τ pc lv (.int x :: r) := fun H q a b ls hR hl => lv_if_ge hX.1 hX.2.1 d ht (fun c => kt (ite_t c h) H q a b ls hR hl) (fun c => kf (ite_f c h) H q a b ls hR hl)
theorem k_if_gt {x : Int32} {off : Int} {tgt : Nat} {A B : Option α} (hX : kOK X cc own nL) (h : (if 0 < x then A else B) = some z) (d : decode cc pc = .ok (.ifCond .gt off, 3)) (ht : (pc : Int) + off = (tgt : Int)) (kt : A = some z → kW X τ tgt lv r) (kf : B = some z → kW X τ (pc + 3) lv r) : kW X τ pc lv (.int x :: r) := fun H q a b ls hR hl => lv_if_gt hX.1 hX.2.1 d ht (fun c => kt (ite_t c h) H q a b ls hR hl) (fun c => kf (ite_f c h) H q a b ls hR hl)
theorem k_if_le {x : Int32} {off : Int} {tgt : Nat} {A B : Option α} (hX : kOK X cc own nL) (h : (if x ≤ 0 then A else B) = some z) (d : decode cc pc = .ok (.ifCond .le off, 3)) (ht : (pc : Int) + off = (tgt : Int)) (kt : A = some z → kW X τ tgt lv r) (kf : B = some z → kW X τ (pc + 3) lv r) : kW X τ pc lv (.int x :: r) := fun H q a b ls hR hl => lv_if_le hX.1 hX.2.1 d ht (fun c => kt (ite_t c h) H q a b ls hR hl) (fun c => kf (ite_f c h) H q a b ls hR hl)
theorem k_icmp_eq {x y : Int32} {off : Int} {tgt : Nat} {A B : Option α} (hX : kOK X cc own nL) (h : (if x = y then A else B) = some z) (d : decode cc pc = .ok (.if_icmp .eq off, 3)) (ht : (pc : Int) + off = (tgt : Int)) (kt : A = some z → kW X τ tgt lv r) (kf : B = some z → kW X τ (pc + 3) lv r) : kW X τ pc lv (.int y :: .int x :: r) := fun H q a b ls hR hl => lv_icmp_eq hX.1 hX.2.1 d ht (fun c => kt (ite_t c h) H q a b ls hR hl) (fun c => kf (ite_f c h) H q a b ls hR hl)
theorem k_icmp_ne {x y : Int32} {off : Int} {tgt : Nat} {A B : Option α} (hX : kOK X cc own nL) (h : (if x = y then A else B) = some z) (d : decode cc pc = .ok (.if_icmp .ne off, 3)) (ht : (pc : Int) + off = (tgt : Int)) (kt : B = some z → kW X τ tgt lv r) (kf : A = some z → kW X τ (pc + 3) lv r) : kW X τ pc lv (.int y :: .int x :: r) := fun H q a b ls hR hl => lv_icmp_ne hX.1 hX.2.1 d ht (fun c => kt (ite_f c h) H q a b ls hR hl) (fun c => kf (ite_t c h) H q a b ls hR hl)
theorem k_icmp_lt {x y : Int32} {off : Int} {tgt : Nat} {A B : Option α} (hX : kOK X cc own nL) (h : (if x < y then A else B) = some z) (d : decode cc pc = .ok (.if_icmp .lt off, 3)) (ht : (pc : Int) + off = (tgt : Int)) (kt : A = some z → kW X τ tgt lv r) (kf : B = some z → kW X τ (pc + 3) lv r) : kW X τ pc lv (.int y :: .int x :: r) := fun H q a b ls hR hl => lv_icmp_lt hX.1 hX.2.1 d ht (fun c => kt (ite_t c h) H q a b ls hR hl) (fun c => kf (ite_f c h) H q a b ls hR hl)
theorem k_icmp_ge {x y : Int32} {off : Int} {tgt : Nat} {A B : Option α} (hX : kOK X cc own nL) (h : (if y ≤ x then A else B) = some z) (d : decode cc pc = .ok (.if_icmp .ge off, 3)) (ht : (pc : Int) + off = (tgt : Int)) (kt : A = some z → kW X τ tgt lv r) (kf : B = some z → kW X τ (pc + 3) lv r) : kW X τ pc lv (.int y :: .int x :: r) := fun H q a b ls hR hl => lv_icmp_ge hX.1 hX.2.1 d ht (fun c => kt (ite_t c h) H q a b ls hR hl) (fun c => kf (ite_f c h) H q a b ls hR hl)
theorem k_icmp_gt {x y : Int32} {off : Int} {tgt : Nat} {A B : Option α} (hX : kOK X cc own nL) (h : (if y < x then A else B) = some z) (d : decode cc pc = .ok (.if_icmp .gt off, 3)) (ht : (pc : Int) + off = (tgt : Int)) (kt : A = some z → kW X τ tgt lv r) (kf : B = some z → kW X τ (pc + 3) lv r) : kW X τ pc lv (.int y :: .int x :: r) := fun H q a b ls hR hl => lv_icmp_gt hX.1 hX.2.1 d ht (fun c => kt (ite_t c h) H q a b ls hR hl) (fun c => kf (ite_f c h) H q a b ls hR hl)
theorem k_icmp_le {x y : Int32} {off : Int} {tgt : Nat} {A B : Option α} (hX : kOK X cc own nL) (h : (if x ≤ y then A else B) = some z) (d : decode cc pc = .ok (.if_icmp .le off, 3)) (ht : (pc : Int) + off = (tgt : Int)) (kt : A = some z → kW X τ tgt lv r) (kf : B = some z → kW X τ (pc + 3) lv r) : kW X τ pc lv (.int y :: .int x :: r) := fun H q a b ls hR hl => lv_icmp_le hX.1 hX.2.1 d ht (fun c => kt (ite_t c h) H q a b ls hR hl) (fun c => kf (ite_f c h) H q a b ls hR hl)
end KR
theorem lc_eq {x y : Int64} : lg_cmp x y = 0 ↔ x = y := by
  unfold lg_cmp
  by_cases h1 : y < x
  · simp only [h1, if_true]
    exact ⟨fun h => absurd h (by decide), fun h => absurd h1 (by rw [h]; exact Int64.lt_irrefl)⟩
  · by_cases h2 : x = y
    · simp [h2]
    · simp only [h1, h2, if_false]
      exact ⟨fun h => absurd h (by decide), fun h => h.elim⟩
theorem lc_gt {x y : Int64} : 0 < lg_cmp x y ↔ y < x := by
  unfold lg_cmp
  by_cases h1 : y < x
  · simp only [h1, if_true]; decide
  · by_cases h2 : x = y
    · simp [h2]
    · simp only [h1, h2, if_false]; decide
theorem lc_lt {x y : Int64} : lg_cmp x y < 0 ↔ x < y := by
  unfold lg_cmp
  by_cases h1 : y < x
  · simp only [h1, if_true]
    exact ⟨fun h => absurd h (by decide), fun h => absurd h (by rw [Int64.lt_iff_toInt_lt] at *; omega)⟩
  · by_cases h2 : x = y
    · simp [h2]
    · simp only [h1, h2, if_false]
      have : x < y := by
        rw [Int64.lt_iff_toInt_lt] at *
        have : x.toInt ≠ y.toInt := fun q => h2 (Int64.toInt_inj.mp q)
        omega
      simp only [this, iff_true]; decide
theorem lc_ge {x y : Int64} : 0 ≤ lg_cmp x y ↔ y ≤ x := by
  have h := lc_lt (x := x) (y := y)
  rw [Int64.lt_iff_toInt_lt, Int32.lt_iff_toInt_lt] at h
  rw [Int64.le_iff_toInt_le, Int32.le_iff_toInt_le]
  have : (0 : Int32).toInt = 0 := rfl
  omega
theorem lc_le {x y : Int64} : lg_cmp x y ≤ 0 ↔ x ≤ y := by
  have h := lc_gt (x := x) (y := y)
  rw [Int64.lt_iff_toInt_lt, Int32.lt_iff_toInt_lt] at h
  rw [Int64.le_iff_toInt_le, Int32.le_iff_toInt_le]
  have : (0 : Int32).toInt = 0 := rfl
  omega
section KL
variable {S : Type} {X : KC S} {cc : ByteArray} {own : String} {nL : Nat} {τ : S} {pc : Nat} {lv lv' : List (Nat × Value)} {r : List Value} {α : Type} {z : α}
theorem k_lcmp_eq {x y : Int64} {off : Int} {tgt : Nat} {A B : Option α} (hX : kOK X cc own nL) (h : (if x = y then A else B) = some z) (d1 : decode cc pc = .ok (.lcmp, 1)) (d : decode cc (pc + 1) = .ok (.ifCond .eq off, 3)) (ht : ((pc + 1 : Nat) : Int) + off = (tgt : Int)) (kt : A = some z → kW X τ tgt lv r) (kf : B = some z → kW X τ (pc + 4) lv r) : kW X τ pc lv (.long y :: .long x :: r) := fun H q a b ls hR hl => W.lcmp hX.1 hX.2.1 d1 (lv_if_eq hX.1 hX.2.1 d ht (fun c => kt (ite_t (lc_eq.mp c) h) H q a b ls hR hl) (fun c => kf (ite_f (fun e => c (lc_eq.mpr e)) h) H q a b ls hR hl))
theorem k_lcmp_ne {x y : Int64} {off : Int} {tgt : Nat} {A B : Option α} (hX : kOK X cc own nL) (h : (if x = y then A else B) = some z) (d1 : decode cc pc = .ok (.lcmp, 1)) (d : decode cc (pc + 1) = .ok (.ifCond .ne off, 3)) (ht : ((pc + 1 : Nat) : Int) + off = (tgt : Int)) (kt : B = some z → kW X τ tgt lv r) (kf : A = some z → kW X τ (pc + 4) lv r) : kW X τ pc lv (.long y :: .long x :: r) := fun H q a b ls hR hl => W.lcmp hX.1 hX.2.1 d1 (lv_if_ne hX.1 hX.2.1 d ht (fun c => kt (ite_f (fun e => c (lc_eq.mpr e)) h) H q a b ls hR hl) (fun c => kf (ite_t (lc_eq.mp c) h) H q a b ls hR hl))
theorem k_lcmp_lt {x y : Int64} {off : Int} {tgt : Nat} {A B : Option α} (hX : kOK X cc own nL) (h : (if x < y then A else B) = some z) (d1 : decode cc pc = .ok (.lcmp, 1)) (d : decode cc (pc + 1) = .ok (.ifCond .lt off, 3)) (ht : ((pc + 1 : Nat) : Int) + off = (tgt : Int)) (kt : A = some z → kW X τ tgt lv r) (kf : B = some z → kW X τ (pc + 4) lv r) : kW X τ pc lv (.long y :: .long x :: r) := fun H q a b ls hR hl => W.lcmp hX.1 hX.2.1 d1 (lv_if_lt hX.1 hX.2.1 d ht (fun c => kt (ite_t (lc_lt.mp c) h) H q a b ls hR hl) (fun c => kf (ite_f (fun e => c (lc_lt.mpr e)) h) H q a b ls hR hl))
theorem k_lcmp_ge {x y : Int64} {off : Int} {tgt : Nat} {A B : Option α} (hX : kOK X cc own nL) (h : (if y ≤ x then A else B) = some z) (d1 : decode cc pc = .ok (.lcmp, 1)) (d : decode cc (pc + 1) = .ok (.ifCond .ge off, 3)) (ht : ((pc + 1 : Nat) : Int) + off = (tgt : Int)) (kt : A = some z → kW X τ tgt lv r) (kf : B = some z → kW X τ (pc + 4) lv r) : kW X τ pc lv (.long y :: .long x :: r) := fun H q a b ls hR hl => W.lcmp hX.1 hX.2.1 d1 (lv_if_ge hX.1 hX.2.1 d ht (fun c => kt (ite_t (lc_ge.mp c) h) H q a b ls hR hl) (fun c => kf (ite_f (fun e => c (lc_ge.mpr e)) h) H q a b ls hR hl))
theorem k_lcmp_gt {x y : Int64} {off : Int} {tgt : Nat} {A B : Option α} (hX : kOK X cc own nL) (h : (if y < x then A else B) = some z) (d1 : decode cc pc = .ok (.lcmp, 1)) (d : decode cc (pc + 1) = .ok (.ifCond .gt off, 3)) (ht : ((pc + 1 : Nat) : Int) + off = (tgt : Int)) (kt : A = some z → kW X τ tgt lv r) (kf : B = some z → kW X τ (pc + 4) lv r) : kW X τ pc lv (.long y :: .long x :: r) := fun H q a b ls hR hl => W.lcmp hX.1 hX.2.1 d1 (lv_if_gt hX.1 hX.2.1 d ht (fun c => kt (ite_t (lc_gt.mp c) h) H q a b ls hR hl) (fun c => kf (ite_f (fun e => c (lc_gt.mpr e)) h) H q a b ls hR hl))
theorem k_lcmp_le {x y : Int64} {off : Int} {tgt : Nat} {A B : Option α} (hX : kOK X cc own nL) (h : (if x ≤ y then A else B) = some z) (d1 : decode cc pc = .ok (.lcmp, 1)) (d : decode cc (pc + 1) = .ok (.ifCond .le off, 3)) (ht : ((pc + 1 : Nat) : Int) + off = (tgt : Int)) (kt : A = some z → kW X τ tgt lv r) (kf : B = some z → kW X τ (pc + 4) lv r) : kW X τ pc lv (.long y :: .long x :: r) := fun H q a b ls hR hl => W.lcmp hX.1 hX.2.1 d1 (lv_if_le hX.1 hX.2.1 d ht (fun c => kt (ite_t (lc_le.mp c) h) H q a b ls hR hl) (fun c => kf (ite_f (fun e => c (lc_le.mpr e)) h) H q a b ls hR hl))
theorem k_tabOut {dflt lo hi : Int} {offs : Array Int} {len : Nat} {x : Int32} {tgt : Nat} (hX : kOK X cc own nL) (d : decode cc pc = .ok (.tableswitch dflt lo hi offs, len)) (h : x.toInt < lo ∨ hi < x.toInt) (ht : (pc : Int) + dflt = (tgt : Int)) (k : kW X τ tgt lv r) : kW X τ pc lv (.int x :: r) := fun H q a b ls hR hl => lv_tableOut hX.1 hX.2.1 d h ht (k H q a b ls hR hl)
theorem k_tabIn {dflt lo hi : Int} {offs : Array Int} {len : Nat} {x : Int32} {off : Int} {tgt : Nat} (hX : kOK X cc own nL) (d : decode cc pc = .ok (.tableswitch dflt lo hi offs, len)) (h1 : ¬ x.toInt < lo) (h2 : ¬ hi < x.toInt) (ho : offs[(x.toInt - lo).toNat]? = some off) (ht : (pc : Int) + off = (tgt : Int)) (k : kW X τ tgt lv r) : kW X τ pc lv (.int x :: r) := fun H q a b ls hR hl => lv_tableIn hX.1 hX.2.1 d h1 h2 ho ht (k H q a b ls hR hl)
theorem k_lookup {dflt : Int} {ps : Array (Int × Int)} {len : Nat} {x : Int32} {off : Int} {tgt : Nat} (hX : kOK X cc own nL) (d : decode cc pc = .ok (.lookupswitch dflt ps, len)) (hp : (ps.toList.zip (ps.toList.drop 1)).all (fun (a, next) => a.1 < next.1) = true) (ho : Op.lookupswitch.offset ps.toList dflt x.toInt = off) (ht : (pc : Int) + off = (tgt : Int)) (k : kW X τ tgt lv r) : kW X τ pc lv (.int x :: r) := fun H q a b ls hR hl => lv_lookup hX.1 hX.2.1 d hp ho ht (k H q a b ls hR hl)
end KL
