/-! THE COMPONENT: its pure state (a heap by maps: kinds, fields by number, arrays), its relation to the machine's heap, its rows -/
set_option maxRecDepth 100000
/-- kinds (writable, class or 100 + array type, length), int fields, long fields, reference fields, int, long, reference arrays, how many cells and slots -/
abbrev CS : Type := (Nat → Option (Bool × Nat × Nat)) × (Nat → Nat → Int32) × (Nat → Nat → Int64) × (Nat → Nat → Option Nat) × (Nat → Nat → Int32) × (Nat → Nat → Int64) × (Nat → Nat → Option Nat) × Nat × Nat
def cK (s : CS) : Nat → Option (Bool × Nat × Nat) := s.1
def cI (s : CS) (f a : Nat) : Int32 := s.2.1 f a
def cJ (s : CS) (f a : Nat) : Int64 := s.2.2.1 f a
def cR (s : CS) (f a : Nat) : Option Nat := s.2.2.2.1 f a
def cA (s : CS) (a : Nat) : Nat → Int32 := s.2.2.2.2.1 a
def cB (s : CS) (a : Nat) : Nat → Int64 := s.2.2.2.2.2.1 a
def cQ (s : CS) (a : Nat) : Nat → Option Nat := s.2.2.2.2.2.2.1 a
def cz (s : CS) : Nat := s.2.2.2.2.2.2.2.1
def cl (s : CS) : Nat := s.2.2.2.2.2.2.2.2
def up2 {α : Type} (m : Nat → Nat → α) (f a : Nat) (v : α) : Nat → Nat → α := fun g b => if g = f ∧ b = a then v else m g b
def up1 {α : Type} (m : Nat → α) (a : Nat) (v : α) : Nat → α := fun b => if b = a then v else m b
def uI (s : CS) (f a : Nat) (v : Int32) : CS := (s.1, up2 s.2.1 f a v, s.2.2)
def uJ (s : CS) (f a : Nat) (v : Int64) : CS := (s.1, s.2.1, up2 s.2.2.1 f a v, s.2.2.2)
def uR (s : CS) (f a : Nat) (v : Option Nat) : CS := (s.1, s.2.1, s.2.2.1, up2 s.2.2.2.1 f a v, s.2.2.2.2)
def uA (s : CS) (a i : Nat) (v : Int32) : CS := (s.1, s.2.1, s.2.2.1, s.2.2.2.1, up1 s.2.2.2.2.1 a (upd (s.2.2.2.2.1 a) i v), s.2.2.2.2.2)
def uB (s : CS) (a i : Nat) (v : Int64) : CS := (s.1, s.2.1, s.2.2.1, s.2.2.2.1, s.2.2.2.2.1, up1 s.2.2.2.2.2.1 a (vp_updL (s.2.2.2.2.2.1 a) i v), s.2.2.2.2.2.2)
def uQ (s : CS) (a i : Nat) (v : Option Nat) : CS := (s.1, s.2.1, s.2.2.1, s.2.2.2.1, s.2.2.2.2.1, s.2.2.2.2.2.1, up1 s.2.2.2.2.2.2.1 a (va_up (s.2.2.2.2.2.2.1 a) i v), s.2.2.2.2.2.2.2)
/-- a new cell: of class (or 100 + array type) c, length n, so many slots; its fields and elements are 0 or null; at the heap's end -/
def uN (s : CS) (c n k : Nat) : CS := (up1 s.1 (cz s) (some (true, c, n)), fun f a => if a = cz s then 0 else s.2.1 f a, fun f a => if a = cz s then 0 else s.2.2.1 f a, fun f a => if a = cz s then none else s.2.2.2.1 f a, fun a => if a = cz s then fun _ => 0 else s.2.2.2.2.1 a, fun a => if a = cz s then fun _ => 0 else s.2.2.2.2.2.1 a, fun a => if a = cz s then fun _ => none else s.2.2.2.2.2.2.1 a, cz s + 1, cl s + k)
/-- a class's fields: 0 int, 1 long, 2 reference; the field's number -/
def fdesc : Nat → List (Nat × Nat)
  | 0 => [(2, 0), (2, 1), (2, 2), (2, 3), (2, 4), (0, 5), (2, 6), (0, 7), (2, 8), (0, 9), (0, 10), (0, 11), (0, 12), (2, 13), (2, 14), (2, 15), (2, 16), (2, 17), (2, 18), (2, 19), (0, 20), (0, 21), (0, 22), (1, 23), (1, 24), (1, 25), (2, 26), (2, 27)]
  | 1 => [(2, 100), (0, 101), (0, 102), (0, 103), (0, 104), (0, 105), (0, 106), (2, 107)]
  | 2 => [(0, 200), (0, 201), (0, 202), (0, 203), (0, 204), (0, 205), (0, 206), (0, 207), (0, 208), (2, 209), (2, 210), (2, 211), (2, 212)]
  | 4 => [(0, 400)]
  | 5 => []
  | 6 => []
  | 7 => [(2, 700), (2, 701), (0, 702)]
  | 8 => [(0, 800), (0, 801), (0, 802), (0, 803), (0, 804), (0, 805), (2, 806), (2, 807), (2, 808), (2, 809), (2, 810), (2, 811)]
  | 9 => [(0, 900), (2, 901), (0, 902), (0, 903), (2, 904), (2, 905), (2, 906), (0, 907), (0, 908), (2, 909), (2, 910), (2, 911), (2, 912), (0, 913), (2, 914), (0, 915), (2, 916), (2, 917), (2, 918), (2, 919), (0, 920), (2, 921), (0, 922), (2, 923), (2, 924), (0, 925), (0, 926), (0, 927), (0, 928), (0, 929), (0, 930), (2, 931), (2, 932), (0, 933), (0, 934), (0, 935), (2, 936), (0, 937), (2, 938), (2, 939), (2, 940), (2, 941), (0, 942), (1, 943), (0, 944), (1, 945), (1, 946), (2, 947)]
  | 10 => [(2, 2500), (2, 2501), (2, 2502), (2, 2503), (2, 2504), (0, 2505), (0, 1000)]
  | 12 => [(0, 1100), (0, 1101), (0, 1102)]
  | 13 => [(0, 1100), (0, 1101), (0, 1102)]
  | 14 => [(0, 1100), (0, 1101), (0, 1102)]
  | 15 => [(0, 1100), (0, 1101), (0, 1102)]
  | 16 => [(2, 1600), (2, 1601)]
  | 18 => [(0, 1800)]
  | 19 => [(0, 1900)]
  | 20 => [(2, 2000)]
  | 21 => [(0, 2100), (2, 2101), (2, 2102)]
  | 22 => [(0, 2600), (2, 2200), (0, 2201)]
  | 23 => [(2, 2300), (0, 2301), (0, 2302), (0, 2303)]
  | 24 => [(2, 2400), (0, 2401), (0, 2402), (0, 2403)]
  | 25 => [(2, 2300), (0, 2301)]
  | _ => []
def fVal (s : CS) (a : Nat) (p : Nat × Nat) : Value := match p.1 with
  | 0 => .int (s.2.1 p.2 a)
  | 1 => .long (s.2.2.1 p.2 a)
  | 2 => va_rf (s.2.2.2.1 p.2 a)
  | _ => .null
def cF (s : CS) (c a : Nat) : List Value := (fdesc c).map (fVal s a)
def cE (dA : Nat → ClassId) (s : CS) (a c n : Nat) : va_E :=
  if c < 100 then .inr (c, cF s c a)
  else if c = 101 then .inl (dA 1, n, .inr (.inl (s.2.2.2.2.2.1 a)))
  else if c < 104 then .inl (dA (c - 100), n, .inl (s.2.2.2.2.1 a))
  else .inl (dA (c - 100), n, .inr (.inr (.inr (.inr (s.2.2.2.2.2.2.1 a)))))
def TnoF : u_T := fun _ => ("", "", "", false)
def vwCl : List vw_C := [(RX0, TX0, 28), (RX1, TX1, 8), (RX2, TX2, 13), (RX4, TX4, 1), (RX4, TX4, 1), (RX5, TnoF, 0), (RX6, TnoF, 0), (RX7, TX7, 3), (RX8, TX8, 12), (RX9, TX9, 48), (RX10, TX10, 7), (RX4, TX4, 1), (RX12, TX12, 3), (RX13, TX13, 3), (RX14, TX14, 3), (RX15, TX15, 3), (RX16, TX16, 2), (RX4, TX4, 1), (RX18, TX18, 1), (RX19, TX19, 1), (RX20, TX20, 1), (RX21, TX21, 3), (RJ2, TJ2, 3), (RJ6, TJ6, 4), (RJ15, TJ15, 4), (RJ6, TJ6, 2)]
def tysL (dA : Nat → ClassId) : List (ClassId × FieldType) := [(dA 0, .int), (dA 1, .long), (dA 2, .boolean), (dA 3, .byte), (dA 4, .object "OverFirst$Light"), (dA 5, .object "OverFirst$State"), (dA 6, .object "java/lang/Object")]
abbrev CE : Type := va_G × (Nat → Prop) × (Nat → ClassId) × (Nat → Option Nat)
/-- a String constant's two fields -/
def cCo (E : CE) (U : State) (s : CS) (H : Heap) (a : Nat) : Prop := va_O "java/lang/String" a E.2.1 U H ∧ va_OF "java/lang/String" "value" "[B" (fVal s a (2, 2300)) a E.2.1 U H ∧ va_OF "java/lang/String" "coder" "B" (fVal s a (0, 2301)) a E.2.1 U H
theorem cCo.moved {E : CE} {u U : State} {s : CS} {H : Heap} {a : Nat} (hvm : u.vm.Alike U.vm) (h : cCo E u s H a) : cCo E U s H a := ⟨h.1.moved hvm, h.2.1.moved hvm, h.2.2.moved hvm⟩
theorem cCo.next {E : CE} {U : State} {s s' : CS} {H H1 : Heap} {a n : Nat} (h : cCo E U s H a) (e : cE E.2.2.1 s' a 25 n = cE E.2.2.1 s a 25 n) (hq : H1[a]? = H[a]?) : cCo E U s' H1 a := by
  have e1 : cF s' 25 a = cF s 25 a := by simpa [cE] using e
  have e2 : [fVal s' a (2, 2300), fVal s' a (0, 2301)] = [fVal s a (2, 2300), fVal s a (0, 2301)] := e1
  have e3 := (List.cons.inj e2).1
  have e4 := (List.cons.inj (List.cons.inj e2).2).1
  unfold cCo
  rw [e3, e4]
  obtain ⟨⟨cell, a1, a2⟩, ⟨cf, k, i, f, cell2, b1, b2, b3, b4⟩, ⟨cf3, k3, i3, f3, cell3, c1, c2, c3, c4⟩⟩ := h
  exact ⟨⟨cell, by rw [hq]; exact a1, a2⟩, ⟨cf, k, i, f, cell2, b1, b2, by rw [hq]; exact b3, b4⟩, ⟨cf3, k3, i3, f3, cell3, c1, c2, by rw [hq]; exact c3, c4⟩⟩
/-- the heap H holds the pure state: writable cells exactly; constants are Strings (class 25: value and coder) and byte arrays -/
def cHp (E : CE) (U : State) (s : CS) (H : Heap) : Prop := (∀ a w c n, s.1 a = some (w, c, n) → a < cz s ∧ (w = true → va_at E.1 vwCl (a, cE E.2.2.1 s a c n) H) ∧ (w = true → E.2.1 a) ∧ (w = false → ¬ E.2.1 a ∧ (c = 25 ∨ c = 103) ∧ E.2.2.2 (1000 + a) = some a)) ∧ H.size = cz s ∧ (∀ a n, s.1 a = some (false, 103, n) → va_T .byte a n (fun j => .int (s.2.2.2.2.1 a j)) E.2.1 U H) ∧ ∀ a n, s.1 a = some (false, 25, n) → cCo E U s H a
theorem cHp.moved {E : CE} {u U : State} {s : CS} {H : Heap} (hvm : u.vm.Alike U.vm) (h : cHp E u s H) : cHp E U s H := ⟨h.1, h.2.1, fun a n ha => (h.2.2.1 a n ha).moved hvm, fun a n ha => (h.2.2.2 a n ha).moved hvm⟩
theorem va_Nw.warmP {x : MethodName} {s U : State} (hW : s.WarmedH U.vm) (hZ : va_Nw (.privateMethod x) s) : va_Nw (.privateMethod x) U := va_tabs rfl (rfl : (s.setVm U.vm).vm = U.vm) (by rw [Cond.privateMethod_setVm hW.alike]; exact hZ)
/-- words that don't ride in the lists -/
def cNw (U : State) : Prop := (∀ a i b n d h, Cond.fieldLinkNest a i b n d h ∈ lw_tbl → va_Nw (.fieldLinkNest a i b n d h) U) ∧ (∀ a i x h, Cond.methodLinkNest a i x h ∈ lw_tbl → va_Nw (.methodLinkNest a i x h) U) ∧ (∀ x, Cond.declares x ∈ lw_tbl → va_Nw (.declares x) U) ∧ (∀ C D, Cond.castable C D ∈ lw_tbl → va_Nw (.castable C D) U) ∧ (∀ C, Cond.arrayOver (.object C) ∈ lw_tbl → va_AO C U) ∧ (∀ y, Cond.privateMethod y ∈ lw_tbl → va_Nw (.privateMethod y) U)
theorem cNw.warm {s U : State} (hW : s.WarmedH U.vm) (h : cNw s) : cNw U := ⟨fun a i b n d q hq => va_Nw.warmF hW (h.1 a i b n d q hq), fun a i x q hq => va_Nw.warmM hW (h.2.1 a i x q hq), fun x hq => va_Nw.warmD hW (h.2.2.1 x hq), fun C D hq => va_Nw.warmC hW (h.2.2.2.1 C D hq), fun C hq => va_AO.moved hW.alike (h.2.2.2.2.1 C hq), fun y hq => va_Nw.warmP hW (h.2.2.2.2.2 y hq)⟩
theorem cNw.of {A : Array Value} {U : State} (h : ∀ w ∈ lw_tbl, w.before A U = true) : cNw U := ⟨fun a i b n d q hq => va_Nw.of rfl (h _ hq), fun a i x q hq => va_Nw.of rfl (h _ hq), fun x hq => va_Nw.of rfl (h _ hq), fun C D hq => va_Nw.of rfl (h _ hq), fun C hq => va_AO.of (A := A) (h _ hq), fun y hq => va_Nw.of rfl (h _ hq)⟩
theorem cNw.same {u U : State} (e : u.vm = U.vm) (h : cNw u) : cNw U := ⟨fun a i b n d q hq => va_Nw.same rfl e (h.1 a i b n d q hq), fun a i x q hq => va_Nw.same rfl e (h.2.1 a i x q hq), fun x hq => va_Nw.same rfl e (h.2.2.1 x hq), fun C D hq => va_Nw.same rfl e (h.2.2.2.1 C D hq), fun C hq => va_AO.moved (by rw [e]; exact Vm.Alike.refl _) (h.2.2.2.2.1 C hq), fun y hq => va_Nw.same rfl e (h.2.2.2.2.2 y hq)⟩
/-- the string constants of Reader, by number: the pool's index and the text -/
def cStr : List (Nat × String) := [(48, "()<=+-*;"), (144, "town "), (158, "walk run slow runs child light bar rule "), (175, "clock hidden button police "), (177, "round "), (191, "over "), (193, "for "), (215, "over on "), (83, "town light bar rule walk run slow runs child round over on for clock hidden button police not and or "), (272, "over on left up "), (274, "not "), (256, "and or ")]
/-- statics that are read: COMPACT_STRINGS is 1; references by number; Reader's string constants from number 10 -/
def cSt (E : CE) (U : State) : Prop := va_Z "java/lang/String" "COMPACT_STRINGS" "Z" (.int 1) E.2.1 U U.heap ∧ va_Z "java/lang/Throwable" "UNASSIGNED_STACK" "[Ljava/lang/StackTraceElement;" (va_rf (E.2.2.2 0)) E.2.1 U U.heap ∧ va_Z "java/lang/Throwable" "SUPPRESSED_SENTINEL" "Ljava/util/List;" (va_rf (E.2.2.2 1)) E.2.1 U U.heap ∧ va_Z "jdk/internal/util/Preconditions" "SIOOBE_FORMATTER" "Ljava/util/function/BiFunction;" (va_rf (E.2.2.2 2)) E.2.1 U U.heap ∧ va_Mi "[Ljava/lang/Object;" ((E.2.2.2 3).getD 0) U ∧ ∀ k x, cStr[k]? = some x → vk_R "OverFirst$Reader" x.1 x.2 ((E.2.2.2 (10 + k)).getD 0) U
theorem cSt.warm {E : CE} {u U : State} (hW : u.WarmedH U.vm) (hq : ∀ a : Nat, a < u.heap.size → ¬ E.2.1 a → U.heap[a]? = u.heap[a]?) (h : cSt E u) : cSt E U := ⟨(h.1.moved hW.alike).kept hq, (h.2.1.moved hW.alike).kept hq, (h.2.2.1.moved hW.alike).kept hq, (h.2.2.2.1.moved hW.alike).kept hq, h.2.2.2.2.1.moved hW.alike, fun k x hk => (h.2.2.2.2.2 k x hk).warm hW⟩
theorem cSt.same {E : CE} {u U : State} (hv : U.vm = u.vm) (hq : ∀ a : Nat, a < u.heap.size → ¬ E.2.1 a → U.heap[a]? = u.heap[a]?) (h : cSt E u) : cSt E U := ⟨(h.1.moved (by rw [hv]; exact Vm.Alike.refl _)).kept hq, (h.2.1.moved (by rw [hv]; exact Vm.Alike.refl _)).kept hq, (h.2.2.1.moved (by rw [hv]; exact Vm.Alike.refl _)).kept hq, (h.2.2.2.1.moved (by rw [hv]; exact Vm.Alike.refl _)).kept hq, h.2.2.2.2.1.moved (by rw [hv]; exact Vm.Alike.refl _), fun k x hk => (h.2.2.2.2.2 k x hk).same hv⟩
/-- the relation of the walk: heap, what has been written, how much has been made since the method's start -/
def cRel (E : CE) (S0 : State) (z0 l0 : Nat) : CS → Heap → List Loc → Nat → Nat → Prop := fun s H locs cells slots => cHp E S0 s H ∧ va_S E.2.1 S0.heap H locs ∧ cells + z0 = cz s ∧ slots + l0 = cl s
/-- z0, l0: cells and slots at the method's start; z1, l1: at its end -/
def cOK (X : KC CS) (E : CE) (cc : ByteArray) (own : String) (nL : Nat) (ret : Option FieldType) (z0 l0 z1 l1 : Nat) : Prop := kOK X cc own nL ∧ X.2.2.1 = cRel E X.1.2.2.2.2 z0 l0 ∧ va_K E.1 vwCl (tysL E.2.2.1) X.1.2.2.2.2 ∧ cNw X.1.2.2.2.2 ∧ X.2.1.2.2.2.1.sig.returnType = ret ∧ X.2.1.2.2.2.1.locks = false ∧ (∀ q, X.1.2.2.2.2.heap.size ≤ q → E.2.1 q) ∧ X.1.2.2.2.1.cells + z0 = z1 ∧ X.1.2.2.2.1.slots + l0 = l1 ∧ X.1.2.2.2.2.heap.size = z0 ∧ cSt E X.1.2.2.2.2
/-- the walk's judgement: what has been made by now fits, and kW -/
def cW (X : KC CS) (z1 l1 : Nat) (s : CS) (pc : Nat) (lv : List (Nat × Value)) (st : List Value) : Prop := cz s ≤ z1 ∧ cl s ≤ l1 ∧ kW X s pc lv st
theorem cw {X : KC CS} {z1 l1 : Nat} {s : CS} {pc pc' : Nat} {lv lv' : List (Nat × Value)} {st st' : List Value} (r : kW X s pc' lv' st' → kW X s pc lv st) (k : cW X z1 l1 s pc' lv' st') : cW X z1 l1 s pc lv st := ⟨k.1, k.2.1, r k.2.2⟩
/-- a row that goes on with a fact -/
theorem cwh {X : KC CS} {z1 l1 : Nat} {s : CS} {pc pc' : Nat} {lv lv' : List (Nat × Value)} {st st' : List Value} {P : Prop} (hp : P) (r : (P → kW X s pc' lv' st') → kW X s pc lv st) (k : P → cW X z1 l1 s pc' lv' st') : cW X z1 l1 s pc lv st := ⟨(k hp).1, (k hp).2.1, r (fun h => (k h).2.2)⟩
theorem c_br {α : Type} {z : α} {X : KC CS} {z1 l1 : Nat} {s : CS} {pc p1 p2 : Nat} {lv v1 v2 : List (Nat × Value)} {st t1 t2 : List Value} {c : Prop} [Decidable c] {A B : Option α} (h : (if c then A else B) = some z) (r : (A = some z → kW X s p1 v1 t1) → (B = some z → kW X s p2 v2 t2) → kW X s pc lv st) (kt : A = some z → cW X z1 l1 s p1 v1 t1) (kf : B = some z → cW X z1 l1 s p2 v2 t2) : cW X z1 l1 s pc lv st := by
  refine ⟨?_, ?_, r (fun h => (kt h).2.2) (fun h => (kf h).2.2)⟩
  · by_cases q : c
    · exact (kt (ite_t q h)).1
    · exact (kf (ite_f q h)).1
  · by_cases q : c
    · exact (kt (ite_t q h)).2.1
    · exact (kf (ite_f q h)).2.1
theorem c_brn {α : Type} {z : α} {X : KC CS} {z1 l1 : Nat} {s : CS} {pc p1 p2 : Nat} {lv v1 v2 : List (Nat × Value)} {st t1 t2 : List Value} {c : Prop} [Decidable c] {A B : Option α} (h : (if c then A else B) = some z) (r : (B = some z → kW X s p1 v1 t1) → (A = some z → kW X s p2 v2 t2) → kW X s pc lv st) (kt : B = some z → cW X z1 l1 s p1 v1 t1) (kf : A = some z → cW X z1 l1 s p2 v2 t2) : cW X z1 l1 s pc lv st := c_br h (fun a b => r b a) kf kt
theorem c_nm {α : Type} {z : α} {X : KC CS} {z1 l1 : Nat} {s : CS} {pc : Nat} {lv : List (Nat × Value)} {r : List Value} {e : Int32} {K : Int32 → Option α} (h : nm e K = some z) (k : ∀ y, K y = some z → cW X z1 l1 s pc lv (.int y :: r)) : cW X z1 l1 s pc lv (.int e :: r) := k e h
theorem c_nml {α : Type} {z : α} {X : KC CS} {z1 l1 : Nat} {s : CS} {pc : Nat} {lv : List (Nat × Value)} {r : List Value} {e : Int64} {K : Int64 → Option α} (h : nm e K = some z) (k : ∀ y, K y = some z → cW X z1 l1 s pc lv (.long y :: r)) : cW X z1 l1 s pc lv (.long e :: r) := k e h
theorem c_d32 {α : Type} {z : α} {X : KC CS} {z1 l1 : Nat} {s : CS} {pc p1 : Nat} {lv v1 : List (Nat × Value)} {st t1 : List Value} {y : Int32} {K : Option α} (h : d32 y K = some z) (r : (K = some z → kW X s p1 v1 t1) → kW X s pc lv st) (k : K = some z → cW X z1 l1 s p1 v1 t1) : cW X z1 l1 s pc lv st := cwh (d32_of h).2 r k
theorem c_d64 {α : Type} {z : α} {X : KC CS} {z1 l1 : Nat} {s : CS} {pc p1 : Nat} {lv v1 : List (Nat × Value)} {st t1 : List Value} {y : Int64} {K : Option α} (h : d64 y K = some z) (r : (K = some z → kW X s p1 v1 t1) → kW X s pc lv st) (k : K = some z → cW X z1 l1 s p1 v1 t1) : cW X z1 l1 s pc lv st := cwh (d64_of h).2 r k
/-! pure operations of the decompiled methods -/
def isK (s : CS) (a : Nat) (cs : List Nat) : Bool := match s.1 a with
  | some (_, c, _) => cs.contains c
  | none => false
def isW (s : CS) (a : Nat) (cs : List Nat) : Bool := match s.1 a with
  | some (w, c, _) => w && cs.contains c
  | none => false
theorem isK_of {s : CS} {a : Nat} {cs : List Nat} (h : isK s a cs = true) : ∃ w c n, s.1 a = some (w, c, n) ∧ c ∈ cs := by
  unfold isK at h
  cases q : s.1 a with
  | none => rw [q] at h; cases h
  | some x => obtain ⟨w, c, n⟩ := x; rw [q] at h; exact ⟨w, c, n, rfl, List.contains_iff_mem.mp h⟩
theorem isW_of {s : CS} {a : Nat} {cs : List Nat} (h : isW s a cs = true) : ∃ c n, s.1 a = some (true, c, n) ∧ c ∈ cs := by
  unfold isW at h
  cases q : s.1 a with
  | none => rw [q] at h; cases h
  | some x =>
    obtain ⟨w, c, n⟩ := x
    rw [q] at h
    obtain ⟨h1, h2⟩ := Bool.and_eq_true_iff.mp h
    have h1 : w = true := h1
    subst h1
    exact ⟨c, n, rfl, List.contains_iff_mem.mp h2⟩
/-- reads of fields: the object's class is one of cs -/
def gI {α : Type} (s : CS) (a : Nat) (cs : List Nat) (f : Nat) (K : Int32 → Option α) : Option α := if isK s a cs = true then K (cI s f a) else none
def gJ {α : Type} (s : CS) (a : Nat) (cs : List Nat) (f : Nat) (K : Int64 → Option α) : Option α := if isK s a cs = true then K (cJ s f a) else none
def gR {α : Type} (s : CS) (a : Nat) (cs : List Nat) (f : Nat) (K : Option Nat → Option α) : Option α := if isK s a cs = true then K (cR s f a) else none
def pI {α : Type} (s : CS) (a : Nat) (cs : List Nat) (f : Nat) (v : Int32) (K : CS → Option α) : Option α := if isW s a cs = true then K (uI s f a v) else none
def pJ {α : Type} (s : CS) (a : Nat) (cs : List Nat) (f : Nat) (v : Int64) (K : CS → Option α) : Option α := if isW s a cs = true then K (uJ s f a v) else none
def pR {α : Type} (s : CS) (a : Nat) (cs : List Nat) (f : Nat) (v : Option Nat) (K : CS → Option α) : Option α := if isW s a cs = true then K (uR s f a v) else none
/-- an index within an array of type c - 100 -/
def inA (s : CS) (a c : Nat) (i : Int32) : Bool := match s.1 a with
  | some (_, c', n) => (c' == c) && inb i n
  | none => false
def inW (s : CS) (a c : Nat) (i : Int32) : Bool := match s.1 a with
  | some (w, c', n) => w && ((c' == c) && inb i n)
  | none => false
theorem inA_of {s : CS} {a c : Nat} {i : Int32} (h : inA s a c i = true) : ∃ w n, s.1 a = some (w, c, n) ∧ vp_in i n := by
  unfold inA at h
  cases q : s.1 a with
  | none => rw [q] at h; cases h
  | some x =>
    obtain ⟨w, c', n⟩ := x
    rw [q] at h
    obtain ⟨h1, h2⟩ := Bool.and_eq_true_iff.mp h
    have h1 : c' = c := eq_of_beq h1
    subst h1
    exact ⟨w, n, rfl, inb_in h2⟩
theorem inW_of {s : CS} {a c : Nat} {i : Int32} (h : inW s a c i = true) : ∃ n, s.1 a = some (true, c, n) ∧ vp_in i n := by
  unfold inW at h
  cases q : s.1 a with
  | none => rw [q] at h; cases h
  | some x =>
    obtain ⟨w, c', n⟩ := x
    rw [q] at h
    obtain ⟨h0, h3⟩ := Bool.and_eq_true_iff.mp h
    obtain ⟨h1, h2⟩ := Bool.and_eq_true_iff.mp h3
    have h0 : w = true := h0
    have h1 : c' = c := eq_of_beq h1
    subst h1; subst h0
    exact ⟨n, rfl, inb_in h2⟩
def lI {α : Type} (s : CS) (a c : Nat) (i : Int32) (K : Int32 → Option α) : Option α := if inA s a c i = true then K (cA s a i.toNatClampNeg) else none
def lJ {α : Type} (s : CS) (a c : Nat) (i : Int32) (K : Int64 → Option α) : Option α := if inA s a c i = true then K (cB s a i.toNatClampNeg) else none
def lR {α : Type} (s : CS) (a c : Nat) (i : Int32) (K : Option Nat → Option α) : Option α := if inA s a c i = true then K (cQ s a i.toNatClampNeg) else none
def tI_ {α : Type} (s : CS) (a c : Nat) (i v : Int32) (K : CS → Option α) : Option α := if inW s a c i = true then K (uA s a i.toNatClampNeg v) else none
def tJ_ {α : Type} (s : CS) (a c : Nat) (i : Int32) (v : Int64) (K : CS → Option α) : Option α := if inW s a c i = true then K (uB s a i.toNatClampNeg v) else none
def tR_ {α : Type} (s : CS) (a c : Nat) (i : Int32) (v : Option Nat) (K : CS → Option α) : Option α := if inW s a c i = true then K (uQ s a i.toNatClampNeg v) else none
/-- an array's length -/
def aLn {α : Type} (s : CS) (a : Nat) (K : Int32 → Option α) : Option α := match s.1 a with
  | some (_, c, n) => if 100 ≤ c ∧ c < 107 then K (Int32.ofNat n) else none
  | none => none
/-- a reference that isn't null; a reference that may be -/
def nn {α : Type} (e : Option Nat) (K : Nat → Option α) : Option α := match e with
  | some a => K a
  | none => none
def nul {α : Type} (e : Option Nat) (A : Option α) (K : Nat → Option α) : Option α := match e with
  | some a => K a
  | none => A
theorem nn_of {α : Type} {e : Option Nat} {K : Nat → Option α} {r : α} (h : nn e K = some r) : ∃ a, e = some a ∧ K a = some r := by
  cases e with
  | none => cases h
  | some a => exact ⟨a, rfl, h⟩
theorem if_of {α : Type} {c : Bool} {k : Option α} {r : α} (h : (if c = true then k else none) = some r) : c = true ∧ k = some r := by
  by_cases q : c = true
  · rw [if_pos q] at h; exact ⟨q, h⟩
  · rw [if_neg q] at h; cases h
/-- a new object of class c with k fields; a new array of type c - 100 -/
def nwO {α : Type} (s : CS) (c k : Nat) (K : Nat → CS → Option α) : Option α := K (cz s) (uN s c 0 k)
def nwA {α : Type} (s : CS) (c : Nat) (i : Int32) (K : Nat → CS → Option α) : Option α := if inb i 2000000 = true then K (cz s) (uN s c i.toNatClampNeg i.toNatClampNeg) else none
/-! the writable cells as a list, for the kit's rows -/
def cWs (E : CE) (s : CS) : va_W := (List.range (cz s)).filterMap fun a => (s.1 a).bind fun k => if k.1 = true then some (a, cE E.2.2.1 s a k.2.1 k.2.2) else none
theorem cWs_mem {E : CE} {s : CS} {q : Nat × va_E} (h : q ∈ cWs E s) : ∃ c n, s.1 q.1 = some (true, c, n) ∧ q.2 = cE E.2.2.1 s q.1 c n := by
  obtain ⟨a, -, h2⟩ := List.mem_filterMap.mp h
  obtain ⟨k, h3, h4⟩ := Option.bind_eq_some_iff.mp h2
  by_cases w : k.1 = true
  · rw [if_pos w] at h4
    cases h4
    obtain ⟨w0, c, n⟩ := k
    have w : w0 = true := w
    subst w
    exact ⟨c, n, h3, rfl⟩
  · rw [if_neg w] at h4; cases h4
theorem cHp.lt {E : CE} {U : State} {s : CS} {H : Heap} (h : cHp E U s H) {a : Nat} {w : Bool} {c n : Nat} (ha : s.1 a = some (w, c, n)) : a < cz s := (h.1 a w c n ha).1
theorem cWs_ix {E : CE} {U : State} {s : CS} {H : Heap} (h : cHp E U s H) {a c n : Nat} (ha : s.1 a = some (true, c, n)) : ∃ k : Nat, (cWs E s)[k]? = some (a, cE E.2.2.1 s a c n) := by
  refine List.getElem?_of_mem (List.mem_filterMap.mpr ⟨a, List.mem_range.mpr (h.lt ha), ?_⟩)
  rw [ha]
  rfl
theorem cWs_P {E : CE} {U : State} {s : CS} {H : Heap} (h : cHp E U s H) : va_P E.1 vwCl (cWs E s) H := by
  intro k q hk
  obtain ⟨c, n, h1, h2⟩ := cWs_mem (List.mem_of_getElem? hk)
  obtain ⟨a, e⟩ := q
  rw [show e = cE E.2.2.1 s a c n from h2]
  exact (h.1 a true c n h1).2.1 rfl
theorem fm_sub {β : Type} (f : Nat → Option (Nat × β)) (hf : ∀ a p, f a = some p → p.1 = a) : ∀ l : List Nat, ((l.filterMap f).map Prod.fst).Sublist l := by
  intro l
  induction l with
  | nil => exact List.Sublist.refl _
  | cons a l ih =>
    cases q : f a with
    | none => rw [List.filterMap_cons_none q]; exact ih.cons a
    | some p =>
      rw [List.filterMap_cons_some q, List.map_cons, hf a p q]
      exact ih.cons₂ a
theorem cWs_D {E : CE} {U : State} {s : CS} {H : Heap} (h : cHp E U s H) : va_D E.2.1 (cWs E s) := by
  constructor
  · intro i j p q hi hj e
    have hn : ((cWs E s).map Prod.fst).Nodup := by
      refine List.Nodup.sublist (fm_sub _ ?_ _) List.nodup_range
      intro a p hp
      obtain ⟨k, h3, h4⟩ := Option.bind_eq_some_iff.mp hp
      by_cases w : k.1 = true
      · rw [if_pos w] at h4; cases h4; rfl
      · rw [if_neg w] at h4; cases h4
    have h1 : ((cWs E s).map Prod.fst)[i]? = some p.1 := by rw [List.getElem?_map, hi]; rfl
    have h2 : ((cWs E s).map Prod.fst)[j]? = some q.1 := by rw [List.getElem?_map, hj]; rfl
    rw [← e] at h2
    have l1 := (List.getElem?_eq_some_iff.mp h1).1
    exact (List.getElem?_inj l1 hn).mp (h1.trans h2.symm)
  · intro k q hk
    obtain ⟨c, n, h1, -⟩ := cWs_mem (List.mem_of_getElem? hk)
    exact (h.1 q.1 true c n h1).2.2.1 rfl
/-- the heap behind a write -/
theorem cHp_put {E : CE} {U : State} {s s' : CS} {H H1 : Heap} {locs1 : List Loc} {a c n k : Nat} (h : cHp E U s H) (ha : s.1 a = some (true, c, n)) (hk : (cWs E s)[k]? = some (a, cE E.2.2.1 s a c n)) (hK : s'.1 = s.1) (hz : cz s' = cz s) (ho : ∀ b c n, b ≠ a → cE E.2.2.1 s' b c n = cE E.2.2.1 s b c n) (p1 : va_P E.1 vwCl ((cWs E s).set k (a, cE E.2.2.1 s' a c n)) H1) (s1 : va_S E.2.1 H H1 locs1) (hsz : H1.size = H.size) : cHp E U s' H1 := by
  refine ⟨fun b w c' n' hb => ?_, by rw [hsz, h.2.1, hz], fun b n' hb => ?_, fun b n' hb => ?_⟩
  · rw [hK] at hb
    refine ⟨by rw [hz]; exact (h.1 b w c' n' hb).1, fun hw => ?_, (h.1 b w c' n' hb).2.2⟩
    by_cases q : b = a
    · subst q
      rw [ha] at hb
      cases hb
      exact p1 k _ (List.getElem?_set_self (List.getElem?_eq_some_iff.mp hk).1)
    · rw [ho b c' n' q]
      subst hw
      obtain ⟨k', hk'⟩ := cWs_ix h hb
      refine p1 k' _ ?_
      rw [List.getElem?_set_ne]
      · exact hk'
      · intro e
        subst e
        exact q (congrArg Prod.fst (Option.some.inj (hk.symm.trans hk'))).symm
  · rw [hK] at hb
    have q : b ≠ a := fun e => by
      subst e
      rw [ha] at hb
      cases hb
    have e : s'.2.2.2.2.1 b = s.2.2.2.2.1 b := by
      have e1 := ho b 103 n' q
      simpa [cE] using e1
    rw [e]
    exact (h.2.2.1 b n' hb).kept s1.2.1
  · rw [hK] at hb
    have q : b ≠ a := fun e => by
      subst e
      rw [ha] at hb
      cases hb
    have h3 := h.1 b false 25 n' hb
    exact (h.2.2.2 b n' hb).next (n := n') (ho b 25 n' q) (s1.2.1 b (by rw [h.2.1]; exact h3.1) (h3.2.2.2 rfl).1)
/-- a walk may take for granted that the heap has grown by no more than what is booked -/
theorem w_sz {p : Program} {l : Launch} {e : Env} {R : Room} {s : State} {m : MethodId} {args : Array Value} {below : List Frame} {meth : Method} {c : Code} {H : Heap} {locs : List Loc} {cells slots : Nat} {Q : State → Prop} {g : JFrame} (k : H.size ≤ s.heap.size + cells → W p l e R s m args below meth c H locs cells slots Q g) : W p l e R s m args below meth c H locs cells slots Q g := by
  intro T hT X
  have h := X.same.2.2.1
  exact k (by rw [← hT]; exact h) T hT X
theorem va_S.self {A : Nat → Prop} {H0 H : Heap} {locs : List Loc} (h : va_S A H0 H locs) : va_S A H H locs := ⟨Nat.le_refl _, fun _ _ _ => rfl, h.2.2⟩
theorem va_S.next {A : Nat → Prop} {H0 H H1 : Heap} {locs locs1 : List Loc} (h : va_S A H0 H locs) (h1 : va_S A H H1 locs1) : va_S A H0 H1 locs1 := ⟨Nat.le_trans h.1 h1.1, fun q a b => (h1.2.1 q (Nat.lt_of_lt_of_le a h.1) b).trans (h.2.1 q a b), h1.2.2⟩
/-- the relation behind a write -/
theorem cRel_put {X : KC CS} {E : CE} {cc : ByteArray} {own : String} {nL : Nat} {ret : Option FieldType} {z0 l0 z1 l1 : Nat} (T : cOK X E cc own nL ret z0 l0 z1 l1) {s s' : CS} {H H1 : Heap} {locs locs1 : List Loc} {cells slots a c n k : Nat} (hr : cRel E X.1.2.2.2.2 z0 l0 s H locs cells slots) (ha : s.1 a = some (true, c, n)) (hk : (cWs E s)[k]? = some (a, cE E.2.2.1 s a c n)) (hK : s'.1 = s.1) (hz : cz s' = cz s) (hl : cl s' = cl s) (ho : ∀ b c n, b ≠ a → cE E.2.2.1 s' b c n = cE E.2.2.1 s b c n) (p1 : va_P E.1 vwCl ((cWs E s).set k (a, cE E.2.2.1 s' a c n)) H1) (s1 : va_S E.2.1 H H1 locs1) (hsz : H1.size ≤ X.1.2.2.2.2.heap.size + cells) : cRel E X.1.2.2.2.2 z0 l0 s' H1 locs1 cells slots := by
  obtain ⟨h1, h2, h3, h4⟩ := hr
  have e : H1.size = H.size := by
    have := s1.1
    have := h1.2.1
    have := T.2.2.2.2.2.2.2.2.2.1
    omega
  refine ⟨cHp_put h1 ha hk hK hz ho p1 s1 e, h2.next s1, by rw [hz]; exact h3, by rw [hl]; exact h4⟩

def cCls (ci : Nat) (C : String) (T0 : u_T) (N : Nat) (ty0 : Nat → FieldType) : Prop := vwCl[ci]? = some (C, T0, N) ∧ (∀ w ∈ u_ws C T0 N, w ∈ lw_all) ∧ (∀ k, k < N → parseFieldDescriptor (T0 k).2.2.1 = some (ty0 k)) ∧ (∀ a, a < N → ∀ b, b < N → a ≠ b → (T0 a).2.1 ≠ (T0 b).2.1) ∧ (fdesc ci).Nodup ∧ (fdesc ci).length = N ∧ ci < 100
theorem cE_o {dA : Nat → ClassId} {s : CS} {a c n : Nat} (h : c < 100) : cE dA s a c n = .inr (c, cF s c a) := by unfold cE; rw [if_pos h]

theorem kX0 : cCls 0 RX0 TX0 28 tyX0 := ⟨rfl, in_X0, tyX0_ok, nmX0, by decide, rfl, by decide⟩
theorem kX1 : cCls 1 RX1 TX1 8 tyX1 := ⟨rfl, in_X1, tyX1_ok, nmX1, by decide, rfl, by decide⟩
theorem kX2 : cCls 2 RX2 TX2 13 tyX2 := ⟨rfl, in_X2, tyX2_ok, nmX2, by decide, rfl, by decide⟩
theorem kX4 : cCls 4 RX4 TX4 1 tyX4 := ⟨rfl, in_X4, tyX4_ok, nmX4, by decide, rfl, by decide⟩
theorem kX5 : cCls 5 RX5 TnoF 0 (fun _ => .int) := ⟨rfl, fun w h => absurd h (by simp [u_ws]), fun k h => absurd h (Nat.not_lt_zero k), fun a h => absurd h (Nat.not_lt_zero a), by decide, rfl, by decide⟩
theorem kX6 : cCls 6 RX6 TnoF 0 (fun _ => .int) := ⟨rfl, fun w h => absurd h (by simp [u_ws]), fun k h => absurd h (Nat.not_lt_zero k), fun a h => absurd h (Nat.not_lt_zero a), by decide, rfl, by decide⟩
theorem kX7 : cCls 7 RX7 TX7 3 tyX7 := ⟨rfl, in_X7, tyX7_ok, nmX7, by decide, rfl, by decide⟩
theorem kX8 : cCls 8 RX8 TX8 12 tyX8 := ⟨rfl, in_X8, tyX8_ok, nmX8, by decide, rfl, by decide⟩
theorem kX9 : cCls 9 RX9 TX9 48 tyX9 := ⟨rfl, in_X9, tyX9_ok, nmX9, by decide, rfl, by decide⟩
theorem kX10 : cCls 10 RX10 TX10 7 tyX10 := ⟨rfl, in_X10, tyX10_ok, nmX10, by decide, rfl, by decide⟩
theorem kX12 : cCls 12 RX12 TX12 3 tyX12 := ⟨rfl, in_X12, tyX12_ok, nmX12, by decide, rfl, by decide⟩
theorem kX13 : cCls 13 RX13 TX13 3 tyX13 := ⟨rfl, in_X13, tyX13_ok, nmX13, by decide, rfl, by decide⟩
theorem kX14 : cCls 14 RX14 TX14 3 tyX14 := ⟨rfl, in_X14, tyX14_ok, nmX14, by decide, rfl, by decide⟩
theorem kX15 : cCls 15 RX15 TX15 3 tyX15 := ⟨rfl, in_X15, tyX15_ok, nmX15, by decide, rfl, by decide⟩
theorem kX16 : cCls 16 RX16 TX16 2 tyX16 := ⟨rfl, in_X16, tyX16_ok, nmX16, by decide, rfl, by decide⟩
theorem kX18 : cCls 18 RX18 TX18 1 tyX18 := ⟨rfl, in_X18, tyX18_ok, nmX18, by decide, rfl, by decide⟩
theorem kX19 : cCls 19 RX19 TX19 1 tyX19 := ⟨rfl, in_X19, tyX19_ok, nmX19, by decide, rfl, by decide⟩
theorem kX20 : cCls 20 RX20 TX20 1 tyX20 := ⟨rfl, in_X20, tyX20_ok, nmX20, by decide, rfl, by decide⟩
theorem kX21 : cCls 21 RX21 TX21 3 tyX21 := ⟨rfl, in_X21, tyX21_ok, nmX21, by decide, rfl, by decide⟩
theorem kJ2 : cCls 22 RJ2 TJ2 3 tyJ2 := ⟨rfl, in_J2, tyJ2_ok, nmJ2, by decide, rfl, by decide⟩
theorem kJ6 : cCls 23 RJ6 TJ6 4 tyJ6 := ⟨rfl, in_J6, tyJ6_ok, nmJ6, by decide, rfl, by decide⟩
theorem kJ15 : cCls 24 RJ15 TJ15 4 tyJ15 := ⟨rfl, in_J15, tyJ15_ok, nmJ15, by decide, rfl, by decide⟩
theorem kJ6c : cCls 25 RJ6 TJ6 2 tyJ6 := ⟨rfl, fun w h => in_J6 w (by obtain ⟨k, hk, e⟩ := List.mem_map.mp h; exact List.mem_map.mpr ⟨k, List.mem_range.mpr (Nat.lt_trans (List.mem_range.mp hk) (by decide)), e⟩), fun k h => tyJ6_ok k (Nat.lt_trans h (by decide)), fun a h b h2 => nmJ6 a (Nat.lt_trans h (by decide)) b (Nat.lt_trans h2 (by decide)), by decide, rfl, by decide⟩
section CR
variable {X : KC CS} {E : CE} {cc : ByteArray} {own : String} {nL : Nat} {ret : Option FieldType} {z0 l0 z1 l1 : Nat} {s s' : CS} {pc : Nat} {lv : List (Nat × Value)} {r : List Value} {α : Type} {z : α} {a : Nat}
theorem c_at {U : State} {H : Heap} {w : Bool} {c n : Nat} (h : cHp E U s H) (ha : s.1 a = some (w, c, n)) (hw : w = true ∨ (c ≠ 103 ∧ c ≠ 25)) : va_P E.1 vwCl [(a, cE E.2.2.1 s a c n)] H := by
  have hw : w = true := by
    rcases hw with hw | ⟨h1, h2⟩
    · exact hw
    · cases w with
      | true => rfl
      | false =>
        rcases ((h.1 a false c n ha).2.2.2 rfl).2.1 with e | e
        · exact absurd e h2
        · exact absurd e h1
  intro k q hk
  cases k with
  | zero => cases hk; exact (h.1 a w c n ha).2.1 hw
  | succ k => simp at hk
theorem c_25 {U : State} {H : Heap} {ci n : Nat} (h : cHp E U s H) (ha : s.1 a = some (false, ci, n)) (hc : ci < 100) : ci = 25 := by
  rcases ((h.1 a false ci n ha).2.2.2 rfl).2.1 with e | e
  · exact e
  · omega
theorem c_recv0 {H : Heap} {w : Bool} {ci n : Nat} {C : String} {T0 : u_T} {N : Nat} {ty0 : Nat → FieldType} {U : State} (hK : va_K E.1 vwCl (tysL E.2.2.1) U) (hc : cCls ci C T0 N ty0) (h : cHp E U s H) (ha : s.1 a = some (w, ci, n)) : ∃ cell : Cell, H[a]? = some cell ∧ cell.vm.isStatics = false ∧ U.vm.findClass C = some cell.cls := by
  cases w with
  | true =>
    have hP := c_at h ha (Or.inl rfl)
    rw [cE_o hc.2.2.2.2.2.2] at hP
    exact va_recv (q := (C, T0, N)) hK hP (ci := ci) (q0 := 0) hc.1 rfl
  | false =>
    have e := c_25 h ha hc.2.2.2.2.2.2
    subst e
    have h1 : some (RJ6, TJ6, 2) = some (C, T0, N) := hc.1
    cases h1
    obtain ⟨cell, g1, g2, g3, -⟩ := (h.2.2.2 a n ha).1
    exact ⟨cell, g1, g2, g3⟩
theorem c_recv {H : Heap} {w : Bool} {ci n : Nat} {C : String} {T0 : u_T} {N : Nat} {ty0 : Nat → FieldType} (T : cOK X E cc own nL ret z0 l0 z1 l1) (hc : cCls ci C T0 N ty0) (h : cHp E X.1.2.2.2.2 s H) (ha : s.1 a = some (w, ci, n)) : ∃ cell : Cell, H[a]? = some cell ∧ cell.vm.isStatics = false ∧ X.1.2.2.2.2.vm.findClass C = some cell.cls := c_recv0 T.2.2.1 hc h ha
theorem c_fset {ci k : Nat} {p : Nat × Nat} {v : Value} (hnd : (fdesc ci).Nodup) (hp : (fdesc ci)[k]? = some p) (hv : fVal s' a p = v) (ho : ∀ q, q ≠ p → fVal s' a q = fVal s a q) : (cF s ci a).set k v = cF s' ci a := by
  apply List.ext_getElem?
  intro j
  by_cases q : k = j
  · subst q
    rw [List.getElem?_set_self (by rw [cF, List.length_map]; exact (List.getElem?_eq_some_iff.mp hp).1), cF, List.getElem?_map, hp]
    simp [hv]
  · rw [List.getElem?_set_ne q, cF, cF, List.getElem?_map, List.getElem?_map]
    cases e : (fdesc ci)[j]? with
    | none => rfl
    | some x =>
      have hx : x ≠ p := fun h => q ((List.getElem?_inj (List.getElem?_eq_some_iff.mp hp).1 hnd).mp (by rw [hp, e, h]))
      simp [ho x hx]
theorem cF_congr {c b : Nat} (h : ∀ q, fVal s' b q = fVal s b q) : cF s' c b = cF s c b := List.map_congr_left (fun q _ => h q)

theorem c_get {ci k index n : Nat} {w : Bool} {C ref : String} {T0 : u_T} {N : Nat} {ty0 : Nat → FieldType} {v : Value} (T : cOK X E cc own nL ret z0 l0 z1 l1) (hc : cCls ci C T0 N ty0) (ha : s.1 a = some (w, ci, n)) (hv : (cF s ci a)[k]? = some v) (hk : Nat.blt k N = true) (hq : Cond.fieldLink own index ref (T0 k).2.1 (T0 k).2.2.1 ∈ lw_all) (hs : ∀ x, X.1.2.2.2.2.fieldFound? (T0 k).1 (T0 k).2.1 (T0 k).2.2.1 = some x → X.1.2.2.2.2.fieldFound? ref (T0 k).2.1 (T0 k).2.2.1 = some x) (d : decode cc pc = .ok (.getfield index, 3)) (kk : kW X s (pc + 3) lv (v :: r)) : kW X s pc lv (.ref a :: r) := by
  intro H q cells slots ls hr hl
  have hr2 := hr
  rw [T.2.1] at hr2
  cases w with
  | false =>
    have e := c_25 hr2.1 ha hc.2.2.2.2.2.2
    subst e
    have h1 : some (RJ6, TJ6, 2) = some (C, T0, N) := hc.1
    cases h1
    have hC := hr2.1.2.2.2 a n ha
    have hv9 : [fVal s a (2, 2300), fVal s a (0, 2301)][k]? = some v := hv
    have hk9 : k < 2 := Nat.le_of_ble_eq_true hk
    rcases (show k = 0 ∨ k = 1 by omega) with rfl | rfl
    · cases hv9
      obtain ⟨cf, k', fi, f, cell, g1, g2, g3, g4, g5, g6⟩ := hC.2.1
      exact W.getf T.1.1 T.1.2.1 T.1.2.2.1 (T.1.2.2.2.2 _ hq) (hs _ g1) g2 g3 g4 g5 rfl rfl d (kk H q cells slots ls hr hl)
    · cases hv9
      obtain ⟨cf, k', fi, f, cell, g1, g2, g3, g4, g5, g6⟩ := hC.2.2
      exact W.getf T.1.1 T.1.2.1 T.1.2.2.1 (T.1.2.2.2.2 _ hq) (hs _ g1) g2 g3 g4 g5 rfl rfl d (kk H q cells slots ls hr hl)
  | true =>
    have hP := c_at hr2.1 ha (Or.inl rfl)
    rw [cE_o hc.2.2.2.2.2.2] at hP
    exact va_get (C := C) (T := T0) (N := N) (ci := ci) T.1.1 T.1.2.1 T.1.2.2.2.2 hc.2.1 T.1.2.2.1 T.2.2.1 hP 0 rfl hc.1 k (Nat.le_of_ble_eq_true hk) (T.1.2.2.2.2 _ hq) hs hv d (kk H q cells slots ls hr hl)
theorem c_getN {ci k index n : Nat} {w : Bool} {C ref host : String} {T0 : u_T} {N : Nat} {ty0 : Nat → FieldType} {v : Value} (T : cOK X E cc own nL ret z0 l0 z1 l1) (hc : cCls ci C T0 N ty0) (h25 : ci ≠ 25) (ha : s.1 a = some (w, ci, n)) (hv : (cF s ci a)[k]? = some v) (hk : Nat.blt k N = true) (hq : Cond.fieldLinkNest own index ref (T0 k).2.1 (T0 k).2.2.1 host ∈ lw_tbl) (hs : ∀ x, X.1.2.2.2.2.fieldFound? (T0 k).1 (T0 k).2.1 (T0 k).2.2.1 = some x → X.1.2.2.2.2.fieldFound? ref (T0 k).2.1 (T0 k).2.2.1 = some x) (d : decode cc pc = .ok (.getfield index, 3)) (kk : kW X s (pc + 3) lv (v :: r)) : kW X s pc lv (.ref a :: r) := by
  intro H q cells slots ls hr hl
  have hr2 := hr
  rw [T.2.1] at hr2
  have hw9 : w = true := by
    cases w with
    | true => rfl
    | false => exact absurd (c_25 hr2.1 ha hc.2.2.2.2.2.2) h25
  subst hw9
  have hP := c_at hr2.1 ha (Or.inl rfl)
  rw [cE_o hc.2.2.2.2.2.2] at hP
  exact va_getN (C := C) (T := T0) (N := N) (ci := ci) T.1.1 T.1.2.1 T.1.2.2.2.2 hc.2.1 T.1.2.2.1 T.2.2.1 hP 0 rfl hc.1 k (Nat.le_of_ble_eq_true hk) (va_Nw.use rfl (T.2.2.2.1.1 _ _ _ _ _ _ hq)) hs hv d (kk H q cells slots ls hr hl)
theorem c_put {ci k index n : Nat} {C ref : String} {T0 : u_T} {N : Nat} {ty0 : Nat → FieldType} {v : Value} {p : Nat × Nat} {ty : FieldType} (T : cOK X E cc own nL ret z0 l0 z1 l1) (hc : cCls ci C T0 N ty0) (ha : s.1 a = some (true, ci, n)) (hp : (fdesc ci)[k]? = some p) (hv : fVal s' a p = v) (hoa : ∀ q, q ≠ p → fVal s' a q = fVal s a q) (ho : ∀ b c n, b ≠ a → cE E.2.2.1 s' b c n = cE E.2.2.1 s b c n) (hK : s'.1 = s.1) (hz : cz s' = cz s) (hcl : cl s' = cl s) (hk : Nat.blt k N = true) (hq : Cond.fieldLink own index ref (T0 k).2.1 (T0 k).2.2.1 ∈ lw_all) (hs : ∀ x, X.1.2.2.2.2.fieldFound? (T0 k).1 (T0 k).2.1 (T0 k).2.2.1 = some x → X.1.2.2.2.2.fieldFound? ref (T0 k).2.1 (T0 k).2.2.1 = some x) (hfin : (T0 k).2.2.2 = false) (hd : parseFieldDescriptor (T0 k).2.2.1 = some ty) (hn : narrow ty v = v) (hfit : fits ty v = true) (d : decode cc pc = .ok (.putfield index, 3)) (kk : cW X z1 l1 s' (pc + 3) lv r) : cW X z1 l1 s pc lv (v :: .ref a :: r) := by
  refine ⟨by rw [← hz]; exact kk.1, by rw [← hcl]; exact kk.2.1, ?_⟩
  intro H q cells slots ls hr hl
  rw [T.2.1] at hr
  obtain ⟨j, hj⟩ := cWs_ix hr.1 ha
  have hj2 := hj
  rw [cE_o hc.2.2.2.2.2.2] at hj2
  refine va_put (C := C) (T := T0) (N := N) (ci := ci) T.1.1 T.1.2.1 T.1.2.2.2.2 hc.2.1 ty0 hc.2.2.1 hc.2.2.2.1 T.1.2.2.1 T.2.2.1 (cWs_P hr.1) (cWs_D hr.1) hr.2.1.self j hj2 hc.1 k (Nat.le_of_ble_eq_true hk) (T.1.2.2.2.2 _ hq) hs hfin hd hn hfit (by rw [cF, List.length_map]; exact (List.getElem?_eq_some_iff.mp hp).1) d (fun H1 l1 p1 d1 s1 => w_sz (fun hsz => ?_))
  refine kk.2.2 H1 l1 cells slots ls ?_ hl
  rw [T.2.1]
  refine cRel_put T hr ha hj hK hz hcl ho ?_ s1 hsz
  rw [cE_o hc.2.2.2.2.2.2, ← c_fset hc.2.2.2.2.1 hp hv hoa]
  exact p1
theorem c_putN {ci k index n : Nat} {C ref host : String} {T0 : u_T} {N : Nat} {ty0 : Nat → FieldType} {v : Value} {p : Nat × Nat} {ty : FieldType} (T : cOK X E cc own nL ret z0 l0 z1 l1) (hc : cCls ci C T0 N ty0) (ha : s.1 a = some (true, ci, n)) (hp : (fdesc ci)[k]? = some p) (hv : fVal s' a p = v) (hoa : ∀ q, q ≠ p → fVal s' a q = fVal s a q) (ho : ∀ b c n, b ≠ a → cE E.2.2.1 s' b c n = cE E.2.2.1 s b c n) (hK : s'.1 = s.1) (hz : cz s' = cz s) (hcl : cl s' = cl s) (hk : Nat.blt k N = true) (hq : Cond.fieldLinkNest own index ref (T0 k).2.1 (T0 k).2.2.1 host ∈ lw_tbl) (hs : ∀ x, X.1.2.2.2.2.fieldFound? (T0 k).1 (T0 k).2.1 (T0 k).2.2.1 = some x → X.1.2.2.2.2.fieldFound? ref (T0 k).2.1 (T0 k).2.2.1 = some x) (hfin : (T0 k).2.2.2 = false) (hd : parseFieldDescriptor (T0 k).2.2.1 = some ty) (hn : narrow ty v = v) (hfit : fits ty v = true) (d : decode cc pc = .ok (.putfield index, 3)) (kk : cW X z1 l1 s' (pc + 3) lv r) : cW X z1 l1 s pc lv (v :: .ref a :: r) := by
  refine ⟨by rw [← hz]; exact kk.1, by rw [← hcl]; exact kk.2.1, ?_⟩
  intro H q cells slots ls hr hl
  rw [T.2.1] at hr
  obtain ⟨j, hj⟩ := cWs_ix hr.1 ha
  have hj2 := hj
  rw [cE_o hc.2.2.2.2.2.2] at hj2
  refine va_putN (C := C) (T := T0) (N := N) (ci := ci) T.1.1 T.1.2.1 T.1.2.2.2.2 hc.2.1 ty0 hc.2.2.1 hc.2.2.2.1 T.1.2.2.1 T.2.2.1 (cWs_P hr.1) (cWs_D hr.1) hr.2.1.self j hj2 hc.1 k (Nat.le_of_ble_eq_true hk) (va_Nw.use rfl (T.2.2.2.1.1 _ _ _ _ _ _ hq)) hs hfin hd hn hfit (by rw [cF, List.length_map]; exact (List.getElem?_eq_some_iff.mp hp).1) d (fun H1 l1 p1 d1 s1 => w_sz (fun hsz => ?_))
  refine kk.2.2 H1 l1 cells slots ls ?_ hl
  rw [T.2.1]
  refine cRel_put T hr ha hj hK hz hcl ho ?_ s1 hsz
  rw [cE_o hc.2.2.2.2.2.2, ← c_fset hc.2.2.2.2.1 hp hv hoa]
  exact p1
theorem c_putF {ci k index n : Nat} {C ref : String} {T0 : u_T} {N : Nat} {ty0 : Nat → FieldType} {v : Value} {p : Nat × Nat} {ty : FieldType} (T : cOK X E cc own nL ret z0 l0 z1 l1) (hc : cCls ci C T0 N ty0) (ha : s.1 a = some (true, ci, n)) (hp : (fdesc ci)[k]? = some p) (hv : fVal s' a p = v) (hoa : ∀ q, q ≠ p → fVal s' a q = fVal s a q) (ho : ∀ b c n, b ≠ a → cE E.2.2.1 s' b c n = cE E.2.2.1 s b c n) (hK : s'.1 = s.1) (hz : cz s' = cz s) (hcl : cl s' = cl s) (hk : Nat.blt k N = true) (hq : Cond.fieldLink own index ref (T0 k).2.1 (T0 k).2.2.1 ∈ lw_all) (hs : ∀ x, X.1.2.2.2.2.fieldFound? (T0 k).1 (T0 k).2.1 (T0 k).2.2.1 = some x → X.1.2.2.2.2.fieldFound? ref (T0 k).2.1 (T0 k).2.2.1 = some x) (hfin : (T0 k).2.2.2 = true) (hin2 : X.2.1.2.2.2.1.name = "<init>") (hdecl : (T0 k).1 = own) (hd : parseFieldDescriptor (T0 k).2.2.1 = some ty) (hn : narrow ty v = v) (hfit : fits ty v = true) (d : decode cc pc = .ok (.putfield index, 3)) (kk : cW X z1 l1 s' (pc + 3) lv r) : cW X z1 l1 s pc lv (v :: .ref a :: r) := by
  refine ⟨by rw [← hz]; exact kk.1, by rw [← hcl]; exact kk.2.1, ?_⟩
  intro H q cells slots ls hr hl
  rw [T.2.1] at hr
  obtain ⟨j, hj⟩ := cWs_ix hr.1 ha
  have hj2 := hj
  rw [cE_o hc.2.2.2.2.2.2] at hj2
  refine va_putF (C := C) (T := T0) (N := N) (ci := ci) T.1.1 T.1.2.1 T.1.2.2.2.2 hc.2.1 ty0 hc.2.2.1 hc.2.2.2.1 T.1.2.2.1 T.2.2.1 (cWs_P hr.1) (cWs_D hr.1) hr.2.1.self j hj2 hc.1 k (Nat.le_of_ble_eq_true hk) (T.1.2.2.2.2 _ hq) hs hfin hin2 hdecl hd hn hfit (by rw [cF, List.length_map]; exact (List.getElem?_eq_some_iff.mp hp).1) d (fun H1 l1 p1 d1 s1 => w_sz (fun hsz => ?_))
  refine kk.2.2 H1 l1 cells slots ls ?_ hl
  rw [T.2.1]
  refine cRel_put T hr ha hj hK hz hcl ho ?_ s1 hsz
  rw [cE_o hc.2.2.2.2.2.2, ← c_fset hc.2.2.2.2.1 hp hv hoa]
  exact p1
theorem uI_v {f : Nat} {v : Int32} : fVal (uI s f a v) a (0, f) = .int v := by simp [fVal, uI, up2]
theorem uJ_v {f : Nat} {v : Int64} : fVal (uJ s f a v) a (1, f) = .long v := by simp [fVal, uJ, up2]
theorem uR_v {f : Nat} {v : Option Nat} : fVal (uR s f a v) a (2, f) = va_rf v := by simp [fVal, uR, up2]
theorem uI_o {f : Nat} {v : Int32} (q : Nat × Nat) (h : q ≠ (0, f)) : fVal (uI s f a v) a q = fVal s a q := by
  obtain ⟨t, g⟩ := q
  unfold fVal uI up2
  split
  · have : g ≠ f := fun e => h (by subst e; simp_all)
    simp [this]
  · rfl
  · rfl
  · rfl
theorem uJ_o {f : Nat} {v : Int64} (q : Nat × Nat) (h : q ≠ (1, f)) : fVal (uJ s f a v) a q = fVal s a q := by
  obtain ⟨t, g⟩ := q
  unfold fVal uJ up2
  split
  · rfl
  · have : g ≠ f := fun e => h (by subst e; simp_all)
    simp [this]
  · rfl
  · rfl
theorem uR_o {f : Nat} {v : Option Nat} (q : Nat × Nat) (h : q ≠ (2, f)) : fVal (uR s f a v) a q = fVal s a q := by
  obtain ⟨t, g⟩ := q
  unfold fVal uR up2
  split
  · rfl
  · rfl
  · have : g ≠ f := fun e => h (by subst e; simp_all)
    simp [this]
  · rfl
theorem uI_b {f : Nat} {v : Int32} {dA : Nat → ClassId} (b c n : Nat) (h : b ≠ a) : cE dA (uI s f a v) b c n = cE dA s b c n := by
  unfold cE
  rw [cF_congr (s' := uI s f a v) (s := s) (fun q => by unfold fVal uI up2; simp [h])]
  rfl
theorem uJ_b {f : Nat} {v : Int64} {dA : Nat → ClassId} (b c n : Nat) (h : b ≠ a) : cE dA (uJ s f a v) b c n = cE dA s b c n := by
  unfold cE
  rw [cF_congr (s' := uJ s f a v) (s := s) (fun q => by unfold fVal uJ up2; simp [h])]
  rfl
theorem uR_b {f : Nat} {v : Option Nat} {dA : Nat → ClassId} (b c n : Nat) (h : b ≠ a) : cE dA (uR s f a v) b c n = cE dA s b c n := by
  unfold cE
  rw [cF_congr (s' := uR s f a v) (s := s) (fun q => by unfold fVal uR up2; simp [h])]
  rfl
theorem uA_b {i : Nat} {v : Int32} {dA : Nat → ClassId} (b c n : Nat) (h : b ≠ a) : cE dA (uA s a i v) b c n = cE dA s b c n := by
  unfold cE uA up1
  simp only [h, if_false]
  rfl
theorem uB_b {i : Nat} {v : Int64} {dA : Nat → ClassId} (b c n : Nat) (h : b ≠ a) : cE dA (uB s a i v) b c n = cE dA s b c n := by
  unfold cE uB up1
  simp only [h, if_false]
  rfl
theorem uQ_b {i : Nat} {v : Option Nat} {dA : Nat → ClassId} (b c n : Nat) (h : b ≠ a) : cE dA (uQ s a i v) b c n = cE dA s b c n := by
  unfold cE uQ up1
  simp only [h, if_false]
  rfl

theorem ca_ild {i : Int32} {K : Int32 → Option α} (T : cOK X E cc own nL ret z0 l0 z1 l1) (h : lI s a 100 i K = some z) (d : decode cc pc = .ok (.iaload, 1)) (kk : ∀ v, K v = some z → cW X z1 l1 s (pc + 1) lv (.int v :: r)) : cW X z1 l1 s pc lv (.int i :: .ref a :: r) := by
  obtain ⟨h1, h2⟩ := if_of h
  obtain ⟨w, n, ha, hin⟩ := inA_of h1
  have k := kk _ h2
  refine ⟨k.1, k.2.1, ?_⟩
  intro H q cells slots ls hr hl
  have hr2 := hr
  rw [T.2.1] at hr2
  exact va_iald T.1.1 T.1.2.1 T.2.2.1 (c_at hr2.1 ha (Or.inr (by decide))) 0 0 rfl rfl hin d (k.2.2 H q cells slots ls hr hl)
theorem ca_zld {i : Int32} {K : Int32 → Option α} (T : cOK X E cc own nL ret z0 l0 z1 l1) (h : lI s a 102 i K = some z) (d : decode cc pc = .ok (.baload, 1)) (kk : ∀ v, K v = some z → cW X z1 l1 s (pc + 1) lv (.int v :: r)) : cW X z1 l1 s pc lv (.int i :: .ref a :: r) := by
  obtain ⟨h1, h2⟩ := if_of h
  obtain ⟨w, n, ha, hin⟩ := inA_of h1
  have k := kk _ h2
  refine ⟨k.1, k.2.1, ?_⟩
  intro H q cells slots ls hr hl
  have hr2 := hr
  rw [T.2.1] at hr2
  exact va_zald T.1.1 T.1.2.1 T.2.2.1 (c_at hr2.1 ha (Or.inr (by decide))) 0 2 rfl rfl hin d (k.2.2 H q cells slots ls hr hl)
theorem ca_lld {i : Int32} {K : Int64 → Option α} (T : cOK X E cc own nL ret z0 l0 z1 l1) (h : lJ s a 101 i K = some z) (d : decode cc pc = .ok (.laload, 1)) (kk : ∀ v, K v = some z → cW X z1 l1 s (pc + 1) lv (.long v :: r)) : cW X z1 l1 s pc lv (.int i :: .ref a :: r) := by
  obtain ⟨h1, h2⟩ := if_of h
  obtain ⟨w, n, ha, hin⟩ := inA_of h1
  have k := kk _ h2
  refine ⟨k.1, k.2.1, ?_⟩
  intro H q cells slots ls hr hl
  have hr2 := hr
  rw [T.2.1] at hr2
  exact va_lald T.1.1 T.1.2.1 T.2.2.1 (c_at hr2.1 ha (Or.inr (by decide))) 0 1 rfl rfl hin d (k.2.2 H q cells slots ls hr hl)
theorem ca_bld {i : Int32} {K : Int32 → Option α} (T : cOK X E cc own nL ret z0 l0 z1 l1) (h : lI s a 103 i K = some z) (d : decode cc pc = .ok (.baload, 1)) (kk : ∀ v, K v = some z → cW X z1 l1 s (pc + 1) lv (.int v :: r)) : cW X z1 l1 s pc lv (.int i :: .ref a :: r) := by
  obtain ⟨h1, h2⟩ := if_of h
  obtain ⟨w, n, ha, hin⟩ := inA_of h1
  have k := kk _ h2
  refine ⟨k.1, k.2.1, ?_⟩
  intro H q cells slots ls hr hl
  have hr2 := hr
  rw [T.2.1] at hr2
  cases w with
  | true => exact va_bald T.1.1 T.1.2.1 T.2.2.1 (c_at hr2.1 ha (Or.inl rfl)) 0 3 rfl rfl hin d (k.2.2 H q cells slots ls hr hl)
  | false =>
    obtain ⟨cell, g1, g2, g3, g4, g5, g6, g7⟩ := hr2.1.2.2.1 a n ha
    have hlt : i.toNatClampNeg < n := Nat.not_le.mp fun q => hin (Or.inr q)
    exact W.bald T.1.1 T.1.2.1 g1 g2 g3 (fun q => hin (q.imp id (fun q => Nat.le_trans g4 q))) (g6 _ hlt) rfl rfl d (k.2.2 H q cells slots ls hr hl)
theorem ca_qld104 {i : Int32} {K : Option Nat → Option α} (T : cOK X E cc own nL ret z0 l0 z1 l1) (h : lR s a 104 i K = some z) (d : decode cc pc = .ok (.aaload, 1)) (kk : ∀ v, K v = some z → cW X z1 l1 s (pc + 1) lv (va_rf v :: r)) : cW X z1 l1 s pc lv (.int i :: .ref a :: r) := by
  obtain ⟨h1, h2⟩ := if_of h
  obtain ⟨w, n, ha, hin⟩ := inA_of h1
  have k := kk _ h2
  refine ⟨k.1, k.2.1, ?_⟩
  intro H q cells slots ls hr hl
  have hr2 := hr
  rw [T.2.1] at hr2
  exact va_aldq (C := "OverFirst$Light") T.1.1 T.1.2.1 T.2.2.1 (c_at hr2.1 ha (Or.inr (by decide))) 0 4 rfl rfl hin d (k.2.2 H q cells slots ls hr hl)
theorem ca_qld105 {i : Int32} {K : Option Nat → Option α} (T : cOK X E cc own nL ret z0 l0 z1 l1) (h : lR s a 105 i K = some z) (d : decode cc pc = .ok (.aaload, 1)) (kk : ∀ v, K v = some z → cW X z1 l1 s (pc + 1) lv (va_rf v :: r)) : cW X z1 l1 s pc lv (.int i :: .ref a :: r) := by
  obtain ⟨h1, h2⟩ := if_of h
  obtain ⟨w, n, ha, hin⟩ := inA_of h1
  have k := kk _ h2
  refine ⟨k.1, k.2.1, ?_⟩
  intro H q cells slots ls hr hl
  have hr2 := hr
  rw [T.2.1] at hr2
  exact va_aldq (C := "OverFirst$State") T.1.1 T.1.2.1 T.2.2.1 (c_at hr2.1 ha (Or.inr (by decide))) 0 5 rfl rfl hin d (k.2.2 H q cells slots ls hr hl)
theorem ca_qld106 {i : Int32} {K : Option Nat → Option α} (T : cOK X E cc own nL ret z0 l0 z1 l1) (h : lR s a 106 i K = some z) (d : decode cc pc = .ok (.aaload, 1)) (kk : ∀ v, K v = some z → cW X z1 l1 s (pc + 1) lv (va_rf v :: r)) : cW X z1 l1 s pc lv (.int i :: .ref a :: r) := by
  obtain ⟨h1, h2⟩ := if_of h
  obtain ⟨w, n, ha, hin⟩ := inA_of h1
  have k := kk _ h2
  refine ⟨k.1, k.2.1, ?_⟩
  intro H q cells slots ls hr hl
  have hr2 := hr
  rw [T.2.1] at hr2
  exact va_aldq (C := "java/lang/Object") T.1.1 T.1.2.1 T.2.2.1 (c_at hr2.1 ha (Or.inr (by decide))) 0 6 rfl rfl hin d (k.2.2 H q cells slots ls hr hl)
def isy (v : Int32) : Bool := decide (vp_nar .byte v = v)
theorem isy_vp {v : Int32} (h : isy v = true) : vp_nar .byte v = v := of_decide_eq_true h
def isc (v : Int32) : Bool := decide (narrow .char (.int v) = .int v ∧ fits .char (.int v) = true)
theorem isc_nar {v : Int32} (h : isc v = true) : narrow .char (.int v) = .int v := (of_decide_eq_true h).1
theorem isc_fit {v : Int32} (h : isc v = true) : fits .char (.int v) = true := (of_decide_eq_true h).2
def isyb (v : Int32) : Bool := decide (narrow .byte (.int v) = .int v ∧ fits .byte (.int v) = true)
theorem isyb_nar {v : Int32} (h : isyb v = true) : narrow .byte (.int v) = .int v := (of_decide_eq_true h).1
theorem isyb_fit {v : Int32} (h : isyb v = true) : fits .byte (.int v) = true := (of_decide_eq_true h).2

theorem ca_ist {i : Int32} {x : Int32} {K : CS → Option α} (T : cOK X E cc own nL ret z0 l0 z1 l1) (h : tI_ s a 100 i x K = some z) (d : decode cc pc = .ok (.iastore, 1)) (kk : ∀ s', K s' = some z → cW X z1 l1 s' (pc + 1) lv r) : cW X z1 l1 s pc lv (.int x :: .int i :: .ref a :: r) := by
  skip
  obtain ⟨h1, h2⟩ := if_of h
  obtain ⟨n, ha, hin⟩ := inW_of h1
  have k := kk _ h2
  refine ⟨k.1, k.2.1, ?_⟩
  intro H q cells slots ls hr hl
  rw [T.2.1] at hr
  obtain ⟨j, hj⟩ := cWs_ix hr.1 ha
  refine va_iast T.1.1 T.1.2.1 T.2.2.1 (cWs_P hr.1) (cWs_D hr.1) hr.2.1.self j 0 hj rfl hin d (fun H1 l1 p1 d1 s1 => w_sz (fun hsz => ?_))
  refine k.2.2 H1 l1 cells slots ls ?_ hl
  rw [T.2.1]
  refine cRel_put T hr ha hj rfl rfl rfl (fun b c n hb => uA_b b c n hb) ?_ s1 hsz
  skip
  have e : cE E.2.2.1 (uA s a i.toNatClampNeg x) a 100 n = .inl (E.2.2.1 0, n, .inl (upd (s.2.2.2.2.1 a) i.toNatClampNeg x)) := by
    simp [cE, uA, up1]
  rw [e]
  exact p1
theorem ca_zst {i : Int32} {x : Int32} {K : CS → Option α} (T : cOK X E cc own nL ret z0 l0 z1 l1) (h : gd (isb x) (tI_ s a 102 i x K) = some z) (d : decode cc pc = .ok (.bastore, 1)) (kk : ∀ s', K s' = some z → cW X z1 l1 s' (pc + 1) lv r) : cW X z1 l1 s pc lv (.int x :: .int i :: .ref a :: r) := by
  obtain ⟨hb, h⟩ := gd_of h
  obtain ⟨h1, h2⟩ := if_of h
  obtain ⟨n, ha, hin⟩ := inW_of h1
  have k := kk _ h2
  refine ⟨k.1, k.2.1, ?_⟩
  intro H q cells slots ls hr hl
  rw [T.2.1] at hr
  obtain ⟨j, hj⟩ := cWs_ix hr.1 ha
  refine va_zast T.1.1 T.1.2.1 T.2.2.1 (cWs_P hr.1) (cWs_D hr.1) hr.2.1.self j 2 hj rfl hin d (fun H1 l1 p1 d1 s1 => w_sz (fun hsz => ?_))
  refine k.2.2 H1 l1 cells slots ls ?_ hl
  rw [T.2.1]
  refine cRel_put T hr ha hj rfl rfl rfl (fun b c n hb => uA_b b c n hb) ?_ s1 hsz
  rw [isb_vp hb] at p1
  have e : cE E.2.2.1 (uA s a i.toNatClampNeg x) a 102 n = .inl (E.2.2.1 2, n, .inl (upd (s.2.2.2.2.1 a) i.toNatClampNeg x)) := by
    simp [cE, uA, up1]
  rw [e]
  exact p1
theorem ca_bst {i : Int32} {x : Int32} {K : CS → Option α} (T : cOK X E cc own nL ret z0 l0 z1 l1) (h : gd (isy x) (tI_ s a 103 i x K) = some z) (d : decode cc pc = .ok (.bastore, 1)) (kk : ∀ s', K s' = some z → cW X z1 l1 s' (pc + 1) lv r) : cW X z1 l1 s pc lv (.int x :: .int i :: .ref a :: r) := by
  obtain ⟨hb, h⟩ := gd_of h
  obtain ⟨h1, h2⟩ := if_of h
  obtain ⟨n, ha, hin⟩ := inW_of h1
  have k := kk _ h2
  refine ⟨k.1, k.2.1, ?_⟩
  intro H q cells slots ls hr hl
  rw [T.2.1] at hr
  obtain ⟨j, hj⟩ := cWs_ix hr.1 ha
  refine va_bast T.1.1 T.1.2.1 T.2.2.1 (cWs_P hr.1) (cWs_D hr.1) hr.2.1.self j 3 hj rfl hin d (fun H1 l1 p1 d1 s1 => w_sz (fun hsz => ?_))
  refine k.2.2 H1 l1 cells slots ls ?_ hl
  rw [T.2.1]
  refine cRel_put T hr ha hj rfl rfl rfl (fun b c n hb => uA_b b c n hb) ?_ s1 hsz
  rw [isy_vp hb] at p1
  have e : cE E.2.2.1 (uA s a i.toNatClampNeg x) a 103 n = .inl (E.2.2.1 3, n, .inl (upd (s.2.2.2.2.1 a) i.toNatClampNeg x)) := by
    simp [cE, uA, up1]
  rw [e]
  exact p1
theorem ca_lst {i : Int32} {x : Int64} {K : CS → Option α} (T : cOK X E cc own nL ret z0 l0 z1 l1) (h : tJ_ s a 101 i x K = some z) (d : decode cc pc = .ok (.lastore, 1)) (kk : ∀ s', K s' = some z → cW X z1 l1 s' (pc + 1) lv r) : cW X z1 l1 s pc lv (.long x :: .int i :: .ref a :: r) := by
  skip
  obtain ⟨h1, h2⟩ := if_of h
  obtain ⟨n, ha, hin⟩ := inW_of h1
  have k := kk _ h2
  refine ⟨k.1, k.2.1, ?_⟩
  intro H q cells slots ls hr hl
  rw [T.2.1] at hr
  obtain ⟨j, hj⟩ := cWs_ix hr.1 ha
  refine va_last T.1.1 T.1.2.1 T.2.2.1 (cWs_P hr.1) (cWs_D hr.1) hr.2.1.self j 1 hj rfl hin d (fun H1 l1 p1 d1 s1 => w_sz (fun hsz => ?_))
  refine k.2.2 H1 l1 cells slots ls ?_ hl
  rw [T.2.1]
  refine cRel_put T hr ha hj rfl rfl rfl (fun b c n hb => uB_b b c n hb) ?_ s1 hsz
  skip
  have e : cE E.2.2.1 (uB s a i.toNatClampNeg x) a 101 n = .inl (E.2.2.1 1, n, .inr (.inl (vp_updL (s.2.2.2.2.2.1 a) i.toNatClampNeg x))) := by
    simp [cE, uB, up1]
  rw [e]
  exact p1
theorem uQ_e {c i n t : Nat} {v : Option Nat} {dA : Nat → ClassId} (hc : c = 104 ∨ c = 105 ∨ c = 106) : cE dA (uQ s a i v) a c n = .inl (dA (c - 100), n, .inr (.inr (.inr (.inr (va_up (s.2.2.2.2.2.2.1 a) i v))))) := by
  rcases hc with rfl | rfl | rfl <;> simp [cE, uQ, up1]
theorem ca_nst104 {i : Int32} {K : CS → Option α} (T : cOK X E cc own nL ret z0 l0 z1 l1) (h : tR_ s a 104 i none K = some z) (d : decode cc pc = .ok (.aastore, 1)) (kk : ∀ s', K s' = some z → cW X z1 l1 s' (pc + 1) lv r) : cW X z1 l1 s pc lv (.null :: .int i :: .ref a :: r) := by
  obtain ⟨h1, h2⟩ := if_of h
  obtain ⟨n, ha, hin⟩ := inW_of h1
  have k := kk _ h2
  refine ⟨k.1, k.2.1, ?_⟩
  intro H q cells slots ls hr hl
  rw [T.2.1] at hr
  obtain ⟨j, hj⟩ := cWs_ix hr.1 ha
  refine va_astqN (C := "OverFirst$Light") T.1.1 T.1.2.1 T.2.2.1 (cWs_P hr.1) (cWs_D hr.1) hr.2.1.self j 4 hj rfl hin d (fun H1 l1 p1 d1 s1 => w_sz (fun hsz => ?_))
  refine k.2.2 H1 l1 cells slots ls ?_ hl
  rw [T.2.1]
  refine cRel_put T hr ha hj rfl rfl rfl (fun b c n hb => uQ_b b c n hb) ?_ s1 hsz
  rw [uQ_e (t := 0) (by decide)]
  exact p1
theorem ca_qst104 {i : Int32} {v ci n' : Nat} {w : Bool} {C : String} {T0 : u_T} {N : Nat} {ty0 : Nat → FieldType} {K : CS → Option α} (T : cOK X E cc own nL ret z0 l0 z1 l1) (hc : cCls ci C T0 N ty0) (hv : s.1 v = some (w, ci, n')) (hca : (∃ H : C = "OverFirst$Light", True) ∨ Cond.castable C "OverFirst$Light" ∈ lw_tbl) (h : tR_ s a 104 i (some v) K = some z) (d : decode cc pc = .ok (.aastore, 1)) (kk : ∀ s', K s' = some z → cW X z1 l1 s' (pc + 1) lv r) : cW X z1 l1 s pc lv (.ref v :: .int i :: .ref a :: r) := by
  obtain ⟨h1, h2⟩ := if_of h
  obtain ⟨n, ha, hin⟩ := inW_of h1
  have k := kk _ h2
  refine ⟨k.1, k.2.1, ?_⟩
  intro H q cells slots ls hr hl
  rw [T.2.1] at hr
  obtain ⟨j, hj⟩ := cWs_ix hr.1 ha
  refine vb_astq (E := "OverFirst$Light") (C := C) T.1.1 T.1.2.1 T.2.2.1 (cWs_P hr.1) (cWs_D hr.1) hr.2.1.self j 4 hj rfl (c_recv T hc hr.1 hv) ?_ hin d (fun H1 l1 p1 d1 s1 => w_sz (fun hsz => ?_))
  · intro comp c0 e1 e2
    rcases hca with ⟨rfl, -⟩ | hca
    · rw [e1] at e2
      cases e2
      exact va_assign (C := "OverFirst$Light") (by have := (T.2.2.1.1 ci _ hc.1).2; rw [show (E.1.1 ci) = comp from Option.some.inj (this.1.symm.trans e1)] at this; exact this)
    · obtain ⟨c1, t1, f1, f2, f3⟩ := Cond.castable_spec (va_Nw.use (A := X.2.1.2.1) rfl (T.2.2.2.1.2.2.2.1 _ _ hca))
      cases e1.symm.trans f2
      cases e2.symm.trans f1
      exact f3
  refine k.2.2 H1 l1 cells slots ls ?_ hl
  rw [T.2.1]
  refine cRel_put T hr ha hj rfl rfl rfl (fun b c n hb => uQ_b b c n hb) ?_ s1 hsz
  rw [uQ_e (t := 0) (by decide)]
  exact p1
theorem ca_nst105 {i : Int32} {K : CS → Option α} (T : cOK X E cc own nL ret z0 l0 z1 l1) (h : tR_ s a 105 i none K = some z) (d : decode cc pc = .ok (.aastore, 1)) (kk : ∀ s', K s' = some z → cW X z1 l1 s' (pc + 1) lv r) : cW X z1 l1 s pc lv (.null :: .int i :: .ref a :: r) := by
  obtain ⟨h1, h2⟩ := if_of h
  obtain ⟨n, ha, hin⟩ := inW_of h1
  have k := kk _ h2
  refine ⟨k.1, k.2.1, ?_⟩
  intro H q cells slots ls hr hl
  rw [T.2.1] at hr
  obtain ⟨j, hj⟩ := cWs_ix hr.1 ha
  refine va_astqN (C := "OverFirst$State") T.1.1 T.1.2.1 T.2.2.1 (cWs_P hr.1) (cWs_D hr.1) hr.2.1.self j 5 hj rfl hin d (fun H1 l1 p1 d1 s1 => w_sz (fun hsz => ?_))
  refine k.2.2 H1 l1 cells slots ls ?_ hl
  rw [T.2.1]
  refine cRel_put T hr ha hj rfl rfl rfl (fun b c n hb => uQ_b b c n hb) ?_ s1 hsz
  rw [uQ_e (t := 0) (by decide)]
  exact p1
theorem ca_qst105 {i : Int32} {v ci n' : Nat} {w : Bool} {C : String} {T0 : u_T} {N : Nat} {ty0 : Nat → FieldType} {K : CS → Option α} (T : cOK X E cc own nL ret z0 l0 z1 l1) (hc : cCls ci C T0 N ty0) (hv : s.1 v = some (w, ci, n')) (hca : (∃ H : C = "OverFirst$State", True) ∨ Cond.castable C "OverFirst$State" ∈ lw_tbl) (h : tR_ s a 105 i (some v) K = some z) (d : decode cc pc = .ok (.aastore, 1)) (kk : ∀ s', K s' = some z → cW X z1 l1 s' (pc + 1) lv r) : cW X z1 l1 s pc lv (.ref v :: .int i :: .ref a :: r) := by
  obtain ⟨h1, h2⟩ := if_of h
  obtain ⟨n, ha, hin⟩ := inW_of h1
  have k := kk _ h2
  refine ⟨k.1, k.2.1, ?_⟩
  intro H q cells slots ls hr hl
  rw [T.2.1] at hr
  obtain ⟨j, hj⟩ := cWs_ix hr.1 ha
  refine vb_astq (E := "OverFirst$State") (C := C) T.1.1 T.1.2.1 T.2.2.1 (cWs_P hr.1) (cWs_D hr.1) hr.2.1.self j 5 hj rfl (c_recv T hc hr.1 hv) ?_ hin d (fun H1 l1 p1 d1 s1 => w_sz (fun hsz => ?_))
  · intro comp c0 e1 e2
    rcases hca with ⟨rfl, -⟩ | hca
    · rw [e1] at e2
      cases e2
      exact va_assign (C := "OverFirst$State") (by have := (T.2.2.1.1 ci _ hc.1).2; rw [show (E.1.1 ci) = comp from Option.some.inj (this.1.symm.trans e1)] at this; exact this)
    · obtain ⟨c1, t1, f1, f2, f3⟩ := Cond.castable_spec (va_Nw.use (A := X.2.1.2.1) rfl (T.2.2.2.1.2.2.2.1 _ _ hca))
      cases e1.symm.trans f2
      cases e2.symm.trans f1
      exact f3
  refine k.2.2 H1 l1 cells slots ls ?_ hl
  rw [T.2.1]
  refine cRel_put T hr ha hj rfl rfl rfl (fun b c n hb => uQ_b b c n hb) ?_ s1 hsz
  rw [uQ_e (t := 0) (by decide)]
  exact p1
theorem ca_nst106 {i : Int32} {K : CS → Option α} (T : cOK X E cc own nL ret z0 l0 z1 l1) (h : tR_ s a 106 i none K = some z) (d : decode cc pc = .ok (.aastore, 1)) (kk : ∀ s', K s' = some z → cW X z1 l1 s' (pc + 1) lv r) : cW X z1 l1 s pc lv (.null :: .int i :: .ref a :: r) := by
  obtain ⟨h1, h2⟩ := if_of h
  obtain ⟨n, ha, hin⟩ := inW_of h1
  have k := kk _ h2
  refine ⟨k.1, k.2.1, ?_⟩
  intro H q cells slots ls hr hl
  rw [T.2.1] at hr
  obtain ⟨j, hj⟩ := cWs_ix hr.1 ha
  refine va_astqN (C := "java/lang/Object") T.1.1 T.1.2.1 T.2.2.1 (cWs_P hr.1) (cWs_D hr.1) hr.2.1.self j 6 hj rfl hin d (fun H1 l1 p1 d1 s1 => w_sz (fun hsz => ?_))
  refine k.2.2 H1 l1 cells slots ls ?_ hl
  rw [T.2.1]
  refine cRel_put T hr ha hj rfl rfl rfl (fun b c n hb => uQ_b b c n hb) ?_ s1 hsz
  rw [uQ_e (t := 0) (by decide)]
  exact p1
theorem ca_qst106 {i : Int32} {v ci n' : Nat} {w : Bool} {C : String} {T0 : u_T} {N : Nat} {ty0 : Nat → FieldType} {K : CS → Option α} (T : cOK X E cc own nL ret z0 l0 z1 l1) (hc : cCls ci C T0 N ty0) (hv : s.1 v = some (w, ci, n')) (hca : (∃ H : C = "java/lang/Object", True) ∨ Cond.castable C "java/lang/Object" ∈ lw_tbl) (h : tR_ s a 106 i (some v) K = some z) (d : decode cc pc = .ok (.aastore, 1)) (kk : ∀ s', K s' = some z → cW X z1 l1 s' (pc + 1) lv r) : cW X z1 l1 s pc lv (.ref v :: .int i :: .ref a :: r) := by
  obtain ⟨h1, h2⟩ := if_of h
  obtain ⟨n, ha, hin⟩ := inW_of h1
  have k := kk _ h2
  refine ⟨k.1, k.2.1, ?_⟩
  intro H q cells slots ls hr hl
  rw [T.2.1] at hr
  obtain ⟨j, hj⟩ := cWs_ix hr.1 ha
  refine vb_astq (E := "java/lang/Object") (C := C) T.1.1 T.1.2.1 T.2.2.1 (cWs_P hr.1) (cWs_D hr.1) hr.2.1.self j 6 hj rfl (c_recv T hc hr.1 hv) ?_ hin d (fun H1 l1 p1 d1 s1 => w_sz (fun hsz => ?_))
  · intro comp c0 e1 e2
    rcases hca with ⟨rfl, -⟩ | hca
    · rw [e1] at e2
      cases e2
      exact va_assign (C := "java/lang/Object") (by have := (T.2.2.1.1 ci _ hc.1).2; rw [show (E.1.1 ci) = comp from Option.some.inj (this.1.symm.trans e1)] at this; exact this)
    · obtain ⟨c1, t1, f1, f2, f3⟩ := Cond.castable_spec (va_Nw.use (A := X.2.1.2.1) rfl (T.2.2.2.1.2.2.2.1 _ _ hca))
      cases e1.symm.trans f2
      cases e2.symm.trans f1
      exact f3
  refine k.2.2 H1 l1 cells slots ls ?_ hl
  rw [T.2.1]
  refine cRel_put T hr ha hj rfl rfl rfl (fun b c n hb => uQ_b b c n hb) ?_ s1 hsz
  rw [uQ_e (t := 0) (by decide)]
  exact p1
end CR
