/-! FROM THE LAW's ENTRY TO ITS LOOP: whole_start, given the pure law -/
set_option maxRecDepth 100000
/-- the law's two new objects -/
def START (st : Nat → Option Nat) (nf : Nat) (s0 : CS) : Option (Nat × Nat × CS) := nwO s0 0 28 fun x s1 => (FX0_init st x s1).bind fun s2 => nwO s2 9 48 fun m s3 => (FX9_init nf m s3).bind fun s4 => some (x, m, s4)
/-- THE PURE LAW: from a state that holds but the constants, the two objects come, and the loop answers true on every script -/
def PureLaw : Prop := ∀ (st : Nat → Option Nat) (s0 : CS), sFx st s0 → ∃ (nf x m : Nat) (s4 : CS) (ad : Nat → Nat), START st nf s0 = some (x, m, s4) ∧ (cz s4 ≤ 1200128 + cz s0 ∧ cl s4 ≤ 5501098 + cl s0) ∧ cz s0 ≤ cz s4 ∧ twV s4 ad ∧ ad 0 = m ∧ (∀ i, i < 25 → cz s0 ≤ ad i) ∧ ∀ (xs : Nat → Int32) (L : Nat), L ≤ 448 → ∃ n nf2 : Nat, LW st nf2 xs L x (cz s0) (cl s0) n 0 (sEr s4 ad) (tau0 s4 ad) = some 1
theorem whole_of (hyp : PureLaw) {p : Program} {e : Env} {s : State} {m : MethodId} {below : List Frame} {meth : Method} {c : Code} (l : Launch) {b L : Nat} {xs : Nat → Int32} (hL : L ≤ 448) (C0 : lw_At p s m meth c b L xs) : W p l e room_1 s m #[Value.ref b] below meth c s.heap [] 0 0 (lw_Z below #[Value.ref b] s) (entryFrame m ([Value.ref b] : List Value).toArray 4) := by
  obtain ⟨hx, hb, hr, hml, hown, htt, hX9, hbl, hlk, hgv⟩ := C0
  have hts : ∀ w ∈ lw_all, w.before #[Value.ref b] s = true := fun w h => htt w (lw_all_tbl h)
  obtain ⟨D, dA, st, s0, hK, hN, hSt, hH, hF, hst⟩ := s_start htt hgv
  have hl0 : cl s0 = 0 := hF.2.2.2
  obtain ⟨nf, x, mm, s4, ad, hS, hrm, hz04, hv, had, hadz, hlaw⟩ := hyp st s0 hF
  obtain ⟨n, nf2, hLW⟩ := hlaw xs L hL
  have hz0 : s.heap.size = cz s0 := hH.2.1
  have hl := lv_entry ([Value.ref b]) (n := 4) (Nat.le_of_ble_eq_true rfl)
  rw [lg_entry_eq]
  generalize (lg_sl ([.ref b]) ++ List.replicate (4 - (lg_sl ([.ref b])).length) Slot.unset).toArray = ls at hl ⊢
  rw [← hml] at hl
  obtain ⟨E, hE⟩ : ∃ E : CE, E = (D, (fun q => s.heap.size ≤ q), dA, st) := ⟨_, rfl⟩
  obtain ⟨X, hX⟩ : ∃ X : KC CS, X = ((p, l, e, room_1, s), (m, #[Value.ref b], below, meth, c), cRel E s (cz s0) (cl s0), lw_Z below #[Value.ref b] s) := ⟨_, rfl⟩
  have T : cOK X E code R_law 4 ret (cz s0) (cl s0) (1200128 + cz s0) (5501098 + cl s0) := by
    subst hX
    subst hE
    exact ⟨⟨hx, hb, hown, hml, hts⟩, rfl, hK, hN, hr, hlk, fun q h => h, rfl, rfl, hz0, hSt⟩
  have hX1 := T.1
  have hR : cRoom X 8192 100000 := by
    subst hX
    exact ⟨Nat.le_refl _, Nat.le_refl _⟩
  have hE2 : E.2.2.2 = st := by rw [hE]
  suffices h : cW X (1200128 + cz s0) (5501098 + cl s0) s0 0 [(0, .ref b)] [] by
    have h2 := h.2.2
    subst hX
    exact h2 s.heap [] 0 0 ls ⟨by subst hE; exact hH, by subst hE; exact va_S.rf, by omega, by omega⟩ hl
  rw [← hE2] at hS
  refine c_newO kX0 q177 q178 q136 (nd0 _) T hS dL_law_0 (fun x1 s1 h => ?_)
  refine cw (k_dup hX1 dL_law_3 rfl) ?_
  obtain ⟨s2, h1, h⟩ := bd_of h
  refine c_callI_v (As := []) T (met_FX0_init _ _ _ h1) (cwI 0 T.1.2.2.2.2 (lw_meth q181) rfl rfl rfl (T.1.2.2.2.2 _ q136) (T.1.2.2.2.2 _ q179) (T.1.2.2.2.2 _ q180) rfl (by decide +kernel) (c_room hR rfl rfl)) rfl rfl dL_law_4 ?_
  refine cw (k_astore_n [(1, .ref x1), (0, .ref b)] hX1 dL_law_7 rfl rfl rfl) ?_
  refine c_newO kX9 q1631 q1629 q152 (nd9 _) T h dL_law_8 (fun m1 s3 h => ?_)
  refine cw (k_dup hX1 dL_law_11 rfl) ?_
  obtain ⟨s5, h2, h⟩ := bd_of h
  refine c_callI_v (As := []) T (met_FX9_init _ _ _ h2) (cwI 0 T.1.2.2.2.2 (lw_meth q1634) rfl rfl rfl (T.1.2.2.2.2 _ q152) (T.1.2.2.2.2 _ q1632) (T.1.2.2.2.2 _ q1633) rfl (by decide +kernel) (c_room hR rfl rfl)) rfl rfl dL_law_12 ?_
  cases h
  refine cw (k_astore_n [(2, .ref mm), (1, .ref x), (0, .ref b)] hX1 dL_law_15 rfl rfl rfl) ?_
  refine cw (k_iconst (v := 0) hX1 dL_law_16 (by decide)) ?_
  refine cw (k_istore_n [(3, .int 0), (2, .ref mm), (1, .ref x), (0, .ref b)] hX1 dL_law_17 rfl rfl rfl) ?_
  refine ⟨hrm.1, hrm.2, ?_⟩
  intro H locs cells slots ls2 hr2 hl2
  rw [T.2.1] at hr2
  obtain ⟨r1, r2, r3, r4⟩ := hr2
  have hS0 : X.1.2.2.2.2 = s := by rw [hX]
  rw [hS0] at r1 r2
  have hadl : ∀ i, i < 25 → ad i < cz s4 := fun i hi => by
    rcases Nat.eq_zero_or_pos i with rfl | hp
    · exact r1.lt hv.1
    · obtain ⟨j, rfl⟩ : ∃ j, i = j + 1 := ⟨i - 1, by omega⟩
      obtain ⟨y, hy⟩ : ∃ y, tTab[j]? = some y := ⟨_, List.getElem?_eq_getElem (by show j < 24; omega)⟩
      exact r1.lt (hv.2.1 j y hy).2
  let E1 : CE := (D, (fun q => s.heap.size ≤ q ∧ isTw ad q = false), dA, st)
  let Et : TE := (D, vwCl, tysL dA, (fun q => isTw ad q = true), ad, dA)
  let X2 : KC LWS := ((p, l, e, room_1, s), (m, #[Value.ref b], below, meth, c), lRel E1 Et s (cz s0) (cl s0) (cz s4), lw_Z below #[Value.ref b] s)
  have hcs : cSt E1 s := ⟨hSt.1.narrow (fun q h => h.1), hSt.2.1.narrow (fun q h => h.1), hSt.2.2.1.narrow (fun q h => h.1), hSt.2.2.2.1.narrow (fun q h => h.1), hSt.2.2.2.2⟩
  have T2 : lOK X2 E1 Et b L xs (cz s0) (cl s0) (cz s4) := by
    refine ⟨⟨hx, hb, hown, hml, hts⟩, rfl, hK, hN, hcs, ⟨rfl, hz0, hz04⟩, fun q h => by rw [← hz0]; exact h.1, fun q h => ⟨by rw [hz0]; omega, ?_⟩, ⟨tw_D hv.2.2, rfl, rfl, rfl⟩, fun q h => ⟨?_, fun h2 => ?_⟩, fun a c h => by rw [← hz0]; exact hst a c h, ⟨hX9, by rw [← hz0]; exact hbl⟩, rfl, rfl, hr, hlk⟩
    · cases q9 : isTw ad q with
      | false => rfl
      | true =>
        obtain ⟨i, hi, e⟩ := isTw_of q9
        have := hadl i hi
        omega
    · obtain ⟨i, hi, e⟩ := isTw_of h
      rw [← e]
      exact hadz i hi
    · have h3 : isTw ad q = false := h2.2
      have h : isTw ad q = true := h
      rw [h] at h3
      cases h3
  have K := LW_ok T2 (nf := nf2) (x := x) n 0 (sEr s4 ad) (tau0 s4 ad) hrm hLW
  have r1' : cHp (D, (fun q => s.heap.size ≤ q), dA, st) s s4 H := by rw [← hE]; exact r1
  have r2' : va_S (fun q => s.heap.size ≤ q) s.heap H locs := by
    have e9 : E.2.1 = fun q => s.heap.size ≤ q := by rw [hE]
    rw [← e9]
    exact r2
  subst hX
  refine K H locs cells slots ls2 ⟨sEr_cHp r1', tw_P (E := (D, (fun q => s.heap.size ≤ q), dA, st)) r1' hv, ?_, ⟨r3, r4⟩, Nat.le_refl _⟩ (by rw [show Et.2.2.2.2.1 0 = mm from had]; exact hl2)
  rw [← hz0]
  exact r2'
