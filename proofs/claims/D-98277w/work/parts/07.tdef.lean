/-! THE TWIN's methods, decompiled (printed by gen/gen_t.py) -/
set_option maxRecDepth 100000
/-! lay(J)V -/
def T_lay_b38 (nf : Nat) (k3 : Int64 → Int32 → TS → Option TS) (x1 : Int64) (x3 : Int32) (x4 : Int32) (τ : TS) : Option TS :=
  if 1000 ≤ (tI τ 2) then
  (k3 x1 (x3 + (-8)) τ)
  else (stA τ 1 1000 (tI τ 2) x4 fun τ1 =>
  nm (sI τ1 2 ((tI τ1 2) + 1)) fun τ2 =>
  k3 x1 (x3 + (-8)) τ2)
def T_lay_b3_s (nf : Nat) (k3 : Int64 → Int32 → TS → Option TS) (x1 : Int64) (x3 : Int32) (τ : TS) : Option TS :=
  if x3 < 0 then
  (some τ)
  else (nm (((shr64 x1 x3).toInt32) &&& 255) fun v1 =>
  if v1 = 10 then
  (T_lay_b38 nf k3 x1 x3 v1 τ)
  else (if v1 < 32 then
  (k3 x1 (x3 + (-8)) τ)
  else (if 126 < v1 then
  (k3 x1 (x3 + (-8)) τ)
  else (T_lay_b38 nf k3 x1 x3 v1 τ))))
def T_lay_b3 (nf : Nat) (n : Nat) : Int64 → Int32 → TS → Option TS := lpN (fun _ _ _ => none) (T_lay_b3_s nf) n
def T_lay (nf : Nat) (x1 : Int64) (τ : TS) : Option TS :=
  T_lay_b3 nf nf x1 56 τ
/-! feed(JJJ)I -/
def T_feed (nf : Nat) (x1 : Int64) (x3 : Int64) (x5 : Int64) (τ : TS) : Option (Int32 × TS) :=
  nm (sI τ 0 0) fun τ1 =>
  (T_lay nf x1 τ1).bind fun τ2 =>
  (T_lay nf x3 τ2).bind fun τ3 =>
  (T_lay nf x5 τ3).bind fun τ4 =>
  some (tI τ4 2, τ4)
/-! standsAsAlways(I)V -/
def T_standsAsAlways_b2_s (nf : Nat) (k2 : Int32 → Int32 → TS → Option TS) (x1 : Int32) (x2 : Int32) (τ : TS) : Option TS :=
  if 340 ≤ x2 then
  (stA τ 10 680 (x1 + 2) 10 fun τ1 =>
  stA τ1 10 680 (x1 + 3) (-1) fun τ2 =>
  stA τ2 10 680 (x1 + 4) (-1) fun τ3 =>
  stA τ3 10 680 (x1 + 9) 1 fun τ4 =>
  some τ4)
  else (stA τ 10 680 (x1 + x2) 0 fun τ5 =>
  k2 x1 (x2 + 1) τ5)
def T_standsAsAlways_b2 (nf : Nat) (n : Nat) : Int32 → Int32 → TS → Option TS := lpN (fun _ _ _ => none) (T_standsAsAlways_b2_s nf) n
def T_standsAsAlways (nf : Nat) (x1 : Int32) (τ : TS) : Option TS :=
  T_standsAsAlways_b2 nf nf x1 0 τ
/-! begins()V -/
def T_begins_b45_s (nf : Nat) (k45 : Int32 → TS → Option TS) (x1 : Int32) (τ : TS) : Option TS :=
  if 4 ≤ x1 then
  (some τ)
  else (gd (isb 0) (stA τ 21 4 x1 0 fun τ1 =>
  k45 (x1 + 1) τ1))
def T_begins_b45 (nf : Nat) (n : Nat) : Int32 → TS → Option TS := lpN (fun _ _ => none) (T_begins_b45_s nf) n
def T_begins_b2_s (nf : Nat) (k2 : Int32 → TS → Option TS) (x1 : Int32) (τ : TS) : Option TS :=
  if 120 ≤ x1 then
  (stA τ 16 60 0 0 fun τ1 =>
  nm (sI τ1 20 0) fun τ2 =>
  nm (sI τ2 22 ((tI τ2 22) + 1)) fun τ3 =>
  T_begins_b45 nf nf 0 τ3)
  else (stA τ 19 2520 x1 0 fun τ4 =>
  k2 (x1 + 1) τ4)
def T_begins_b2 (nf : Nat) (n : Nat) : Int32 → TS → Option TS := lpN (fun _ _ => none) (T_begins_b2_s nf) n
def T_begins (nf : Nat) (τ : TS) : Option TS :=
  T_begins_b2 nf nf 0 τ
/-! isDigit(I)Z -/
def T_isDigit (τ : TS) (x0 : Int32) : Option Int32 :=
  if x0 < 48 then
  (some 0)
  else (if 57 < x0 then
  (some 0)
  else (some 1))
/-! isLetter(I)Z -/
def T_isLetter (τ : TS) (x0 : Int32) : Option Int32 :=
  if x0 < 97 then
  (some 0)
  else (if 122 < x0 then
  (some 0)
  else (some 1))
/-! isSignOf(I)Z -/
def T_isSignOf (τ : TS) (x0 : Int32) : Option Int32 :=
  if x0 = 40 then
  (some 1)
  else (if x0 = 41 then
  (some 1)
  else (if x0 = 59 then
  (some 1)
  else (if x0 = 61 then
  (some 1)
  else (if x0 = 60 then
  (some 1)
  else (if x0 = 43 then
  (some 1)
  else (if x0 = 45 then
  (some 1)
  else (if x0 = 42 then
  (some 1)
  else (some 0))))))))
/-! rank(I)I -/
def T_rank (τ : TS) (x0 : Int32) : Option Int32 :=
  (T_isLetter τ x0).bind fun v1 =>
  if v1 = 0 then
  (some (x0 - 21))
  else (some (x0 - 96))
/-! cutAll()V -/
def T_cutAll_b265 (nf : Nat) (k17 : Int32 → Int32 → TS → Option TS) (x1 : Int32) (x2 : Int32) (x5 : Int64) (τ : TS) : Option TS :=
  stB τ 6 1002 x1 x5 fun τ1 =>
  k17 (x1 + 1) x2 τ1
def T_cutAll_b218 (nf : Nat) (k17 : Int32 → Int32 → TS → Option TS) (x1 : Int32) (x2 : Int32) (x4 : Int32) (x5 : Int64) (τ : TS) : Option TS :=
  if (x2 - x4) ≤ 4 then
  (stA τ 4 1002 x1 2 fun τ1 =>
  T_cutAll_b265 nf k17 x1 x2 x5 τ1)
  else (stA τ 4 1002 x1 4 fun τ2 =>
  T_cutAll_b265 nf k17 x1 x2 x5 τ2)
def T_cutAll_b159_s (nf : Nat) (k17 : Int32 → Int32 → TS → Option TS) (k159 : Int32 → Int32 → Int32 → Int64 → TS → Option TS) (x1 : Int32) (x2 : Int32) (x4 : Int32) (x5 : Int64) (τ : TS) : Option TS :=
  if (tI τ 3) ≤ x2 then
  (T_cutAll_b218 nf k17 x1 x2 x4 x5 τ)
  else (ld (tA τ 1) 1000 x2 fun v1 =>
  (T_isDigit τ v1).bind fun v2 =>
  if v2 = 0 then
  (T_cutAll_b218 nf k17 x1 x2 x4 x5 τ)
  else (if 4 ≤ (x2 - x4) then
  (k159 x1 (x2 + 1) x4 x5 τ)
  else (ld (tA τ 1) 1000 x2 fun v3 =>
  nm (((10 * x5) + v3.toInt64) - 48) fun v4 =>
  k159 x1 (x2 + 1) x4 v4 τ)))
def T_cutAll_b159 (nf : Nat) (k17 : Int32 → Int32 → TS → Option TS) (n : Nat) : Int32 → Int32 → Int32 → Int64 → TS → Option TS := lpN (fun _ _ _ _ _ => none) (T_cutAll_b159_s nf k17) n
def T_cutAll_b129 (nf : Nat) (k17 : Int32 → Int32 → TS → Option TS) (x1 : Int32) (x2 : Int32) (x4 : Int32) (x5 : Int64) (τ : TS) : Option TS :=
  if (x2 - x4) ≤ 8 then
  (stA τ 4 1002 x1 1 fun τ1 =>
  T_cutAll_b265 nf k17 x1 x2 x5 τ1)
  else (stA τ 4 1002 x1 4 fun τ2 =>
  T_cutAll_b265 nf k17 x1 x2 x5 τ2)
def T_cutAll_b70_s (nf : Nat) (k17 : Int32 → Int32 → TS → Option TS) (k70 : Int32 → Int32 → Int32 → Int64 → TS → Option TS) (x1 : Int32) (x2 : Int32) (x4 : Int32) (x5 : Int64) (τ : TS) : Option TS :=
  if (tI τ 3) ≤ x2 then
  (T_cutAll_b129 nf k17 x1 x2 x4 x5 τ)
  else (ld (tA τ 1) 1000 x2 fun v1 =>
  (T_isLetter τ v1).bind fun v2 =>
  if v2 = 0 then
  (T_cutAll_b129 nf k17 x1 x2 x4 x5 τ)
  else (if 8 ≤ (x2 - x4) then
  (k70 x1 (x2 + 1) x4 x5 τ)
  else (ld (tA τ 1) 1000 x2 fun v3 =>
  (T_rank τ v3).bind fun v4 =>
  nm ((37 * x5) + v4.toInt64) fun v5 =>
  k70 x1 (x2 + 1) x4 v5 τ)))
def T_cutAll_b70 (nf : Nat) (k17 : Int32 → Int32 → TS → Option TS) (n : Nat) : Int32 → Int32 → Int32 → Int64 → TS → Option TS := lpN (fun _ _ _ _ _ => none) (T_cutAll_b70_s nf k17) n
def T_cutAll_b17_s (nf : Nat) (k17 : Int32 → Int32 → TS → Option TS) (x1 : Int32) (x2 : Int32) (τ : TS) : Option TS :=
  if (tI τ 3) ≤ x2 then
  (stA τ 4 1002 x1 0 fun τ1 =>
  stA τ1 5 1002 x1 (tI τ1 3) fun τ2 =>
  nm (sI τ2 7 0) fun τ3 =>
  nm (sI τ3 8 0) fun τ4 =>
  some τ4)
  else (ld (tA τ 1) 1000 x2 fun v5 =>
  if v5 = 10 then
  (k17 x1 (x2 + 1) τ)
  else (if v5 = 32 then
  (k17 x1 (x2 + 1) τ)
  else (stA τ 5 1002 x1 x2 fun τ6 =>
  (T_isLetter τ6 v5).bind fun v7 =>
  if v7 = 0 then
  ((T_isDigit τ6 v5).bind fun v8 =>
  if v8 = 0 then
  ((T_isSignOf τ6 v5).bind fun v9 =>
  if v9 = 0 then
  (stA τ6 4 1002 x1 4 fun τ10 =>
  T_cutAll_b265 nf k17 x1 (x2 + 1) v5.toInt64 τ10)
  else (stA τ6 4 1002 x1 3 fun τ11 =>
  T_cutAll_b265 nf k17 x1 (x2 + 1) v5.toInt64 τ11))
  else (T_cutAll_b159 nf k17 nf x1 x2 x2 0 τ6))
  else (T_cutAll_b70 nf k17 nf x1 x2 x2 0 τ6))))
def T_cutAll_b17 (nf : Nat) (n : Nat) : Int32 → Int32 → TS → Option TS := lpN (fun _ _ _ => none) (T_cutAll_b17_s nf) n
def T_cutAll (nf : Nat) (τ : TS) : Option TS :=
  nm (sI τ 3 (tI τ 2)) fun τ1 =>
  nm (sI τ1 2 0) fun τ2 =>
  T_cutAll_b17 nf nf 0 0 τ2
/-! isWord(I)Z -/
def T_isWord (τ : TS) (x1 : Int32) : Option Int32 :=
  if (tI τ 8) = 0 then
  (ld (tA τ 4) 1002 (tI τ 7) fun v1 =>
  if v1 = 1 then
  (ld (tB τ 6) 1002 (tI τ 7) fun v2 =>
  ld (tB τ 9) 22 x1 fun v3 =>
  if v2 = v3 then
  (some 1)
  else (some 0))
  else (some 0))
  else (some 0)
/-! wrong(I)V -/
def T_wrong (x1 : Int32) (τ : TS) : Option TS :=
  if (tI τ 8) = 0 then
  (ld (tA τ 5) 1002 (tI τ 7) fun v1 =>
  nm (sI τ 8 (x1 + (16 * v1))) fun τ2 =>
  some τ2)
  else (some τ)
/-! takeNumber(II)I -/
def T_takeNumber_b70 (τ : TS) : Option (Int32 × TS) :=
  if (tI τ 8) ≤ 0 then
  (nm (sI τ 7 ((tI τ 7) + 1)) fun τ1 =>
  ld (tB τ1 6) 1002 ((tI τ1 7) - 1) fun v2 =>
  some (v2.toInt32, τ1))
  else (some (0, τ))
def T_takeNumber_b28 (x1 : Int32) (x2 : Int32) (τ : TS) : Option (Int32 × TS) :=
  if (tI τ 8) = 0 then
  (ld (tB τ 6) 1002 (tI τ 7) fun v1 =>
  if v1 < x1.toInt64 then
  ((T_wrong 4 τ).bind fun τ2 =>
  T_takeNumber_b70 τ2)
  else (ld (tB τ 6) 1002 (tI τ 7) fun v3 =>
  if v3 ≤ x2.toInt64 then
  (T_takeNumber_b70 τ)
  else ((T_wrong 4 τ).bind fun τ4 =>
  T_takeNumber_b70 τ4)))
  else (T_takeNumber_b70 τ)
def T_takeNumber (x1 : Int32) (x2 : Int32) (τ : TS) : Option (Int32 × TS) :=
  if (tI τ 8) = 0 then
  (ld (tA τ 4) 1002 (tI τ 7) fun v1 =>
  if v1 = 2 then
  (T_takeNumber_b28 x1 x2 τ)
  else ((T_wrong 1 τ).bind fun τ2 =>
  T_takeNumber_b70 τ2))
  else (T_takeNumber_b28 x1 x2 τ)
/-! wordHere(II)I -/
def T_wordHere_b5_s (nf : Nat) (τ : TS) (k5 : Int32 → Int32 → Int32 → Int32 → Option Int32) (x1 : Int32) (x2 : Int32) (x3 : Int32) (x4 : Int32) : Option Int32 :=
  if x2 ≤ x4 then
  (some x3)
  else ((T_isWord τ (x1 + x4)).bind fun v1 =>
  if v1 = 0 then
  (k5 x1 x2 x3 (x4 + 1))
  else (k5 x1 x2 x4 (x4 + 1)))
def T_wordHere_b5 (nf : Nat) (τ : TS) (n : Nat) : Int32 → Int32 → Int32 → Int32 → Option Int32 := lpN (fun _ _ _ _ => none) (T_wordHere_b5_s nf τ) n
def T_wordHere (nf : Nat) (τ : TS) (x1 : Int32) (x2 : Int32) : Option Int32 :=
  T_wordHere_b5 nf τ nf x1 x2 (-1) 0
/-! readBar()V -/
def T_readBar_b60 (nf : Nat) (x1 : Int32) (x2 : Int32) (s0 : Int32) (τ : TS) : Option TS :=
  if 0 ≤ s0 then
  (nm ((566 + (6 * x2)) + x1) fun v1 =>
  ld (tA τ 10) 680 v1 fun v2 =>
  if ((shr32 v2 s0) &&& 1) = 1 then
  ((T_wrong 3 τ).bind fun τ6 =>
  some τ6)
  else (nm (sI τ 7 ((tI τ 7) + 1)) fun τ3 =>
  ld (tA τ3 10) 680 v1 fun v4 =>
  stA τ3 10 680 v1 (v4 ||| (shl32 1 s0)) fun τ5 =>
  some τ5))
  else ((T_wrong 1 τ).bind fun τ7 =>
  some τ7)
def T_readBar (nf : Nat) (τ : TS) : Option TS :=
  nm (sI τ 7 ((tI τ 7) + 1)) fun τ1 =>
  ld (tA τ1 10) 680 340 fun v2 =>
  bd2 (T_takeNumber 0 (v2 - 1) τ1) fun v4 τ3 =>
  ld (tA τ3 10) 680 341 fun v5 =>
  bd2 (T_takeNumber 0 (v5 - 1) τ3) fun v7 τ6 =>
  if (tI τ6 8) ≤ 0 then
  ((T_wordHere nf τ6 10 2).bind fun v8 =>
  T_readBar_b60 nf v4 v7 v8 τ6)
  else (T_readBar_b60 nf v4 v7 (-1) τ6)
/-! common(II)I -/
def T_common_b4_s (nf : Nat) (τ : TS) (k4 : Int32 → Int32 → Option Int32) (x2 : Int32) (x3 : Int32) : Option Int32 :=
  if x3 = 0 then
  (some x2)
  else (d32 x3 (
  nm (rem32 x2 x3) fun v1 =>
  k4 x3 v1))
def T_common_b4 (nf : Nat) (τ : TS) (n : Nat) : Int32 → Int32 → Option Int32 := lpN (fun _ _ => none) (T_common_b4_s nf τ) n
def T_common (nf : Nat) (τ : TS) (x0 : Int32) (x1 : Int32) : Option Int32 :=
  T_common_b4 nf τ nf x0 x1
/-! hasWord(I)Z -/
def T_hasWord (x1 : Int32) (τ : TS) : Option (Int32 × TS) :=
  (T_isWord τ x1).bind fun v1 =>
  if v1 = 0 then
  (nm (sI τ 7 ((tI τ 7) + 0)) fun τ2 =>
  gd (isb v1) (some (v1, τ2)))
  else (nm (sI τ 7 ((tI τ 7) + 1)) fun τ3 =>
  gd (isb v1) (some (v1, τ3)))
/-! takeWord(I)V -/
def T_takeWord (x1 : Int32) (τ : TS) : Option TS :=
  bd2 (T_hasWord x1 τ) fun v2 τ1 =>
  if v2 = 0 then
  ((T_wrong 1 τ1).bind fun τ3 =>
  some τ3)
  else (some τ1)
/-! takeAfter(III)I -/
def T_takeAfter (x1 : Int32) (x2 : Int32) (x3 : Int32) (τ : TS) : Option (Int32 × TS) :=
  (T_takeWord x1 τ).bind fun τ1 =>
  bd2 (T_takeNumber x2 x3 τ1) fun v3 τ2 =>
  some (v3, τ2)
/-! readLight()V -/
def T_readLight_b219 (nf : Nat) (x3 : Int32) (x4 : Int32) (x5 : Int32) (x6 : Int32) (τ : TS) : Option TS :=
  if (tI τ 8) ≤ 0 then
  (stA τ 10 680 349 x6 fun τ1 =>
  stA τ1 10 680 x3 (1 + x4) fun τ2 =>
  stA τ2 10 680 (x3 + 1) x5 fun τ3 =>
  bd2 (T_takeAfter 10 0 (x5 - 1) τ3) fun v5 τ4 =>
  stA τ4 10 680 (x3 + 2) v5 fun τ6 =>
  bd2 (T_takeAfter 12 0 x5 τ6) fun v8 τ7 =>
  stA τ7 10 680 (x3 + 3) v8 fun τ9 =>
  ld (tA τ9 10) 680 347 fun v10 =>
  stA τ9 10 680 347 (v10 + 1) fun τ11 =>
  some τ11)
  else (some τ)
def T_readLight_b187 (nf : Nat) (x3 : Int32) (x4 : Int32) (x5 : Int32) (s0 : Int32) (τ : TS) : Option TS :=
  if (tI τ 8) = 0 then
  (if s0 ≤ 1200 then
  (T_readLight_b219 nf x3 x4 x5 s0 τ)
  else (nm (sI τ 7 ((tI τ 7) - 1)) fun τ1 =>
  (T_wrong 4 τ1).bind fun τ2 =>
  T_readLight_b219 nf x3 x4 x5 s0 τ2))
  else (T_readLight_b219 nf x3 x4 x5 s0 τ)
def T_readLight_b104 (nf : Nat) (x3 : Int32) (s0 : Int32) (τ : TS) : Option TS :=
  if 0 ≤ s0 then
  (nm (sI τ 7 ((tI τ 7) + 1)) fun τ1 =>
  bd2 (T_takeAfter 9 1 60 τ1) fun v3 τ2 =>
  if 0 < (tI τ2 8) then
  (ld (tA τ2 10) 680 349 fun v4 =>
  T_readLight_b187 nf x3 s0 v3 v4 τ2)
  else (if s0 < 2 then
  (ld (tA τ2 10) 680 349 fun v5 =>
  ld (tA τ2 10) 680 349 fun v6 =>
  (T_common nf τ2 v6 v3).bind fun v7 =>
  d32 v7 (
  T_readLight_b187 nf x3 s0 v3 ((v5 / v7) * v3) τ2))
  else (ld (tA τ2 10) 680 349 fun v8 =>
  T_readLight_b187 nf x3 s0 v3 v8 τ2)))
  else ((T_wrong 1 τ).bind fun τ9 =>
  some τ9)
def T_readLight_b86 (nf : Nat) (x3 : Int32) (τ : TS) : Option TS :=
  if (tI τ 8) ≤ 0 then
  ((T_wordHere nf τ 13 4).bind fun v1 =>
  T_readLight_b104 nf x3 v1 τ)
  else (T_readLight_b104 nf x3 (-1) τ)
def T_readLight (nf : Nat) (τ : TS) : Option TS :=
  nm (sI τ 7 ((tI τ 7) + 1)) fun τ1 =>
  ld (tA τ1 10) 680 340 fun v2 =>
  bd2 (T_takeNumber 0 (v2 - 1) τ1) fun v4 τ3 =>
  ld (tA τ3 10) 680 341 fun v5 =>
  bd2 (T_takeNumber 0 (v5 - 1) τ3) fun v7 τ6 =>
  nm (350 + (4 * ((6 * v7) + v4))) fun v8 =>
  if (tI τ6 8) = 0 then
  (ld (tA τ6 10) 680 v8 fun v9 =>
  if v9 ≤ 0 then
  (T_readLight_b86 nf v8 τ6)
  else (nm (sI τ6 7 ((tI τ6 7) - 1)) fun τ10 =>
  (T_wrong 3 τ10).bind fun τ11 =>
  T_readLight_b86 nf v8 τ11))
  else (T_readLight_b86 nf v8 τ6)
/-! readOnce()V -/
def T_readOnce_b36 (nf : Nat) (x1 : Int32) (τ : TS) : Option TS :=
  if (tI τ 8) ≤ 0 then
  (nm (sI τ 15 ((tI τ 15) ||| (shl32 1 x1))) fun τ1 =>
  nm (sI τ1 7 ((tI τ1 7) + 1)) fun τ2 =>
  if x1 = 4 then
  (stA τ2 10 680 (342 + x1) 1 fun τ9 =>
  some τ9)
  else (if x1 = 3 then
  (bd2 (T_takeNumber 0 9 τ2) fun v7 τ6 =>
  stA τ6 10 680 (342 + x1) v7 fun τ8 =>
  some τ8)
  else (bd2 (T_takeNumber 1 30 τ2) fun v4 τ3 =>
  stA τ3 10 680 (342 + x1) v4 fun τ5 =>
  some τ5)))
  else (some τ)
def T_readOnce (nf : Nat) (τ : TS) : Option TS :=
  (T_wordHere nf τ 4 5).bind fun v1 =>
  if 0 ≤ v1 then
  (if ((shr32 (tI τ 15) v1) &&& 1) = 1 then
  ((T_wrong 3 τ).bind fun τ2 =>
  T_readOnce_b36 nf v1 τ2)
  else (T_readOnce_b36 nf v1 τ))
  else ((T_wrong 1 τ).bind fun τ3 =>
  T_readOnce_b36 nf v1 τ3)
/-! emit(II)V -/
def T_emit (x1 : Int32) (x2 : Int32) (τ : TS) : Option TS :=
  stA τ 11 2200 (1100 + (tI τ 13)) x1 fun τ1 =>
  stA τ1 12 2200 (1100 + (tI τ1 13)) x2 fun τ2 =>
  nm (sI τ2 13 ((tI τ2 13) + 1)) fun τ3 =>
  some τ3
/-! isSign(I)Z -/
def T_isSign (τ : TS) (x1 : Int32) : Option Int32 :=
  if (tI τ 8) = 0 then
  (ld (tA τ 4) 1002 (tI τ 7) fun v1 =>
  if v1 = 3 then
  (ld (tB τ 6) 1002 (tI τ 7) fun v2 =>
  if v2 = x1.toInt64 then
  (some 1)
  else (some 0))
  else (some 0))
  else (some 0)
/-! hasSign(I)Z -/
def T_hasSign (x1 : Int32) (τ : TS) : Option (Int32 × TS) :=
  (T_isSign τ x1).bind fun v1 =>
  if v1 = 0 then
  (nm (sI τ 7 ((tI τ 7) + 0)) fun τ2 =>
  gd (isb v1) (some (v1, τ2)))
  else (nm (sI τ 7 ((tI τ 7) + 1)) fun τ3 =>
  gd (isb v1) (some (v1, τ3)))
/-! takeSign(I)V -/
def T_takeSign (x1 : Int32) (τ : TS) : Option TS :=
  (T_isSign τ x1).bind fun v1 =>
  if v1 = 0 then
  ((T_wrong 1 τ).bind fun τ2 =>
  some τ2)
  else (nm (sI τ 7 ((tI τ 7) + 1)) fun τ3 =>
  some τ3)
/-! products(I)V -/
def T_products_b5_s (nf : Nat) (rc : Int32 → TS → Option TS) (k5 : Int32 → TS → Option TS) (x1 : Int32) (τ : TS) : Option TS :=
  bd2 (T_hasSign 42 τ) fun v2 τ1 =>
  if v2 = 0 then
  (some τ1)
  else ((rc x1 τ1).bind fun τ3 =>
  (T_emit 6 0 τ3).bind fun τ4 =>
  k5 x1 τ4)
def T_products_b5 (nf : Nat) (rc : Int32 → TS → Option TS) (n : Nat) : Int32 → TS → Option TS := lpN (fun _ _ => none) (T_products_b5_s nf rc) n
def T_products (nf : Nat) (rc : Int32 → TS → Option TS) (x1 : Int32) (τ : TS) : Option TS :=
  (rc x1 τ).bind fun τ1 =>
  T_products_b5 nf rc nf x1 τ1
/-! sums(I)V -/
def T_sums_b23 (nf : Nat) (rc : Int32 → TS → Option TS) (k5 : Int32 → TS → Option TS) (x1 : Int32) (τ : TS) : Option TS :=
  (T_isSign τ 43).bind fun v1 =>
  nm (sI τ 7 ((tI τ 7) + 1)) fun τ2 =>
  (T_products nf rc x1 τ2).bind fun τ3 =>
  if v1 = 0 then
  ((T_emit 5 0 τ3).bind fun τ4 =>
  k5 x1 τ4)
  else ((T_emit 4 0 τ3).bind fun τ5 =>
  k5 x1 τ5)
def T_sums_b5_s (nf : Nat) (rc : Int32 → TS → Option TS) (k5 : Int32 → TS → Option TS) (x1 : Int32) (τ : TS) : Option TS :=
  (T_isSign τ 43).bind fun v1 =>
  if v1 = 0 then
  ((T_isSign τ 45).bind fun v2 =>
  if v2 = 0 then
  (some τ)
  else (T_sums_b23 nf rc k5 x1 τ))
  else (T_sums_b23 nf rc k5 x1 τ)
def T_sums_b5 (nf : Nat) (rc : Int32 → TS → Option TS) (n : Nat) : Int32 → TS → Option TS := lpN (fun _ _ => none) (T_sums_b5_s nf rc) n
def T_sums (nf : Nat) (rc : Int32 → TS → Option TS) (x1 : Int32) (τ : TS) : Option TS :=
  (T_products nf rc x1 τ).bind fun τ1 =>
  T_sums_b5 nf rc nf x1 τ1
/-! test(I)V -/
def T_test_b30 (nf : Nat) (rc : Int32 → TS → Option TS) (x1 : Int32) (x2 : Int32) (τ : TS) : Option TS :=
  (T_sums nf rc x1 τ).bind fun τ1 =>
  if x2 = 0 then
  ((T_emit 8 0 τ1).bind fun τ2 =>
  some τ2)
  else ((T_emit 7 0 τ1).bind fun τ3 =>
  some τ3)
def T_test (nf : Nat) (rc : Int32 → TS → Option TS) (x1 : Int32) (τ : TS) : Option TS :=
  (T_sums nf rc x1 τ).bind fun τ1 =>
  (T_isSign τ1 60).bind fun v2 =>
  bd2 (T_hasSign 60 τ1) fun v4 τ3 =>
  if v4 = 0 then
  (bd2 (T_hasSign 61 τ3) fun v6 τ5 =>
  if v6 = 0 then
  (some τ5)
  else (T_test_b30 nf rc x1 v2 τ5))
  else (T_test_b30 nf rc x1 v2 τ3)
/-! all(I)V -/
def T_all_b23 (nf : Nat) (rc : Int32 → TS → Option TS) (k5 : Int32 → TS → Option TS) (x1 : Int32) (τ : TS) : Option TS :=
  (T_isWord τ 18).bind fun v1 =>
  nm (sI τ 7 ((tI τ 7) + 1)) fun τ2 =>
  (T_test nf rc x1 τ2).bind fun τ3 =>
  if v1 = 0 then
  ((T_emit 10 0 τ3).bind fun τ4 =>
  k5 x1 τ4)
  else ((T_emit 9 0 τ3).bind fun τ5 =>
  k5 x1 τ5)
def T_all_b5_s (nf : Nat) (rc : Int32 → TS → Option TS) (k5 : Int32 → TS → Option TS) (x1 : Int32) (τ : TS) : Option TS :=
  (T_isWord τ 18).bind fun v1 =>
  if v1 = 0 then
  ((T_isWord τ 19).bind fun v2 =>
  if v2 = 0 then
  (some τ)
  else (T_all_b23 nf rc k5 x1 τ))
  else (T_all_b23 nf rc k5 x1 τ)
def T_all_b5 (nf : Nat) (rc : Int32 → TS → Option TS) (n : Nat) : Int32 → TS → Option TS := lpN (fun _ _ => none) (T_all_b5_s nf rc) n
def T_all (nf : Nat) (rc : Int32 → TS → Option TS) (x1 : Int32) (τ : TS) : Option TS :=
  (T_test nf rc x1 τ).bind fun τ1 =>
  T_all_b5 nf rc nf x1 τ1
/-! takePart(I)V -/
def T_takePart_b199 (nf : Nat) (rc : Int32 → TS → Option TS) (s0 : Int32) (s1 : Int32) (τ : TS) : Option TS :=
  (T_emit s1 s0 τ).bind fun τ1 =>
  nm (sI τ1 7 ((tI τ1 7) + 1)) fun τ2 =>
  some τ2
def T_takePart_b180 (nf : Nat) (rc : Int32 → TS → Option TS) (x2 : Int32) (x5 : Int32) (s0 : Int32) (τ : TS) : Option TS :=
  if x2 = 0 then
  (T_takePart_b199 nf rc x5 s0 τ)
  else (ld (tB τ 6) 1002 (tI τ 7) fun v1 =>
  T_takePart_b199 nf rc v1.toInt32 s0 τ)
def T_takePart_b112 (nf : Nat) (rc : Int32 → TS → Option TS) (x1 : Int32) (x2 : Int32) (x5 : Int32) (τ : TS) : Option TS :=
  if (tI τ 8) ≤ 0 then
  (bd2 (T_hasWord 17 τ) fun v2 τ1 =>
  if v2 = 0 then
  (bd2 (T_hasSign 40 τ1) fun v4 τ3 =>
  if v4 = 0 then
  (if x2 = 0 then
  (T_takePart_b180 nf rc x2 x5 2 τ3)
  else (T_takePart_b180 nf rc x2 x5 1 τ3))
  else ((T_all nf rc (x1 + 1) τ3).bind fun τ5 =>
  (T_takeSign 41 τ5).bind fun τ6 =>
  some τ6))
  else ((rc (x1 + 1) τ1).bind fun τ7 =>
  (T_emit 3 0 τ7).bind fun τ8 =>
  some τ8))
  else (some τ)
def T_takePart_b102 (nf : Nat) (rc : Int32 → TS → Option TS) (x1 : Int32) (x2 : Int32) (x5 : Int32) (τ : TS) : Option TS :=
  if x1 = 5 then
  ((T_wrong 5 τ).bind fun τ1 =>
  T_takePart_b112 nf rc x1 x2 x5 τ1)
  else (T_takePart_b112 nf rc x1 x2 x5 τ)
def T_takePart_b65 (nf : Nat) (rc : Int32 → TS → Option TS) (x1 : Int32) (x2 : Int32) (s0 : Int32) (τ : TS) : Option TS :=
  if 0 ≤ s0 then
  (T_takePart_b102 nf rc x1 x2 s0 τ)
  else (if x2 = 0 then
  ((T_isSign τ 40).bind fun v1 =>
  if v1 = 0 then
  ((T_isWord τ 17).bind fun v2 =>
  if v2 = 0 then
  ((T_wrong 1 τ).bind fun τ3 =>
  T_takePart_b112 nf rc x1 x2 s0 τ3)
  else (T_takePart_b102 nf rc x1 x2 s0 τ))
  else (T_takePart_b102 nf rc x1 x2 s0 τ))
  else (T_takePart_b102 nf rc x1 x2 s0 τ))
def T_takePart_b26 (nf : Nat) (rc : Int32 → TS → Option TS) (x1 : Int32) (s0 : Int32) (τ : TS) : Option TS :=
  (T_wordHere nf τ 10 2).bind fun v1 =>
  (T_wordHere nf τ 20 2).bind fun v2 =>
  if v1 < 0 then
  (if v2 < 0 then
  (T_takePart_b65 nf rc x1 s0 (-1) τ)
  else (T_takePart_b65 nf rc x1 s0 (2 + v2) τ))
  else (T_takePart_b65 nf rc x1 s0 v1 τ)
def T_takePart_s (nf : Nat) (rc : Int32 → TS → Option TS) (x1 : Int32) (τ : TS) : Option TS :=
  if (tI τ 8) ≤ 0 then
  (ld (tA τ 4) 1002 (tI τ 7) fun v1 =>
  if v1 = 2 then
  (T_takePart_b26 nf rc x1 1 τ)
  else (T_takePart_b26 nf rc x1 0 τ))
  else (some τ)
def T_takePart (nf : Nat) (dp : Nat) : Int32 → TS → Option TS := lpN (fun _ _ => none) (T_takePart_s nf) dp
/-! isName()Z -/
def T_isName (nf : Nat) (τ : TS) : Option Int32 :=
  if (tI τ 8) = 0 then
  (ld (tA τ 4) 1002 (tI τ 7) fun v1 =>
  if v1 = 1 then
  ((T_wordHere nf τ 0 20).bind fun v2 =>
  if 0 ≤ v2 then
  (some 0)
  else (some 1))
  else (some 0))
  else (some 0)
/-! readRule()V -/
def T_readRule_b105 (nf : Nat) (x1 : Int32) (τ : TS) : Option TS :=
  if (tI τ 8) ≤ 0 then
  (ld (tB τ 6) 1002 (tI τ 7) fun v1 =>
  stB τ 14 4 x1 v1 fun τ2 =>
  nm (sI τ2 7 ((tI τ2 7) + 1)) fun τ3 =>
  stA τ3 10 680 (620 + x1) (tI τ3 13) fun τ4 =>
  (T_all nf (T_takePart nf 10) 0 τ4).bind fun τ5 =>
  (T_emit 0 0 τ5).bind fun τ6 =>
  ld (tA τ6 10) 680 348 fun v7 =>
  stA τ6 10 680 348 (v7 + 1) fun τ8 =>
  some τ8)
  else (some τ)
def T_readRule_b81 (nf : Nat) (x1 : Int32) (x2 : Int32) (τ : TS) : Option TS :=
  (T_isName nf τ).bind fun v1 =>
  if v1 = 0 then
  ((T_wrong 1 τ).bind fun τ3 =>
  T_readRule_b105 nf x1 τ3)
  else (if x2 = 0 then
  (T_readRule_b105 nf x1 τ)
  else ((T_wrong 3 τ).bind fun τ2 =>
  T_readRule_b105 nf x1 τ2))
def T_readRule_b34_s (nf : Nat) (k34 : Int32 → Int32 → Int32 → TS → Option TS) (x1 : Int32) (x2 : Int32) (x3 : Int32) (τ : TS) : Option TS :=
  if x1 ≤ x3 then
  (T_readRule_b81 nf x1 x2 τ)
  else (if (tI τ 8) = 0 then
  (if x2 = 0 then
  (ld (tB τ 14) 4 x3 fun v1 =>
  ld (tB τ 6) 1002 (tI τ 7) fun v2 =>
  if v1 = v2 then
  (k34 x1 1 (x3 + 1) τ)
  else (k34 x1 0 (x3 + 1) τ))
  else (k34 x1 1 (x3 + 1) τ))
  else (T_readRule_b81 nf x1 x2 τ))
def T_readRule_b34 (nf : Nat) (n : Nat) : Int32 → Int32 → Int32 → TS → Option TS := lpN (fun _ _ _ _ => none) (T_readRule_b34_s nf) n
def T_readRule (nf : Nat) (τ : TS) : Option TS :=
  ld (tA τ 10) 680 348 fun v1 =>
  if v1 = 4 then
  ((T_wrong 5 τ).bind fun τ3 =>
  some τ3)
  else (nm (sI τ 7 ((tI τ 7) + 1)) fun τ2 =>
  T_readRule_b34 nf nf v1 0 0 τ2)
/-! readLine()V -/
def T_readLine (nf : Nat) (τ : TS) : Option TS :=
  (T_isWord τ 1).bind fun v1 =>
  if v1 = 0 then
  ((T_isWord τ 2).bind fun v2 =>
  if v2 = 0 then
  ((T_isWord τ 3).bind fun v3 =>
  if v3 = 0 then
  ((T_readOnce nf τ).bind fun τ4 =>
  some τ4)
  else ((T_readRule nf τ).bind fun τ5 =>
  some τ5))
  else ((T_readBar nf τ).bind fun τ6 =>
  some τ6))
  else ((T_readLight nf τ).bind fun τ7 =>
  some τ7)
/-! town()I -/
def T_town_b144_s (nf : Nat) (k144 : Int32 → TS → Option (Int32 × TS)) (x1 : Int32) (τ : TS) : Option (Int32 × TS) :=
  if (tI τ 13) ≤ x1 then
  ((T_begins nf τ).bind fun τ1 =>
  some (0, τ1))
  else (ld (tA τ 11) 2200 (1100 + x1) fun v2 =>
  stA τ 11 2200 x1 v2 fun τ3 =>
  ld (tA τ3 12) 2200 (1100 + x1) fun v4 =>
  stA τ3 12 2200 x1 v4 fun τ5 =>
  k144 (x1 + 1) τ5)
def T_town_b144 (nf : Nat) (n : Nat) : Int32 → TS → Option (Int32 × TS) := lpN (fun _ _ => none) (T_town_b144_s nf) n
def T_town_b113_s (nf : Nat) (k113 : Int32 → TS → Option (Int32 × TS)) (x1 : Int32) (τ : TS) : Option (Int32 × TS) :=
  if 340 ≤ x1 then
  (T_town_b144 nf nf 0 τ)
  else (ld (tA τ 10) 680 (340 + x1) fun v1 =>
  stA τ 10 680 x1 v1 fun τ2 =>
  k113 (x1 + 1) τ2)
def T_town_b113 (nf : Nat) (n : Nat) : Int32 → TS → Option (Int32 × TS) := lpN (fun _ _ => none) (T_town_b113_s nf) n
def T_town_b99 (nf : Nat) (τ : TS) : Option (Int32 × TS) :=
  if (tI τ 8) ≤ 0 then
  (T_town_b113 nf nf 0 τ)
  else (some (tI τ 8, τ))
def T_town_b67_s (nf : Nat) (k67 : TS → Option (Int32 × TS)) (τ : TS) : Option (Int32 × TS) :=
  if (tI τ 8) = 0 then
  (ld (tA τ 4) 1002 (tI τ 7) fun v1 =>
  if v1 = 0 then
  (T_town_b99 nf τ)
  else ((T_readLine nf τ).bind fun τ2 =>
  (T_takeSign 59 τ2).bind fun τ3 =>
  k67 τ3))
  else (T_town_b99 nf τ)
def T_town_b67 (nf : Nat) (n : Nat) : TS → Option (Int32 × TS) := lpN (fun _ => none) (T_town_b67_s nf) n
def T_town (nf : Nat) (τ : TS) : Option (Int32 × TS) :=
  nm (sI τ 0 0) fun τ1 =>
  (T_cutAll nf τ1).bind fun τ2 =>
  nm (sI τ2 13 0) fun τ3 =>
  nm (sI τ3 15 0) fun τ4 =>
  (T_standsAsAlways nf 340 τ4).bind fun τ5 =>
  (T_takeWord 0 τ5).bind fun τ6 =>
  bd2 (T_takeNumber 1 6 τ6) fun v8 τ7 =>
  stA τ7 10 680 340 v8 fun τ9 =>
  bd2 (T_takeNumber 1 9 τ9) fun v11 τ10 =>
  stA τ10 10 680 341 v11 fun τ12 =>
  (T_takeSign 59 τ12).bind fun τ13 =>
  T_town_b67 nf nf τ13
/-! isBarred(III)Z -/
def T_isBarred (τ : TS) (x1 : Int32) (x2 : Int32) (x3 : Int32) : Option Int32 :=
  ld (tA τ 10) 680 ((226 + (6 * x2)) + x1) fun v1 =>
  if ((shr32 v1 x3) &&& 1) = 1 then
  (some 1)
  else (some 0)
/-! deep()I -/
def T_deep (τ : TS) : Option Int32 :=
  ld (tA τ 10) 680 1 fun v1 =>
  some v1
/-! wide()I -/
def T_wide (τ : TS) : Option Int32 :=
  ld (tA τ 10) 680 0 fun v1 =>
  some v1
/-! isThere(III)Z -/
def T_isThere (τ : TS) (x1 : Int32) (x2 : Int32) (x3 : Int32) : Option Int32 :=
  if x3 = 0 then
  ((T_wide τ).bind fun v2 =>
  if (v2 - 1) ≤ x1 then
  (some 0)
  else (some 1))
  else ((T_deep τ).bind fun v1 =>
  if (v1 - 1) ≤ x2 then
  (some 0)
  else (some 1))
/-! walk()I -/
def T_walk_b192_s (nf : Nat) (k192 : Int32 → Int32 → TS → Option (Int32 × TS)) (x1 : Int32) (x4 : Int32) (τ : TS) : Option (Int32 × TS) :=
  if (2 * x1) ≤ x4 then
  (some (0, τ))
  else (ld (tA τ 16) 60 (30 + x4) fun v1 =>
  stA τ 16 60 (1 + x4) v1 fun τ2 =>
  k192 x1 (x4 + 1) τ2)
def T_walk_b192 (nf : Nat) (n : Nat) : Int32 → Int32 → TS → Option (Int32 × TS) := lpN (fun _ _ _ => none) (T_walk_b192_s nf) n
def T_walk_b170 (nf : Nat) (x1 : Int32) (τ : TS) : Option (Int32 × TS) :=
  if (tI τ 8) ≤ 0 then
  (stA τ 16 60 0 x1 fun τ1 =>
  T_walk_b192 nf nf x1 0 τ1)
  else (some (tI τ 8, τ))
def T_walk_b161 (nf : Nat) (k15 : Int32 → Int32 → Int32 → TS → Option (Int32 × TS)) (x1 : Int32) (x2 : Int32) (x3 : Int32) (τ : TS) : Option (Int32 × TS) :=
  (T_takeSign 59 τ).bind fun τ1 =>
  k15 x1 x2 x3 τ1
def T_walk_b97 (nf : Nat) (k15 : Int32 → Int32 → Int32 → TS → Option (Int32 × TS)) (x1 : Int32) (x2 : Int32) (x3 : Int32) (x4 : Int32) (τ : TS) : Option (Int32 × TS) :=
  if (tI τ 8) = 0 then
  (nm (sI τ 7 ((tI τ 7) + 1)) fun τ1 =>
  stA τ1 16 60 (30 + (2 * x1)) x4 fun τ2 =>
  bd2 (T_takeNumber 0 9999 τ2) fun v4 τ3 =>
  stA τ3 16 60 (31 + (2 * x1)) v4 fun τ5 =>
  nm (x2 + (1 - x4)) fun v6 =>
  nm (x3 + x4) fun v7 =>
  T_walk_b161 nf k15 (x1 + 1) v6 v7 τ5)
  else (T_walk_b161 nf k15 x1 x2 x3 τ)
def T_walk_b78 (nf : Nat) (k15 : Int32 → Int32 → Int32 → TS → Option (Int32 × TS)) (x1 : Int32) (x2 : Int32) (x3 : Int32) (x4 : Int32) (τ : TS) : Option (Int32 × TS) :=
  (T_wrong 2 τ).bind fun τ1 =>
  T_walk_b97 nf k15 x1 x2 x3 x4 τ1
def T_walk_b15_s (nf : Nat) (k15 : Int32 → Int32 → Int32 → TS → Option (Int32 × TS)) (x1 : Int32) (x2 : Int32) (x3 : Int32) (τ : TS) : Option (Int32 × TS) :=
  if (tI τ 8) = 0 then
  (ld (tA τ 4) 1002 (tI τ 7) fun v1 =>
  if v1 = 0 then
  (T_walk_b170 nf x1 τ)
  else ((T_wordHere nf τ 10 2).bind fun v2 =>
  if 0 ≤ v2 then
  ((T_isThere τ x2 x3 v2).bind fun v3 =>
  if v3 = 0 then
  (T_walk_b78 nf k15 x1 x2 x3 v2 τ)
  else ((T_isBarred τ x2 x3 v2).bind fun v4 =>
  if v4 = 0 then
  (if x1 = 13 then
  ((T_wrong 5 τ).bind fun τ5 =>
  T_walk_b97 nf k15 x1 x2 x3 v2 τ5)
  else (T_walk_b97 nf k15 x1 x2 x3 v2 τ))
  else (T_walk_b78 nf k15 x1 x2 x3 v2 τ)))
  else ((T_wrong 1 τ).bind fun τ6 =>
  T_walk_b97 nf k15 x1 x2 x3 v2 τ6)))
  else (T_walk_b170 nf x1 τ)
def T_walk_b15 (nf : Nat) (n : Nat) : Int32 → Int32 → Int32 → TS → Option (Int32 × TS) := lpN (fun _ _ _ _ => none) (T_walk_b15_s nf) n
def T_walk (nf : Nat) (τ : TS) : Option (Int32 × TS) :=
  nm (sI τ 0 0) fun τ1 =>
  (T_cutAll nf τ1).bind fun τ2 =>
  T_walk_b15 nf nf 0 0 0 τ2
/-! isCorner(II)Z -/
def T_isCorner (τ : TS) (x1 : Int32) (x2 : Int32) : Option Int32 :=
  if x1 < 0 then
  (some 0)
  else ((T_wide τ).bind fun v1 =>
  if v1 ≤ x1 then
  (some 0)
  else (if x2 < 0 then
  (some 0)
  else ((T_deep τ).bind fun v2 =>
  if v2 ≤ x2 then
  (some 0)
  else (some 1))))
/-! kindAt(II)I -/
def T_kindAt (τ : TS) (x1 : Int32) (x2 : Int32) : Option Int32 :=
  ld (tA τ 10) 680 (10 + (4 * ((6 * x2) + x1))) fun v1 =>
  some (v1 - 1)
/-! isKnown(II)Z -/
def T_isKnown (τ : TS) (x1 : Int32) (x2 : Int32) : Option Int32 :=
  (T_kindAt τ x1 x2).bind fun v1 =>
  if v1 = 1 then
  (ld (tA τ 19) 2520 ((4 + (6 * x2)) + x1) fun v2 =>
  if v2 = 1 then
  (some 1)
  else (some 0))
  else (some 0)
/-! lightAt(III)I -/
def T_lightAt (τ : TS) (x1 : Int32) (x2 : Int32) (x3 : Int32) : Option Int32 :=
  ld (tA τ 10) 680 ((10 + (4 * ((6 * x2) + x1))) + x3) fun v1 =>
  some v1
/-! within(III)Z -/
def T_within (τ : TS) (x0 : Int32) (x1 : Int32) (x2 : Int32) : Option Int32 :=
  if x0 < x1 then
  (some 0)
  else (if x2 < x0 then
  (some 0)
  else (some 1))
/-! light(III)I -/
def T_light_b39 (x1 : Int32) (x2 : Int32) (x3 : Int32) (τ : TS) : Option (Int32 × TS) :=
  if x3 = 5 then
  (ld (tA τ 10) 680 ((226 + (6 * x2)) + x1) fun v4 =>
  some (v4, τ))
  else (if x3 = 0 then
  ((T_kindAt τ x1 x2).bind fun v3 =>
  some (v3, τ))
  else (if 4 ≤ x3 then
  ((T_isKnown τ x1 x2).bind fun v1 =>
  if v1 = 0 then
  (some (0, τ))
  else (some (1, τ)))
  else ((T_lightAt τ x1 x2 x3).bind fun v2 =>
  some (v2, τ))))
def T_light (x1 : Int32) (x2 : Int32) (x3 : Int32) (τ : TS) : Option (Int32 × TS) :=
  nm (sI τ 0 0) fun τ1 =>
  (T_isCorner τ1 x1 x2).bind fun v2 =>
  if v2 = 0 then
  (some ((-1), τ1))
  else ((T_within τ1 x3 0 5).bind fun v3 =>
  if v3 = 0 then
  (some ((-1), τ1))
  else (if 5 ≤ x3 then
  (T_light_b39 x1 x2 x3 τ1)
  else ((T_kindAt τ1 x1 x2).bind fun v4 =>
  if 0 ≤ v4 then
  (T_light_b39 x1 x2 x3 τ1)
  else (some ((-1), τ1)))))
/-! isGreen(IIII)Z -/
def T_isGreen_b47 (τ : TS) (x3 : Int32) (s0 : Int32) : Option Int32 :=
  if x3 = 0 then
  (if s0 = 1 then
  (some 1)
  else (some 0))
  else (if s0 = 0 then
  (some 1)
  else (some 0))
def T_isGreen (τ : TS) (x1 : Int32) (x2 : Int32) (x3 : Int32) (x4 : Int32) : Option Int32 :=
  (T_lightAt τ x1 x2 1).bind fun v1 =>
  (T_lightAt τ x1 x2 2).bind fun v2 =>
  d32 v1 (
  d32 v1 (
  nm (rem32 ((rem32 (x4 - v2) v1) + v1) v1) fun v3 =>
  (T_lightAt τ x1 x2 3).bind fun v4 =>
  if v4 ≤ v3 then
  (T_isGreen_b47 τ x3 0)
  else (T_isGreen_b47 τ x3 1)))
/-! isTimed(II)Z -/
def T_isTimed (τ : TS) (x1 : Int32) (x2 : Int32) : Option Int32 :=
  (T_kindAt τ x1 x2).bind fun v1 =>
  if v1 = 0 then
  (some 1)
  else ((T_kindAt τ x1 x2).bind fun v2 =>
  if v2 = 1 then
  (some 1)
  else (some 0))
/-! canGo(III)Z -/
def T_canGo_b48 (τ : TS) (x1 : Int32) (x2 : Int32) (x3 : Int32) (s0 : Int32) : Option Int32 :=
  (T_isThere τ x1 x2 x3).bind fun v1 =>
  if v1 = 0 then
  (some 0)
  else ((T_isBarred τ x1 x2 x3).bind fun v2 =>
  if v2 = 0 then
  (if s0 = 0 then
  (some 0)
  else (some 1))
  else (some 0))
def T_canGo (τ : TS) (x1 : Int32) (x2 : Int32) (x3 : Int32) : Option Int32 :=
  (T_isTimed τ x1 x2).bind fun v1 =>
  if v1 = 0 then
  (T_canGo_b48 τ x1 x2 x3 1)
  else (if x3 = 0 then
  ((T_lightAt τ x1 x2 3).bind fun v4 =>
  if v4 ≤ 0 then
  (T_canGo_b48 τ x1 x2 x3 0)
  else (T_canGo_b48 τ x1 x2 x3 1))
  else ((T_lightAt τ x1 x2 3).bind fun v2 =>
  (T_lightAt τ x1 x2 1).bind fun v3 =>
  if v3 ≤ v2 then
  (T_canGo_b48 τ x1 x2 x3 0)
  else (T_canGo_b48 τ x1 x2 x3 1)))
/-! isSecond(I)Z -/
def T_isSecond (τ : TS) (x1 : Int32) : Option Int32 :=
  (T_within τ x1 0 1000000).bind fun v1 =>
  gd (isb v1) (some v1)
/-! mayAsk(IIII)Z -/
def T_mayAsk (τ : TS) (x1 : Int32) (x2 : Int32) (x3 : Int32) (x4 : Int32) : Option Int32 :=
  (T_isCorner τ x1 x2).bind fun v1 =>
  if v1 = 0 then
  (some 0)
  else ((T_within τ x3 0 1).bind fun v2 =>
  if v2 = 0 then
  (some 0)
  else ((T_isSecond τ x4).bind fun v3 =>
  if v3 = 0 then
  (some 0)
  else ((T_canGo τ x1 x2 x3).bind fun v4 =>
  if v4 = 0 then
  (some 0)
  else (some 1))))
/-! green(IIII)I -/
def T_green_b68 (s0 : Int32) (τ : TS) : Option (Int32 × TS) :=
  if s0 = 0 then
  (some (0, τ))
  else (some (1, τ))
def T_green (x1 : Int32) (x2 : Int32) (x3 : Int32) (x4 : Int32) (τ : TS) : Option (Int32 × TS) :=
  nm (sI τ 0 0) fun τ1 =>
  (T_mayAsk τ1 x1 x2 x3 x4).bind fun v2 =>
  if v2 = 0 then
  (some ((-1), τ1))
  else ((T_kindAt τ1 x1 x2).bind fun v3 =>
  if v3 = 2 then
  (if x3 = 1 then
  (T_green_b68 1 τ1)
  else (T_green_b68 0 τ1))
  else ((T_isTimed τ1 x1 x2).bind fun v4 =>
  if v4 = 0 then
  (T_green_b68 1 τ1)
  else ((T_isGreen τ1 x1 x2 x3 x4).bind fun v5 =>
  if v5 = 0 then
  (T_green_b68 0 τ1)
  else (T_green_b68 1 τ1))))
/-! waitFor(IIII)I -/
def T_waitFor_b29_s (nf : Nat) (τ : TS) (k29 : Int32 → Int32 → Int32 → Int32 → Int32 → Option Int32) (x1 : Int32) (x2 : Int32) (x3 : Int32) (x4 : Int32) (x5 : Int32) : Option Int32 :=
  (T_isTimed τ x1 x2).bind fun v1 =>
  if v1 = 0 then
  (some x5)
  else ((T_isGreen τ x1 x2 x3 (x4 + x5)).bind fun v2 =>
  if v2 = 0 then
  (k29 x1 x2 x3 x4 (x5 + 1))
  else (some x5))
def T_waitFor_b29 (nf : Nat) (τ : TS) (n : Nat) : Int32 → Int32 → Int32 → Int32 → Int32 → Option Int32 := lpN (fun _ _ _ _ _ => none) (T_waitFor_b29_s nf τ) n
def T_waitFor (nf : Nat) (τ : TS) (x1 : Int32) (x2 : Int32) (x3 : Int32) (x4 : Int32) : Option Int32 :=
  (T_kindAt τ x1 x2).bind fun v1 =>
  if v1 = 2 then
  (if x3 = 0 then
  ((T_lightAt τ x1 x2 2).bind fun v2 =>
  some v2)
  else (some 0))
  else (T_waitFor_b29 nf τ nf x1 x2 x3 x4 0)
/-! until(IIII)I -/
def T_until (nf : Nat) (x1 : Int32) (x2 : Int32) (x3 : Int32) (x4 : Int32) (τ : TS) : Option (Int32 × TS) :=
  nm (sI τ 0 0) fun τ1 =>
  (T_mayAsk τ1 x1 x2 x3 x4).bind fun v2 =>
  if v2 = 0 then
  (some ((-1), τ1))
  else ((T_waitFor nf τ1 x1 x2 x3 x4).bind fun v3 =>
  some (v3, τ1))
/-! copies(III)V -/
def T_copies_b3_s (nf : Nat) (k3 : Int32 → Int32 → Int32 → Int32 → TS → Option TS) (x1 : Int32) (x2 : Int32) (x3 : Int32) (x4 : Int32) (τ : TS) : Option TS :=
  if x3 ≤ x4 then
  (some τ)
  else (ld (tA τ 19) 2520 ((120 * x1) + x4) fun v1 =>
  stA τ 19 2520 ((120 * x2) + x4) v1 fun τ2 =>
  k3 x1 x2 x3 (x4 + 1) τ2)
def T_copies_b3 (nf : Nat) (n : Nat) : Int32 → Int32 → Int32 → Int32 → TS → Option TS := lpN (fun _ _ _ _ _ => none) (T_copies_b3_s nf) n
def T_copies (nf : Nat) (x1 : Int32) (x2 : Int32) (x3 : Int32) (τ : TS) : Option TS :=
  T_copies_b3 nf nf x1 x2 x3 0 τ
/-! keeps()V -/
def T_keeps_b47 (nf : Nat) (τ : TS) : Option TS :=
  (T_copies nf 0 (5 + (tI τ 20)) 58 τ).bind fun τ1 =>
  nm (sI τ1 20 ((tI τ1 20) + 1)) fun τ2 =>
  some τ2
def T_keeps_b11_s (nf : Nat) (k11 : Int32 → TS → Option TS) (x1 : Int32) (τ : TS) : Option TS :=
  if 16 ≤ x1 then
  (nm (sI τ 20 ((tI τ 20) - 1)) fun τ1 =>
  T_keeps_b47 nf τ1)
  else ((T_copies nf (5 + x1) ((5 + x1) - 1) 58 τ).bind fun τ2 =>
  k11 (x1 + 1) τ2)
def T_keeps_b11 (nf : Nat) (n : Nat) : Int32 → TS → Option TS := lpN (fun _ _ => none) (T_keeps_b11_s nf) n
def T_keeps (nf : Nat) (τ : TS) : Option TS :=
  if (tI τ 20) = 16 then
  (T_keeps_b11 nf nf 1 τ)
  else (T_keeps_b47 nf τ)
/-! runTime()I -/
def T_runTime (τ : TS) : Option Int32 :=
  ld (tA τ 10) 680 3 fun v1 =>
  if 0 ≤ v1 then
  (ld (tA τ 10) 680 3 fun v2 =>
  some v2)
  else (ld (tA τ 10) 680 2 fun v3 =>
  some v3)
/-! go(IZ)I -/
def T_go_b114 (nf : Nat) (x1 : Int32) (x2 : Int32) (s0 : Int32) (s1 : Int32) (s2 : Int32) (s3 : Int32) (τ : TS) : Option (Int32 × TS) :=
  stA τ 19 2520 s3 (s2 + (s1 + s0)) fun τ1 =>
  ld (tA τ1 19) 2520 0 fun v2 =>
  stA τ1 19 2520 0 (v2 + (1 - x1)) fun τ3 =>
  ld (tA τ3 19) 2520 1 fun v4 =>
  stA τ3 19 2520 1 (v4 + x1) fun τ5 =>
  ld (tA τ5 19) 2520 3 fun v6 =>
  if x2 = 0 then
  (stA τ5 19 2520 3 (v6 + 0) fun τ7 =>
  ld (tA τ7 19) 2520 2 fun v8 =>
  some (v8, τ7))
  else (stA τ5 19 2520 3 (v6 + 1) fun τ9 =>
  ld (tA τ9 19) 2520 2 fun v10 =>
  some (v10, τ9))
def T_go_b72 (nf : Nat) (x1 : Int32) (x2 : Int32) (x3 : Int32) (x4 : Int32) (τ : TS) : Option (Int32 × TS) :=
  (T_keeps nf τ).bind fun τ1 =>
  ld (tA τ1 19) 2520 2 fun v2 =>
  ld (tA τ1 19) 2520 2 fun v3 =>
  (T_waitFor nf τ1 x3 x4 x1 v3).bind fun v4 =>
  if x2 = 0 then
  (ld (tA τ1 10) 680 2 fun v5 =>
  T_go_b114 nf x1 x2 v5 v4 v2 2 τ1)
  else ((T_runTime τ1).bind fun v6 =>
  T_go_b114 nf x1 x2 v6 v4 v2 2 τ1)
def T_go (nf : Nat) (x1 : Int32) (x2 : Int32) (τ : TS) : Option (Int32 × TS) :=
  nm (sI τ 0 0) fun τ1 =>
  ld (tA τ1 19) 2520 0 fun v2 =>
  ld (tA τ1 19) 2520 1 fun v3 =>
  (T_within τ1 x1 0 1).bind fun v4 =>
  if v4 = 0 then
  (some ((-1), τ1))
  else ((T_canGo τ1 v2 v3 x1).bind fun v5 =>
  if v5 = 0 then
  (some ((-1), τ1))
  else (if x2 = 0 then
  (T_go_b72 nf x1 x2 v2 v3 τ1)
  else (ld (tA τ1 10) 680 6 fun v6 =>
  if v6 = 1 then
  (some ((-1), τ1))
  else (ld (tA τ1 19) 2520 3 fun v7 =>
  ld (tA τ1 10) 680 5 fun v8 =>
  if v7 = v8 then
  (some ((-1), τ1))
  else (T_go_b72 nf x1 x2 v2 v3 τ1)))))
/-! stay(I)I -/
def T_stay (nf : Nat) (x1 : Int32) (τ : TS) : Option (Int32 × TS) :=
  nm (sI τ 0 0) fun τ1 =>
  (T_within τ1 x1 1 1000).bind fun v2 =>
  if v2 = 0 then
  (some ((-1), τ1))
  else ((T_keeps nf τ1).bind fun τ3 =>
  ld (tA τ3 19) 2520 2 fun v4 =>
  stA τ3 19 2520 2 (v4 + x1) fun τ5 =>
  ld (tA τ5 19) 2520 2 fun v6 =>
  some (v6, τ5))
/-! look()Z -/
def T_look (nf : Nat) (τ : TS) : Option (Int32 × TS) :=
  nm (sI τ 0 0) fun τ1 =>
  ld (tA τ1 19) 2520 0 fun v2 =>
  ld (tA τ1 19) 2520 1 fun v3 =>
  (T_kindAt τ1 v2 v3).bind fun v4 =>
  if v4 = 1 then
  ((T_isKnown τ1 v2 v3).bind fun v5 =>
  if v5 = 0 then
  ((T_keeps nf τ1).bind fun τ6 =>
  stA τ6 19 2520 ((4 + (6 * v3)) + v2) 1 fun τ7 =>
  nm (sI τ7 22 ((tI τ7 22) + 1)) fun τ8 =>
  some (1, τ8))
  else (some (0, τ1)))
  else (some (0, τ1))
/-! undo()Z -/
def T_undo (nf : Nat) (τ : TS) : Option (Int32 × TS) :=
  nm (sI τ 0 0) fun τ1 =>
  if (tI τ1 20) = 0 then
  (some (0, τ1))
  else (nm (sI τ1 20 ((tI τ1 20) - 1)) fun τ2 =>
  (T_copies nf (5 + (tI τ2 20)) 0 58 τ2).bind fun τ3 =>
  nm (sI τ3 22 ((tI τ3 22) + 1)) fun τ4 =>
  some (1, τ4))
/-! judged()I -/
def T_judged_b113 (nf : Nat) (k14 : Int32 → Int32 → Int32 → Int32 → TS → Option (Int32 × TS)) (x1 : Int32) (x2 : Int32) (x4 : Int32) (x5 : Int32) (x6 : Int32) (τ : TS) : Option (Int32 × TS) :=
  ld (tA τ 10) 680 2 fun v1 =>
  nm (x6 + v1) fun v2 =>
  nm (x1 + (1 - x5)) fun v3 =>
  nm (x2 + x5) fun v4 =>
  k14 v3 v4 v2 (x4 + 1) τ
def T_judged_b79 (nf : Nat) (k14 : Int32 → Int32 → Int32 → Int32 → TS → Option (Int32 × TS)) (x1 : Int32) (x2 : Int32) (x4 : Int32) (x5 : Int32) (x6 : Int32) (s0 : Int32) (τ : TS) : Option (Int32 × TS) :=
  if x6 < s0 then
  (some (x4, τ))
  else ((T_isTimed τ x1 x2).bind fun v1 =>
  if v1 = 0 then
  (T_judged_b113 nf k14 x1 x2 x4 x5 x6 τ)
  else ((T_isGreen τ x1 x2 x5 x6).bind fun v2 =>
  if v2 = 0 then
  (some (x4, τ))
  else (T_judged_b113 nf k14 x1 x2 x4 x5 x6 τ)))
def T_judged_b14_s (nf : Nat) (k14 : Int32 → Int32 → Int32 → Int32 → TS → Option (Int32 × TS)) (x1 : Int32) (x2 : Int32) (x3 : Int32) (x4 : Int32) (τ : TS) : Option (Int32 × TS) :=
  ld (tA τ 16) 60 0 fun v1 =>
  if v1 ≤ x4 then
  (some ((-1), τ))
  else (ld (tA τ 16) 60 (1 + (2 * x4)) fun v2 =>
  ld (tA τ 16) 60 (2 + (2 * x4)) fun v3 =>
  (T_kindAt τ x1 x2).bind fun v4 =>
  if v4 = 2 then
  (if v2 = 0 then
  ((T_lightAt τ x1 x2 2).bind fun v5 =>
  T_judged_b79 nf k14 x1 x2 x4 v2 v3 (x3 + v5) τ)
  else (T_judged_b79 nf k14 x1 x2 x4 v2 v3 x3 τ))
  else (T_judged_b79 nf k14 x1 x2 x4 v2 v3 x3 τ))
def T_judged_b14 (nf : Nat) (n : Nat) : Int32 → Int32 → Int32 → Int32 → TS → Option (Int32 × TS) := lpN (fun _ _ _ _ _ => none) (T_judged_b14_s nf) n
def T_judged (nf : Nat) (τ : TS) : Option (Int32 × TS) :=
  nm (sI τ 0 0) fun τ1 =>
  T_judged_b14 nf nf 0 0 0 0 τ1
/-! isHome(II)Z -/
def T_isHome (τ : TS) (x1 : Int32) (x2 : Int32) : Option Int32 :=
  (T_wide τ).bind fun v1 =>
  if x1 = (v1 - 1) then
  ((T_deep τ).bind fun v2 =>
  if x2 = (v2 - 1) then
  (some 1)
  else (some 0))
  else (some 0)
/-! soonestBy(IIII)I -/
def T_soonestBy (nf : Nat) (rc : Int32 → Int32 → Int32 → Option Int32) (τ : TS) (x1 : Int32) (x2 : Int32) (x3 : Int32) (x4 : Int32) : Option Int32 :=
  (T_waitFor nf τ x1 x2 x3 x4).bind fun v1 =>
  ld (tA τ 10) 680 2 fun v2 =>
  (rc ((x1 + 1) - x3) (x2 + x3) ((x4 + v1) + v2)).bind fun v3 =>
  some v3
/-! soonestFrom(III)I -/
def T_soonestFrom_b19_s (nf : Nat) (rc : Int32 → Int32 → Int32 → Option Int32) (τ : TS) (k19 : Int32 → Int32 → Int32 → Int32 → Int32 → Option Int32) (x1 : Int32) (x2 : Int32) (x3 : Int32) (x4 : Int32) (x5 : Int32) : Option Int32 :=
  if 2 ≤ x5 then
  (some x4)
  else ((T_canGo τ x1 x2 x5).bind fun v1 =>
  if v1 = 0 then
  (k19 x1 x2 x3 x4 (x5 + 1))
  else ((T_soonestBy nf rc τ x1 x2 x5 x3).bind fun v2 =>
  if x4 ≤ v2 then
  (k19 x1 x2 x3 x4 (x5 + 1))
  else (k19 x1 x2 x3 v2 (x5 + 1))))
def T_soonestFrom_b19 (nf : Nat) (rc : Int32 → Int32 → Int32 → Option Int32) (τ : TS) (n : Nat) : Int32 → Int32 → Int32 → Int32 → Int32 → Option Int32 := lpN (fun _ _ _ _ _ => none) (T_soonestFrom_b19_s nf rc τ) n
def T_soonestFrom_s (nf : Nat) (rc : Int32 → Int32 → Int32 → Option Int32) (τ : TS) (x1 : Int32) (x2 : Int32) (x3 : Int32) : Option Int32 :=
  (T_isHome τ x1 x2).bind fun v1 =>
  if v1 = 0 then
  (T_soonestFrom_b19 nf rc τ nf x1 x2 x3 2000000000 0)
  else (some x3)
def T_soonestFrom (nf : Nat) (τ : TS) (dp : Nat) : Int32 → Int32 → Int32 → Option Int32 := lpN (fun _ _ _ => none) (fun rc => T_soonestFrom_s nf rc τ) dp
/-! soonest(IIII)I -/
def T_soonest_b115 (nf : Nat) (k66 : Int32 → Int32 → Int32 → Int32 → Int32 → Int32 → TS → Option (Int32 × TS)) (x4 : Int32) (x5 : Int32) (x6 : Int32) (x7 : Int32) (x8 : Int32) (x9 : Int32) (s0 : Int32) (τ : TS) : Option (Int32 × TS) :=
  if x9 = x4 then
  (some (s0, τ))
  else ((T_waitFor nf τ x6 x7 s0 x8).bind fun v1 =>
  ld (tA τ 10) 680 2 fun v2 =>
  nm (x8 + (v1 + v2)) fun v3 =>
  nm (x6 + (1 - s0)) fun v4 =>
  nm (x7 + s0) fun v5 =>
  k66 x4 x5 v4 v5 v3 (x9 + 1) τ)
def T_soonest_b66_s (nf : Nat) (k66 : Int32 → Int32 → Int32 → Int32 → Int32 → Int32 → TS → Option (Int32 × TS)) (x4 : Int32) (x5 : Int32) (x6 : Int32) (x7 : Int32) (x8 : Int32) (x9 : Int32) (τ : TS) : Option (Int32 × TS) :=
  (T_isHome τ x6 x7).bind fun v1 =>
  if v1 = 0 then
  (if x4 < 0 then
  (if 0 ≤ x4 then
  (some ((-2), τ))
  else (some (x5, τ)))
  else ((T_canGo τ x6 x7 0).bind fun v2 =>
  if v2 = 0 then
  (T_soonest_b115 nf k66 x4 x5 x6 x7 x8 x9 1 τ)
  else ((T_soonestBy nf (T_soonestFrom nf τ 20) τ x6 x7 0 x8).bind fun v3 =>
  if v3 = x5 then
  (T_soonest_b115 nf k66 x4 x5 x6 x7 x8 x9 0 τ)
  else (T_soonest_b115 nf k66 x4 x5 x6 x7 x8 x9 1 τ))))
  else (if 0 ≤ x4 then
  (some ((-2), τ))
  else (some (x5, τ)))
def T_soonest_b66 (nf : Nat) (n : Nat) : Int32 → Int32 → Int32 → Int32 → Int32 → Int32 → TS → Option (Int32 × TS) := lpN (fun _ _ _ _ _ _ _ => none) (T_soonest_b66_s nf) n
def T_soonest_b41 (nf : Nat) (x1 : Int32) (x2 : Int32) (x3 : Int32) (x4 : Int32) (s0 : Int32) (τ : TS) : Option (Int32 × TS) :=
  if s0 = 2000000000 then
  (some ((-2), τ))
  else (T_soonest_b66 nf nf x4 s0 x1 x2 x3 0 τ)
def T_soonest (nf : Nat) (x1 : Int32) (x2 : Int32) (x3 : Int32) (x4 : Int32) (τ : TS) : Option (Int32 × TS) :=
  nm (sI τ 0 0) fun τ1 =>
  (T_isCorner τ1 x1 x2).bind fun v2 =>
  if v2 = 0 then
  (T_soonest_b41 nf x1 x2 x3 x4 2000000000 τ1)
  else ((T_isSecond τ1 x3).bind fun v3 =>
  if v3 = 0 then
  (T_soonest_b41 nf x1 x2 x3 x4 2000000000 τ1)
  else (if x4 < (-1) then
  (T_soonest_b41 nf x1 x2 x3 x4 2000000000 τ1)
  else ((T_soonestFrom nf τ1 20 x1 x2 x3).bind fun v4 =>
  T_soonest_b41 nf x1 x2 x3 x4 v4 τ1)))
/-! latest(III)I -/
def T_latest_b53_s (nf : Nat) (k53 : Int32 → Int32 → Int32 → Int32 → Int32 → Int32 → TS → Option (Int32 × TS)) (x1 : Int32) (x2 : Int32) (x3 : Int32) (x4 : Int32) (x5 : Int32) (x6 : Int32) (τ : TS) : Option (Int32 × TS) :=
  ld (tA τ 10) 680 9 fun v1 =>
  if v1 ≤ x6 then
  (some (x5, τ))
  else ((T_soonestFrom nf τ 20 x1 x2 (x3 + x6)).bind fun v2 =>
  if v2 = x4 then
  (nm (x3 + x6) fun v3 =>
  k53 x1 x2 x3 x4 v3 (x6 + 1) τ)
  else (k53 x1 x2 x3 x4 x5 (x6 + 1) τ))
def T_latest_b53 (nf : Nat) (n : Nat) : Int32 → Int32 → Int32 → Int32 → Int32 → Int32 → TS → Option (Int32 × TS) := lpN (fun _ _ _ _ _ _ _ => none) (T_latest_b53_s nf) n
def T_latest_b35 (nf : Nat) (x1 : Int32) (x2 : Int32) (x3 : Int32) (s0 : Int32) (τ : TS) : Option (Int32 × TS) :=
  if s0 = 2000000000 then
  (some ((-1), τ))
  else (T_latest_b53 nf nf x1 x2 x3 s0 x3 1 τ)
def T_latest (nf : Nat) (x1 : Int32) (x2 : Int32) (x3 : Int32) (τ : TS) : Option (Int32 × TS) :=
  nm (sI τ 0 0) fun τ1 =>
  (T_isCorner τ1 x1 x2).bind fun v2 =>
  if v2 = 0 then
  (T_latest_b35 nf x1 x2 x3 2000000000 τ1)
  else ((T_isSecond τ1 x3).bind fun v3 =>
  if v3 = 0 then
  (T_latest_b35 nf x1 x2 x3 2000000000 τ1)
  else ((T_soonestFrom nf τ1 20 x1 x2 x3).bind fun v4 =>
  T_latest_b35 nf x1 x2 x3 v4 τ1))
/-! turnsFrom(IIIII)I -/
def T_turnsFrom_b46 (nf : Nat) (rc : Int32 → Int32 → Int32 → Int32 → Int32 → Option Int32) (τ : TS) (k19 : Int32 → Int32 → Int32 → Int32 → Int32 → Int32 → Int32 → Option Int32) (x1 : Int32) (x2 : Int32) (x3 : Int32) (x4 : Int32) (x5 : Int32) (x6 : Int32) (x7 : Int32) (s0 : Int32) : Option Int32 :=
  if s0 < 0 then
  (k19 x1 x2 x3 x4 x5 x6 (x7 + 1))
  else ((T_canGo τ x1 x2 x7).bind fun v1 =>
  if v1 = 0 then
  (k19 x1 x2 x3 x4 x5 x6 (x7 + 1))
  else ((T_waitFor nf τ x1 x2 x7 x3).bind fun v2 =>
  ld (tA τ 10) 680 2 fun v3 =>
  (rc ((x1 + 1) - x7) (x2 + x7) ((x3 + v2) + v3) x7 s0).bind fun v4 =>
  if x6 ≤ v4 then
  (k19 x1 x2 x3 x4 x5 x6 (x7 + 1))
  else (k19 x1 x2 x3 x4 x5 v4 (x7 + 1))))
def T_turnsFrom_b19_s (nf : Nat) (rc : Int32 → Int32 → Int32 → Int32 → Int32 → Option Int32) (τ : TS) (k19 : Int32 → Int32 → Int32 → Int32 → Int32 → Int32 → Int32 → Option Int32) (x1 : Int32) (x2 : Int32) (x3 : Int32) (x4 : Int32) (x5 : Int32) (x6 : Int32) (x7 : Int32) : Option Int32 :=
  if 2 ≤ x7 then
  (some x6)
  else (if x4 < 0 then
  (T_turnsFrom_b46 nf rc τ k19 x1 x2 x3 x4 x5 x6 x7 x5)
  else (if x7 = x4 then
  (T_turnsFrom_b46 nf rc τ k19 x1 x2 x3 x4 x5 x6 x7 x5)
  else (T_turnsFrom_b46 nf rc τ k19 x1 x2 x3 x4 x5 x6 x7 (x5 - 1))))
def T_turnsFrom_b19 (nf : Nat) (rc : Int32 → Int32 → Int32 → Int32 → Int32 → Option Int32) (τ : TS) (n : Nat) : Int32 → Int32 → Int32 → Int32 → Int32 → Int32 → Int32 → Option Int32 := lpN (fun _ _ _ _ _ _ _ => none) (T_turnsFrom_b19_s nf rc τ) n
def T_turnsFrom_s (nf : Nat) (rc : Int32 → Int32 → Int32 → Int32 → Int32 → Option Int32) (τ : TS) (x1 : Int32) (x2 : Int32) (x3 : Int32) (x4 : Int32) (x5 : Int32) : Option Int32 :=
  (T_isHome τ x1 x2).bind fun v1 =>
  if v1 = 0 then
  (T_turnsFrom_b19 nf rc τ nf x1 x2 x3 x4 x5 2000000000 0)
  else (some x3)
def T_turnsFrom (nf : Nat) (τ : TS) (dp : Nat) : Int32 → Int32 → Int32 → Int32 → Int32 → Option Int32 := lpN (fun _ _ _ _ _ => none) (fun rc => T_turnsFrom_s nf rc τ) dp
/-! turning(II)I -/
def T_turning_b38 (nf : Nat) (s0 : Int32) (τ : TS) : Option (Int32 × TS) :=
  if s0 = 2000000000 then
  (some ((-1), τ))
  else (some (s0, τ))
def T_turning (nf : Nat) (x1 : Int32) (x2 : Int32) (τ : TS) : Option (Int32 × TS) :=
  nm (sI τ 0 0) fun τ1 =>
  (T_isSecond τ1 x1).bind fun v2 =>
  if v2 = 0 then
  (T_turning_b38 nf 2000000000 τ1)
  else ((T_within τ1 x2 0 12).bind fun v3 =>
  if v3 = 0 then
  (T_turning_b38 nf 2000000000 τ1)
  else ((T_turnsFrom nf τ1 20 0 0 x1 (-1) x2).bind fun v4 =>
  T_turning_b38 nf v4 τ1))
/-! asks(IZII)V -/
def T_asks_b44 (x1 : Int32) (x2 : Int32) (x3 : Int32) (x4 : Int32) (τ : TS) : Option TS :=
  nm (sI τ 26 x1) fun τ1 =>
  gd (isb x2) (nm (sI τ1 27 x2) fun τ2 =>
  nm (sI τ2 28 (tI τ2 22)) fun τ3 =>
  nm (sI τ3 29 x3) fun τ4 =>
  nm (sI τ4 30 x4) fun τ5 =>
  nm (sI τ5 25 ((tI τ5 25) + 1)) fun τ6 =>
  some τ6)
def T_asks (x1 : Int32) (x2 : Int32) (x3 : Int32) (x4 : Int32) (τ : TS) : Option TS :=
  if (tI τ 26) = x1 then
  (if (tI τ 27) = x2 then
  (if (tI τ 28) = (tI τ 22) then
  (if (tI τ 29) = x3 then
  (if (tI τ 30) = x4 then
  (some τ)
  else (T_asks_b44 x1 x2 x3 x4 τ))
  else (T_asks_b44 x1 x2 x3 x4 τ))
  else (T_asks_b44 x1 x2 x3 x4 τ))
  else (T_asks_b44 x1 x2 x3 x4 τ))
  else (T_asks_b44 x1 x2 x3 x4 τ)
/-! isGoer(I)Z -/
def T_isGoer (τ : TS) (x1 : Int32) : Option Int32 :=
  ld (tA τ 10) 680 8 fun v1 =>
  (T_within τ x1 0 (3 + v1)).bind fun v2 =>
  gd (isb v2) (some v2)
/-! isPlace(III)Z -/
def T_isPlace (τ : TS) (x1 : Int32) (x2 : Int32) (x3 : Int32) : Option Int32 :=
  (T_isCorner τ x1 x2).bind fun v1 =>
  if v1 = 0 then
  (some 0)
  else ((T_isSecond τ x3).bind fun v2 =>
  if v2 = 0 then
  (some 0)
  else (some 1))
/-! isUnknown(II)Z -/
def T_isUnknown (τ : TS) (x1 : Int32) (x2 : Int32) : Option Int32 :=
  (T_kindAt τ x1 x2).bind fun v1 =>
  if v1 = 1 then
  ((T_isKnown τ x1 x2).bind fun v2 =>
  if v2 = 0 then
  (if ((6 * x2) + x1) = (tI τ 29) then
  (some 0)
  else (some 1))
  else (some 0))
  else (some 0)
/-! both(III)I -/
def T_both (τ : TS) (x0 : Int32) (x1 : Int32) (x2 : Int32) : Option Int32 :=
  if x0 = 4 then
  (some (x1 + x2))
  else (if x0 = 5 then
  (some (x1 - x2))
  else (if x0 = 6 then
  (some (x1 * x2))
  else (if x0 = 7 then
  (if x2 ≤ x1 then
  (some 0)
  else (some 1))
  else (if x0 = 8 then
  (if x1 = x2 then
  (some 1)
  else (some 0))
  else (if x0 = 9 then
  (if x1 = 0 then
  (some 0)
  else (if x2 = 0 then
  (some 0)
  else (some 1)))
  else (if x1 = 0 then
  (if x2 = 0 then
  (some 0)
  else (some 1))
  else (some 1)))))))
/-! worthAt(I)I -/
def T_worthAt_b33 (nf : Nat) (k4 : Int32 → Int32 → TS → Option (Int32 × TS)) (x2 : Int32) (x3 : Int32) (x4 : Int32) (τ : TS) : Option (Int32 × TS) :=
  if x4 = 1 then
  (ld (tA τ 12) 2200 x3 fun v4 =>
  stA τ 18 1100 x2 v4 fun τ5 =>
  k4 (x2 + 1) (x3 + 1) τ5)
  else (ld (tA τ 12) 2200 x3 fun v1 =>
  ld (tA τ 17) 4 v1 fun v2 =>
  stA τ 18 1100 x2 v2 fun τ3 =>
  k4 (x2 + 1) (x3 + 1) τ3)
def T_worthAt_b4_s (nf : Nat) (k4 : Int32 → Int32 → TS → Option (Int32 × TS)) (x2 : Int32) (x3 : Int32) (τ : TS) : Option (Int32 × TS) :=
  ld (tA τ 11) 2200 x3 fun v1 =>
  if v1 = 0 then
  (ld (tA τ 18) 1100 0 fun v2 =>
  some (v2, τ))
  else (ld (tA τ 11) 2200 x3 fun v3 =>
  if v3 = 1 then
  (T_worthAt_b33 nf k4 x2 x3 v3 τ)
  else (if v3 = 2 then
  (T_worthAt_b33 nf k4 x2 x3 v3 τ)
  else (if v3 = 3 then
  (ld (tA τ 18) 1100 (x2 - 1) fun v8 =>
  if v8 = 0 then
  (stA τ 18 1100 (x2 - 1) 1 fun τ10 =>
  k4 x2 (x3 + 1) τ10)
  else (stA τ 18 1100 (x2 - 1) 0 fun τ9 =>
  k4 x2 (x3 + 1) τ9))
  else (ld (tA τ 18) 1100 ((x2 + (-1)) - 1) fun v4 =>
  ld (tA τ 18) 1100 (x2 + (-1)) fun v5 =>
  (T_both τ v3 v4 v5).bind fun v6 =>
  stA τ 18 1100 ((x2 + (-1)) - 1) v6 fun τ7 =>
  k4 (x2 + (-1)) (x3 + 1) τ7))))
def T_worthAt_b4 (nf : Nat) (n : Nat) : Int32 → Int32 → TS → Option (Int32 × TS) := lpN (fun _ _ _ => none) (T_worthAt_b4_s nf) n
def T_worthAt (nf : Nat) (x1 : Int32) (τ : TS) : Option (Int32 × TS) :=
  T_worthAt_b4 nf nf 0 x1 τ
/-! worthBy(IIIII)I -/
def T_worthBy (nf : Nat) (rc : Int32 → Int32 → Int32 → TS → Option (Int32 × TS)) (x1 : Int32) (x2 : Int32) (x3 : Int32) (x4 : Int32) (x5 : Int32) (τ : TS) : Option (Int32 × TS) :=
  (T_waitFor nf τ x1 x2 x3 x5).bind fun v1 =>
  ld (tA τ 10) 680 2 fun v2 =>
  nm (v1 + v2) fun v3 =>
  bd2 (rc ((x1 + 1) - x3) (x2 + x3) (x4 + v3) τ) fun v5 τ4 =>
  if 0 ≤ v5 then
  (if (tI τ4 27) = 0 then
  (some (v5 + (1000 * v3), τ4))
  else (some (v5 + v3, τ4)))
  else (some ((-1), τ4))
/-! wayOf(IIII)I -/
def T_wayOf_b110 (nf : Nat) (rc : Int32 → Int32 → Int32 → TS → Option (Int32 × TS)) (x5 : Int32) (x6 : Int32) (τ : TS) : Option (Int32 × TS) :=
  if x5 = 0 then
  (if x6 = 0 then
  (some ((-1), τ))
  else (some (1, τ)))
  else (some (0, τ))
def T_wayOf_b66 (nf : Nat) (rc : Int32 → Int32 → Int32 → TS → Option (Int32 × TS)) (x7 : Int32) (s0 : Int32) (τ : TS) : Option (Int32 × TS) :=
  if x7 < 0 then
  (if s0 < 0 then
  (some ((-1), τ))
  else (some (1, τ)))
  else (if s0 < 0 then
  (some (0, τ))
  else (if s0 < x7 then
  (if s0 < 0 then
  (some ((-1), τ))
  else (some (1, τ)))
  else (some (0, τ))))
def T_wayOf_b45 (nf : Nat) (rc : Int32 → Int32 → Int32 → TS → Option (Int32 × TS)) (x1 : Int32) (x2 : Int32) (x3 : Int32) (x4 : Int32) (x6 : Int32) (s0 : Int32) (τ : TS) : Option (Int32 × TS) :=
  if x6 = 0 then
  (T_wayOf_b66 nf rc s0 (-1) τ)
  else (bd2 (T_worthBy nf rc x1 x2 1 x3 x4 τ) fun v2 τ1 =>
  T_wayOf_b66 nf rc s0 v2 τ1)
def T_wayOf (nf : Nat) (rc : Int32 → Int32 → Int32 → TS → Option (Int32 × TS)) (x1 : Int32) (x2 : Int32) (x3 : Int32) (x4 : Int32) (τ : TS) : Option (Int32 × TS) :=
  (T_canGo τ x1 x2 0).bind fun v1 =>
  (T_canGo τ x1 x2 1).bind fun v2 =>
  if (tI τ 26) = 3 then
  (if v1 = 0 then
  (T_wayOf_b45 nf rc x1 x2 x3 x4 v2 (-1) τ)
  else (bd2 (T_worthBy nf rc x1 x2 0 x3 x4 τ) fun v15 τ14 =>
  T_wayOf_b45 nf rc x1 x2 x3 x4 v2 v15 τ14))
  else (if v1 = 0 then
  (T_wayOf_b110 nf rc v1 v2 τ)
  else (if v2 = 0 then
  (T_wayOf_b110 nf rc v1 v2 τ)
  else ((T_waitFor nf τ x1 x2 0 x4).bind fun v3 =>
  (T_waitFor nf τ x1 x2 1 x4).bind fun v4 =>
  if 3 ≤ (tI τ 26) then
  (stA τ 17 4 0 v3 fun τ5 =>
  stA τ5 17 4 1 v4 fun τ6 =>
  (T_wide τ6).bind fun v7 =>
  stA τ6 17 4 2 ((v7 - 1) - x1) fun τ8 =>
  (T_deep τ8).bind fun v9 =>
  stA τ8 17 4 3 ((v9 - 1) - x2) fun τ10 =>
  ld (tA τ10 10) 680 ((280 + (tI τ10 26)) - 4) fun v11 =>
  bd2 (T_worthAt nf v11 τ10) fun v13 τ12 =>
  if v13 = 0 then
  (some (1, τ12))
  else (some (0, τ12)))
  else (if 2 ≤ (tI τ 26) then
  (if v4 < v3 then
  (some (1, τ))
  else (some (0, τ)))
  else (some (tI τ 26, τ))))))
/-! worthSeen(IIII)I -/
def T_worthSeen (nf : Nat) (rc : Int32 → Int32 → Int32 → TS → Option (Int32 × TS)) (x1 : Int32) (x2 : Int32) (x3 : Int32) (x4 : Int32) (τ : TS) : Option (Int32 × TS) :=
  bd2 (T_wayOf nf rc x1 x2 x3 x4 τ) fun v2 τ1 =>
  if 0 ≤ v2 then
  (bd2 (T_worthBy nf rc x1 x2 v2 x3 x4 τ1) fun v4 τ3 =>
  some (v4, τ3))
  else (some ((-1), τ1))
/-! worthHidden(III)I -/
def T_worthHidden_b18_s (nf : Nat) (rc : Int32 → Int32 → Int32 → TS → Option (Int32 × TS)) (k18 : Int32 → Int32 → Int32 → Int64 → Int32 → Int32 → Int32 → TS → Option (Int32 × TS)) (x1 : Int32) (x2 : Int32) (x3 : Int32) (x4 : Int64) (x6 : Int32) (x7 : Int32) (x8 : Int32) (τ : TS) : Option (Int32 × TS) :=
  if x7 ≤ x8 then
  (if (tI τ 27) = 0 then
  (d64 x7.toInt64 (
  some ((x4 / x7.toInt64).toInt32, τ)))
  else (some (x6, τ)))
  else (bd2 (T_worthSeen nf rc x1 x2 x3 x8 τ) fun v2 τ1 =>
  if 0 ≤ v2 then
  (nm (x4 + v2.toInt64) fun v3 =>
  if v2 ≤ x6 then
  (k18 x1 x2 x3 v3 x6 x7 (x8 + 1) τ1)
  else (k18 x1 x2 x3 v3 v2 x7 (x8 + 1) τ1))
  else (some ((-1), τ1)))
def T_worthHidden_b18 (nf : Nat) (rc : Int32 → Int32 → Int32 → TS → Option (Int32 × TS)) (n : Nat) : Int32 → Int32 → Int32 → Int64 → Int32 → Int32 → Int32 → TS → Option (Int32 × TS) := lpN (fun _ _ _ _ _ _ _ _ => none) (T_worthHidden_b18_s nf rc) n
def T_worthHidden (nf : Nat) (rc : Int32 → Int32 → Int32 → TS → Option (Int32 × TS)) (x1 : Int32) (x2 : Int32) (x3 : Int32) (τ : TS) : Option (Int32 × TS) :=
  (T_lightAt τ x1 x2 1).bind fun v1 =>
  T_worthHidden_b18 nf rc nf x1 x2 x3 0 0 v1 0 τ
/-! worthFrom(III)I -/
def T_worthFrom_b104 (nf : Nat) (rc : Int32 → Int32 → Int32 → TS → Option (Int32 × TS)) (x5 : Int32) (s0 : Int32) (τ : TS) : Option (Int32 × TS) :=
  stA τ 23 64800 x5 s0 fun τ1 =>
  stA τ1 24 64800 x5 (tI τ1 25) fun τ2 =>
  ld (tA τ2 23) 64800 x5 fun v3 =>
  some (v3, τ2)
def T_worthFrom_s (nf : Nat) (rc : Int32 → Int32 → Int32 → TS → Option (Int32 × TS)) (x1 : Int32) (x2 : Int32) (x3 : Int32) (τ : TS) : Option (Int32 × TS) :=
  (T_isHome τ x1 x2).bind fun v1 =>
  if v1 = 0 then
  (ld (tA τ 10) 680 9 fun v2 =>
  d32 v2 (
  nm (rem32 x3 v2) fun v3 =>
  nm ((1200 * ((6 * x2) + x1)) + v3) fun v4 =>
  ld (tA τ 24) 64800 v4 fun v5 =>
  if v5 = (tI τ 25) then
  (ld (tA τ 23) 64800 v4 fun v6 =>
  some (v6, τ))
  else ((T_isUnknown τ x1 x2).bind fun v7 =>
  if v7 = 0 then
  (if ((6 * x2) + x1) = (tI τ 29) then
  (bd2 (T_worthSeen nf rc x1 x2 v3 (v3 + (tI τ 30)) τ) fun v11 τ10 =>
  T_worthFrom_b104 nf rc v4 v11 τ10)
  else (bd2 (T_worthSeen nf rc x1 x2 v3 v3 τ) fun v9 τ8 =>
  T_worthFrom_b104 nf rc v4 v9 τ8))
  else (bd2 (T_worthHidden nf rc x1 x2 v3 τ) fun v13 τ12 =>
  T_worthFrom_b104 nf rc v4 v13 τ12))))
  else (some (0, τ))
def T_worthFrom (nf : Nat) (dp : Nat) : Int32 → Int32 → Int32 → TS → Option (Int32 × TS) := lpN (fun _ _ _ _ => none) (T_worthFrom_s nf) dp
/-! mean(IIII)I -/
def T_mean (nf : Nat) (x1 : Int32) (x2 : Int32) (x3 : Int32) (x4 : Int32) (τ : TS) : Option (Int32 × TS) :=
  nm (sI τ 0 0) fun τ1 =>
  (T_isGoer τ1 x1).bind fun v2 =>
  if v2 = 0 then
  (some ((-1), τ1))
  else ((T_isPlace τ1 x2 x3 x4).bind fun v3 =>
  if v3 = 0 then
  (some ((-1), τ1))
  else ((T_asks x1 0 (-1) 0 τ1).bind fun τ4 =>
  bd2 (T_worthFrom nf 20 x2 x3 x4 τ4) fun v6 τ5 =>
  some (v6, τ5)))
/-! worst(IIII)I -/
def T_worst (nf : Nat) (x1 : Int32) (x2 : Int32) (x3 : Int32) (x4 : Int32) (τ : TS) : Option (Int32 × TS) :=
  nm (sI τ 0 0) fun τ1 =>
  (T_isGoer τ1 x1).bind fun v2 =>
  if v2 = 0 then
  (some ((-1), τ1))
  else ((T_isPlace τ1 x2 x3 x4).bind fun v3 =>
  if v3 = 0 then
  (some ((-1), τ1))
  else ((T_asks x1 1 (-1) 0 τ1).bind fun τ4 =>
  bd2 (T_worthFrom nf 20 x2 x3 x4 τ4) fun v6 τ5 =>
  some (v6, τ5)))
/-! choice(IIII)I -/
def T_choice_b61 (nf : Nat) (x1 : Int32) (x2 : Int32) (x3 : Int32) (x4 : Int32) (τ : TS) : Option (Int32 × TS) :=
  ld (tA τ 10) 680 9 fun v1 =>
  d32 v1 (
  nm (rem32 x3 v1) fun v2 =>
  bd2 (T_worthFrom nf 20 x1 x2 x3 τ) fun v4 τ3 =>
  if 0 ≤ v4 then
  ((T_isUnknown τ3 x1 x2).bind fun v5 =>
  if v5 = 0 then
  (bd2 (T_wayOf nf (T_worthFrom nf 20) x1 x2 v2 v2 τ3) fun v7 τ6 =>
  some (v7, τ6))
  else (bd2 (T_wayOf nf (T_worthFrom nf 20) x1 x2 v2 x4 τ3) fun v9 τ8 =>
  some (v9, τ8)))
  else (some ((-1), τ3)))
def T_choice (nf : Nat) (x1 : Int32) (x2 : Int32) (x3 : Int32) (x4 : Int32) (τ : TS) : Option (Int32 × TS) :=
  nm (sI τ 0 0) fun τ1 =>
  (T_asks 3 0 (-1) 0 τ1).bind fun τ2 =>
  (T_isPlace τ2 x1 x2 x3).bind fun v3 =>
  if v3 = 0 then
  (some ((-1), τ2))
  else ((T_isHome τ2 x1 x2).bind fun v4 =>
  if v4 = 0 then
  ((T_isUnknown τ2 x1 x2).bind fun v5 =>
  if v5 = 0 then
  (T_choice_b61 nf x1 x2 x3 x4 τ2)
  else ((T_lightAt τ2 x1 x2 1).bind fun v6 =>
  (T_within τ2 x4 0 (v6 - 1)).bind fun v7 =>
  if v7 = 0 then
  (some ((-1), τ2))
  else (T_choice_b61 nf x1 x2 x3 x4 τ2)))
  else (some ((-1), τ2)))
/-! gap(III)I -/
def T_gap (nf : Nat) (x1 : Int32) (x2 : Int32) (x3 : Int32) (τ : TS) : Option (Int32 × TS) :=
  nm (sI τ 0 0) fun τ1 =>
  (T_isPlace τ1 x1 x2 x3).bind fun v2 =>
  if v2 = 0 then
  (some ((-1), τ1))
  else ((T_asks 2 0 (-1) 0 τ1).bind fun τ3 =>
  bd2 (T_worthFrom nf 20 x1 x2 x3 τ3) fun v5 τ4 =>
  (T_asks 3 0 (-1) 0 τ4).bind fun τ6 =>
  bd2 (T_worthFrom nf 20 x1 x2 x3 τ6) fun v8 τ7 =>
  if v5 < 0 then
  (some ((-1), τ7))
  else (if 0 ≤ v8 then
  (some (v5 - v8, τ7))
  else (some ((-1), τ7))))
/-! watch(III)I -/
def T_watch_b109 (nf : Nat) (x1 : Int32) (x2 : Int32) (x4 : Int32) (x5 : Int64) (τ : TS) : Option (Int32 × TS) :=
  if 0 ≤ x4 then
  ((T_lightAt τ x1 x2 1).bind fun v1 =>
  d64 v1.toInt64 (
  some (x4 - ((x5 / v1.toInt64).toInt32), τ)))
  else (some ((-1), τ))
def T_watch_b59_s (nf : Nat) (k59 : Int32 → Int32 → Int32 → Int32 → Int64 → Int32 → TS → Option (Int32 × TS)) (x1 : Int32) (x2 : Int32) (x3 : Int32) (x4 : Int32) (x5 : Int64) (x7 : Int32) (τ : TS) : Option (Int32 × TS) :=
  (T_lightAt τ x1 x2 1).bind fun v1 =>
  if v1 ≤ x7 then
  (T_watch_b109 nf x1 x2 x4 x5 τ)
  else (if x4 < 0 then
  (T_watch_b109 nf x1 x2 x4 x5 τ)
  else ((T_asks 3 0 ((6 * x2) + x1) x7 τ).bind fun τ2 =>
  bd2 (T_worthFrom nf 20 0 0 x3 τ2) fun v4 τ3 =>
  nm (x5 + v4.toInt64) fun v5 =>
  k59 x1 x2 x3 x4 v5 (x7 + 1) τ3))
def T_watch_b59 (nf : Nat) (n : Nat) : Int32 → Int32 → Int32 → Int32 → Int64 → Int32 → TS → Option (Int32 × TS) := lpN (fun _ _ _ _ _ _ _ => none) (T_watch_b59_s nf) n
def T_watch (nf : Nat) (x1 : Int32) (x2 : Int32) (x3 : Int32) (τ : TS) : Option (Int32 × TS) :=
  nm (sI τ 0 0) fun τ1 =>
  (T_isPlace τ1 x1 x2 x3).bind fun v2 =>
  if v2 = 0 then
  (some ((-1), τ1))
  else ((T_kindAt τ1 x1 x2).bind fun v3 =>
  if v3 = 1 then
  ((T_isKnown τ1 x1 x2).bind fun v4 =>
  if v4 = 0 then
  ((T_asks 3 0 (-1) 0 τ1).bind fun τ5 =>
  bd2 (T_worthFrom nf 20 0 0 x3 τ5) fun v7 τ6 =>
  T_watch_b59 nf nf x1 x2 x3 v7 0 0 τ6)
  else (some ((-1), τ1)))
  else (some ((-1), τ1)))
/-! meanFrom0(I)I -/
def T_meanFrom0 (nf : Nat) (x1 : Int32) (τ : TS) : Option (Int32 × TS) :=
  (T_asks 3 0 (-1) 0 τ).bind fun τ1 =>
  bd2 (T_worthFrom nf 20 0 0 x1 τ1) fun v3 τ2 =>
  some (v3, τ2)
/-! worthiest(I)I -/
def T_worthiest_b113 (nf : Nat) (k7 : Int32 → Int32 → Int32 → Int32 → TS → Option (Int32 × TS)) (x1 : Int32) (x4 : Int32) (x5 : Int32) (x6 : Int32) (x8 : Int32) (τ : TS) : Option (Int32 × TS) :=
  nm ((8 * x6) + x5) fun v1 =>
  k7 x1 v1 x8 (x4 + 1) τ
def T_worthiest_b96 (nf : Nat) (k7 : Int32 → Int32 → Int32 → Int32 → TS → Option (Int32 × TS)) (x1 : Int32) (x2 : Int32) (x3 : Int32) (x4 : Int32) (x5 : Int32) (x6 : Int32) (x7 : Int32) (s0 : Int32) (τ : TS) : Option (Int32 × TS) :=
  if x7 = 0 then
  (k7 x1 x2 x3 (x4 + 1) τ)
  else (if x2 < 0 then
  (T_worthiest_b113 nf k7 x1 x4 x5 x6 s0 τ)
  else (if s0 ≤ x3 then
  (k7 x1 x2 x3 (x4 + 1) τ)
  else (T_worthiest_b113 nf k7 x1 x4 x5 x6 s0 τ)))
def T_worthiest_b76 (nf : Nat) (k7 : Int32 → Int32 → Int32 → Int32 → TS → Option (Int32 × TS)) (x1 : Int32) (x2 : Int32) (x3 : Int32) (x4 : Int32) (x5 : Int32) (x6 : Int32) (s0 : Int32) (τ : TS) : Option (Int32 × TS) :=
  if s0 = 0 then
  (T_worthiest_b96 nf k7 x1 x2 x3 x4 x5 x6 s0 0 τ)
  else (bd2 (T_watch nf x5 x6 x1 τ) fun v2 τ1 =>
  T_worthiest_b96 nf k7 x1 x2 x3 x4 x5 x6 s0 v2 τ1)
def T_worthiest_b7_s (nf : Nat) (k7 : Int32 → Int32 → Int32 → Int32 → TS → Option (Int32 × TS)) (x1 : Int32) (x2 : Int32) (x3 : Int32) (x4 : Int32) (τ : TS) : Option (Int32 × TS) :=
  if 54 ≤ x4 then
  (nm (sI τ 0 0) fun τ1 =>
  some (x2, τ1))
  else (nm (rem32 x4 6) fun v2 =>
  nm (x4 / 6) fun v3 =>
  (T_isPlace τ v2 v3 x1).bind fun v4 =>
  if v4 = 0 then
  (T_worthiest_b76 nf k7 x1 x2 x3 x4 v2 v3 0 τ)
  else ((T_kindAt τ v2 v3).bind fun v5 =>
  if v5 = 1 then
  ((T_isKnown τ v2 v3).bind fun v6 =>
  if v6 = 0 then
  (bd2 (T_meanFrom0 nf x1 τ) fun v8 τ7 =>
  if v8 < 0 then
  (T_worthiest_b76 nf k7 x1 x2 x3 x4 v2 v3 0 τ7)
  else (T_worthiest_b76 nf k7 x1 x2 x3 x4 v2 v3 1 τ7))
  else (T_worthiest_b76 nf k7 x1 x2 x3 x4 v2 v3 0 τ))
  else (T_worthiest_b76 nf k7 x1 x2 x3 x4 v2 v3 0 τ)))
def T_worthiest_b7 (nf : Nat) (n : Nat) : Int32 → Int32 → Int32 → Int32 → TS → Option (Int32 × TS) := lpN (fun _ _ _ _ _ => none) (T_worthiest_b7_s nf) n
def T_worthiest (nf : Nat) (x1 : Int32) (τ : TS) : Option (Int32 × TS) :=
  T_worthiest_b7 nf nf x1 (-1) 0 0 τ
/-! chanceFrom(III)I -/
def T_chanceFrom_b125 (nf : Nat) (rc : Int32 → Int32 → Int32 → TS → Option (Int32 × TS)) (k102 : Int32 → Int32 → Int32 → Int32 → Int32 → Int32 → Int32 → Int32 → TS → Option (Int32 × TS)) (x1 : Int32) (x2 : Int32) (x3 : Int32) (x4 : Int32) (x5 : Int32) (x6 : Int32) (x7 : Int32) (x8 : Int32) (s0 : Int32) (τ : TS) : Option (Int32 × TS) :=
  bd2 (T_wayOf nf (T_worthFrom nf 20) x1 x2 x5 s0 τ) fun v2 τ1 =>
  (T_waitFor nf τ1 x1 x2 v2 s0).bind fun v3 =>
  ld (tA τ1 10) 680 2 fun v4 =>
  bd2 (rc ((x1 + 1) - v2) (x2 + v2) ((x3 + v3) + v4) τ1) fun v6 τ5 =>
  nm (x6 + v6) fun v7 =>
  k102 x1 x2 x3 x4 x5 v7 x7 (x8 + 1) τ5
def T_chanceFrom_b102_s (nf : Nat) (rc : Int32 → Int32 → Int32 → TS → Option (Int32 × TS)) (k102 : Int32 → Int32 → Int32 → Int32 → Int32 → Int32 → Int32 → Int32 → TS → Option (Int32 × TS)) (x1 : Int32) (x2 : Int32) (x3 : Int32) (x4 : Int32) (x5 : Int32) (x6 : Int32) (x7 : Int32) (x8 : Int32) (τ : TS) : Option (Int32 × TS) :=
  if x7 ≤ x8 then
  (d32 x7 (
  stA τ 31 64800 x4 (x6 / x7) fun τ1 =>
  stA τ1 32 64800 x4 (tI τ1 33) fun τ2 =>
  ld (tA τ2 31) 64800 x4 fun v3 =>
  some (v3, τ2)))
  else ((T_isUnknown τ x1 x2).bind fun v4 =>
  if v4 = 0 then
  (T_chanceFrom_b125 nf rc k102 x1 x2 x3 x4 x5 x6 x7 x8 x5 τ)
  else (T_chanceFrom_b125 nf rc k102 x1 x2 x3 x4 x5 x6 x7 x8 x8 τ))
def T_chanceFrom_b102 (nf : Nat) (rc : Int32 → Int32 → Int32 → TS → Option (Int32 × TS)) (n : Nat) : Int32 → Int32 → Int32 → Int32 → Int32 → Int32 → Int32 → Int32 → TS → Option (Int32 × TS) := lpN (fun _ _ _ _ _ _ _ _ _ => none) (T_chanceFrom_b102_s nf rc) n
def T_chanceFrom_s (nf : Nat) (rc : Int32 → Int32 → Int32 → TS → Option (Int32 × TS)) (x1 : Int32) (x2 : Int32) (x3 : Int32) (τ : TS) : Option (Int32 × TS) :=
  (T_isHome τ x1 x2).bind fun v1 =>
  if v1 = 0 then
  (nm ((1200 * ((6 * x2) + x1)) + x3) fun v2 =>
  ld (tA τ 32) 64800 v2 fun v3 =>
  if v3 = (tI τ 33) then
  (ld (tA τ 31) 64800 v2 fun v4 =>
  some (v4, τ))
  else (ld (tA τ 10) 680 9 fun v5 =>
  d32 v5 (
  nm (rem32 ((tI τ 34) + x3) v5) fun v6 =>
  (T_isUnknown τ x1 x2).bind fun v7 =>
  if v7 = 0 then
  (T_chanceFrom_b102 nf rc nf x1 x2 x3 v2 v6 0 1 0 τ)
  else ((T_lightAt τ x1 x2 1).bind fun v8 =>
  T_chanceFrom_b102 nf rc nf x1 x2 x3 v2 v6 0 v8 0 τ))))
  else (if (tI τ 35) < ((tI τ 34) + x3) then
  (some (0, τ))
  else (some (1000000, τ)))
def T_chanceFrom (nf : Nat) (dp : Nat) : Int32 → Int32 → Int32 → TS → Option (Int32 × TS) := lpN (fun _ _ _ _ => none) (T_chanceFrom_s nf) dp
/-! odds(III)I -/
def T_odds (nf : Nat) (x1 : Int32) (x2 : Int32) (x3 : Int32) (τ : TS) : Option (Int32 × TS) :=
  nm (sI τ 0 0) fun τ1 =>
  (T_isGoer τ1 x1).bind fun v2 =>
  if v2 = 0 then
  (some ((-1), τ1))
  else ((T_isSecond τ1 x2).bind fun v3 =>
  if v3 = 0 then
  (some ((-1), τ1))
  else ((T_isSecond τ1 x3).bind fun v4 =>
  if v4 = 0 then
  (some ((-1), τ1))
  else ((T_asks x1 0 (-1) 0 τ1).bind fun τ5 =>
  bd2 (T_worthFrom nf 20 0 0 x2 τ5) fun v7 τ6 =>
  if 0 ≤ v7 then
  (nm (sI τ6 33 ((tI τ6 33) + 1)) fun τ8 =>
  nm (sI τ8 34 x2) fun τ9 =>
  nm (sI τ9 35 x3) fun τ10 =>
  bd2 (T_chanceFrom nf 20 0 0 0 τ10) fun v12 τ11 =>
  some (v12, τ11))
  else (some ((-1), τ6)))))
/-! slowTime()I -/
def T_slowTime (τ : TS) : Option Int32 :=
  ld (tA τ 10) 680 4 fun v1 =>
  if 0 ≤ v1 then
  (ld (tA τ 10) 680 4 fun v2 =>
  some v2)
  else (ld (tA τ 10) 680 2 fun v3 =>
  some v3)
/-! fastest()I -/
def T_fastest (τ : TS) : Option Int32 :=
  (T_runTime τ).bind fun v1 =>
  (T_slowTime τ).bind fun v2 =>
  if v1 ≤ v2 then
  ((T_runTime τ).bind fun v3 =>
  some v3)
  else (ld (tA τ 10) 680 2 fun v4 =>
  some v4)
/-! xAt(I)I -/
def T_xAt_b4_s (nf : Nat) (τ : TS) (k4 : Int32 → Int32 → Int32 → Option Int32) (x1 : Int32) (x2 : Int32) (x3 : Int32) : Option Int32 :=
  if x1 ≤ x3 then
  (some x2)
  else (ld (tA τ 16) 60 (1 + (2 * x3)) fun v1 =>
  nm (x2 + (1 - v1)) fun v2 =>
  k4 x1 v2 (x3 + 1))
def T_xAt_b4 (nf : Nat) (τ : TS) (n : Nat) : Int32 → Int32 → Int32 → Option Int32 := lpN (fun _ _ _ => none) (T_xAt_b4_s nf τ) n
def T_xAt (nf : Nat) (τ : TS) (x1 : Int32) : Option Int32 :=
  T_xAt_b4 nf τ nf x1 0 0
/-! slowest()I -/
def T_slowest (τ : TS) : Option Int32 :=
  (T_runTime τ).bind fun v1 =>
  (T_slowTime τ).bind fun v2 =>
  if v1 ≤ v2 then
  ((T_slowTime τ).bind fun v3 =>
  some v3)
  else (ld (tA τ 10) 680 2 fun v4 =>
  some v4)
/-! paceBy(IIII)I -/
def T_paceBy_b110 (nf : Nat) (rc : Int32 → Int32 → Int32 → TS → Option (Int32 × TS)) (x9 : Int32) (s0 : Int32) (s1 : Int32) (s2 : Int32) (τ : TS) : Option (Int32 × TS) :=
  bd2 (rc s2 s1 s0 τ) fun v2 τ1 =>
  if v2 = 2000000000 then
  (some (v2, τ1))
  else (if x9 = 0 then
  (some (v2, τ1))
  else (some (v2 + 100000, τ1)))
def T_paceBy_b69 (nf : Nat) (rc : Int32 → Int32 → Int32 → TS → Option (Int32 × TS)) (x1 : Int32) (x2 : Int32) (x3 : Int32) (x4 : Int32) (x5 : Int32) (x6 : Int32) (x7 : Int32) (x8 : Int32) (τ : TS) : Option (Int32 × TS) :=
  (T_waitFor nf τ x5 x6 x7 ((tI τ 37) + x2)).bind fun v1 =>
  if x8 = 0 then
  (T_paceBy_b110 nf rc v1 x3 ((x2 + v1) + x4) (x1 + 1) τ)
  else (T_paceBy_b110 nf rc v1 (x3 - 1) ((x2 + v1) + x4) (x1 + 1) τ)
def T_paceBy_b41 (nf : Nat) (rc : Int32 → Int32 → Int32 → TS → Option (Int32 × TS)) (x1 : Int32) (x2 : Int32) (x3 : Int32) (x4 : Int32) (x5 : Int32) (x6 : Int32) (x7 : Int32) (s0 : Int32) (τ : TS) : Option (Int32 × TS) :=
  (T_canGo τ x5 x6 x7).bind fun v1 =>
  if v1 = 0 then
  (some (2000000000, τ))
  else (if s0 = 0 then
  (T_paceBy_b69 nf rc x1 x2 x3 x4 x5 x6 x7 s0 τ)
  else (if x3 = 0 then
  (some (2000000000, τ))
  else (T_paceBy_b69 nf rc x1 x2 x3 x4 x5 x6 x7 s0 τ)))
def T_paceBy (nf : Nat) (rc : Int32 → Int32 → Int32 → TS → Option (Int32 × TS)) (x1 : Int32) (x2 : Int32) (x3 : Int32) (x4 : Int32) (τ : TS) : Option (Int32 × TS) :=
  (T_xAt nf τ x1).bind fun v1 =>
  nm (x1 - v1) fun v2 =>
  ld (tA τ 16) 60 (1 + (2 * x1)) fun v3 =>
  ld (tA τ 10) 680 2 fun v4 =>
  if v4 ≤ x4 then
  (T_paceBy_b41 nf rc x1 x2 x3 x4 v1 v2 v3 0 τ)
  else (T_paceBy_b41 nf rc x1 x2 x3 x4 v1 v2 v3 1 τ)
/-! bestPace(III)I -/
def T_bestPace_b49_s (nf : Nat) (rc : Int32 → Int32 → Int32 → TS → Option (Int32 × TS)) (k49 : Int32 → Int32 → Int32 → Int32 → Int32 → Int32 → TS → Option (Int32 × TS)) (x1 : Int32) (x2 : Int32) (x3 : Int32) (x4 : Int32) (x5 : Int32) (x6 : Int32) (τ : TS) : Option (Int32 × TS) :=
  (T_slowest τ).bind fun v1 =>
  if v1 < x6 then
  (stA τ 36 156000 x4 x5 fun τ2 =>
  ld (tA τ2 36) 156000 x4 fun v3 =>
  some (v3, τ2))
  else (bd2 (T_paceBy nf rc x1 x2 x3 x6 τ) fun v5 τ4 =>
  if x5 ≤ v5 then
  (k49 x1 x2 x3 x4 x5 (x6 + 1) τ4)
  else (k49 x1 x2 x3 x4 v5 (x6 + 1) τ4))
def T_bestPace_b49 (nf : Nat) (rc : Int32 → Int32 → Int32 → TS → Option (Int32 × TS)) (n : Nat) : Int32 → Int32 → Int32 → Int32 → Int32 → Int32 → TS → Option (Int32 × TS) := lpN (fun _ _ _ _ _ _ _ => none) (T_bestPace_b49_s nf rc) n
def T_bestPace_s (nf : Nat) (rc : Int32 → Int32 → Int32 → TS → Option (Int32 × TS)) (x1 : Int32) (x2 : Int32) (x3 : Int32) (τ : TS) : Option (Int32 × TS) :=
  ld (tA τ 16) 60 0 fun v1 =>
  if x1 = v1 then
  (some (1 + x2, τ))
  else (nm ((((x1 * 1200) + x2) * 10) + x3) fun v2 =>
  ld (tA τ 36) 156000 v2 fun v3 =>
  if v3 = 0 then
  ((T_fastest τ).bind fun v5 =>
  T_bestPace_b49 nf rc nf x1 x2 x3 v2 2000000000 v5 τ)
  else (ld (tA τ 36) 156000 v2 fun v4 =>
  some (v4, τ)))
def T_bestPace (nf : Nat) (dp : Nat) : Int32 → Int32 → Int32 → TS → Option (Int32 × TS) := lpN (fun _ _ _ _ => none) (T_bestPace_s nf) dp
/-! pace(II)I -/
def T_pace_b169_s (nf : Nat) (k155 : Int32 → Int32 → Int32 → Int32 → Int32 → Int32 → TS → Option (Int32 × TS)) (k169 : Int32 → Int32 → Int32 → Int32 → Int32 → Int32 → TS → Option (Int32 × TS)) (x1 : Int32) (x2 : Int32) (x3 : Int32) (x5 : Int32) (x6 : Int32) (x7 : Int32) (τ : TS) : Option (Int32 × TS) :=
  bd2 (T_paceBy nf (T_bestPace nf 20) x7 x5 x3 x6 τ) fun v2 τ1 =>
  bd2 (T_bestPace nf 20 x7 x5 x3 τ1) fun v4 τ3 =>
  if v2 = v4 then
  ((T_xAt nf τ3 x7).bind fun v5 =>
  ld (tA τ3 16) 60 (1 + (2 * x7)) fun v6 =>
  (T_waitFor nf τ3 v5 (x7 - v5) v6 (x1 + x5)).bind fun v7 =>
  nm (x5 + (v7 + x6)) fun v8 =>
  ld (tA τ3 10) 680 2 fun v9 =>
  if v9 ≤ x6 then
  (nm (x3 - 0) fun v10 =>
  k155 x1 x2 v10 v8 x6 (x7 + 1) τ3)
  else (nm (x3 - 1) fun v11 =>
  k155 x1 x2 v11 v8 x6 (x7 + 1) τ3))
  else (k169 x1 x2 x3 x5 (x6 + 1) x7 τ3)
def T_pace_b169 (nf : Nat) (k155 : Int32 → Int32 → Int32 → Int32 → Int32 → Int32 → TS → Option (Int32 × TS)) (n : Nat) : Int32 → Int32 → Int32 → Int32 → Int32 → Int32 → TS → Option (Int32 × TS) := lpN (fun _ _ _ _ _ _ _ => none) (T_pace_b169_s nf k155) n
def T_pace_b155_s (nf : Nat) (k155 : Int32 → Int32 → Int32 → Int32 → Int32 → Int32 → TS → Option (Int32 × TS)) (x1 : Int32) (x2 : Int32) (x3 : Int32) (x5 : Int32) (x6 : Int32) (x7 : Int32) (τ : TS) : Option (Int32 × TS) :=
  if (x2 - 2) < x7 then
  (some (x6, τ))
  else ((T_fastest τ).bind fun v1 =>
  T_pace_b169 nf k155 nf x1 x2 x3 x5 v1 x7 τ)
def T_pace_b155 (nf : Nat) (n : Nat) : Int32 → Int32 → Int32 → Int32 → Int32 → Int32 → TS → Option (Int32 × TS) := lpN (fun _ _ _ _ _ _ _ => none) (T_pace_b155_s nf) n
def T_pace_b110 (nf : Nat) (x1 : Int32) (x2 : Int32) (x4 : Int32) (τ : TS) : Option (Int32 × TS) :=
  if x4 = 2000000000 then
  (some ((-1), τ))
  else (if x2 = 0 then
  (some (x4 / 100000, τ))
  else (some ((x1 + (rem32 x4 100000)) - 1, τ)))
def T_pace_b87 (nf : Nat) (x1 : Int32) (x2 : Int32) (s0 : Int32) (τ : TS) : Option (Int32 × TS) :=
  bd2 (T_bestPace nf 20 0 0 s0 τ) fun v2 τ1 =>
  if v2 = 2000000000 then
  (T_pace_b110 nf x1 x2 v2 τ1)
  else (if 2 ≤ x2 then
  (T_pace_b155 nf nf x1 x2 s0 0 0 0 τ1)
  else (T_pace_b110 nf x1 x2 v2 τ1))
def T_pace_b42_s (nf : Nat) (k42 : Int32 → Int32 → Int32 → TS → Option (Int32 × TS)) (x1 : Int32) (x2 : Int32) (x3 : Int32) (τ : TS) : Option (Int32 × TS) :=
  if 156000 ≤ x3 then
  (nm (sI τ 37 x1) fun τ1 =>
  ld (tA τ1 10) 680 6 fun v2 =>
  if v2 = 1 then
  (T_pace_b87 nf x1 x2 0 τ1)
  else (ld (tA τ1 10) 680 5 fun v3 =>
  T_pace_b87 nf x1 x2 v3 τ1))
  else (stA τ 36 156000 x3 0 fun τ4 =>
  k42 x1 x2 (x3 + 1) τ4)
def T_pace_b42 (nf : Nat) (n : Nat) : Int32 → Int32 → Int32 → TS → Option (Int32 × TS) := lpN (fun _ _ _ _ => none) (T_pace_b42_s nf) n
def T_pace (nf : Nat) (x1 : Int32) (x2 : Int32) (τ : TS) : Option (Int32 × TS) :=
  nm (sI τ 0 0) fun τ1 =>
  (T_isSecond τ1 x1).bind fun v2 =>
  if v2 = 0 then
  (some ((-1), τ1))
  else (ld (tA τ1 16) 60 0 fun v3 =>
  (T_within τ1 x2 0 (1 + v3)).bind fun v4 =>
  if v4 = 0 then
  (some ((-1), τ1))
  else (ld (tA τ1 16) 60 0 fun v5 =>
  if v5 = 0 then
  (some ((-1), τ1))
  else (T_pace_b42 nf nf x1 x2 0 τ1)))
/-! tried(IIZI)Z -/
def T_tried_b93 (x4 : Int32) (x5 : Int32) (s0 : Int32) (s1 : Int32) (τ : TS) : Option (Int32 × TS) :=
  stA τ 19 2520 s1 s0 fun τ1 =>
  stA τ1 19 2520 (x5 + 2) x4 fun τ2 =>
  ld (tA τ2 19) 2520 58 fun v3 =>
  stA τ2 19 2520 58 (v3 + 1) fun τ4 =>
  some (1, τ4)
def T_tried (x1 : Int32) (x2 : Int32) (x3 : Int32) (x4 : Int32) (τ : TS) : Option (Int32 × TS) :=
  nm (sI τ 0 0) fun τ1 =>
  (T_isCorner τ1 x1 x2).bind fun v2 =>
  if v2 = 0 then
  (some (0, τ1))
  else ((T_kindAt τ1 x1 x2).bind fun v3 =>
  if v3 = 2 then
  ((T_within τ1 x4 0 59).bind fun v4 =>
  if v4 = 0 then
  (some (0, τ1))
  else (ld (tA τ1 19) 2520 58 fun v5 =>
  if v5 = 10 then
  (some (0, τ1))
  else (ld (tA τ1 19) 2520 58 fun v6 =>
  nm (60 + (3 * v6)) fun v7 =>
  stA τ1 19 2520 v7 ((6 * x2) + x1) fun τ8 =>
  if x3 = 0 then
  (T_tried_b93 x4 v7 0 (v7 + 1) τ8)
  else (T_tried_b93 x4 v7 1 (v7 + 1) τ8))))
  else (some (0, τ1)))
/-! does(III)J -/
def T_does_b203_s (nf : Nat) (k203 : Int32 → Int64 → Int64 → Int64 → Int64 → TS → Option (Int64 × TS)) (x3 : Int32) (x8 : Int64) (x10 : Int64) (x12 : Int64) (x14 : Int64) (τ : TS) : Option (Int64 × TS) :=
  if x14 = 0 then
  (if x3 = 0 then
  (d64 x12 (
  some (x8 / x12, τ)))
  else (d64 x12 (
  some ((x8 + x10) / x12, τ))))
  else (d64 x14 (
  nm (rem64 x12 x14) fun v1 =>
  k203 x3 x8 x10 x14 v1 τ))
def T_does_b203 (nf : Nat) (n : Nat) : Int32 → Int64 → Int64 → Int64 → Int64 → TS → Option (Int64 × TS) := lpN (fun _ _ _ _ _ _ => none) (T_does_b203_s nf) n
def T_does_b143 (nf : Nat) (k68 : Int32 → Int32 → Int32 → Int64 → Int64 → Int64 → Int64 → Int32 → TS → Option (Int64 × TS)) (x1 : Int32) (x2 : Int32) (x3 : Int32) (x4 : Int64) (x6 : Int64) (x10 : Int64) (x12 : Int32) (x13 : Int32) (s0 : Int64) (τ : TS) : Option (Int64 × TS) :=
  ld (tA τ 19) 2520 (x13 + 2) fun v1 =>
  if x4 ≤ v1.toInt64 then
  (k68 x1 x2 x3 x4 x6 s0 0 (x12 + 1) τ)
  else (nm (x10 * x6) fun v2 =>
  k68 x1 x2 x3 x4 x6 s0 v2 (x12 + 1) τ)
def T_does_b68_s (nf : Nat) (k68 : Int32 → Int32 → Int32 → Int64 → Int64 → Int64 → Int64 → Int32 → TS → Option (Int64 × TS)) (x1 : Int32) (x2 : Int32) (x3 : Int32) (x4 : Int64) (x6 : Int64) (x8 : Int64) (x10 : Int64) (x12 : Int32) (τ : TS) : Option (Int64 × TS) :=
  ld (tA τ 19) 2520 58 fun v1 =>
  if v1 ≤ x12 then
  (if (x8 + x10) = 0 then
  (some ((-1), τ))
  else (nm (x8 + x10) fun v2 =>
  T_does_b203 nf nf x3 x8 x10 x8 v2 τ))
  else (nm (60 + (3 * x12)) fun v3 =>
  ld (tA τ 19) 2520 v3 fun v4 =>
  if v4 = ((6 * x2) + x1) then
  (ld (tA τ 19) 2520 (v3 + 1) fun v5 =>
  if v5 = 1 then
  (ld (tA τ 19) 2520 (v3 + 2) fun v6 =>
  if x6 ≤ v6.toInt64 then
  (T_does_b143 nf k68 x1 x2 x3 x4 x6 x10 x12 v3 0 τ)
  else (T_does_b143 nf k68 x1 x2 x3 x4 x6 x10 x12 v3 (x8 * x4) τ))
  else (k68 x1 x2 x3 x4 x6 x8 x10 (x12 + 1) τ))
  else (k68 x1 x2 x3 x4 x6 x8 x10 (x12 + 1) τ))
def T_does_b68 (nf : Nat) (n : Nat) : Int32 → Int32 → Int32 → Int64 → Int64 → Int64 → Int64 → Int32 → TS → Option (Int64 × TS) := lpN (fun _ _ _ _ _ _ _ _ _ => none) (T_does_b68_s nf) n
def T_does (nf : Nat) (x1 : Int32) (x2 : Int32) (x3 : Int32) (τ : TS) : Option (Int64 × TS) :=
  nm (sI τ 0 0) fun τ1 =>
  (T_isCorner τ1 x1 x2).bind fun v2 =>
  if v2 = 0 then
  (some ((-1), τ1))
  else ((T_kindAt τ1 x1 x2).bind fun v3 =>
  if v3 = 2 then
  ((T_within τ1 x3 0 1).bind fun v4 =>
  if v4 = 0 then
  (some ((-1), τ1))
  else ((T_lightAt τ1 x1 x2 1).bind fun v5 =>
  (T_lightAt τ1 x1 x2 2).bind fun v6 =>
  nm (v6.toInt64 + 1) fun v7 =>
  T_does_b68 nf nf x1 x2 x3 v5.toInt64 v7 1 1 0 τ1))
  else (some ((-1), τ1)))
/-! ones(J)I -/
def T_ones_b4_s (nf : Nat) (τ : TS) (k4 : Int64 → Int32 → Int32 → Option Int32) (x0 : Int64) (x2 : Int32) (x3 : Int32) : Option Int32 :=
  if 60 ≤ x3 then
  (some x2)
  else (nm (x2 + (((shr64 x0 x3) &&& 1).toInt32)) fun v1 =>
  k4 x0 v1 (x3 + 1))
def T_ones_b4 (nf : Nat) (τ : TS) (n : Nat) : Int64 → Int32 → Int32 → Option Int32 := lpN (fun _ _ _ => none) (T_ones_b4_s nf τ) n
def T_ones (nf : Nat) (τ : TS) (x0 : Int64) : Option Int32 :=
  T_ones_b4 nf τ nf x0 0 0
/-! triesWave(IIIJJZ)V -/
def T_triesWave_b75_s (nf : Nat) (rc : Int32 → Int32 → Int32 → Int64 → Int64 → Int32 → TS → Option TS) (k75 : Int32 → Int32 → Int32 → Int64 → Int64 → Int32 → Int32 → TS → Option TS) (x1 : Int32) (x2 : Int32) (x3 : Int32) (x4 : Int64) (x6 : Int64) (x8 : Int32) (x9 : Int32) (τ : TS) : Option TS :=
  if x3 ≤ x9 then
  (some τ)
  else (stA τ 40 4 x1 x9 fun τ1 =>
  ld (tB τ1 38) 240 ((60 * x1) + x9) fun v2 =>
  ld (tB τ1 39) 240 ((60 * x1) + x9) fun v3 =>
  (rc (x1 + 1) x2 x3 (x4 &&& v2) (x6 &&& v3) x8 τ1).bind fun τ4 =>
  k75 x1 x2 x3 x4 x6 x8 (x9 + 1) τ4)
def T_triesWave_b75 (nf : Nat) (rc : Int32 → Int32 → Int32 → Int64 → Int64 → Int32 → TS → Option TS) (n : Nat) : Int32 → Int32 → Int32 → Int64 → Int64 → Int32 → Int32 → TS → Option TS := lpN (fun _ _ _ _ _ _ _ _ => none) (T_triesWave_b75_s nf rc) n
def T_triesWave_b45_s (nf : Nat) (rc : Int32 → Int32 → Int32 → Int64 → Int64 → Int32 → TS → Option TS) (k45 : Int32 → Int32 → TS → Option TS) (x2 : Int32) (x10 : Int32) (τ : TS) : Option TS :=
  if x2 ≤ x10 then
  (some τ)
  else (ld (tA τ 40) 4 x10 fun v1 =>
  stA τ 41 4 x10 v1 fun τ2 =>
  k45 x2 (x10 + 1) τ2)
def T_triesWave_b45 (nf : Nat) (rc : Int32 → Int32 → Int32 → Int64 → Int64 → Int32 → TS → Option TS) (n : Nat) : Int32 → Int32 → TS → Option TS := lpN (fun _ _ _ => none) (T_triesWave_b45_s nf rc) n
def T_triesWave_b24 (nf : Nat) (rc : Int32 → Int32 → Int32 → Int64 → Int64 → Int32 → TS → Option TS) (x2 : Int32) (s0 : Int32) (s1 : Int32) (τ : TS) : Option TS :=
  nm (s1 + s0) fun v1 =>
  if v1 ≤ (tI τ 42) then
  (some τ)
  else (nm (sI τ 42 v1) fun τ2 =>
  T_triesWave_b45 nf rc nf x2 0 τ2)
def T_triesWave_s (nf : Nat) (rc : Int32 → Int32 → Int32 → Int64 → Int64 → Int32 → TS → Option TS) (x1 : Int32) (x2 : Int32) (x3 : Int32) (x4 : Int64) (x6 : Int64) (x8 : Int32) (τ : TS) : Option TS :=
  if x1 = x2 then
  ((T_ones nf τ x4).bind fun v1 =>
  if x8 = 0 then
  (T_triesWave_b24 nf rc x2 0 v1 τ)
  else ((T_ones nf τ x6).bind fun v2 =>
  T_triesWave_b24 nf rc x2 v2 v1 τ))
  else (T_triesWave_b75 nf rc nf x1 x2 x3 x4 x6 x8 0 τ)
def T_triesWave (nf : Nat) (dp : Nat) : Int32 → Int32 → Int32 → Int64 → Int64 → Int32 → TS → Option TS := lpN (fun _ _ _ _ _ _ _ => none) (T_triesWave_s nf) dp
/-! turned(III)J -/
def T_turned_b5_s (nf : Nat) (τ : TS) (k5 : Int32 → Int32 → Int32 → Int64 → Int32 → Option Int64) (x0 : Int32) (x1 : Int32) (x2 : Int32) (x3 : Int64) (x5 : Int32) : Option Int64 :=
  if x1 ≤ x5 then
  (some x3)
  else (d32 x2 (
  d32 x2 (
  nm (x3 ||| (shl64 1 (rem32 ((rem32 (x0 + x5) x2) + x2) x2))) fun v1 =>
  k5 x0 x1 x2 v1 (x5 + 1))))
def T_turned_b5 (nf : Nat) (τ : TS) (n : Nat) : Int32 → Int32 → Int32 → Int64 → Int32 → Option Int64 := lpN (fun _ _ _ _ _ => none) (T_turned_b5_s nf τ) n
def T_turned (nf : Nat) (τ : TS) (x0 : Int32) (x1 : Int32) (x2 : Int32) : Option Int64 :=
  T_turned_b5 nf τ nf x0 x1 x2 0 0
/-! wave(IIIZI)I -/
def T_wave_b154_s (nf : Nat) (k130 : Int32 → Int32 → Int32 → Int32 → Int32 → Int32 → Int32 → TS → Option (Int32 × TS)) (k154 : Int32 → Int32 → Int32 → Int32 → Int32 → Int32 → Int32 → Int32 → Int32 → TS → Option (Int32 × TS)) (x1 : Int32) (x2 : Int32) (x3 : Int32) (x4 : Int32) (x5 : Int32) (x7 : Int32) (x8 : Int32) (x9 : Int32) (x10 : Int32) (τ : TS) : Option (Int32 × TS) :=
  if x7 ≤ x10 then
  (k130 x1 x2 x3 x4 x5 x7 (x8 + 1) τ)
  else (ld (tA τ 10) 680 2 fun v1 =>
  (T_turned nf τ (x10 - (x8 * v1)) x9 x7).bind fun v2 =>
  stB τ 38 240 ((60 * x8) + x10) v2 fun τ3 =>
  ld (tA τ3 10) 680 2 fun v4 =>
  (T_turned nf τ3 (x10 - (((x3 - 1) - x8) * v4)) x9 x7).bind fun v5 =>
  stB τ3 39 240 ((60 * x8) + x10) v5 fun τ6 =>
  k154 x1 x2 x3 x4 x5 x7 x8 x9 (x10 + 1) τ6)
def T_wave_b154 (nf : Nat) (k130 : Int32 → Int32 → Int32 → Int32 → Int32 → Int32 → Int32 → TS → Option (Int32 × TS)) (n : Nat) : Int32 → Int32 → Int32 → Int32 → Int32 → Int32 → Int32 → Int32 → Int32 → TS → Option (Int32 × TS) := lpN (fun _ _ _ _ _ _ _ _ _ _ => none) (T_wave_b154_s nf k130) n
def T_wave_b130_s (nf : Nat) (k130 : Int32 → Int32 → Int32 → Int32 → Int32 → Int32 → Int32 → TS → Option (Int32 × TS)) (x1 : Int32) (x2 : Int32) (x3 : Int32) (x4 : Int32) (x5 : Int32) (x7 : Int32) (x8 : Int32) (τ : TS) : Option (Int32 × TS) :=
  if x3 ≤ x8 then
  (nm (sI τ 42 (-1)) fun τ1 =>
  (T_lightAt τ1 x1 x2 2).bind fun v2 =>
  (T_lightAt τ1 x1 x2 3).bind fun v3 =>
  d32 x7 (
  nm (rem32 (v2 + v3) x7) fun v4 =>
  stA τ1 40 4 0 v4 fun τ5 =>
  ld (tB τ5 38) 240 v4 fun v6 =>
  ld (tB τ5 39) 240 v4 fun v7 =>
  (T_triesWave nf 10 1 x3 x7 v6 v7 x4 τ5).bind fun τ8 =>
  if x5 = 0 then
  (some (tI τ8 42, τ8))
  else (ld (tA τ8 41) 4 x5 fun v9 =>
  some (v9, τ8))))
  else ((T_lightAt τ x1 (x2 + x8) 3).bind fun v10 =>
  nm (x7 - v10) fun v11 =>
  T_wave_b154 nf k130 nf x1 x2 x3 x4 x5 x7 x8 v11 0 τ)
def T_wave_b130 (nf : Nat) (n : Nat) : Int32 → Int32 → Int32 → Int32 → Int32 → Int32 → Int32 → TS → Option (Int32 × TS) := lpN (fun _ _ _ _ _ _ _ _ => none) (T_wave_b130_s nf) n
def T_wave_b111 (nf : Nat) (x1 : Int32) (x2 : Int32) (x3 : Int32) (x4 : Int32) (x5 : Int32) (x6 : Int32) (τ : TS) : Option (Int32 × TS) :=
  if x6 = 0 then
  (some ((-1), τ))
  else ((T_lightAt τ x1 x2 1).bind fun v1 =>
  T_wave_b130 nf nf x1 x2 x3 x4 x5 v1 0 τ)
def T_wave_b55_s (nf : Nat) (k55 : Int32 → Int32 → Int32 → Int32 → Int32 → Int32 → Int32 → TS → Option (Int32 × TS)) (x1 : Int32) (x2 : Int32) (x3 : Int32) (x4 : Int32) (x5 : Int32) (x6 : Int32) (x7 : Int32) (τ : TS) : Option (Int32 × TS) :=
  if x3 ≤ x7 then
  (T_wave_b111 nf x1 x2 x3 x4 x5 x6 τ)
  else (if x6 = 0 then
  (T_wave_b111 nf x1 x2 x3 x4 x5 x6 τ)
  else ((T_isTimed τ x1 (x2 + x7)).bind fun v1 =>
  if v1 = 0 then
  (k55 x1 x2 x3 x4 x5 0 (x7 + 1) τ)
  else ((T_lightAt τ x1 (x2 + x7) 1).bind fun v2 =>
  (T_lightAt τ x1 x2 1).bind fun v3 =>
  if v2 = v3 then
  (k55 x1 x2 x3 x4 x5 1 (x7 + 1) τ)
  else (k55 x1 x2 x3 x4 x5 0 (x7 + 1) τ))))
def T_wave_b55 (nf : Nat) (n : Nat) : Int32 → Int32 → Int32 → Int32 → Int32 → Int32 → Int32 → TS → Option (Int32 × TS) := lpN (fun _ _ _ _ _ _ _ _ => none) (T_wave_b55_s nf) n
def T_wave (nf : Nat) (x1 : Int32) (x2 : Int32) (x3 : Int32) (x4 : Int32) (x5 : Int32) (τ : TS) : Option (Int32 × TS) :=
  nm (sI τ 0 0) fun τ1 =>
  (T_isCorner τ1 x1 x2).bind fun v2 =>
  if v2 = 0 then
  (T_wave_b55 nf nf x1 x2 x3 x4 x5 0 0 τ1)
  else ((T_within τ1 x3 2 4).bind fun v3 =>
  if v3 = 0 then
  (T_wave_b55 nf nf x1 x2 x3 x4 x5 0 0 τ1)
  else ((T_deep τ1).bind fun v4 =>
  if v4 < (x2 + x3) then
  (T_wave_b55 nf nf x1 x2 x3 x4 x5 0 0 τ1)
  else ((T_within τ1 x5 0 (x3 - 1)).bind fun v5 =>
  if v5 = 0 then
  (T_wave_b55 nf nf x1 x2 x3 x4 x5 0 0 τ1)
  else (T_wave_b55 nf nf x1 x2 x3 x4 x5 1 0 τ1))))
/-! rules()I -/
def T_rules_b11_s (nf : Nat) (k11 : Int32 → Int32 → Int32 → TS → Option (Int32 × TS)) (x1 : Int32) (x2 : Int32) (x3 : Int32) (τ : TS) : Option (Int32 × TS) :=
  ld (tA τ 10) 680 8 fun v1 =>
  if v1 ≤ x3 then
  (some (x1, τ))
  else ((T_asks (4 + x3) 0 (-1) 0 τ).bind fun τ2 =>
  bd2 (T_worthFrom nf 20 0 0 0 τ2) fun v4 τ3 =>
  if v4 < 0 then
  (k11 x1 x2 (x3 + 1) τ3)
  else (if x1 < 0 then
  (k11 x3 v4 (x3 + 1) τ3)
  else (if x2 ≤ v4 then
  (k11 x1 x2 (x3 + 1) τ3)
  else (k11 x3 v4 (x3 + 1) τ3))))
def T_rules_b11 (nf : Nat) (n : Nat) : Int32 → Int32 → Int32 → TS → Option (Int32 × TS) := lpN (fun _ _ _ _ => none) (T_rules_b11_s nf) n
def T_rules (nf : Nat) (τ : TS) : Option (Int32 × TS) :=
  nm (sI τ 0 0) fun τ1 =>
  T_rules_b11 nf nf (-1) 0 0 τ1
/-! was(III)Z -/
def T_was (x1 : Int32) (x2 : Int32) (x3 : Int32) (τ : TS) : Option (Int32 × TS) :=
  nm (sI τ 0 0) fun τ1 =>
  (T_isCorner τ1 x1 x2).bind fun v2 =>
  if v2 = 0 then
  (some (0, τ1))
  else ((T_within τ1 x3 0 9999).bind fun v3 =>
  if v3 = 0 then
  (some (0, τ1))
  else (ld (tA τ1 19) 2520 59 fun v4 =>
  if v4 = 8 then
  (some (0, τ1))
  else (ld (tA τ1 19) 2520 59 fun v5 =>
  nm (92 + (3 * v5)) fun v6 =>
  stA τ1 19 2520 v6 x1 fun τ7 =>
  stA τ7 19 2520 (v6 + 1) x2 fun τ8 =>
  stA τ8 19 2520 (v6 + 2) x3 fun τ9 =>
  ld (tA τ9 19) 2520 59 fun v10 =>
  stA τ9 19 2520 59 (v10 + 1) fun τ11 =>
  some (1, τ11))))
/-! fits0(IJI)V -/
def T_fits0_b57 (s0 : Int64) (τ : TS) : Option TS :=
  nm (sL τ 45 s0) fun τ1 =>
  nm (sL τ1 43 ((tL τ1 43) + 1)) fun τ2 =>
  some τ2
def T_fits0_b34 (x2 : Int64) (s0 : Int32) (τ : TS) : Option TS :=
  nm (sI τ 44 s0) fun τ1 =>
  if (tL τ1 43) = 0 then
  (T_fits0_b57 x2 τ1)
  else (T_fits0_b57 ((tL τ1 45) &&& x2) τ1)
def T_fits0 (x1 : Int32) (x2 : Int64) (x4 : Int32) (τ : TS) : Option TS :=
  ld (tA τ 19) 2520 59 fun v1 =>
  if x1 = ((shl32 1 v1) - 1) then
  (if (tL τ 43) = 0 then
  (T_fits0_b34 x2 x4 τ)
  else (T_fits0_b34 x2 (tI τ 44) τ))
  else (some τ)
/-! wasBetween(IIII)I -/
def T_wasBetween_b6_s (nf : Nat) (τ : TS) (k6 : Int32 → Int32 → Int32 → Int32 → Int32 → Int32 → Option Int32) (x1 : Int32) (x2 : Int32) (x3 : Int32) (x4 : Int32) (x5 : Int32) (x6 : Int32) : Option Int32 :=
  ld (tA τ 19) 2520 59 fun v1 =>
  if v1 ≤ x6 then
  (some x5)
  else (nm (92 + (3 * x6)) fun v2 =>
  ld (tA τ 19) 2520 v2 fun v3 =>
  if v3 = x1 then
  (ld (tA τ 19) 2520 (v2 + 1) fun v5 =>
  if v5 = x2 then
  (ld (tA τ 19) 2520 (v2 + 2) fun v7 =>
  (T_within τ v7 x3 x4).bind fun v8 =>
  if v8 = 0 then
  (nm (x5 ||| 0) fun v9 =>
  k6 x1 x2 x3 x4 v9 (x6 + 1))
  else (nm (x5 ||| (shl32 1 x6)) fun v10 =>
  k6 x1 x2 x3 x4 v10 (x6 + 1)))
  else (nm (x5 ||| 0) fun v6 =>
  k6 x1 x2 x3 x4 v6 (x6 + 1)))
  else (nm (x5 ||| 0) fun v4 =>
  k6 x1 x2 x3 x4 v4 (x6 + 1)))
def T_wasBetween_b6 (nf : Nat) (τ : TS) (n : Nat) : Int32 → Int32 → Int32 → Int32 → Int32 → Int32 → Option Int32 := lpN (fun _ _ _ _ _ _ => none) (T_wasBetween_b6_s nf τ) n
def T_wasBetween (nf : Nat) (τ : TS) (x1 : Int32) (x2 : Int32) (x3 : Int32) (x4 : Int32) : Option Int32 :=
  T_wasBetween_b6 nf τ nf x1 x2 x3 x4 0 0
/-! goesOn(IIIIJI)V -/
def T_goesOn_b88 (nf : Nat) (rc : Int32 → Int32 → Int32 → Int32 → Int64 → Int32 → TS → Option TS) (k24 : Int32 → Int32 → Int32 → Int32 → Int32 → Int32 → Int64 → Int32 → TS → Option TS) (x1 : Int32) (x2 : Int32) (x3 : Int32) (x4 : Int32) (x7 : Int32) (x8 : Int32) (x9 : Int64) (x11 : Int32) (s0 : Int32) (τ : TS) : Option TS :=
  (T_wasBetween nf τ x1 x2 x3 s0).bind fun v1 =>
  nm (x4 ||| v1) fun v2 =>
  if x8 = 0 then
  (ld (tA τ 10) 680 2 fun v3 =>
  (rc ((x1 + 1) - x11) (x2 + x11) (s0 + v3) v2 x9 (x7 ||| (shl32 x11 (x1 + x2))) τ).bind fun τ4 =>
  k24 x1 x2 x3 x4 x7 x8 x9 (x11 + 1) τ4)
  else ((T_fits0 v2 x9 x7 τ).bind fun τ5 =>
  k24 x1 x2 x3 x4 x7 x8 x9 (x11 + 1) τ5)
def T_goesOn_b66 (nf : Nat) (rc : Int32 → Int32 → Int32 → Int32 → Int64 → Int32 → TS → Option TS) (k24 : Int32 → Int32 → Int32 → Int32 → Int32 → Int32 → Int64 → Int32 → TS → Option TS) (x1 : Int32) (x2 : Int32) (x3 : Int32) (x4 : Int32) (x7 : Int32) (x8 : Int32) (x9 : Int64) (x11 : Int32) (τ : TS) : Option TS :=
  if x8 = 0 then
  ((T_waitFor nf τ x1 x2 x11 x3).bind fun v1 =>
  T_goesOn_b88 nf rc k24 x1 x2 x3 x4 x7 x8 x9 x11 (x3 + v1) τ)
  else (T_goesOn_b88 nf rc k24 x1 x2 x3 x4 x7 x8 x9 x11 2000000000 τ)
def T_goesOn_b41 (nf : Nat) (rc : Int32 → Int32 → Int32 → Int32 → Int64 → Int32 → TS → Option TS) (k24 : Int32 → Int32 → Int32 → Int32 → Int32 → Int32 → Int64 → Int32 → TS → Option TS) (x1 : Int32) (x2 : Int32) (x3 : Int32) (x4 : Int32) (x7 : Int32) (x8 : Int32) (x9 : Int64) (x11 : Int32) (τ : TS) : Option TS :=
  if x8 = 0 then
  ((T_canGo τ x1 x2 x11).bind fun v1 =>
  if v1 = 0 then
  (k24 x1 x2 x3 x4 x7 x8 x9 (x11 + 1) τ)
  else (T_goesOn_b66 nf rc k24 x1 x2 x3 x4 x7 x8 x9 x11 τ))
  else (if x11 = 2 then
  (T_goesOn_b66 nf rc k24 x1 x2 x3 x4 x7 x8 x9 x11 τ)
  else (k24 x1 x2 x3 x4 x7 x8 x9 (x11 + 1) τ))
def T_goesOn_b24_s (nf : Nat) (rc : Int32 → Int32 → Int32 → Int32 → Int64 → Int32 → TS → Option TS) (k24 : Int32 → Int32 → Int32 → Int32 → Int32 → Int32 → Int64 → Int32 → TS → Option TS) (x1 : Int32) (x2 : Int32) (x3 : Int32) (x4 : Int32) (x7 : Int32) (x8 : Int32) (x9 : Int64) (x11 : Int32) (τ : TS) : Option TS :=
  if x11 < 2 then
  (T_goesOn_b41 nf rc k24 x1 x2 x3 x4 x7 x8 x9 x11 τ)
  else (if x8 = 0 then
  (some τ)
  else (if 3 ≤ x11 then
  (some τ)
  else (T_goesOn_b41 nf rc k24 x1 x2 x3 x4 x7 x8 x9 x11 τ)))
def T_goesOn_b24 (nf : Nat) (rc : Int32 → Int32 → Int32 → Int32 → Int64 → Int32 → TS → Option TS) (n : Nat) : Int32 → Int32 → Int32 → Int32 → Int32 → Int32 → Int64 → Int32 → TS → Option TS := lpN (fun _ _ _ _ _ _ _ _ _ => none) (T_goesOn_b24_s nf rc) n
def T_goesOn_s (nf : Nat) (rc : Int32 → Int32 → Int32 → Int32 → Int64 → Int32 → TS → Option TS) (x1 : Int32) (x2 : Int32) (x3 : Int32) (x4 : Int32) (x5 : Int64) (x7 : Int32) (τ : TS) : Option TS :=
  (T_isHome τ x1 x2).bind fun v1 =>
  nm (x5 ||| (shl64 1 ((6 * x2) + x1))) fun v2 =>
  T_goesOn_b24 nf rc nf x1 x2 x3 x4 x7 v1 v2 0 τ
def T_goesOn (nf : Nat) (dp : Nat) : Int32 → Int32 → Int32 → Int32 → Int64 → Int32 → TS → Option TS := lpN (fun _ _ _ _ _ _ _ => none) (T_goesOn_s nf) dp
/-! fits(I)J -/
def T_fits_b157 (nf : Nat) (k77 : Int32 → Int64 → Int32 → TS → Option (Int64 × TS)) (x1 : Int32) (x4 : Int32) (s0 : Int32) (s1 : Int64) (s2 : Int64) (τ : TS) : Option (Int64 × TS) :=
  nm (s2 ||| (shl64 s1 (s0 + (rem32 x4 6)))) fun v1 =>
  k77 x1 v1 (x4 + 1) τ
def T_fits_b131 (nf : Nat) (k77 : Int32 → Int64 → Int32 → TS → Option (Int64 × TS)) (x1 : Int32) (x2 : Int64) (x4 : Int32) (s0 : Int32) (τ : TS) : Option (Int64 × TS) :=
  if s0 = 0 then
  (nm (x2 ||| 0) fun v1 =>
  k77 x1 v1 (x4 + 1) τ)
  else (if x1 = 2 then
  (T_fits_b157 nf k77 x1 x4 (8 * (x4 / 6)) 1 x2 τ)
  else (T_fits_b157 nf k77 x1 x4 0 1 x2 τ))
def T_fits_b113 (nf : Nat) (k77 : Int32 → Int64 → Int32 → TS → Option (Int64 × TS)) (x1 : Int32) (x2 : Int64) (x4 : Int32) (s0 : Int32) (τ : TS) : Option (Int64 × TS) :=
  if x1 = 2 then
  (if s0 = 1 then
  (T_fits_b131 nf k77 x1 x2 x4 1 τ)
  else (T_fits_b131 nf k77 x1 x2 x4 0 τ))
  else (if s0 = 0 then
  (T_fits_b131 nf k77 x1 x2 x4 1 τ)
  else (T_fits_b131 nf k77 x1 x2 x4 0 τ))
def T_fits_b77_s (nf : Nat) (k77 : Int32 → Int64 → Int32 → TS → Option (Int64 × TS)) (x1 : Int32) (x2 : Int64) (x4 : Int32) (τ : TS) : Option (Int64 × TS) :=
  if 54 ≤ x4 then
  (some (x2, τ))
  else (if ((shr64 (tL τ 45) x4) &&& 1) = 1 then
  (if 8 ≤ (x4 / 6) then
  (T_fits_b113 nf k77 x1 x2 x4 0 τ)
  else (T_fits_b113 nf k77 x1 x2 x4 1 τ))
  else (T_fits_b131 nf k77 x1 x2 x4 0 τ))
def T_fits_b77 (nf : Nat) (n : Nat) : Int32 → Int64 → Int32 → TS → Option (Int64 × TS) := lpN (fun _ _ _ _ => none) (T_fits_b77_s nf) n
def T_fits_b46 (nf : Nat) (x1 : Int32) (τ : TS) : Option (Int64 × TS) :=
  if x1 = 0 then
  (some (tL τ 43, τ))
  else (some ((-1), τ))
def T_fits (nf : Nat) (x1 : Int32) (τ : TS) : Option (Int64 × TS) :=
  nm (sI τ 0 0) fun τ1 =>
  (T_within τ1 x1 0 3).bind fun v2 =>
  if v2 = 0 then
  (some ((-1), τ1))
  else (nm (sL τ1 43 0) fun τ3 =>
  (T_goesOn nf 20 0 0 0 0 0 0 τ3).bind fun τ4 =>
  if x1 = 0 then
  (T_fits_b46 nf x1 τ4)
  else (if (tL τ4 43) = 0 then
  (T_fits_b46 nf x1 τ4)
  else (if x1 = 1 then
  (some ((tI τ4 44).toInt64, τ4))
  else (T_fits_b77 nf nf x1 0 0 τ4))))
/-! draw(I)I -/
def T_draw (x1 : Int32) (τ : TS) : Option (Int32 × TS) :=
  nm (sL τ 46 (rem64 (((tL τ 46) * 1103515245) + 12345) 2147483648)) fun τ1 =>
  d64 x1.toInt64 (
  some ((rem64 ((tL τ1 46) / 65536) x1.toInt64).toInt32, τ1))
/-! draws()V -/
def T_draws_b44 (nf : Nat) (k2 : Int32 → TS → Option TS) (x1 : Int32) (s0 : Int32) (τ : TS) : Option TS :=
  if s0 = 0 then
  (stA τ 47 54 x1 0 fun τ1 =>
  k2 (x1 + 1) τ1)
  else ((T_lightAt τ (rem32 x1 6) (x1 / 6) 1).bind fun v2 =>
  bd2 (T_draw v2 τ) fun v4 τ3 =>
  stA τ3 47 54 x1 v4 fun τ5 =>
  k2 (x1 + 1) τ5)
def T_draws_b2_s (nf : Nat) (k2 : Int32 → TS → Option TS) (x1 : Int32) (τ : TS) : Option TS :=
  if 54 ≤ x1 then
  (some τ)
  else ((T_kindAt τ (rem32 x1 6) (x1 / 6)).bind fun v1 =>
  if v1 = 1 then
  ((T_isKnown τ (rem32 x1 6) (x1 / 6)).bind fun v2 =>
  if v2 = 0 then
  (T_draws_b44 nf k2 x1 1 τ)
  else (T_draws_b44 nf k2 x1 0 τ))
  else (T_draws_b44 nf k2 x1 0 τ))
def T_draws_b2 (nf : Nat) (n : Nat) : Int32 → TS → Option TS := lpN (fun _ _ => none) (T_draws_b2_s nf) n
def T_draws (nf : Nat) (τ : TS) : Option TS :=
  T_draws_b2 nf nf 0 τ
/-! night()I -/
def T_night_b6_s (nf : Nat) (k6 : Int32 → Int32 → Int32 → TS → Option (Int32 × TS)) (x1 : Int32) (x2 : Int32) (x3 : Int32) (τ : TS) : Option (Int32 × TS) :=
  (T_isHome τ x1 x2).bind fun v1 =>
  if v1 = 0 then
  (ld (tA τ 47) 54 ((6 * x2) + x1) fun v2 =>
  nm (x3 + v2) fun v3 =>
  ld (tA τ 10) 680 9 fun v4 =>
  d32 v4 (
  bd2 (T_wayOf nf (T_worthFrom nf 20) x1 x2 (rem32 x3 v4) v3 τ) fun v6 τ5 =>
  (T_waitFor nf τ5 x1 x2 v6 v3).bind fun v7 =>
  ld (tA τ5 10) 680 2 fun v8 =>
  nm (x3 + (v7 + v8)) fun v9 =>
  nm (x1 + (1 - v6)) fun v10 =>
  nm (x2 + v6) fun v11 =>
  k6 v10 v11 v9 τ5))
  else (some (x3, τ))
def T_night_b6 (nf : Nat) (n : Nat) : Int32 → Int32 → Int32 → TS → Option (Int32 × TS) := lpN (fun _ _ _ _ => none) (T_night_b6_s nf) n
def T_night (nf : Nat) (τ : TS) : Option (Int32 × TS) :=
  T_night_b6 nf nf 0 0 0 τ
/-! nights(IIII)I -/
def T_nights_b81_s (nf : Nat) (k81 : Int32 → Int32 → Int32 → Int32 → Int32 → TS → Option (Int32 × TS)) (x2 : Int32) (x4 : Int32) (x5 : Int32) (x6 : Int32) (x7 : Int32) (τ : TS) : Option (Int32 × TS) :=
  if x2 ≤ x7 then
  (if x4 = 0 then
  (some (x5, τ))
  else (some (x6, τ)))
  else ((T_draws nf τ).bind fun τ1 =>
  bd2 (T_night nf τ1) fun v3 τ2 =>
  nm (x5 + v3) fun v4 =>
  if v3 ≤ x6 then
  (k81 x2 x4 v4 x6 (x7 + 1) τ2)
  else (k81 x2 x4 v4 v3 (x7 + 1) τ2))
def T_nights_b81 (nf : Nat) (n : Nat) : Int32 → Int32 → Int32 → Int32 → Int32 → TS → Option (Int32 × TS) := lpN (fun _ _ _ _ _ _ => none) (T_nights_b81_s nf) n
def T_nights (nf : Nat) (x1 : Int32) (x2 : Int32) (x3 : Int32) (x4 : Int32) (τ : TS) : Option (Int32 × TS) :=
  nm (sI τ 0 0) fun τ1 =>
  (T_within τ1 x1 0 9999).bind fun v2 =>
  if v2 = 0 then
  (some ((-1), τ1))
  else ((T_within τ1 x2 1 30).bind fun v3 =>
  if v3 = 0 then
  (some ((-1), τ1))
  else ((T_isGoer τ1 x3).bind fun v4 =>
  if v4 = 0 then
  (some ((-1), τ1))
  else ((T_within τ1 x4 0 1).bind fun v5 =>
  if v5 = 0 then
  (some ((-1), τ1))
  else ((T_asks x3 0 (-1) 0 τ1).bind fun τ6 =>
  bd2 (T_worthFrom nf 20 0 0 0 τ6) fun v8 τ7 =>
  if 0 ≤ v8 then
  (nm (sL τ7 46 x1.toInt64) fun τ9 =>
  T_nights_b81 nf nf x2 x4 0 0 0 τ9)
  else (some ((-1), τ7))))))
/-! mark(IZ)Z -/
def T_mark_b77 (nf : Nat) (s0 : Int32) (τ : TS) : Option (Int32 × TS) :=
  nm (sI τ 20 s0) fun τ1 =>
  nm (sI τ1 22 ((tI τ1 22) + 1)) fun τ2 =>
  some (1, τ2)
def T_mark_b59 (nf : Nat) (x2 : Int32) (s0 : Int32) (s1 : Int32) (τ : TS) : Option (Int32 × TS) :=
  (T_copies nf s1 s0 120 τ).bind fun τ1 =>
  if x2 = 0 then
  (T_mark_b77 nf (tI τ1 20) τ1)
  else (T_mark_b77 nf 0 τ1)
def T_mark_b48 (nf : Nat) (x1 : Int32) (x2 : Int32) (s0 : Int32) (τ : TS) : Option (Int32 × TS) :=
  if x2 = 0 then
  (T_mark_b59 nf x2 (1 + x1) s0 τ)
  else (T_mark_b59 nf x2 0 s0 τ)
def T_mark_b29 (nf : Nat) (x1 : Int32) (x2 : Int32) (τ : TS) : Option (Int32 × TS) :=
  gd (isb 1) (stA τ 21 4 x1 1 fun τ1 =>
  if x2 = 0 then
  (T_mark_b48 nf x1 x2 0 τ1)
  else (T_mark_b48 nf x1 x2 (1 + x1) τ1))
def T_mark (nf : Nat) (x1 : Int32) (x2 : Int32) (τ : TS) : Option (Int32 × TS) :=
  nm (sI τ 0 0) fun τ1 =>
  (T_within τ1 x1 0 3).bind fun v2 =>
  if v2 = 0 then
  (some (0, τ1))
  else (if x2 = 0 then
  (T_mark_b29 nf x1 x2 τ1)
  else (ld (tA τ1 21) 4 x1 fun v3 =>
  if v3 = 0 then
  (some (0, τ1))
  else (T_mark_b29 nf x1 x2 τ1)))
/-! count(I)I -/
def T_count_b9_s (nf : Nat) (k9 : Int32 → Int32 → Int32 → TS → Option (Int32 × TS)) (x1 : Int32) (x2 : Int32) (x3 : Int32) (τ : TS) : Option (Int32 × TS) :=
  if 54 ≤ x3 then
  (if x1 = 0 then
  ((T_wide τ).bind fun v1 =>
  some (v1, τ))
  else (if x1 = 1 then
  ((T_deep τ).bind fun v2 =>
  some (v2, τ))
  else (if x1 = 2 then
  (ld (tA τ 10) 680 7 fun v3 =>
  some (v3, τ))
  else (if x1 = 3 then
  (ld (tA τ 10) 680 8 fun v4 =>
  some (v4, τ))
  else (if x1 = 4 then
  (ld (tA τ 16) 60 0 fun v5 =>
  some (v5, τ))
  else (if x1 = 5 then
  (ld (tA τ 19) 2520 0 fun v6 =>
  some (v6, τ))
  else (if x1 = 6 then
  (ld (tA τ 19) 2520 1 fun v7 =>
  some (v7, τ))
  else (if x1 = 7 then
  (ld (tA τ 19) 2520 2 fun v8 =>
  some (v8, τ))
  else (if x1 = 8 then
  (ld (tA τ 10) 680 6 fun v9 =>
  if v9 = 1 then
  (some (0, τ))
  else (ld (tA τ 10) 680 5 fun v10 =>
  ld (tA τ 19) 2520 3 fun v11 =>
  some (v10 - v11, τ)))
  else (if x1 = 9 then
  (some (x2, τ))
  else (if x1 = 10 then
  (ld (tA τ 19) 2520 58 fun v12 =>
  some (v12, τ))
  else (if x1 = 11 then
  (ld (tA τ 19) 2520 59 fun v13 =>
  some (v13, τ))
  else (if x1 = 12 then
  (ld (tA τ 10) 680 9 fun v14 =>
  some (v14, τ))
  else (if x1 = 13 then
  (some (tI τ 20, τ))
  else (if x1 = 14 then
  (some (tI τ 2, τ))
  else (some ((-1), τ)))))))))))))))))
  else ((T_kindAt τ (rem32 x3 6) (x3 / 6)).bind fun v15 =>
  if v15 = 1 then
  ((T_isKnown τ (rem32 x3 6) (x3 / 6)).bind fun v17 =>
  if v17 = 0 then
  (nm (x2 + 1) fun v19 =>
  k9 x1 v19 (x3 + 1) τ)
  else (nm (x2 + 0) fun v18 =>
  k9 x1 v18 (x3 + 1) τ))
  else (nm (x2 + 0) fun v16 =>
  k9 x1 v16 (x3 + 1) τ))
def T_count_b9 (nf : Nat) (n : Nat) : Int32 → Int32 → Int32 → TS → Option (Int32 × TS) := lpN (fun _ _ _ _ => none) (T_count_b9_s nf) n
def T_count (nf : Nat) (x1 : Int32) (τ : TS) : Option (Int32 × TS) :=
  nm (sI τ 0 0) fun τ1 =>
  T_count_b9 nf nf x1 0 0 τ1
