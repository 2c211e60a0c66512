/-! THE COMPONENT's methods, decompiled (printed by gen/gen_c.py) -/
set_option maxRecDepth 100000
/-! OverFirst$Goer.<init>()V -/
def FX3_init (s : CS) (x0 : Nat) : Option Unit :=
  some ()
/-! OverFirst$Best.<init>()V -/
def FX6_init (s : CS) (x0 : Nat) : Option Unit :=
  (FX3_init s x0).bind fun _ =>
  some ()
/-! OverFirst$Best.isBest()Z -/
def FX6_isBest (s : CS) (x0 : Nat) : Option Int32 :=
  gd (isK s x0 [6]) (
  some 1)
/-! OverFirst$Best.way(IIII)I -/
def FX6_way (s : CS) (x0 : Nat) (x1 : Int32) (x2 : Int32) (x3 : Int32) (x4 : Int32) : Option Int32 :=
  gd (isK s x0 [6]) (
  some 0)
/-! OverFirst$Light.<init>(III)V -/
def FX11_init (x0 : Nat) (x1 : Int32) (x2 : Int32) (x3 : Int32) (s : CS) : Option CS :=
  mz s (fun z => z) (
  pI s x0 [12, 13, 14, 15] 1100 x1 fun s1 =>
  pI s1 x0 [12, 13, 14, 15] 1101 x2 fun s2 =>
  pI s2 x0 [12, 13, 14, 15] 1102 x3 fun s3 =>
  some s3)
/-! OverFirst$Button.<init>(III)V -/
def FX14_init (x0 : Nat) (x1 : Int32) (x2 : Int32) (x3 : Int32) (s : CS) : Option CS :=
  mz s (fun z => z) (
  (FX11_init x0 x1 x2 x3 s).bind fun s1 =>
  some s1)
/-! OverFirst$Button.isButton()Z -/
def FX14_isButton (s : CS) (x0 : Nat) : Option Int32 :=
  gd (isK s x0 [14]) (
  some 1)
/-! OverFirst$Button.kind()I -/
def FX14_kind (s : CS) (x0 : Nat) : Option Int32 :=
  gd (isK s x0 [14]) (
  some 2)
/-! OverFirst$Button.waits(II)I -/
def FX14_waits (s : CS) (x0 : Nat) (x1 : Int32) (x2 : Int32) : Option Int32 :=
  gd (isK s x0 [14]) (
  if x1 = 0 then
  (gI s x0 [14] 1101 fun v1 =>
  some v1)
  else (some 0))
/-! OverFirst$Expression.<init>()V -/
def FX17_init (s : CS) (x0 : Nat) : Option Unit :=
  some ()
/-! OverFirst$Fact.<init>(I)V -/
def FX19_init (x0 : Nat) (x1 : Int32) (s : CS) : Option CS :=
  mz s (fun z => z) (
  (FX17_init s x0).bind fun _ =>
  pI s x0 [19] 1900 x1 fun s2 =>
  some s2)
/-! OverFirst$Fact.worked([I)I -/
def FX19_worked (s : CS) (x0 : Nat) (x1 : Nat) : Option Int32 :=
  gd (isK s x0 [19]) (
  gI s x0 [19] 1900 fun v1 =>
  lI s x1 100 v1 fun v2 =>
  some v2)
/-! OverFirst$First.<init>(I)V -/
def FX4_init (x0 : Nat) (x1 : Int32) (s : CS) : Option CS :=
  mz s (fun z => z) (
  (FX3_init s x0).bind fun _ =>
  pI s x0 [4] 400 x1 fun s2 =>
  some s2)
/-! OverFirst$First.way(IIII)I -/
def FX4_way_b12 (s : CS) (x0 : Nat) (s_0 : Int32) : Option Int32 :=
  if s_0 < 0 then
  (gI s x0 [4] 400 fun v1 =>
  some (1 - v1))
  else (gI s x0 [4] 400 fun v2 =>
  some v2)
def FX4_way (s : CS) (x0 : Nat) (x1 : Int32) (x2 : Int32) (x3 : Int32) (x4 : Int32) : Option Int32 :=
  gd (isK s x0 [4]) (
  gI s x0 [4] 400 fun v1 =>
  if v1 = 0 then
  (FX4_way_b12 s x0 x1)
  else (FX4_way_b12 s x0 x2))
/-! OverFirst$Given.<init>(I)V -/
def FX18_init (x0 : Nat) (x1 : Int32) (s : CS) : Option CS :=
  mz s (fun z => z) (
  (FX17_init s x0).bind fun _ =>
  pI s x0 [18] 1800 x1 fun s2 =>
  some s2)
/-! OverFirst$Given.worked([I)I -/
def FX18_worked (s : CS) (x0 : Nat) (x1 : Nat) : Option Int32 :=
  gd (isK s x0 [18]) (
  gI s x0 [18] 1800 fun v1 =>
  some v1)
/-! OverFirst$Goer.isBest()Z -/
def FX3_isBest (s : CS) (x0 : Nat) : Option Int32 :=
  gd (isK s x0 [4, 5, 6, 16]) (
  some 0)
/-! OverFirst$Green.<init>()V -/
def FX5_init (s : CS) (x0 : Nat) : Option Unit :=
  (FX3_init s x0).bind fun _ =>
  some ()
/-! OverFirst$Green.way(IIII)I -/
def FX5_way (s : CS) (x0 : Nat) (x1 : Int32) (x2 : Int32) (x3 : Int32) (x4 : Int32) : Option Int32 :=
  gd (isK s x0 [5]) (
  if 0 ≤ x1 then
  (if x2 < 0 then
  (some 0)
  else (if x2 < x1 then
  (some 1)
  else (some 0)))
  else (some 1))
/-! OverFirst$Timed.<init>(III)V -/
def FX12_init (x0 : Nat) (x1 : Int32) (x2 : Int32) (x3 : Int32) (s : CS) : Option CS :=
  mz s (fun z => z) (
  (FX11_init x0 x1 x2 x3 s).bind fun s1 =>
  some s1)
/-! OverFirst$Hidden.<init>(III)V -/
def FX13_init (x0 : Nat) (x1 : Int32) (x2 : Int32) (x3 : Int32) (s : CS) : Option CS :=
  mz s (fun z => z) (
  (FX12_init x0 x1 x2 x3 s).bind fun s1 =>
  some s1)
/-! OverFirst$Hidden.isHidden()Z -/
def FX13_isHidden (s : CS) (x0 : Nat) : Option Int32 :=
  gd (isK s x0 [13]) (
  some 1)
/-! OverFirst$Hidden.kind()I -/
def FX13_kind (s : CS) (x0 : Nat) : Option Int32 :=
  gd (isK s x0 [13]) (
  some 1)
/-! OverFirst$Light.isButton()Z -/
def FX11_isButton (s : CS) (x0 : Nat) : Option Int32 :=
  gd (isK s x0 [12, 13, 14, 15]) (
  some 0)
/-! OverFirst$Light.isClock()Z -/
def FX11_isClock (s : CS) (x0 : Nat) : Option Int32 :=
  gd (isK s x0 [12, 13, 14, 15]) (
  some 0)
/-! OverFirst$Light.isHidden()Z -/
def FX11_isHidden (s : CS) (x0 : Nat) : Option Int32 :=
  gd (isK s x0 [12, 13, 14, 15]) (
  some 0)
/-! OverFirst$Not.<init>(LOverFirst$Expression;)V -/
def FX20_init (x0 : Nat) (x1 : Nat) (s : CS) : Option CS :=
  mz s (fun z => z) (
  (FX17_init s x0).bind fun _ =>
  pR s x0 [20] 2000 (some x1) fun s2 =>
  some s2)
/-! OverFirst$Not.worked([I)I -/
def FX20_worked (rc : Nat → Nat → Option Int32) (s : CS) (x0 : Nat) (x1 : Nat) : Option Int32 :=
  gd (isK s x0 [20]) (
  gR s x0 [20] 2000 fun r1 =>
  nn r1 fun p2 =>
  (rc p2 x1).bind fun v3 =>
  if v3 = 0 then
  (some 1)
  else (some 0))
/-! OverFirst$Two.worked([I)I -/
def FX21_worked (rc : Nat → Nat → Option Int32) (s : CS) (x0 : Nat) (x1 : Nat) : Option Int32 :=
  gd (isK s x0 [21]) (
  gR s x0 [21] 2101 fun r1 =>
  nn r1 fun p2 =>
  (rc p2 x1).bind fun v3 =>
  gR s x0 [21] 2102 fun r4 =>
  nn r4 fun p5 =>
  (rc p5 x1).bind fun v6 =>
  gI s x0 [21] 2100 fun v7 =>
  if v7 = 38 then
  (if v3 = 0 then
  (some 0)
  else (if v6 = 0 then
  (some 0)
  else (some 1)))
  else (if v7 = 42 then
  (some (v3 * v6))
  else (if v7 = 43 then
  (some (v3 + v6))
  else (if v7 = 45 then
  (some (v3 - v6))
  else (if v7 = 60 then
  (if v6 ≤ v3 then
  (some 0)
  else (some 1))
  else (if v7 = 61 then
  (if v3 = v6 then
  (some 1)
  else (some 0))
  else (if v3 = 0 then
  (if v6 = 0 then
  (some 0)
  else (some 1))
  else (some 1))))))))
/-! ('OverFirst$Expression', 'worked', '([I)I') by the receiver's class -/
def V17_worked_s (rc : Nat → Nat → Option Int32) (s : CS) (o : Nat) (a0 : Nat) : Option Int32 :=
  if isK s o [18] = true then FX18_worked s o a0 else
  if isK s o [19] = true then FX19_worked s o a0 else
  if isK s o [20] = true then FX20_worked rc s o a0 else
  if isK s o [21] = true then FX21_worked rc s o a0 else
  none
def V17_worked (s : CS) (dp : Nat) : Nat → Nat → Option Int32 := lpN (fun _ _ => none) (fun rc => V17_worked_s rc s) dp
/-! OverFirst$Police.<init>(III)V -/
def FX15_init (x0 : Nat) (x1 : Int32) (x2 : Int32) (x3 : Int32) (s : CS) : Option CS :=
  mz s (fun z => z) (
  (FX11_init x0 x1 x2 x3 s).bind fun s1 =>
  some s1)
/-! OverFirst$Police.kind()I -/
def FX15_kind (s : CS) (x0 : Nat) : Option Int32 :=
  gd (isK s x0 [15]) (
  some 3)
/-! OverFirst$Police.waits(II)I -/
def FX15_waits (s : CS) (x0 : Nat) (x1 : Int32) (x2 : Int32) : Option Int32 :=
  gd (isK s x0 [15]) (
  some 0)
/-! OverFirst$Reader.<init>()V -/
def FX1_init (s : CS) (x0 : Nat) : Option Unit :=
  some ()
/-! OverFirst$Reader.at(I)I -/
def FX1_at (s : CS) (x0 : Nat) (x1 : Int32) : Option Int32 :=
  gd (isK s x0 [1]) (
  gI s x0 [1] 101 fun v1 =>
  if v1 ≤ x1 then
  (some 0)
  else (gR s x0 [1] 100 fun r2 =>
  nn r2 fun p3 =>
  lI s p3 103 x1 fun v4 =>
  some v4))
/-! OverFirst$Reader.isDigit(I)Z -/
def FX1_isDigit (s : CS) (x0 : Int32) : Option Int32 :=
  if x0 < 48 then
  (some 0)
  else (if 57 < x0 then
  (some 0)
  else (some 1))
/-! OverFirst$Reader.isLetter(I)Z -/
def FX1_isLetter (s : CS) (x0 : Int32) : Option Int32 :=
  if x0 < 97 then
  (some 0)
  else (if 122 < x0 then
  (some 0)
  else (some 1))
/-! java/lang/String.isLatin1()Z -/
def FJ6_isLatin1 (s : CS) (x0 : Nat) : Option Int32 :=
  gd (isK s x0 [23, 25]) (
  if 1 = 0 then
  (some 0)
  else (gI s x0 [23, 25] 2301 fun v1 =>
  if v1 = 0 then
  (some 1)
  else (some 0)))
/-! java/lang/String.coder()B -/
def FJ6_coder (s : CS) (x0 : Nat) : Option Int32 :=
  gd (isK s x0 [23, 25]) (
  if 1 = 0 then
  (gd (isyb 1) (some 1))
  else (gI s x0 [23, 25] 2301 fun v1 =>
  gd (isyb v1) (some v1)))
/-! java/lang/String.length()I -/
def FJ6_length (s : CS) (x0 : Nat) : Option Int32 :=
  gd (isK s x0 [23, 25]) (
  gR s x0 [23, 25] 2300 fun r1 =>
  nn r1 fun p2 =>
  aLn s p2 fun v3 =>
  (FJ6_coder s x0).bind fun v4 =>
  some (shr32 v3 v4))
/-! java/lang/StringLatin1.canEncode(I)Z -/
def FJ7_canEncode (s : CS) (x0 : Int32) : Option Int32 :=
  if x0 < 0 then
  (some 0)
  else (if 255 < x0 then
  (some 0)
  else (some 1))
/-! java/lang/StringLatin1.indexOfChar([BIII)I -/
def FJ7_indexOfChar_b7_s (nf : Nat) (s : CS) (k7 : Nat → Int32 → Int32 → Int32 → Option Int32) (x0 : Nat) (x3 : Int32) (x4 : Int32) (x5 : Int32) : Option Int32 :=
  if x3 ≤ x5 then
  (some (-1))
  else (lI s x0 103 x5 fun v1 =>
  if v1 = x4 then
  (some x5)
  else (k7 x0 x3 x4 (x5 + 1)))
def FJ7_indexOfChar_b7 (nf : Nat) (s : CS) (n : Nat) : Nat → Int32 → Int32 → Int32 → Option Int32 := lpN (fun _ _ _ _ => none) (FJ7_indexOfChar_b7_s nf s) n
def FJ7_indexOfChar (nf : Nat) (s : CS) (x0 : Nat) (x1 : Int32) (x2 : Int32) (x3 : Int32) : Option Int32 :=
  nm (i2b x1) fun v1 =>
  FJ7_indexOfChar_b7 nf s nf x0 x3 v1 x2
/-! java/lang/StringLatin1.indexOf([BIII)I -/
def FJ7_indexOf (nf : Nat) (s : CS) (x0 : Nat) (x1 : Int32) (x2 : Int32) (x3 : Int32) : Option Int32 :=
  (FJ7_canEncode s x1).bind fun v1 =>
  if v1 = 0 then
  (some (-1))
  else (nm (mx32 x2 0) fun v2 =>
  aLn s x0 fun v3 =>
  nm (mn32 x3 v3) fun v4 =>
  if v2 < v4 then
  ((FJ7_indexOfChar nf s x0 x1 v2 v4).bind fun v5 =>
  some v5)
  else (some (-1)))
/-! java/lang/String.indexOf(II)I -/
def FJ6_indexOf_2 (nf : Nat) (s : CS) (x0 : Nat) (x1 : Int32) (x2 : Int32) : Option Int32 :=
  gd (isK s x0 [23, 25]) (
  (FJ6_isLatin1 s x0).bind fun v1 =>
  if v1 = 0 then
  (gR s x0 [23, 25] 2300 fun r2 =>
  (FJ6_length s x0).bind fun v3 =>
  none)
  else (gR s x0 [23, 25] 2300 fun r4 =>
  (FJ6_length s x0).bind fun v5 =>
  nn r4 fun p6 =>
  (FJ7_indexOf nf s p6 x1 x2 v5).bind fun v7 =>
  some v7))
/-! java/lang/String.indexOf(I)I -/
def FJ6_indexOf (nf : Nat) (s : CS) (x0 : Nat) (x1 : Int32) : Option Int32 :=
  gd (isK s x0 [23, 25]) (
  (FJ6_indexOf_2 nf s x0 x1 0).bind fun v1 =>
  some v1)
/-! OverFirst$Reader.next()V -/
def FX1_next_b283 (st : Nat → Option Nat) (nf : Nat) (x0 : Nat) (s_0 : Int32) (s_1 : Nat) (s : CS) : Option CS :=
  pI s s_1 [1] 103 s_0 fun s1 =>
  gI s1 x0 [1] 102 fun v2 =>
  pI s1 x0 [1] 102 (v2 + 1) fun s3 =>
  some s3
def FX1_next_b219 (st : Nat → Option Nat) (nf : Nat) (k165 : Nat → CS → Option CS) (x0 : Nat) (s_0 : Int32) (s_1 : Nat) (s : CS) : Option CS :=
  pI s s_1 [1] 105 s_0 fun s1 =>
  gI s1 x0 [1] 102 fun v2 =>
  pI s1 x0 [1] 102 (v2 + 1) fun s3 =>
  k165 x0 s3
def FX1_next_b165_s (st : Nat → Option Nat) (nf : Nat) (k165 : Nat → CS → Option CS) (x0 : Nat) (s : CS) : Option CS :=
  gI s x0 [1] 102 fun v1 =>
  (FX1_at s x0 v1).bind fun v2 =>
  (FX1_isDigit s v2).bind fun v3 =>
  if v3 = 0 then
  (gI s x0 [1] 102 fun v4 =>
  gI s x0 [1] 104 fun v5 =>
  if (v4 - v5) ≤ 4 then
  (pI s x0 [1] 103 2 fun s6 =>
  some s6)
  else (pI s x0 [1] 103 4 fun s7 =>
  some s7))
  else (gI s x0 [1] 102 fun v8 =>
  gI s x0 [1] 104 fun v9 =>
  if 4 ≤ (v8 - v9) then
  (gI s x0 [1] 105 fun v10 =>
  FX1_next_b219 st nf k165 x0 v10 x0 s)
  else (gI s x0 [1] 105 fun v11 =>
  gI s x0 [1] 102 fun v12 =>
  (FX1_at s x0 v12).bind fun v13 =>
  FX1_next_b219 st nf k165 x0 (((10 * v11) + v13) - 48) x0 s))
def FX1_next_b165 (st : Nat → Option Nat) (nf : Nat) (n : Nat) : Nat → CS → Option CS := lpN (fun _ _ => none) (FX1_next_b165_s st nf) n
def FX1_next_b93_s (st : Nat → Option Nat) (nf : Nat) (k93 : Nat → CS → Option CS) (x0 : Nat) (s : CS) : Option CS :=
  gI s x0 [1] 102 fun v1 =>
  (FX1_at s x0 v1).bind fun v2 =>
  (FX1_isLetter s v2).bind fun v3 =>
  if v3 = 0 then
  (gI s x0 [1] 102 fun v4 =>
  gI s x0 [1] 104 fun v5 =>
  if (v4 - v5) ≤ 8 then
  (pI s x0 [1] 103 1 fun s6 =>
  some s6)
  else (pI s x0 [1] 103 4 fun s7 =>
  some s7))
  else (gI s x0 [1] 102 fun v8 =>
  pI s x0 [1] 102 (v8 + 1) fun s9 =>
  k93 x0 s9)
def FX1_next_b93 (st : Nat → Option Nat) (nf : Nat) (n : Nat) : Nat → CS → Option CS := lpN (fun _ _ => none) (FX1_next_b93_s st nf) n
def FX1_next_b52 (st : Nat → Option Nat) (nf : Nat) (x0 : Nat) (s : CS) : Option CS :=
  gI s x0 [1] 102 fun v1 =>
  pI s x0 [1] 104 v1 fun s2 =>
  gI s2 x0 [1] 102 fun v3 =>
  gI s2 x0 [1] 101 fun v4 =>
  if v3 = v4 then
  (pI s2 x0 [1] 103 0 fun s16 =>
  some s16)
  else (gI s2 x0 [1] 102 fun v5 =>
  (FX1_at s2 x0 v5).bind fun v6 =>
  (FX1_isLetter s2 v6).bind fun v7 =>
  if v7 = 0 then
  (gI s2 x0 [1] 102 fun v8 =>
  (FX1_at s2 x0 v8).bind fun v9 =>
  (FX1_isDigit s2 v9).bind fun v10 =>
  if v10 = 0 then
  (nn (st 10) fun p11 =>
  gI s2 x0 [1] 102 fun v12 =>
  (FX1_at s2 x0 v12).bind fun v13 =>
  (FJ6_indexOf nf s2 p11 (i2c v13)).bind fun v14 =>
  if v14 < 0 then
  (FX1_next_b283 st nf x0 4 x0 s2)
  else (FX1_next_b283 st nf x0 3 x0 s2))
  else (pI s2 x0 [1] 105 0 fun s15 =>
  FX1_next_b165 st nf nf x0 s15))
  else (FX1_next_b93 st nf nf x0 s2))
def FX1_next_b39 (st : Nat → Option Nat) (nf : Nat) (k0 : Nat → CS → Option CS) (x0 : Nat) (s : CS) : Option CS :=
  gI s x0 [1] 102 fun v1 =>
  pI s x0 [1] 102 (v1 + 1) fun s2 =>
  k0 x0 s2
def FX1_next_b0_s (st : Nat → Option Nat) (nf : Nat) (k0 : Nat → CS → Option CS) (x0 : Nat) (s : CS) : Option CS :=
  gI s x0 [1] 102 fun v1 =>
  gI s x0 [1] 101 fun v2 =>
  if v2 ≤ v1 then
  (FX1_next_b52 st nf x0 s)
  else (gR s x0 [1] 100 fun r3 =>
  gI s x0 [1] 102 fun v4 =>
  nn r3 fun p5 =>
  lI s p5 103 v4 fun v6 =>
  if v6 = 10 then
  (FX1_next_b39 st nf k0 x0 s)
  else (gR s x0 [1] 100 fun r7 =>
  gI s x0 [1] 102 fun v8 =>
  nn r7 fun p9 =>
  lI s p9 103 v8 fun v10 =>
  if v10 = 32 then
  (FX1_next_b39 st nf k0 x0 s)
  else (FX1_next_b52 st nf x0 s)))
def FX1_next_b0 (st : Nat → Option Nat) (nf : Nat) (n : Nat) : Nat → CS → Option CS := lpN (fun _ _ => none) (FX1_next_b0_s st nf) n
def FX1_next (st : Nat → Option Nat) (nf : Nat) (x0 : Nat) (s : CS) : Option CS :=
  mz s (fun z => z) (
  gd (isK s x0 [1]) (
  FX1_next_b0 st nf nf x0 s))
/-! java/lang/Throwable.<init>(Ljava/lang/String;Ljava/lang/Throwable;ZZ)V -/
def FJ11_init_2_b41 (st : Nat → Option Nat) (x0 : Nat) (x1 : (Option Nat)) (x2 : (Option Nat)) (x3 : Int32) (s : CS) : Option CS :=
  pR s x0 [10] 2503 x1 fun s1 =>
  pR s1 x0 [10] 2500 x2 fun s2 =>
  if x3 = 0 then
  (pR s2 x0 [10] 2502 none fun s3 =>
  some s3)
  else (some s2)
def FJ11_init_2 (st : Nat → Option Nat) (x0 : Nat) (x1 : (Option Nat)) (x2 : (Option Nat)) (x3 : Int32) (x4 : Int32) (s : CS) : Option CS :=
  mz s (fun z => z) (
  pR s x0 [10] 2500 (some x0) fun s1 =>
  pR s1 x0 [10] 2501 ((st 0)) fun s2 =>
  pR s2 x0 [10] 2502 ((st 1)) fun s3 =>
  if x4 = 0 then
  (pR s3 x0 [10] 2501 none fun s4 =>
  FJ11_init_2_b41 st x0 x1 x2 x3 s4)
  else (none))
/-! java/lang/Exception.<init>(Ljava/lang/String;Ljava/lang/Throwable;ZZ)V -/
def FJ12_init (st : Nat → Option Nat) (x0 : Nat) (x1 : (Option Nat)) (x2 : (Option Nat)) (x3 : Int32) (x4 : Int32) (s : CS) : Option CS :=
  mz s (fun z => z) (
  (FJ11_init_2 st x0 x1 x2 x3 x4 s).bind fun s1 =>
  some s1)
/-! java/lang/RuntimeException.<init>(Ljava/lang/String;Ljava/lang/Throwable;ZZ)V -/
def FJ13_init (st : Nat → Option Nat) (x0 : Nat) (x1 : (Option Nat)) (x2 : (Option Nat)) (x3 : Int32) (x4 : Int32) (s : CS) : Option CS :=
  mz s (fun z => z) (
  (FJ12_init st x0 x1 x2 x3 x4 s).bind fun s1 =>
  some s1)
/-! OverFirst$Wrong.<init>(II)V -/
def FX10_init (st : Nat → Option Nat) (x0 : Nat) (x1 : Int32) (x2 : Int32) (s : CS) : Option CS :=
  mz s (fun z => z) (
  (FJ13_init st x0 none none 0 0 s).bind fun s1 =>
  pI s1 x0 [10] 1000 (x1 + (16 * x2)) fun s2 =>
  some s2)
/-! OverFirst$Reader.wrong(I)LOverFirst$Wrong; -/
def FX1_wrong (st : Nat → Option Nat) (x0 : Nat) (x1 : Int32) (s : CS) : Option ((Option Nat) × CS) :=
  mz s (fun z => z.2) (
  gd (isK s x0 [1]) (
  nwO s 10 7 fun o1 s2 =>
  gI s2 x0 [1] 104 fun v3 =>
  (FX10_init st o1 x1 v3 s2).bind fun s4 =>
  some ((some o1), s4)))
/-! OverFirst$Reader.number(II)I -/
def FX1_number_2 (st : Nat → Option Nat) (nf : Nat) (x0 : Nat) (x1 : Int32) (x2 : Int32) (s : CS) : Option ((Nat ⊕ Int32) × CS) :=
  mz s (fun z => z.2) (
  gd (isK s x0 [1]) (
  gI s x0 [1] 103 fun v1 =>
  if v1 = 2 then
  (gI s x0 [1] 105 fun v2 =>
  if v2 < x1 then
  (bd2 (FX1_wrong st x0 4 s) fun r4 s3 =>
  nn r4 fun p5 =>
  gd (isK s3 p5 [10]) (some (.inl p5, s3)))
  else (gI s x0 [1] 105 fun v6 =>
  if v6 ≤ x2 then
  (gI s x0 [1] 105 fun v7 =>
  (FX1_next st nf x0 s).bind fun s8 =>
  some (.inr v7, s8))
  else (bd2 (FX1_wrong st x0 4 s) fun r10 s9 =>
  nn r10 fun p11 =>
  gd (isK s9 p11 [10]) (some (.inl p11, s9)))))
  else (bd2 (FX1_wrong st x0 1 s) fun r13 s12 =>
  nn r13 fun p14 =>
  gd (isK s12 p14 [10]) (some (.inl p14, s12)))))
/-! jdk/internal/util/Preconditions.checkIndex(IILjava/util/function/BiFunction;)I -/
def FJ9_checkIndex_b9 (s : CS) (x0 : Int32) (x1 : Int32) (x2 : (Option Nat)) : Option Int32 :=
  none
def FJ9_checkIndex (s : CS) (x0 : Int32) (x1 : Int32) (x2 : (Option Nat)) : Option Int32 :=
  if x0 < 0 then
  (FJ9_checkIndex_b9 s x0 x1 x2)
  else (if x0 < x1 then
  (some x0)
  else (FJ9_checkIndex_b9 s x0 x1 x2))
/-! java/lang/String.checkIndex(II)V -/
def FJ6_checkIndex (st : Nat → Option Nat) (s : CS) (x0 : Int32) (x1 : Int32) : Option Unit :=
  (FJ9_checkIndex s x0 x1 ((st 2))).bind fun v1 =>
  some ()
/-! java/lang/StringLatin1.charAt([BI)C -/
def FJ7_charAt (st : Nat → Option Nat) (s : CS) (x0 : Nat) (x1 : Int32) : Option Int32 :=
  aLn s x0 fun v1 =>
  (FJ6_checkIndex st s x1 v1).bind fun _ =>
  lI s x0 103 x1 fun v3 =>
  gd (isc (i2c (v3 &&& 255))) (some (i2c (v3 &&& 255)))
/-! java/lang/String.charAt(I)C -/
def FJ6_charAt (st : Nat → Option Nat) (s : CS) (x0 : Nat) (x1 : Int32) : Option Int32 :=
  gd (isK s x0 [23, 25]) (
  (FJ6_isLatin1 s x0).bind fun v1 =>
  if v1 = 0 then
  (gR s x0 [23, 25] 2300 fun r2 =>
  none)
  else (gR s x0 [23, 25] 2300 fun r3 =>
  nn r3 fun p4 =>
  (FJ7_charAt st s p4 x1).bind fun v5 =>
  gd (isc v5) (some v5)))
/-! OverFirst$Reader.which(Ljava/lang/String;)I -/
def FX1_which_b103 (st : Nat → Option Nat) (nf : Nat) (s : CS) (k4 : Nat → Nat → Int32 → Int32 → Option Int32) (x0 : Nat) (x1 : Nat) (x2 : Int32) (x3 : Int32) (x4 : Int32) (x5 : Int32) : Option Int32 :=
  if x5 = 0 then
  (nm (x3 + (x4 + 1)) fun v1 =>
  k4 x0 x1 (x2 + 1) v1)
  else (some x2)
def FX1_which_b55_s (st : Nat → Option Nat) (nf : Nat) (s : CS) (k4 : Nat → Nat → Int32 → Int32 → Option Int32) (k55 : Nat → Nat → Int32 → Int32 → Int32 → Int32 → Int32 → Option Int32) (x0 : Nat) (x1 : Nat) (x2 : Int32) (x3 : Int32) (x4 : Int32) (x5 : Int32) (x6 : Int32) : Option Int32 :=
  if x5 = 0 then
  (FX1_which_b103 st nf s k4 x0 x1 x2 x3 x4 x5)
  else (if x4 ≤ x6 then
  (FX1_which_b103 st nf s k4 x0 x1 x2 x3 x4 x5)
  else (gR s x0 [1] 100 fun r1 =>
  gI s x0 [1] 104 fun v2 =>
  nn r1 fun p3 =>
  lI s p3 103 (v2 + x6) fun v4 =>
  (FJ6_charAt st s x1 (x3 + x6)).bind fun v5 =>
  if v4 = v5 then
  (k55 x0 x1 x2 x3 x4 1 (x6 + 1))
  else (k55 x0 x1 x2 x3 x4 0 (x6 + 1))))
def FX1_which_b55 (st : Nat → Option Nat) (nf : Nat) (s : CS) (k4 : Nat → Nat → Int32 → Int32 → Option Int32) (n : Nat) : Nat → Nat → Int32 → Int32 → Int32 → Int32 → Int32 → Option Int32 := lpN (fun _ _ _ _ _ _ _ => none) (FX1_which_b55_s st nf s k4) n
def FX1_which_b4_s (st : Nat → Option Nat) (nf : Nat) (s : CS) (k4 : Nat → Nat → Int32 → Int32 → Option Int32) (x0 : Nat) (x1 : Nat) (x2 : Int32) (x3 : Int32) : Option Int32 :=
  (FJ6_length s x1).bind fun v1 =>
  if v1 ≤ x3 then
  (some (-1))
  else (gI s x0 [1] 103 fun v2 =>
  if v2 = 1 then
  ((FJ6_indexOf_2 nf s x1 32 x3).bind fun v3 =>
  nm (v3 - x3) fun v4 =>
  gI s x0 [1] 102 fun v5 =>
  gI s x0 [1] 104 fun v6 =>
  if (v5 - v6) = v4 then
  (FX1_which_b55 st nf s k4 nf x0 x1 x2 x3 v4 1 0)
  else (FX1_which_b55 st nf s k4 nf x0 x1 x2 x3 v4 0 0))
  else (some (-1)))
def FX1_which_b4 (st : Nat → Option Nat) (nf : Nat) (s : CS) (n : Nat) : Nat → Nat → Int32 → Int32 → Option Int32 := lpN (fun _ _ _ _ => none) (FX1_which_b4_s st nf s) n
def FX1_which (st : Nat → Option Nat) (nf : Nat) (s : CS) (x0 : Nat) (x1 : Nat) : Option Int32 :=
  gd (isK s x0 [1]) (
  FX1_which_b4 st nf s nf x0 x1 0 0)
/-! OverFirst$Reader.bar()V -/
def FX1_bar (st : Nat → Option Nat) (nf : Nat) (x0 : Nat) (s : CS) : Option ((Nat ⊕ Unit) × CS) :=
  mz s (fun z => z.2) (
  gd (isK s x0 [1]) (
  gR s x0 [1] 107 fun r1 =>
  nn r1 fun p2 =>
  gI s p2 [2] 200 fun v3 =>
  thr (FX1_number_2 st nf x0 0 (v3 - 1) s) fun v5 s4 =>
  gR s4 x0 [1] 107 fun r6 =>
  nn r6 fun p7 =>
  gI s4 p7 [2] 201 fun v8 =>
  thr (FX1_number_2 st nf x0 0 (v8 - 1) s4) fun v10 s9 =>
  nm ((v10 * 6) + v5) fun v11 =>
  nn (st 17) fun p12 =>
  (FX1_which st nf s9 x0 p12).bind fun v13 =>
  if 0 ≤ v13 then
  (gR s9 x0 [1] 107 fun r14 =>
  nn r14 fun p15 =>
  gR s9 p15 [2] 210 fun r16 =>
  nn r16 fun p17 =>
  lI s9 p17 100 v11 fun v18 =>
  if ((shr32 v18 v13) &&& 1) = 1 then
  (bd2 (FX1_wrong st x0 3 s9) fun r27 s26 =>
  nn r27 fun p28 =>
  gd (isK s26 p28 [10]) (some (.inl p28, s26)))
  else ((FX1_next st nf x0 s9).bind fun s19 =>
  gR s19 x0 [1] 107 fun r20 =>
  nn r20 fun p21 =>
  gR s19 p21 [2] 210 fun r22 =>
  nn r22 fun p23 =>
  lI s19 p23 100 v11 fun v24 =>
  tI_ s19 p23 100 v11 (v24 ||| (shl32 1 v13)) fun s25 =>
  some (.inr (), s25)))
  else (bd2 (FX1_wrong st x0 1 s9) fun r30 s29 =>
  nn r30 fun p31 =>
  gd (isK s29 p31 [10]) (some (.inl p31, s29)))))
/-! OverFirst$Reader.begin([BI)V -/
def FX1_begin (st : Nat → Option Nat) (nf : Nat) (x0 : Nat) (x1 : Nat) (x2 : Int32) (s : CS) : Option CS :=
  mz s (fun z => z) (
  gd (isK s x0 [1]) (
  pR s x0 [1] 100 (some x1) fun s1 =>
  pI s1 x0 [1] 101 x2 fun s2 =>
  pI s2 x0 [1] 102 0 fun s3 =>
  pI s3 x0 [1] 106 0 fun s4 =>
  (FX1_next st nf x0 s4).bind fun s5 =>
  some s5))
/-! OverFirst$Reader.isSign(C)Z -/
def FX1_isSign (s : CS) (x0 : Nat) (x1 : Int32) : Option Int32 :=
  gd (isK s x0 [1]) (
  gI s x0 [1] 103 fun v1 =>
  if v1 = 3 then
  (gR s x0 [1] 100 fun r2 =>
  gI s x0 [1] 104 fun v3 =>
  nn r2 fun p4 =>
  lI s p4 103 v3 fun v5 =>
  if v5 = x1 then
  (some 1)
  else (some 0))
  else (some 0))
/-! OverFirst$Reader.need(C)V -/
def FX1_need_2 (st : Nat → Option Nat) (nf : Nat) (x0 : Nat) (x1 : Int32) (s : CS) : Option ((Nat ⊕ Unit) × CS) :=
  mz s (fun z => z.2) (
  gd (isK s x0 [1]) (
  (FX1_isSign s x0 x1).bind fun v1 =>
  if v1 = 0 then
  (bd2 (FX1_wrong st x0 1 s) fun r4 s3 =>
  nn r4 fun p5 =>
  gd (isK s3 p5 [10]) (some (.inl p5, s3)))
  else ((FX1_next st nf x0 s).bind fun s2 =>
  some (.inr (), s2))))
/-! OverFirst$Two.<init>(CLOverFirst$Expression;LOverFirst$Expression;)V -/
def FX21_init (x0 : Nat) (x1 : Int32) (x2 : Nat) (x3 : Nat) (s : CS) : Option CS :=
  mz s (fun z => z) (
  (FX17_init s x0).bind fun _ =>
  gd (isc x1) (pI s x0 [21] 2100 x1 fun s2 =>
  pR s2 x0 [21] 2101 (some x2) fun s3 =>
  pR s3 x0 [21] 2102 (some x3) fun s4 =>
  some s4))
/-! OverFirst$Reader.product()LOverFirst$Expression; -/
def FX1_product_b5_s (st : Nat → Option Nat) (nf : Nat) (rc : Nat → CS → Option ((Nat ⊕ (Option Nat)) × CS)) (k5 : Nat → (Option Nat) → CS → Option ((Nat ⊕ (Option Nat)) × CS)) (x0 : Nat) (x1 : (Option Nat)) (s : CS) : Option ((Nat ⊕ (Option Nat)) × CS) :=
  (FX1_isSign s x0 42).bind fun v1 =>
  if v1 = 0 then
  (some (.inr x1, s))
  else ((FX1_next st nf x0 s).bind fun s2 =>
  nwO s2 21 3 fun o3 s4 =>
  thr (rc x0 s4) fun r6 s5 =>
  nn x1 fun p7 =>
  nn r6 fun p8 =>
  (FX21_init o3 42 p7 p8 s5).bind fun s9 =>
  k5 x0 (some o3) s9)
def FX1_product_b5 (st : Nat → Option Nat) (nf : Nat) (rc : Nat → CS → Option ((Nat ⊕ (Option Nat)) × CS)) (n : Nat) : Nat → (Option Nat) → CS → Option ((Nat ⊕ (Option Nat)) × CS) := lpN (fun _ _ _ => none) (FX1_product_b5_s st nf rc) n
def FX1_product (st : Nat → Option Nat) (nf : Nat) (rc : Nat → CS → Option ((Nat ⊕ (Option Nat)) × CS)) (x0 : Nat) (s : CS) : Option ((Nat ⊕ (Option Nat)) × CS) :=
  mz s (fun z => z.2) (
  gd (isK s x0 [1]) (
  thr (rc x0 s) fun r2 s1 =>
  FX1_product_b5 st nf rc nf x0 r2 s1))
/-! OverFirst$Reader.sum()LOverFirst$Expression; -/
def FX1_sum_b39 (st : Nat → Option Nat) (nf : Nat) (rc : Nat → CS → Option ((Nat ⊕ (Option Nat)) × CS)) (k5 : Nat → (Option Nat) → CS → Option ((Nat ⊕ (Option Nat)) × CS)) (x0 : Nat) (x1 : (Option Nat)) (s_0 : Int32) (s : CS) : Option ((Nat ⊕ (Option Nat)) × CS) :=
  (FX1_next st nf x0 s).bind fun s1 =>
  nwO s1 21 3 fun o2 s3 =>
  thr (FX1_product st nf rc x0 s3) fun r5 s4 =>
  nn x1 fun p6 =>
  nn r5 fun p7 =>
  (FX21_init o2 s_0 p6 p7 s4).bind fun s8 =>
  k5 x0 (some o2) s8
def FX1_sum_b23 (st : Nat → Option Nat) (nf : Nat) (rc : Nat → CS → Option ((Nat ⊕ (Option Nat)) × CS)) (k5 : Nat → (Option Nat) → CS → Option ((Nat ⊕ (Option Nat)) × CS)) (x0 : Nat) (x1 : (Option Nat)) (s : CS) : Option ((Nat ⊕ (Option Nat)) × CS) :=
  (FX1_isSign s x0 43).bind fun v1 =>
  if v1 = 0 then
  (FX1_sum_b39 st nf rc k5 x0 x1 45 s)
  else (FX1_sum_b39 st nf rc k5 x0 x1 43 s)
def FX1_sum_b5_s (st : Nat → Option Nat) (nf : Nat) (rc : Nat → CS → Option ((Nat ⊕ (Option Nat)) × CS)) (k5 : Nat → (Option Nat) → CS → Option ((Nat ⊕ (Option Nat)) × CS)) (x0 : Nat) (x1 : (Option Nat)) (s : CS) : Option ((Nat ⊕ (Option Nat)) × CS) :=
  (FX1_isSign s x0 43).bind fun v1 =>
  if v1 = 0 then
  ((FX1_isSign s x0 45).bind fun v2 =>
  if v2 = 0 then
  (some (.inr x1, s))
  else (FX1_sum_b23 st nf rc k5 x0 x1 s))
  else (FX1_sum_b23 st nf rc k5 x0 x1 s)
def FX1_sum_b5 (st : Nat → Option Nat) (nf : Nat) (rc : Nat → CS → Option ((Nat ⊕ (Option Nat)) × CS)) (n : Nat) : Nat → (Option Nat) → CS → Option ((Nat ⊕ (Option Nat)) × CS) := lpN (fun _ _ _ => none) (FX1_sum_b5_s st nf rc) n
def FX1_sum (st : Nat → Option Nat) (nf : Nat) (rc : Nat → CS → Option ((Nat ⊕ (Option Nat)) × CS)) (x0 : Nat) (s : CS) : Option ((Nat ⊕ (Option Nat)) × CS) :=
  mz s (fun z => z.2) (
  gd (isK s x0 [1]) (
  thr (FX1_product st nf rc x0 s) fun r2 s1 =>
  FX1_sum_b5 st nf rc nf x0 r2 s1))
/-! OverFirst$Reader.test()LOverFirst$Expression; -/
def FX1_test_b35 (st : Nat → Option Nat) (nf : Nat) (rc : Nat → CS → Option ((Nat ⊕ (Option Nat)) × CS)) (x0 : Nat) (x1 : (Option Nat)) (s_0 : Int32) (s : CS) : Option ((Nat ⊕ (Option Nat)) × CS) :=
  if s_0 = 32 then
  (some (.inr x1, s))
  else ((FX1_next st nf x0 s).bind fun s1 =>
  nwO s1 21 3 fun o2 s3 =>
  thr (FX1_sum st nf rc x0 s3) fun r5 s4 =>
  nn x1 fun p6 =>
  nn r5 fun p7 =>
  (FX21_init o2 s_0 p6 p7 s4).bind fun s8 =>
  some (.inr (some o2), s8))
def FX1_test (st : Nat → Option Nat) (nf : Nat) (rc : Nat → CS → Option ((Nat ⊕ (Option Nat)) × CS)) (x0 : Nat) (s : CS) : Option ((Nat ⊕ (Option Nat)) × CS) :=
  mz s (fun z => z.2) (
  gd (isK s x0 [1]) (
  thr (FX1_sum st nf rc x0 s) fun r2 s1 =>
  (FX1_isSign s1 x0 60).bind fun v3 =>
  if v3 = 0 then
  ((FX1_isSign s1 x0 61).bind fun v4 =>
  if v4 = 0 then
  (FX1_test_b35 st nf rc x0 r2 32 s1)
  else (FX1_test_b35 st nf rc x0 r2 61 s1))
  else (FX1_test_b35 st nf rc x0 r2 60 s1)))
/-! OverFirst$Reader.expression()LOverFirst$Expression; -/
def FX1_expression_b38 (st : Nat → Option Nat) (nf : Nat) (rc : Nat → CS → Option ((Nat ⊕ (Option Nat)) × CS)) (k5 : Nat → (Option Nat) → CS → Option ((Nat ⊕ (Option Nat)) × CS)) (x0 : Nat) (x1 : (Option Nat)) (s_0 : Int32) (s_1 : Nat) (s_2 : Nat) (s : CS) : Option ((Nat ⊕ (Option Nat)) × CS) :=
  thr (FX1_test st nf rc x0 s) fun r2 s1 =>
  nn x1 fun p3 =>
  nn r2 fun p4 =>
  (FX21_init s_1 s_0 p3 p4 s1).bind fun s5 =>
  k5 x0 (some s_2) s5
def FX1_expression_b5_s (st : Nat → Option Nat) (nf : Nat) (rc : Nat → CS → Option ((Nat ⊕ (Option Nat)) × CS)) (k5 : Nat → (Option Nat) → CS → Option ((Nat ⊕ (Option Nat)) × CS)) (x0 : Nat) (x1 : (Option Nat)) (s : CS) : Option ((Nat ⊕ (Option Nat)) × CS) :=
  nn (st 21) fun p1 =>
  (FX1_which st nf s x0 p1).bind fun v2 =>
  if 0 ≤ v2 then
  ((FX1_next st nf x0 s).bind fun s3 =>
  nwO s3 21 3 fun o4 s5 =>
  if v2 = 0 then
  (FX1_expression_b38 st nf rc k5 x0 x1 38 o4 o4 s5)
  else (FX1_expression_b38 st nf rc k5 x0 x1 124 o4 o4 s5))
  else (some (.inr x1, s))
def FX1_expression_b5 (st : Nat → Option Nat) (nf : Nat) (rc : Nat → CS → Option ((Nat ⊕ (Option Nat)) × CS)) (n : Nat) : Nat → (Option Nat) → CS → Option ((Nat ⊕ (Option Nat)) × CS) := lpN (fun _ _ _ => none) (FX1_expression_b5_s st nf rc) n
def FX1_expression (st : Nat → Option Nat) (nf : Nat) (rc : Nat → CS → Option ((Nat ⊕ (Option Nat)) × CS)) (x0 : Nat) (s : CS) : Option ((Nat ⊕ (Option Nat)) × CS) :=
  mz s (fun z => z.2) (
  gd (isK s x0 [1]) (
  thr (FX1_test st nf rc x0 s) fun r2 s1 =>
  FX1_expression_b5 st nf rc nf x0 r2 s1))
/-! OverFirst$Reader.part()LOverFirst$Expression; -/
def FX1_part_b156 (st : Nat → Option Nat) (nf : Nat) (rc : Nat → CS → Option ((Nat ⊕ (Option Nat)) × CS)) (x0 : Nat) (x4 : (Option Nat)) (s : CS) : Option ((Nat ⊕ (Option Nat)) × CS) :=
  gI s x0 [1] 106 fun v1 =>
  pI s x0 [1] 106 (v1 - 1) fun s2 =>
  some (.inr x4, s2)
def FX1_part_b144 (st : Nat → Option Nat) (nf : Nat) (rc : Nat → CS → Option ((Nat ⊕ (Option Nat)) × CS)) (x0 : Nat) (x3 : Int32) (s_0 : (Option Nat)) (s : CS) : Option ((Nat ⊕ (Option Nat)) × CS) :=
  if x3 = 0 then
  (FX1_part_b156 st nf rc x0 s_0 s)
  else (thr (FX1_need_2 st nf x0 41 s) fun _ s1 =>
  FX1_part_b156 st nf rc x0 s_0 s1)
def FX1_part_b57 (st : Nat → Option Nat) (nf : Nat) (rc : Nat → CS → Option ((Nat ⊕ (Option Nat)) × CS)) (x0 : Nat) (x1 : Int32) (x2 : Int32) (x3 : Int32) (s : CS) : Option ((Nat ⊕ (Option Nat)) × CS) :=
  gI s x0 [1] 106 fun v1 =>
  if v1 = 5 then
  (bd2 (FX1_wrong st x0 5 s) fun r23 s22 =>
  nn r23 fun p24 =>
  gd (isK s22 p24 [10]) (some (.inl p24, s22)))
  else (gI s x0 [1] 103 fun v2 =>
  if v2 = 2 then
  (nwO s 18 1 fun o17 s18 =>
  thr (FX1_number_2 st nf x0 0 9999 s18) fun v20 s19 =>
  (FX18_init o17 v20 s19).bind fun s21 =>
  some (.inr (some o17), s21))
  else ((FX1_next st nf x0 s).bind fun s3 =>
  if x1 < 0 then
  (gI s3 x0 [1] 106 fun v4 =>
  pI s3 x0 [1] 106 (v4 + 1) fun s5 =>
  if x2 = 0 then
  (thr (FX1_expression st nf rc x0 s5) fun r7 s6 =>
  FX1_part_b144 st nf rc x0 x3 r7 s6)
  else (nwO s5 20 1 fun o8 s9 =>
  thr (rc x0 s9) fun r11 s10 =>
  nn r11 fun p12 =>
  (FX20_init o8 p12 s10).bind fun s13 =>
  FX1_part_b144 st nf rc x0 x3 (some o8) s13))
  else (nwO s3 19 1 fun o14 s15 =>
  (FX19_init o14 x1 s15).bind fun s16 =>
  some (.inr (some o14), s16))))
def FX1_part_b23 (st : Nat → Option Nat) (nf : Nat) (rc : Nat → CS → Option ((Nat ⊕ (Option Nat)) × CS)) (x0 : Nat) (x1 : Int32) (s_0 : Int32) (s : CS) : Option ((Nat ⊕ (Option Nat)) × CS) :=
  (FX1_isSign s x0 40).bind fun v1 =>
  if 0 ≤ x1 then
  (FX1_part_b57 st nf rc x0 x1 s_0 v1 s)
  else (if s_0 = 0 then
  (if v1 = 0 then
  (gI s x0 [1] 103 fun v2 =>
  if v2 = 2 then
  (FX1_part_b57 st nf rc x0 x1 s_0 v1 s)
  else (bd2 (FX1_wrong st x0 1 s) fun r4 s3 =>
  nn r4 fun p5 =>
  gd (isK s3 p5 [10]) (some (.inl p5, s3))))
  else (FX1_part_b57 st nf rc x0 x1 s_0 v1 s))
  else (FX1_part_b57 st nf rc x0 x1 s_0 v1 s))
def FX1_part_s (st : Nat → Option Nat) (nf : Nat) (rc : Nat → CS → Option ((Nat ⊕ (Option Nat)) × CS)) (x0 : Nat) (s : CS) : Option ((Nat ⊕ (Option Nat)) × CS) :=
  mz s (fun z => z.2) (
  gd (isK s x0 [1]) (
  nn (st 19) fun p1 =>
  (FX1_which st nf s x0 p1).bind fun v2 =>
  nn (st 20) fun p3 =>
  (FX1_which st nf s x0 p3).bind fun v4 =>
  if v4 < 0 then
  (FX1_part_b23 st nf rc x0 v2 0 s)
  else (FX1_part_b23 st nf rc x0 v2 1 s)))
def FX1_part (st : Nat → Option Nat) (nf : Nat) (dp : Nat) : Nat → CS → Option ((Nat ⊕ (Option Nat)) × CS) := lpN (fun _ _ => none) (fun rc => FX1_part_s st nf rc) dp
/-! java/lang/StringLatin1.equals([B[B)Z -/
def FJ7_equals_b9_s (nf : Nat) (s : CS) (k9 : Nat → Nat → Int32 → Option Int32) (x0 : Nat) (x1 : Nat) (x2 : Int32) : Option Int32 :=
  aLn s x0 fun v1 =>
  if v1 ≤ x2 then
  (some 1)
  else (lI s x0 103 x2 fun v2 =>
  lI s x1 103 x2 fun v3 =>
  if v2 = v3 then
  (k9 x0 x1 (x2 + 1))
  else (some 0))
def FJ7_equals_b9 (nf : Nat) (s : CS) (n : Nat) : Nat → Nat → Int32 → Option Int32 := lpN (fun _ _ _ => none) (FJ7_equals_b9_s nf s) n
def FJ7_equals (nf : Nat) (s : CS) (x0 : Nat) (x1 : Nat) : Option Int32 :=
  aLn s x0 fun v1 =>
  aLn s x1 fun v2 =>
  if v1 = v2 then
  (FJ7_equals_b9 nf s nf x0 x1 0)
  else (some 0)
/-! java/lang/String.equals(Ljava/lang/Object;)Z -/
def FJ6_equals_b36 (nf : Nat) (s : CS) (x0 : Nat) (x2 : Nat) : Option Int32 :=
  gR s x0 [23, 25] 2300 fun r1 =>
  gR s x2 [23, 25] 2300 fun r2 =>
  nn r1 fun p3 =>
  nn r2 fun p4 =>
  (FJ7_equals nf s p3 p4).bind fun v5 =>
  if v5 = 0 then
  (some 0)
  else (some 1)
def FJ6_equals (nf : Nat) (s : CS) (x0 : Nat) (x1 : Nat) : Option Int32 :=
  gd (isK s x0 [23, 25]) (
  if (some x0) = (some x1) then
  (some 1)
  else (gd (isK s x1 [23, 25]) (
  if 1 = 0 then
  (some 0)
  else (gd (isK s x1 [23, 25]) (
  if 1 = 0 then
  (FJ6_equals_b36 nf s x0 x1)
  else (gI s x0 [23, 25] 2301 fun v1 =>
  gI s x1 [23, 25] 2301 fun v2 =>
  if v1 = v2 then
  (FJ6_equals_b36 nf s x0 x1)
  else (some 0)))))))
/-! java/lang/AbstractStringBuilder.<init>(I)V -/
def FJ14_init (x0 : Nat) (x1 : Int32) (s : CS) : Option CS :=
  mz s (fun z => z) (
  if 1 = 0 then
  (none)
  else (nwA s 103 x1 fun o1 s2 =>
  pR s2 x0 [24] 2400 (some o1) fun s3 =>
  gd (isyb 0) (pI s3 x0 [24] 2401 0 fun s4 =>
  some s4)))
/-! java/lang/StringBuilder.<init>(I)V -/
def FJ15_init (x0 : Nat) (x1 : Int32) (s : CS) : Option CS :=
  mz s (fun z => z) (
  (FJ14_init x0 x1 s).bind fun s1 =>
  some s1)
/-! jdk/internal/util/ArraysSupport.hugeLength(II)I -/
def FJ3_hugeLength (x0 : Int32) (x1 : Int32) (s : CS) : Option (Int32 × CS) :=
  mz s (fun z => z.2) (
  nm (x0 + x1) fun v1 =>
  if 0 ≤ v1 then
  (if 2147483639 < v1 then
  (some (v1, s))
  else (some (2147483639, s)))
  else (none))
/-! jdk/internal/util/ArraysSupport.newLength(III)I -/
def FJ3_newLength (x0 : Int32) (x1 : Int32) (x2 : Int32) (s : CS) : Option (Int32 × CS) :=
  mz s (fun z => z.2) (
  nm (x0 + (mx32 x1 x2)) fun v1 =>
  if v1 ≤ 0 then
  (bd2 (FJ3_hugeLength x0 x1 s) fun v3 s2 =>
  some (v3, s2))
  else (if 2147483639 < v1 then
  (bd2 (FJ3_hugeLength x0 x1 s) fun v5 s4 =>
  some (v5, s4))
  else (some (v1, s))))
/-! java/lang/AbstractStringBuilder.newCapacity(I)I -/
def FJ14_newCapacity (x0 : Nat) (x1 : Int32) (s : CS) : Option (Int32 × CS) :=
  mz s (fun z => z.2) (
  gd (isK s x0 [24]) (
  gR s x0 [24] 2400 fun r1 =>
  nn r1 fun p2 =>
  aLn s p2 fun v3 =>
  gI s x0 [24] 2401 fun v4 =>
  nm (shl32 x1 v4) fun v5 =>
  nm (v5 - v3) fun v6 =>
  gI s x0 [24] 2401 fun v7 =>
  bd2 (FJ3_newLength v3 v6 (v3 + (shl32 2 v7)) s) fun v9 s8 =>
  if v9 = 2147483647 then
  (none)
  else (gI s8 x0 [24] 2401 fun v10 =>
  some (shr32 v9 v10, s8))))
/-! java/util/Arrays.copyOf([BI)[B -/
def FJ5_copyOf_3 (x0 : Nat) (x1 : Int32) (s : CS) : Option ((Option Nat) × CS) :=
  mz s (fun z => z.2) (
  aLn s x0 fun v1 =>
  if x1 = v1 then
  (clB s x0 fun o6 s7 =>
  gd (isW s7 o6 [103]) (
  some ((some o6), s7)))
  else (nwA s 103 x1 fun o2 s3 =>
  aLn s3 x0 fun v4 =>
  cpB s3 x0 0 o2 0 (mn32 v4 x1) fun s5 =>
  some ((some o2), s5)))
/-! java/lang/AbstractStringBuilder.ensureCapacityInternal(I)V -/
def FJ14_ensureCapacityInternal (x0 : Nat) (x1 : Int32) (s : CS) : Option CS :=
  mz s (fun z => z) (
  gd (isK s x0 [24]) (
  gR s x0 [24] 2400 fun r1 =>
  nn r1 fun p2 =>
  aLn s p2 fun v3 =>
  gI s x0 [24] 2401 fun v4 =>
  nm (shr32 v3 v4) fun v5 =>
  if (x1 - v5) ≤ 0 then
  (some s)
  else (gR s x0 [24] 2400 fun r6 =>
  bd2 (FJ14_newCapacity x0 x1 s) fun v8 s7 =>
  gI s7 x0 [24] 2401 fun v9 =>
  nn r6 fun p10 =>
  bd2 (FJ5_copyOf_3 p10 (shl32 v8 v9) s7) fun r12 s11 =>
  pR s11 x0 [24] 2400 r12 fun s13 =>
  some s13)))
/-! java/lang/AbstractStringBuilder.isLatin1()Z -/
def FJ14_isLatin1 (s : CS) (x0 : Nat) : Option Int32 :=
  gd (isK s x0 [24]) (
  if 1 = 0 then
  (some 0)
  else (gI s x0 [24] 2401 fun v1 =>
  if v1 = 0 then
  (some 1)
  else (some 0)))
/-! java/lang/StringLatin1.inflate([BI[BII)V -/
def FJ7_inflate (s : CS) (x0 : Nat) (x1 : Int32) (x2 : Nat) (x3 : Int32) (x4 : Int32) : Option Unit :=
  none
/-! java/lang/AbstractStringBuilder.inflate()V -/
def FJ14_inflate (x0 : Nat) (s : CS) : Option CS :=
  mz s (fun z => z) (
  gd (isK s x0 [24]) (
  (FJ14_isLatin1 s x0).bind fun v1 =>
  if v1 = 0 then
  (some s)
  else (gR s x0 [24] 2400 fun r2 =>
  nn r2 fun p3 =>
  aLn s p3 fun v4 =>
  none)))
/-! java/lang/StringLatin1.canEncode(C)Z -/
def FJ7_canEncode_2 (s : CS) (x0 : Int32) : Option Int32 :=
  if 255 < x0 then
  (some 0)
  else (some 1)
/-! java/lang/AbstractStringBuilder.append(C)Ljava/lang/AbstractStringBuilder; -/
def FJ14_append_b56 (x0 : Nat) (x1 : Int32) (s : CS) : Option ((Option Nat) × CS) :=
  gR s x0 [24] 2400 fun r1 =>
  gI s x0 [24] 2403 fun v2 =>
  pI s x0 [24] 2403 (v2 + 1) fun s3 =>
  none
def FJ14_append_b45 (x0 : Nat) (x1 : Int32) (s : CS) : Option ((Option Nat) × CS) :=
  (FJ14_isLatin1 s x0).bind fun v1 =>
  if v1 = 0 then
  (FJ14_append_b56 x0 x1 s)
  else ((FJ14_inflate x0 s).bind fun s2 =>
  FJ14_append_b56 x0 x1 s2)
def FJ14_append (x0 : Nat) (x1 : Int32) (s : CS) : Option ((Option Nat) × CS) :=
  mz s (fun z => z.2) (
  gd (isK s x0 [24]) (
  gI s x0 [24] 2403 fun v1 =>
  (FJ14_ensureCapacityInternal x0 (v1 + 1) s).bind fun s2 =>
  (FJ14_isLatin1 s2 x0).bind fun v3 =>
  if v3 = 0 then
  (FJ14_append_b45 x0 x1 s2)
  else ((FJ7_canEncode_2 s2 x1).bind fun v4 =>
  if v4 = 0 then
  (FJ14_append_b45 x0 x1 s2)
  else (gR s2 x0 [24] 2400 fun r5 =>
  gI s2 x0 [24] 2403 fun v6 =>
  pI s2 x0 [24] 2403 (v6 + 1) fun s7 =>
  nn r5 fun p8 =>
  gd (isy (i2b x1)) (tI_ s7 p8 103 v6 (i2b x1) fun s9 =>
  some ((some x0), s9))))))
/-! java/lang/StringBuilder.append(C)Ljava/lang/StringBuilder; -/
def FJ15_append (x0 : Nat) (x1 : Int32) (s : CS) : Option ((Option Nat) × CS) :=
  mz s (fun z => z.2) (
  gd (isK s x0 [24]) (
  bd2 (FJ14_append x0 x1 s) fun r2 s1 =>
  some ((some x0), s1)))
/-! java/lang/AbstractStringBuilder.getValue()[B -/
def FJ14_getValue (s : CS) (x0 : Nat) : Option (Option Nat) :=
  gd (isK s x0 [24]) (
  gR s x0 [24] 2400 fun r1 =>
  some r1)
/-! java/lang/AbstractStringBuilder.length()I -/
def FJ14_length (s : CS) (x0 : Nat) : Option Int32 :=
  gd (isK s x0 [24]) (
  gI s x0 [24] 2403 fun v1 =>
  some v1)
/-! java/lang/StringBuilder.length()I -/
def FJ15_length (s : CS) (x0 : Nat) : Option Int32 :=
  gd (isK s x0 [24]) (
  (FJ14_length s x0).bind fun v1 =>
  some v1)
/-! java/util/Arrays.checkLength(II)V -/
def FJ5_checkLength (x0 : Int32) (x1 : Int32) (s : CS) : Option CS :=
  mz s (fun z => z) (
  if x0 ≤ x1 then
  (some s)
  else (none))
/-! java/util/Arrays.copyOfRangeByte([BII)[B -/
def FJ5_copyOfRangeByte (x0 : Nat) (x1 : Int32) (x2 : Int32) (s : CS) : Option ((Option Nat) × CS) :=
  mz s (fun z => z.2) (
  (FJ5_checkLength x1 x2 s).bind fun s1 =>
  nm (x2 - x1) fun v2 =>
  nwA s1 103 v2 fun o3 s4 =>
  aLn s4 x0 fun v5 =>
  cpB s4 x0 x1 o3 0 (mn32 (v5 - x1) v2) fun s6 =>
  some ((some o3), s6))
/-! java/util/Arrays.copyOfRange([BII)[B -/
def FJ5_copyOfRange_b10 (x0 : Nat) (x1 : Int32) (x2 : Int32) (s : CS) : Option ((Option Nat) × CS) :=
  bd2 (FJ5_copyOfRangeByte x0 x1 x2 s) fun r2 s1 =>
  some (r2, s1)
def FJ5_copyOfRange (x0 : Nat) (x1 : Int32) (x2 : Int32) (s : CS) : Option ((Option Nat) × CS) :=
  mz s (fun z => z.2) (
  if x1 = 0 then
  (aLn s x0 fun v1 =>
  if x2 = v1 then
  (clB s x0 fun o2 s3 =>
  gd (isW s3 o2 [103]) (
  some ((some o2), s3)))
  else (FJ5_copyOfRange_b10 x0 x1 x2 s))
  else (FJ5_copyOfRange_b10 x0 x1 x2 s))
/-! java/lang/String.<init>(Ljava/lang/AbstractStringBuilder;Ljava/lang/Void;)V -/
def FJ6_init_2_b79 (x0 : Nat) (x3 : (Option Nat)) (x4 : Int32) (s : CS) : Option CS :=
  gd (isyb 1) (pI s x0 [23, 25] 2301 1 fun s1 =>
  nn x3 fun p2 =>
  bd2 (FJ5_copyOfRange p2 0 (shl32 x4 1) s1) fun r4 s3 =>
  pR s3 x0 [23, 25] 2300 r4 fun s5 =>
  some s5)
def FJ6_init_2 (x0 : Nat) (x1 : Nat) (x2 : (Option Nat)) (s : CS) : Option CS :=
  mz s (fun z => z) (
  (FJ14_getValue s x1).bind fun r1 =>
  (FJ15_length s x1).bind fun v2 =>
  (FJ14_isLatin1 s x1).bind fun v3 =>
  if v3 = 0 then
  (if 1 = 0 then
  (FJ6_init_2_b79 x0 r1 v2 s)
  else (gI s x1 [24] 2402 fun v4 =>
  if v4 = 0 then
  (FJ6_init_2_b79 x0 r1 v2 s)
  else (none)))
  else (gd (isyb 0) (pI s x0 [23, 25] 2301 0 fun s5 =>
  nn r1 fun p6 =>
  bd2 (FJ5_copyOfRange p6 0 v2 s5) fun r8 s7 =>
  pR s7 x0 [23, 25] 2300 r8 fun s9 =>
  some s9)))
/-! java/lang/String.<init>(Ljava/lang/StringBuilder;)V -/
def FJ6_init (x0 : Nat) (x1 : Nat) (s : CS) : Option CS :=
  mz s (fun z => z) (
  (FJ6_init_2 x0 x1 none s).bind fun s1 =>
  some s1)
/-! java/lang/StringBuilder.toString()Ljava/lang/String; -/
def FJ15_toString (x0 : Nat) (s : CS) : Option ((Option Nat) × CS) :=
  mz s (fun z => z.2) (
  gd (isK s x0 [24]) (
  nwO s 23 4 fun o1 s2 =>
  (FJ6_init o1 x0 s2).bind fun s3 =>
  some ((some o1), s3)))
/-! java/util/ArrayList.elementData(I)Ljava/lang/Object; -/
def FJ2_elementData (s : CS) (x0 : Nat) (x1 : Int32) : Option (Option Nat) :=
  gd (isK s x0 [22]) (
  gR s x0 [22] 2200 fun r1 =>
  nn r1 fun p2 =>
  lR s p2 106 x1 fun r3 =>
  some r3)
/-! java/util/Objects.checkIndex(II)I -/
def FJ16_checkIndex (s : CS) (x0 : Int32) (x1 : Int32) : Option Int32 :=
  (FJ9_checkIndex s x0 x1 none).bind fun v1 =>
  some v1
/-! java/util/ArrayList.get(I)Ljava/lang/Object; -/
def FJ2_get (s : CS) (x0 : Nat) (x1 : Int32) : Option (Option Nat) :=
  gd (isK s x0 [22]) (
  gI s x0 [22] 2201 fun v1 =>
  (FJ16_checkIndex s x1 v1).bind fun v2 =>
  (FJ2_elementData s x0 x1).bind fun r3 =>
  some r3)
/-! java/util/ArrayList.size()I -/
def FJ2_size (s : CS) (x0 : Nat) : Option Int32 :=
  gd (isK s x0 [22]) (
  gI s x0 [22] 2201 fun v1 =>
  some v1)
/-! OverFirst$Reader.fresh()Ljava/lang/String; -/
def FX1_fresh_b71_s (st : Nat → Option Nat) (nf : Nat) (k71 : Nat → (Option Nat) → Int32 → CS → Option ((Nat ⊕ (Option Nat)) × CS)) (x0 : Nat) (x2 : (Option Nat)) (x3 : Int32) (s : CS) : Option ((Nat ⊕ (Option Nat)) × CS) :=
  gR s x0 [1] 107 fun r1 =>
  nn r1 fun p2 =>
  gR s p2 [2] 211 fun r3 =>
  nn r3 fun p4 =>
  (FJ2_size s p4).bind fun v5 =>
  if v5 ≤ x3 then
  ((FX1_next st nf x0 s).bind fun s6 =>
  some (.inr x2, s6))
  else (gR s x0 [1] 107 fun r7 =>
  nn r7 fun p8 =>
  gR s p8 [2] 211 fun r9 =>
  nn r9 fun p10 =>
  (FJ2_get s p10 x3).bind fun r11 =>
  nn r11 fun p12 =>
  gd (isK s p12 [23, 25]) (
  nn x2 fun p13 =>
  (FJ6_equals nf s p12 p13).bind fun v14 =>
  if v14 = 0 then
  (k71 x0 (some p13) (x3 + 1) s)
  else (bd2 (FX1_wrong st x0 3 s) fun r16 s15 =>
  nn r16 fun p17 =>
  gd (isK s15 p17 [10]) (some (.inl p17, s15)))))
def FX1_fresh_b71 (st : Nat → Option Nat) (nf : Nat) (n : Nat) : Nat → (Option Nat) → Int32 → CS → Option ((Nat ⊕ (Option Nat)) × CS) := lpN (fun _ _ _ _ => none) (FX1_fresh_b71_s st nf) n
def FX1_fresh_b38_s (st : Nat → Option Nat) (nf : Nat) (k38 : Nat → Nat → Int32 → CS → Option ((Nat ⊕ (Option Nat)) × CS)) (x0 : Nat) (x1 : Nat) (x2 : Int32) (s : CS) : Option ((Nat ⊕ (Option Nat)) × CS) :=
  gI s x0 [1] 102 fun v1 =>
  if v1 ≤ x2 then
  (bd2 (FJ15_toString x1 s) fun r3 s2 =>
  FX1_fresh_b71 st nf nf x0 r3 0 s2)
  else (gR s x0 [1] 100 fun r4 =>
  nn r4 fun p5 =>
  lI s p5 103 x2 fun v6 =>
  bd2 (FJ15_append x1 (i2c v6) s) fun r8 s7 =>
  k38 x0 x1 (x2 + 1) s7)
def FX1_fresh_b38 (st : Nat → Option Nat) (nf : Nat) (n : Nat) : Nat → Nat → Int32 → CS → Option ((Nat ⊕ (Option Nat)) × CS) := lpN (fun _ _ _ _ => none) (FX1_fresh_b38_s st nf) n
def FX1_fresh (st : Nat → Option Nat) (nf : Nat) (x0 : Nat) (s : CS) : Option ((Nat ⊕ (Option Nat)) × CS) :=
  mz s (fun z => z.2) (
  gd (isK s x0 [1]) (
  gI s x0 [1] 103 fun v1 =>
  if v1 = 1 then
  (nn (st 18) fun p5 =>
  (FX1_which st nf s x0 p5).bind fun v6 =>
  if v6 < 0 then
  (nwO s 24 4 fun o7 s8 =>
  (FJ15_init o7 8 s8).bind fun s9 =>
  gI s9 x0 [1] 104 fun v10 =>
  FX1_fresh_b38 st nf nf x0 o7 v10 s9)
  else (bd2 (FX1_wrong st x0 1 s) fun r12 s11 =>
  nn r12 fun p13 =>
  gd (isK s11 p13 [10]) (some (.inl p13, s11))))
  else (bd2 (FX1_wrong st x0 1 s) fun r3 s2 =>
  nn r3 fun p4 =>
  gd (isK s2 p4 [10]) (some (.inl p4, s2)))))
/-! OverFirst$Reader.value()I -/
def FX1_value_b7_s (nf : Nat) (s : CS) (k7 : Nat → Int32 → Int32 → Option Int32) (x0 : Nat) (x1 : Int32) (x2 : Int32) : Option Int32 :=
  gI s x0 [1] 102 fun v1 =>
  if v1 ≤ x2 then
  (some x1)
  else (gR s x0 [1] 100 fun r2 =>
  nn r2 fun p3 =>
  lI s p3 103 x2 fun v4 =>
  nm (((x1 * 10) + v4) - 48) fun v5 =>
  k7 x0 v5 (x2 + 1))
def FX1_value_b7 (nf : Nat) (s : CS) (n : Nat) : Nat → Int32 → Int32 → Option Int32 := lpN (fun _ _ _ => none) (FX1_value_b7_s nf s) n
def FX1_value (nf : Nat) (s : CS) (x0 : Nat) : Option Int32 :=
  gd (isK s x0 [1]) (
  gI s x0 [1] 104 fun v1 =>
  FX1_value_b7 nf s nf x0 0 v1)
/-! OverFirst.in(III)Z -/
def FX0_in (s : CS) (x0 : Int32) (x1 : Int32) (x2 : Int32) : Option Int32 :=
  if x0 < x1 then
  (some 0)
  else (if x2 < x0 then
  (some 0)
  else (some 1))
/-! OverFirst$Reader.isLit(I)Z -/
def FX1_isLit (nf : Nat) (s : CS) (x0 : Nat) (x1 : Int32) : Option Int32 :=
  gd (isK s x0 [1]) (
  (FX1_value nf s x0).bind fun v1 =>
  gR s x0 [1] 107 fun r2 =>
  nn r2 fun p3 =>
  gI s p3 [2] 201 fun v4 =>
  (FX0_in s v1 0 (v4 - 1)).bind fun v5 =>
  if v5 = 0 then
  (some 0)
  else (gR s x0 [1] 107 fun r6 =>
  nn r6 fun p7 =>
  gR s p7 [2] 209 fun r8 =>
  (FX1_value nf s x0).bind fun v9 =>
  nn r8 fun p10 =>
  lR s p10 104 ((v9 * 6) + x1) fun r11 =>
  nul r11 (some 0) fun p12 =>
  some 1))
/-! OverFirst$Reader.isTold(I)Z -/
def FX1_isTold (s : CS) (x0 : Nat) (x1 : Int32) : Option Int32 :=
  gd (isK s x0 [1]) (
  if x1 = 0 then
  (gR s x0 [1] 107 fun r13 =>
  nn r13 fun p14 =>
  gI s p14 [2] 202 fun v15 =>
  if v15 < 0 then
  (some 0)
  else (some 1))
  else (if x1 = 1 then
  (gR s x0 [1] 107 fun r10 =>
  nn r10 fun p11 =>
  gI s p11 [2] 203 fun v12 =>
  if v12 < 0 then
  (some 0)
  else (some 1))
  else (if x1 = 2 then
  (gR s x0 [1] 107 fun r7 =>
  nn r7 fun p8 =>
  gI s p8 [2] 204 fun v9 =>
  if v9 < 0 then
  (some 0)
  else (some 1))
  else (if x1 = 3 then
  (gR s x0 [1] 107 fun r4 =>
  nn r4 fun p5 =>
  gI s p5 [2] 205 fun v6 =>
  if v6 < 0 then
  (some 0)
  else (some 1))
  else (if x1 = 4 then
  (gR s x0 [1] 107 fun r1 =>
  nn r1 fun p2 =>
  gI s p2 [2] 208 fun v3 =>
  if v3 = 0 then
  (some 0)
  else (some 1))
  else (some 0))))))
/-! OverFirst$Reader.need(Ljava/lang/String;)V -/
def FX1_need (st : Nat → Option Nat) (nf : Nat) (x0 : Nat) (x1 : Nat) (s : CS) : Option ((Nat ⊕ Unit) × CS) :=
  mz s (fun z => z.2) (
  gd (isK s x0 [1]) (
  (FX1_which st nf s x0 x1).bind fun v1 =>
  if 0 ≤ v1 then
  ((FX1_next st nf x0 s).bind fun s2 =>
  some (.inr (), s2))
  else (bd2 (FX1_wrong st x0 1 s) fun r4 s3 =>
  nn r4 fun p5 =>
  gd (isK s3 p5 [10]) (some (.inl p5, s3)))))
/-! OverFirst$Reader.number(Ljava/lang/String;II)I -/
def FX1_number (st : Nat → Option Nat) (nf : Nat) (x0 : Nat) (x1 : Nat) (x2 : Int32) (x3 : Int32) (s : CS) : Option ((Nat ⊕ Int32) × CS) :=
  mz s (fun z => z.2) (
  gd (isK s x0 [1]) (
  thr (FX1_need st nf x0 x1 s) fun _ s1 =>
  thr (FX1_number_2 st nf x0 x2 x3 s1) fun v3 s2 =>
  some (.inr v3, s2)))
/-! OverFirst.gcd(II)I -/
def FX0_gcd_s (rc : Int32 → Int32 → Option Int32) (s : CS) (x0 : Int32) (x1 : Int32) : Option Int32 :=
  if x1 = 0 then
  (some x0)
  else (d32 x1 (
  (rc x1 (rem32 x0 x1)).bind fun v1 =>
  some v1))
def FX0_gcd (s : CS) (dp : Nat) : Int32 → Int32 → Option Int32 := lpN (fun _ _ => none) (fun rc => FX0_gcd_s rc s) dp
/-! OverFirst$Reader.light()V -/
def FX1_light_b230 (st : Nat → Option Nat) (nf : Nat) (x0 : Nat) (x1 : Int32) (x2 : Int32) (x3 : Int32) (x4 : Int32) (x5 : Int32) (x6 : Int32) (s : CS) : Option ((Nat ⊕ Unit) × CS) :=
  gR s x0 [1] 107 fun r1 =>
  nn r1 fun p2 =>
  gR s p2 [2] 209 fun r3 =>
  if x3 = 0 then
  (nwO s 12 3 fun o19 s20 =>
  (FX12_init o19 x4 x5 x6 s20).bind fun s21 =>
  nn r3 fun p22 =>
  gd (isK s21 o19 [12, 13, 14, 15]) (tR_ s21 p22 104 ((x2 * 6) + x1) (some o19) fun s23 =>
  some (.inr (), s23)))
  else (if x3 = 1 then
  (nwO s 13 3 fun o14 s15 =>
  (FX13_init o14 x4 x5 x6 s15).bind fun s16 =>
  nn r3 fun p17 =>
  gd (isK s16 o14 [12, 13, 14, 15]) (tR_ s16 p17 104 ((x2 * 6) + x1) (some o14) fun s18 =>
  some (.inr (), s18)))
  else (if x3 = 2 then
  (nwO s 14 3 fun o9 s10 =>
  (FX14_init o9 x4 x5 x6 s10).bind fun s11 =>
  nn r3 fun p12 =>
  gd (isK s11 o9 [12, 13, 14, 15]) (tR_ s11 p12 104 ((x2 * 6) + x1) (some o9) fun s13 =>
  some (.inr (), s13)))
  else (nwO s 15 3 fun o4 s5 =>
  (FX15_init o4 x4 x5 x6 s5).bind fun s6 =>
  nn r3 fun p7 =>
  gd (isK s6 o4 [12, 13, 14, 15]) (tR_ s6 p7 104 ((x2 * 6) + x1) (some o4) fun s8 =>
  some (.inr (), s8)))))
def FX1_light_b212 (st : Nat → Option Nat) (nf : Nat) (x0 : Nat) (x1 : Int32) (x2 : Int32) (x3 : Int32) (x4 : Int32) (x5 : Int32) (x6 : Int32) (s : CS) : Option ((Nat ⊕ Unit) × CS) :=
  if x3 = 1 then
  (gR s x0 [1] 107 fun r1 =>
  nn r1 fun p2 =>
  gI s p2 [2] 207 fun v3 =>
  pI s p2 [2] 207 (v3 + 1) fun s4 =>
  FX1_light_b230 st nf x0 x1 x2 x3 x4 x5 x6 s4)
  else (FX1_light_b230 st nf x0 x1 x2 x3 x4 x5 x6 s)
def FX1_light_b144 (st : Nat → Option Nat) (nf : Nat) (x0 : Nat) (x1 : Int32) (x2 : Int32) (x3 : Int32) (s : CS) : Option ((Nat ⊕ Unit) × CS) :=
  thr (FX1_number_2 st nf x0 1 60 s) fun v2 s1 =>
  nn (st 15) fun p3 =>
  thr (FX1_number st nf x0 p3 0 (v2 - 1) s1) fun v5 s4 =>
  nn (st 16) fun p6 =>
  thr (FX1_number st nf x0 p6 0 v2 s4) fun v8 s7 =>
  if 2 ≤ x3 then
  (FX1_light_b212 st nf x0 x1 x2 x3 v2 v5 v8 s7)
  else (gR s7 x0 [1] 107 fun r9 =>
  gR s7 x0 [1] 107 fun r10 =>
  nn r10 fun p11 =>
  gI s7 p11 [2] 206 fun v12 =>
  gR s7 x0 [1] 107 fun r13 =>
  nn r13 fun p14 =>
  gI s7 p14 [2] 206 fun v15 =>
  (FX0_gcd s7 50 v15 v2).bind fun v16 =>
  d32 v16 (
  nn r9 fun p17 =>
  pI s7 p17 [2] 206 ((v12 / v16) * v2) fun s18 =>
  FX1_light_b212 st nf x0 x1 x2 x3 v2 v5 v8 s18))
def FX1_light_b37 (st : Nat → Option Nat) (nf : Nat) (x0 : Nat) (x1 : Int32) (s : CS) : Option ((Nat ⊕ Unit) × CS) :=
  gR s x0 [1] 107 fun r1 =>
  nn r1 fun p2 =>
  gI s p2 [2] 201 fun v3 =>
  thr (FX1_number_2 st nf x0 0 (v3 - 1) s) fun v5 s4 =>
  nn (st 13) fun p6 =>
  (FX1_which st nf s4 x0 p6).bind fun v7 =>
  if 0 ≤ v7 then
  ((FX1_next st nf x0 s4).bind fun s8 =>
  nn (st 14) fun p9 =>
  thr (FX1_need st nf x0 p9 s8) fun _ s10 =>
  gI s10 x0 [1] 103 fun v11 =>
  if v11 = 2 then
  (if 2 ≤ v7 then
  (FX1_light_b144 st nf x0 x1 v5 v7 s10)
  else ((FX1_value nf s10 x0).bind fun v12 =>
  (FX0_in s10 v12 1 60).bind fun v13 =>
  if v13 = 0 then
  (FX1_light_b144 st nf x0 x1 v5 v7 s10)
  else (gR s10 x0 [1] 107 fun r14 =>
  nn r14 fun p15 =>
  gI s10 p15 [2] 206 fun v16 =>
  gR s10 x0 [1] 107 fun r17 =>
  nn r17 fun p18 =>
  gI s10 p18 [2] 206 fun v19 =>
  (FX1_value nf s10 x0).bind fun v20 =>
  (FX0_gcd s10 50 v19 v20).bind fun v21 =>
  d32 v21 (
  (FX1_value nf s10 x0).bind fun v22 =>
  if ((v16 / v21) * v22) ≤ 1200 then
  (FX1_light_b144 st nf x0 x1 v5 v7 s10)
  else (bd2 (FX1_wrong st x0 4 s10) fun r24 s23 =>
  nn r24 fun p25 =>
  gd (isK s23 p25 [10]) (some (.inl p25, s23)))))))
  else (FX1_light_b144 st nf x0 x1 v5 v7 s10))
  else (bd2 (FX1_wrong st x0 1 s4) fun r27 s26 =>
  nn r27 fun p28 =>
  gd (isK s26 p28 [10]) (some (.inl p28, s26)))
def FX1_light (st : Nat → Option Nat) (nf : Nat) (x0 : Nat) (s : CS) : Option ((Nat ⊕ Unit) × CS) :=
  mz s (fun z => z.2) (
  gd (isK s x0 [1]) (
  gR s x0 [1] 107 fun r1 =>
  nn r1 fun p2 =>
  gI s p2 [2] 200 fun v3 =>
  thr (FX1_number_2 st nf x0 0 (v3 - 1) s) fun v5 s4 =>
  gI s4 x0 [1] 103 fun v6 =>
  if v6 = 2 then
  ((FX1_isLit nf s4 x0 v5).bind fun v7 =>
  if v7 = 0 then
  (FX1_light_b37 st nf x0 v5 s4)
  else (bd2 (FX1_wrong st x0 3 s4) fun r9 s8 =>
  nn r9 fun p10 =>
  gd (isK s8 p10 [10]) (some (.inl p10, s8))))
  else (FX1_light_b37 st nf x0 v5 s4)))
/-! OverFirst$Ruled.<init>(LOverFirst$Expression;)V -/
def FX16_init (x0 : Nat) (x1 : Nat) (s : CS) : Option CS :=
  mz s (fun z => z) (
  (FX3_init s x0).bind fun _ =>
  nwA s 100 4 fun o2 s3 =>
  pR s3 x0 [16] 1601 (some o2) fun s4 =>
  pR s4 x0 [16] 1600 (some x1) fun s5 =>
  some s5)
/-! java/util/Arrays.copyOf([Ljava/lang/Object;ILjava/lang/Class;)[Ljava/lang/Object; -/
def FJ5_copyOf_2_b24 (st : Nat → Option Nat) (x0 : Nat) (x1 : Int32) (s_0 : Nat) (s : CS) : Option ((Option Nat) × CS) :=
  aLn s x0 fun v1 =>
  cpQ s x0 0 s_0 0 (mn32 v1 x1) fun s2 =>
  some ((some s_0), s2)
def FJ5_copyOf_2 (st : Nat → Option Nat) (x0 : Nat) (x1 : Int32) (x2 : Nat) (s : CS) : Option ((Option Nat) × CS) :=
  mz s (fun z => z.2) (
  nn (st 3) fun p1 =>
  if (some x2) = (some p1) then
  (nwA s 106 x1 fun o2 s3 =>
  FJ5_copyOf_2_b24 st x0 x1 o2 s3)
  else (none))
/-! java/util/Arrays.copyOf([Ljava/lang/Object;I)[Ljava/lang/Object; -/
def FJ5_copyOf (st : Nat → Option Nat) (x0 : Nat) (x1 : Int32) (s : CS) : Option ((Option Nat) × CS) :=
  mz s (fun z => z.2) (
  gd (isW s x0 [106]) (nn (st 3) fun p1 =>
  bd2 (FJ5_copyOf_2 st x0 x1 p1 s) fun r3 s2 =>
  some (r3, s2)))
/-! java/util/ArrayList.grow(I)[Ljava/lang/Object; -/
def FJ2_grow_2_b20 (st : Nat → Option Nat) (x0 : Nat) (x1 : Int32) (x2 : Int32) (s : CS) : Option ((Option Nat) × CS) :=
  bd2 (FJ3_newLength x2 (x1 - x2) (shr32 x2 1) s) fun v2 s1 =>
  gR s1 x0 [22] 2200 fun r3 =>
  nn r3 fun p4 =>
  bd2 (FJ5_copyOf st p4 v2 s1) fun r6 s5 =>
  pR s5 x0 [22] 2200 r6 fun s7 =>
  some (r6, s7)
def FJ2_grow_2 (st : Nat → Option Nat) (x0 : Nat) (x1 : Int32) (s : CS) : Option ((Option Nat) × CS) :=
  mz s (fun z => z.2) (
  gd (isK s x0 [22]) (
  gR s x0 [22] 2200 fun r1 =>
  nn r1 fun p2 =>
  aLn s p2 fun v3 =>
  if 0 < v3 then
  (FJ2_grow_2_b20 st x0 x1 v3 s)
  else (gR s x0 [22] 2200 fun r4 =>
  none)))
/-! java/util/ArrayList.grow()[Ljava/lang/Object; -/
def FJ2_grow (st : Nat → Option Nat) (x0 : Nat) (s : CS) : Option ((Option Nat) × CS) :=
  mz s (fun z => z.2) (
  gd (isK s x0 [22]) (
  gI s x0 [22] 2201 fun v1 =>
  bd2 (FJ2_grow_2 st x0 (v1 + 1) s) fun r3 s2 =>
  some (r3, s2)))
/-! java/util/ArrayList.add(Ljava/lang/Object;[Ljava/lang/Object;I)V -/
def FJ2_add_2_b11 (st : Nat → Option Nat) (x0 : Nat) (x1 : Nat) (x2 : (Option Nat)) (x3 : Int32) (s : CS) : Option CS :=
  nn x2 fun p1 =>
  gd (isK s x1 [4, 5, 6, 16, 23]) (tR_ s p1 106 x3 (some x1) fun s2 =>
  pI s2 x0 [22] 2201 (x3 + 1) fun s3 =>
  some s3)
def FJ2_add_2 (st : Nat → Option Nat) (x0 : Nat) (x1 : Nat) (x2 : Nat) (x3 : Int32) (s : CS) : Option CS :=
  mz s (fun z => z) (
  gd (isK s x0 [22]) (
  aLn s x2 fun v1 =>
  if x3 = v1 then
  (bd2 (FJ2_grow st x0 s) fun r3 s2 =>
  FJ2_add_2_b11 st x0 x1 r3 x3 s2)
  else (FJ2_add_2_b11 st x0 x1 (some x2) x3 s)))
/-! java/util/ArrayList.add(Ljava/lang/Object;)Z -/
def FJ2_add (st : Nat → Option Nat) (x0 : Nat) (x1 : Nat) (s : CS) : Option (Int32 × CS) :=
  mz s (fun z => z.2) (
  gd (isK s x0 [22]) (
  gI s x0 [22] 2600 fun v1 =>
  pI s x0 [22] 2600 (v1 + 1) fun s2 =>
  gR s2 x0 [22] 2200 fun r3 =>
  gI s2 x0 [22] 2201 fun v4 =>
  nn r3 fun p5 =>
  (FJ2_add_2 st x0 x1 p5 v4 s2).bind fun s6 =>
  some (1, s6)))
/-! OverFirst$Reader.rule()V -/
def FX1_rule (st : Nat → Option Nat) (nf : Nat) (x0 : Nat) (s : CS) : Option ((Nat ⊕ Unit) × CS) :=
  mz s (fun z => z.2) (
  gd (isK s x0 [1]) (
  thr (FX1_fresh st nf x0 s) fun r2 s1 =>
  gR s1 x0 [1] 107 fun r3 =>
  nn r3 fun p4 =>
  gR s1 p4 [2] 212 fun r5 =>
  nwO s1 16 2 fun o6 s7 =>
  thr (FX1_expression st nf (FX1_part st nf 20) x0 s7) fun r9 s8 =>
  nn r9 fun p10 =>
  (FX16_init o6 p10 s8).bind fun s11 =>
  nn r5 fun p12 =>
  bd2 (FJ2_add st p12 o6 s11) fun v14 s13 =>
  gR s13 x0 [1] 107 fun r15 =>
  nn r15 fun p16 =>
  gR s13 p16 [2] 211 fun r17 =>
  nn r17 fun p18 =>
  nn r2 fun p19 =>
  bd2 (FJ2_add st p18 p19 s13) fun v21 s20 =>
  some (.inr (), s20)))
/-! java/util/AbstractCollection.<init>()V -/
def FJ0_init (s : CS) (x0 : Nat) : Option Unit :=
  some ()
/-! java/util/AbstractList.<init>()V -/
def FJ1_init (x0 : Nat) (s : CS) : Option CS :=
  mz s (fun z => z) (
  (FJ0_init s x0).bind fun _ =>
  pI s x0 [22] 2600 0 fun s2 =>
  some s2)
/-! java/util/ArrayList.<init>(I)V -/
def FJ2_init (x0 : Nat) (x1 : Int32) (s : CS) : Option CS :=
  mz s (fun z => z) (
  (FJ1_init x0 s).bind fun s1 =>
  if x1 ≤ 0 then
  (if x1 = 0 then
  (none)
  else (none))
  else (nwA s1 106 x1 fun o2 s3 =>
  pR s3 x0 [22] 2200 (some o2) fun s4 =>
  some s4))
/-! OverFirst$Town.<init>()V -/
def FX2_init (st : Nat → Option Nat) (x0 : Nat) (s : CS) : Option CS :=
  mz s (fun z => z) (
  pI s x0 [2] 200 1 fun s1 =>
  pI s1 x0 [2] 201 1 fun s2 =>
  pI s2 x0 [2] 202 (-1) fun s3 =>
  pI s3 x0 [2] 203 (-1) fun s4 =>
  pI s4 x0 [2] 204 (-1) fun s5 =>
  pI s5 x0 [2] 205 (-1) fun s6 =>
  pI s6 x0 [2] 206 1 fun s7 =>
  nwA s7 104 54 fun o8 s9 =>
  pR s9 x0 [2] 209 (some o8) fun s10 =>
  nwA s10 100 54 fun o11 s12 =>
  pR s12 x0 [2] 210 (some o11) fun s13 =>
  nwO s13 22 3 fun o14 s15 =>
  (FJ2_init o14 2 s15).bind fun s16 =>
  pR s16 x0 [2] 211 (some o14) fun s17 =>
  nwO s17 22 3 fun o18 s19 =>
  (FJ2_init o18 4 s19).bind fun s20 =>
  pR s20 x0 [2] 212 (some o18) fun s21 =>
  gR s21 x0 [2] 212 fun r22 =>
  nwO s21 4 1 fun o23 s24 =>
  (FX4_init o23 0 s24).bind fun s25 =>
  nn r22 fun p26 =>
  bd2 (FJ2_add st p26 o23 s25) fun v28 s27 =>
  gR s27 x0 [2] 212 fun r29 =>
  nwO s27 4 1 fun o30 s31 =>
  (FX4_init o30 1 s31).bind fun s32 =>
  nn r29 fun p33 =>
  bd2 (FJ2_add st p33 o30 s32) fun v35 s34 =>
  gR s34 x0 [2] 212 fun r36 =>
  nwO s34 5 0 fun o37 s38 =>
  (FX5_init s38 o37).bind fun _ =>
  nn r36 fun p40 =>
  bd2 (FJ2_add st p40 o37 s38) fun v42 s41 =>
  gR s41 x0 [2] 212 fun r43 =>
  nwO s41 6 0 fun o44 s45 =>
  (FX6_init s45 o44).bind fun _ =>
  nn r43 fun p47 =>
  bd2 (FJ2_add st p47 o44 s45) fun v49 s48 =>
  some s48)
/-! OverFirst$Reader.town()LOverFirst$Town; -/
def FX1_town_b247 (st : Nat → Option Nat) (nf : Nat) (k47 : Nat → CS → Option ((Nat ⊕ (Option Nat)) × CS)) (x0 : Nat) (s : CS) : Option ((Nat ⊕ (Option Nat)) × CS) :=
  thr (FX1_need_2 st nf x0 59 s) fun _ s1 =>
  k47 x0 s1
def FX1_town_b111 (st : Nat → Option Nat) (nf : Nat) (k47 : Nat → CS → Option ((Nat ⊕ (Option Nat)) × CS)) (x0 : Nat) (x1 : Int32) (s : CS) : Option ((Nat ⊕ (Option Nat)) × CS) :=
  (FX1_next st nf x0 s).bind fun s1 =>
  if x1 = 0 then
  (gR s1 x0 [1] 107 fun r23 =>
  thr (FX1_number_2 st nf x0 1 30 s1) fun v25 s24 =>
  nn r23 fun p26 =>
  pI s24 p26 [2] 202 v25 fun s27 =>
  FX1_town_b247 st nf k47 x0 s27)
  else (if x1 = 1 then
  (gR s1 x0 [1] 107 fun r18 =>
  thr (FX1_number_2 st nf x0 1 30 s1) fun v20 s19 =>
  nn r18 fun p21 =>
  pI s19 p21 [2] 203 v20 fun s22 =>
  FX1_town_b247 st nf k47 x0 s22)
  else (if x1 = 2 then
  (gR s1 x0 [1] 107 fun r13 =>
  thr (FX1_number_2 st nf x0 1 30 s1) fun v15 s14 =>
  nn r13 fun p16 =>
  pI s14 p16 [2] 204 v15 fun s17 =>
  FX1_town_b247 st nf k47 x0 s17)
  else (if x1 = 3 then
  (gR s1 x0 [1] 107 fun r8 =>
  thr (FX1_number_2 st nf x0 0 9 s1) fun v10 s9 =>
  nn r8 fun p11 =>
  pI s9 p11 [2] 205 v10 fun s12 =>
  FX1_town_b247 st nf k47 x0 s12)
  else (if x1 = 4 then
  (gR s1 x0 [1] 107 fun r5 =>
  nn r5 fun p6 =>
  gd (isb 1) (pI s1 p6 [2] 208 1 fun s7 =>
  FX1_town_b247 st nf k47 x0 s7))
  else (if x1 = 5 then
  (thr (FX1_light st nf x0 s1) fun _ s4 =>
  FX1_town_b247 st nf k47 x0 s4)
  else (if x1 = 6 then
  (thr (FX1_bar st nf x0 s1) fun _ s3 =>
  FX1_town_b247 st nf k47 x0 s3)
  else (thr (FX1_rule st nf x0 s1) fun _ s2 =>
  FX1_town_b247 st nf k47 x0 s2)))))))
def FX1_town_b47_s (st : Nat → Option Nat) (nf : Nat) (k47 : Nat → CS → Option ((Nat ⊕ (Option Nat)) × CS)) (x0 : Nat) (s : CS) : Option ((Nat ⊕ (Option Nat)) × CS) :=
  gI s x0 [1] 103 fun v1 =>
  if v1 = 0 then
  (gR s x0 [1] 107 fun r2 =>
  some (.inr r2, s))
  else (nn (st 12) fun p3 =>
  (FX1_which st nf s x0 p3).bind fun v4 =>
  if 0 ≤ v4 then
  ((FX1_isTold s x0 v4).bind fun v5 =>
  if v5 = 0 then
  (if v4 = 7 then
  (gR s x0 [1] 107 fun r6 =>
  nn r6 fun p7 =>
  gR s p7 [2] 211 fun r8 =>
  nn r8 fun p9 =>
  (FJ2_size s p9).bind fun v10 =>
  if v10 = 4 then
  (bd2 (FX1_wrong st x0 5 s) fun r12 s11 =>
  nn r12 fun p13 =>
  gd (isK s11 p13 [10]) (some (.inl p13, s11)))
  else (FX1_town_b111 st nf k47 x0 v4 s))
  else (FX1_town_b111 st nf k47 x0 v4 s))
  else (bd2 (FX1_wrong st x0 3 s) fun r15 s14 =>
  nn r15 fun p16 =>
  gd (isK s14 p16 [10]) (some (.inl p16, s14))))
  else (bd2 (FX1_wrong st x0 1 s) fun r18 s17 =>
  nn r18 fun p19 =>
  gd (isK s17 p19 [10]) (some (.inl p19, s17))))
def FX1_town_b47 (st : Nat → Option Nat) (nf : Nat) (n : Nat) : Nat → CS → Option ((Nat ⊕ (Option Nat)) × CS) := lpN (fun _ _ => none) (FX1_town_b47_s st nf) n
def FX1_town (st : Nat → Option Nat) (nf : Nat) (x0 : Nat) (s : CS) : Option ((Nat ⊕ (Option Nat)) × CS) :=
  mz s (fun z => z.2) (
  gd (isK s x0 [1]) (
  nwO s 2 13 fun o1 s2 =>
  (FX2_init st o1 s2).bind fun s3 =>
  pR s3 x0 [1] 107 (some o1) fun s4 =>
  gR s4 x0 [1] 107 fun r5 =>
  nn (st 11) fun p6 =>
  thr (FX1_number st nf x0 p6 1 6 s4) fun v8 s7 =>
  nn r5 fun p9 =>
  pI s7 p9 [2] 200 v8 fun s10 =>
  gR s10 x0 [1] 107 fun r11 =>
  thr (FX1_number_2 st nf x0 1 9 s10) fun v13 s12 =>
  nn r11 fun p14 =>
  pI s12 p14 [2] 201 v13 fun s15 =>
  thr (FX1_need_2 st nf x0 59 s15) fun _ s16 =>
  FX1_town_b47 st nf nf x0 s16))
/-! OverFirst$Town.leads(III)Z -/
def FX2_leads_b27 (s : CS) (x0 : Nat) (x1 : Int32) (x2 : Int32) (x3 : Int32) : Option Int32 :=
  gR s x0 [2] 210 fun r1 =>
  nn r1 fun p2 =>
  lI s p2 100 ((x2 * 6) + x1) fun v3 =>
  if ((shr32 v3 x3) &&& 1) = 0 then
  (some 1)
  else (some 0)
def FX2_leads (s : CS) (x0 : Nat) (x1 : Int32) (x2 : Int32) (x3 : Int32) : Option Int32 :=
  gd (isK s x0 [2]) (
  if x3 = 0 then
  (gI s x0 [2] 200 fun v2 =>
  if v2 ≤ (x1 + 1) then
  (some 0)
  else (FX2_leads_b27 s x0 x1 x2 x3))
  else (gI s x0 [2] 201 fun v1 =>
  if v1 ≤ (x2 + 1) then
  (some 0)
  else (FX2_leads_b27 s x0 x1 x2 x3)))
/-! OverFirst$Walk.<init>()V -/
def FX7_init (x0 : Nat) (s : CS) : Option CS :=
  mz s (fun z => z) (
  nwA s 100 13 fun o1 s2 =>
  pR s2 x0 [7] 700 (some o1) fun s3 =>
  nwA s3 100 13 fun o4 s5 =>
  pR s5 x0 [7] 701 (some o4) fun s6 =>
  some s6)
/-! OverFirst$Reader.walk(LOverFirst$Town;)LOverFirst$Walk; -/
def FX1_walk_b125 (st : Nat → Option Nat) (nf : Nat) (k13 : Nat → Nat → Nat → Int32 → Int32 → CS → Option ((Nat ⊕ (Option Nat)) × CS)) (x0 : Nat) (x1 : Nat) (x2 : Nat) (x3 : Int32) (x4 : Int32) (s : CS) : Option ((Nat ⊕ (Option Nat)) × CS) :=
  thr (FX1_need_2 st nf x0 59 s) fun _ s1 =>
  k13 x0 x1 x2 x3 x4 s1
def FX1_walk_b13_s (st : Nat → Option Nat) (nf : Nat) (k13 : Nat → Nat → Nat → Int32 → Int32 → CS → Option ((Nat ⊕ (Option Nat)) × CS)) (x0 : Nat) (x1 : Nat) (x2 : Nat) (x3 : Int32) (x4 : Int32) (s : CS) : Option ((Nat ⊕ (Option Nat)) × CS) :=
  gI s x0 [1] 103 fun v1 =>
  if v1 = 0 then
  (some (.inr (some x2), s))
  else (nn (st 17) fun p2 =>
  (FX1_which st nf s x0 p2).bind fun v3 =>
  if 0 ≤ v3 then
  ((FX2_leads s x1 x3 x4 v3).bind fun v4 =>
  if v4 = 0 then
  (bd2 (FX1_wrong st x0 2 s) fun r22 s21 =>
  nn r22 fun p23 =>
  gd (isK s21 p23 [10]) (some (.inl p23, s21)))
  else (gI s x2 [7] 702 fun v5 =>
  if v5 = 13 then
  (bd2 (FX1_wrong st x0 5 s) fun r19 s18 =>
  nn r19 fun p20 =>
  gd (isK s18 p20 [10]) (some (.inl p20, s18)))
  else ((FX1_next st nf x0 s).bind fun s6 =>
  gR s6 x2 [7] 700 fun r7 =>
  gI s6 x2 [7] 702 fun v8 =>
  nn r7 fun p9 =>
  tI_ s6 p9 100 v8 v3 fun s10 =>
  gR s10 x2 [7] 701 fun r11 =>
  gI s10 x2 [7] 702 fun v12 =>
  pI s10 x2 [7] 702 (v12 + 1) fun s13 =>
  thr (FX1_number_2 st nf x0 0 9999 s13) fun v15 s14 =>
  nn r11 fun p16 =>
  tI_ s14 p16 100 v12 v15 fun s17 =>
  if v3 = 0 then
  (FX1_walk_b125 st nf k13 x0 x1 x2 (x3 + 1) x4 s17)
  else (FX1_walk_b125 st nf k13 x0 x1 x2 x3 (x4 + 1) s17))))
  else (bd2 (FX1_wrong st x0 1 s) fun r25 s24 =>
  nn r25 fun p26 =>
  gd (isK s24 p26 [10]) (some (.inl p26, s24))))
def FX1_walk_b13 (st : Nat → Option Nat) (nf : Nat) (n : Nat) : Nat → Nat → Nat → Int32 → Int32 → CS → Option ((Nat ⊕ (Option Nat)) × CS) := lpN (fun _ _ _ _ _ _ => none) (FX1_walk_b13_s st nf) n
def FX1_walk (st : Nat → Option Nat) (nf : Nat) (x0 : Nat) (x1 : Nat) (s : CS) : Option ((Nat ⊕ (Option Nat)) × CS) :=
  mz s (fun z => z.2) (
  gd (isK s x0 [1]) (
  nwO s 7 3 fun o1 s2 =>
  (FX7_init o1 s2).bind fun s3 =>
  FX1_walk_b13 st nf nf x0 x1 o1 0 0 s3))
/-! OverFirst$Ruled.way(IIII)I -/
def FX16_way_b80 (x5 : Int32) (s_0 : Int32) (s : CS) : Option (Int32 × CS) :=
  if s_0 < 0 then
  (some (1 - x5, s))
  else (some (x5, s))
def FX16_way_b68 (x1 : Int32) (x2 : Int32) (s_0 : Int32) (s : CS) : Option (Int32 × CS) :=
  if s_0 = 0 then
  (FX16_way_b80 s_0 x1 s)
  else (FX16_way_b80 s_0 x2 s)
def FX16_way_b33 (x0 : Nat) (x1 : Int32) (x2 : Int32) (x3 : Int32) (x4 : Int32) (s_0 : Int32) (s_1 : Int32) (s_2 : (Option Nat)) (s : CS) : Option (Int32 × CS) :=
  nn s_2 fun p1 =>
  tI_ s p1 100 s_1 s_0 fun s2 =>
  gR s2 x0 [16] 1601 fun r3 =>
  nn r3 fun p4 =>
  tI_ s2 p4 100 2 x3 fun s5 =>
  gR s5 x0 [16] 1601 fun r6 =>
  nn r6 fun p7 =>
  tI_ s5 p7 100 3 x4 fun s8 =>
  gR s8 x0 [16] 1600 fun r9 =>
  gR s8 x0 [16] 1601 fun r10 =>
  nn r9 fun p11 =>
  nn r10 fun p12 =>
  (V17_worked s8 600 p11 p12).bind fun v13 =>
  if v13 = 0 then
  (FX16_way_b68 x1 x2 1 s8)
  else (FX16_way_b68 x1 x2 0 s8)
def FX16_way_b16 (x0 : Nat) (x1 : Int32) (x2 : Int32) (x3 : Int32) (x4 : Int32) (s_0 : Int32) (s_1 : Int32) (s_2 : (Option Nat)) (s : CS) : Option (Int32 × CS) :=
  nn s_2 fun p1 =>
  tI_ s p1 100 s_1 s_0 fun s2 =>
  gR s2 x0 [16] 1601 fun r3 =>
  if 0 ≤ x2 then
  (FX16_way_b33 x0 x1 x2 x3 x4 x2 1 r3 s2)
  else (FX16_way_b33 x0 x1 x2 x3 x4 999 1 r3 s2)
def FX16_way (x0 : Nat) (x1 : Int32) (x2 : Int32) (x3 : Int32) (x4 : Int32) (s : CS) : Option (Int32 × CS) :=
  mz s (fun z => z.2) (
  gd (isK s x0 [16]) (
  gR s x0 [16] 1601 fun r1 =>
  if 0 ≤ x1 then
  (FX16_way_b16 x0 x1 x2 x3 x4 x1 0 r1 s)
  else (FX16_way_b16 x0 x1 x2 x3 x4 999 0 r1 s)))
/-! OverFirst$State.<init>()V -/
def FX8_init (x0 : Nat) (s : CS) : Option CS :=
  mz s (fun z => z) (
  nwA s 102 54 fun o1 s2 =>
  pR s2 x0 [8] 806 (some o1) fun s3 =>
  nwA s3 102 10 fun o4 s5 =>
  pR s5 x0 [8] 807 (some o4) fun s6 =>
  nwA s6 100 10 fun o7 s8 =>
  pR s8 x0 [8] 808 (some o7) fun s9 =>
  nwA s9 100 10 fun o10 s11 =>
  pR s11 x0 [8] 809 (some o10) fun s12 =>
  nwA s12 100 8 fun o13 s14 =>
  pR s14 x0 [8] 810 (some o13) fun s15 =>
  nwA s15 100 8 fun o16 s17 =>
  pR s17 x0 [8] 811 (some o16) fun s18 =>
  some s18)
/-! OverFirst$State.go(LOverFirst$State;)V -/
def FX8_go_b34_s (nf : Nat) (k34 : Nat → Nat → Int32 → CS → Option CS) (x0 : Nat) (x1 : Nat) (x2 : Int32) (s : CS) : Option CS :=
  if 54 ≤ x2 then
  (some s)
  else (gR s x0 [8] 806 fun r1 =>
  gR s x1 [8] 806 fun r2 =>
  nn r2 fun p3 =>
  lI s p3 102 x2 fun v4 =>
  nn r1 fun p5 =>
  gd (isb v4) (tI_ s p5 102 x2 v4 fun s6 =>
  k34 x0 x1 (x2 + 1) s6))
def FX8_go_b34 (nf : Nat) (n : Nat) : Nat → Nat → Int32 → CS → Option CS := lpN (fun _ _ _ _ => none) (FX8_go_b34_s nf) n
def FX8_go (nf : Nat) (x0 : Nat) (x1 : Nat) (s : CS) : Option CS :=
  mz s (fun z => z) (
  gd (isK s x0 [8]) (
  gI s x1 [8] 800 fun v1 =>
  pI s x0 [8] 800 v1 fun s2 =>
  gI s2 x1 [8] 801 fun v3 =>
  pI s2 x0 [8] 801 v3 fun s4 =>
  gI s4 x1 [8] 802 fun v5 =>
  pI s4 x0 [8] 802 v5 fun s6 =>
  gI s6 x1 [8] 803 fun v7 =>
  pI s6 x0 [8] 803 v7 fun s8 =>
  FX8_go_b34 nf nf x0 x1 0 s8))
/-! OverFirst$State.be(LOverFirst$State;)V -/
def FX8_be_b73_s (nf : Nat) (k73 : Nat → Nat → Int32 → CS → Option CS) (x0 : Nat) (x1 : Nat) (x2 : Int32) (s : CS) : Option CS :=
  if 8 ≤ x2 then
  (some s)
  else (gR s x0 [8] 810 fun r1 =>
  gR s x1 [8] 810 fun r2 =>
  nn r2 fun p3 =>
  lI s p3 100 x2 fun v4 =>
  nn r1 fun p5 =>
  tI_ s p5 100 x2 v4 fun s6 =>
  gR s6 x0 [8] 811 fun r7 =>
  gR s6 x1 [8] 811 fun r8 =>
  nn r8 fun p9 =>
  lI s6 p9 100 x2 fun v10 =>
  nn r7 fun p11 =>
  tI_ s6 p11 100 x2 v10 fun s12 =>
  k73 x0 x1 (x2 + 1) s12)
def FX8_be_b73 (nf : Nat) (n : Nat) : Nat → Nat → Int32 → CS → Option CS := lpN (fun _ _ _ _ => none) (FX8_be_b73_s nf) n
def FX8_be_b23_s (nf : Nat) (k23 : Nat → Nat → Int32 → CS → Option CS) (x0 : Nat) (x1 : Nat) (x2 : Int32) (s : CS) : Option CS :=
  if 10 ≤ x2 then
  (FX8_be_b73 nf nf x0 x1 0 s)
  else (gR s x0 [8] 807 fun r1 =>
  gR s x1 [8] 807 fun r2 =>
  nn r2 fun p3 =>
  lI s p3 102 x2 fun v4 =>
  nn r1 fun p5 =>
  gd (isb v4) (tI_ s p5 102 x2 v4 fun s6 =>
  gR s6 x0 [8] 808 fun r7 =>
  gR s6 x1 [8] 808 fun r8 =>
  nn r8 fun p9 =>
  lI s6 p9 100 x2 fun v10 =>
  nn r7 fun p11 =>
  tI_ s6 p11 100 x2 v10 fun s12 =>
  gR s12 x0 [8] 809 fun r13 =>
  gR s12 x1 [8] 809 fun r14 =>
  nn r14 fun p15 =>
  lI s12 p15 100 x2 fun v16 =>
  nn r13 fun p17 =>
  tI_ s12 p17 100 x2 v16 fun s18 =>
  k23 x0 x1 (x2 + 1) s18))
def FX8_be_b23 (nf : Nat) (n : Nat) : Nat → Nat → Int32 → CS → Option CS := lpN (fun _ _ _ _ => none) (FX8_be_b23_s nf) n
def FX8_be (nf : Nat) (x0 : Nat) (x1 : Nat) (s : CS) : Option CS :=
  mz s (fun z => z) (
  gd (isK s x0 [8]) (
  (FX8_go nf x0 x1 s).bind fun s1 =>
  gI s1 x1 [8] 804 fun v2 =>
  pI s1 x0 [8] 804 v2 fun s3 =>
  gI s3 x1 [8] 805 fun v4 =>
  pI s3 x0 [8] 805 v4 fun s5 =>
  FX8_be_b23 nf nf x0 x1 0 s5))
/-! OverFirst$State.begin()V -/
def FX8_begin_b32_s (nf : Nat) (k32 : Nat → Int32 → CS → Option CS) (x0 : Nat) (x1 : Int32) (s : CS) : Option CS :=
  if 54 ≤ x1 then
  (some s)
  else (gR s x0 [8] 806 fun r1 =>
  nn r1 fun p2 =>
  gd (isb 0) (tI_ s p2 102 x1 0 fun s3 =>
  k32 x0 (x1 + 1) s3))
def FX8_begin_b32 (nf : Nat) (n : Nat) : Nat → Int32 → CS → Option CS := lpN (fun _ _ _ => none) (FX8_begin_b32_s nf) n
def FX8_begin (nf : Nat) (x0 : Nat) (s : CS) : Option CS :=
  mz s (fun z => z) (
  gd (isK s x0 [8]) (
  pI s x0 [8] 800 0 fun s1 =>
  pI s1 x0 [8] 801 0 fun s2 =>
  pI s2 x0 [8] 802 0 fun s3 =>
  pI s3 x0 [8] 803 0 fun s4 =>
  pI s4 x0 [8] 804 0 fun s5 =>
  pI s5 x0 [8] 805 0 fun s6 =>
  FX8_begin_b32 nf nf x0 0 s6))
/-! OverFirst$Timed.isClock()Z -/
def FX12_isClock (s : CS) (x0 : Nat) : Option Int32 :=
  gd (isK s x0 [12, 13]) (
  some 1)
/-! OverFirst$Timed.kind()I -/
def FX12_kind (s : CS) (x0 : Nat) : Option Int32 :=
  gd (isK s x0 [12, 13]) (
  some 0)
/-! OverFirst$Timed.waits(II)I -/
def FX12_waits_b66 (s : CS) (x0 : Nat) (x1 : Int32) (x3 : Int32) (s_0 : Int32) (s_1 : Int32) : Option Int32 :=
  if s_1 = s_0 then
  (some 0)
  else (if x1 = 0 then
  (gI s x0 [12, 13] 1100 fun v2 =>
  some (v2 - x3))
  else (gI s x0 [12, 13] 1102 fun v1 =>
  some (v1 - x3)))
def FX12_waits_b44 (s : CS) (x0 : Nat) (x1 : Int32) (x3 : Int32) : Option Int32 :=
  gI s x0 [12, 13] 1102 fun v1 =>
  if v1 ≤ x3 then
  (if x1 = 0 then
  (FX12_waits_b66 s x0 x1 x3 1 0)
  else (FX12_waits_b66 s x0 x1 x3 0 0))
  else (if x1 = 0 then
  (FX12_waits_b66 s x0 x1 x3 1 1)
  else (FX12_waits_b66 s x0 x1 x3 0 1))
def FX12_waits_b16 (s : CS) (x0 : Nat) (x1 : Int32) (x2 : Int32) (s_0 : Int32) (s_1 : Int32) : Option Int32 :=
  if s_1 = s_0 then
  (some (-1))
  else (gI s x0 [12, 13] 1101 fun v1 =>
  gI s x0 [12, 13] 1100 fun v2 =>
  d32 v2 (
  nm (rem32 (x2 - v1) v2) fun v3 =>
  if 0 ≤ v3 then
  (FX12_waits_b44 s x0 x1 v3)
  else (gI s x0 [12, 13] 1100 fun v4 =>
  nm (v3 + v4) fun v5 =>
  FX12_waits_b44 s x0 x1 v5)))
def FX12_waits (s : CS) (x0 : Nat) (x1 : Int32) (x2 : Int32) : Option Int32 :=
  gd (isK s x0 [12, 13]) (
  gI s x0 [12, 13] 1102 fun v1 =>
  if x1 = 0 then
  (FX12_waits_b16 s x0 x1 x2 0 v1)
  else (gI s x0 [12, 13] 1100 fun v2 =>
  FX12_waits_b16 s x0 x1 x2 v2 v1))
/-! OverFirst$Town.isCorner(II)Z -/
def FX2_isCorner (s : CS) (x0 : Nat) (x1 : Int32) (x2 : Int32) : Option Int32 :=
  gd (isK s x0 [2]) (
  gI s x0 [2] 200 fun v1 =>
  (FX0_in s x1 0 (v1 - 1)).bind fun v2 =>
  if v2 = 0 then
  (some 0)
  else (gI s x0 [2] 201 fun v3 =>
  (FX0_in s x2 0 (v3 - 1)).bind fun v4 =>
  if v4 = 0 then
  (some 0)
  else (some 1)))
/-! OverFirst$Town.walk()I -/
def FX2_walk (s : CS) (x0 : Nat) : Option Int32 :=
  gd (isK s x0 [2]) (
  gI s x0 [2] 202 fun v1 =>
  if 0 ≤ v1 then
  (gI s x0 [2] 202 fun v2 =>
  some v2)
  else (some 10))
/-! OverFirst$Town.run()I -/
def FX2_run (s : CS) (x0 : Nat) : Option Int32 :=
  gd (isK s x0 [2]) (
  gI s x0 [2] 203 fun v1 =>
  if 0 ≤ v1 then
  (gI s x0 [2] 203 fun v2 =>
  some v2)
  else ((FX2_walk s x0).bind fun v3 =>
  some v3))
/-! OverFirst$Town.runs()I -/
def FX2_runs (s : CS) (x0 : Nat) : Option Int32 :=
  gd (isK s x0 [2]) (
  gI s x0 [2] 208 fun v1 =>
  if v1 = 0 then
  (gI s x0 [2] 205 fun v2 =>
  if 0 ≤ v2 then
  (gI s x0 [2] 205 fun v3 =>
  some v3)
  else (some 0))
  else (some 0))
/-! OverFirst$Town.slow()I -/
def FX2_slow (s : CS) (x0 : Nat) : Option Int32 :=
  gd (isK s x0 [2]) (
  gI s x0 [2] 204 fun v1 =>
  if 0 ≤ v1 then
  (gI s x0 [2] 204 fun v2 =>
  some v2)
  else ((FX2_walk s x0).bind fun v3 =>
  some v3))
/-! OverFirst.<init>()V -/
def FX0_init (st : Nat → Option Nat) (x0 : Nat) (s : CS) : Option CS :=
  mz s (fun z => z) (
  nwA s 103 1000 fun o1 s2 =>
  pR s2 x0 [0] 0 (some o1) fun s3 =>
  nwO s3 1 8 fun o4 s5 =>
  (FX1_init s5 o4).bind fun _ =>
  pR s5 x0 [0] 1 (some o4) fun s7 =>
  nwO s7 2 13 fun o8 s9 =>
  (FX2_init st o8 s9).bind fun s10 =>
  pR s10 x0 [0] 2 (some o8) fun s11 =>
  nwO s11 7 3 fun o12 s13 =>
  (FX7_init o12 s13).bind fun s14 =>
  pR s14 x0 [0] 3 (some o12) fun s15 =>
  nwO s15 8 12 fun o16 s17 =>
  (FX8_init o16 s17).bind fun s18 =>
  pR s18 x0 [0] 4 (some o16) fun s19 =>
  nwA s19 105 16 fun o20 s21 =>
  pR s21 x0 [0] 6 (some o20) fun s22 =>
  nwA s22 100 64800 fun o23 s24 =>
  pR s24 x0 [0] 8 (some o23) fun s25 =>
  pI s25 x0 [0] 11 (-1) fun s26 =>
  nwA s26 100 1404 fun o27 s28 =>
  pR s28 x0 [0] 13 (some o27) fun s29 =>
  nwA s29 100 63234 fun o30 s31 =>
  pR s31 x0 [0] 14 (some o30) fun s32 =>
  nwA s32 100 163940 fun o33 s34 =>
  pR s34 x0 [0] 15 (some o33) fun s35 =>
  nwA s35 101 240 fun o36 s37 =>
  pR s37 x0 [0] 16 (some o36) fun s38 =>
  nwA s38 101 240 fun o39 s40 =>
  pR s40 x0 [0] 17 (some o39) fun s41 =>
  nwA s41 100 4 fun o42 s43 =>
  pR s43 x0 [0] 18 (some o42) fun s44 =>
  nwA s44 100 4 fun o45 s46 =>
  pR s46 x0 [0] 19 (some o45) fun s47 =>
  nwA s47 100 54 fun o48 s49 =>
  pR s49 x0 [0] 26 (some o48) fun s50 =>
  nwA s50 105 4 fun o51 s52 =>
  pR s52 x0 [0] 27 (some o51) fun s53 =>
  some s53)
/-! OverFirst.better(II)I -/
def FX0_better (s : CS) (x0 : Nat) (x1 : Int32) (x2 : Int32) : Option Int32 :=
  gd (isK s x0 [0]) (
  if x1 < 0 then
  (some 1)
  else (if x2 < 0 then
  (some 0)
  else (if x1 ≤ x2 then
  (some 0)
  else (some 1))))
/-! OverFirst.scale()I -/
def FX0_scale (s : CS) (x0 : Nat) : Option Int32 :=
  gd (isK s x0 [0]) (
  gI s x0 [0] 10 fun v1 =>
  if v1 = 0 then
  (some 1000)
  else (some 1))
/-! OverFirst.takesAt(III)I -/
def FX0_takesAt (s : CS) (x0 : Nat) (x1 : Int32) (x2 : Int32) (x3 : Int32) : Option Int32 :=
  gd (isK s x0 [0]) (
  gR s x0 [0] 8 fun r1 =>
  gR s x0 [0] 2 fun r2 =>
  nn r2 fun p3 =>
  gI s p3 [2] 206 fun v4 =>
  d32 v4 (
  nn r1 fun p5 =>
  lI s p5 100 ((((x2 * 6) + x1) * 1200) + (rem32 x3 v4)) fun v6 =>
  some v6))
/-! OverFirst.by(IIIII)I -/
def FX0_by_b42 (s : CS) (x0 : Nat) (x4 : Int32) (x6 : Int32) (s_0 : Int32) (s_1 : Int32) (s_2 : Nat) : Option Int32 :=
  (FX0_takesAt s s_2 s_1 s_0 (x4 + x6)).bind fun v1 =>
  if 0 ≤ v1 then
  ((FX0_scale s x0).bind fun v2 =>
  some ((x6 * v2) + v1))
  else (some (-1))
def FX0_by_b31 (s : CS) (x0 : Nat) (x2 : Int32) (x3 : Int32) (x4 : Int32) (x6 : Int32) (s_0 : Int32) (s_1 : Nat) : Option Int32 :=
  if x3 = 0 then
  (FX0_by_b42 s x0 x4 x6 x2 s_0 s_1)
  else (FX0_by_b42 s x0 x4 x6 (x2 + 1) s_0 s_1)
def FX0_by (s : CS) (x0 : Nat) (x1 : Int32) (x2 : Int32) (x3 : Int32) (x4 : Int32) (x5 : Int32) : Option Int32 :=
  gd (isK s x0 [0]) (
  if 0 ≤ x5 then
  (gR s x0 [0] 2 fun r1 =>
  nn r1 fun p2 =>
  (FX2_walk s p2).bind fun v3 =>
  nm (x5 + v3) fun v4 =>
  if x3 = 0 then
  (FX0_by_b31 s x0 x2 x3 x4 v4 (x1 + 1) x0)
  else (FX0_by_b31 s x0 x2 x3 x4 v4 x1 x0))
  else (some (-1)))
/-! OverFirst.isSecond(I)Z -/
def FX0_isSecond (s : CS) (x0 : Int32) : Option Int32 :=
  (FX0_in s x0 0 1000000).bind fun v1 =>
  gd (isb v1) (some v1)
/-! OverFirst.isAsked(III)Z -/
def FX0_isAsked (s : CS) (x0 : Nat) (x1 : Int32) (x2 : Int32) (x3 : Int32) : Option Int32 :=
  gd (isK s x0 [0]) (
  gR s x0 [0] 2 fun r1 =>
  nn r1 fun p2 =>
  (FX2_isCorner s p2 x1 x2).bind fun v3 =>
  if v3 = 0 then
  (some 0)
  else ((FX0_isSecond s x3).bind fun v4 =>
  if v4 = 0 then
  (some 0)
  else (some 1)))
/-! OverFirst.isHome(II)Z -/
def FX0_isHome (s : CS) (x0 : Nat) (x1 : Int32) (x2 : Int32) : Option Int32 :=
  gd (isK s x0 [0]) (
  gR s x0 [0] 2 fun r1 =>
  nn r1 fun p2 =>
  gI s p2 [2] 200 fun v3 =>
  if x1 = (v3 - 1) then
  (gR s x0 [0] 2 fun r4 =>
  nn r4 fun p5 =>
  gI s p5 [2] 201 fun v6 =>
  if x2 = (v6 - 1) then
  (some 1)
  else (some 0))
  else (some 0))
/-! ('OverFirst$Light', 'isHidden', '()Z') by the receiver's class -/
def V11_isHidden (s : CS) (o : Nat) : Option Int32 :=
  if isK s o [12, 14, 15] = true then FX11_isHidden s o else
  if isK s o [13] = true then FX13_isHidden s o else
  none
/-! OverFirst.isUnknown(I)Z -/
def FX0_isUnknown (s : CS) (x0 : Nat) (x1 : Int32) : Option Int32 :=
  gd (isK s x0 [0]) (
  gR s x0 [0] 2 fun r1 =>
  nn r1 fun p2 =>
  gR s p2 [2] 209 fun r3 =>
  nn r3 fun p4 =>
  lR s p4 104 x1 fun r5 =>
  nul r5 (some 0) fun p6 =>
  gR s x0 [0] 2 fun r7 =>
  nn r7 fun p8 =>
  gR s p8 [2] 209 fun r9 =>
  nn r9 fun p10 =>
  lR s p10 104 x1 fun r11 =>
  nn r11 fun p12 =>
  (V11_isHidden s p12).bind fun v13 =>
  if v13 = 0 then
  (some 0)
  else (gR s x0 [0] 4 fun r14 =>
  nn r14 fun p15 =>
  gR s p15 [8] 806 fun r16 =>
  nn r16 fun p17 =>
  lI s p17 102 x1 fun v18 =>
  if v18 = 0 then
  (some 1)
  else (some 0)))
/-! OverFirst.lightAt(II)LOverFirst$Light; -/
def FX0_lightAt (s : CS) (x0 : Nat) (x1 : Int32) (x2 : Int32) : Option (Option Nat) :=
  gd (isK s x0 [0]) (
  gR s x0 [0] 2 fun r1 =>
  nn r1 fun p2 =>
  gR s p2 [2] 209 fun r3 =>
  nn r3 fun p4 =>
  lR s p4 104 ((x2 * 6) + x1) fun r5 =>
  some r5)
/-! ('OverFirst$Light', 'waits', '(II)I') by the receiver's class -/
def V11_waits (s : CS) (o : Nat) (a0 : Int32) (a1 : Int32) : Option Int32 :=
  if isK s o [12, 13] = true then FX12_waits s o a0 a1 else
  if isK s o [14] = true then FX14_waits s o a0 a1 else
  if isK s o [15] = true then FX15_waits s o a0 a1 else
  none
/-! OverFirst.waits(IIII)I -/
def FX0_waits (s : CS) (x0 : Nat) (x1 : Int32) (x2 : Int32) (x3 : Int32) (x4 : Int32) : Option Int32 :=
  gd (isK s x0 [0]) (
  gR s x0 [0] 2 fun r1 =>
  nn r1 fun p2 =>
  (FX2_leads s p2 x1 x2 x3).bind fun v3 =>
  if v3 = 0 then
  (some (-1))
  else ((FX0_lightAt s x0 x1 x2).bind fun r4 =>
  nul r4 (some 0) fun p5 =>
  (V11_waits s p5 x3 x4).bind fun v6 =>
  some v6))
/-! ('OverFirst$Goer', 'isBest', '()Z') by the receiver's class -/
def V3_isBest (s : CS) (o : Nat) : Option Int32 :=
  if isK s o [4, 5, 16] = true then FX3_isBest s o else
  if isK s o [6] = true then FX6_isBest s o else
  none
/-! ('OverFirst$Goer', 'way', '(IIII)I') by the receiver's class -/
def V3_way (o : Nat) (a0 : Int32) (a1 : Int32) (a2 : Int32) (a3 : Int32) (s : CS) : Option (Int32 × CS) :=
  if isK s o [4] = true then (FX4_way s o a0 a1 a2 a3).bind fun v => some (v, s) else
  if isK s o [5] = true then (FX5_way s o a0 a1 a2 a3).bind fun v => some (v, s) else
  if isK s o [6] = true then (FX6_way s o a0 a1 a2 a3).bind fun v => some (v, s) else
  if isK s o [16] = true then FX16_way o a0 a1 a2 a3 s else
  none
/-! OverFirst.wayOf(LOverFirst$Goer;IIIII)I -/
def FX0_wayOf_b12 (x0 : Nat) (x1 : Nat) (x2 : Int32) (x3 : Int32) (x4 : Int32) (x5 : Int32) (x6 : Int32) (s : CS) : Option (Int32 × CS) :=
  (V3_isBest s x1).bind fun v1 =>
  if v1 = 0 then
  (gR s x0 [0] 2 fun r2 =>
  nn r2 fun p3 =>
  gI s p3 [2] 200 fun v4 =>
  gR s x0 [0] 2 fun r5 =>
  nn r5 fun p6 =>
  gI s p6 [2] 201 fun v7 =>
  bd2 (V3_way x1 x5 x6 ((v4 - 1) - x2) ((v7 - 1) - x3) s) fun v9 s8 =>
  some (v9, s8))
  else ((FX0_by s x0 x2 x3 0 x4 x5).bind fun v10 =>
  (FX0_by s x0 x2 x3 1 x4 x6).bind fun v11 =>
  (FX0_better s x0 v10 v11).bind fun v12 =>
  some (v12, s))
def FX0_wayOf (x0 : Nat) (x1 : Nat) (x2 : Int32) (x3 : Int32) (x4 : Int32) (x5 : Int32) (x6 : Int32) (s : CS) : Option (Int32 × CS) :=
  mz s (fun z => z.2) (
  gd (isK s x0 [0]) (
  if 0 ≤ x5 then
  (FX0_wayOf_b12 x0 x1 x2 x3 x4 x5 x6 s)
  else (if 0 ≤ x6 then
  (FX0_wayOf_b12 x0 x1 x2 x3 x4 x5 x6 s)
  else (some ((-1), s)))))
/-! OverFirst.takesBy(LOverFirst$Goer;IIII)I -/
def FX0_takesBy (x0 : Nat) (x1 : Nat) (x2 : Int32) (x3 : Int32) (x4 : Int32) (x5 : Int32) (s : CS) : Option (Int32 × CS) :=
  mz s (fun z => z.2) (
  gd (isK s x0 [0]) (
  (FX0_waits s x0 x2 x3 0 x5).bind fun v1 =>
  (FX0_waits s x0 x2 x3 1 x5).bind fun v2 =>
  bd2 (FX0_wayOf x0 x1 x2 x3 x4 v1 v2 s) fun v4 s3 =>
  if 0 ≤ v4 then
  (if v4 = 0 then
  ((FX0_by s3 x0 x2 x3 v4 x4 v1).bind fun v6 =>
  some (v6, s3))
  else ((FX0_by s3 x0 x2 x3 v4 x4 v2).bind fun v5 =>
  some (v5, s3)))
  else (some ((-1), s3))))
/-! OverFirst.takesHidden(LOverFirst$Goer;III)I -/
def FX0_takesHidden_b20_s (nf : Nat) (k20 : Nat → Nat → Int32 → Int32 → Int32 → Int32 → Int64 → Int32 → Int32 → CS → Option (Int32 × CS)) (x0 : Nat) (x1 : Nat) (x2 : Int32) (x3 : Int32) (x4 : Int32) (x5 : Int32) (x6 : Int64) (x8 : Int32) (x9 : Int32) (s : CS) : Option (Int32 × CS) :=
  if x5 ≤ x9 then
  (gI s x0 [0] 10 fun v1 =>
  if v1 = 0 then
  (d64 x5.toInt64 (
  some ((x6 / x5.toInt64).toInt32, s)))
  else (some (x8, s)))
  else (bd2 (FX0_takesBy x0 x1 x2 x3 x4 x9 s) fun v3 s2 =>
  if 0 ≤ v3 then
  (nm (x6 + v3.toInt64) fun v4 =>
  nm (mx32 x8 v3) fun v5 =>
  k20 x0 x1 x2 x3 x4 x5 v4 v5 (x9 + 1) s2)
  else (some ((-1), s2)))
def FX0_takesHidden_b20 (nf : Nat) (n : Nat) : Nat → Nat → Int32 → Int32 → Int32 → Int32 → Int64 → Int32 → Int32 → CS → Option (Int32 × CS) := lpN (fun _ _ _ _ _ _ _ _ _ _ => none) (FX0_takesHidden_b20_s nf) n
def FX0_takesHidden (nf : Nat) (x0 : Nat) (x1 : Nat) (x2 : Int32) (x3 : Int32) (x4 : Int32) (s : CS) : Option (Int32 × CS) :=
  mz s (fun z => z.2) (
  gd (isK s x0 [0]) (
  (FX0_lightAt s x0 x2 x3).bind fun r1 =>
  nn r1 fun p2 =>
  gI s p2 [12, 13, 14, 15] 1100 fun v3 =>
  FX0_takesHidden_b20 nf nf x0 x1 x2 x3 x4 v3 0 0 0 s))
/-! OverFirst.tables(LOverFirst$Goer;II)V -/
def FX0_tables_2_b129 (nf : Nat) (k3 : Nat → Nat → Int32 → Int32 → CS → Option CS) (k11 : Nat → Nat → Int32 → Int32 → Int32 → CS → Option CS) (k29 : Nat → Nat → Int32 → Int32 → Int32 → Int32 → Int32 → CS → Option CS) (x0 : Nat) (x1 : Nat) (x2 : Int32) (x4 : Int32) (x5 : Int32) (x6 : Int32) (x7 : Int32) (s_0 : Int32) (s : CS) : Option CS :=
  gR s x0 [0] 8 fun r1 =>
  nn r1 fun p2 =>
  tI_ s p2 100 ((x6 * 1200) + x7) s_0 fun s3 =>
  k29 x0 x1 x2 x4 x5 x6 (x7 + 1) s3
def FX0_tables_2_b116 (nf : Nat) (k3 : Nat → Nat → Int32 → Int32 → CS → Option CS) (k11 : Nat → Nat → Int32 → Int32 → Int32 → CS → Option CS) (k29 : Nat → Nat → Int32 → Int32 → Int32 → Int32 → Int32 → CS → Option CS) (x0 : Nat) (x1 : Nat) (x2 : Int32) (x4 : Int32) (x5 : Int32) (x6 : Int32) (x7 : Int32) (s : CS) : Option CS :=
  bd2 (FX0_takesBy x0 x1 x5 x4 x7 x7 s) fun v2 s1 =>
  FX0_tables_2_b129 nf k3 k11 k29 x0 x1 x2 x4 x5 x6 x7 v2 s1
def FX0_tables_2_b29_s (nf : Nat) (k3 : Nat → Nat → Int32 → Int32 → CS → Option CS) (k11 : Nat → Nat → Int32 → Int32 → Int32 → CS → Option CS) (k29 : Nat → Nat → Int32 → Int32 → Int32 → Int32 → Int32 → CS → Option CS) (x0 : Nat) (x1 : Nat) (x2 : Int32) (x4 : Int32) (x5 : Int32) (x6 : Int32) (x7 : Int32) (s : CS) : Option CS :=
  gR s x0 [0] 2 fun r1 =>
  nn r1 fun p2 =>
  gI s p2 [2] 206 fun v3 =>
  if v3 ≤ x7 then
  (k11 x0 x1 x2 x4 (x5 + (-1)) s)
  else ((FX0_isHome s x0 x5 x4).bind fun v4 =>
  if v4 = 0 then
  (gI s x0 [0] 11 fun v5 =>
  if x6 = v5 then
  (gI s x0 [0] 12 fun v10 =>
  bd2 (FX0_takesBy x0 x1 x5 x4 x7 (x7 + v10) s) fun v12 s11 =>
  FX0_tables_2_b129 nf k3 k11 k29 x0 x1 x2 x4 x5 x6 x7 v12 s11)
  else (gI s x0 [0] 9 fun v6 =>
  if v6 = 0 then
  ((FX0_isUnknown s x0 x6).bind fun v7 =>
  if v7 = 0 then
  (FX0_tables_2_b116 nf k3 k11 k29 x0 x1 x2 x4 x5 x6 x7 s)
  else (bd2 (FX0_takesHidden nf x0 x1 x5 x4 x7 s) fun v9 s8 =>
  FX0_tables_2_b129 nf k3 k11 k29 x0 x1 x2 x4 x5 x6 x7 v9 s8))
  else (FX0_tables_2_b116 nf k3 k11 k29 x0 x1 x2 x4 x5 x6 x7 s)))
  else (FX0_tables_2_b129 nf k3 k11 k29 x0 x1 x2 x4 x5 x6 x7 0 s))
def FX0_tables_2_b29 (nf : Nat) (k3 : Nat → Nat → Int32 → Int32 → CS → Option CS) (k11 : Nat → Nat → Int32 → Int32 → Int32 → CS → Option CS) (n : Nat) : Nat → Nat → Int32 → Int32 → Int32 → Int32 → Int32 → CS → Option CS := lpN (fun _ _ _ _ _ _ _ _ => none) (FX0_tables_2_b29_s nf k3 k11) n
def FX0_tables_2_b11_s (nf : Nat) (k3 : Nat → Nat → Int32 → Int32 → CS → Option CS) (k11 : Nat → Nat → Int32 → Int32 → Int32 → CS → Option CS) (x0 : Nat) (x1 : Nat) (x2 : Int32) (x4 : Int32) (x5 : Int32) (s : CS) : Option CS :=
  if x5 < 0 then
  (k3 x0 x1 x2 (x4 + (-1)) s)
  else (nm ((x4 * 6) + x5) fun v1 =>
  FX0_tables_2_b29 nf k3 k11 nf x0 x1 x2 x4 x5 v1 0 s)
def FX0_tables_2_b11 (nf : Nat) (k3 : Nat → Nat → Int32 → Int32 → CS → Option CS) (n : Nat) : Nat → Nat → Int32 → Int32 → Int32 → CS → Option CS := lpN (fun _ _ _ _ _ _ => none) (FX0_tables_2_b11_s nf k3) n
def FX0_tables_2_b3_s (nf : Nat) (k3 : Nat → Nat → Int32 → Int32 → CS → Option CS) (x0 : Nat) (x1 : Nat) (x2 : Int32) (x4 : Int32) (s : CS) : Option CS :=
  if x4 < 0 then
  (some s)
  else (FX0_tables_2_b11 nf k3 nf x0 x1 x2 x4 x2 s)
def FX0_tables_2_b3 (nf : Nat) (n : Nat) : Nat → Nat → Int32 → Int32 → CS → Option CS := lpN (fun _ _ _ _ _ => none) (FX0_tables_2_b3_s nf) n
def FX0_tables_2 (nf : Nat) (x0 : Nat) (x1 : Nat) (x2 : Int32) (x3 : Int32) (s : CS) : Option CS :=
  mz s (fun z => z) (
  gd (isK s x0 [0]) (
  FX0_tables_2_b3 nf nf x0 x1 x2 x3 s))
/-! OverFirst.tables(IZZ)V -/
def FX0_tables (nf : Nat) (x0 : Nat) (x1 : Int32) (x2 : Int32) (x3 : Int32) (s : CS) : Option CS :=
  mz s (fun z => z) (
  gd (isK s x0 [0]) (
  gd (isb x2) (pI s x0 [0] 9 x2 fun s1 =>
  gd (isb x3) (pI s1 x0 [0] 10 x3 fun s2 =>
  pI s2 x0 [0] 11 (-1) fun s3 =>
  gR s3 x0 [0] 2 fun r4 =>
  nn r4 fun p5 =>
  gR s3 p5 [2] 212 fun r6 =>
  nn r6 fun p7 =>
  (FJ2_get s3 p7 x1).bind fun r8 =>
  nn r8 fun p9 =>
  gd (isK s3 p9 [4, 5, 6, 16]) (
  gR s3 x0 [0] 2 fun r10 =>
  nn r10 fun p11 =>
  gI s3 p11 [2] 200 fun v12 =>
  gR s3 x0 [0] 2 fun r13 =>
  nn r13 fun p14 =>
  gI s3 p14 [2] 201 fun v15 =>
  (FX0_tables_2 nf x0 p9 (v12 - 1) (v15 - 1) s3).bind fun s16 =>
  some s16)))))
/-! OverFirst.choice(IIII)I -/
def FX0_choice_b136 (nf : Nat) (x0 : Nat) (x7 : Int32) (x8 : Int32) (s : CS) : Option (Int32 × CS) :=
  (FX0_better s x0 x7 x8).bind fun v1 =>
  some (v1, s)
def FX0_choice_b82 (nf : Nat) (x0 : Nat) (x1 : Int32) (x2 : Int32) (x3 : Int32) (s_0 : Int32) (s : CS) : Option (Int32 × CS) :=
  (FX0_waits s x0 x1 x2 0 s_0).bind fun v1 =>
  (FX0_by s x0 x1 x2 0 x3 v1).bind fun v2 =>
  (FX0_waits s x0 x1 x2 1 s_0).bind fun v3 =>
  (FX0_by s x0 x1 x2 1 x3 v3).bind fun v4 =>
  if 0 ≤ v2 then
  (FX0_choice_b136 nf x0 v2 v4 s)
  else (if 0 ≤ v4 then
  (FX0_choice_b136 nf x0 v2 v4 s)
  else (some ((-1), s)))
def FX0_choice_b60 (nf : Nat) (x0 : Nat) (x1 : Int32) (x2 : Int32) (x3 : Int32) (x4 : Int32) (x5 : Int32) (s : CS) : Option (Int32 × CS) :=
  (FX0_tables nf x0 3 0 0 s).bind fun s1 =>
  (FX0_isUnknown s1 x0 x5).bind fun v2 =>
  if v2 = 0 then
  (FX0_choice_b82 nf x0 x1 x2 x3 x3 s1)
  else (FX0_choice_b82 nf x0 x1 x2 x3 x4 s1)
def FX0_choice (nf : Nat) (x0 : Nat) (x1 : Int32) (x2 : Int32) (x3 : Int32) (x4 : Int32) (s : CS) : Option (Int32 × CS) :=
  mz s (fun z => z.2) (
  gd (isK s x0 [0]) (
  (FX0_isAsked s x0 x1 x2 x3).bind fun v1 =>
  if v1 = 0 then
  (some ((-1), s))
  else ((FX0_isHome s x0 x1 x2).bind fun v2 =>
  if v2 = 0 then
  (nm ((x2 * 6) + x1) fun v3 =>
  (FX0_isUnknown s x0 v3).bind fun v4 =>
  if v4 = 0 then
  (FX0_choice_b60 nf x0 x1 x2 x3 x4 v3 s)
  else ((FX0_lightAt s x0 x1 x2).bind fun r5 =>
  nn r5 fun p6 =>
  gI s p6 [12, 13, 14, 15] 1100 fun v7 =>
  (FX0_in s x4 0 (v7 - 1)).bind fun v8 =>
  if v8 = 0 then
  (some ((-1), s))
  else (FX0_choice_b60 nf x0 x1 x2 x3 x4 v3 s)))
  else (some ((-1), s)))))
/-! OverFirst.comesAt(IIII)I -/
def FX0_comesAt (s : CS) (x0 : Nat) (x1 : Int32) (x2 : Int32) (x3 : Int32) (x4 : Int32) : Option Int32 :=
  gd (isK s x0 [0]) (
  some ((((((x2 * 6) + x1) * 2) + x3) * 13) + x4))
/-! OverFirst.lights()I -/
def FX0_lights_b4_s (nf : Nat) (s : CS) (k4 : Nat → Int32 → Int32 → Option Int32) (x0 : Nat) (x1 : Int32) (x2 : Int32) : Option Int32 :=
  if 54 ≤ x2 then
  (some x1)
  else (gR s x0 [0] 2 fun r1 =>
  nn r1 fun p2 =>
  gR s p2 [2] 209 fun r3 =>
  nn r3 fun p4 =>
  lR s p4 104 x2 fun r5 =>
  nul r5 (k4 x0 x1 (x2 + 1)) fun p6 =>
  k4 x0 (x1 + 1) (x2 + 1))
def FX0_lights_b4 (nf : Nat) (s : CS) (n : Nat) : Nat → Int32 → Int32 → Option Int32 := lpN (fun _ _ _ => none) (FX0_lights_b4_s nf s) n
def FX0_lights (nf : Nat) (s : CS) (x0 : Nat) : Option Int32 :=
  gd (isK s x0 [0]) (
  FX0_lights_b4 nf s nf x0 0 0)
/-! OverFirst.unknown()I -/
def FX0_unknown_b4_s (nf : Nat) (s : CS) (k4 : Nat → Int32 → Int32 → Option Int32) (x0 : Nat) (x1 : Int32) (x2 : Int32) : Option Int32 :=
  if 54 ≤ x2 then
  (some x1)
  else ((FX0_isUnknown s x0 x2).bind fun v1 =>
  if v1 = 0 then
  (k4 x0 x1 (x2 + 1))
  else (k4 x0 (x1 + 1) (x2 + 1)))
def FX0_unknown_b4 (nf : Nat) (s : CS) (n : Nat) : Nat → Int32 → Int32 → Option Int32 := lpN (fun _ _ _ => none) (FX0_unknown_b4_s nf s) n
def FX0_unknown (nf : Nat) (s : CS) (x0 : Nat) : Option Int32 :=
  gd (isK s x0 [0]) (
  FX0_unknown_b4 nf s nf x0 0 0)
/-! OverFirst.count(I)I -/
def FX0_count (nf : Nat) (s : CS) (x0 : Nat) (x1 : Int32) : Option Int32 :=
  gd (isK s x0 [0]) (
  if x1 = 0 then
  (gR s x0 [0] 2 fun r1 =>
  nn r1 fun p2 =>
  gI s p2 [2] 200 fun v3 =>
  some v3)
  else (if x1 = 1 then
  (gR s x0 [0] 2 fun r4 =>
  nn r4 fun p5 =>
  gI s p5 [2] 201 fun v6 =>
  some v6)
  else (if x1 = 2 then
  ((FX0_lights nf s x0).bind fun v7 =>
  some v7)
  else (if x1 = 3 then
  (gR s x0 [0] 2 fun r8 =>
  nn r8 fun p9 =>
  gR s p9 [2] 211 fun r10 =>
  nn r10 fun p11 =>
  (FJ2_size s p11).bind fun v12 =>
  some v12)
  else (if x1 = 4 then
  (gR s x0 [0] 3 fun r13 =>
  nn r13 fun p14 =>
  gI s p14 [7] 702 fun v15 =>
  some v15)
  else (if x1 = 5 then
  (gR s x0 [0] 4 fun r16 =>
  nn r16 fun p17 =>
  gI s p17 [8] 800 fun v18 =>
  some v18)
  else (if x1 = 6 then
  (gR s x0 [0] 4 fun r19 =>
  nn r19 fun p20 =>
  gI s p20 [8] 801 fun v21 =>
  some v21)
  else (if x1 = 7 then
  (gR s x0 [0] 4 fun r22 =>
  nn r22 fun p23 =>
  gI s p23 [8] 802 fun v24 =>
  some v24)
  else (if x1 = 8 then
  (gR s x0 [0] 2 fun r25 =>
  nn r25 fun p26 =>
  (FX2_runs s p26).bind fun v27 =>
  gR s x0 [0] 4 fun r28 =>
  nn r28 fun p29 =>
  gI s p29 [8] 803 fun v30 =>
  some (v27 - v30))
  else (if x1 = 9 then
  ((FX0_unknown nf s x0).bind fun v31 =>
  some v31)
  else (if x1 = 10 then
  (gR s x0 [0] 4 fun r32 =>
  nn r32 fun p33 =>
  gI s p33 [8] 804 fun v34 =>
  some v34)
  else (if x1 = 11 then
  (gR s x0 [0] 4 fun r35 =>
  nn r35 fun p36 =>
  gI s p36 [8] 805 fun v37 =>
  some v37)
  else (if x1 = 12 then
  (gR s x0 [0] 2 fun r38 =>
  nn r38 fun p39 =>
  gI s p39 [2] 206 fun v40 =>
  some v40)
  else (if x1 = 13 then
  (gI s x0 [0] 7 fun v41 =>
  some v41)
  else (if x1 = 14 then
  (gI s x0 [0] 5 fun v42 =>
  some v42)
  else (some (-1)))))))))))))))))
/-! OverFirst.gcd(JJ)J -/
def FX0_gcd_2_s (rc : Int64 → Int64 → Option Int64) (s : CS) (x0 : Int64) (x2 : Int64) : Option Int64 :=
  if x2 = 0 then
  (some x0)
  else (d64 x2 (
  (rc x2 (rem64 x0 x2)).bind fun v1 =>
  some v1))
def FX0_gcd_2 (s : CS) (dp : Nat) : Int64 → Int64 → Option Int64 := lpN (fun _ _ => none) (fun rc => FX0_gcd_2_s rc s) dp
/-! ('OverFirst$Light', 'isButton', '()Z') by the receiver's class -/
def V11_isButton (s : CS) (o : Nat) : Option Int32 :=
  if isK s o [12, 13, 15] = true then FX11_isButton s o else
  if isK s o [14] = true then FX14_isButton s o else
  none
/-! OverFirst.isButton(II)Z -/
def FX0_isButton (s : CS) (x0 : Nat) (x1 : Int32) (x2 : Int32) : Option Int32 :=
  gd (isK s x0 [0]) (
  gR s x0 [0] 2 fun r1 =>
  nn r1 fun p2 =>
  (FX2_isCorner s p2 x1 x2).bind fun v3 =>
  if v3 = 0 then
  (some 0)
  else ((FX0_lightAt s x0 x1 x2).bind fun r4 =>
  nul r4 (some 0) fun p5 =>
  (FX0_lightAt s x0 x1 x2).bind fun r6 =>
  nn r6 fun p7 =>
  (V11_isButton s p7).bind fun v8 =>
  if v8 = 0 then
  (some 0)
  else (some 1)))
/-! OverFirst.does(III)J -/
def FX0_does_b191 (nf : Nat) (s : CS) (x5 : Int64) (x9 : Int64) (s_0 : Int64) : Option Int64 :=
  (FX0_gcd_2 s 100 x9 x5).bind fun v1 =>
  d64 v1 (
  some (s_0 / v1))
def FX0_does_b116 (nf : Nat) (s : CS) (k39 : Nat → Int32 → Int32 → Int32 → (Option Nat) → Int64 → Int64 → Int32 → Option Int64) (x0 : Nat) (x1 : Int32) (x2 : Int32) (x3 : Int32) (x4 : Nat) (x7 : Int64) (x9 : Int32) (s_0 : Int64) (s_1 : Int64) : Option Int64 :=
  nm (s_1 * s_0) fun v1 =>
  gR s x0 [0] 4 fun r2 =>
  nn r2 fun p3 =>
  gR s p3 [8] 809 fun r4 =>
  nn r4 fun p5 =>
  lI s p5 100 x9 fun v6 =>
  gI s x4 [12, 13, 14, 15] 1100 fun v7 =>
  if v6 < v7 then
  (gI s x4 [12, 13, 14, 15] 1101 fun v8 =>
  nm (x7 * ((v8 + 1).toInt64)) fun v9 =>
  k39 x0 x1 x2 x3 (some x4) v1 v9 (x9 + 1))
  else (nm (x7 * 0) fun v10 =>
  k39 x0 x1 x2 x3 (some x4) v1 v10 (x9 + 1))
def FX0_does_b39_s (nf : Nat) (s : CS) (k39 : Nat → Int32 → Int32 → Int32 → (Option Nat) → Int64 → Int64 → Int32 → Option Int64) (x0 : Nat) (x1 : Int32) (x2 : Int32) (x3 : Int32) (x4 : (Option Nat)) (x5 : Int64) (x7 : Int64) (x9 : Int32) : Option Int64 :=
  gR s x0 [0] 4 fun r1 =>
  nn r1 fun p2 =>
  gI s p2 [8] 804 fun v3 =>
  if v3 ≤ x9 then
  (nm (x5 + x7) fun v4 =>
  if v4 = 0 then
  (some (-1))
  else (if x3 = 0 then
  (FX0_does_b191 nf s x5 v4 x5)
  else (FX0_does_b191 nf s x5 v4 v4)))
  else (gR s x0 [0] 4 fun r5 =>
  nn r5 fun p6 =>
  gR s p6 [8] 808 fun r7 =>
  nn r7 fun p8 =>
  lI s p8 100 x9 fun v9 =>
  if v9 = ((x2 * 6) + x1) then
  (gR s x0 [0] 4 fun r10 =>
  nn r10 fun p11 =>
  gR s p11 [8] 807 fun r12 =>
  nn r12 fun p13 =>
  lI s p13 102 x9 fun v14 =>
  if v14 = 0 then
  (k39 x0 x1 x2 x3 x4 x5 x7 (x9 + 1))
  else (gR s x0 [0] 4 fun r15 =>
  nn r15 fun p16 =>
  gR s p16 [8] 809 fun r17 =>
  nn r17 fun p18 =>
  lI s p18 100 x9 fun v19 =>
  nn x4 fun p20 =>
  gI s p20 [12, 13, 14, 15] 1101 fun v21 =>
  if v19 ≤ v21 then
  (gI s p20 [12, 13, 14, 15] 1100 fun v22 =>
  FX0_does_b116 nf s k39 x0 x1 x2 x3 p20 x7 x9 v22.toInt64 x5)
  else (FX0_does_b116 nf s k39 x0 x1 x2 x3 p20 x7 x9 0 x5)))
  else (k39 x0 x1 x2 x3 x4 x5 x7 (x9 + 1)))
def FX0_does_b39 (nf : Nat) (s : CS) (n : Nat) : Nat → Int32 → Int32 → Int32 → (Option Nat) → Int64 → Int64 → Int32 → Option Int64 := lpN (fun _ _ _ _ _ _ _ _ => none) (FX0_does_b39_s nf s) n
def FX0_does (nf : Nat) (s : CS) (x0 : Nat) (x1 : Int32) (x2 : Int32) (x3 : Int32) : Option Int64 :=
  gd (isK s x0 [0]) (
  (FX0_isButton s x0 x1 x2).bind fun v1 =>
  if v1 = 0 then
  (some (-1))
  else ((FX0_in s x3 0 1).bind fun v2 =>
  if v2 = 0 then
  (some (-1))
  else ((FX0_lightAt s x0 x1 x2).bind fun r3 =>
  FX0_does_b39 nf s nf x0 x1 x2 x3 r3 1 1 0)))
/-! OverFirst.draws(I)I -/
def FX0_draws (x0 : Nat) (x1 : Int32) (s : CS) : Option (Int32 × CS) :=
  mz s (fun z => z.2) (
  gd (isK s x0 [0]) (
  gJ s x0 [0] 25 fun v1 =>
  pJ s x0 [0] 25 (rem64 ((v1 * 1103515245) + 12345) 2147483648) fun s2 =>
  gJ s2 x0 [0] 25 fun v3 =>
  d64 x1.toInt64 (
  some ((rem64 (v3 / 65536) x1.toInt64).toInt32, s2))))
/-! OverFirst.fast()I -/
def FX0_fast (s : CS) (x0 : Nat) : Option Int32 :=
  gd (isK s x0 [0]) (
  gR s x0 [0] 2 fun r1 =>
  nn r1 fun p2 =>
  (FX2_run s p2).bind fun v3 =>
  gR s x0 [0] 2 fun r4 =>
  nn r4 fun p5 =>
  (FX2_slow s p5).bind fun v6 =>
  if v3 ≤ v6 then
  (gR s x0 [0] 2 fun r7 =>
  nn r7 fun p8 =>
  (FX2_run s p8).bind fun v9 =>
  some v9)
  else (gR s x0 [0] 2 fun r10 =>
  nn r10 fun p11 =>
  (FX2_walk s p11).bind fun v12 =>
  some v12))
/-! OverFirst.feed(JJJ)I -/
def FX0_feed_b74 (nf : Nat) (k3 : Nat → Int64 → Int64 → Int64 → Int32 → CS → Option (Int32 × CS)) (x0 : Nat) (x1 : Int64) (x3 : Int64) (x5 : Int64) (x7 : Int32) (x8 : Int32) (s : CS) : Option (Int32 × CS) :=
  gI s x0 [0] 5 fun v1 =>
  if 1000 ≤ v1 then
  (k3 x0 x1 x3 x5 (x7 + 1) s)
  else (gR s x0 [0] 0 fun r2 =>
  gI s x0 [0] 5 fun v3 =>
  pI s x0 [0] 5 (v3 + 1) fun s4 =>
  nn r2 fun p5 =>
  gd (isy (i2b x8)) (tI_ s4 p5 103 v3 (i2b x8) fun s6 =>
  k3 x0 x1 x3 x5 (x7 + 1) s6))
def FX0_feed_b34 (nf : Nat) (k3 : Nat → Int64 → Int64 → Int64 → Int32 → CS → Option (Int32 × CS)) (x0 : Nat) (x1 : Int64) (x3 : Int64) (x5 : Int64) (x7 : Int32) (s_0 : Int64) (s : CS) : Option (Int32 × CS) :=
  nm (((shr64 s_0 (56 - (8 * (rem32 x7 8)))).toInt32) &&& 255) fun v1 =>
  if v1 = 10 then
  (FX0_feed_b74 nf k3 x0 x1 x3 x5 x7 v1 s)
  else (if v1 < 32 then
  (k3 x0 x1 x3 x5 (x7 + 1) s)
  else (if 126 < v1 then
  (k3 x0 x1 x3 x5 (x7 + 1) s)
  else (FX0_feed_b74 nf k3 x0 x1 x3 x5 x7 v1 s)))
def FX0_feed_b3_s (nf : Nat) (k3 : Nat → Int64 → Int64 → Int64 → Int32 → CS → Option (Int32 × CS)) (x0 : Nat) (x1 : Int64) (x3 : Int64) (x5 : Int64) (x7 : Int32) (s : CS) : Option (Int32 × CS) :=
  if 24 ≤ x7 then
  (gI s x0 [0] 5 fun v1 =>
  some (v1, s))
  else (if 8 ≤ x7 then
  (if 16 ≤ x7 then
  (FX0_feed_b34 nf k3 x0 x1 x3 x5 x7 x5 s)
  else (FX0_feed_b34 nf k3 x0 x1 x3 x5 x7 x3 s))
  else (FX0_feed_b34 nf k3 x0 x1 x3 x5 x7 x1 s))
def FX0_feed_b3 (nf : Nat) (n : Nat) : Nat → Int64 → Int64 → Int64 → Int32 → CS → Option (Int32 × CS) := lpN (fun _ _ _ _ _ _ => none) (FX0_feed_b3_s nf) n
def FX0_feed (nf : Nat) (x0 : Nat) (x1 : Int64) (x3 : Int64) (x5 : Int64) (s : CS) : Option (Int32 × CS) :=
  mz s (fun z => z.2) (
  gd (isK s x0 [0]) (
  FX0_feed_b3 nf nf x0 x1 x3 x5 0 s))
/-! OverFirst.toldAt(IIII)I -/
def FX0_toldAt_b6_s (nf : Nat) (s : CS) (k6 : Nat → Int32 → Int32 → Int32 → Int32 → Int32 → Int32 → Option Int32) (x0 : Nat) (x1 : Int32) (x2 : Int32) (x3 : Int32) (x4 : Int32) (x5 : Int32) (x6 : Int32) : Option Int32 :=
  gR s x0 [0] 4 fun r1 =>
  nn r1 fun p2 =>
  gI s p2 [8] 805 fun v3 =>
  if v3 ≤ x6 then
  (some x5)
  else (gR s x0 [0] 4 fun r4 =>
  nn r4 fun p5 =>
  gR s p5 [8] 810 fun r6 =>
  nn r6 fun p7 =>
  lI s p7 100 x6 fun v8 =>
  if v8 = ((x2 * 6) + x1) then
  (gR s x0 [0] 4 fun r9 =>
  nn r9 fun p10 =>
  gR s p10 [8] 811 fun r11 =>
  nn r11 fun p12 =>
  lI s p12 100 x6 fun v13 =>
  (FX0_in s v13 x3 x4).bind fun v14 =>
  if v14 = 0 then
  (k6 x0 x1 x2 x3 x4 x5 (x6 + 1))
  else (k6 x0 x1 x2 x3 x4 (x5 + 1) (x6 + 1)))
  else (k6 x0 x1 x2 x3 x4 x5 (x6 + 1)))
def FX0_toldAt_b6 (nf : Nat) (s : CS) (n : Nat) : Nat → Int32 → Int32 → Int32 → Int32 → Int32 → Int32 → Option Int32 := lpN (fun _ _ _ _ _ _ _ => none) (FX0_toldAt_b6_s nf s) n
def FX0_toldAt (nf : Nat) (s : CS) (x0 : Nat) (x1 : Int32) (x2 : Int32) (x3 : Int32) (x4 : Int32) : Option Int32 :=
  gd (isK s x0 [0]) (
  FX0_toldAt_b6 nf s nf x0 x1 x2 x3 x4 0 0)
/-! OverFirst.ways(IIIIIJJI)V -/
def FX0_ways_b178 (nf : Nat) (rc : Nat → Int32 → Int32 → Int32 → Int32 → Int32 → Int64 → Int64 → Int32 → CS → Option CS) (k122 : Nat → Int32 → Int32 → Int32 → Int32 → Int32 → Int32 → Int64 → Int64 → Int32 → CS → Option CS) (x0 : Nat) (x1 : Int32) (x2 : Int32) (x3 : Int32) (x4 : Int32) (x5 : Int32) (x10 : Int32) (x11 : Int64) (x13 : Int64) (x15 : Int32) (x17 : Int32) (s_0 : Int32) (s_1 : Int32) (s_2 : Nat) (s : CS) : Option CS :=
  gR s x0 [0] 2 fun r1 =>
  nn r1 fun p2 =>
  (FX2_walk s p2).bind fun v3 =>
  (FX0_toldAt nf s x0 x1 x2 x3 x17).bind fun v4 =>
  (rc s_2 s_1 s_0 (x17 + v3) (x4 + 1) (x5 ||| (shl32 x15 x4)) x11 x13 (x10 + v4) s).bind fun s5 =>
  k122 x0 x1 x2 x3 x4 x5 x10 x11 x13 (x15 + 1) s5
def FX0_ways_b166 (nf : Nat) (rc : Nat → Int32 → Int32 → Int32 → Int32 → Int32 → Int64 → Int64 → Int32 → CS → Option CS) (k122 : Nat → Int32 → Int32 → Int32 → Int32 → Int32 → Int32 → Int64 → Int64 → Int32 → CS → Option CS) (x0 : Nat) (x1 : Int32) (x2 : Int32) (x3 : Int32) (x4 : Int32) (x5 : Int32) (x10 : Int32) (x11 : Int64) (x13 : Int64) (x15 : Int32) (x17 : Int32) (s_0 : Int32) (s_1 : Nat) (s : CS) : Option CS :=
  if x15 = 0 then
  (FX0_ways_b178 nf rc k122 x0 x1 x2 x3 x4 x5 x10 x11 x13 x15 x17 x2 s_0 s_1 s)
  else (FX0_ways_b178 nf rc k122 x0 x1 x2 x3 x4 x5 x10 x11 x13 x15 x17 (x2 + 1) s_0 s_1 s)
def FX0_ways_b122_s (nf : Nat) (rc : Nat → Int32 → Int32 → Int32 → Int32 → Int32 → Int64 → Int64 → Int32 → CS → Option CS) (k122 : Nat → Int32 → Int32 → Int32 → Int32 → Int32 → Int32 → Int64 → Int64 → Int32 → CS → Option CS) (x0 : Nat) (x1 : Int32) (x2 : Int32) (x3 : Int32) (x4 : Int32) (x5 : Int32) (x10 : Int32) (x11 : Int64) (x13 : Int64) (x15 : Int32) (s : CS) : Option CS :=
  if 1 < x15 then
  (some s)
  else ((FX0_waits s x0 x1 x2 x15 x3).bind fun v1 =>
  if 0 ≤ v1 then
  (nm (x3 + v1) fun v2 =>
  if x15 = 0 then
  (FX0_ways_b166 nf rc k122 x0 x1 x2 x3 x4 x5 x10 x11 x13 x15 v2 (x1 + 1) x0 s)
  else (FX0_ways_b166 nf rc k122 x0 x1 x2 x3 x4 x5 x10 x11 x13 x15 v2 x1 x0 s))
  else (k122 x0 x1 x2 x3 x4 x5 x10 x11 x13 (x15 + 1) s))
def FX0_ways_b122 (nf : Nat) (rc : Nat → Int32 → Int32 → Int32 → Int32 → Int32 → Int64 → Int64 → Int32 → CS → Option CS) (n : Nat) : Nat → Int32 → Int32 → Int32 → Int32 → Int32 → Int32 → Int64 → Int64 → Int32 → CS → Option CS := lpN (fun _ _ _ _ _ _ _ _ _ _ _ => none) (FX0_ways_b122_s nf rc) n
def FX0_ways_b96 (nf : Nat) (rc : Nat → Int32 → Int32 → Int32 → Int32 → Int32 → Int64 → Int64 → Int32 → CS → Option CS) (x0 : Nat) (x11 : Int64) (x13 : Int64) (s : CS) : Option CS :=
  gJ s x0 [0] 23 fun v1 =>
  pJ s x0 [0] 23 (v1 &&& x11) fun s2 =>
  gJ s2 x0 [0] 24 fun v3 =>
  pJ s2 x0 [0] 24 (v3 &&& x13) fun s4 =>
  some s4
def FX0_ways_b41 (nf : Nat) (rc : Nat → Int32 → Int32 → Int32 → Int32 → Int32 → Int64 → Int64 → Int32 → CS → Option CS) (x0 : Nat) (x1 : Int32) (x2 : Int32) (x3 : Int32) (x4 : Int32) (x5 : Int32) (x10 : Int32) (x11 : Int64) (s_0 : Int64) (s : CS) : Option CS :=
  (FX0_isHome s x0 x1 x2).bind fun v1 =>
  if v1 = 0 then
  (FX0_ways_b122 nf rc nf x0 x1 x2 x3 x4 x5 x10 x11 s_0 0 s)
  else ((FX0_toldAt nf s x0 x1 x2 x3 2147483647).bind fun v2 =>
  gR s x0 [0] 4 fun r3 =>
  nn r3 fun p4 =>
  gI s p4 [8] 805 fun v5 =>
  if v5 ≤ (x10 + v2) then
  (gI s x0 [0] 21 fun v6 =>
  pI s x0 [0] 21 (v6 + 1) fun s7 =>
  if v6 = 0 then
  (pI s7 x0 [0] 22 x5 fun s8 =>
  FX0_ways_b96 nf rc x0 x11 s_0 s8)
  else (FX0_ways_b96 nf rc x0 x11 s_0 s7))
  else (some s))
def FX0_ways_b22 (nf : Nat) (rc : Nat → Int32 → Int32 → Int32 → Int32 → Int32 → Int64 → Int64 → Int32 → CS → Option CS) (x0 : Nat) (x1 : Int32) (x2 : Int32) (x3 : Int32) (x4 : Int32) (x5 : Int32) (x8 : Int64) (x10 : Int32) (s_0 : Int64) (s : CS) : Option CS :=
  if 8 ≤ x2 then
  (FX0_ways_b41 nf rc x0 x1 x2 x3 x4 x5 x10 s_0 (x8 ||| (shl64 (1 : Int64) x1)) s)
  else (FX0_ways_b41 nf rc x0 x1 x2 x3 x4 x5 x10 s_0 x8 s)
def FX0_ways_s (nf : Nat) (rc : Nat → Int32 → Int32 → Int32 → Int32 → Int32 → Int64 → Int64 → Int32 → CS → Option CS) (x0 : Nat) (x1 : Int32) (x2 : Int32) (x3 : Int32) (x4 : Int32) (x5 : Int32) (x6 : Int64) (x8 : Int64) (x10 : Int32) (s : CS) : Option CS :=
  mz s (fun z => z) (
  gd (isK s x0 [0]) (
  if 8 ≤ x2 then
  (FX0_ways_b22 nf rc x0 x1 x2 x3 x4 x5 x8 x10 x6 s)
  else (FX0_ways_b22 nf rc x0 x1 x2 x3 x4 x5 x8 x10 (x6 ||| (shl64 (1 : Int64) ((8 * x2) + x1))) s)))
def FX0_ways (nf : Nat) (dp : Nat) : Nat → Int32 → Int32 → Int32 → Int32 → Int32 → Int64 → Int64 → Int32 → CS → Option CS := lpN (fun _ _ _ _ _ _ _ _ _ _ => none) (fun rc => FX0_ways_s nf rc) dp
/-! OverFirst.fits(I)J -/
def FX0_fits (nf : Nat) (x0 : Nat) (x1 : Int32) (s : CS) : Option (Int64 × CS) :=
  mz s (fun z => z.2) (
  gd (isK s x0 [0]) (
  (FX0_in s x1 0 3).bind fun v1 =>
  if v1 = 0 then
  (some ((-1), s))
  else (pI s x0 [0] 21 0 fun s2 =>
  pJ s2 x0 [0] 23 (-1) fun s3 =>
  pJ s3 x0 [0] 24 (-1) fun s4 =>
  (FX0_ways nf 20 x0 0 0 0 0 0 0 0 0 s4).bind fun s5 =>
  if x1 = 0 then
  (gI s5 x0 [0] 21 fun v10 =>
  some (v10.toInt64, s5))
  else (gI s5 x0 [0] 21 fun v6 =>
  if v6 = 0 then
  (some ((-1), s5))
  else (if x1 = 1 then
  (gI s5 x0 [0] 22 fun v9 =>
  some (v9.toInt64, s5))
  else (if x1 = 2 then
  (gJ s5 x0 [0] 23 fun v8 =>
  some (v8, s5))
  else (gJ s5 x0 [0] 24 fun v7 =>
  some (v7, s5))))))))
/-! OverFirst.isGoer(I)Z -/
def FX0_isGoer (s : CS) (x0 : Nat) (x1 : Int32) : Option Int32 :=
  gd (isK s x0 [0]) (
  gR s x0 [0] 2 fun r1 =>
  nn r1 fun p2 =>
  gR s p2 [2] 212 fun r3 =>
  nn r3 fun p4 =>
  (FJ2_size s p4).bind fun v5 =>
  (FX0_in s x1 0 (v5 - 1)).bind fun v6 =>
  gd (isb v6) (some v6))
/-! OverFirst.mean(IIII)I -/
def FX0_mean (nf : Nat) (x0 : Nat) (x1 : Int32) (x2 : Int32) (x3 : Int32) (x4 : Int32) (s : CS) : Option (Int32 × CS) :=
  mz s (fun z => z.2) (
  gd (isK s x0 [0]) (
  (FX0_isGoer s x0 x1).bind fun v1 =>
  if v1 = 0 then
  (some ((-1), s))
  else ((FX0_isAsked s x0 x2 x3 x4).bind fun v2 =>
  if v2 = 0 then
  (some ((-1), s))
  else ((FX0_tables nf x0 x1 0 0 s).bind fun s3 =>
  (FX0_takesAt s3 x0 x2 x3 x4).bind fun v4 =>
  some (v4, s3)))))
/-! OverFirst.gap(III)I -/
def FX0_gap (nf : Nat) (x0 : Nat) (x1 : Int32) (x2 : Int32) (x3 : Int32) (s : CS) : Option (Int32 × CS) :=
  mz s (fun z => z.2) (
  gd (isK s x0 [0]) (
  bd2 (FX0_mean nf x0 2 x1 x2 x3 s) fun v2 s1 =>
  bd2 (FX0_mean nf x0 3 x1 x2 x3 s1) fun v4 s3 =>
  if v2 < 0 then
  (some ((-1), s3))
  else (if 0 ≤ v4 then
  (some (v2 - v4, s3))
  else (some ((-1), s3)))))
/-! OverFirst.isWay(I)Z -/
def FX0_isWay (s : CS) (x0 : Int32) : Option Int32 :=
  (FX0_in s x0 0 1).bind fun v1 =>
  gd (isb v1) (some v1)
/-! OverFirst.keeps()V -/
def FX0_keeps_b92 (nf : Nat) (x0 : Nat) (s : CS) : Option CS :=
  gR s x0 [0] 6 fun r1 =>
  gI s x0 [0] 7 fun v2 =>
  pI s x0 [0] 7 (v2 + 1) fun s3 =>
  nn r1 fun p4 =>
  lR s3 p4 105 v2 fun r5 =>
  gR s3 x0 [0] 4 fun r6 =>
  nn r5 fun p7 =>
  nn r6 fun p8 =>
  (FX8_go nf p7 p8 s3).bind fun s9 =>
  some s9
def FX0_keeps_b64 (nf : Nat) (x0 : Nat) (s : CS) : Option CS :=
  gR s x0 [0] 6 fun r1 =>
  gI s x0 [0] 7 fun v2 =>
  nn r1 fun p3 =>
  lR s p3 105 v2 fun r4 =>
  nul r4 (gR s x0 [0] 6 fun r6 =>
  gI s x0 [0] 7 fun v7 =>
  nwO s 8 12 fun o8 s9 =>
  (FX8_init o8 s9).bind fun s10 =>
  nn r6 fun p11 =>
  gd (isK s10 o8 [8]) (tR_ s10 p11 105 v7 (some o8) fun s12 =>
  FX0_keeps_b92 nf x0 s12)) fun p5 =>
  FX0_keeps_b92 nf x0 s
def FX0_keeps_b18_s (nf : Nat) (k18 : Nat → (Option Nat) → Int32 → CS → Option CS) (x0 : Nat) (x1 : (Option Nat)) (x2 : Int32) (s : CS) : Option CS :=
  if 16 ≤ (x2 + 1) then
  (gR s x0 [0] 6 fun r1 =>
  nn r1 fun p2 =>
  nn x1 fun p3 =>
  gd (isK s p3 [8]) (tR_ s p2 105 15 (some p3) fun s4 =>
  gI s4 x0 [0] 7 fun v5 =>
  pI s4 x0 [0] 7 (v5 - 1) fun s6 =>
  FX0_keeps_b64 nf x0 s6))
  else (gR s x0 [0] 6 fun r7 =>
  gR s x0 [0] 6 fun r8 =>
  nn r8 fun p9 =>
  lR s p9 105 (x2 + 1) fun r10 =>
  nn r7 fun p11 =>
  nn r10 fun p12 =>
  gd (isK s p12 [8]) (tR_ s p11 105 x2 (some p12) fun s13 =>
  k18 x0 x1 (x2 + 1) s13))
def FX0_keeps_b18 (nf : Nat) (n : Nat) : Nat → (Option Nat) → Int32 → CS → Option CS := lpN (fun _ _ _ _ => none) (FX0_keeps_b18_s nf) n
def FX0_keeps (nf : Nat) (x0 : Nat) (s : CS) : Option CS :=
  mz s (fun z => z) (
  gd (isK s x0 [0]) (
  gI s x0 [0] 7 fun v1 =>
  if v1 = 16 then
  (gR s x0 [0] 6 fun r2 =>
  nn r2 fun p3 =>
  lR s p3 105 0 fun r4 =>
  FX0_keeps_b18 nf nf x0 r4 0 s)
  else (FX0_keeps_b64 nf x0 s)))
/-! OverFirst.go(IZ)I -/
def FX0_go_b121 (nf : Nat) (x0 : Nat) (x1 : Int32) (s : CS) : Option (Int32 × CS) :=
  if x1 = 0 then
  (gR s x0 [0] 4 fun r8 =>
  nn r8 fun p9 =>
  gI s p9 [8] 800 fun v10 =>
  pI s p9 [8] 800 (v10 + 1) fun s11 =>
  gR s11 x0 [0] 4 fun r12 =>
  nn r12 fun p13 =>
  gI s11 p13 [8] 802 fun v14 =>
  some (v14, s11))
  else (gR s x0 [0] 4 fun r1 =>
  nn r1 fun p2 =>
  gI s p2 [8] 801 fun v3 =>
  pI s p2 [8] 801 (v3 + 1) fun s4 =>
  gR s4 x0 [0] 4 fun r5 =>
  nn r5 fun p6 =>
  gI s4 p6 [8] 802 fun v7 =>
  some (v7, s4))
def FX0_go_b99 (nf : Nat) (x0 : Nat) (x1 : Int32) (x2 : Int32) (s_0 : Int32) (s_1 : Int32) (s_2 : Int32) (s_3 : Nat) (s : CS) : Option (Int32 × CS) :=
  pI s s_3 [8] 802 (s_2 + (s_1 + s_0)) fun s1 =>
  if x2 = 0 then
  (FX0_go_b121 nf x0 x1 s1)
  else (gR s1 x0 [0] 4 fun r2 =>
  nn r2 fun p3 =>
  gI s1 p3 [8] 803 fun v4 =>
  pI s1 p3 [8] 803 (v4 + 1) fun s5 =>
  FX0_go_b121 nf x0 x1 s5)
def FX0_go_b65 (nf : Nat) (x0 : Nat) (x1 : Int32) (x2 : Int32) (x3 : Int32) (s : CS) : Option (Int32 × CS) :=
  (FX0_keeps nf x0 s).bind fun s1 =>
  gR s1 x0 [0] 4 fun r2 =>
  nn r2 fun p3 =>
  gI s1 p3 [8] 802 fun v4 =>
  if x2 = 0 then
  (gR s1 x0 [0] 2 fun r5 =>
  nn r5 fun p6 =>
  (FX2_walk s1 p6).bind fun v7 =>
  FX0_go_b99 nf x0 x1 x2 v7 x3 v4 p3 s1)
  else (gR s1 x0 [0] 2 fun r8 =>
  nn r8 fun p9 =>
  (FX2_run s1 p9).bind fun v10 =>
  FX0_go_b99 nf x0 x1 x2 v10 x3 v4 p3 s1)
def FX0_go_b37 (nf : Nat) (x0 : Nat) (x1 : Int32) (x2 : Int32) (s_0 : Int32) (s : CS) : Option (Int32 × CS) :=
  if s_0 < 0 then
  (some ((-1), s))
  else (if x2 = 0 then
  (FX0_go_b65 nf x0 x1 x2 s_0 s)
  else (gR s x0 [0] 4 fun r1 =>
  nn r1 fun p2 =>
  gI s p2 [8] 803 fun v3 =>
  gR s x0 [0] 2 fun r4 =>
  nn r4 fun p5 =>
  (FX2_runs s p5).bind fun v6 =>
  if v3 < v6 then
  (FX0_go_b65 nf x0 x1 x2 s_0 s)
  else (some ((-1), s))))
def FX0_go (nf : Nat) (x0 : Nat) (x1 : Int32) (x2 : Int32) (s : CS) : Option (Int32 × CS) :=
  mz s (fun z => z.2) (
  gd (isK s x0 [0]) (
  (FX0_isWay s x1).bind fun v1 =>
  if v1 = 0 then
  (FX0_go_b37 nf x0 x1 x2 (-1) s)
  else (gR s x0 [0] 4 fun r2 =>
  nn r2 fun p3 =>
  gI s p3 [8] 800 fun v4 =>
  gR s x0 [0] 4 fun r5 =>
  nn r5 fun p6 =>
  gI s p6 [8] 801 fun v7 =>
  gR s x0 [0] 4 fun r8 =>
  nn r8 fun p9 =>
  gI s p9 [8] 802 fun v10 =>
  (FX0_waits s x0 v4 v7 x1 v10).bind fun v11 =>
  FX0_go_b37 nf x0 x1 x2 v11 s)))
/-! OverFirst.until(IIII)I -/
def FX0_until (s : CS) (x0 : Nat) (x1 : Int32) (x2 : Int32) (x3 : Int32) (x4 : Int32) : Option Int32 :=
  gd (isK s x0 [0]) (
  (FX0_isAsked s x0 x1 x2 x4).bind fun v1 =>
  if v1 = 0 then
  (some (-1))
  else ((FX0_isWay s x3).bind fun v2 =>
  if v2 = 0 then
  (some (-1))
  else ((FX0_waits s x0 x1 x2 x3 x4).bind fun v3 =>
  some v3)))
/-! OverFirst.green(IIII)I -/
def FX0_green (s : CS) (x0 : Nat) (x1 : Int32) (x2 : Int32) (x3 : Int32) (x4 : Int32) : Option Int32 :=
  gd (isK s x0 [0]) (
  (FX0_until s x0 x1 x2 x3 x4).bind fun v1 =>
  if 0 ≤ v1 then
  ((FX0_lightAt s x0 x1 x2).bind fun r2 =>
  nul r2 (if v1 = 0 then
  (some 1)
  else (some 0)) fun p3 =>
  (V11_isButton s p3).bind fun v4 =>
  if v4 = 0 then
  (if v1 = 0 then
  (some 1)
  else (some 0))
  else (some x3))
  else (some (-1)))
/-! OverFirst.greenFrom(LOverFirst$Light;II)J -/
def FX0_greenFrom_b44 (nf : Nat) (s : CS) (k5 : Nat → Int32 → Int32 → Int64 → Int32 → Option Int64) (x0 : Nat) (x1 : Int32) (x2 : Int32) (x3 : Int64) (x5 : Int32) (s_0 : Int32) : Option Int64 :=
  gI s x0 [12, 13, 14, 15] 1100 fun v1 =>
  gI s x0 [12, 13, 14, 15] 1102 fun v2 =>
  if (v1 - v2) ≤ s_0 then
  (k5 x0 x1 x2 x3 (x5 + 1))
  else (nm (x3 ||| (shl64 (1 : Int64) x5)) fun v3 =>
  k5 x0 x1 x2 v3 (x5 + 1))
def FX0_greenFrom_b5_s (nf : Nat) (s : CS) (k5 : Nat → Int32 → Int32 → Int64 → Int32 → Option Int64) (x0 : Nat) (x1 : Int32) (x2 : Int32) (x3 : Int64) (x5 : Int32) : Option Int64 :=
  gI s x0 [12, 13, 14, 15] 1100 fun v1 =>
  if v1 ≤ x5 then
  (some x3)
  else (gI s x0 [12, 13, 14, 15] 1100 fun v2 =>
  d32 v2 (
  nm (rem32 ((x5 + x2) - x1) v2) fun v3 =>
  if 0 ≤ v3 then
  (FX0_greenFrom_b44 nf s k5 x0 x1 x2 x3 x5 v3)
  else (gI s x0 [12, 13, 14, 15] 1100 fun v4 =>
  FX0_greenFrom_b44 nf s k5 x0 x1 x2 x3 x5 (v3 + v4))))
def FX0_greenFrom_b5 (nf : Nat) (s : CS) (n : Nat) : Nat → Int32 → Int32 → Int64 → Int32 → Option Int64 := lpN (fun _ _ _ _ _ => none) (FX0_greenFrom_b5_s nf s) n
def FX0_greenFrom (nf : Nat) (s : CS) (x0 : Nat) (x1 : Int32) (x2 : Int32) : Option Int64 :=
  FX0_greenFrom_b5 nf s nf x0 x1 x2 0 0
/-! OverFirst.isSo(IIIII)Z -/
def FX0_isSo (s : CS) (x0 : Nat) (x1 : Int32) (x2 : Int32) (x3 : Int32) (x4 : Int32) (x5 : Int32) : Option Int32 :=
  gd (isK s x0 [0]) (
  if x5 < x4 then
  (some 0)
  else ((FX0_waits s x0 x1 x2 x3 x5).bind fun v1 =>
  if 0 ≤ v1 then
  ((FX0_lightAt s x0 x1 x2).bind fun r2 =>
  nul r2 (some 1) fun p3 =>
  (V11_isButton s p3).bind fun v4 =>
  if v4 = 0 then
  ((V11_waits s p3 x3 x5).bind fun v5 =>
  if v5 = 0 then
  (some 1)
  else (some 0))
  else ((V11_waits s p3 x3 x4).bind fun v6 =>
  if (x5 - x4) < v6 then
  (some 0)
  else (some 1)))
  else (some 0)))
/-! OverFirst.judged()I -/
def FX0_judged_b9_s (nf : Nat) (s : CS) (k9 : Nat → Int32 → Int32 → Int32 → Int32 → Option Int32) (x0 : Nat) (x1 : Int32) (x2 : Int32) (x3 : Int32) (x4 : Int32) : Option Int32 :=
  gR s x0 [0] 3 fun r1 =>
  nn r1 fun p2 =>
  gI s p2 [7] 702 fun v3 =>
  if v3 ≤ x4 then
  (some (-1))
  else (gR s x0 [0] 3 fun r4 =>
  nn r4 fun p5 =>
  gR s p5 [7] 700 fun r6 =>
  nn r6 fun p7 =>
  lI s p7 100 x4 fun v8 =>
  gR s x0 [0] 3 fun r9 =>
  nn r9 fun p10 =>
  gR s p10 [7] 701 fun r11 =>
  nn r11 fun p12 =>
  lI s p12 100 x4 fun v13 =>
  (FX0_isSo s x0 x1 x2 v8 x3 v13).bind fun v14 =>
  if v14 = 0 then
  (some x4)
  else (gR s x0 [0] 3 fun r15 =>
  nn r15 fun p16 =>
  gR s p16 [7] 701 fun r17 =>
  nn r17 fun p18 =>
  lI s p18 100 x4 fun v19 =>
  gR s x0 [0] 2 fun r20 =>
  nn r20 fun p21 =>
  (FX2_walk s p21).bind fun v22 =>
  nm (v19 + v22) fun v23 =>
  gR s x0 [0] 3 fun r24 =>
  nn r24 fun p25 =>
  gR s p25 [7] 700 fun r26 =>
  nn r26 fun p27 =>
  lI s p27 100 x4 fun v28 =>
  if v28 = 0 then
  (k9 x0 (x1 + 1) x2 v23 (x4 + 1))
  else (k9 x0 x1 (x2 + 1) v23 (x4 + 1))))
def FX0_judged_b9 (nf : Nat) (s : CS) (n : Nat) : Nat → Int32 → Int32 → Int32 → Int32 → Option Int32 := lpN (fun _ _ _ _ _ => none) (FX0_judged_b9_s nf s) n
def FX0_judged (nf : Nat) (s : CS) (x0 : Nat) : Option Int32 :=
  gd (isK s x0 [0]) (
  FX0_judged_b9 nf s nf x0 0 0 0 0)
/-! OverFirst.soonest(IIII)I -/
def FX0_soonest_b166 (nf : Nat) (k73 : Nat → Int32 → Int32 → Int32 → Int32 → Int32 → CS → Option (Int32 × CS)) (x0 : Nat) (x4 : Int32) (x6 : Int32) (x7 : Int32) (x9 : Int32) (x12 : Int32) (s_0 : Int32) (s_1 : Int32) (s : CS) : Option (Int32 × CS) :=
  gR s x0 [0] 2 fun r1 =>
  nn r1 fun p2 =>
  (FX2_walk s p2).bind fun v3 =>
  nm (s_1 + (s_0 + v3)) fun v4 =>
  if x12 = 0 then
  (k73 x0 x4 (x6 + 1) x7 v4 (x9 + 1) s)
  else (k73 x0 x4 x6 (x7 + 1) v4 (x9 + 1) s)
def FX0_soonest_b73_s (nf : Nat) (k73 : Nat → Int32 → Int32 → Int32 → Int32 → Int32 → CS → Option (Int32 × CS)) (x0 : Nat) (x4 : Int32) (x6 : Int32) (x7 : Int32) (x8 : Int32) (x9 : Int32) (s : CS) : Option (Int32 × CS) :=
  (FX0_isHome s x0 x6 x7).bind fun v1 =>
  if v1 = 0 then
  ((FX0_waits s x0 x6 x7 0 x8).bind fun v2 =>
  (FX0_waits s x0 x6 x7 1 x8).bind fun v3 =>
  (FX0_by s x0 x6 x7 0 x8 v2).bind fun v4 =>
  (FX0_by s x0 x6 x7 1 x8 v3).bind fun v5 =>
  (FX0_better s x0 v4 v5).bind fun v6 =>
  if x9 = x4 then
  (some (v6, s))
  else (if v6 = 0 then
  (FX0_soonest_b166 nf k73 x0 x4 x6 x7 x9 v6 v2 x8 s)
  else (FX0_soonest_b166 nf k73 x0 x4 x6 x7 x9 v6 v3 x8 s)))
  else (some ((-2), s))
def FX0_soonest_b73 (nf : Nat) (n : Nat) : Nat → Int32 → Int32 → Int32 → Int32 → Int32 → CS → Option (Int32 × CS) := lpN (fun _ _ _ _ _ _ _ => none) (FX0_soonest_b73_s nf) n
def FX0_soonest_b46 (nf : Nat) (x3 : Int32) (x5 : Int32) (s : CS) : Option (Int32 × CS) :=
  if 0 ≤ x5 then
  (some (x3 + x5, s))
  else (some ((-2), s))
def FX0_soonest (nf : Nat) (x0 : Nat) (x1 : Int32) (x2 : Int32) (x3 : Int32) (x4 : Int32) (s : CS) : Option (Int32 × CS) :=
  mz s (fun z => z.2) (
  gd (isK s x0 [0]) (
  (FX0_isAsked s x0 x1 x2 x3).bind fun v1 =>
  if v1 = 0 then
  (some ((-2), s))
  else (if (-1) ≤ x4 then
  ((FX0_tables nf x0 3 1 1 s).bind fun s2 =>
  (FX0_takesAt s2 x0 x1 x2 x3).bind fun v3 =>
  if v3 < 0 then
  (FX0_soonest_b46 nf x3 v3 s2)
  else (if x4 = (-1) then
  (FX0_soonest_b46 nf x3 v3 s2)
  else (FX0_soonest_b73 nf nf x0 x4 x1 x2 x3 0 s2)))
  else (some ((-2), s)))))
/-! OverFirst.latest(III)I -/
def FX0_latest_b20_s (nf : Nat) (k20 : Nat → Int32 → Int32 → Int32 → Int32 → Int32 → CS → Option (Int32 × CS)) (x0 : Nat) (x1 : Int32) (x2 : Int32) (x3 : Int32) (x4 : Int32) (x5 : Int32) (s : CS) : Option (Int32 × CS) :=
  gR s x0 [0] 2 fun r1 =>
  nn r1 fun p2 =>
  gI s p2 [2] 206 fun v3 =>
  if (x3 + v3) ≤ (x5 + 1) then
  (some (x5, s))
  else ((FX0_takesAt s x0 x1 x2 (x5 + 1)).bind fun v4 =>
  if ((x5 + 1) + v4) = x4 then
  (k20 x0 x1 x2 x3 x4 (x5 + 1) s)
  else (some (x5, s)))
def FX0_latest_b20 (nf : Nat) (n : Nat) : Nat → Int32 → Int32 → Int32 → Int32 → Int32 → CS → Option (Int32 × CS) := lpN (fun _ _ _ _ _ _ _ => none) (FX0_latest_b20_s nf) n
def FX0_latest (nf : Nat) (x0 : Nat) (x1 : Int32) (x2 : Int32) (x3 : Int32) (s : CS) : Option (Int32 × CS) :=
  mz s (fun z => z.2) (
  gd (isK s x0 [0]) (
  bd2 (FX0_soonest nf x0 x1 x2 x3 (-1) s) fun v2 s1 =>
  if 0 ≤ v2 then
  (FX0_latest_b20 nf nf x0 x1 x2 x3 v2 x3 s1)
  else (some ((-1), s1))))
/-! ('OverFirst$Light', 'kind', '()I') by the receiver's class -/
def V11_kind (s : CS) (o : Nat) : Option Int32 :=
  if isK s o [12] = true then FX12_kind s o else
  if isK s o [13] = true then FX13_kind s o else
  if isK s o [14] = true then FX14_kind s o else
  if isK s o [15] = true then FX15_kind s o else
  none
/-! OverFirst.light(III)I -/
def FX0_light (s : CS) (x0 : Nat) (x1 : Int32) (x2 : Int32) (x3 : Int32) : Option Int32 :=
  gd (isK s x0 [0]) (
  gR s x0 [0] 2 fun r1 =>
  nn r1 fun p2 =>
  (FX2_isCorner s p2 x1 x2).bind fun v3 =>
  if v3 = 0 then
  (some (-1))
  else ((FX0_in s x3 0 5).bind fun v4 =>
  if v4 = 0 then
  (some (-1))
  else (if x3 = 5 then
  (gR s x0 [0] 2 fun r16 =>
  nn r16 fun p17 =>
  gR s p17 [2] 210 fun r18 =>
  nn r18 fun p19 =>
  lI s p19 100 ((x2 * 6) + x1) fun v20 =>
  some v20)
  else ((FX0_lightAt s x0 x1 x2).bind fun r5 =>
  nul r5 (some (-1)) fun p6 =>
  if x3 = 0 then
  ((V11_kind s p6).bind fun v15 =>
  some v15)
  else (if x3 = 1 then
  (gI s p6 [12, 13, 14, 15] 1100 fun v14 =>
  some v14)
  else (if x3 = 2 then
  (gI s p6 [12, 13, 14, 15] 1101 fun v13 =>
  some v13)
  else (if x3 = 3 then
  (gI s p6 [12, 13, 14, 15] 1102 fun v12 =>
  some v12)
  else (gR s x0 [0] 4 fun r7 =>
  nn r7 fun p8 =>
  gR s p8 [8] 806 fun r9 =>
  nn r9 fun p10 =>
  lI s p10 102 ((x2 * 6) + x1) fun v11 =>
  if v11 = 0 then
  (some 0)
  else (some 1)))))))))
/-! OverFirst.lives(LOverFirst$Goer;)I -/
def FX0_lives_b131 (nf : Nat) (k55 : Nat → Nat → Int32 → Int32 → Int32 → CS → Option (Int32 × CS)) (x0 : Nat) (x1 : Nat) (x2 : Int32) (x3 : Int32) (x8 : Int32) (s_0 : Int32) (s_1 : Int32) (s : CS) : Option (Int32 × CS) :=
  gR s x0 [0] 2 fun r1 =>
  nn r1 fun p2 =>
  (FX2_walk s p2).bind fun v3 =>
  nm (s_1 + (s_0 + v3)) fun v4 =>
  if x8 = 0 then
  (k55 x0 x1 (x2 + 1) x3 v4 s)
  else (k55 x0 x1 x2 (x3 + 1) v4 s)
def FX0_lives_b55_s (nf : Nat) (k55 : Nat → Nat → Int32 → Int32 → Int32 → CS → Option (Int32 × CS)) (x0 : Nat) (x1 : Nat) (x2 : Int32) (x3 : Int32) (x4 : Int32) (s : CS) : Option (Int32 × CS) :=
  (FX0_isHome s x0 x2 x3).bind fun v1 =>
  if v1 = 0 then
  (gR s x0 [0] 26 fun r2 =>
  nn r2 fun p3 =>
  lI s p3 100 ((x3 * 6) + x2) fun v4 =>
  nm (x4 + v4) fun v5 =>
  (FX0_waits s x0 x2 x3 0 v5).bind fun v6 =>
  (FX0_waits s x0 x2 x3 1 v5).bind fun v7 =>
  bd2 (FX0_wayOf x0 x1 x2 x3 x4 v6 v7 s) fun v9 s8 =>
  if v9 = 0 then
  (FX0_lives_b131 nf k55 x0 x1 x2 x3 v9 v6 x4 s8)
  else (FX0_lives_b131 nf k55 x0 x1 x2 x3 v9 v7 x4 s8))
  else (some (x4, s))
def FX0_lives_b55 (nf : Nat) (n : Nat) : Nat → Nat → Int32 → Int32 → Int32 → CS → Option (Int32 × CS) := lpN (fun _ _ _ _ _ _ => none) (FX0_lives_b55_s nf) n
def FX0_lives_b2_s (nf : Nat) (k2 : Nat → Nat → Int32 → CS → Option (Int32 × CS)) (x0 : Nat) (x1 : Nat) (x2 : Int32) (s : CS) : Option (Int32 × CS) :=
  if 54 ≤ x2 then
  (FX0_lives_b55 nf nf x0 x1 0 0 0 s)
  else (gR s x0 [0] 26 fun r1 =>
  (FX0_isUnknown s x0 x2).bind fun v2 =>
  if v2 = 0 then
  (nn r1 fun p3 =>
  tI_ s p3 100 x2 0 fun s4 =>
  k2 x0 x1 (x2 + 1) s4)
  else (gR s x0 [0] 2 fun r5 =>
  nn r5 fun p6 =>
  gR s p6 [2] 209 fun r7 =>
  nn r7 fun p8 =>
  lR s p8 104 x2 fun r9 =>
  nn r9 fun p10 =>
  gI s p10 [12, 13, 14, 15] 1100 fun v11 =>
  bd2 (FX0_draws x0 v11 s) fun v13 s12 =>
  nn r1 fun p14 =>
  tI_ s12 p14 100 x2 v13 fun s15 =>
  k2 x0 x1 (x2 + 1) s15))
def FX0_lives_b2 (nf : Nat) (n : Nat) : Nat → Nat → Int32 → CS → Option (Int32 × CS) := lpN (fun _ _ _ _ => none) (FX0_lives_b2_s nf) n
def FX0_lives (nf : Nat) (x0 : Nat) (x1 : Nat) (s : CS) : Option (Int32 × CS) :=
  mz s (fun z => z.2) (
  gd (isK s x0 [0]) (
  FX0_lives_b2 nf nf x0 x1 0 s))
/-! OverFirst.look()Z -/
def FX0_look (nf : Nat) (x0 : Nat) (s : CS) : Option (Int32 × CS) :=
  mz s (fun z => z.2) (
  gd (isK s x0 [0]) (
  gR s x0 [0] 4 fun r1 =>
  nn r1 fun p2 =>
  gI s p2 [8] 801 fun v3 =>
  gR s x0 [0] 4 fun r4 =>
  nn r4 fun p5 =>
  gI s p5 [8] 800 fun v6 =>
  nm ((v3 * 6) + v6) fun v7 =>
  (FX0_isUnknown s x0 v7).bind fun v8 =>
  if v8 = 0 then
  (some (0, s))
  else ((FX0_keeps nf x0 s).bind fun s9 =>
  gR s9 x0 [0] 4 fun r10 =>
  nn r10 fun p11 =>
  gR s9 p11 [8] 806 fun r12 =>
  nn r12 fun p13 =>
  gd (isb 1) (tI_ s9 p13 102 v7 1 fun s14 =>
  some (1, s14)))))
/-! OverFirst.mark(IZ)Z -/
def FX0_mark_b46 (nf : Nat) (x0 : Nat) (x1 : Int32) (x2 : Int32) (s : CS) : Option (Int32 × CS) :=
  if x2 = 0 then
  (gR s x0 [0] 27 fun r1 =>
  nn r1 fun p2 =>
  lR s p2 105 x1 fun r3 =>
  gR s x0 [0] 4 fun r4 =>
  nn r3 fun p5 =>
  nn r4 fun p6 =>
  (FX8_be nf p5 p6 s).bind fun s7 =>
  some (1, s7))
  else (gR s x0 [0] 4 fun r8 =>
  gR s x0 [0] 27 fun r9 =>
  nn r9 fun p10 =>
  lR s p10 105 x1 fun r11 =>
  nn r8 fun p12 =>
  nn r11 fun p13 =>
  (FX8_be nf p12 p13 s).bind fun s14 =>
  pI s14 x0 [0] 7 0 fun s15 =>
  some (1, s15))
def FX0_mark_b24 (nf : Nat) (x0 : Nat) (x1 : Int32) (x2 : Int32) (s : CS) : Option (Int32 × CS) :=
  gR s x0 [0] 27 fun r1 =>
  nn r1 fun p2 =>
  lR s p2 105 x1 fun r3 =>
  nul r3 (gR s x0 [0] 27 fun r5 =>
  nwO s 8 12 fun o6 s7 =>
  (FX8_init o6 s7).bind fun s8 =>
  nn r5 fun p9 =>
  gd (isK s8 o6 [8]) (tR_ s8 p9 105 x1 (some o6) fun s10 =>
  FX0_mark_b46 nf x0 x1 x2 s10)) fun p4 =>
  FX0_mark_b46 nf x0 x1 x2 s
def FX0_mark (nf : Nat) (x0 : Nat) (x1 : Int32) (x2 : Int32) (s : CS) : Option (Int32 × CS) :=
  mz s (fun z => z.2) (
  gd (isK s x0 [0]) (
  (FX0_in s x1 0 3).bind fun v1 =>
  if v1 = 0 then
  (some (0, s))
  else (if x2 = 0 then
  (FX0_mark_b24 nf x0 x1 x2 s)
  else (gR s x0 [0] 27 fun r2 =>
  nn r2 fun p3 =>
  lR s p3 105 x1 fun r4 =>
  nul r4 (some (0, s)) fun p5 =>
  FX0_mark_b24 nf x0 x1 x2 s))))
/-! OverFirst.nights(IIII)I -/
def FX0_nights_b59_s (nf : Nat) (k59 : Nat → Int32 → Int32 → Int32 → Int32 → Int32 → Int32 → CS → Option (Int32 × CS)) (x0 : Nat) (x2 : Int32) (x3 : Int32) (x4 : Int32) (x5 : Int32) (x6 : Int32) (x7 : Int32) (s : CS) : Option (Int32 × CS) :=
  if x2 ≤ x7 then
  (if x4 = 0 then
  (some (x5, s))
  else (some (x6, s)))
  else (gR s x0 [0] 2 fun r1 =>
  nn r1 fun p2 =>
  gR s p2 [2] 212 fun r3 =>
  nn r3 fun p4 =>
  (FJ2_get s p4 x3).bind fun r5 =>
  nn r5 fun p6 =>
  gd (isK s p6 [4, 5, 6, 16]) (
  bd2 (FX0_lives nf x0 p6 s) fun v8 s7 =>
  nm (x5 + v8) fun v9 =>
  nm (mx32 x6 v8) fun v10 =>
  k59 x0 x2 x3 x4 v9 v10 (x7 + 1) s7))
def FX0_nights_b59 (nf : Nat) (n : Nat) : Nat → Int32 → Int32 → Int32 → Int32 → Int32 → Int32 → CS → Option (Int32 × CS) := lpN (fun _ _ _ _ _ _ _ _ => none) (FX0_nights_b59_s nf) n
def FX0_nights (nf : Nat) (x0 : Nat) (x1 : Int32) (x2 : Int32) (x3 : Int32) (x4 : Int32) (s : CS) : Option (Int32 × CS) :=
  mz s (fun z => z.2) (
  gd (isK s x0 [0]) (
  (FX0_in s x1 0 9999).bind fun v1 =>
  if v1 = 0 then
  (some ((-1), s))
  else ((FX0_in s x2 1 30).bind fun v2 =>
  if v2 = 0 then
  (some ((-1), s))
  else ((FX0_in s x4 0 1).bind fun v3 =>
  if v3 = 0 then
  (some ((-1), s))
  else (bd2 (FX0_mean nf x0 x3 0 0 0 s) fun v5 s4 =>
  if 0 ≤ v5 then
  (pJ s4 x0 [0] 25 x1.toInt64 fun s6 =>
  FX0_nights_b59 nf nf x0 x2 x3 x4 0 0 0 s6)
  else (some ((-1), s4)))))))
/-! OverFirst.oddsBy(LOverFirst$Goer;IIIIII)I -/
def FX0_oddsBy_b91 (rc : Nat → Nat → Int32 → Int32 → Int32 → Int32 → Int32 → CS → Option (Int32 × CS)) (x5 : Int32) (x6 : Int32) (x11 : Int32) (s_0 : Int32) (s_1 : Int32) (s_2 : Nat) (s_3 : Nat) (s : CS) : Option (Int32 × CS) :=
  bd2 (rc s_3 s_2 s_1 s_0 x11 x5 x6 s) fun v2 s1 =>
  some (v2, s1)
def FX0_oddsBy_b79 (rc : Nat → Nat → Int32 → Int32 → Int32 → Int32 → Int32 → CS → Option (Int32 × CS)) (x3 : Int32) (x5 : Int32) (x6 : Int32) (x10 : Int32) (x11 : Int32) (s_0 : Int32) (s_1 : Nat) (s_2 : Nat) (s : CS) : Option (Int32 × CS) :=
  if x10 = 0 then
  (FX0_oddsBy_b91 rc x5 x6 x11 x3 s_0 s_1 s_2 s)
  else (FX0_oddsBy_b91 rc x5 x6 x11 (x3 + 1) s_0 s_1 s_2 s)
def FX0_oddsBy_b54 (rc : Nat → Nat → Int32 → Int32 → Int32 → Int32 → Int32 → CS → Option (Int32 × CS)) (x0 : Nat) (x1 : Nat) (x2 : Int32) (x3 : Int32) (x5 : Int32) (x6 : Int32) (x10 : Int32) (s_0 : Int32) (s_1 : Int32) (s : CS) : Option (Int32 × CS) :=
  gR s x0 [0] 2 fun r1 =>
  nn r1 fun p2 =>
  (FX2_walk s p2).bind fun v3 =>
  nm ((s_1 + s_0) + v3) fun v4 =>
  if x10 = 0 then
  (FX0_oddsBy_b79 rc x3 x5 x6 x10 v4 (x2 + 1) x1 x0 s)
  else (FX0_oddsBy_b79 rc x3 x5 x6 x10 v4 x2 x1 x0 s)
def FX0_oddsBy (rc : Nat → Nat → Int32 → Int32 → Int32 → Int32 → Int32 → CS → Option (Int32 × CS)) (x0 : Nat) (x1 : Nat) (x2 : Int32) (x3 : Int32) (x4 : Int32) (x5 : Int32) (x6 : Int32) (x7 : Int32) (s : CS) : Option (Int32 × CS) :=
  mz s (fun z => z.2) (
  gd (isK s x0 [0]) (
  (FX0_waits s x0 x2 x3 0 x7).bind fun v1 =>
  (FX0_waits s x0 x2 x3 1 x7).bind fun v2 =>
  bd2 (FX0_wayOf x0 x1 x2 x3 (x5 + x4) v1 v2 s) fun v4 s3 =>
  if v4 = 0 then
  (FX0_oddsBy_b54 rc x0 x1 x2 x3 x5 x6 v4 v1 x4 s3)
  else (FX0_oddsBy_b54 rc x0 x1 x2 x3 x5 x6 v4 v2 x4 s3)))
/-! OverFirst.oddsAt(LOverFirst$Goer;IIIII)I -/
def FX0_oddsAt_b76_s (nf : Nat) (rc : Nat → Nat → Int32 → Int32 → Int32 → Int32 → Int32 → CS → Option (Int32 × CS)) (k76 : Nat → Nat → Int32 → Int32 → Int32 → Int32 → Int32 → Int32 → Int64 → Int32 → CS → Option (Int32 × CS)) (x0 : Nat) (x1 : Nat) (x2 : Int32) (x3 : Int32) (x4 : Int32) (x5 : Int32) (x6 : Int32) (x8 : Int32) (x9 : Int64) (x11 : Int32) (s : CS) : Option (Int32 × CS) :=
  (FX0_lightAt s x0 x2 x3).bind fun r1 =>
  nn r1 fun p2 =>
  gI s p2 [12, 13, 14, 15] 1100 fun v3 =>
  if v3 ≤ x11 then
  (gR s x0 [0] 14 fun r4 =>
  (FX0_lightAt s x0 x2 x3).bind fun r5 =>
  nn r5 fun p6 =>
  gI s p6 [12, 13, 14, 15] 1100 fun v7 =>
  d64 v7.toInt64 (
  nn r4 fun p8 =>
  tI_ s p8 100 x8 ((x9 / v7.toInt64).toInt32) fun s9 =>
  gR s9 x0 [0] 14 fun r10 =>
  nn r10 fun p11 =>
  lI s9 p11 100 x8 fun v12 =>
  some (v12, s9)))
  else (bd2 (FX0_oddsBy rc x0 x1 x2 x3 x4 x5 x6 x11 s) fun v14 s13 =>
  nm (x9 + v14.toInt64) fun v15 =>
  k76 x0 x1 x2 x3 x4 x5 x6 x8 v15 (x11 + 1) s13)
def FX0_oddsAt_b76 (nf : Nat) (rc : Nat → Nat → Int32 → Int32 → Int32 → Int32 → Int32 → CS → Option (Int32 × CS)) (n : Nat) : Nat → Nat → Int32 → Int32 → Int32 → Int32 → Int32 → Int32 → Int64 → Int32 → CS → Option (Int32 × CS) := lpN (fun _ _ _ _ _ _ _ _ _ _ _ => none) (FX0_oddsAt_b76_s nf rc) n
def FX0_oddsAt_s (nf : Nat) (rc : Nat → Nat → Int32 → Int32 → Int32 → Int32 → Int32 → CS → Option (Int32 × CS)) (x0 : Nat) (x1 : Nat) (x2 : Int32) (x3 : Int32) (x4 : Int32) (x5 : Int32) (x6 : Int32) (s : CS) : Option (Int32 × CS) :=
  mz s (fun z => z.2) (
  gd (isK s x0 [0]) (
  if (x5 + x4) ≤ x6 then
  ((FX0_isHome s x0 x2 x3).bind fun v1 =>
  if v1 = 0 then
  (nm ((x3 * 6) + x2) fun v2 =>
  nm ((v2 * 1171) + x4) fun v3 =>
  gR s x0 [0] 14 fun r4 =>
  nn r4 fun p5 =>
  lI s p5 100 v3 fun v6 =>
  if v6 < 0 then
  ((FX0_isUnknown s x0 v2).bind fun v7 =>
  if v7 = 0 then
  (gR s x0 [0] 14 fun r8 =>
  bd2 (FX0_oddsBy rc x0 x1 x2 x3 x4 x5 x6 (x5 + x4) s) fun v10 s9 =>
  nn r8 fun p11 =>
  tI_ s9 p11 100 v3 v10 fun s12 =>
  gR s12 x0 [0] 14 fun r13 =>
  nn r13 fun p14 =>
  lI s12 p14 100 v3 fun v15 =>
  some (v15, s12))
  else (FX0_oddsAt_b76 nf rc nf x0 x1 x2 x3 x4 x5 x6 v3 0 0 s))
  else (gR s x0 [0] 14 fun r16 =>
  nn r16 fun p17 =>
  lI s p17 100 v3 fun v18 =>
  some (v18, s)))
  else (some (1000000, s)))
  else (some (0, s))))
def FX0_oddsAt (nf : Nat) (dp : Nat) : Nat → Nat → Int32 → Int32 → Int32 → Int32 → Int32 → CS → Option (Int32 × CS) := lpN (fun _ _ _ _ _ _ _ _ => none) (fun rc => FX0_oddsAt_s nf rc) dp
/-! OverFirst.odds(III)I -/
def FX0_odds_b23_s (nf : Nat) (k23 : Nat → Int32 → Int32 → Int32 → Int32 → CS → Option (Int32 × CS)) (x0 : Nat) (x1 : Int32) (x2 : Int32) (x3 : Int32) (x4 : Int32) (s : CS) : Option (Int32 × CS) :=
  gR s x0 [0] 14 fun r1 =>
  nn r1 fun p2 =>
  aLn s p2 fun v3 =>
  if v3 ≤ x4 then
  (gR s x0 [0] 2 fun r4 =>
  nn r4 fun p5 =>
  gR s p5 [2] 212 fun r6 =>
  nn r6 fun p7 =>
  (FJ2_get s p7 x1).bind fun r8 =>
  nn r8 fun p9 =>
  gd (isK s p9 [4, 5, 6, 16]) (
  bd2 (FX0_oddsAt nf 20 x0 p9 0 0 0 x2 x3 s) fun v11 s10 =>
  some (v11, s10)))
  else (gR s x0 [0] 14 fun r12 =>
  nn r12 fun p13 =>
  tI_ s p13 100 x4 (-1) fun s14 =>
  k23 x0 x1 x2 x3 (x4 + 1) s14)
def FX0_odds_b23 (nf : Nat) (n : Nat) : Nat → Int32 → Int32 → Int32 → Int32 → CS → Option (Int32 × CS) := lpN (fun _ _ _ _ _ _ => none) (FX0_odds_b23_s nf) n
def FX0_odds (nf : Nat) (x0 : Nat) (x1 : Int32) (x2 : Int32) (x3 : Int32) (s : CS) : Option (Int32 × CS) :=
  mz s (fun z => z.2) (
  gd (isK s x0 [0]) (
  (FX0_isSecond s x3).bind fun v1 =>
  if v1 = 0 then
  (some ((-1), s))
  else (bd2 (FX0_mean nf x0 x1 0 0 x2 s) fun v3 s2 =>
  if 0 ≤ v3 then
  (FX0_odds_b23 nf nf x0 x1 x2 x3 0 s2)
  else (some ((-1), s2)))))
/-! OverFirst.paceAt(III)I -/
def FX0_paceAt (s : CS) (x0 : Nat) (x1 : Int32) (x2 : Int32) (x3 : Int32) : Option Int32 :=
  gd (isK s x0 [0]) (
  some ((((x1 * 10) + x2) * 1171) + x3))
/-! OverFirst.onAt(IIII)I -/
def FX0_onAt_b19 (s : CS) (x0 : Nat) (x1 : Int32) (x3 : Int32) (x4 : Int32) (s_0 : Int32) : Option Int32 :=
  gR s x0 [0] 2 fun r1 =>
  nn r1 fun p2 =>
  (FX2_runs s p2).bind fun v3 =>
  if s_0 ≤ v3 then
  (gR s x0 [0] 15 fun r4 =>
  (FX0_paceAt s x0 (x1 + 1) s_0 (x3 + x4)).bind fun v5 =>
  nn r4 fun p6 =>
  lI s p6 100 v5 fun v7 =>
  some v7)
  else (some 100000000)
def FX0_onAt (s : CS) (x0 : Nat) (x1 : Int32) (x2 : Int32) (x3 : Int32) (x4 : Int32) : Option Int32 :=
  gd (isK s x0 [0]) (
  gR s x0 [0] 2 fun r1 =>
  nn r1 fun p2 =>
  (FX2_walk s p2).bind fun v3 =>
  if v3 ≤ x4 then
  (FX0_onAt_b19 s x0 x1 x3 x4 x2)
  else (FX0_onAt_b19 s x0 x1 x3 x4 (x2 + 1)))
/-! OverFirst.slow()I -/
def FX0_slow (s : CS) (x0 : Nat) : Option Int32 :=
  gd (isK s x0 [0]) (
  gR s x0 [0] 2 fun r1 =>
  nn r1 fun p2 =>
  (FX2_run s p2).bind fun v3 =>
  gR s x0 [0] 2 fun r4 =>
  nn r4 fun p5 =>
  (FX2_slow s p5).bind fun v6 =>
  if v3 ≤ v6 then
  (gR s x0 [0] 2 fun r7 =>
  nn r7 fun p8 =>
  (FX2_slow s p8).bind fun v9 =>
  some v9)
  else (gR s x0 [0] 2 fun r10 =>
  nn r10 fun p11 =>
  (FX2_walk s p11).bind fun v12 =>
  some v12))
/-! OverFirst.xOf(I)I -/
def FX0_xOf_b4_s (nf : Nat) (s : CS) (k4 : Nat → Int32 → Int32 → Int32 → Option Int32) (x0 : Nat) (x1 : Int32) (x2 : Int32) (x3 : Int32) : Option Int32 :=
  if x1 ≤ x3 then
  (some x2)
  else (gR s x0 [0] 3 fun r1 =>
  nn r1 fun p2 =>
  gR s p2 [7] 700 fun r3 =>
  nn r3 fun p4 =>
  lI s p4 100 x3 fun v5 =>
  if v5 = 0 then
  (k4 x0 x1 (x2 + 1) (x3 + 1))
  else (k4 x0 x1 x2 (x3 + 1)))
def FX0_xOf_b4 (nf : Nat) (s : CS) (n : Nat) : Nat → Int32 → Int32 → Int32 → Option Int32 := lpN (fun _ _ _ _ => none) (FX0_xOf_b4_s nf s) n
def FX0_xOf (nf : Nat) (s : CS) (x0 : Nat) (x1 : Int32) : Option Int32 :=
  gd (isK s x0 [0]) (
  FX0_xOf_b4 nf s nf x0 x1 0 0)
/-! OverFirst.worked(IIII)I -/
def FX0_worked_b52_s (nf : Nat) (s : CS) (k52 : Nat → Int32 → Int32 → Int32 → Int32 → Int32 → Int32 → Option Int32) (x0 : Nat) (x1 : Int32) (x2 : Int32) (x3 : Int32) (x6 : Int32) (x7 : Int32) (x8 : Int32) : Option Int32 :=
  (FX0_slow s x0).bind fun v1 =>
  if v1 < x8 then
  (if x7 = 100000000 then
  (some 100000000)
  else (if x6 ≤ 0 then
  (some (x7 + 0))
  else (some (x7 + 100000))))
  else ((FX0_onAt s x0 x1 x2 (x3 + x6) x8).bind fun v2 =>
  nm (mn32 x7 v2) fun v3 =>
  k52 x0 x1 x2 x3 x6 v3 (x8 + 1))
def FX0_worked_b52 (nf : Nat) (s : CS) (n : Nat) : Nat → Int32 → Int32 → Int32 → Int32 → Int32 → Int32 → Option Int32 := lpN (fun _ _ _ _ _ _ _ => none) (FX0_worked_b52_s nf s) n
def FX0_worked (nf : Nat) (s : CS) (x0 : Nat) (x1 : Int32) (x2 : Int32) (x3 : Int32) (x4 : Int32) : Option Int32 :=
  gd (isK s x0 [0]) (
  (FX0_xOf nf s x0 x1).bind fun v1 =>
  gR s x0 [0] 3 fun r2 =>
  nn r2 fun p3 =>
  gR s p3 [7] 700 fun r4 =>
  nn r4 fun p5 =>
  lI s p5 100 x1 fun v6 =>
  (FX0_waits s x0 v1 (x1 - v1) v6 (x4 + x3)).bind fun v7 =>
  if 0 ≤ v7 then
  ((FX0_fast s x0).bind fun v8 =>
  FX0_worked_b52 nf s nf x0 x1 x2 x3 v7 100000000 v8)
  else (some 100000000))
/-! OverFirst.works(I)V -/
def FX0_works_b28_s (nf : Nat) (k8 : Nat → Int32 → Int32 → CS → Option CS) (k14 : Nat → Int32 → Int32 → Int32 → CS → Option CS) (k28 : Nat → Int32 → Int32 → Int32 → Int32 → CS → Option CS) (x0 : Nat) (x1 : Int32) (x2 : Int32) (x3 : Int32) (x4 : Int32) (s : CS) : Option CS :=
  if (x2 * 90) < x4 then
  (k14 x0 x1 x2 (x3 + 1) s)
  else (gR s x0 [0] 15 fun r1 =>
  (FX0_paceAt s x0 x2 x3 x4).bind fun v2 =>
  gR s x0 [0] 3 fun r3 =>
  nn r3 fun p4 =>
  gI s p4 [7] 702 fun v5 =>
  if x2 = v5 then
  (nn r1 fun p9 =>
  tI_ s p9 100 v2 x4 fun s10 =>
  k28 x0 x1 x2 x3 (x4 + 1) s10)
  else ((FX0_worked nf s x0 x2 x3 x4 x1).bind fun v6 =>
  nn r1 fun p7 =>
  tI_ s p7 100 v2 v6 fun s8 =>
  k28 x0 x1 x2 x3 (x4 + 1) s8))
def FX0_works_b28 (nf : Nat) (k8 : Nat → Int32 → Int32 → CS → Option CS) (k14 : Nat → Int32 → Int32 → Int32 → CS → Option CS) (n : Nat) : Nat → Int32 → Int32 → Int32 → Int32 → CS → Option CS := lpN (fun _ _ _ _ _ _ => none) (FX0_works_b28_s nf k8 k14) n
def FX0_works_b14_s (nf : Nat) (k8 : Nat → Int32 → Int32 → CS → Option CS) (k14 : Nat → Int32 → Int32 → Int32 → CS → Option CS) (x0 : Nat) (x1 : Int32) (x2 : Int32) (x3 : Int32) (s : CS) : Option CS :=
  gR s x0 [0] 2 fun r1 =>
  nn r1 fun p2 =>
  (FX2_runs s p2).bind fun v3 =>
  if v3 < x3 then
  (k8 x0 x1 (x2 + (-1)) s)
  else (FX0_works_b28 nf k8 k14 nf x0 x1 x2 x3 0 s)
def FX0_works_b14 (nf : Nat) (k8 : Nat → Int32 → Int32 → CS → Option CS) (n : Nat) : Nat → Int32 → Int32 → Int32 → CS → Option CS := lpN (fun _ _ _ _ _ => none) (FX0_works_b14_s nf k8) n
def FX0_works_b8_s (nf : Nat) (k8 : Nat → Int32 → Int32 → CS → Option CS) (x0 : Nat) (x1 : Int32) (x2 : Int32) (s : CS) : Option CS :=
  if x2 < 0 then
  (some s)
  else (FX0_works_b14 nf k8 nf x0 x1 x2 0 s)
def FX0_works_b8 (nf : Nat) (n : Nat) : Nat → Int32 → Int32 → CS → Option CS := lpN (fun _ _ _ _ => none) (FX0_works_b8_s nf) n
def FX0_works (nf : Nat) (x0 : Nat) (x1 : Int32) (s : CS) : Option CS :=
  mz s (fun z => z) (
  gd (isK s x0 [0]) (
  gR s x0 [0] 3 fun r1 =>
  nn r1 fun p2 =>
  gI s p2 [7] 702 fun v3 =>
  FX0_works_b8 nf nf x0 x1 v3 s))
/-! OverFirst.pace(II)I -/
def FX0_pace_b220 (nf : Nat) (k100 : Nat → Int32 → Int32 → Int32 → Int32 → Int32 → Int32 → CS → Option (Int32 × CS)) (x0 : Nat) (x1 : Int32) (x2 : Int32) (x4 : Int32) (x5 : Int32) (x6 : Int32) (x7 : Int32) (x9 : Int32) (s : CS) : Option (Int32 × CS) :=
  nm (x5 + (x9 + x6)) fun v1 =>
  k100 x0 x1 x2 x4 v1 x6 (x7 + 1) s
def FX0_pace_b179_s (nf : Nat) (k100 : Nat → Int32 → Int32 → Int32 → Int32 → Int32 → Int32 → CS → Option (Int32 × CS)) (k179 : Nat → Int32 → Int32 → Int32 → Int32 → Int32 → Int32 → Int32 → Int32 → CS → Option (Int32 × CS)) (x0 : Nat) (x1 : Int32) (x2 : Int32) (x4 : Int32) (x5 : Int32) (x6 : Int32) (x7 : Int32) (x9 : Int32) (x10 : Int32) (s : CS) : Option (Int32 × CS) :=
  (FX0_onAt s x0 x7 x4 (x5 + x9) x6).bind fun v1 =>
  if v1 = x10 then
  (gR s x0 [0] 2 fun r2 =>
  nn r2 fun p3 =>
  (FX2_walk s p3).bind fun v4 =>
  if v4 ≤ x6 then
  (FX0_pace_b220 nf k100 x0 x1 x2 x4 x5 x6 x7 x9 s)
  else (FX0_pace_b220 nf k100 x0 x1 x2 (x4 + 1) x5 x6 x7 x9 s))
  else (k179 x0 x1 x2 x4 x5 (x6 + 1) x7 x9 x10 s)
def FX0_pace_b179 (nf : Nat) (k100 : Nat → Int32 → Int32 → Int32 → Int32 → Int32 → Int32 → CS → Option (Int32 × CS)) (n : Nat) : Nat → Int32 → Int32 → Int32 → Int32 → Int32 → Int32 → Int32 → Int32 → CS → Option (Int32 × CS) := lpN (fun _ _ _ _ _ _ _ _ _ _ => none) (FX0_pace_b179_s nf k100) n
def FX0_pace_b170 (nf : Nat) (k100 : Nat → Int32 → Int32 → Int32 → Int32 → Int32 → Int32 → CS → Option (Int32 × CS)) (x0 : Nat) (x1 : Int32) (x2 : Int32) (x4 : Int32) (x5 : Int32) (x7 : Int32) (x9 : Int32) (s_0 : Int32) (s_1 : Int32) (s : CS) : Option (Int32 × CS) :=
  nm (s_1 - s_0) fun v1 =>
  (FX0_fast s x0).bind fun v2 =>
  FX0_pace_b179 nf k100 nf x0 x1 x2 x4 x5 v2 x7 x9 v1 s
def FX0_pace_b100_s (nf : Nat) (k100 : Nat → Int32 → Int32 → Int32 → Int32 → Int32 → Int32 → CS → Option (Int32 × CS)) (x0 : Nat) (x1 : Int32) (x2 : Int32) (x4 : Int32) (x5 : Int32) (x6 : Int32) (x7 : Int32) (s : CS) : Option (Int32 × CS) :=
  if (x2 - 2) < x7 then
  (some (x6, s))
  else ((FX0_xOf nf s x0 x7).bind fun v1 =>
  gR s x0 [0] 3 fun r2 =>
  nn r2 fun p3 =>
  gR s p3 [7] 700 fun r4 =>
  nn r4 fun p5 =>
  lI s p5 100 x7 fun v6 =>
  (FX0_waits s x0 v1 (x7 - v1) v6 (x1 + x5)).bind fun v7 =>
  gR s x0 [0] 15 fun r8 =>
  (FX0_paceAt s x0 x7 x4 x5).bind fun v9 =>
  nn r8 fun p10 =>
  lI s p10 100 v9 fun v11 =>
  if v7 ≤ 0 then
  (FX0_pace_b170 nf k100 x0 x1 x2 x4 x5 x7 v7 0 v11 s)
  else (FX0_pace_b170 nf k100 x0 x1 x2 x4 x5 x7 v7 100000 v11 s))
def FX0_pace_b100 (nf : Nat) (n : Nat) : Nat → Int32 → Int32 → Int32 → Int32 → Int32 → Int32 → CS → Option (Int32 × CS) := lpN (fun _ _ _ _ _ _ _ _ => none) (FX0_pace_b100_s nf) n
def FX0_pace (nf : Nat) (x0 : Nat) (x1 : Int32) (x2 : Int32) (s : CS) : Option (Int32 × CS) :=
  mz s (fun z => z.2) (
  gd (isK s x0 [0]) (
  (FX0_isSecond s x1).bind fun v1 =>
  if v1 = 0 then
  (some ((-1), s))
  else (gR s x0 [0] 3 fun r2 =>
  nn r2 fun p3 =>
  gI s p3 [7] 702 fun v4 =>
  if v4 = 0 then
  (some ((-1), s))
  else (gR s x0 [0] 3 fun r5 =>
  nn r5 fun p6 =>
  gI s p6 [7] 702 fun v7 =>
  (FX0_in s x2 0 (1 + v7)).bind fun v8 =>
  if v8 = 0 then
  (some ((-1), s))
  else ((FX0_works nf x0 x1 s).bind fun s9 =>
  gR s9 x0 [0] 15 fun r10 =>
  (FX0_paceAt s9 x0 0 0 0).bind fun v11 =>
  nn r10 fun p12 =>
  lI s9 p12 100 v11 fun v13 =>
  if v13 = 100000000 then
  (some ((-1), s9))
  else (if 2 ≤ x2 then
  (FX0_pace_b100 nf nf x0 x1 x2 0 0 0 0 s9)
  else (if x2 = 0 then
  (some (v13 / 100000, s9))
  else (some (x1 + (rem32 v13 100000), s9)))))))))
/-! OverFirst.reads()V -/
def FX0_reads (st : Nat → Option Nat) (nf : Nat) (x0 : Nat) (s : CS) : Option CS :=
  mz s (fun z => z) (
  gd (isK s x0 [0]) (
  gR s x0 [0] 1 fun r1 =>
  gR s x0 [0] 0 fun r2 =>
  gI s x0 [0] 5 fun v3 =>
  nn r1 fun p4 =>
  nn r2 fun p5 =>
  (FX1_begin st nf p4 p5 v3 s).bind fun s6 =>
  pI s6 x0 [0] 5 0 fun s7 =>
  some s7))
/-! OverFirst.rules()I -/
def FX0_rules_b6_s (nf : Nat) (k6 : Nat → Int32 → Int32 → Int32 → CS → Option (Int32 × CS)) (x0 : Nat) (x1 : Int32) (x2 : Int32) (x3 : Int32) (s : CS) : Option (Int32 × CS) :=
  gR s x0 [0] 2 fun r1 =>
  nn r1 fun p2 =>
  gR s p2 [2] 211 fun r3 =>
  nn r3 fun p4 =>
  (FJ2_size s p4).bind fun v5 =>
  if v5 ≤ x3 then
  (some (x1, s))
  else (bd2 (FX0_mean nf x0 (4 + x3) 0 0 0 s) fun v7 s6 =>
  if v7 < 0 then
  (k6 x0 x1 x2 (x3 + 1) s6)
  else (if x1 < 0 then
  (k6 x0 x3 v7 (x3 + 1) s6)
  else (if v7 < x2 then
  (k6 x0 x3 v7 (x3 + 1) s6)
  else (k6 x0 x1 x2 (x3 + 1) s6))))
def FX0_rules_b6 (nf : Nat) (n : Nat) : Nat → Int32 → Int32 → Int32 → CS → Option (Int32 × CS) := lpN (fun _ _ _ _ _ => none) (FX0_rules_b6_s nf) n
def FX0_rules (nf : Nat) (x0 : Nat) (s : CS) : Option (Int32 × CS) :=
  mz s (fun z => z.2) (
  gd (isK s x0 [0]) (
  FX0_rules_b6 nf nf x0 (-1) 0 0 s))
/-! OverFirst.stay(I)I -/
def FX0_stay (nf : Nat) (x0 : Nat) (x1 : Int32) (s : CS) : Option (Int32 × CS) :=
  mz s (fun z => z.2) (
  gd (isK s x0 [0]) (
  (FX0_in s x1 1 1000).bind fun v1 =>
  if v1 = 0 then
  (some ((-1), s))
  else ((FX0_keeps nf x0 s).bind fun s2 =>
  gR s2 x0 [0] 4 fun r3 =>
  nn r3 fun p4 =>
  gI s2 p4 [8] 802 fun v5 =>
  pI s2 p4 [8] 802 (v5 + x1) fun s6 =>
  gR s6 x0 [0] 4 fun r7 =>
  nn r7 fun p8 =>
  gI s6 p8 [8] 802 fun v9 =>
  some (v9, s6))))
/-! OverFirst.town()I -/
def FX0_town_b49_s (st : Nat → Option Nat) (nf : Nat) (k49 : Nat → Int32 → CS → Option (Int32 × CS)) (x0 : Nat) (x1 : Int32) (s : CS) : Option (Int32 × CS) :=
  if 4 ≤ x1 then
  (some (0, s))
  else (gR s x0 [0] 27 fun r1 =>
  nn r1 fun p2 =>
  tR_ s p2 105 x1 none fun s3 =>
  k49 x0 (x1 + 1) s3)
def FX0_town_b49 (st : Nat → Option Nat) (nf : Nat) (n : Nat) : Nat → Int32 → CS → Option (Int32 × CS) := lpN (fun _ _ _ => none) (FX0_town_b49_s st nf) n
def FX0_town (st : Nat → Option Nat) (nf : Nat) (x0 : Nat) (s : CS) : Option (Int32 × CS) :=
  mz s (fun z => z.2) (
  gd (isK s x0 [0]) (
  (FX0_reads st nf x0 s).bind fun s1 =>
  gR s1 x0 [0] 1 fun r2 =>
  nn r2 fun p3 =>
  thrH (FX1_town st nf p3 s1) (fun q6 s7 =>
  gI s7 q6 [10] 1000 fun v8 =>
  some (v8, s7)) fun r5 s4 =>
  pR s4 x0 [0] 2 r5 fun s9 =>
  nwO s9 7 3 fun o10 s11 =>
  (FX7_init o10 s11).bind fun s12 =>
  pR s12 x0 [0] 3 (some o10) fun s13 =>
  gR s13 x0 [0] 4 fun r14 =>
  nn r14 fun p15 =>
  (FX8_begin nf p15 s13).bind fun s16 =>
  pI s16 x0 [0] 7 0 fun s17 =>
  FX0_town_b49 st nf nf x0 0 s17))
/-! OverFirst.tried(IIZI)Z -/
def FX0_tried (x0 : Nat) (x1 : Int32) (x2 : Int32) (x3 : Int32) (x4 : Int32) (s : CS) : Option (Int32 × CS) :=
  mz s (fun z => z.2) (
  gd (isK s x0 [0]) (
  (FX0_isButton s x0 x1 x2).bind fun v1 =>
  if v1 = 0 then
  (some (0, s))
  else ((FX0_in s x4 0 59).bind fun v2 =>
  if v2 = 0 then
  (some (0, s))
  else (gR s x0 [0] 4 fun r3 =>
  nn r3 fun p4 =>
  gI s p4 [8] 804 fun v5 =>
  if v5 = 10 then
  (some (0, s))
  else (gR s x0 [0] 4 fun r6 =>
  nn r6 fun p7 =>
  gR s p7 [8] 808 fun r8 =>
  gR s x0 [0] 4 fun r9 =>
  nn r9 fun p10 =>
  gI s p10 [8] 804 fun v11 =>
  nn r8 fun p12 =>
  tI_ s p12 100 v11 ((x2 * 6) + x1) fun s13 =>
  gR s13 x0 [0] 4 fun r14 =>
  nn r14 fun p15 =>
  gR s13 p15 [8] 807 fun r16 =>
  gR s13 x0 [0] 4 fun r17 =>
  nn r17 fun p18 =>
  gI s13 p18 [8] 804 fun v19 =>
  nn r16 fun p20 =>
  gd (isb x3) (tI_ s13 p20 102 v19 x3 fun s21 =>
  gR s21 x0 [0] 4 fun r22 =>
  nn r22 fun p23 =>
  gR s21 p23 [8] 809 fun r24 =>
  gR s21 x0 [0] 4 fun r25 =>
  nn r25 fun p26 =>
  gI s21 p26 [8] 804 fun v27 =>
  pI s21 p26 [8] 804 (v27 + 1) fun s28 =>
  nn r24 fun p29 =>
  tI_ s28 p29 100 v27 x4 fun s30 =>
  some (1, s30)))))))
/-! OverFirst.turnsOn(IIIII)V -/
def FX0_turnsOn_b40 (x0 : Nat) (x3 : Int32) (x4 : Int32) (x5 : Int32) (x6 : Int32) (s_0 : Int32) (s_1 : Int32) (s_2 : Nat) (s : CS) : Option CS :=
  (FX0_comesAt s s_2 s_1 s_0 x3 x5).bind fun v1 =>
  gR s x0 [0] 13 fun r2 =>
  gR s x0 [0] 13 fun r3 =>
  nn r3 fun p4 =>
  lI s p4 100 v1 fun v5 =>
  gR s x0 [0] 2 fun r6 =>
  nn r6 fun p7 =>
  (FX2_walk s p7).bind fun v8 =>
  nn r2 fun p9 =>
  tI_ s p9 100 v1 (mn32 v5 ((x4 + x6) + v8)) fun s10 =>
  some s10
def FX0_turnsOn_b29 (x0 : Nat) (x2 : Int32) (x3 : Int32) (x4 : Int32) (x5 : Int32) (x6 : Int32) (s_0 : Int32) (s_1 : Nat) (s : CS) : Option CS :=
  if x3 = 0 then
  (FX0_turnsOn_b40 x0 x3 x4 x5 x6 x2 s_0 s_1 s)
  else (FX0_turnsOn_b40 x0 x3 x4 x5 x6 (x2 + 1) s_0 s_1 s)
def FX0_turnsOn (x0 : Nat) (x1 : Int32) (x2 : Int32) (x3 : Int32) (x4 : Int32) (x5 : Int32) (s : CS) : Option CS :=
  mz s (fun z => z) (
  gd (isK s x0 [0]) (
  (FX0_waits s x0 x1 x2 x3 x4).bind fun v1 =>
  if 0 ≤ v1 then
  (if x3 = 0 then
  (FX0_turnsOn_b29 x0 x2 x3 x4 x5 v1 (x1 + 1) x0 s)
  else (FX0_turnsOn_b29 x0 x2 x3 x4 x5 v1 x1 x0 s))
  else (some s)))
/-! OverFirst.turnsFrom(III)V -/
def FX0_turnsFrom_b12_s (nf : Nat) (k3 : Nat → Int32 → Int32 → Int32 → Int32 → CS → Option CS) (k12 : Nat → Int32 → Int32 → Int32 → Int32 → Int32 → CS → Option CS) (x0 : Nat) (x1 : Int32) (x2 : Int32) (x3 : Int32) (x4 : Int32) (x5 : Int32) (s : CS) : Option CS :=
  if x3 < x5 then
  (k3 x0 x1 x2 x3 (x4 + 1) s)
  else (gR s x0 [0] 13 fun r1 =>
  (FX0_comesAt s x0 x1 x2 x4 x5).bind fun v2 =>
  nn r1 fun p3 =>
  lI s p3 100 v2 fun v4 =>
  if v4 = 2147483647 then
  (k12 x0 x1 x2 x3 x4 (x5 + 1) s)
  else ((FX0_turnsOn x0 x1 x2 x4 v4 x5 s).bind fun s5 =>
  if x3 ≤ x5 then
  (k12 x0 x1 x2 x3 x4 (x5 + 1) s5)
  else ((FX0_turnsOn x0 x1 x2 (1 - x4) v4 (x5 + 1) s5).bind fun s6 =>
  k12 x0 x1 x2 x3 x4 (x5 + 1) s6)))
def FX0_turnsFrom_b12 (nf : Nat) (k3 : Nat → Int32 → Int32 → Int32 → Int32 → CS → Option CS) (n : Nat) : Nat → Int32 → Int32 → Int32 → Int32 → Int32 → CS → Option CS := lpN (fun _ _ _ _ _ _ _ => none) (FX0_turnsFrom_b12_s nf k3) n
def FX0_turnsFrom_b3_s (nf : Nat) (k3 : Nat → Int32 → Int32 → Int32 → Int32 → CS → Option CS) (x0 : Nat) (x1 : Int32) (x2 : Int32) (x3 : Int32) (x4 : Int32) (s : CS) : Option CS :=
  if 1 < x4 then
  (some s)
  else (FX0_turnsFrom_b12 nf k3 nf x0 x1 x2 x3 x4 0 s)
def FX0_turnsFrom_b3 (nf : Nat) (n : Nat) : Nat → Int32 → Int32 → Int32 → Int32 → CS → Option CS := lpN (fun _ _ _ _ _ _ => none) (FX0_turnsFrom_b3_s nf) n
def FX0_turnsFrom (nf : Nat) (x0 : Nat) (x1 : Int32) (x2 : Int32) (x3 : Int32) (s : CS) : Option CS :=
  mz s (fun z => z) (
  gd (isK s x0 [0]) (
  FX0_turnsFrom_b3 nf nf x0 x1 x2 x3 0 s))
/-! OverFirst.turning(II)I -/
def FX0_turning_b138_s (nf : Nat) (k129 : Nat → Int32 → Int32 → Int32 → CS → Option (Int32 × CS)) (k138 : Nat → Int32 → Int32 → Int32 → Int32 → CS → Option (Int32 × CS)) (x0 : Nat) (x2 : Int32) (x3 : Int32) (x4 : Int32) (x5 : Int32) (s : CS) : Option (Int32 × CS) :=
  if x2 < x5 then
  (k129 x0 x2 x3 (x4 + 1) s)
  else (gR s x0 [0] 13 fun r1 =>
  gR s x0 [0] 2 fun r2 =>
  nn r2 fun p3 =>
  gI s p3 [2] 200 fun v4 =>
  gR s x0 [0] 2 fun r5 =>
  nn r5 fun p6 =>
  gI s p6 [2] 201 fun v7 =>
  (FX0_comesAt s x0 (v4 - 1) (v7 - 1) x4 x5).bind fun v8 =>
  nn r1 fun p9 =>
  lI s p9 100 v8 fun v10 =>
  nm (mn32 x3 v10) fun v11 =>
  k138 x0 x2 v11 x4 (x5 + 1) s)
def FX0_turning_b138 (nf : Nat) (k129 : Nat → Int32 → Int32 → Int32 → CS → Option (Int32 × CS)) (n : Nat) : Nat → Int32 → Int32 → Int32 → Int32 → CS → Option (Int32 × CS) := lpN (fun _ _ _ _ _ _ => none) (FX0_turning_b138_s nf k129) n
def FX0_turning_b129_s (nf : Nat) (k129 : Nat → Int32 → Int32 → Int32 → CS → Option (Int32 × CS)) (x0 : Nat) (x2 : Int32) (x3 : Int32) (x4 : Int32) (s : CS) : Option (Int32 × CS) :=
  if 1 < x4 then
  (if x3 = 2147483647 then
  (some ((-1), s))
  else (some (x3, s)))
  else (FX0_turning_b138 nf k129 nf x0 x2 x3 x4 0 s)
def FX0_turning_b129 (nf : Nat) (n : Nat) : Nat → Int32 → Int32 → Int32 → CS → Option (Int32 × CS) := lpN (fun _ _ _ _ _ => none) (FX0_turning_b129_s nf) n
def FX0_turning_b90_s (nf : Nat) (k76 : Nat → Int32 → Int32 → CS → Option (Int32 × CS)) (k90 : Nat → Int32 → Int32 → Int32 → CS → Option (Int32 × CS)) (x0 : Nat) (x2 : Int32) (x3 : Int32) (x4 : Int32) (s : CS) : Option (Int32 × CS) :=
  gR s x0 [0] 2 fun r1 =>
  nn r1 fun p2 =>
  gI s p2 [2] 200 fun v3 =>
  if v3 ≤ x4 then
  (k76 x0 x2 (x3 + 1) s)
  else ((FX0_turnsFrom nf x0 x4 x3 x2 s).bind fun s4 =>
  k90 x0 x2 x3 (x4 + 1) s4)
def FX0_turning_b90 (nf : Nat) (k76 : Nat → Int32 → Int32 → CS → Option (Int32 × CS)) (n : Nat) : Nat → Int32 → Int32 → Int32 → CS → Option (Int32 × CS) := lpN (fun _ _ _ _ _ => none) (FX0_turning_b90_s nf k76) n
def FX0_turning_b76_s (nf : Nat) (k76 : Nat → Int32 → Int32 → CS → Option (Int32 × CS)) (x0 : Nat) (x2 : Int32) (x3 : Int32) (s : CS) : Option (Int32 × CS) :=
  gR s x0 [0] 2 fun r1 =>
  nn r1 fun p2 =>
  gI s p2 [2] 201 fun v3 =>
  if v3 ≤ x3 then
  (FX0_turning_b129 nf nf x0 x2 2147483647 0 s)
  else (FX0_turning_b90 nf k76 nf x0 x2 x3 0 s)
def FX0_turning_b76 (nf : Nat) (n : Nat) : Nat → Int32 → Int32 → CS → Option (Int32 × CS) := lpN (fun _ _ _ _ => none) (FX0_turning_b76_s nf) n
def FX0_turning_b32_s (nf : Nat) (k32 : Nat → Int32 → Int32 → Int32 → CS → Option (Int32 × CS)) (x0 : Nat) (x1 : Int32) (x2 : Int32) (x3 : Int32) (s : CS) : Option (Int32 × CS) :=
  gR s x0 [0] 13 fun r1 =>
  nn r1 fun p2 =>
  aLn s p2 fun v3 =>
  if v3 ≤ x3 then
  ((FX0_turnsOn x0 0 0 0 x1 0 s).bind fun s4 =>
  (FX0_turnsOn x0 0 0 1 x1 0 s4).bind fun s5 =>
  FX0_turning_b76 nf nf x0 x2 0 s5)
  else (gR s x0 [0] 13 fun r6 =>
  nn r6 fun p7 =>
  tI_ s p7 100 x3 2147483647 fun s8 =>
  k32 x0 x1 x2 (x3 + 1) s8)
def FX0_turning_b32 (nf : Nat) (n : Nat) : Nat → Int32 → Int32 → Int32 → CS → Option (Int32 × CS) := lpN (fun _ _ _ _ _ => none) (FX0_turning_b32_s nf) n
def FX0_turning (nf : Nat) (x0 : Nat) (x1 : Int32) (x2 : Int32) (s : CS) : Option (Int32 × CS) :=
  mz s (fun z => z.2) (
  gd (isK s x0 [0]) (
  (FX0_isSecond s x1).bind fun v1 =>
  if v1 = 0 then
  (some ((-1), s))
  else ((FX0_in s x2 0 12).bind fun v2 =>
  if v2 = 0 then
  (some ((-1), s))
  else ((FX0_isHome s x0 0 0).bind fun v3 =>
  if v3 = 0 then
  (FX0_turning_b32 nf nf x0 x1 x2 0 s)
  else (some (x1, s))))))
/-! OverFirst.undo()Z -/
def FX0_undo (nf : Nat) (x0 : Nat) (s : CS) : Option (Int32 × CS) :=
  mz s (fun z => z.2) (
  gd (isK s x0 [0]) (
  gI s x0 [0] 7 fun v1 =>
  if v1 = 0 then
  (some (0, s))
  else (gR s x0 [0] 4 fun r2 =>
  gR s x0 [0] 6 fun r3 =>
  gI s x0 [0] 7 fun v4 =>
  nm (v4 - 1) fun v5 =>
  pI s x0 [0] 7 v5 fun s6 =>
  nn r3 fun p7 =>
  lR s6 p7 105 v5 fun r8 =>
  nn r2 fun p9 =>
  nn r8 fun p10 =>
  (FX8_go nf p9 p10 s6).bind fun s11 =>
  some (1, s11))))
/-! OverFirst.walk()I -/
def FX0_walk (st : Nat → Option Nat) (nf : Nat) (x0 : Nat) (s : CS) : Option (Int32 × CS) :=
  mz s (fun z => z.2) (
  gd (isK s x0 [0]) (
  (FX0_reads st nf x0 s).bind fun s1 =>
  gR s1 x0 [0] 1 fun r2 =>
  gR s1 x0 [0] 2 fun r3 =>
  nn r2 fun p4 =>
  nn r3 fun p5 =>
  thrH (FX1_walk st nf p4 p5 s1) (fun q8 s9 =>
  gI s9 q8 [10] 1000 fun v10 =>
  some (v10, s9)) fun r7 s6 =>
  pR s6 x0 [0] 3 r7 fun s11 =>
  some (0, s11)))
/-! OverFirst.was(III)Z -/
def FX0_was (x0 : Nat) (x1 : Int32) (x2 : Int32) (x3 : Int32) (s : CS) : Option (Int32 × CS) :=
  mz s (fun z => z.2) (
  gd (isK s x0 [0]) (
  gR s x0 [0] 2 fun r1 =>
  nn r1 fun p2 =>
  (FX2_isCorner s p2 x1 x2).bind fun v3 =>
  if v3 = 0 then
  (some (0, s))
  else ((FX0_in s x3 0 9999).bind fun v4 =>
  if v4 = 0 then
  (some (0, s))
  else (gR s x0 [0] 4 fun r5 =>
  nn r5 fun p6 =>
  gI s p6 [8] 805 fun v7 =>
  if v7 = 8 then
  (some (0, s))
  else (gR s x0 [0] 4 fun r8 =>
  nn r8 fun p9 =>
  gR s p9 [8] 810 fun r10 =>
  gR s x0 [0] 4 fun r11 =>
  nn r11 fun p12 =>
  gI s p12 [8] 805 fun v13 =>
  nn r10 fun p14 =>
  tI_ s p14 100 v13 ((x2 * 6) + x1) fun s15 =>
  gR s15 x0 [0] 4 fun r16 =>
  nn r16 fun p17 =>
  gR s15 p17 [8] 811 fun r18 =>
  gR s15 x0 [0] 4 fun r19 =>
  nn r19 fun p20 =>
  gI s15 p20 [8] 805 fun v21 =>
  pI s15 p20 [8] 805 (v21 + 1) fun s22 =>
  nn r18 fun p23 =>
  tI_ s22 p23 100 v21 x3 fun s24 =>
  some (1, s24))))))
/-! OverFirst.watch(III)I -/
def FX0_watch_b73_s (nf : Nat) (k73 : Nat → Int32 → Int32 → Int32 → Int32 → Int32 → Int64 → CS → Option (Int32 × CS)) (x0 : Nat) (x1 : Int32) (x2 : Int32) (x3 : Int32) (x4 : Int32) (x5 : Int32) (x6 : Int64) (s : CS) : Option (Int32 × CS) :=
  gI s x0 [0] 12 fun v1 =>
  if x5 ≤ v1 then
  (d64 x5.toInt64 (
  some (x4 - ((x6 / x5.toInt64).toInt32), s)))
  else (gR s x0 [0] 2 fun r2 =>
  nn r2 fun p3 =>
  gR s p3 [2] 212 fun r4 =>
  nn r4 fun p5 =>
  (FJ2_get s p5 3).bind fun r6 =>
  nn r6 fun p7 =>
  gd (isK s p7 [4, 5, 6, 16]) (
  (FX0_tables_2 nf x0 p7 x1 x2 s).bind fun s8 =>
  (FX0_takesAt s8 x0 0 0 x3).bind fun v9 =>
  if 0 ≤ v9 then
  (nm (x6 + v9.toInt64) fun v10 =>
  gI s8 x0 [0] 12 fun v11 =>
  pI s8 x0 [0] 12 (v11 + 1) fun s12 =>
  k73 x0 x1 x2 x3 x4 x5 v10 s12)
  else (some ((-1), s8))))
def FX0_watch_b73 (nf : Nat) (n : Nat) : Nat → Int32 → Int32 → Int32 → Int32 → Int32 → Int64 → CS → Option (Int32 × CS) := lpN (fun _ _ _ _ _ _ _ _ => none) (FX0_watch_b73_s nf) n
def FX0_watch_b35 (nf : Nat) (x0 : Nat) (x1 : Int32) (x2 : Int32) (x3 : Int32) (s_0 : Int32) (s : CS) : Option (Int32 × CS) :=
  if 0 ≤ s_0 then
  ((FX0_lightAt s x0 x1 x2).bind fun r1 =>
  nn r1 fun p2 =>
  gI s p2 [12, 13, 14, 15] 1100 fun v3 =>
  pI s x0 [0] 11 ((x2 * 6) + x1) fun s4 =>
  pI s4 x0 [0] 12 0 fun s5 =>
  FX0_watch_b73 nf nf x0 x1 x2 x3 s_0 v3 0 s5)
  else (some ((-1), s))
def FX0_watch (nf : Nat) (x0 : Nat) (x1 : Int32) (x2 : Int32) (x3 : Int32) (s : CS) : Option (Int32 × CS) :=
  mz s (fun z => z.2) (
  gd (isK s x0 [0]) (
  (FX0_isAsked s x0 x1 x2 x3).bind fun v1 =>
  if v1 = 0 then
  (FX0_watch_b35 nf x0 x1 x2 x3 (-1) s)
  else ((FX0_isUnknown s x0 ((x2 * 6) + x1)).bind fun v2 =>
  if v2 = 0 then
  (FX0_watch_b35 nf x0 x1 x2 x3 (-1) s)
  else (bd2 (FX0_mean nf x0 3 0 0 x3 s) fun v4 s3 =>
  FX0_watch_b35 nf x0 x1 x2 x3 v4 s3))))
/-! java/lang/Long.bitCount(J)I -/
def FJ17_bitCount (s : CS) (x0 : Int64) : Option Int32 :=
  nm (x0 - ((ushr64 x0 1) &&& 6148914691236517205)) fun v1 =>
  nm ((v1 &&& 3689348814741910323) + ((ushr64 v1 2) &&& 3689348814741910323)) fun v2 =>
  nm ((v2 + (ushr64 v2 4)) &&& 1085102592571150095) fun v3 =>
  nm (v3 + (ushr64 v3 8)) fun v4 =>
  nm (v4 + (ushr64 v4 16)) fun v5 =>
  nm (v5 + (ushr64 v5 32)) fun v6 =>
  some (v6.toInt32 &&& 127)
/-! OverFirst.waves(IIJJZI)V -/
def FX0_waves_b75_s (nf : Nat) (rc : Nat → Int32 → Int32 → Int64 → Int64 → Int32 → Int32 → CS → Option CS) (k75 : Nat → Int32 → Int32 → Int64 → Int64 → Int32 → Int32 → Int32 → CS → Option CS) (x0 : Nat) (x1 : Int32) (x2 : Int32) (x3 : Int64) (x5 : Int64) (x7 : Int32) (x8 : Int32) (x9 : Int32) (s : CS) : Option CS :=
  if x8 ≤ x9 then
  (some s)
  else (gR s x0 [0] 18 fun r1 =>
  nn r1 fun p2 =>
  tI_ s p2 100 x1 x9 fun s3 =>
  gR s3 x0 [0] 16 fun r4 =>
  nn r4 fun p5 =>
  lJ s3 p5 101 ((x1 * 60) + x9) fun v6 =>
  gR s3 x0 [0] 17 fun r7 =>
  nn r7 fun p8 =>
  lJ s3 p8 101 ((x1 * 60) + x9) fun v9 =>
  (rc x0 (x1 + 1) x2 (x3 &&& v6) (x5 &&& v9) x7 x8 s3).bind fun s10 =>
  k75 x0 x1 x2 x3 x5 x7 x8 (x9 + 1) s10)
def FX0_waves_b75 (nf : Nat) (rc : Nat → Int32 → Int32 → Int64 → Int64 → Int32 → Int32 → CS → Option CS) (n : Nat) : Nat → Int32 → Int32 → Int64 → Int64 → Int32 → Int32 → Int32 → CS → Option CS := lpN (fun _ _ _ _ _ _ _ _ _ => none) (FX0_waves_b75_s nf rc) n
def FX0_waves_b45_s (nf : Nat) (rc : Nat → Int32 → Int32 → Int64 → Int64 → Int32 → Int32 → CS → Option CS) (k45 : Nat → Int32 → Int32 → CS → Option CS) (x0 : Nat) (x2 : Int32) (x10 : Int32) (s : CS) : Option CS :=
  if x2 ≤ x10 then
  (some s)
  else (gR s x0 [0] 19 fun r1 =>
  gR s x0 [0] 18 fun r2 =>
  nn r2 fun p3 =>
  lI s p3 100 x10 fun v4 =>
  nn r1 fun p5 =>
  tI_ s p5 100 x10 v4 fun s6 =>
  k45 x0 x2 (x10 + 1) s6)
def FX0_waves_b45 (nf : Nat) (rc : Nat → Int32 → Int32 → Int64 → Int64 → Int32 → Int32 → CS → Option CS) (n : Nat) : Nat → Int32 → Int32 → CS → Option CS := lpN (fun _ _ _ _ => none) (FX0_waves_b45_s nf rc) n
def FX0_waves_b23 (nf : Nat) (rc : Nat → Int32 → Int32 → Int64 → Int64 → Int32 → Int32 → CS → Option CS) (x0 : Nat) (x2 : Int32) (s_0 : Int32) (s_1 : Int32) (s : CS) : Option CS :=
  nm (s_1 + s_0) fun v1 =>
  gI s x0 [0] 20 fun v2 =>
  if v2 < v1 then
  (pI s x0 [0] 20 v1 fun s3 =>
  FX0_waves_b45 nf rc nf x0 x2 0 s3)
  else (some s)
def FX0_waves_s (nf : Nat) (rc : Nat → Int32 → Int32 → Int64 → Int64 → Int32 → Int32 → CS → Option CS) (x0 : Nat) (x1 : Int32) (x2 : Int32) (x3 : Int64) (x5 : Int64) (x7 : Int32) (x8 : Int32) (s : CS) : Option CS :=
  mz s (fun z => z) (
  gd (isK s x0 [0]) (
  if x1 = x2 then
  ((FJ17_bitCount s x3).bind fun v1 =>
  if x7 = 0 then
  (FX0_waves_b23 nf rc x0 x2 0 v1 s)
  else ((FJ17_bitCount s x5).bind fun v2 =>
  FX0_waves_b23 nf rc x0 x2 v2 v1 s))
  else (FX0_waves_b75 nf rc nf x0 x1 x2 x3 x5 x7 x8 0 s)))
def FX0_waves (nf : Nat) (dp : Nat) : Nat → Int32 → Int32 → Int64 → Int64 → Int32 → Int32 → CS → Option CS := lpN (fun _ _ _ _ _ _ _ _ => none) (fun rc => FX0_waves_s nf rc) dp
/-! ('OverFirst$Light', 'isClock', '()Z') by the receiver's class -/
def V11_isClock (s : CS) (o : Nat) : Option Int32 :=
  if isK s o [12, 13] = true then FX12_isClock s o else
  if isK s o [14, 15] = true then FX11_isClock s o else
  none
/-! OverFirst.wave(IIIZI)I -/
def FX0_wave_b110_s (nf : Nat) (k62 : Nat → Int32 → Int32 → Int32 → Int32 → Int32 → (Option Nat) → Int32 → CS → Option (Int32 × CS)) (k110 : Nat → Int32 → Int32 → Int32 → Int32 → Int32 → Nat → Int32 → Nat → Int32 → CS → Option (Int32 × CS)) (x0 : Nat) (x1 : Int32) (x2 : Int32) (x3 : Int32) (x4 : Int32) (x5 : Int32) (x6 : Nat) (x7 : Int32) (x8 : Nat) (x9 : Int32) (s : CS) : Option (Int32 × CS) :=
  gI s x8 [12, 13, 14, 15] 1100 fun v1 =>
  if v1 ≤ x9 then
  (k62 x0 x1 x2 x3 x4 x5 (some x6) (x7 + 1) s)
  else (gR s x0 [0] 16 fun r2 =>
  gR s x0 [0] 2 fun r3 =>
  nn r3 fun p4 =>
  (FX2_walk s p4).bind fun v5 =>
  (FX0_greenFrom nf s x8 x9 (x7 * v5)).bind fun v6 =>
  nn r2 fun p7 =>
  tJ_ s p7 101 ((x7 * 60) + x9) v6 fun s8 =>
  gR s8 x0 [0] 17 fun r9 =>
  gR s8 x0 [0] 2 fun r10 =>
  nn r10 fun p11 =>
  (FX2_walk s8 p11).bind fun v12 =>
  (FX0_greenFrom nf s8 x8 x9 (((x3 - 1) - x7) * v12)).bind fun v13 =>
  nn r9 fun p14 =>
  tJ_ s8 p14 101 ((x7 * 60) + x9) v13 fun s15 =>
  k110 x0 x1 x2 x3 x4 x5 x6 x7 x8 (x9 + 1) s15)
def FX0_wave_b110 (nf : Nat) (k62 : Nat → Int32 → Int32 → Int32 → Int32 → Int32 → (Option Nat) → Int32 → CS → Option (Int32 × CS)) (n : Nat) : Nat → Int32 → Int32 → Int32 → Int32 → Int32 → Nat → Int32 → Nat → Int32 → CS → Option (Int32 × CS) := lpN (fun _ _ _ _ _ _ _ _ _ _ _ => none) (FX0_wave_b110_s nf k62) n
def FX0_wave_b62_s (nf : Nat) (k62 : Nat → Int32 → Int32 → Int32 → Int32 → Int32 → (Option Nat) → Int32 → CS → Option (Int32 × CS)) (x0 : Nat) (x1 : Int32) (x2 : Int32) (x3 : Int32) (x4 : Int32) (x5 : Int32) (x6 : (Option Nat)) (x7 : Int32) (s : CS) : Option (Int32 × CS) :=
  if x3 ≤ x7 then
  (nn x6 fun p1 =>
  gI s p1 [12, 13, 14, 15] 1101 fun v2 =>
  gI s p1 [12, 13, 14, 15] 1102 fun v3 =>
  gI s p1 [12, 13, 14, 15] 1100 fun v4 =>
  d32 v4 (
  nm (rem32 (v2 + v3) v4) fun v5 =>
  pI s x0 [0] 20 (-1) fun s6 =>
  gR s6 x0 [0] 16 fun r7 =>
  nn r7 fun p8 =>
  lJ s6 p8 101 v5 fun v9 =>
  gR s6 x0 [0] 17 fun r10 =>
  nn r10 fun p11 =>
  lJ s6 p11 101 v5 fun v12 =>
  gI s6 p1 [12, 13, 14, 15] 1100 fun v13 =>
  (FX0_waves nf 10 x0 1 x3 v9 v12 x4 v13 s6).bind fun s14 =>
  if x5 = 0 then
  (gI s14 x0 [0] 20 fun v18 =>
  some (v18, s14))
  else (gR s14 x0 [0] 19 fun r15 =>
  nn r15 fun p16 =>
  lI s14 p16 100 x5 fun v17 =>
  some (v17, s14))))
  else ((FX0_lightAt s x0 x1 (x2 + x7)).bind fun r19 =>
  nul r19 (some ((-1), s)) fun p20 =>
  (V11_isClock s p20).bind fun v21 =>
  if v21 = 0 then
  (some ((-1), s))
  else (gI s p20 [12, 13, 14, 15] 1100 fun v22 =>
  nn x6 fun p23 =>
  gI s p23 [12, 13, 14, 15] 1100 fun v24 =>
  if v22 = v24 then
  (FX0_wave_b110 nf k62 nf x0 x1 x2 x3 x4 x5 p23 x7 p20 0 s)
  else (some ((-1), s))))
def FX0_wave_b62 (nf : Nat) (n : Nat) : Nat → Int32 → Int32 → Int32 → Int32 → Int32 → (Option Nat) → Int32 → CS → Option (Int32 × CS) := lpN (fun _ _ _ _ _ _ _ _ _ => none) (FX0_wave_b62_s nf) n
def FX0_wave (nf : Nat) (x0 : Nat) (x1 : Int32) (x2 : Int32) (x3 : Int32) (x4 : Int32) (x5 : Int32) (s : CS) : Option (Int32 × CS) :=
  mz s (fun z => z.2) (
  gd (isK s x0 [0]) (
  gR s x0 [0] 2 fun r1 =>
  nn r1 fun p2 =>
  (FX2_isCorner s p2 x1 x2).bind fun v3 =>
  if v3 = 0 then
  (some ((-1), s))
  else ((FX0_in s x3 2 4).bind fun v4 =>
  if v4 = 0 then
  (some ((-1), s))
  else (gR s x0 [0] 2 fun r5 =>
  nn r5 fun p6 =>
  (FX2_isCorner s p6 x1 ((x2 + x3) - 1)).bind fun v7 =>
  if v7 = 0 then
  (some ((-1), s))
  else ((FX0_in s x5 0 (x3 - 1)).bind fun v8 =>
  if v8 = 0 then
  (some ((-1), s))
  else ((FX0_lightAt s x0 x1 x2).bind fun r9 =>
  FX0_wave_b62 nf nf x0 x1 x2 x3 x4 x5 r9 0 s))))))
/-! OverFirst.worst(IIII)I -/
def FX0_worst (nf : Nat) (x0 : Nat) (x1 : Int32) (x2 : Int32) (x3 : Int32) (x4 : Int32) (s : CS) : Option (Int32 × CS) :=
  mz s (fun z => z.2) (
  gd (isK s x0 [0]) (
  (FX0_isGoer s x0 x1).bind fun v1 =>
  if v1 = 0 then
  (some ((-1), s))
  else ((FX0_isAsked s x0 x2 x3 x4).bind fun v2 =>
  if v2 = 0 then
  (some ((-1), s))
  else ((FX0_tables nf x0 x1 0 1 s).bind fun s3 =>
  (FX0_takesAt s3 x0 x2 x3 x4).bind fun v4 =>
  some (v4, s3)))))
/-! OverFirst.worthiest(I)I -/
def FX0_worthiest_b88 (nf : Nat) (x2 : Int32) (s : CS) : Option (Int32 × CS) :=
  if 0 ≤ x2 then
  (some (((x2 / 6) * 8) + (rem32 x2 6), s))
  else (some ((-1), s))
def FX0_worthiest_b7_s (nf : Nat) (k7 : Nat → Int32 → Int32 → Int32 → Int32 → CS → Option (Int32 × CS)) (x0 : Nat) (x1 : Int32) (x2 : Int32) (x3 : Int32) (x4 : Int32) (s : CS) : Option (Int32 × CS) :=
  if 54 ≤ x4 then
  (FX0_worthiest_b88 nf x2 s)
  else ((FX0_isSecond s x1).bind fun v1 =>
  if v1 = 0 then
  (FX0_worthiest_b88 nf x2 s)
  else ((FX0_isUnknown s x0 x4).bind fun v2 =>
  if v2 = 0 then
  (k7 x0 x1 x2 x3 (x4 + 1) s)
  else (bd2 (FX0_watch nf x0 (rem32 x4 6) (x4 / 6) x1 s) fun v4 s3 =>
  bd2 (FX0_mean nf x0 3 0 0 x1 s3) fun v6 s5 =>
  if 0 ≤ v6 then
  (if x2 < 0 then
  (k7 x0 x1 x4 v4 (x4 + 1) s5)
  else (if x3 < v4 then
  (k7 x0 x1 x4 v4 (x4 + 1) s5)
  else (k7 x0 x1 x2 x3 (x4 + 1) s5)))
  else (some ((-1), s5)))))
def FX0_worthiest_b7 (nf : Nat) (n : Nat) : Nat → Int32 → Int32 → Int32 → Int32 → CS → Option (Int32 × CS) := lpN (fun _ _ _ _ _ _ => none) (FX0_worthiest_b7_s nf) n
def FX0_worthiest (nf : Nat) (x0 : Nat) (x1 : Int32) (s : CS) : Option (Int32 × CS) :=
  mz s (fun z => z.2) (
  gd (isK s x0 [0]) (
  FX0_worthiest_b7 nf nf x0 x1 (-1) 0 0 s))
/-! OverFirstModel.begins()V -/
def FX9_begins_b45_s (nf : Nat) (k45 : Nat → Int32 → CS → Option CS) (x0 : Nat) (x1 : Int32) (s : CS) : Option CS :=
  if 4 ≤ x1 then
  (some s)
  else (gR s x0 [9] 921 fun r1 =>
  nn r1 fun p2 =>
  gd (isb 0) (tI_ s p2 102 x1 0 fun s3 =>
  k45 x0 (x1 + 1) s3))
def FX9_begins_b45 (nf : Nat) (n : Nat) : Nat → Int32 → CS → Option CS := lpN (fun _ _ _ => none) (FX9_begins_b45_s nf) n
def FX9_begins_b2_s (nf : Nat) (k2 : Nat → Int32 → CS → Option CS) (x0 : Nat) (x1 : Int32) (s : CS) : Option CS :=
  if 120 ≤ x1 then
  (gR s x0 [9] 916 fun r1 =>
  nn r1 fun p2 =>
  tI_ s p2 100 0 0 fun s3 =>
  pI s3 x0 [9] 920 0 fun s4 =>
  gI s4 x0 [9] 922 fun v5 =>
  pI s4 x0 [9] 922 (v5 + 1) fun s6 =>
  FX9_begins_b45 nf nf x0 0 s6)
  else (gR s x0 [9] 919 fun r7 =>
  nn r7 fun p8 =>
  tI_ s p8 100 x1 0 fun s9 =>
  k2 x0 (x1 + 1) s9)
def FX9_begins_b2 (nf : Nat) (n : Nat) : Nat → Int32 → CS → Option CS := lpN (fun _ _ _ => none) (FX9_begins_b2_s nf) n
def FX9_begins (nf : Nat) (x0 : Nat) (s : CS) : Option CS :=
  mz s (fun z => z) (
  gd (isK s x0 [9]) (
  FX9_begins_b2 nf nf x0 0 s))
/-! OverFirstModel.standsAsAlways(I)V -/
def FX9_standsAsAlways_b2_s (nf : Nat) (k2 : Nat → Int32 → Int32 → CS → Option CS) (x0 : Nat) (x1 : Int32) (x2 : Int32) (s : CS) : Option CS :=
  if 340 ≤ x2 then
  (gR s x0 [9] 910 fun r1 =>
  nn r1 fun p2 =>
  tI_ s p2 100 (x1 + 2) 10 fun s3 =>
  gR s3 x0 [9] 910 fun r4 =>
  nn r4 fun p5 =>
  tI_ s3 p5 100 (x1 + 3) (-1) fun s6 =>
  gR s6 x0 [9] 910 fun r7 =>
  nn r7 fun p8 =>
  tI_ s6 p8 100 (x1 + 4) (-1) fun s9 =>
  gR s9 x0 [9] 910 fun r10 =>
  nn r10 fun p11 =>
  tI_ s9 p11 100 (x1 + 9) 1 fun s12 =>
  some s12)
  else (gR s x0 [9] 910 fun r13 =>
  nn r13 fun p14 =>
  tI_ s p14 100 (x1 + x2) 0 fun s15 =>
  k2 x0 x1 (x2 + 1) s15)
def FX9_standsAsAlways_b2 (nf : Nat) (n : Nat) : Nat → Int32 → Int32 → CS → Option CS := lpN (fun _ _ _ _ => none) (FX9_standsAsAlways_b2_s nf) n
def FX9_standsAsAlways (nf : Nat) (x0 : Nat) (x1 : Int32) (s : CS) : Option CS :=
  mz s (fun z => z) (
  gd (isK s x0 [9]) (
  FX9_standsAsAlways_b2 nf nf x0 x1 0 s))
/-! OverFirstModel.<init>()V -/
def FX9_init (nf : Nat) (x0 : Nat) (s : CS) : Option CS :=
  mz s (fun z => z) (
  nwA s 100 1000 fun o1 s2 =>
  pR s2 x0 [9] 901 (some o1) fun s3 =>
  nwA s3 100 1002 fun o4 s5 =>
  pR s5 x0 [9] 904 (some o4) fun s6 =>
  nwA s6 100 1002 fun o7 s8 =>
  pR s8 x0 [9] 905 (some o7) fun s9 =>
  nwA s9 101 1002 fun o10 s11 =>
  pR s11 x0 [9] 906 (some o10) fun s12 =>
  nwA s12 101 22 fun o13 s14 =>
  tJ_ s14 o13 101 0 1034460 fun s15 =>
  tJ_ s15 o13 101 1 22955708 fun s16 =>
  tJ_ s16 o13 101 2 2793 fun s17 =>
  tJ_ s17 o13 101 3 940952 fun s18 =>
  tJ_ s18 o13 101 4 1166843 fun s19 =>
  tJ_ s19 o13 101 5 25433 fun s20 =>
  tJ_ s20 o13 101 6 979413 fun s21 =>
  tJ_ s21 o13 101 7 941040 fun s22 =>
  tJ_ s22 o13 101 8 6040476 fun s23 =>
  tJ_ s23 o13 101 9 34523964 fun s24 =>
  tJ_ s24 o13 101 10 790116 fun s25 =>
  tJ_ s25 o13 101 11 569 fun s26 =>
  tJ_ s26 o13 101 12 8787 fun s27 =>
  tJ_ s27 o13 101 13 6250976 fun s28 =>
  tJ_ s28 o13 101 14 571827392 fun s29 =>
  tJ_ s29 o13 101 15 179086304 fun s30 =>
  tJ_ s30 o13 101 16 1138236000 fun s31 =>
  tJ_ s31 o13 101 17 19741 fun s32 =>
  tJ_ s32 o13 101 18 1891 fun s33 =>
  tJ_ s33 o13 101 19 573 fun s34 =>
  tJ_ s34 o13 101 20 614923 fun s35 =>
  tJ_ s35 o13 101 21 793 fun s36 =>
  pR s36 x0 [9] 909 (some o13) fun s37 =>
  nwA s37 100 680 fun o38 s39 =>
  pR s39 x0 [9] 910 (some o38) fun s40 =>
  nwA s40 100 2200 fun o41 s42 =>
  pR s42 x0 [9] 911 (some o41) fun s43 =>
  nwA s43 100 2200 fun o44 s45 =>
  pR s45 x0 [9] 912 (some o44) fun s46 =>
  nwA s46 101 4 fun o47 s48 =>
  pR s48 x0 [9] 914 (some o47) fun s49 =>
  nwA s49 100 60 fun o50 s51 =>
  pR s51 x0 [9] 916 (some o50) fun s52 =>
  nwA s52 100 4 fun o53 s54 =>
  pR s54 x0 [9] 917 (some o53) fun s55 =>
  nwA s55 100 1100 fun o56 s57 =>
  pR s57 x0 [9] 918 (some o56) fun s58 =>
  nwA s58 100 2520 fun o59 s60 =>
  pR s60 x0 [9] 919 (some o59) fun s61 =>
  nwA s61 102 4 fun o62 s63 =>
  pR s63 x0 [9] 921 (some o62) fun s64 =>
  nwA s64 100 64800 fun o65 s66 =>
  pR s66 x0 [9] 923 (some o65) fun s67 =>
  nwA s67 100 64800 fun o68 s69 =>
  pR s69 x0 [9] 924 (some o68) fun s70 =>
  pI s70 x0 [9] 926 (-1) fun s71 =>
  pI s71 x0 [9] 929 (-1) fun s72 =>
  nwA s72 100 64800 fun o73 s74 =>
  pR s74 x0 [9] 931 (some o73) fun s75 =>
  nwA s75 100 64800 fun o76 s77 =>
  pR s77 x0 [9] 932 (some o76) fun s78 =>
  nwA s78 100 156000 fun o79 s80 =>
  pR s80 x0 [9] 936 (some o79) fun s81 =>
  nwA s81 101 240 fun o82 s83 =>
  pR s83 x0 [9] 938 (some o82) fun s84 =>
  nwA s84 101 240 fun o85 s86 =>
  pR s86 x0 [9] 939 (some o85) fun s87 =>
  nwA s87 100 4 fun o88 s89 =>
  pR s89 x0 [9] 940 (some o88) fun s90 =>
  nwA s90 100 4 fun o91 s92 =>
  pR s92 x0 [9] 941 (some o91) fun s93 =>
  nwA s93 100 54 fun o94 s95 =>
  pR s95 x0 [9] 947 (some o94) fun s96 =>
  (FX9_standsAsAlways nf x0 0 s96).bind fun s97 =>
  gR s97 x0 [9] 910 fun r98 =>
  nn r98 fun p99 =>
  tI_ s97 p99 100 0 1 fun s100 =>
  gR s100 x0 [9] 910 fun r101 =>
  nn r101 fun p102 =>
  tI_ s100 p102 100 1 1 fun s103 =>
  (FX9_begins nf x0 s103).bind fun s104 =>
  some s104)
/-! jdk/internal/util/Preconditions.checkFromToIndex(IIILjava/util/function/BiFunction;)I -/
def FJ9_checkFromToIndex_b14 (s : CS) (x0 : Int32) (x1 : Int32) (x2 : Int32) (x3 : (Option Nat)) : Option Int32 :=
  none
def FJ9_checkFromToIndex (s : CS) (x0 : Int32) (x1 : Int32) (x2 : Int32) (x3 : (Option Nat)) : Option Int32 :=
  if x0 < 0 then
  (FJ9_checkFromToIndex_b14 s x0 x1 x2 x3)
  else (if x1 < x0 then
  (FJ9_checkFromToIndex_b14 s x0 x1 x2 x3)
  else (if x1 ≤ x2 then
  (some x0)
  else (FJ9_checkFromToIndex_b14 s x0 x1 x2 x3)))
/-! java/lang/String.checkBoundsBeginEnd(III)V -/
def FJ6_checkBoundsBeginEnd (st : Nat → Option Nat) (s : CS) (x0 : Int32) (x1 : Int32) (x2 : Int32) : Option Unit :=
  (FJ9_checkFromToIndex s x0 x1 x2 ((st 2))).bind fun v1 =>
  some ()
/-! jdk/internal/util/Preconditions.checkFromIndexSize(IIILjava/util/function/BiFunction;)I -/
def FJ9_checkFromIndexSize_b15 (s : CS) (x0 : Int32) (x1 : Int32) (x2 : Int32) (x3 : (Option Nat)) : Option Int32 :=
  none
def FJ9_checkFromIndexSize (s : CS) (x0 : Int32) (x1 : Int32) (x2 : Int32) (x3 : (Option Nat)) : Option Int32 :=
  if ((x2 ||| x0) ||| x1) < 0 then
  (FJ9_checkFromIndexSize_b15 s x0 x1 x2 x3)
  else (if x1 ≤ (x2 - x0) then
  (some x0)
  else (FJ9_checkFromIndexSize_b15 s x0 x1 x2 x3))
/-! java/lang/String.checkBoundsOffCount(III)I -/
def FJ6_checkBoundsOffCount (st : Nat → Option Nat) (s : CS) (x0 : Int32) (x1 : Int32) (x2 : Int32) : Option Int32 :=
  (FJ9_checkFromIndexSize s x0 x1 x2 ((st 2))).bind fun v1 =>
  some v1
/-! java/lang/Throwable.<init>()V -/
def FJ11_init (st : Nat → Option Nat) (x0 : Nat) (s : CS) : Option CS :=
  mz s (fun z => z) (
  pR s x0 [10] 2500 (some x0) fun s1 =>
  pR s1 x0 [10] 2501 ((st 0)) fun s2 =>
  pR s2 x0 [10] 2502 ((st 1)) fun s3 =>
  none)
