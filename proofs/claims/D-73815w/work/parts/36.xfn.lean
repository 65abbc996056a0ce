/-! THE COMPONENT's METHODS (and the JDK's that it reaches) as partial functions: printed by tools/mk_x.py out of the bytecode -/
noncomputable def j0_init (o : Nat) (s : XS) : Option ((Unit) × XS) :=
  some ((), s)
noncomputable def j1_init (o : Nat) (s : XS) : Option ((Unit) × XS) :=
  bnd (j0_init o s) fun v1 s2 =>
  xp s2 o 7 0 (.int 0) fun s3 =>
  some ((), s3)
noncomputable def j2_init (o : Nat) (s : XS) : Option ((Unit) × XS) :=
  bnd (j1_init o s) fun v1 s2 =>
  nm (s2.1.2.2.2 2) fun r3 =>
  xp s2 o 7 1 (va_rf r3) fun s4 =>
  some ((), s4)
noncomputable def x1_init_2 (o : Nat) (x1 : Int32) (x2 : Nat) (s : XS) : Option ((Unit) × XS) :=
  xmk s 3 (cO 7 dfJ2) fun p1 s2 =>
  bnd (j2_init p1 s2) fun v3 s4 =>
  xp s4 o 1 1 (.ref p1) fun s5 =>
  xmI s5 0 (4 : Int32) fun p6 s7 =>
  xp s7 o 1 5 (.ref p6) fun s8 =>
  xp s8 o 1 0 (.int x1) fun s9 =>
  xp s9 o 1 2 (.ref x2) fun s10 =>
  some ((), s10)
noncomputable def x1_init (o : Nat) (s : XS) : Option ((Unit) × XS) :=
  xmI s 0 (0 : Int32) fun p1 s2 =>
  bnd (x1_init_2 o 3 p1 s2) fun v3 s4 =>
  some ((), s4)
noncomputable def x0_init (o : Nat) (s : XS) : Option ((Unit) × XS) :=
  xmI s 2 (1000 : Int32) fun p1 s2 =>
  xp s2 o 0 0 (.ref p1) fun s3 =>
  xmI s3 0 (4 : Int32) fun p4 s5 =>
  xp s5 o 0 2 (.ref p4) fun s6 =>
  xmk s6 6 (cO 1 dfX1) fun p7 s8 =>
  bnd (x1_init p7 s8) fun v9 s10 =>
  xp s10 o 0 3 (.ref p7) fun s11 =>
  xp s11 o 0 5 (.int (-1)) fun s12 =>
  xmk s12 3 (cO 7 dfJ2) fun p13 s14 =>
  bnd (j2_init p13 s14) fun v15 s16 =>
  xp s16 o 0 6 (.ref p13) fun s17 =>
  xmI s17 0 (4 : Int32) fun p18 s19 =>
  xp s19 o 0 10 (.ref p18) fun s20 =>
  xmI s20 0 (0 : Int32) fun p21 s22 =>
  xp s22 o 0 14 (.ref p21) fun s23 =>
  xmI s23 0 (4 : Int32) fun p24 s25 =>
  xp s25 o 0 15 (.ref p24) fun s26 =>
  xmI s26 0 (100 : Int32) fun p27 s28 =>
  xp s28 o 0 16 (.ref p27) fun s29 =>
  xmI s29 0 (100 : Int32) fun p30 s31 =>
  xp s31 o 0 17 (.ref p30) fun s32 =>
  xmR s32 5 (3 : Int32) fun p33 s34 =>
  xp s34 o 0 19 (.ref p33) fun s35 =>
  some ((), s35)
noncomputable def x0_puts_s24 (o : Nat) (u3 : Int32) (a24 : Int32) (s4 : XS) : Option (((Int32) ⊕ (Unit)) × XS) :=
  if a24 < 0 then
    (some (.inr (), s4))
  else
    (xf s4 o 0 0 fun v0 => vR v0 fun r5 =>
    xf s4 o 0 1 fun v0 => vI v0 fun u6 =>
    dr r5 fun p7 =>
    xpI s4 2 p7 u6 ((u3 >>> (a24 &&& 31)).toInt8.toInt32).toInt8.toInt32 fun s9 =>
    xf s9 o 0 1 fun v0 => vI v0 fun u10 =>
    xp s9 o 0 1 (.int (u10 + 1)) fun s11 =>
    some (.inl (a24 + (-8)), s11))
noncomputable def x0_puts_s8 (o : Nat) (x1 : Nat) (u1 : Int32) (a8 : Int32) (s2 : XS) : Option (((Int32) ⊕ (Unit)) × XS) :=
  if u1 ≤ a8 then
    (some (.inr (), s2))
  else
    (xaI s2 0 x1 a8 fun u3 =>
    bnd (whileO (x0_puts_s24 o u3) 24 s2) fun b24 s12 =>
    some (.inl (a8 + 1), s12))
noncomputable def x0_puts (o : Nat) (x1 : Nat) (s : XS) : Option ((Unit) × XS) :=
  xlen s x1 fun u1 =>
  bnd (whileO (x0_puts_s8 o x1 u1) 0 s) fun b8 s13 =>
  some ((), s13)
noncomputable def x0_refused (o : Nat) (x1 : Int32) (s : XS) : Option ((Int32) × XS) :=
  xf s o 0 2 fun v0 => vR v0 fun r1 =>
  dr r1 fun p2 =>
  xaI s 0 p2 x1 fun u4 =>
  xpI s 0 p2 x1 (u4 + 1) fun s5 =>
  some ((-1), s5)
noncomputable def x0_feed (o : Nat) (x1 : Int32) (x2 : Int32) (x3 : Int32) (x4 : Int32) (x5 : Int32) (s : XS) : Option ((Int32) × XS) :=
  xf s o 0 1 fun v0 => vI v0 fun u1 =>
  if (u1 + 20) ≤ 1000 then
    (xmI s 0 (5 : Int32) fun p2 s3 =>
    xpI s3 0 p2 (0 : Int32) x1 fun s4 =>
    xpI s4 0 p2 (1 : Int32) x2 fun s5 =>
    xpI s5 0 p2 (2 : Int32) x3 fun s6 =>
    xpI s6 0 p2 (3 : Int32) x4 fun s7 =>
    xpI s7 0 p2 (4 : Int32) x5 fun s8 =>
    xo s8 o 0 fun _ =>
    bnd (x0_puts o p2 s8) fun v9 s10 =>
    xf s10 o 0 1 fun v0 => vI v0 fun u11 =>
    some (u11, s10))
  else
    (xo s o 0 fun _ =>
    bnd (x0_refused o 0 s) fun v12 s13 =>
    some (v12, s13))
noncomputable def x0_refuses (o : Nat) (x1 : Int32) (s : XS) : Option ((Int32) × XS) :=
  xo s o 0 fun _ =>
  bnd (x0_refused o x1 s) fun v1 s2 =>
  if v1 = (-1) then
    (some (0, s2))
  else
    (some (1, s2))
noncomputable def x0_end (o : Nat) (x1 : Int32) (s : XS) : Option ((Int32) × XS) :=
  if x1 < 0 then
    (xo s o 0 fun _ =>
    bnd (x0_refuses o 0 s) fun v1 s2 =>
    chk (v1 &&& 1 = v1) <|
    some (v1, s2))
  else
    (xf s o 0 1 fun v0 => vI v0 fun u3 =>
    if x1 ≤ u3 then
      (xp s o 0 1 (.int x1) fun s4 =>
      some (1, s4))
    else
      (xo s o 0 fun _ =>
      bnd (x0_refuses o 0 s) fun v5 s6 =>
      chk (v5 &&& 1 = v5) <|
      some (v5, s6)))
noncomputable def x0_isIn (x0 : Int64) (x2 : Int64) (x4 : Int64) (s : Unit) : Option (Int32 × Unit) :=
  if x0 < x2 then
    (some (0, s))
  else
    (if x4 < x0 then
      (some (0, s))
    else
      (some (1, s)))
noncomputable def x0_status (o : Nat) (x1 : Int32) (s : XS) : Option ((Int32) × XS) :=
  bnd (stat (x0_isIn x1.toInt64 0 3 ()) s) fun v1 _ =>
  if v1 = 0 then
    (some ((-1), s))
  else
    (xf s o 0 2 fun v0 => vR v0 fun r3 =>
    dr r3 fun p4 =>
    xaI s 0 p4 x1 fun u6 =>
    some (u6, s))
noncomputable def x0_takesTape (o : Nat) (s : XS) : Option ((Int32) × XS) :=
  xf s o 0 1 fun v0 => vI v0 fun u1 =>
  xp s o 0 1 (.int 0) fun s2 =>
  some (u1, s2)
noncomputable def x3_init (o : Nat) (x1 : Nat) (x2 : Int32) (s : XS) : Option ((Unit) × XS) :=
  xp s o 3 7 (.ref x1) fun s1 =>
  xp s1 o 3 2 (.int (-1)) fun s2 =>
  xp s2 o 3 3 (.int 3) fun s3 =>
  xmk s3 3 (cO 7 dfJ2) fun p4 s5 =>
  bnd (j2_init p4 s5) fun v6 s7 =>
  xp s7 o 3 4 (.ref p4) fun s8 =>
  xmI s8 0 (13 : Int32) fun p9 s10 =>
  xp s10 o 3 5 (.ref p9) fun s11 =>
  xp s11 o 3 0 (.int x2) fun s12 =>
  some ((), s12)
noncomputable def x3_next_j45 (o : Nat) (s12 : XS) : Option (((Unit) ⊕ (Unit)) × XS) :=
  xf s12 o 3 1 fun v0 => vI v0 fun u13 =>
  xp s12 o 3 1 (.int (u13 + 1)) fun s14 =>
  some (.inl (), s14)
noncomputable def x3_next_s0 (o : Nat) (a0 : Unit) (s1 : XS) : Option (((Unit) ⊕ (Unit)) × XS) :=
  xf s1 o 3 1 fun v0 => vI v0 fun u2 =>
  xf s1 o 3 0 fun v0 => vI v0 fun u3 =>
  if u3 ≤ u2 then
    (some (.inr (), s1))
  else
    (xf s1 o 3 7 fun v0 => vR v0 fun r4 =>
    dr r4 fun p5 =>
    xf s1 p5 0 0 fun v0 => vR v0 fun r7 =>
    xf s1 o 3 1 fun v0 => vI v0 fun u8 =>
    dr r7 fun p9 =>
    xaI s1 2 p9 u8 fun u11 =>
    if u11 = 32 then
      (x3_next_j45 o s1)
    else
      (xf s1 o 3 7 fun v0 => vR v0 fun r15 =>
      dr r15 fun p16 =>
      xf s1 p16 0 0 fun v0 => vR v0 fun r18 =>
      xf s1 o 3 1 fun v0 => vI v0 fun u19 =>
      dr r18 fun p20 =>
      xaI s1 2 p20 u19 fun u22 =>
      if u22 = 10 then
        (x3_next_j45 o s1)
      else
        (some (.inr (), s1))))
noncomputable def x3_next (o : Nat) (s : XS) : Option ((Int32) × XS) :=
  bnd (whileO (x3_next_s0 o) () s) fun b0 s23 =>
  xf s23 o 3 1 fun v0 => vI v0 fun u24 =>
  some (u24, s23)
noncomputable def x3_isLetter (o : Nat) (x1 : Int32) (s : XS) : Option ((Int32) × XS) :=
  xf s o 3 0 fun v0 => vI v0 fun u1 =>
  if u1 ≤ x1 then
    (some (0, s))
  else
    (xf s o 3 7 fun v0 => vR v0 fun r2 =>
    dr r2 fun p3 =>
    xf s p3 0 0 fun v0 => vR v0 fun r5 =>
    dr r5 fun p6 =>
    xaI s 2 p6 x1 fun u8 =>
    bnd (stat (x0_isIn u8.toInt64 97 122 ()) s) fun v9 _ =>
    if v9 = 0 then
      (some (0, s))
    else
      (some (1, s)))
noncomputable def j6_newBytesLength (x0 : Int32) (s : XS) : Option ((Int32) × XS) :=
  if (0 : Int32) ≤ x0 then
    (if x0 < 1073741823 then
      (some ((x0 <<< ((1 : Int32) &&& 31)), s))
    else
      (none))
  else
    (none)
noncomputable def j6_newBytesFor (x0 : Int32) (s : XS) : Option ((Option Nat) × XS) :=
  bnd (j6_newBytesLength x0 s) fun v1 s2 =>
  xmI s2 2 v1 fun p3 s4 =>
  some ((some p3), s4)
noncomputable def j3_init (o : Nat) (x1 : Int32) (s : XS) : Option ((Unit) × XS) :=
  if (1 : Int32) = 0 then
    (bnd (j6_newBytesFor x1 s) fun r1 s2 =>
    xp s2 o 9 0 (va_rf r1) fun s3 =>
    xp s3 o 9 1 (.int 1) fun s4 =>
    some ((), s4))
  else
    (xmI s 2 x1 fun p5 s6 =>
    xp s6 o 9 0 (.ref p5) fun s7 =>
    xp s7 o 9 1 (.int 0) fun s8 =>
    some ((), s8))
noncomputable def j4_init (o : Nat) (s : XS) : Option ((Unit) × XS) :=
  bnd (j3_init o 16 s) fun v1 s2 =>
  some ((), s2)
noncomputable def j8_max (x0 : Int32) (x1 : Int32) (s : Unit) : Option (Int32 × Unit) :=
  if x0 < x1 then
    (some (x1, s))
  else
    (some (x0, s))
noncomputable def j7_hugeLength (x0 : Int32) (x1 : Int32) (s : XS) : Option ((Int32) × XS) :=
  nm (x0 + x1) fun u1 =>
  if (0 : Int32) ≤ u1 then
    (if (2147483639 : Int32) < u1 then
      (some (u1, s))
    else
      (some (2147483639, s)))
  else
    (none)
noncomputable def j7_newLength (x0 : Int32) (x1 : Int32) (x2 : Int32) (s : XS) : Option ((Int32) × XS) :=
  bnd (stat (j8_max x1 x2 ()) s) fun v1 _ =>
  nm (x0 + v1) fun u3 =>
  if u3 ≤ (0 : Int32) then
    (bnd (j7_hugeLength x0 x1 s) fun v4 s5 =>
    some (v4, s5))
  else
    (if (2147483639 : Int32) < u3 then
      (bnd (j7_hugeLength x0 x1 s) fun v6 s7 =>
      some (v6, s7))
    else
      (some (u3, s)))
noncomputable def j3_newCapacity (o : Nat) (x1 : Int32) (s : XS) : Option ((Int32) × XS) :=
  xf s o 9 0 fun v0 => vR v0 fun r1 =>
  dr r1 fun p2 =>
  xlen s p2 fun u4 =>
  xf s o 9 1 fun v0 => vI v0 fun u5 =>
  nm (x1 <<< (u5 &&& 31)) fun u6 =>
  nm (u6 - u4) fun u7 =>
  xf s o 9 1 fun v0 => vI v0 fun u8 =>
  bnd (j7_newLength u4 u7 (u4 + ((2 : Int32) <<< (u8 &&& 31))) s) fun v9 s10 =>
  if v9 = 2147483647 then
    (none)
  else
    (xf s10 o 9 1 fun v0 => vI v0 fun u11 =>
    some ((v9 >>> (u11 &&& 31)), s10))
noncomputable def j8_min (x0 : Int32) (x1 : Int32) (s : Unit) : Option (Int32 × Unit) :=
  if x1 < x0 then
    (some (x1, s))
  else
    (some (x0, s))
noncomputable def j9_copyOf (x0 : Nat) (x1 : Int32) (s : XS) : Option ((Option Nat) × XS) :=
  xlen s x0 fun u1 =>
  if x1 = u1 then
    (xcln s x0 fun p8 s9 =>
    xaB s9 p8 <|
    some ((some p8), s9))
  else
    (xmI s 2 x1 fun p2 s3 =>
    xlen s3 x0 fun u4 =>
    bnd (stat (j8_min u4 x1 ()) s3) fun v5 _ =>
    xcI s3 2 x0 (0 : Int32) p2 (0 : Int32) v5 fun s7 =>
    some ((some p2), s7))
noncomputable def j3_ensureCapacityInternal (o : Nat) (x1 : Int32) (s : XS) : Option ((Unit) × XS) :=
  xf s o 9 0 fun v0 => vR v0 fun r1 =>
  dr r1 fun p2 =>
  xlen s p2 fun u4 =>
  xf s o 9 1 fun v0 => vI v0 fun u5 =>
  nm (u4 >>> (u5 &&& 31)) fun u6 =>
  if (x1 - u6) ≤ 0 then
    (some ((), s))
  else
    (xf s o 9 0 fun v0 => vR v0 fun r7 =>
    xo s o 9 fun _ =>
    bnd (j3_newCapacity o x1 s) fun v8 s9 =>
    xf s9 o 9 1 fun v0 => vI v0 fun u10 =>
    dr r7 fun p11 =>
    bnd (j9_copyOf p11 (v8 <<< (u10 &&& 31)) s9) fun r13 s14 =>
    xp s14 o 9 0 (va_rf r13) fun s15 =>
    some ((), s15))
noncomputable def j3_isLatin1 (o : Nat) (s : XS) : Option ((Int32) × XS) :=
  if (1 : Int32) = 0 then
    (some (0, s))
  else
    (xf s o 9 1 fun v0 => vI v0 fun u1 =>
    if u1 = 0 then
      (some (1, s))
    else
      (some (0, s)))
noncomputable def j6_length (x0 : Nat) (s : XS) : Option ((Int32) × XS) :=
  xlen s x0 fun u1 =>
  some ((u1 >>> ((1 : Int32) &&& 31)), s)
noncomputable def j3_inflate (o : Nat) (s : XS) : Option ((Unit) × XS) :=
  xo s o 9 fun _ =>
  bnd (j3_isLatin1 o s) fun v1 s2 =>
  if v1 = 0 then
    (some ((), s2))
  else
    (none)
noncomputable def j10_canEncode (x0 : Int32) (s : Unit) : Option (Int32 × Unit) :=
  if (255 : Int32) < x0 then
    (some (0, s))
  else
    (some (1, s))
noncomputable def j3_append_j45 (o : Nat) (s6 : XS) : Option ((Option Nat) × XS) :=
  xo s6 o 9 fun _ =>
  bnd (j3_isLatin1 o s6) fun v7 s8 =>
  if v7 = 0 then
    (none)
  else
    (none)
noncomputable def j3_append (o : Nat) (x1 : Int32) (s : XS) : Option ((Option Nat) × XS) :=
  xf s o 9 3 fun v0 => vI v0 fun u1 =>
  xo s o 9 fun _ =>
  bnd (j3_ensureCapacityInternal o (u1 + 1) s) fun v2 s3 =>
  xo s3 o 9 fun _ =>
  bnd (j3_isLatin1 o s3) fun v4 s5 =>
  if v4 = 0 then
    (j3_append_j45 o s5)
  else
    (bnd (stat (j10_canEncode x1 ()) s5) fun v19 _ =>
    if v19 = 0 then
      (j3_append_j45 o s5)
    else
      (xf s5 o 9 0 fun v0 => vR v0 fun r21 =>
      xf s5 o 9 3 fun v0 => vI v0 fun u22 =>
      xp s5 o 9 3 (.int (u22 + 1)) fun s23 =>
      dr r21 fun p24 =>
      xpI s23 2 p24 u22 x1.toInt8.toInt32.toInt8.toInt32 fun s26 =>
      some ((some o), s26)))
noncomputable def j4_append (o : Nat) (x1 : Int32) (s : XS) : Option ((Option Nat) × XS) :=
  xo s o 9 fun _ =>
  bnd (j3_append o x1 s) fun r1 s2 =>
  some ((some o), s2)
noncomputable def j3_getValue (o : Nat) (s : XS) : Option ((Option Nat) × XS) :=
  xf s o 9 0 fun v0 => vR v0 fun r1 =>
  some (r1, s)
noncomputable def j3_length (o : Nat) (s : XS) : Option ((Int32) × XS) :=
  xf s o 9 3 fun v0 => vI v0 fun u1 =>
  some (u1, s)
noncomputable def j4_length (o : Nat) (s : XS) : Option ((Int32) × XS) :=
  xo s o 9 fun _ =>
  bnd (j3_length o s) fun v1 s2 =>
  some (v1, s2)
noncomputable def j9_checkLength (x0 : Int32) (x1 : Int32) (s : XS) : Option ((Unit) × XS) :=
  if x0 ≤ x1 then
    (some ((), s))
  else
    (none)
noncomputable def j9_copyOfRangeByte (x0 : Nat) (x1 : Int32) (x2 : Int32) (s : XS) : Option ((Option Nat) × XS) :=
  bnd (j9_checkLength x1 x2 s) fun v1 s2 =>
  nm (x2 - x1) fun u3 =>
  xmI s2 2 u3 fun p4 s5 =>
  xlen s5 x0 fun u6 =>
  bnd (stat (j8_min (u6 - x1) u3 ()) s5) fun v7 _ =>
  xcI s5 2 x0 x1 p4 (0 : Int32) v7 fun s9 =>
  some ((some p4), s9)
noncomputable def j9_copyOfRange (x0 : Nat) (x1 : Int32) (x2 : Int32) (s : XS) : Option ((Option Nat) × XS) :=
  if x1 = 0 then
    (xlen s x0 fun u3 =>
    if x2 = u3 then
      (xcln s x0 fun p4 s5 =>
      xaB s5 p4 <|
      some ((some p4), s5))
    else
      (bnd (j9_copyOfRangeByte x0 x1 x2 s) fun r6 s7 =>
      some (r6, s7)))
  else
    (bnd (j9_copyOfRangeByte x0 x1 x2 s) fun r1 s2 =>
    some (r1, s2))
noncomputable def j5_init_2_j79 (o : Nat) (x3_79 : Option Nat) (x4_79 : Int32) (s9 : XS) : Option ((Unit) × XS) :=
  xp s9 o 10 1 (.int 1) fun s10 =>
  dr x3_79 fun p11 =>
  bnd (j9_copyOfRange p11 0 (x4_79 <<< ((1 : Int32) &&& 31)) s10) fun r13 s14 =>
  xp s14 o 10 0 (va_rf r13) fun s15 =>
  some ((), s15)
noncomputable def j5_init_2 (o : Nat) (x1 : Option Nat) (x2 : Option Nat) (s : XS) : Option ((Unit) × XS) :=
  dr x1 fun p1 =>
  xo s p1 9 fun _ =>
  bnd (j3_getValue p1 s) fun r3 s4 =>
  xo s4 p1 9 fun _ =>
  bnd (j4_length p1 s4) fun v5 s6 =>
  xo s6 p1 9 fun _ =>
  bnd (j3_isLatin1 p1 s6) fun v7 s8 =>
  if v7 = 0 then
    (if (1 : Int32) = 0 then
      (j5_init_2_j79 o r3 v5 s8)
    else
      (xf s8 p1 9 2 fun v0 => vI v0 fun u16 =>
      if u16 = 0 then
        (j5_init_2_j79 o r3 v5 s8)
      else
        (none)))
  else
    (xp s8 o 10 1 (.int 0) fun s17 =>
    dr r3 fun p18 =>
    bnd (j9_copyOfRange p18 0 v5 s17) fun r20 s21 =>
    xp s21 o 10 0 (va_rf r20) fun s22 =>
    some ((), s22))
noncomputable def j5_init (o : Nat) (x1 : Nat) (s : XS) : Option ((Unit) × XS) :=
  bnd (j5_init_2 o (some x1) none s) fun v1 s2 =>
  some ((), s2)
noncomputable def j4_toString (o : Nat) (s : XS) : Option ((Option Nat) × XS) :=
  xmk s 4 (cO 10 dfJ5) fun p1 s2 =>
  bnd (j5_init p1 o s2) fun v3 s4 =>
  some ((some p1), s4)
noncomputable def x3_wordHere_s32 (o : Nat) (p7 : Nat) (a32 : Int32) (s11 : XS) : Option (((Int32) ⊕ (Unit)) × XS) :=
  xo s11 o 3 fun _ =>
  bnd (x3_isLetter o a32 s11) fun v12 s13 =>
  if v12 = 0 then
    (some (.inr (), s13))
  else
    (xf s13 o 3 7 fun v0 => vR v0 fun r14 =>
    dr r14 fun p15 =>
    xf s13 p15 0 0 fun v0 => vR v0 fun r17 =>
    dr r17 fun p18 =>
    xaI s13 2 p18 a32 fun u20 =>
    xo s13 p7 9 fun _ =>
    bnd (j4_append p7 ((u20.toUInt32 % 65536).toInt32) s13) fun r21 s22 =>
    some (.inl (a32 + 1), s22))
noncomputable def x3_wordHere (o : Nat) (s : XS) : Option ((Option Nat) × XS) :=
  xo s o 3 fun _ =>
  bnd (x3_next o s) fun v1 s2 =>
  xo s2 o 3 fun _ =>
  bnd (x3_isLetter o v1 s2) fun v3 s4 =>
  if v3 = 0 then
    (nm (s4.1.2.2.2 8) fun r5 =>
    some (r5, s4))
  else
    (xf s4 o 3 2 fun v0 => vI v0 fun u6 =>
    if v1 = u6 then
      (nm (s4.1.2.2.2 8) fun r26 =>
      some (r26, s4))
    else
      (xmk s4 4 (cO 9 dfJ4) fun p7 s8 =>
      bnd (j4_init p7 s8) fun v9 s10 =>
      bnd (whileO (x3_wordHere_s32 o p7) v1 s10) fun b32 s23 =>
      xo s23 p7 9 fun _ =>
      bnd (j4_toString p7 s23) fun r24 s25 =>
      some (r24, s25)))
noncomputable def j10_equals_s9 (x0 : Nat) (x1 : Nat) (a9 : Int32) (s3 : XS) : Option (((Int32) ⊕ ((Unit) ⊕ (Unit))) × XS) :=
  xlen s3 x0 fun u4 =>
  if u4 ≤ a9 then
    (some (.inr (.inr ()), s3))
  else
    (xaI s3 2 x0 a9 fun u5 =>
    xaI s3 2 x1 a9 fun u6 =>
    if u5 = u6 then
      (some (.inl (a9 + 1), s3))
    else
      (some (.inr (.inl ()), s3)))
noncomputable def j10_equals (x0 : Nat) (x1 : Nat) (s : XS) : Option ((Int32) × XS) :=
  xlen s x0 fun u1 =>
  xlen s x1 fun u2 =>
  if u1 = u2 then
    (bnd (whileO (j10_equals_s9 x0 x1) 0 s) fun b9 s7 => match b9 with
    | .inl b9 =>
      some (0, s7)
    | .inr b9 =>
      some (1, s7))
  else
    (some (0, s))
noncomputable def j5_equals_j36 (o : Nat) (x2_36 : Option Nat) (s1 : XS) : Option ((Int32) × XS) :=
  xf s1 o 10 0 fun v0 => vR v0 fun r2 =>
  dr x2_36 fun p3 =>
  xf s1 p3 10 0 fun v0 => vR v0 fun r5 =>
  dr r2 fun p6 =>
  dr r5 fun p8 =>
  bnd (j10_equals p6 p8 s1) fun v10 s11 =>
  if v10 = 0 then
    (some (0, s11))
  else
    (some (1, s11))
noncomputable def j5_equals (o : Nat) (x1 : Nat) (s : XS) : Option ((Int32) × XS) :=
  if (some o) = (some x1) then
    (some (1, s))
  else
    (xo s x1 10 fun _ =>
    if (1 : Int32) = 0 then
      (some (0, s))
    else
      (xo s x1 10 fun _ =>
      if (1 : Int32) = 0 then
        (j5_equals_j36 o (some x1) s)
      else
        (xf s o 10 1 fun v0 => vI v0 fun u12 =>
        xf s x1 10 1 fun v0 => vI v0 fun u13 =>
        if u12 = u13 then
          (j5_equals_j36 o (some x1) s)
        else
          (some (0, s)))))
noncomputable def j5_coder (o : Nat) (s : XS) : Option ((Int32) × XS) :=
  if (1 : Int32) = 0 then
    (some (1, s))
  else
    (xf s o 10 1 fun v0 => vI v0 fun u1 =>
    chk (narrow .byte (.int u1) = .int u1) <|
    some (u1, s))
noncomputable def j5_length (o : Nat) (s : XS) : Option ((Int32) × XS) :=
  xf s o 10 0 fun v0 => vR v0 fun r1 =>
  dr r1 fun p2 =>
  xlen s p2 fun u4 =>
  xo s o 10 fun _ =>
  bnd (j5_coder o s) fun v5 s6 =>
  some ((u4 >>> (v5 &&& 31)), s6)
noncomputable def x3_takes (o : Nat) (x1 : Nat) (s : XS) : Option ((Int32) × XS) :=
  xo s o 3 fun _ =>
  bnd (x3_wordHere o s) fun r1 s2 =>
  dr r1 fun p3 =>
  xo s2 p3 10 fun _ =>
  bnd (j5_equals p3 x1 s2) fun v5 s6 =>
  if v5 = 0 then
    (some (0, s6))
  else
    (xf s6 o 3 1 fun v0 => vI v0 fun u7 =>
    xo s6 x1 10 fun _ =>
    bnd (j5_length x1 s6) fun v8 s9 =>
    xp s9 o 3 1 (.int (u7 + v8)) fun s10 =>
    xf s10 o 3 1 fun v0 => vI v0 fun u11 =>
    xp s10 o 3 2 (.int u11) fun s12 =>
    some (1, s12))
noncomputable def j12_init_2_j41 (o : Nat) (x1 : Option Nat) (x2 : Option Nat) (x3 : Int32) (s7 : XS) : Option ((Unit) × XS) :=
  xp s7 o 4 3 (va_rf x1) fun s8 =>
  xp s8 o 4 0 (va_rf x2) fun s9 =>
  if x3 = 0 then
    (xp s9 o 4 2 (.null) fun s10 =>
    some ((), s10))
  else
    (some ((), s9))
noncomputable def j12_init_2 (o : Nat) (x1 : Option Nat) (x2 : Option Nat) (x3 : Int32) (x4 : Int32) (s : XS) : Option ((Unit) × XS) :=
  xp s o 4 0 (.ref o) fun s1 =>
  nm (s1.1.2.2.2 3) fun r2 =>
  xp s1 o 4 1 (va_rf r2) fun s3 =>
  nm (s3.1.2.2.2 4) fun r4 =>
  xp s3 o 4 2 (va_rf r4) fun s5 =>
  if x4 = 0 then
    (xp s5 o 4 1 (.null) fun s6 =>
    j12_init_2_j41 o x1 x2 x3 s6)
  else
    (none)
noncomputable def j13_init (o : Nat) (x1 : Option Nat) (x2 : Option Nat) (x3 : Int32) (x4 : Int32) (s : XS) : Option ((Unit) × XS) :=
  bnd (j12_init_2 o x1 x2 x3 x4 s) fun v1 s2 =>
  some ((), s2)
noncomputable def x4_init (o : Nat) (x1 : Int32) (x2 : Int32) (s : XS) : Option ((Unit) × XS) :=
  bnd (j13_init o none none 0 0 s) fun v1 s2 =>
  xp s2 o 4 6 (.int x1) fun s3 =>
  xp s3 o 4 7 (.int x2) fun s4 =>
  some ((), s4)
noncomputable def x3_unlike (o : Nat) (s : XS) : Option ((Option Nat) × XS) :=
  xmk s 8 (cO 4 dfX4) fun p1 s2 =>
  xo s2 o 3 fun _ =>
  bnd (x3_next o s2) fun v3 s4 =>
  bnd (x4_init p1 1 v3 s4) fun v5 s6 =>
  some ((some p1), s6)
noncomputable def x3_isDigit (o : Nat) (x1 : Int32) (s : XS) : Option ((Int32) × XS) :=
  xf s o 3 0 fun v0 => vI v0 fun u1 =>
  if u1 ≤ x1 then
    (some (0, s))
  else
    (xf s o 3 7 fun v0 => vR v0 fun r2 =>
    dr r2 fun p3 =>
    xf s p3 0 0 fun v0 => vR v0 fun r5 =>
    dr r5 fun p6 =>
    xaI s 2 p6 x1 fun u8 =>
    bnd (stat (x0_isIn u8.toInt64 48 57 ()) s) fun v9 _ =>
    if v9 = 0 then
      (some (0, s))
    else
      (some (1, s)))
noncomputable def x3_number_s9 (o : Nat) (a9 : Int32) (s3 : XS) : Option (((Int32) ⊕ (Int32)) × XS) :=
  xo s3 o 3 fun _ =>
  bnd (x3_isDigit o a9 s3) fun v4 s5 =>
  if v4 = 0 then
    (some (.inr a9, s5))
  else
    (some (.inl (a9 + 1), s5))
noncomputable def x3_number_s49 (o : Nat) (b9 : Int32) (a49 : Int32) (s16 : XS) : Option (((Int32) ⊕ (Int32)) × XS) :=
  xf s16 o 3 1 fun v0 => vI v0 fun u17 =>
  if b9 ≤ u17 then
    (some (.inr a49, s16))
  else
    (xf s16 o 3 7 fun v0 => vR v0 fun r18 =>
    dr r18 fun p19 =>
    xf s16 p19 0 0 fun v0 => vR v0 fun r21 =>
    xf s16 o 3 1 fun v0 => vI v0 fun u22 =>
    dr r21 fun p23 =>
    xaI s16 2 p23 u22 fun u25 =>
    nm ((((10 : Int32) * a49) + u25) - 48) fun u26 =>
    xf s16 o 3 1 fun v0 => vI v0 fun u27 =>
    xp s16 o 3 1 (.int (u27 + 1)) fun s28 =>
    some (.inl u26, s28))
noncomputable def x3_number (o : Nat) (s : XS) : Option (((Int32) ⊕ Nat) × XS) :=
  xo s o 3 fun _ =>
  bnd (x3_next o s) fun v1 s2 =>
  bnd (whileO (x3_number_s9 o) v1 s2) fun b9 s6 =>
  if b9 = v1 then
    (xo s6 o 3 fun _ =>
    bnd (x3_unlike o s6) fun r7 s8 =>
    dr r7 fun p9 =>
    xo s8 p9 4 fun _ =>
    some (.inr p9, s8))
  else
    (if (6 : Int32) < (b9 - v1) then
      (xo s6 o 3 fun _ =>
      bnd (x3_unlike o s6) fun r11 s12 =>
      dr r11 fun p13 =>
      xo s12 p13 4 fun _ =>
      some (.inr p13, s12))
    else
      (xf s6 o 3 2 fun v0 => vI v0 fun u15 =>
      if v1 = u15 then
        (xo s6 o 3 fun _ =>
        bnd (x3_unlike o s6) fun r31 s32 =>
        dr r31 fun p33 =>
        xo s32 p33 4 fun _ =>
        some (.inr p33, s32))
      else
        (bnd (whileO (x3_number_s49 o b9) 0 s6) fun b49 s29 =>
        xp s29 o 3 2 (.int b9) fun s30 =>
        some (.inl b49, s30))))
noncomputable def x3_takesEnd (o : Nat) (s : XS) : Option ((Int32) × XS) :=
  xo s o 3 fun _ =>
  bnd (x3_next o s) fun v1 s2 =>
  xf s2 o 3 0 fun v0 => vI v0 fun u3 =>
  if v1 = u3 then
    (some (0, s2))
  else
    (xf s2 o 3 7 fun v0 => vR v0 fun r4 =>
    dr r4 fun p5 =>
    xf s2 p5 0 0 fun v0 => vR v0 fun r7 =>
    xf s2 o 3 1 fun v0 => vI v0 fun u8 =>
    dr r7 fun p9 =>
    xaI s2 2 p9 u8 fun u11 =>
    if u11 = 59 then
      (xf s2 o 3 1 fun v0 => vI v0 fun u12 =>
      xp s2 o 3 1 (.int (u12 + 1)) fun s13 =>
      some (1, s13))
    else
      (some (0, s2)))
noncomputable def x3_rowRead_s0 (o : Nat) (a0 : Unit) (s1 : XS) : Option (((Unit) ⊕ ((Int32) ⊕ ((Unit) ⊕ (Nat)))) × XS) :=
  xo s1 o 3 fun _ =>
  bnd (x3_next o s1) fun v2 s3 =>
  xo s3 o 3 fun _ =>
  bndT (x3_number o s3) (fun v4 s5 =>
    xf s5 o 3 6 fun v0 => vI v0 fun u6 =>
    if u6 = 13 then
      (some (.inr (.inl v2), s5))
    else
      (xf s5 o 3 5 fun v0 => vR v0 fun r7 =>
      xf s5 o 3 6 fun v0 => vI v0 fun u8 =>
      dr r7 fun p9 =>
      xpI s5 0 p9 u8 v4 fun s11 =>
      xf s11 o 3 6 fun v0 => vI v0 fun u12 =>
      xp s11 o 3 6 (.int (u12 + 1)) fun s13 =>
      xo s13 o 3 fun _ =>
      bnd (x3_takesEnd o s13) fun v14 s15 =>
      if v14 = 0 then
        (some (.inl (), s15))
      else
        (some (.inr (.inr (.inl ())), s15)))) (fun p16 s17 =>
    some (.inr (.inr (.inr p16)), s17))
noncomputable def x3_rowRead (o : Nat) (s : XS) : Option (((Unit) ⊕ Nat) × XS) :=
  bnd (whileO (x3_rowRead_s0 o) () s) fun b0 s18 => match b0 with
  | .inl b0 =>
    xmk s18 8 (cO 4 dfX4) fun p19 s20 =>
    bnd (x4_init p19 3 b0 s20) fun v21 s22 =>
    xo s22 p19 4 fun _ =>
    some (.inr p19, s22)
  | .inr (.inl b0) =>
    some (.inl (), s18)
  | .inr (.inr b0) =>
    some (.inr b0, s18)
noncomputable def j2_size (o : Nat) (s : XS) : Option ((Int32) × XS) :=
  xf s o 7 2 fun v0 => vI v0 fun u1 =>
  some (u1, s)
noncomputable def x5_init_s13 (o : Nat) (x1 : Nat) (a13 : Int32) (s4 : XS) : Option (((Int32) ⊕ (Unit)) × XS) :=
  xlen s4 x1 fun u5 =>
  if u5 ≤ a13 then
    (some (.inr (), s4))
  else
    (xf s4 o 5 0 fun v0 => vR v0 fun r6 =>
    xaI s4 0 x1 a13 fun u7 =>
    dr r6 fun p8 =>
    xpI s4 0 p8 a13 u7 fun s10 =>
    xf s10 o 5 1 fun v0 => vI v0 fun u11 =>
    xaI s10 0 x1 a13 fun u12 =>
    xp s10 o 5 1 (.int (u11 + u12)) fun s13 =>
    some (.inl (a13 + 1), s13))
noncomputable def x5_init (o : Nat) (x1 : Nat) (s : XS) : Option ((Unit) × XS) :=
  xmI s 0 (4 : Int32) fun p1 s2 =>
  xp s2 o 5 0 (.ref p1) fun s3 =>
  bnd (whileO (x5_init_s13 o x1) 0 s3) fun b13 s14 =>
  some ((), s14)
noncomputable def j9_copyOf_3_j24 (x0 : Nat) (x1 : Int32) (k0_24 : Nat) (s4 : XS) : Option ((Option Nat) × XS) :=
  xlen s4 x0 fun u5 =>
  bnd (stat (j8_min u5 x1 ()) s4) fun v6 _ =>
  xcR s4 x0 (0 : Int32) k0_24 (0 : Int32) v6 fun s8 =>
  some ((some k0_24), s8)
noncomputable def j9_copyOf_3 (x0 : Nat) (x1 : Int32) (x2 : Nat) (s : XS) : Option ((Option Nat) × XS) :=
  nm (s.1.2.2.2 10) fun r1 =>
  if (some x2) = r1 then
    (xmR s 4 x1 fun p2 s3 =>
    j9_copyOf_3_j24 x0 x1 p2 s3)
  else
    (none)
noncomputable def j9_copyOf_2 (x0 : Nat) (x1 : Int32) (s : XS) : Option ((Option Nat) × XS) :=
  xan s 4 x0 fun _ =>
  nm (s.1.2.2.2 10) fun r1 =>
  dr r1 fun p2 =>
  bnd (j9_copyOf_3 x0 x1 p2 s) fun r4 s5 =>
  some (r4, s5)
noncomputable def j2_grow_2_j20 (o : Nat) (x1 : Int32) (x2_20 : Int32) (s5 : XS) : Option ((Option Nat) × XS) :=
  bnd (j7_newLength x2_20 (x1 - x2_20) (x2_20 >>> ((1 : Int32) &&& 31)) s5) fun v6 s7 =>
  xf s7 o 7 1 fun v0 => vR v0 fun r8 =>
  dr r8 fun p9 =>
  bnd (j9_copyOf_2 p9 v6 s7) fun r11 s12 =>
  xp s12 o 7 1 (va_rf r11) fun s13 =>
  some (r11, s13)
noncomputable def j2_grow_2 (o : Nat) (x1 : Int32) (s : XS) : Option ((Option Nat) × XS) :=
  xf s o 7 1 fun v0 => vR v0 fun r1 =>
  dr r1 fun p2 =>
  xlen s p2 fun u4 =>
  if (0 : Int32) < u4 then
    (j2_grow_2_j20 o x1 u4 s)
  else
    (xf s o 7 1 fun v0 => vR v0 fun r14 =>
    nm (s.1.2.2.2 2) fun r15 =>
    if r14 = r15 then
      (bnd (stat (j8_max 10 x1 ()) s) fun v16 _ =>
      xmR s 4 v16 fun p18 s19 =>
      xp s19 o 7 1 (.ref p18) fun s20 =>
      some ((some p18), s20))
    else
      (j2_grow_2_j20 o x1 u4 s))
noncomputable def j2_grow (o : Nat) (s : XS) : Option ((Option Nat) × XS) :=
  xf s o 7 2 fun v0 => vI v0 fun u1 =>
  xo s o 7 fun _ =>
  bnd (j2_grow_2 o (u1 + 1) s) fun r2 s3 =>
  some (r2, s3)
noncomputable def j2_add_2_j11 (o : Nat) (x1 : Nat) (x3 : Int32) (x2_11 : Option Nat) (s2 : XS) : Option ((Unit) × XS) :=
  dr x2_11 fun p3 =>
  xpR s2 4 p3 x3 (some x1) fun s5 =>
  xp s5 o 7 2 (.int (x3 + 1)) fun s6 =>
  some ((), s6)
noncomputable def j2_add_2 (o : Nat) (x1 : Nat) (x2 : Nat) (x3 : Int32) (s : XS) : Option ((Unit) × XS) :=
  xlen s x2 fun u1 =>
  if x3 = u1 then
    (xo s o 7 fun _ =>
    bnd (j2_grow o s) fun r7 s8 =>
    j2_add_2_j11 o x1 x3 r7 s8)
  else
    (j2_add_2_j11 o x1 x3 (some x2) s)
noncomputable def j2_add (o : Nat) (x1 : Nat) (s : XS) : Option ((Int32) × XS) :=
  xf s o 7 0 fun v0 => vI v0 fun u1 =>
  xp s o 7 0 (.int (u1 + 1)) fun s2 =>
  xf s2 o 7 1 fun v0 => vR v0 fun r3 =>
  xf s2 o 7 2 fun v0 => vI v0 fun u4 =>
  dr r3 fun p5 =>
  xo s2 o 7 fun _ =>
  bnd (j2_add_2 o x1 p5 u4 s2) fun v7 s8 =>
  some (1, s8)
noncomputable def x3_monoRead_j209 (p27 : Nat) (x3_209 : Int32) (x4_209 : Int32) (x5_209 : Int32) (s55 : XS) : Option (((Int32) ⊕ ((Unit) ⊕ ((Unit) ⊕ ((Unit) ⊕ (Unit))))) × XS) :=
  xaI s55 0 p27 x4_209 fun u56 =>
  xpI s55 0 p27 x4_209 (u56 + x5_209) fun s57 =>
  nm (x3_209 + x5_209) fun u58 =>
  if u58 ≤ 8 then
    (some (.inl u58, s57))
  else
    (some (.inr (.inr (.inr (.inl ()))), s57))
noncomputable def x3_monoRead_j176 (o : Nat) (p27 : Nat) (x3_176 : Int32) (x4_176 : Int32) (k0_176 : Int32) (s51 : XS) : Option (((Int32) ⊕ ((Unit) ⊕ ((Unit) ⊕ ((Unit) ⊕ (Unit))))) × XS) :=
  if k0_176 = 0 then
    (some (.inr (.inr (.inl ())), s51))
  else
    (xf s51 o 3 1 fun v0 => vI v0 fun u52 =>
    xo s51 o 3 fun _ =>
    bnd (x3_isDigit o u52 s51) fun v53 s54 =>
    if v53 = 0 then
      (x3_monoRead_j209 p27 x3_176 x4_176 k0_176 s54)
    else
      (xf s54 o 3 1 fun v0 => vI v0 fun u59 =>
      xp s54 o 3 1 (.int (u59 + 1)) fun s60 =>
      x3_monoRead_j209 p27 x3_176 x4_176 k0_176 s60))
noncomputable def x3_monoRead_j97 (o : Nat) (p27 : Nat) (x3_97 : Int32) (s33 : XS) : Option (((Int32) ⊕ ((Unit) ⊕ ((Unit) ⊕ ((Unit) ⊕ (Unit))))) × XS) :=
  xf s33 o 3 7 fun v0 => vR v0 fun r34 =>
  dr r34 fun p35 =>
  xf s33 p35 0 0 fun v0 => vR v0 fun r37 =>
  xf s33 o 3 1 fun v0 => vI v0 fun u38 =>
  dr r37 fun p39 =>
  xaI s33 2 p39 u38 fun u41 =>
  nm (u41 - 97) fun u42 =>
  xf s33 o 3 3 fun v0 => vI v0 fun u43 =>
  bnd (stat (x0_isIn u42.toInt64 0 ((u43 - 1).toInt64) ()) s33) fun v44 _ =>
  if v44 = 0 then
    (some (.inr (.inl ()), s33))
  else
    (xf s33 o 3 1 fun v0 => vI v0 fun u46 =>
    xp s33 o 3 1 (.int (u46 + 1)) fun s47 =>
    xf s47 o 3 1 fun v0 => vI v0 fun u48 =>
    xo s47 o 3 fun _ =>
    bnd (x3_isDigit o u48 s47) fun v49 s50 =>
    if v49 = 0 then
      (x3_monoRead_j176 o p27 x3_97 u42 1 s50)
    else
      (xf s50 o 3 7 fun v0 => vR v0 fun r61 =>
      dr r61 fun p62 =>
      xf s50 p62 0 0 fun v0 => vR v0 fun r64 =>
      xf s50 o 3 1 fun v0 => vI v0 fun u65 =>
      dr r64 fun p66 =>
      xaI s50 2 p66 u65 fun u68 =>
      x3_monoRead_j176 o p27 x3_97 u42 (u68 - 48) s50))
noncomputable def x3_monoRead_s75 (o : Nat) (p27 : Nat) (a75 : Int32) (s29 : XS) : Option (((Int32) ⊕ ((Unit) ⊕ ((Unit) ⊕ ((Unit) ⊕ (Unit))))) × XS) :=
  xf s29 o 3 1 fun v0 => vI v0 fun u30 =>
  xo s29 o 3 fun _ =>
  bnd (x3_isLetter o u30 s29) fun v31 s32 =>
  if v31 = 0 then
    (xf s32 o 3 1 fun v0 => vI v0 fun u69 =>
    xo s32 o 3 fun _ =>
    bnd (x3_isDigit o u69 s32) fun v70 s71 =>
    if v70 = 0 then
      (some (.inr (.inr (.inr (.inr ()))), s71))
    else
      (x3_monoRead_j97 o p27 a75 s71))
  else
    (x3_monoRead_j97 o p27 a75 s32)
noncomputable def x3_monoRead (o : Nat) (s : XS) : Option (((Unit) ⊕ Nat) × XS) :=
  xo s o 3 fun _ =>
  bnd (x3_next o s) fun v1 s2 =>
  xf s2 o 3 2 fun v0 => vI v0 fun u3 =>
  if v1 = u3 then
    (xo s2 o 3 fun _ =>
    bnd (x3_unlike o s2) fun r4 s5 =>
    dr r4 fun p6 =>
    xo s5 p6 4 fun _ =>
    some (.inr p6, s5))
  else
    (xo s2 o 3 fun _ =>
    bnd (x3_isLetter o v1 s2) fun v8 s9 =>
    if v8 = 0 then
      (xo s9 o 3 fun _ =>
      bnd (x3_unlike o s9) fun r10 s11 =>
      dr r10 fun p12 =>
      xo s11 p12 4 fun _ =>
      some (.inr p12, s11))
    else
      (xf s9 o 3 7 fun v0 => vR v0 fun r14 =>
      dr r14 fun p15 =>
      xf s9 p15 0 0 fun v0 => vR v0 fun r17 =>
      dr r17 fun p18 =>
      xaI s9 2 p18 v1 fun u20 =>
      xf s9 o 3 3 fun v0 => vI v0 fun u21 =>
      if u20 < ((97 : Int32) + u21) then
        (xf s9 o 3 4 fun v0 => vR v0 fun r22 =>
        dr r22 fun p23 =>
        xo s9 p23 7 fun _ =>
        bnd (j2_size p23 s9) fun v25 s26 =>
        if v25 = 40 then
          (xmk s26 8 (cO 4 dfX4) fun p96 s97 =>
          bnd (x4_init p96 3 v1 s97) fun v98 s99 =>
          xo s99 p96 4 fun _ =>
          some (.inr p96, s99))
        else
          (xmI s26 0 (4 : Int32) fun p27 s28 =>
          bnd (whileO (x3_monoRead_s75 o p27) 0 s28) fun b75 s72 => match b75 with
          | .inl b75 =>
            xo s72 o 3 fun _ =>
            bnd (x3_unlike o s72) fun r73 s74 =>
            dr r73 fun p75 =>
            xo s74 p75 4 fun _ =>
            some (.inr p75, s74)
          | .inr (.inl b75) =>
            xo s72 o 3 fun _ =>
            bnd (x3_unlike o s72) fun r77 s78 =>
            dr r77 fun p79 =>
            xo s78 p79 4 fun _ =>
            some (.inr p79, s78)
          | .inr (.inr (.inl b75)) =>
            xmk s72 8 (cO 4 dfX4) fun p81 s82 =>
            bnd (x4_init p81 3 v1 s82) fun v83 s84 =>
            xo s84 p81 4 fun _ =>
            some (.inr p81, s84)
          | .inr (.inr (.inr b75)) =>
            xf s72 o 3 1 fun v0 => vI v0 fun u85 =>
            xp s72 o 3 2 (.int u85) fun s86 =>
            xf s86 o 3 4 fun v0 => vR v0 fun r87 =>
            xmk s86 2 (cO 5 dfX5) fun p88 s89 =>
            bnd (x5_init p88 p27 s89) fun v90 s91 =>
            dr r87 fun p92 =>
            xo s91 p92 7 fun _ =>
            bnd (j2_add p92 p88 s91) fun v94 s95 =>
            some (.inl (), s95)))
      else
        (xo s9 o 3 fun _ =>
        bnd (x3_unlike o s9) fun r100 s101 =>
        dr r100 fun p102 =>
        xo s101 p102 4 fun _ =>
        some (.inr p102, s101))))
noncomputable def x3_statement_s14 (o : Nat) (a14 : Unit) (s35 : XS) : Option (((Unit) ⊕ ((Unit) ⊕ (Nat))) × XS) :=
  xo s35 o 3 fun _ =>
  bndT (x3_monoRead o s35) (fun v36 s37 =>
    xo s37 o 3 fun _ =>
    bnd (x3_takesEnd o s37) fun v38 s39 =>
    if v38 = 0 then
      (some (.inl (), s39))
    else
      (some (.inr (.inl ()), s39))) (fun p40 s41 =>
    some (.inr (.inr p40), s41))
noncomputable def x3_statement (o : Nat) (s : XS) : Option (((Unit) ⊕ Nat) × XS) :=
  xo s o 3 fun _ =>
  bnd (x3_next o s) fun v1 s2 =>
  nm (s2.1.2.2.2 6) fun r3 =>
  dr r3 fun p4 =>
  xo s2 o 3 fun _ =>
  bnd (x3_takes o p4 s2) fun v6 s7 =>
  if v6 = 0 then
    (xo s7 o 3 fun _ =>
    bnd (x3_wordHere o s7) fun r8 s9 =>
    nm (s9.1.2.2.2 7) fun r10 =>
    dr r10 fun p11 =>
    dr r8 fun p13 =>
    xo s9 p13 10 fun _ =>
    bnd (j5_equals p13 p11 s9) fun v15 s16 =>
    if v15 = 0 then
      (xo s16 o 3 fun _ =>
      bnd (x3_unlike o s16) fun r17 s18 =>
      dr r17 fun p19 =>
      xo s18 p19 4 fun _ =>
      some (.inr p19, s18))
    else
      (xf s16 o 3 6 fun v0 => vI v0 fun u21 =>
      if u21 ≤ 0 then
        (nm (s16.1.2.2.2 7) fun r22 =>
        dr r22 fun p23 =>
        xo s16 o 3 fun _ =>
        bnd (x3_takes o p23 s16) fun v25 s26 =>
        xo s26 o 3 fun _ =>
        bndT (x3_rowRead o s26) (fun v27 s28 =>
          some (.inl (), s28)) (fun p29 s30 =>
          some (.inr p29, s30)))
      else
        (xmk s16 8 (cO 4 dfX4) fun p31 s32 =>
        bnd (x4_init p31 3 v1 s32) fun v33 s34 =>
        xo s34 p31 4 fun _ =>
        some (.inr p31, s34))))
  else
    (bnd (whileO (x3_statement_s14 o) () s7) fun b14 s42 => match b14 with
    | .inl b14 =>
      some (.inl (), s42)
    | .inr b14 =>
      some (.inr b14, s42))
noncomputable def j14_init (o : Nat) (x1 : Nat) (s : XS) : Option ((Unit) × XS) :=
  xp s o 8 3 (.ref x1) fun s1 =>
  xp s1 o 8 1 (.int (-1)) fun s2 =>
  xf s2 o 8 3 fun v0 => vR v0 fun r3 =>
  dr r3 fun p4 =>
  xf s2 p4 7 0 fun v0 => vI v0 fun u6 =>
  xp s2 o 8 2 (.int u6) fun s7 =>
  some ((), s7)
noncomputable def j2_iterator (o : Nat) (s : XS) : Option ((Option Nat) × XS) :=
  xmk s 4 (cO 8 dfJ14) fun p1 s2 =>
  bnd (j14_init p1 o s2) fun v3 s4 =>
  some ((some p1), s4)
noncomputable def j14_hasNext (o : Nat) (s : XS) : Option ((Int32) × XS) :=
  xf s o 8 0 fun v0 => vI v0 fun u1 =>
  xf s o 8 3 fun v0 => vR v0 fun r2 =>
  dr r2 fun p3 =>
  xf s p3 7 2 fun v0 => vI v0 fun u5 =>
  if u1 = u5 then
    (some (0, s))
  else
    (some (1, s))
noncomputable def j14_checkForComodification (o : Nat) (s : XS) : Option ((Unit) × XS) :=
  xf s o 8 3 fun v0 => vR v0 fun r1 =>
  dr r1 fun p2 =>
  xf s p2 7 0 fun v0 => vI v0 fun u4 =>
  xf s o 8 2 fun v0 => vI v0 fun u5 =>
  if u4 = u5 then
    (some ((), s))
  else
    (none)
noncomputable def j14_next (o : Nat) (s : XS) : Option ((Option Nat) × XS) :=
  xo s o 8 fun _ =>
  bnd (j14_checkForComodification o s) fun v1 s2 =>
  xf s2 o 8 0 fun v0 => vI v0 fun u3 =>
  xf s2 o 8 3 fun v0 => vR v0 fun r4 =>
  dr r4 fun p5 =>
  xf s2 p5 7 2 fun v0 => vI v0 fun u7 =>
  if u3 < u7 then
    (xf s2 o 8 3 fun v0 => vR v0 fun r8 =>
    dr r8 fun p9 =>
    xf s2 p9 7 1 fun v0 => vR v0 fun r11 =>
    dr r11 fun p12 =>
    xlen s2 p12 fun u14 =>
    if u3 < u14 then
      (xp s2 o 8 0 (.int (u3 + 1)) fun s15 =>
      xp s15 o 8 1 (.int u3) fun s16 =>
      xaR s16 4 p12 u3 fun r17 =>
      some (r17, s16))
    else
      (none))
  else
    (none)
noncomputable def j11_checkIndex (x0 : Int32) (x1 : Int32) (x2 : Option Nat) (s : XS) : Option ((Int32) × XS) :=
  if x0 < 0 then
    (none)
  else
    (if x0 < x1 then
      (some (x0, s))
    else
      (none))
noncomputable def j15_checkIndex (x0 : Int32) (x1 : Int32) (s : XS) : Option ((Int32) × XS) :=
  bnd (j11_checkIndex x0 x1 none s) fun v1 s2 =>
  some (v1, s2)
noncomputable def j2_elementData (o : Nat) (x1 : Int32) (s : XS) : Option ((Option Nat) × XS) :=
  xf s o 7 1 fun v0 => vR v0 fun r1 =>
  dr r1 fun p2 =>
  xaR s 4 p2 x1 fun r4 =>
  some (r4, s)
noncomputable def j2_get (o : Nat) (x1 : Int32) (s : XS) : Option ((Option Nat) × XS) :=
  xf s o 7 2 fun v0 => vI v0 fun u1 =>
  bnd (j15_checkIndex x1 u1 s) fun v2 s3 =>
  xo s3 o 7 fun _ =>
  bnd (j2_elementData o x1 s3) fun r4 s5 =>
  some (r4, s5)
noncomputable def x5_fits_s2 (o : Nat) (x1 : Nat) (a2 : Int32) (s1 : XS) : Option (((Int32) ⊕ ((Unit) ⊕ (Unit))) × XS) :=
  if (4 : Int32) ≤ a2 then
    (some (.inr (.inr ()), s1))
  else
    (xf s1 o 5 0 fun v0 => vR v0 fun r2 =>
    dr r2 fun p3 =>
    xaI s1 0 p3 a2 fun u5 =>
    xaI s1 0 x1 a2 fun u6 =>
    if u5 ≤ u6 then
      (some (.inl (a2 + 1), s1))
    else
      (some (.inr (.inl ()), s1)))
noncomputable def x5_fits (o : Nat) (x1 : Nat) (s : XS) : Option ((Int32) × XS) :=
  bnd (whileO (x5_fits_s2 o x1) 0 s) fun b2 s7 => match b2 with
  | .inl b2 =>
    some (0, s7)
  | .inr b2 =>
    some (1, s7)
noncomputable def x1_covers_s2 (o : Nat) (x1 : Nat) (a2 : Int32) (s1 : XS) : Option (((Int32) ⊕ ((Unit) ⊕ (Unit))) × XS) :=
  xf s1 o 1 1 fun v0 => vR v0 fun r2 =>
  dr r2 fun p3 =>
  xo s1 p3 7 fun _ =>
  bnd (j2_size p3 s1) fun v5 s6 =>
  if v5 ≤ a2 then
    (some (.inr (.inr ()), s6))
  else
    (xf s6 o 1 1 fun v0 => vR v0 fun r7 =>
    dr r7 fun p8 =>
    xo s6 p8 7 fun _ =>
    bnd (j2_get p8 a2 s6) fun r10 s11 =>
    dr r10 fun p12 =>
    xo s11 p12 5 fun _ =>
    xo s11 p12 5 fun _ =>
    bnd (x5_fits p12 x1 s11) fun v14 s15 =>
    if v14 = 0 then
      (some (.inl (a2 + 1), s15))
    else
      (some (.inr (.inl ()), s15)))
noncomputable def x1_covers (o : Nat) (x1 : Nat) (s : XS) : Option ((Int32) × XS) :=
  bnd (whileO (x1_covers_s2 o x1) 0 s) fun b2 s16 => match b2 with
  | .inl b2 =>
    some (1, s16)
  | .inr b2 =>
    some (0, s16)
noncomputable def j2_fastRemove_j34 (o : Nat) (x1 : Nat) (x3_34 : Int32) (s5 : XS) : Option ((Unit) × XS) :=
  xp s5 o 7 2 (.int x3_34) fun s6 =>
  xpR s6 4 x1 x3_34 none fun s7 =>
  some ((), s7)
noncomputable def j2_fastRemove (o : Nat) (x1 : Nat) (x2 : Int32) (s : XS) : Option ((Unit) × XS) :=
  xf s o 7 0 fun v0 => vI v0 fun u1 =>
  xp s o 7 0 (.int (u1 + 1)) fun s2 =>
  xf s2 o 7 2 fun v0 => vI v0 fun u3 =>
  nm (u3 - 1) fun u4 =>
  if (u3 - 1) ≤ x2 then
    (j2_fastRemove_j34 o x1 u4 s2)
  else
    (xcR s2 x1 (x2 + 1) x1 x2 (u4 - x2) fun s8 =>
    j2_fastRemove_j34 o x1 u4 s8)
noncomputable def j2_remove (o : Nat) (x1 : Int32) (s : XS) : Option ((Option Nat) × XS) :=
  xf s o 7 2 fun v0 => vI v0 fun u1 =>
  bnd (j15_checkIndex x1 u1 s) fun v2 s3 =>
  xf s3 o 7 1 fun v0 => vR v0 fun r4 =>
  dr r4 fun p5 =>
  xaR s3 4 p5 x1 fun r7 =>
  xo s3 o 7 fun _ =>
  bnd (j2_fastRemove o p5 x1 s3) fun v8 s9 =>
  some (r7, s9)
noncomputable def x5_isLess_s30 (o : Nat) (x1 : Nat) (a30 : Int32) (s3 : XS) : Option (((Int32) ⊕ (Int32)) × XS) :=
  if (4 : Int32) ≤ a30 then
    (some (.inr a30, s3))
  else
    (xf s3 o 5 0 fun v0 => vR v0 fun r4 =>
    dr r4 fun p5 =>
    xaI s3 0 p5 a30 fun u7 =>
    xf s3 x1 5 0 fun v0 => vR v0 fun r8 =>
    dr r8 fun p9 =>
    xaI s3 0 p9 a30 fun u11 =>
    if u7 = u11 then
      (some (.inl (a30 + 1), s3))
    else
      (some (.inr a30, s3)))
noncomputable def x5_isLess_j56 (o : Nat) (x1 : Nat) (x2_56 : Int32) (s13 : XS) : Option ((Int32) × XS) :=
  if (4 : Int32) ≤ x2_56 then
    (some (0, s13))
  else
    (xf s13 o 5 0 fun v0 => vR v0 fun r14 =>
    dr r14 fun p15 =>
    xaI s13 0 p15 x2_56 fun u17 =>
    xf s13 x1 5 0 fun v0 => vR v0 fun r18 =>
    dr r18 fun p19 =>
    xaI s13 0 p19 x2_56 fun u21 =>
    if u17 ≤ u21 then
      (some (0, s13))
    else
      (some (1, s13)))
noncomputable def x5_isLess (o : Nat) (x1 : Nat) (s : XS) : Option ((Int32) × XS) :=
  xf s o 5 1 fun v0 => vI v0 fun u1 =>
  xf s x1 5 1 fun v0 => vI v0 fun u2 =>
  if u1 = u2 then
    (bnd (whileO (x5_isLess_s30 o x1) 0 s) fun b30 s12 =>
    x5_isLess_j56 o x1 b30 s12)
  else
    (xf s o 5 1 fun v0 => vI v0 fun u22 =>
    xf s x1 5 1 fun v0 => vI v0 fun u23 =>
    if u23 ≤ u22 then
      (some (0, s))
    else
      (some (1, s)))
noncomputable def j2_rangeCheckForAdd (o : Nat) (x1 : Int32) (s : XS) : Option ((Unit) × XS) :=
  xf s o 7 2 fun v0 => vI v0 fun u1 =>
  if u1 < x1 then
    (none)
  else
    (if (0 : Int32) ≤ x1 then
      (some ((), s))
    else
      (none))
noncomputable def j2_add_3_j38 (o : Nat) (x1 : Int32) (x2 : Nat) (x3_38 : Int32) (x4_38 : Option Nat) (s10 : XS) : Option ((Unit) × XS) :=
  dr x4_38 fun p11 =>
  xcR s10 p11 x1 p11 (x1 + 1) (x3_38 - x1) fun s13 =>
  xpR s13 4 p11 x1 (some x2) fun s14 =>
  xp s14 o 7 2 (.int (x3_38 + 1)) fun s15 =>
  some ((), s15)
noncomputable def j2_add_3 (o : Nat) (x1 : Int32) (x2 : Nat) (s : XS) : Option ((Unit) × XS) :=
  xo s o 7 fun _ =>
  bnd (j2_rangeCheckForAdd o x1 s) fun v1 s2 =>
  xf s2 o 7 0 fun v0 => vI v0 fun u3 =>
  xp s2 o 7 0 (.int (u3 + 1)) fun s4 =>
  xf s4 o 7 2 fun v0 => vI v0 fun u5 =>
  xf s4 o 7 1 fun v0 => vR v0 fun r6 =>
  dr r6 fun p7 =>
  xlen s4 p7 fun u9 =>
  if u5 = u9 then
    (xo s4 o 7 fun _ =>
    bnd (j2_grow o s4) fun r16 s17 =>
    j2_add_3_j38 o x1 x2 u5 r16 s17)
  else
    (j2_add_3_j38 o x1 x2 u5 (some p7) s4)
noncomputable def x1_with_s25 (o : Nat) (x1 : Nat) (a25 : Int32) (s12 : XS) : Option (((Int32) ⊕ (Unit)) × XS) :=
  if a25 < 0 then
    (some (.inr (), s12))
  else
    (xf s12 o 1 1 fun v0 => vR v0 fun r13 =>
    dr r13 fun p14 =>
    xo s12 p14 7 fun _ =>
    bnd (j2_get p14 a25 s12) fun r16 s17 =>
    dr r16 fun p18 =>
    xo s17 p18 5 fun _ =>
    xf s17 p18 5 0 fun v0 => vR v0 fun r20 =>
    dr r20 fun p21 =>
    xo s17 x1 5 fun _ =>
    bnd (x5_fits x1 p21 s17) fun v23 s24 =>
    if v23 = 0 then
      (some (.inl (a25 + (-1)), s24))
    else
      (xf s24 o 1 1 fun v0 => vR v0 fun r25 =>
      dr r25 fun p26 =>
      xo s24 p26 7 fun _ =>
      bnd (j2_remove p26 a25 s24) fun r28 s29 =>
      some (.inl (a25 + (-1)), s29)))
noncomputable def x1_with_s71 (o : Nat) (x1 : Nat) (a71 : Int32) (s31 : XS) : Option (((Int32) ⊕ (Int32)) × XS) :=
  xf s31 o 1 1 fun v0 => vR v0 fun r32 =>
  dr r32 fun p33 =>
  xo s31 p33 7 fun _ =>
  bnd (j2_size p33 s31) fun v35 s36 =>
  if v35 ≤ a71 then
    (some (.inr a71, s36))
  else
    (xf s36 o 1 1 fun v0 => vR v0 fun r37 =>
    dr r37 fun p38 =>
    xo s36 p38 7 fun _ =>
    bnd (j2_get p38 a71 s36) fun r40 s41 =>
    dr r40 fun p42 =>
    xo s41 p42 5 fun _ =>
    xo s41 p42 5 fun _ =>
    bnd (x5_isLess p42 x1 s41) fun v44 s45 =>
    if v44 = 0 then
      (some (.inr a71, s45))
    else
      (some (.inl (a71 + 1), s45)))
noncomputable def x1_with_j110 (o : Nat) (x1 : Nat) (x2_110 : Int32) (s47 : XS) : Option ((Option Nat) × XS) :=
  xf s47 o 1 1 fun v0 => vR v0 fun r48 =>
  dr r48 fun p49 =>
  xo s47 p49 7 fun _ =>
  bnd (j2_add_3 p49 x2_110 x1 s47) fun v51 s52 =>
  some ((some o), s52)
noncomputable def x1_with (o : Nat) (x1 : Nat) (s : XS) : Option ((Option Nat) × XS) :=
  xf s x1 5 0 fun v0 => vR v0 fun r1 =>
  dr r1 fun p2 =>
  xo s o 1 fun _ =>
  bnd (x1_covers o p2 s) fun v4 s5 =>
  if v4 = 0 then
    (xf s5 o 1 1 fun v0 => vR v0 fun r6 =>
    dr r6 fun p7 =>
    xo s5 p7 7 fun _ =>
    bnd (j2_size p7 s5) fun v9 s10 =>
    nm (v9 - 1) fun u11 =>
    bnd (whileO (x1_with_s25 o x1) u11 s10) fun b25 s30 =>
    bnd (whileO (x1_with_s71 o x1) 0 s30) fun b71 s46 =>
    x1_with_j110 o x1 b71 s46)
  else
    (some ((some o), s5))
noncomputable def x1_withAll_s7 (o : Nat) (r1 : Option Nat) (a7 : Unit) (s3 : XS) : Option (((Unit) ⊕ (Unit)) × XS) :=
  dr r1 fun p4 =>
  xo s3 p4 8 fun _ =>
  bnd (j14_hasNext p4 s3) fun v6 s7 =>
  if v6 = 0 then
    (some (.inr (), s7))
  else
    (xo s7 p4 8 fun _ =>
    bnd (j14_next p4 s7) fun r8 s9 =>
    dr r8 fun p10 =>
    xo s9 p10 5 fun _ =>
    xo s9 o 1 fun _ =>
    bnd (x1_with o p10 s9) fun r12 s13 =>
    some (.inl (), s13))
noncomputable def x1_withAll (o : Nat) (x1 : Nat) (s : XS) : Option ((Option Nat) × XS) :=
  xo s x1 7 fun _ =>
  bnd (j2_iterator x1 s) fun r1 s2 =>
  bnd (whileO (x1_withAll_s7 o r1) () s2) fun b7 s14 =>
  some ((some o), s14)
noncomputable def x3_varsRead (o : Nat) (s : XS) : Option (((Unit) ⊕ Nat) × XS) :=
  xo s o 3 fun _ =>
  bnd (x3_next o s) fun v1 s2 =>
  xo s2 o 3 fun _ =>
  bndT (x3_number o s2) (fun v3 s4 =>
    bnd (stat (x0_isIn v3.toInt64 1 4 ()) s4) fun v5 _ =>
    if v5 = 0 then
      (xmk s4 8 (cO 4 dfX4) fun p14 s15 =>
      bnd (x4_init p14 2 v1 s15) fun v16 s17 =>
      xo s17 p14 4 fun _ =>
      some (.inr p14, s17))
    else
      (xp s4 o 3 3 (.int v3) fun s7 =>
      xo s7 o 3 fun _ =>
      bnd (x3_takesEnd o s7) fun v8 s9 =>
      if v8 = 0 then
        (xo s9 o 3 fun _ =>
        bnd (x3_unlike o s9) fun r10 s11 =>
        dr r10 fun p12 =>
        xo s11 p12 4 fun _ =>
        some (.inr p12, s11))
      else
        (some (.inl (), s9)))) (fun p18 s19 =>
    some (.inr p18, s19))
noncomputable def x3_read_s13 (o : Nat) (a13 : Unit) (s7 : XS) : Option (((Unit) ⊕ ((Unit) ⊕ (Nat))) × XS) :=
  xo s7 o 3 fun _ =>
  bnd (x3_next o s7) fun v8 s9 =>
  xf s9 o 3 0 fun v0 => vI v0 fun u10 =>
  if u10 ≤ v8 then
    (some (.inr (.inl ()), s9))
  else
    (xo s9 o 3 fun _ =>
    bndT (x3_statement o s9) (fun v11 s12 =>
      some (.inl (), s12)) (fun p13 s14 =>
      some (.inr (.inr p13), s14)))
noncomputable def x3_read_j13 (o : Nat) (s6 : XS) : Option (((Option Nat) ⊕ Nat) × XS) :=
  bnd (whileO (x3_read_s13 o) () s6) fun b13 s15 => match b13 with
  | .inl b13 =>
    xf s15 o 3 6 fun v0 => vI v0 fun u16 =>
    xmI s15 0 u16 fun p17 s18 =>
    xf s18 o 3 5 fun v0 => vR v0 fun r19 =>
    xf s18 o 3 6 fun v0 => vI v0 fun u20 =>
    dr r19 fun p21 =>
    xcI s18 0 p21 (0 : Int32) p17 (0 : Int32) u20 fun s23 =>
    xmk s23 6 (cO 1 dfX1) fun p24 s25 =>
    xf s25 o 3 3 fun v0 => vI v0 fun u26 =>
    bnd (x1_init_2 p24 u26 p17 s25) fun v27 s28 =>
    xf s28 o 3 4 fun v0 => vR v0 fun r29 =>
    dr r29 fun p30 =>
    xo s28 p24 1 fun _ =>
    bnd (x1_withAll p24 p30 s28) fun r32 s33 =>
    some (.inl r32, s33)
  | .inr b13 =>
    some (.inr b13, s15)
noncomputable def x3_read (o : Nat) (s : XS) : Option (((Option Nat) ⊕ Nat) × XS) :=
  nm (s.1.2.2.2 5) fun r1 =>
  dr r1 fun p2 =>
  xo s o 3 fun _ =>
  bnd (x3_takes o p2 s) fun v4 s5 =>
  if v4 = 0 then
    (x3_read_j13 o s5)
  else
    (xo s5 o 3 fun _ =>
    bndT (x3_varsRead o s5) (fun v34 s35 =>
      x3_read_j13 o s35) (fun p36 s37 =>
      some (.inr p36, s37)))
noncomputable def x0_becomes_j25 (o : Nat) (x1 : Nat) (s6 : XS) : Option ((Unit) × XS) :=
  xf s6 o 0 6 fun v0 => vR v0 fun r7 =>
  xf s6 o 0 3 fun v0 => vR v0 fun r8 =>
  dr r8 fun p9 =>
  dr r7 fun p11 =>
  xo s6 p11 7 fun _ =>
  bnd (j2_add p11 p9 s6) fun v13 s14 =>
  xp s14 o 0 3 (.ref x1) fun s15 =>
  some ((), s15)
noncomputable def x0_becomes (o : Nat) (x1 : Nat) (s : XS) : Option ((Unit) × XS) :=
  xf s o 0 6 fun v0 => vR v0 fun r1 =>
  dr r1 fun p2 =>
  xo s p2 7 fun _ =>
  bnd (j2_size p2 s) fun v4 s5 =>
  if v4 = 20 then
    (xf s5 o 0 6 fun v0 => vR v0 fun r16 =>
    dr r16 fun p17 =>
    xo s5 p17 7 fun _ =>
    bnd (j2_remove p17 0 s5) fun r19 s20 =>
    x0_becomes_j25 o x1 s20)
  else
    (x0_becomes_j25 o x1 s5)
noncomputable def x0_text_j51 (o : Nat) (k0_51 : Nat) (s26 : XS) : Option ((Int32) × XS) :=
  xf s26 k0_51 4 6 fun v0 => vI v0 fun u27 =>
  xp s26 o 0 4 (.int u27) fun s28 =>
  xf s28 k0_51 4 7 fun v0 => vI v0 fun u29 =>
  xp s28 o 0 5 (.int u29) fun s30 =>
  xo s30 o 0 fun _ =>
  bnd (x0_refused o 1 s30) fun v31 s32 =>
  some (v31, s32)
noncomputable def x0_text (o : Nat) (s : XS) : Option ((Int32) × XS) :=
  xmk s 8 (cO 3 dfX3) fun p1 s2 =>
  xo s2 o 0 fun _ =>
  bnd (x0_takesTape o s2) fun v3 s4 =>
  bnd (x3_init p1 o v3 s4) fun v5 s6 =>
  xo s6 p1 3 fun _ =>
  bndT (x3_read p1 s6) (fun r7 s8 =>
    xp s8 o 0 4 (.int 0) fun s9 =>
    xp s9 o 0 5 (.int (-1)) fun s10 =>
    dr r7 fun p11 =>
    xo s10 o 0 fun _ =>
    bnd (x0_becomes o p11 s10) fun v13 s14 =>
    xp s14 o 0 12 (.null) fun s15 =>
    xf s15 o 0 3 fun v0 => vR v0 fun r16 =>
    dr r16 fun p17 =>
    xf s15 p17 1 1 fun v0 => vR v0 fun r19 =>
    dr r19 fun p20 =>
    xo s15 p20 7 fun _ =>
    bnd (j2_size p20 s15) fun v22 s23 =>
    some (v22, s23)) (fun p24 s25 =>
    x0_text_j51 o p24 s25)
noncomputable def x0_fault (o : Nat) (x1 : Int32) (s : XS) : Option ((Int32) × XS) :=
  if x1 = 0 then
    (xf s o 0 4 fun v0 => vI v0 fun u2 =>
    some (u2, s))
  else
    (if x1 = 1 then
      (xf s o 0 5 fun v0 => vI v0 fun u1 =>
      some (u1, s))
    else
      (some ((-1), s)))
noncomputable def x0_flag (x0 : Int32) (s : Unit) : Option (Int32 × Unit) :=
  if x0 = 0 then
    (some (0, s))
  else
    (some (1, s))
noncomputable def x0_held_s10 (x0 : Nat) (u1 : Int32) (a10 : Int32 × Int32) (s2 : XS) : Option (((Int32 × Int32) ⊕ (Int32)) × XS) :=
  if u1 ≤ a10.2 then
    (some (.inr a10.1, s2))
  else
    (xaI s2 3 x0 a10.2 fun u3 =>
    bnd (stat (x0_flag u3 ()) s2) fun v4 _ =>
    nm (a10.1 + v4) fun u6 =>
    some (.inl (u6, (a10.2 + 1)), s2))
noncomputable def x0_held (x0 : Nat) (s : XS) : Option ((Int32) × XS) :=
  xlen s x0 fun u1 =>
  bnd (whileO (x0_held_s10 x0 u1) (0, 0) s) fun b10 s7 =>
  some (b10, s7)
noncomputable def x0_has (o : Nat) (x1 : Int32) (s : XS) : Option ((Int32) × XS) :=
  if x1 = 0 then
    (xf s o 0 3 fun v0 => vR v0 fun r1 =>
    dr r1 fun p2 =>
    xf s p2 1 0 fun v0 => vI v0 fun u4 =>
    some (u4, s))
  else
    (if x1 = 1 then
      (xf s o 0 3 fun v0 => vR v0 fun r5 =>
      dr r5 fun p6 =>
      xf s p6 1 1 fun v0 => vR v0 fun r8 =>
      dr r8 fun p9 =>
      xo s p9 7 fun _ =>
      bnd (j2_size p9 s) fun v11 s12 =>
      some (v11, s12))
    else
      (if x1 = 2 then
        (xf s o 0 3 fun v0 => vR v0 fun r13 =>
        dr r13 fun p14 =>
        xf s p14 1 2 fun v0 => vR v0 fun r16 =>
        dr r16 fun p17 =>
        xlen s p17 fun u19 =>
        some (u19, s))
      else
        (if x1 = 3 then
          (xf s o 0 12 fun v0 => vR v0 fun r20 =>
          match r20 with
          | none => (some (0, s))
          | some p21 => (xf s o 0 12 fun v0 => vR v0 fun r22 =>
            dr r22 fun p23 =>
            bnd (x0_held p23 s) fun v25 s26 =>
            some (v25, s26)))
        else
          (if x1 = 4 then
            (xf s o 0 12 fun v0 => vR v0 fun r27 =>
            match r27 with
            | none => (some ((-1), s))
            | some p28 => (xf s o 0 13 fun v0 => vI v0 fun u29 =>
              some (u29, s)))
          else
            (if x1 = 5 then
              (xf s o 0 6 fun v0 => vR v0 fun r30 =>
              dr r30 fun p31 =>
              xo s p31 7 fun _ =>
              bnd (j2_size p31 s) fun v33 s34 =>
              some (v33, s34))
            else
              (some ((-1), s)))))))
noncomputable def x0_isDegree (x0 : Int32) (s : Unit) : Option (Int32 × Unit) :=
  bnd (stat (x0_isIn x0.toInt64 0 40 ()) s) fun v1 _ =>
  chk (v1 &&& 1 = v1) <|
  some (v1, s)
noncomputable def x0_manyOf (x0 : Int32) (x1 : Int32) (s : XS) : Option ((Int32) × XS) :=
  if x0 = 0 then
    (if x1 = 0 then
      (bnd (stat (x0_flag 1 ()) s) fun v10 _ =>
      some (v10, s))
    else
      (bnd (stat (x0_flag 0 ()) s) fun v8 _ =>
      some (v8, s)))
  else
    (nm (s.1.2.2.2 0) fun r1 =>
    dr r1 fun p2 =>
    xaR s 6 p2 ((x0 - 1) + x1) fun r4 =>
    dr r4 fun p5 =>
    xaI s 0 p5 (x0 - 1) fun u7 =>
    some (u7, s))
noncomputable def x0_manyHere (o : Nat) (x1 : Int32) (s : XS) : Option ((Int32) × XS) :=
  xf s o 0 3 fun v0 => vR v0 fun r1 =>
  dr r1 fun p2 =>
  xf s p2 1 0 fun v0 => vI v0 fun u4 =>
  bnd (x0_manyOf u4 x1 s) fun v5 s6 =>
  some (v5, s6)
noncomputable def x0_many (o : Nat) (x1 : Int32) (s : XS) : Option ((Int32) × XS) :=
  bnd (stat (x0_isDegree x1 ()) s) fun v1 _ =>
  if v1 = 0 then
    (some ((-1), s))
  else
    (xo s o 0 fun _ =>
    bnd (x0_manyHere o x1 s) fun v3 s4 =>
    some (v3, s4))
noncomputable def x0_isMono (o : Nat) (x1 : Int32) (x2 : Int32) (s : XS) : Option ((Int32) × XS) :=
  bnd (stat (x0_isDegree x1 ()) s) fun v1 _ =>
  if v1 = 0 then
    (some (0, s))
  else
    (xo s o 0 fun _ =>
    bnd (x0_manyHere o x1 s) fun v3 s4 =>
    bnd (stat (x0_isIn x2.toInt64 0 ((v3 - 1).toInt64) ()) s4) fun v5 _ =>
    if v5 = 0 then
      (some (0, s4))
    else
      (some (1, s4)))
noncomputable def x0_laysOne_s19 (x1 : Int32) (a9 : Int32 × Int32 × Int32) (a19 : Int32 × Int32) (s2 : XS) : Option (((Int32 × Int32) ⊕ (Int32 × Int32)) × XS) :=
  bnd (x0_manyOf ((x1 - 1) - a9.2.2) (a9.1 - a19.2) s2) fun v3 s4 =>
  if a19.1 < v3 then
    (some (.inr (a19.1, a19.2), s4))
  else
    (bnd (x0_manyOf ((x1 - 1) - a9.2.2) (a9.1 - a19.2) s4) fun v5 s6 =>
    nm (a19.1 - v5) fun u7 =>
    some (.inl (u7, (a19.2 + (-1))), s6))
noncomputable def x0_laysOne_s9 (x0 : Nat) (x1 : Int32) (a9 : Int32 × Int32 × Int32) (s1 : XS) : Option (((Int32 × Int32 × Int32) ⊕ (Unit)) × XS) :=
  if x1 ≤ a9.2.2 then
    (some (.inr (), s1))
  else
    (bnd (whileO (x0_laysOne_s19 x1 a9) (a9.2.1, a9.1) s1) fun b19 s8 =>
    xpI s8 0 x0 a9.2.2 b19.2 fun s9 =>
    nm (a9.1 - b19.2) fun u10 =>
    some (.inl (u10, b19.1, (a9.2.2 + 1)), s9))
noncomputable def x0_laysOne (x0 : Nat) (x1 : Int32) (x2 : Int32) (x3 : Int32) (s : XS) : Option ((Unit) × XS) :=
  bnd (whileO (x0_laysOne_s9 x0 x1) (x2, x3, 0) s) fun b9 s11 =>
  some ((), s11)
noncomputable def x5_init_2 (o : Nat) (x1 : Int32) (x2 : Int32) (x3 : Int32) (s : XS) : Option ((Unit) × XS) :=
  xmI s 0 (0 : Int32) fun p1 s2 =>
  bnd (x5_init o p1 s2) fun v3 s4 =>
  xf s4 o 5 0 fun v0 => vR v0 fun r5 =>
  dr r5 fun p6 =>
  bnd (x0_laysOne p6 x1 x2 x3 s4) fun v8 s9 =>
  xp s9 o 5 1 (.int x2) fun s10 =>
  some ((), s10)
noncomputable def x0_mono (o : Nat) (x1 : Int32) (x2 : Int32) (s : XS) : Option ((Option Nat) × XS) :=
  xmk s 2 (cO 5 dfX5) fun p1 s2 =>
  xf s2 o 0 3 fun v0 => vR v0 fun r3 =>
  dr r3 fun p4 =>
  xf s2 p4 1 0 fun v0 => vI v0 fun u6 =>
  bnd (x5_init_2 p1 u6 x1 x2 s2) fun v7 s8 =>
  some ((some p1), s8)
noncomputable def x0_power (o : Nat) (x1 : Int32) (x2 : Int32) (x3 : Int32) (s : XS) : Option ((Int32) × XS) :=
  xo s o 0 fun _ =>
  bnd (x0_isMono o x1 x2 s) fun v1 s2 =>
  if v1 = 0 then
    (some ((-1), s2))
  else
    (xf s2 o 0 3 fun v0 => vR v0 fun r3 =>
    dr r3 fun p4 =>
    xf s2 p4 1 0 fun v0 => vI v0 fun u6 =>
    bnd (stat (x0_isIn x3.toInt64 0 ((u6 - 1).toInt64) ()) s2) fun v7 _ =>
    if v7 = 0 then
      (some ((-1), s2))
    else
      (xo s2 o 0 fun _ =>
      bnd (x0_mono o x1 x2 s2) fun r9 s10 =>
      dr r9 fun p11 =>
      xf s10 p11 5 0 fun v0 => vR v0 fun r13 =>
      dr r13 fun p14 =>
      xaI s10 0 p14 x3 fun u16 =>
      some (u16, s10)))
noncomputable def x0_arePowers_j40 (x1 : Nat) (x2_40 : Int64) (x4_40 : Int32) (s5 : XS) : Option (((Int64 × Int32) ⊕ ((Unit) ⊕ (Int64))) × XS) :=
  xaI s5 0 x1 x4_40 fun u6 =>
  nm (x2_40 + u6.toInt64) fun w7 =>
  some (.inl (w7, (x4_40 + 1)), s5)
noncomputable def x0_arePowers_s5 (o : Nat) (x1 : Nat) (a5 : Int64 × Int32) (s1 : XS) : Option (((Int64 × Int32) ⊕ ((Unit) ⊕ (Int64))) × XS) :=
  xlen s1 x1 fun u2 =>
  if u2 ≤ a5.2 then
    (some (.inr (.inr a5.1), s1))
  else
    (xaI s1 0 x1 a5.2 fun u3 =>
    if u3 < 0 then
      (some (.inr (.inl ()), s1))
    else
      (xaI s1 0 x1 a5.2 fun u4 =>
      if u4 ≤ 0 then
        (x0_arePowers_j40 x1 a5.1 a5.2 s1)
      else
        (xf s1 o 0 3 fun v0 => vR v0 fun r8 =>
        dr r8 fun p9 =>
        xf s1 p9 1 0 fun v0 => vI v0 fun u11 =>
        if a5.2 < u11 then
          (x0_arePowers_j40 x1 a5.1 a5.2 s1)
        else
          (some (.inr (.inl ()), s1)))))
noncomputable def x0_arePowers (o : Nat) (x1 : Nat) (s : XS) : Option ((Int32) × XS) :=
  bnd (whileO (x0_arePowers_s5 o x1) (0, 0) s) fun b5 s12 => match b5 with
  | .inl b5 =>
    some (0, s12)
  | .inr b5 =>
    if (40 : Int64) < b5 then
      (some (0, s12))
    else
      (some (1, s12))
noncomputable def x0_numberOf_s18 (x0 : Nat) (x2 : Int32) (a8 : Int32 × Int32 × Int32) (a18 : Int32 × Int32) (s2 : XS) : Option (((Int32 × Int32) ⊕ (Int32)) × XS) :=
  xaI s2 0 x0 a8.2.2 fun u3 =>
  if a18.2 ≤ u3 then
    (some (.inr a18.1, s2))
  else
    (bnd (x0_manyOf ((x2 - 1) - a8.2.2) (a8.2.1 - a18.2) s2) fun v4 s5 =>
    nm (a18.1 + v4) fun u6 =>
    some (.inl (u6, (a18.2 + (-1))), s5))
noncomputable def x0_numberOf_s8 (x0 : Nat) (x2 : Int32) (a8 : Int32 × Int32 × Int32) (s1 : XS) : Option (((Int32 × Int32 × Int32) ⊕ (Int32)) × XS) :=
  if x2 ≤ a8.2.2 then
    (some (.inr a8.1, s1))
  else
    (bnd (whileO (x0_numberOf_s18 x0 x2 a8) (a8.1, a8.2.1) s1) fun b18 s7 =>
    xaI s7 0 x0 a8.2.2 fun u8 =>
    nm (a8.2.1 - u8) fun u9 =>
    some (.inl (b18, u9, (a8.2.2 + 1)), s7))
noncomputable def x0_numberOf (x0 : Nat) (x1 : Int32) (x2 : Int32) (s : XS) : Option ((Int32) × XS) :=
  bnd (whileO (x0_numberOf_s8 x0 x2) (0, x1, 0) s) fun b8 s10 =>
  some (b8, s10)
noncomputable def x5_number (o : Nat) (x1 : Int32) (s : XS) : Option ((Int32) × XS) :=
  xf s o 5 0 fun v0 => vR v0 fun r1 =>
  xf s o 5 1 fun v0 => vI v0 fun u2 =>
  dr r1 fun p3 =>
  bnd (x0_numberOf p3 u2 x1 s) fun v5 s6 =>
  some (v5, s6)
noncomputable def x0_number (o : Nat) (x1 : Int32) (x2 : Int32) (x3 : Int32) (x4 : Int32) (s : XS) : Option ((Int32) × XS) :=
  xmI s 0 (4 : Int32) fun p1 s2 =>
  xpI s2 0 p1 (0 : Int32) x1 fun s3 =>
  xpI s3 0 p1 (1 : Int32) x2 fun s4 =>
  xpI s4 0 p1 (2 : Int32) x3 fun s5 =>
  xpI s5 0 p1 (3 : Int32) x4 fun s6 =>
  xo s6 o 0 fun _ =>
  bnd (x0_arePowers o p1 s6) fun v7 s8 =>
  if v7 = 0 then
    (some ((-1), s8))
  else
    (xmk s8 2 (cO 5 dfX5) fun p9 s10 =>
    xmI s10 0 (4 : Int32) fun p11 s12 =>
    xpI s12 0 p11 (0 : Int32) x1 fun s13 =>
    xpI s13 0 p11 (1 : Int32) x2 fun s14 =>
    xpI s14 0 p11 (2 : Int32) x3 fun s15 =>
    xpI s15 0 p11 (3 : Int32) x4 fun s16 =>
    bnd (x5_init p9 p11 s16) fun v17 s18 =>
    xf s18 o 0 3 fun v0 => vR v0 fun r19 =>
    dr r19 fun p20 =>
    xf s18 p20 1 0 fun v0 => vI v0 fun u22 =>
    xo s18 p9 5 fun _ =>
    bnd (x5_number p9 u22 s18) fun v23 s24 =>
    some (v23, s24))
noncomputable def x0_generator (o : Nat) (x1 : Int32) (x2 : Int32) (s : XS) : Option ((Int32) × XS) :=
  xf s o 0 3 fun v0 => vR v0 fun r1 =>
  dr r1 fun p2 =>
  xf s p2 1 1 fun v0 => vR v0 fun r4 =>
  dr r4 fun p5 =>
  xo s p5 7 fun _ =>
  bnd (j2_size p5 s) fun v7 s8 =>
  bnd (stat (x0_isIn x1.toInt64 0 ((v7 - 1).toInt64) ()) s8) fun v9 _ =>
  if v9 = 0 then
    (some ((-1), s8))
  else
    (bnd (stat (x0_isIn x2.toInt64 0 1 ()) s8) fun v11 _ =>
    if v11 = 0 then
      (some ((-1), s8))
    else
      (xf s8 o 0 3 fun v0 => vR v0 fun r13 =>
      dr r13 fun p14 =>
      xf s8 p14 1 1 fun v0 => vR v0 fun r16 =>
      dr r16 fun p17 =>
      xo s8 p17 7 fun _ =>
      bnd (j2_get p17 x1 s8) fun r19 s20 =>
      dr r19 fun p21 =>
      xo s20 p21 5 fun _ =>
      if x2 = 0 then
        (xf s20 p21 5 1 fun v0 => vI v0 fun u29 =>
        some (u29, s20))
      else
        (xf s20 o 0 3 fun v0 => vR v0 fun r23 =>
        dr r23 fun p24 =>
        xf s20 p24 1 0 fun v0 => vI v0 fun u26 =>
        xo s20 p21 5 fun _ =>
        bnd (x5_number p21 u26 s20) fun v27 s28 =>
        some (v27, s28))))
noncomputable def x0_in (o : Nat) (x1 : Int32) (x2 : Int32) (s : XS) : Option ((Int32) × XS) :=
  xo s o 0 fun _ =>
  bnd (x0_isMono o x1 x2 s) fun v1 s2 =>
  if v1 = 0 then
    (some ((-1), s2))
  else
    (xf s2 o 0 3 fun v0 => vR v0 fun r3 =>
    xo s2 o 0 fun _ =>
    bnd (x0_mono o x1 x2 s2) fun r4 s5 =>
    dr r4 fun p6 =>
    xf s5 p6 5 0 fun v0 => vR v0 fun r8 =>
    dr r8 fun p9 =>
    dr r3 fun p11 =>
    xo s5 p11 1 fun _ =>
    bnd (x1_covers p11 p9 s5) fun v13 s14 =>
    bnd (stat (x0_flag v13 ()) s14) fun v15 _ =>
    some (v15, s14))
noncomputable def x1_size_s17 (a17 : Int32) (s6 : XS) : Option (((Int32) ⊕ (Unit)) × XS) :=
  if (40 : Int32) < a17 then
    (some (.inr (), s6))
  else
    (none)
noncomputable def x1_size (o : Nat) (x1 : Int32) (s : XS) : Option ((Int32) × XS) :=
  xf s o 1 3 fun v0 => vR v0 fun r1 =>
  match r1 with
  | none => (xmI s 0 (41 : Int32) fun p3 s4 =>
    xp s4 o 1 3 (.ref p3) fun s5 =>
    bnd (whileO x1_size_s17 0 s5) fun b17 s8 =>
    xf s8 o 1 3 fun v0 => vR v0 fun r9 =>
    dr r9 fun p10 =>
    xaI s8 0 p10 x1 fun u12 =>
    some (u12, s8))
  | some p2 => (xf s o 1 3 fun v0 => vR v0 fun r13 =>
    dr r13 fun p14 =>
    xaI s 0 p14 x1 fun u16 =>
    some (u16, s))
noncomputable def x0_size (o : Nat) (x1 : Int32) (s : XS) : Option ((Int32) × XS) :=
  bnd (stat (x0_isDegree x1 ()) s) fun v1 _ =>
  if v1 = 0 then
    (some ((-1), s))
  else
    (xf s o 0 3 fun v0 => vR v0 fun r3 =>
    dr r3 fun p4 =>
    xo s p4 1 fun _ =>
    bnd (x1_size p4 x1 s) fun v6 s7 =>
    some (v6, s7))
noncomputable def x1_numerator_s17 (o : Nat) (a17 : Int32) (s6 : XS) : Option (((Int32) ⊕ (Unit)) × XS) :=
  if (40 : Int32) < a17 then
    (some (.inr (), s6))
  else
    (xf s6 o 1 4 fun v0 => vR v0 fun r7 =>
    xo s6 o 1 fun _ =>
    bnd (x1_size o a17 s6) fun v8 s9 =>
    dr r7 fun p10 =>
    xpL s9 p10 a17 v8.toInt64 fun s12 =>
    some (.inl (a17 + 1), s12))
noncomputable def x1_numerator_s54 (o : Nat) (a54 : Int32) (s16 : XS) : Option (((Int32) ⊕ (Unit)) × XS) :=
  if a54 ≤ 0 then
    (some (.inr (), s16))
  else
    (xf s16 o 1 4 fun v0 => vR v0 fun r17 =>
    dr r17 fun p18 =>
    xaL s16 p18 a54 fun w20 =>
    xf s16 o 1 4 fun v0 => vR v0 fun r21 =>
    dr r21 fun p22 =>
    xaL s16 p22 (a54 - 1) fun w24 =>
    xpL s16 p18 a54 (w20 - w24) fun s25 =>
    some (.inl (a54 + (-1)), s25))
noncomputable def x1_numerator_s43 (o : Nat) (a43 : Int32) (s14 : XS) : Option (((Int32) ⊕ (Unit)) × XS) :=
  xf s14 o 1 0 fun v0 => vI v0 fun u15 =>
  if u15 ≤ a43 then
    (some (.inr (), s14))
  else
    (bnd (whileO (x1_numerator_s54 o) 40 s14) fun b54 s26 =>
    some (.inl (a43 + 1), s26))
noncomputable def x1_numerator (o : Nat) (x1 : Int32) (s : XS) : Option ((Int64) × XS) :=
  xf s o 1 4 fun v0 => vR v0 fun r1 =>
  match r1 with
  | none => (xmL s (41 : Int32) fun p3 s4 =>
    xp s4 o 1 4 (.ref p3) fun s5 =>
    bnd (whileO (x1_numerator_s17 o) 0 s5) fun b17 s13 =>
    bnd (whileO (x1_numerator_s43 o) 0 s13) fun b43 s27 =>
    xf s27 o 1 4 fun v0 => vR v0 fun r28 =>
    dr r28 fun p29 =>
    xaL s27 p29 x1 fun w31 =>
    some (w31, s27))
  | some p2 => (xf s o 1 4 fun v0 => vR v0 fun r32 =>
    dr r32 fun p33 =>
    xaL s p33 x1 fun w35 =>
    some (w35, s))
noncomputable def x1_poly_s32 (o : Nat) (x1 : Int32) (a5 : Int64 × Int32) (a32 : Int64 × Int32) (s4 : XS) : Option (((Int64 × Int32) ⊕ (Int64)) × XS) :=
  xf s4 o 1 0 fun v0 => vI v0 fun u5 =>
  if u5 ≤ a32.2 then
    (some (.inr a32.1, s4))
  else
    (nm (a32.1 * ((x1 - a5.2) + a32.2).toInt64) fun w6 =>
    some (.inl (w6, (a32.2 + 1)), s4))
noncomputable def x1_poly_s63 (o : Nat) (a63 : Int64 × Int32) (s8 : XS) : Option (((Int64 × Int32) ⊕ (Int64)) × XS) :=
  xf s8 o 1 0 fun v0 => vI v0 fun u9 =>
  if u9 ≤ a63.2 then
    (some (.inr a63.1, s8))
  else
    (chk (¬ a63.2.toInt64 = 0) <|
    nm (a63.1 / a63.2.toInt64) fun w10 =>
    some (.inl (w10, (a63.2 + 1)), s8))
noncomputable def x1_poly_s5 (o : Nat) (x1 : Int32) (a5 : Int64 × Int32) (s1 : XS) : Option (((Int64 × Int32) ⊕ (Int64)) × XS) :=
  if (40 : Int32) < a5.2 then
    (some (.inr a5.1, s1))
  else
    (xo s1 o 1 fun _ =>
    bnd (x1_numerator o a5.2 s1) fun v2 s3 =>
    if v2 = 0 then
      (some (.inl (a5.1, (a5.2 + 1)), s3))
    else
      (bnd (whileO (x1_poly_s32 o x1 a5) (1, 1) s3) fun b32 s7 =>
      bnd (whileO (x1_poly_s63 o) (b32, 2) s7) fun b63 s11 =>
      xo s11 o 1 fun _ =>
      bnd (x1_numerator o a5.2 s11) fun v12 s13 =>
      nm (a5.1 + (v12 * b63)) fun w14 =>
      some (.inl (w14, (a5.2 + 1)), s13)))
noncomputable def x1_poly (o : Nat) (x1 : Int32) (s : XS) : Option ((Int64) × XS) :=
  bnd (whileO (x1_poly_s5 o x1) (0, 0) s) fun b5 s15 =>
  some (b5, s15)
noncomputable def x0_poly (o : Nat) (x1 : Int32) (s : XS) : Option ((Int64) × XS) :=
  bnd (stat (x0_isIn x1.toInt64 0 1000 ()) s) fun v1 _ =>
  if v1 = 0 then
    (some ((-1000000000000000), s))
  else
    (xf s o 0 3 fun v0 => vR v0 fun r3 =>
    dr r3 fun p4 =>
    xo s p4 1 fun _ =>
    bnd (x1_poly p4 x1 s) fun v6 s7 =>
    some (v6, s7))
noncomputable def x0_agrees_s3 (o : Nat) (a3 : Int32) (s1 : XS) : Option (((Int32) ⊕ (Int32)) × XS) :=
  if a3 ≤ 0 then
    (some (.inr a3, s1))
  else
    (xf s1 o 0 3 fun v0 => vR v0 fun r2 =>
    dr r2 fun p3 =>
    xo s1 p3 1 fun _ =>
    bnd (x1_size p3 (a3 - 1) s1) fun v5 s6 =>
    xf s6 o 0 3 fun v0 => vR v0 fun r7 =>
    dr r7 fun p8 =>
    xo s6 p8 1 fun _ =>
    bnd (x1_poly p8 (a3 - 1) s6) fun v10 s11 =>
    if v5.toInt64 = v10 then
      (some (.inl (a3 + (-1)), s11))
    else
      (some (.inr a3, s11)))
noncomputable def x0_agrees (o : Nat) (s : XS) : Option ((Int32) × XS) :=
  bnd (whileO (x0_agrees_s3 o) 40 s) fun b3 s12 =>
  some (b3, s12)
noncomputable def x1_about_s13 (o : Nat) (p1 : Nat) (a13 : Int64 × Int64 × Int32) (s3 : XS) : Option (((Int64 × Int64 × Int32) ⊕ (Int64 × Int64)) × XS) :=
  if (40 : Int32) < a13.2.2 then
    (some (.inr (a13.1, a13.2.1), s3))
  else
    (xo s3 o 1 fun _ =>
    bnd (x1_numerator o a13.2.2 s3) fun v4 s5 =>
    xpL s5 p1 a13.2.2 v4 fun s6 =>
    xaL s6 p1 a13.2.2 fun w7 =>
    nm (a13.1 + w7) fun w8 =>
    xaL s6 p1 a13.2.2 fun w9 =>
    nm (a13.2.1 ||| w9) fun w10 =>
    some (.inl (w8, w10, (a13.2.2 + 1)), s6))
noncomputable def x1_about_s81 (p1 : Nat) (a81 : Int64 × Int32) (s15 : XS) : Option (((Int64 × Int32) ⊕ (Int64)) × XS) :=
  if (40 : Int32) < a81.2 then
    (some (.inr a81.1, s15))
  else
    (xaL s15 p1 a81.2 fun w16 =>
    xaL s15 p1 (a81.2 - 1) fun w17 =>
    xpL s15 p1 a81.2 (w16 + w17) fun s18 =>
    xaL s18 p1 a81.2 fun w19 =>
    nm (a81.1 + w19) fun w20 =>
    some (.inl (w20, (a81.2 + 1)), s18))
noncomputable def x1_about_s58 (p1 : Nat) (b13 : Int64 × Int64) (a58 : Int64 × Int32) (s13 : XS) : Option (((Int64 × Int32) ⊕ (Int64 × Int32)) × XS) :=
  if b13.2 = 0 then
    (some (.inr (a58.1, a58.2), s13))
  else
    (if a58.1 = 0 then
      (xaL s13 p1 (0 : Int32) fun w14 =>
      bnd (whileO (x1_about_s81 p1) (w14, 1) s13) fun b81 s21 =>
      some (.inl (b81, (a58.2 + (-1))), s21))
    else
      (some (.inr (a58.1, a58.2), s13)))
noncomputable def x1_about_j117 (x2_117 : Int64) (x4_117 : Int64) (x6_117 : Int32) (s23 : XS) : Option ((Option Nat) × XS) :=
  xmL s23 (2 : Int32) fun p24 s25 =>
  if x4_117 = 0 then
    (xpL s25 p24 (0 : Int32) (0 : Int64) fun s28 =>
    xpL s28 p24 (1 : Int32) x2_117 fun s29 =>
    some ((some p24), s29))
  else
    (xpL s25 p24 (0 : Int32) x6_117.toInt64 fun s26 =>
    xpL s26 p24 (1 : Int32) x2_117 fun s27 =>
    some ((some p24), s27))
noncomputable def x1_about (o : Nat) (s : XS) : Option ((Option Nat) × XS) :=
  xmL s (41 : Int32) fun p1 s2 =>
  bnd (whileO (x1_about_s13 o p1) (0, 0, 0) s2) fun b13 s11 =>
  xf s11 o 1 0 fun v0 => vI v0 fun u12 =>
  bnd (whileO (x1_about_s58 p1 b13) (b13.1, u12) s11) fun b58 s22 =>
  x1_about_j117 b58.1 b13.2 b58.2 s22
noncomputable def x0_about (o : Nat) (x1 : Int32) (s : XS) : Option ((Int32) × XS) :=
  bnd (stat (x0_isIn x1.toInt64 0 1 ()) s) fun v1 _ =>
  if v1 = 0 then
    (some ((-1), s))
  else
    (xf s o 0 3 fun v0 => vR v0 fun r3 =>
    dr r3 fun p4 =>
    xo s p4 1 fun _ =>
    bnd (x1_about p4 s) fun r6 s7 =>
    dr r6 fun p8 =>
    xaL s7 p8 x1 fun w10 =>
    some (w10.toInt32, s7))
noncomputable def x0_numerator (o : Nat) (x1 : Int32) (s : XS) : Option ((Int64) × XS) :=
  bnd (stat (x0_isDegree x1 ()) s) fun v1 _ =>
  if v1 = 0 then
    (some ((-1000000000000000), s))
  else
    (xf s o 0 3 fun v0 => vR v0 fun r3 =>
    dr r3 fun p4 =>
    xo s p4 1 fun _ =>
    bnd (x1_numerator p4 x1 s) fun v6 s7 =>
    some (v6, s7))
noncomputable def j8_min_2 (x0 : Int64) (x2 : Int64) (s : Unit) : Option (Int64 × Unit) :=
  if x2 < x0 then
    (some (x2, s))
  else
    (some (x0, s))
noncomputable def x0_gcd_b (rc : Int64 → Int64 → XS → Option ((Int64) × XS)) (x0 : Int64) (x2 : Int64) (s : XS) : Option ((Int64) × XS) :=
  if x2 = 0 then
    (some (x0, s))
  else
    (chk (¬ x2 = 0) <|
    bnd (rc x2 (x0 - x0 / x2 * x2) s) fun v1 s2 =>
    some (v1, s2))
noncomputable def x0_gcd : Nat → Int64 → Int64 → XS → Option ((Int64) × XS)
  | 0 => fun _ _ _ => none
  | n + 1 => x0_gcd_b (x0_gcd n)
noncomputable def x0_waysHeld_s23 (x0 : Int64) (v1 : Int64) (a23 : Int64 × Int64) (s3 : XS) : Option (((Int64 × Int64) ⊕ ((Unit) ⊕ (Int64))) × XS) :=
  if v1 < a23.2 then
    (some (.inr (.inr a23.1), s3))
  else
    (bnd (x0_gcd 200 a23.1 a23.2 s3) fun v4 s5 =>
    chk (¬ v4 = 0) <|
    chk (¬ (a23.2 / v4) = 0) <|
    nm (((x0 - v1) + a23.2) / (a23.2 / v4)) fun w6 =>
    chk (¬ v4 = 0) <|
    chk (¬ w6 = 0) <|
    if (a23.1 / v4) ≤ ((4000000000000 : Int64) / w6) then
      (chk (¬ v4 = 0) <|
      nm ((a23.1 / v4) * w6) fun w7 =>
      nm (a23.2 + 1) fun w8 =>
      some (.inl (w7, w8), s5))
    else
      (some (.inr (.inl ()), s5)))
noncomputable def x0_waysHeld (x0 : Int64) (x2 : Int64) (s : XS) : Option ((Int64) × XS) :=
  if x2 ≤ x0 then
    (bnd (stat (j8_min_2 x2 (x0 - x2) ()) s) fun v1 _ =>
    bnd (whileO (x0_waysHeld_s23 x0 v1) (1, 1) s) fun b23 s9 => match b23 with
    | .inl b23 =>
      some (4000000000000, s9)
    | .inr b23 =>
      bnd (stat (j8_min_2 b23 4000000000000 ()) s9) fun v10 _ =>
      some (v10, s9))
  else
    (some (0, s))
noncomputable def x6_greatest_s9 (x0 : Int64) (x2 : Int32) (a9 : Int64 × Int64) (s3 : XS) : Option (((Int64 × Int64) ⊕ (Int64)) × XS) :=
  if a9.2 ≤ a9.1 then
    (some (.inr a9.1, s3))
  else
    (chk (¬ (2 : Int64) = 0) <|
    nm (((a9.1 + a9.2) + 1) / 2) fun w4 =>
    bnd (x0_waysHeld w4 x2.toInt64 s3) fun v5 s6 =>
    if x0 < v5 then
      (nm (w4 - 1) fun w7 =>
      some (.inl (a9.1, w7), s6))
    else
      (some (.inl (w4, a9.2), s6)))
noncomputable def x6_greatest (x0 : Int64) (x2 : Int32) (s : XS) : Option ((Int64) × XS) :=
  nm x2.toInt64 fun w1 =>
  nm (x0 + x2.toInt64) fun w2 =>
  bnd (whileO (x6_greatest_s9 x0 x2) (w1, w2) s) fun b9 s8 =>
  some (b9, s8)
noncomputable def x6_init_s29 (o : Nat) (a29 : Int64 × Int32) (s6 : XS) : Option (((Int64 × Int32) ⊕ (Unit)) × XS) :=
  if a29.2 ≤ 0 then
    (some (.inr (), s6))
  else
    (if a29.1 ≤ 0 then
      (some (.inr (), s6))
    else
      (xf s6 o 6 0 fun v0 => vR v0 fun r7 =>
      bnd (x6_greatest a29.1 a29.2 s6) fun v8 s9 =>
      dr r7 fun p10 =>
      xpL s9 p10 a29.2 v8 fun s12 =>
      xf s12 o 6 0 fun v0 => vR v0 fun r13 =>
      dr r13 fun p14 =>
      xaL s12 p14 a29.2 fun w16 =>
      bnd (x0_waysHeld w16 a29.2.toInt64 s12) fun v17 s18 =>
      nm (a29.1 - v17) fun w19 =>
      xp s18 o 6 2 (.int a29.2) fun s20 =>
      some (.inl (w19, (a29.2 + (-1))), s20)))
noncomputable def x6_init (o : Nat) (x1 : Int64) (x3 : Int32) (s : XS) : Option ((Unit) × XS) :=
  xmL s (42 : Int32) fun p1 s2 =>
  xp s2 o 6 0 (.ref p1) fun s3 =>
  xp s3 o 6 2 (.int 42) fun s4 =>
  xp s4 o 6 1 (.int x3) fun s5 =>
  bnd (whileO (x6_init_s29 o) (x1, x3) s5) fun b29 s21 =>
  some ((), s21)
noncomputable def j8_abs (x0 : Int64) (s : Unit) : Option (Int64 × Unit) :=
  if (0 : Int64) ≤ x0 then
    (some (x0, s))
  else
    (some ((-x0), s))
noncomputable def j8_multiplyExact_j45 (x0 : Int64) (x2 : Int64) (x4_45 : Int64) (s6 : XS) : Option (((Int64) ⊕ Nat) × XS) :=
  if x0 = (-9223372036854775808) then
    (if x2 = (-1) then
      (xthr s6 fun p7 s8 =>
      some (.inr p7, s8))
    else
      (some (.inl x4_45, s6)))
  else
    (some (.inl x4_45, s6))
noncomputable def j8_multiplyExact (x0 : Int64) (x2 : Int64) (s : XS) : Option (((Int64) ⊕ Nat) × XS) :=
  nm (x0 * x2) fun w1 =>
  bnd (stat (j8_abs x0 ()) s) fun v2 _ =>
  bnd (stat (j8_abs x2 ()) s) fun v4 _ =>
  if (((v2 ||| v4).toUInt64 >>> ((31 : Int32).toInt64.toUInt64 &&& Int64.toUInt64 63)).toInt64) = 0 then
    (some (.inl w1, s))
  else
    (if x2 = 0 then
      (j8_multiplyExact_j45 x0 x2 w1 s)
    else
      (chk (¬ x2 = 0) <|
      if (w1 / x2) = x0 then
        (j8_multiplyExact_j45 x0 x2 w1 s)
      else
        (xthr s fun p9 s10 =>
        some (.inr p9, s10))))
noncomputable def x0_ways_s29 (x0 : Int64) (v1 : Int64) (a29 : Int64 × Int64) (s3 : XS) : Option (((Int64 × Int64) ⊕ ((Int64) ⊕ (Nat))) × XS) :=
  if v1 < a29.2 then
    (some (.inr (.inl a29.1), s3))
  else
    (bnd (x0_gcd 200 a29.1 a29.2 s3) fun v4 s5 =>
    nm ((x0 - v1) + a29.2) fun w6 =>
    chk (¬ v4 = 0) <|
    chk (¬ v4 = 0) <|
    chk (¬ (a29.2 / v4) = 0) <|
    bndT (j8_multiplyExact (a29.1 / v4) (w6 / (a29.2 / v4)) s5) (fun v7 s8 =>
      nm (a29.2 + 1) fun w9 =>
      some (.inl (v7, w9), s8)) (fun p10 s11 =>
      some (.inr (.inr p10), s11)))
noncomputable def x0_ways (x0 : Int64) (x2 : Int64) (s : XS) : Option (((Int64) ⊕ Nat) × XS) :=
  if x2 < 0 then
    (some (.inl 0, s))
  else
    (if x2 ≤ x0 then
      (bnd (stat (j8_min_2 x2 (x0 - x2) ()) s) fun v1 _ =>
      bnd (whileO (x0_ways_s29 x0 v1) (1, 1) s) fun b29 s12 => match b29 with
      | .inl b29 =>
        some (.inl b29, s12)
      | .inr b29 =>
        some (.inr b29, s12))
    else
      (some (.inl 0, s)))
noncomputable def j8_addExact (x0 : Int64) (x2 : Int64) (s : XS) : Option (((Int64) ⊕ Nat) × XS) :=
  nm (x0 + x2) fun w1 =>
  if (0 : Int64) ≤ ((x0 ^^^ w1) &&& (x2 ^^^ w1)) then
    (some (.inl w1, s))
  else
    (xthr s fun p2 s3 =>
    some (.inr p2, s3))
noncomputable def x6_moved_s8 (o : Nat) (x1 : Int32) (x2 : Int32) (a8 : Int64 × Int32) (s2 : XS) : Option (((Int64 × Int32) ⊕ ((Int64) ⊕ (Nat))) × XS) :=
  xf s2 o 6 2 fun v0 => vI v0 fun u3 =>
  if a8.2 < u3 then
    (some (.inr (.inl a8.1), s2))
  else
    (xf s2 o 6 0 fun v0 => vR v0 fun r4 =>
    dr r4 fun p5 =>
    xaL s2 p5 a8.2 fun w7 =>
    bndT (x0_ways (w7 + x1.toInt64) ((a8.2 + x2).toInt64) s2) (fun v8 s9 =>
      bndT (j8_addExact a8.1 v8 s9) (fun v10 s11 =>
        some (.inl (v10, (a8.2 + (-1))), s11)) (fun p12 s13 =>
        some (.inr (.inr p12), s13))) (fun p14 s15 =>
      some (.inr (.inr p14), s15)))
noncomputable def x6_moved (o : Nat) (x1 : Int32) (x2 : Int32) (s : XS) : Option (((Int64) ⊕ Nat) × XS) :=
  xf s o 6 1 fun v0 => vI v0 fun u1 =>
  bnd (whileO (x6_moved_s8 o x1 x2) (0, u1) s) fun b8 s16 => match b8 with
  | .inl b8 =>
    some (.inl b8, s16)
  | .inr b8 =>
    some (.inr b8, s16)
noncomputable def x0_upOf (x0 : Int64) (x2 : Int32) (s : XS) : Option ((Int64) × XS) :=
  xmk s 3 (cO 6 dfX6) fun p1 s2 =>
  bnd (x6_init p1 x0 x2 s2) fun v3 s4 =>
  xo s4 p1 6 fun _ =>
  bndT (x6_moved p1 1 1 s4) (fun v5 s6 =>
    some (v5, s6)) (fun p7 s8 =>
    some ((-2), s8))
noncomputable def x0_room (o : Nat) (x1 : Int32) (s : XS) : Option ((Int64) × XS) :=
  bnd (stat (x0_isIn x1.toInt64 1 39 ()) s) fun v1 _ =>
  if v1 = 0 then
    (some ((-1), s))
  else
    (xf s o 0 3 fun v0 => vR v0 fun r3 =>
    dr r3 fun p4 =>
    xo s p4 1 fun _ =>
    bnd (x1_size p4 x1 s) fun v6 s7 =>
    bnd (x0_upOf v6.toInt64 x1 s7) fun v8 s9 =>
    xf s9 o 0 3 fun v0 => vR v0 fun r10 =>
    dr r10 fun p11 =>
    xo s9 p11 1 fun _ =>
    bnd (x1_size p11 (x1 + 1) s9) fun v13 s14 =>
    some ((v8 - v13.toInt64), s14))
noncomputable def j2_isEmpty (o : Nat) (s : XS) : Option ((Int32) × XS) :=
  xf s o 7 2 fun v0 => vI v0 fun u1 =>
  if u1 = 0 then
    (some (1, s))
  else
    (some (0, s))
noncomputable def x1_highest (o : Nat) (s : XS) : Option ((Int32) × XS) :=
  xf s o 1 1 fun v0 => vR v0 fun r1 =>
  dr r1 fun p2 =>
  xo s p2 7 fun _ =>
  bnd (j2_isEmpty p2 s) fun v4 s5 =>
  if v4 = 0 then
    (xf s5 o 1 1 fun v0 => vR v0 fun r6 =>
    xf s5 o 1 1 fun v0 => vR v0 fun r7 =>
    dr r7 fun p8 =>
    xo s5 p8 7 fun _ =>
    bnd (j2_size p8 s5) fun v10 s11 =>
    dr r6 fun p12 =>
    xo s11 p12 7 fun _ =>
    bnd (j2_get p12 (v10 - 1) s11) fun r14 s15 =>
    dr r14 fun p16 =>
    xo s15 p16 5 fun _ =>
    xf s15 p16 5 1 fun v0 => vI v0 fun u18 =>
    some (u18, s15))
  else
    (some (0, s5))
noncomputable def x0_growth (o : Nat) (x1 : Int32) (s : XS) : Option ((Int32) × XS) :=
  bnd (stat (x0_isIn x1.toInt64 1 39 ()) s) fun v1 _ =>
  if v1 = 0 then
    (some ((-1), s))
  else
    (xo s o 0 fun _ =>
    bnd (x0_room o x1 s) fun v3 s4 =>
    if v3 ≤ 0 then
      (xf s4 o 0 3 fun v0 => vR v0 fun r5 =>
      dr r5 fun p6 =>
      xo s4 p6 1 fun _ =>
      bnd (x1_highest p6 s4) fun v8 s9 =>
      if v8 ≤ x1 then
        (some (2, s9))
      else
        (some (1, s9)))
    else
      (some (0, s4)))
noncomputable def x0_free (o : Nat) (x1 : Int32) (x2 : Int32) (s : XS) : Option ((Int32) × XS) :=
  bnd (stat (x0_isDegree x1 ()) s) fun v1 _ =>
  if v1 = 0 then
    (some ((-1), s))
  else
    (if (0 : Int32) ≤ x2 then
      (none)
    else
      (some ((-1), s)))
noncomputable def x0_isFree_j41 (o : Nat) (s9 : XS) : Option ((Int32) × XS) :=
  xf s9 o 0 8 fun v0 => vI v0 fun u10 =>
  xp s9 o 0 8 (.int (u10 + 1)) fun s11 =>
  some (1, s11)
noncomputable def x0_isFree (o : Nat) (x1 : Nat) (x2 : Int32) (s : XS) : Option ((Int32) × XS) :=
  xf s o 0 7 fun v0 => vI v0 fun u1 =>
  xp s o 0 7 (.int (u1 + 1)) fun s2 =>
  xf s2 o 0 3 fun v0 => vR v0 fun r3 =>
  dr r3 fun p4 =>
  xo s2 p4 1 fun _ =>
  bnd (x1_covers p4 x1 s2) fun v6 s7 =>
  if v6 = 0 then
    (xf s7 o 0 8 fun v0 => vI v0 fun u8 =>
    if u8 = x2 then
      (xf s7 o 0 7 fun v0 => vI v0 fun u12 =>
      xp s7 o 0 9 (.int (u12 - 1)) fun s13 =>
      x0_isFree_j41 o s13)
    else
      (x0_isFree_j41 o s7))
  else
    (some (0, s7))
noncomputable def x0_lambda_free_0 (o : Nat) (x1 : Int32) (x2 : Nat) (s : XS) : Option ((Int32) × XS) :=
  xo s o 0 fun _ =>
  bnd (x0_isFree o x2 x1 s) fun v1 s2 =>
  chk (v1 &&& 1 = v1) <|
  some (v1, s2)
noncomputable def x1_count_s37 (rc : Nat → Int32 → Int32 → Nat → XS → Option ((Int32) × XS)) (o : Nat) (x1 : Int32) (x2 : Int32) (x3 : Nat) (a37 : Int32 × Int32) (s2 : XS) : Option (((Int32 × Int32) ⊕ (Int32)) × XS) :=
  if a37.2 < 0 then
    (some (.inr a37.1, s2))
  else
    (xf s2 o 1 5 fun v0 => vR v0 fun r3 =>
    dr r3 fun p4 =>
    xpI s2 0 p4 x1 a37.2 fun s6 =>
    xo s6 o 1 fun _ =>
    bnd (rc o (x1 + 1) (x2 - a37.2) x3 s6) fun v7 s8 =>
    nm (a37.1 + v7) fun u9 =>
    some (.inl (u9, (a37.2 + (-1))), s8))
noncomputable def x1_count_b (rc : Nat → Int32 → Int32 → Nat → XS → Option ((Int32) × XS)) (o : Nat) (x1 : Int32) (x2 : Int32) (x3 : Nat) (s : XS) : Option ((Int32) × XS) :=
  xf s o 1 0 fun v0 => vI v0 fun u1 =>
  if x1 = (u1 - 1) then
    (none)
  else
    (bnd (whileO (x1_count_s37 rc o x1 x2 x3) (0, x2) s) fun b37 s10 =>
    xf s10 o 1 5 fun v0 => vR v0 fun r11 =>
    dr r11 fun p12 =>
    xpI s10 0 p12 x1 (0 : Int32) fun s14 =>
    some (b37, s14))
noncomputable def x1_count : Nat → Nat → Int32 → Int32 → Nat → XS → Option ((Int32) × XS)
  | 0 => fun _ _ _ _ _ => none
  | n + 1 => x1_count_b (x1_count n)
noncomputable def x0_goesBy (o : Nat) (x1 : Int32) (x2 : Nat) (s : XS) : Option ((Int32) × XS) :=
  xp s o 0 7 (.int 0) fun s1 =>
  xp s1 o 0 8 (.int 0) fun s2 =>
  xp s2 o 0 9 (.int (-1)) fun s3 =>
  xf s3 o 0 3 fun v0 => vR v0 fun r4 =>
  dr r4 fun p5 =>
  xo s3 p5 1 fun _ =>
  bnd (x1_count 6 p5 0 x1 x2 s3) fun v7 s8 =>
  some (v7, s8)
noncomputable def x0_upTo_s13 (o : Nat) (x1 : Int32) (a13 : Int32 × Int32) (s3 : XS) : Option (((Int32 × Int32) ⊕ (Int32)) × XS) :=
  if x1 < a13.2 then
    (some (.inr a13.1, s3))
  else
    (xf s3 o 0 3 fun v0 => vR v0 fun r4 =>
    dr r4 fun p5 =>
    xo s3 p5 1 fun _ =>
    bnd (x1_size p5 a13.2 s3) fun v7 s8 =>
    nm (a13.1 + v7) fun u9 =>
    some (.inl (u9, (a13.2 + 1)), s8))
noncomputable def x0_upTo (o : Nat) (x1 : Int32) (s : XS) : Option ((Int32) × XS) :=
  bnd (stat (x0_isDegree x1 ()) s) fun v1 _ =>
  if v1 = 0 then
    (some ((-1), s))
  else
    (bnd (whileO (x0_upTo_s13 o x1) (0, 0) s) fun b13 s10 =>
    some (b13, s10))
noncomputable def x0_degreeOf_s37 (p2 : Nat) (x3_34 : Int32) (a37 : Int32) (s10 : XS) : Option (((Int32) ⊕ (Unit)) × XS) :=
  xlen s10 p2 fun u11 =>
  if (u11 - x3_34) ≤ (a37 + 1) then
    (some (.inr (), s10))
  else
    (xaL s10 p2 (a37 + 1) fun w12 =>
    xaL s10 p2 a37 fun w13 =>
    xpL s10 p2 a37 (w12 - w13) fun s14 =>
    some (.inl (a37 + 1), s14))
noncomputable def x0_degreeOf_j34 (p2 : Nat) (x2_34 : Int32) (x3_34 : Int32) (s9 : XS) : Option (((Int32 × Int32) ⊕ (Int32)) × XS) :=
  bnd (whileO (x0_degreeOf_s37 p2 x3_34) 0 s9) fun b37 s15 =>
  some (.inl (x2_34, (x3_34 + 1)), s15)
noncomputable def x0_degreeOf_s18 (p2 : Nat) (a18 : Int32 × Int32) (s6 : XS) : Option (((Int32 × Int32) ⊕ (Int32)) × XS) :=
  xlen s6 p2 fun u7 =>
  if u7 ≤ a18.2 then
    (some (.inr a18.1, s6))
  else
    (xaL s6 p2 (0 : Int32) fun w8 =>
    if w8 = 0 then
      (x0_degreeOf_j34 p2 a18.1 a18.2 s6)
    else
      (x0_degreeOf_j34 p2 a18.2 a18.2 s6))
noncomputable def x0_degreeOf (x0 : Nat) (s : XS) : Option ((Int32) × XS) :=
  xlen s x0 fun u1 =>
  xmL s u1 fun p2 s3 =>
  xlen s3 p2 fun u4 =>
  xcL s3 x0 (0 : Int32) p2 (0 : Int32) u4 fun s5 =>
  bnd (whileO (x0_degreeOf_s18 p2) ((-1), 0) s5) fun b18 s16 =>
  some (b18, s16)
noncomputable def x0_polyWays_s5 (x0 : Int64) (x2 : Int32) (a5 : Int64 × Int32) (s1 : Unit) : Option (((Int64 × Int32) ⊕ (Int64)) × Unit) :=
  if x2 ≤ a5.2 then
    (some (.inr a5.1, s1))
  else
    (nm (a5.1 * (x0 - a5.2.toInt64)) fun w2 =>
    some (.inl (w2, (a5.2 + 1)), s1))
noncomputable def x0_polyWays_s28 (x2 : Int32) (a28 : Int64 × Int32) (s4 : Unit) : Option (((Int64 × Int32) ⊕ (Int64)) × Unit) :=
  if x2 < a28.2 then
    (some (.inr a28.1, s4))
  else
    (chk (¬ a28.2.toInt64 = 0) <|
    nm (a28.1 / a28.2.toInt64) fun w5 =>
    some (.inl (w5, (a28.2 + 1)), s4))
noncomputable def x0_polyWays (x0 : Int64) (x2 : Int32) (s : Unit) : Option (Int64 × Unit) :=
  bnd (whileO (x0_polyWays_s5 x0 x2) (1, 0) s) fun b5 s3 =>
  bnd (whileO (x0_polyWays_s28 x2) (b5, 2) s3) fun b28 s6 =>
  some (b28, s6)
noncomputable def x0_term_s20 (o : Nat) (p1 : Nat) (a20 : Int32) (s3 : XS) : Option (((Int32) ⊕ (Unit)) × XS) :=
  if (4 : Int32) ≤ a20 then
    (some (.inr (), s3))
  else
    (xf s3 o 0 3 fun v0 => vR v0 fun r4 =>
    dr r4 fun p5 =>
    xo s3 p5 1 fun _ =>
    bnd (x1_poly p5 a20 s3) fun v7 s8 =>
    xpL s8 p1 a20 v7 fun s9 =>
    some (.inl (a20 + 1), s9))
noncomputable def x0_term_s86 (p1 : Nat) (a50 : Int32 × Int32) (a86 : Int32) (s14 : XS) : Option (((Int32) ⊕ (Unit)) × XS) :=
  if (4 : Int32) ≤ a86 then
    (some (.inr (), s14))
  else
    (xaL s14 p1 a86 fun w15 =>
    bnd (stat (x0_polyWays (((a86 + a50.2) - a50.1).toInt64) a50.2 ()) s14) fun v16 _ =>
    xpL s14 p1 a86 (w15 - v16) fun s18 =>
    some (.inl (a86 + 1), s18))
noncomputable def x0_term_s50 (x1 : Int32) (p1 : Nat) (a50 : Int32 × Int32) (s13 : XS) : Option (((Int32 × Int32) ⊕ ((Int32) ⊕ ((Unit) ⊕ (Int32)))) × XS) :=
  if a50.2 = (-1) then
    (some (.inr (.inr (.inr a50.1)), s13))
  else
    (if a50.1 = x1 then
      (some (.inr (.inl a50.2), s13))
    else
      (if a50.1 = 1000 then
        (some (.inr (.inr (.inl ())), s13))
      else
        (bnd (whileO (x0_term_s86 p1 a50) 0 s13) fun b86 s19 =>
        bnd (x0_degreeOf p1 s19) fun v20 s21 =>
        some (.inl ((a50.1 + 1), v20), s21))))
noncomputable def x0_term (o : Nat) (x1 : Int32) (s : XS) : Option ((Int32) × XS) :=
  if x1 < (-1) then
    (some ((-1), s))
  else
    (if x1 < 1000 then
      (xmL s (4 : Int32) fun p1 s2 =>
      bnd (whileO (x0_term_s20 o p1) 0 s2) fun b20 s10 =>
      bnd (x0_degreeOf p1 s10) fun v11 s12 =>
      bnd (whileO (x0_term_s50 x1 p1) (0, v11) s12) fun b50 s22 => match b50 with
      | .inl b50 =>
        some (b50, s22)
      | .inr (.inl b50) =>
        if x1 = (-1) then
          (some ((-2), s22))
        else
          (some ((-1), s22))
      | .inr (.inr b50) =>
        if x1 = (-1) then
          (some (b50, s22))
        else
          (some ((-1), s22)))
    else
      (some ((-1), s)))
noncomputable def x0_corner (o : Nat) (x1 : Int32) (x2 : Int32) (s : XS) : Option ((Int32) × XS) :=
  bnd (stat (x0_isIn x1.toInt64 0 39 ()) s) fun v1 _ =>
  if v1 = 0 then
    (some ((-1), s))
  else
    (none)
noncomputable def x0_isCorner_s15 (o : Nat) (x1 : Nat) (a15 : Int32) (s6 : XS) : Option (((Int32) ⊕ ((Unit) ⊕ (Unit))) × XS) :=
  xf s6 o 0 3 fun v0 => vR v0 fun r7 =>
  dr r7 fun p8 =>
  xf s6 p8 1 0 fun v0 => vI v0 fun u10 =>
  if u10 ≤ a15 then
    (some (.inr (.inr ()), s6))
  else
    (xaI s6 0 x1 a15 fun u11 =>
    xpI s6 0 x1 a15 (u11 + 1) fun s12 =>
    xf s12 o 0 3 fun v0 => vR v0 fun r13 =>
    dr r13 fun p14 =>
    xo s12 p14 1 fun _ =>
    bnd (x1_covers p14 x1 s12) fun v16 s17 =>
    xaI s17 0 x1 a15 fun u18 =>
    xpI s17 0 x1 a15 (u18 - 1) fun s19 =>
    if v16 = 0 then
      (some (.inr (.inl ()), s19))
    else
      (some (.inl (a15 + 1), s19)))
noncomputable def x0_isCorner (o : Nat) (x1 : Nat) (s : XS) : Option ((Int32) × XS) :=
  xf s o 0 3 fun v0 => vR v0 fun r1 =>
  dr r1 fun p2 =>
  xo s p2 1 fun _ =>
  bnd (x1_covers p2 x1 s) fun v4 s5 =>
  if v4 = 0 then
    (bnd (whileO (x0_isCorner_s15 o x1) 0 s5) fun b15 s20 => match b15 with
    | .inl b15 =>
      some (0, s20)
    | .inr b15 =>
      some (1, s20))
  else
    (some (0, s5))
noncomputable def x0_meets_j38 (o : Nat) (s6 : XS) : Option ((Int32) × XS) :=
  xf s6 o 0 8 fun v0 => vI v0 fun u7 =>
  xp s6 o 0 8 (.int (u7 + 1)) fun s8 =>
  some (1, s8)
noncomputable def x0_meets (o : Nat) (x1 : Nat) (x2 : Int32) (s : XS) : Option ((Int32) × XS) :=
  xf s o 0 7 fun v0 => vI v0 fun u1 =>
  xp s o 0 7 (.int (u1 + 1)) fun s2 =>
  xo s2 o 0 fun _ =>
  bnd (x0_isCorner o x1 s2) fun v3 s4 =>
  if v3 = 0 then
    (some (0, s4))
  else
    (xf s4 o 0 8 fun v0 => vI v0 fun u5 =>
    if u5 = x2 then
      (xf s4 o 0 7 fun v0 => vI v0 fun u9 =>
      xp s4 o 0 9 (.int (u9 - 1)) fun s10 =>
      x0_meets_j38 o s10)
    else
      (x0_meets_j38 o s4))
noncomputable def x0_lambda_corner_1 (o : Nat) (x1 : Int32) (x2 : Nat) (s : XS) : Option ((Int32) × XS) :=
  xo s o 0 fun _ =>
  bnd (x0_meets o x2 x1 s) fun v1 s2 =>
  chk (v1 &&& 1 = v1) <|
  some (v1, s2)
noncomputable def x0_holdsAll_s41 (o : Nat) (x1 : Nat) (p18 : Nat) (a41 : Int32 × Int32) (s20 : XS) : Option (((Int32 × Int32) ⊕ (Int32)) × XS) :=
  xf s20 o 0 3 fun v0 => vR v0 fun r21 =>
  dr r21 fun p22 =>
  xf s20 p22 1 0 fun v0 => vI v0 fun u24 =>
  if u24 ≤ a41.2 then
    (some (.inr a41.1, s20))
  else
    (xf s20 p18 5 0 fun v0 => vR v0 fun r25 =>
    dr r25 fun p26 =>
    xaI s20 0 p26 a41.2 fun u28 =>
    xaI s20 0 x1 a41.2 fun u29 =>
    if u28 < u29 then
      (nm (a41.1 ||| 0) fun u30 =>
      some (.inl (u30, (a41.2 + 1)), s20))
    else
      (nm (a41.1 ||| 1) fun u31 =>
      some (.inl (u31, (a41.2 + 1)), s20)))
noncomputable def x0_holdsAll_s2 (o : Nat) (x1 : Nat) (a2 : Int32) (s1 : XS) : Option (((Int32) ⊕ ((Unit) ⊕ (Unit))) × XS) :=
  xf s1 o 0 3 fun v0 => vR v0 fun r2 =>
  dr r2 fun p3 =>
  xf s1 p3 1 1 fun v0 => vR v0 fun r5 =>
  dr r5 fun p6 =>
  xo s1 p6 7 fun _ =>
  bnd (j2_size p6 s1) fun v8 s9 =>
  if v8 ≤ a2 then
    (some (.inr (.inr ()), s9))
  else
    (xf s9 o 0 3 fun v0 => vR v0 fun r10 =>
    dr r10 fun p11 =>
    xf s9 p11 1 1 fun v0 => vR v0 fun r13 =>
    dr r13 fun p14 =>
    xo s9 p14 7 fun _ =>
    bnd (j2_get p14 a2 s9) fun r16 s17 =>
    dr r16 fun p18 =>
    xo s17 p18 5 fun _ =>
    bnd (whileO (x0_holdsAll_s41 o x1 p18) (0, 0) s17) fun b41 s32 =>
    if b41 = 0 then
      (some (.inr (.inl ()), s32))
    else
      (some (.inl (a2 + 1), s32)))
noncomputable def x0_holdsAll (o : Nat) (x1 : Nat) (s : XS) : Option ((Int32) × XS) :=
  bnd (whileO (x0_holdsAll_s2 o x1) 0 s) fun b2 s33 => match b2 with
  | .inl b2 =>
    some (0, s33)
  | .inr b2 =>
    some (1, s33)
noncomputable def x0_isPart_s12 (o : Nat) (x1 : Nat) (a12 : Int32) (s3 : XS) : Option (((Int32) ⊕ ((Unit) ⊕ (Unit))) × XS) :=
  xf s3 o 0 3 fun v0 => vR v0 fun r4 =>
  dr r4 fun p5 =>
  xf s3 p5 1 0 fun v0 => vI v0 fun u7 =>
  if u7 ≤ a12 then
    (some (.inr (.inr ()), s3))
  else
    (xaI s3 0 x1 a12 fun u8 =>
    if u8 ≤ 8 then
      (xaI s3 0 x1 a12 fun u9 =>
      xpI s3 0 x1 a12 (u9 + 1) fun s10 =>
      xo s10 o 0 fun _ =>
      bnd (x0_holdsAll o x1 s10) fun v11 s12 =>
      xaI s12 0 x1 a12 fun u13 =>
      xpI s12 0 x1 a12 (u13 - 1) fun s14 =>
      if v11 = 0 then
        (some (.inl (a12 + 1), s14))
      else
        (some (.inr (.inl ()), s14)))
    else
      (some (.inl (a12 + 1), s3)))
noncomputable def x0_isPart (o : Nat) (x1 : Nat) (s : XS) : Option ((Int32) × XS) :=
  xo s o 0 fun _ =>
  bnd (x0_holdsAll o x1 s) fun v1 s2 =>
  if v1 = 0 then
    (some (0, s2))
  else
    (bnd (whileO (x0_isPart_s12 o x1) 0 s2) fun b12 s15 => match b12 with
    | .inl b12 =>
      some (0, s15)
    | .inr b12 =>
      some (1, s15))
noncomputable def x0_goesTo_s57 (rc : Nat → Int32 → Int32 → XS → Option ((Int32) × XS)) (o : Nat) (x1 : Int32) (x2 : Int32) (a57 : Unit) (s9 : XS) : Option (((Unit) ⊕ ((Unit) ⊕ (Unit))) × XS) :=
  xf s9 o 0 10 fun v0 => vR v0 fun r10 =>
  dr r10 fun p11 =>
  xaI s9 0 p11 x1 fun u13 =>
  if (9 : Int32) < u13 then
    (some (.inr (.inr ()), s9))
  else
    (xo s9 o 0 fun _ =>
    bnd (rc o (x1 + 1) x2 s9) fun v14 s15 =>
    if v14 = 0 then
      (xf s15 o 0 10 fun v0 => vR v0 fun r16 =>
      dr r16 fun p17 =>
      xaI s15 0 p17 x1 fun u19 =>
      xpI s15 0 p17 x1 (u19 + 1) fun s20 =>
      some (.inl (), s20))
    else
      (some (.inr (.inl ()), s15)))
noncomputable def x0_goesTo_b (rc : Nat → Int32 → Int32 → XS → Option ((Int32) × XS)) (o : Nat) (x1 : Int32) (x2 : Int32) (s : XS) : Option ((Int32) × XS) :=
  xf s o 0 3 fun v0 => vR v0 fun r1 =>
  dr r1 fun p2 =>
  xf s p2 1 0 fun v0 => vI v0 fun u4 =>
  if x1 = u4 then
    (xf s o 0 10 fun v0 => vR v0 fun r22 =>
    dr r22 fun p23 =>
    xo s o 0 fun _ =>
    bnd (x0_isPart o p23 s) fun v25 s26 =>
    if v25 = 0 then
      (some (0, s26))
    else
      (xf s26 o 0 11 fun v0 => vI v0 fun u27 =>
      xp s26 o 0 11 (.int (u27 + 1)) fun s28 =>
      xf s28 o 0 11 fun v0 => vI v0 fun u29 =>
      if u29 = (x2 + 1) then
        (some (1, s28))
      else
        (some (0, s28))))
  else
    (xf s o 0 10 fun v0 => vR v0 fun r5 =>
    dr r5 fun p6 =>
    xpI s 0 p6 x1 (1 : Int32) fun s8 =>
    bnd (whileO (x0_goesTo_s57 rc o x1 x2) () s8) fun b57 s21 => match b57 with
    | .inl b57 =>
      some (1, s21)
    | .inr b57 =>
      some (0, s21))
noncomputable def x0_goesTo : Nat → Nat → Int32 → Int32 → XS → Option ((Int32) × XS)
  | 0 => fun _ _ _ _ => none
  | n + 1 => x0_goesTo_b (x0_goesTo n)
noncomputable def x0_part (o : Nat) (x1 : Int32) (x2 : Int32) (s : XS) : Option ((Int32) × XS) :=
  xp s o 0 11 (.int 0) fun s1 =>
  xo s1 o 0 fun _ =>
  bnd (x0_goesTo 6 o 0 x1 s1) fun v2 s3 =>
  if x1 = (-1) then
    (xf s3 o 0 11 fun v0 => vI v0 fun u18 =>
    some (u18, s3))
  else
    (if v2 = 0 then
      (some ((-1), s3))
    else
      (xf s3 o 0 3 fun v0 => vR v0 fun r4 =>
      dr r4 fun p5 =>
      xf s3 p5 1 0 fun v0 => vI v0 fun u7 =>
      bnd (stat (x0_isIn x2.toInt64 0 ((u7 - 1).toInt64) ()) s3) fun v8 _ =>
      if v8 = 0 then
        (some ((-1), s3))
      else
        (xf s3 o 0 10 fun v0 => vR v0 fun r10 =>
        dr r10 fun p11 =>
        xaI s3 0 p11 x2 fun u13 =>
        if u13 ≤ 8 then
          (xf s3 o 0 10 fun v0 => vR v0 fun r14 =>
          dr r14 fun p15 =>
          xaI s3 0 p15 x2 fun u17 =>
          some (u17, s3))
        else
          (some (0, s3)))))
noncomputable def x0_pure_s25 (o : Nat) (x1 : Int32) (p7 : Nat) (a25 : Unit) (s9 : XS) : Option (((Unit) ⊕ ((Unit) ⊕ (Unit))) × XS) :=
  xaI s9 0 p7 x1 fun u10 =>
  if (8 : Int32) < u10 then
    (some (.inr (.inr ()), s9))
  else
    (xf s9 o 0 3 fun v0 => vR v0 fun r11 =>
    dr r11 fun p12 =>
    xo s9 p12 1 fun _ =>
    bnd (x1_covers p12 p7 s9) fun v14 s15 =>
    if v14 = 0 then
      (xaI s15 0 p7 x1 fun u16 =>
      xpI s15 0 p7 x1 (u16 + 1) fun s17 =>
      some (.inl (), s17))
    else
      (some (.inr (.inl ()), s15)))
noncomputable def x0_pure (o : Nat) (x1 : Int32) (s : XS) : Option ((Int32) × XS) :=
  xf s o 0 3 fun v0 => vR v0 fun r1 =>
  dr r1 fun p2 =>
  xf s p2 1 0 fun v0 => vI v0 fun u4 =>
  bnd (stat (x0_isIn x1.toInt64 0 ((u4 - 1).toInt64) ()) s) fun v5 _ =>
  if v5 = 0 then
    (some ((-1), s))
  else
    (xmI s 0 (4 : Int32) fun p7 s8 =>
    bnd (whileO (x0_pure_s25 o x1 p7) () s8) fun b25 s18 => match b25 with
    | .inl b25 =>
      xaI s18 0 p7 x1 fun u19 =>
      some (u19, s18)
    | .inr b25 =>
      some ((-1), s18))
noncomputable def x0_lacking_s48 (x0 : Nat) (p1 : Nat) (p15 : Nat) (a36 : Int32) (a48 : Int32) (s19 : XS) : Option (((Int32) ⊕ ((Unit) ⊕ (Unit))) × XS) :=
  if a36 ≤ a48 then
    (some (.inr (.inr ()), s19))
  else
    (xf s19 p15 5 0 fun v0 => vR v0 fun r20 =>
    dr r20 fun p21 =>
    xaI s19 0 p21 a36 fun u23 =>
    if u23 ≤ 0 then
      (some (.inr (.inr ()), s19))
    else
      (xf s19 p15 5 0 fun v0 => vR v0 fun r24 =>
      dr r24 fun p25 =>
      xcI s19 0 p25 (0 : Int32) p1 (0 : Int32) (4 : Int32) fun s27 =>
      xaI s27 0 p1 a36 fun u28 =>
      xpI s27 0 p1 a36 (u28 - 1) fun s29 =>
      xaI s29 0 p1 a48 fun u30 =>
      xpI s29 0 p1 a48 (u30 + 1) fun s31 =>
      xo s31 x0 1 fun _ =>
      bnd (x1_covers x0 p1 s31) fun v32 s33 =>
      if v32 = 0 then
        (some (.inr (.inl ()), s33))
      else
        (some (.inl (a48 + 1), s33))))
noncomputable def x0_lacking_s36 (x0 : Nat) (p1 : Nat) (p15 : Nat) (a36 : Int32) (s17 : XS) : Option (((Int32) ⊕ ((Unit) ⊕ (Unit))) × XS) :=
  xf s17 x0 1 0 fun v0 => vI v0 fun u18 =>
  if u18 ≤ a36 then
    (some (.inr (.inr ()), s17))
  else
    (bnd (whileO (x0_lacking_s48 x0 p1 p15 a36) 0 s17) fun b48 s34 => match b48 with
    | .inl b48 =>
      some (.inr (.inl ()), s34)
    | .inr b48 =>
      some (.inl (a36 + 1), s34))
noncomputable def x0_lacking_s14 (x0 : Nat) (p1 : Nat) (r6 : Option Nat) (a14 : Unit) (s8 : XS) : Option (((Unit) ⊕ ((Unit) ⊕ (Unit))) × XS) :=
  dr r6 fun p9 =>
  xo s8 p9 8 fun _ =>
  bnd (j14_hasNext p9 s8) fun v11 s12 =>
  if v11 = 0 then
    (some (.inr (.inr ()), s12))
  else
    (xo s12 p9 8 fun _ =>
    bnd (j14_next p9 s12) fun r13 s14 =>
    dr r13 fun p15 =>
    xo s14 p15 5 fun _ =>
    bnd (whileO (x0_lacking_s36 x0 p1 p15) 1 s14) fun b36 s35 => match b36 with
    | .inl b36 =>
      some (.inr (.inl ()), s35)
    | .inr b36 =>
      some (.inl (), s35))
noncomputable def x0_lacking (x0 : Nat) (s : XS) : Option ((Option Nat) × XS) :=
  xmI s 0 (4 : Int32) fun p1 s2 =>
  xf s2 x0 1 1 fun v0 => vR v0 fun r3 =>
  dr r3 fun p4 =>
  xo s2 p4 7 fun _ =>
  bnd (j2_iterator p4 s2) fun r6 s7 =>
  bnd (whileO (x0_lacking_s14 x0 p1 r6) () s7) fun b14 s36 => match b14 with
  | .inl b14 =>
    xmk s36 2 (cO 5 dfX5) fun p37 s38 =>
    bnd (x5_init p37 p1 s38) fun v39 s40 =>
    some ((some p37), s40)
  | .inr b14 =>
    some (none, s36)
noncomputable def x0_level (o : Nat) (s : XS) : Option ((Int32) × XS) :=
  xf s o 0 3 fun v0 => vR v0 fun r1 =>
  dr r1 fun p2 =>
  bnd (x0_lacking p2 s) fun r4 s5 =>
  match r4 with
  | none => (bnd (stat (x0_flag 1 ()) s5) fun v7 _ =>
    some (v7, s5))
  | some p6 => (bnd (stat (x0_flag 0 ()) s5) fun v9 _ =>
    some (v9, s5))
noncomputable def x0_choose (o : Nat) (x1 : Int32) (x2 : Int32) (s : XS) : Option ((Int64) × XS) :=
  bnd (stat (x0_isIn x1.toInt64 0 1000 ()) s) fun v1 _ =>
  if v1 = 0 then
    (some ((-1), s))
  else
    (bnd (stat (x0_isIn x2.toInt64 0 1000 ()) s) fun v3 _ =>
    if v3 = 0 then
      (some ((-1), s))
    else
      (bndT (x0_ways x1.toInt64 x2.toInt64 s) (fun v5 s6 =>
        some (v5, s6)) (fun p7 s8 =>
        some ((-2), s8))))
noncomputable def x0_canExpand (x0 : Int64) (x2 : Int32) (s : Unit) : Option (Int32 × Unit) :=
  bnd (stat (x0_isIn x0 0 1000000000000 ()) s) fun v1 _ =>
  if v1 = 0 then
    (some (0, s))
  else
    (bnd (stat (x0_isIn x2.toInt64 1 40 ()) s) fun v2 _ =>
    if v2 = 0 then
      (some (0, s))
    else
      (some (1, s)))
noncomputable def x6_top (o : Nat) (x1 : Int32) (s : XS) : Option ((Int64) × XS) :=
  xf s o 6 2 fun v0 => vI v0 fun u1 =>
  if x1 < u1 then
    (some ((-1), s))
  else
    (xf s o 6 1 fun v0 => vI v0 fun u2 =>
    if x1 ≤ u2 then
      (xf s o 6 0 fun v0 => vR v0 fun r3 =>
      dr r3 fun p4 =>
      xaL s p4 x1 fun w6 =>
      some (w6, s))
    else
      (some ((-1), s)))
noncomputable def x0_expand (o : Nat) (x1 : Int64) (x3 : Int32) (x4 : Int32) (s : XS) : Option ((Int64) × XS) :=
  bnd (stat (x0_canExpand x1 x3 ()) s) fun v1 _ =>
  if v1 = 0 then
    (some ((-1), s))
  else
    (if x1 ≤ 0 then
      (some ((-1), s))
    else
      (xmk s 3 (cO 6 dfX6) fun p3 s4 =>
      bnd (x6_init p3 x1 x3 s4) fun v5 s6 =>
      xo s6 p3 6 fun _ =>
      bnd (x6_top p3 x4 s6) fun v7 s8 =>
      some (v7, s8)))
noncomputable def x0_up (o : Nat) (x1 : Int64) (x3 : Int32) (s : XS) : Option ((Int64) × XS) :=
  bnd (stat (x0_canExpand x1 x3 ()) s) fun v1 _ =>
  if v1 = 0 then
    (some ((-1), s))
  else
    (bnd (x0_upOf x1 x3 s) fun v3 s4 =>
    some (v3, s4))
noncomputable def x0_down (o : Nat) (x1 : Int64) (x3 : Int32) (s : XS) : Option ((Int64) × XS) :=
  bnd (stat (x0_canExpand x1 x3 ()) s) fun v1 _ =>
  if v1 = 0 then
    (some ((-1), s))
  else
    (xmk s 3 (cO 6 dfX6) fun p3 s4 =>
    bnd (x6_init p3 x1 x3 s4) fun v5 s6 =>
    xo s6 p3 6 fun _ =>
    bndT (x6_moved p3 (-1) 0 s6) (fun v7 s8 =>
      some (v7, s8)) (fun p9 s10 =>
      none))
noncomputable def x0_ups_s40 (x3 : Int32) (x4 : Int32) (a40 : Int64 × Int32) (s5 : XS) : Option (((Int64 × Int32) ⊕ ((Unit) ⊕ (Int64))) × XS) :=
  if x4 ≤ a40.2 then
    (some (.inr (.inr a40.1), s5))
  else
    (if (1000000000000 : Int64) < a40.1 then
      (some (.inr (.inl ()), s5))
    else
      (if a40.1 = (-2) then
        (some (.inr (.inl ()), s5))
      else
        (bnd (x0_upOf a40.1 (x3 + a40.2) s5) fun v6 s7 =>
        some (.inl (v6, (a40.2 + 1)), s7))))
noncomputable def x0_ups (o : Nat) (x1 : Int64) (x3 : Int32) (x4 : Int32) (s : XS) : Option ((Int64) × XS) :=
  bnd (stat (x0_canExpand x1 x3 ()) s) fun v1 _ =>
  if v1 = 0 then
    (some ((-1), s))
  else
    (bnd (stat (x0_isIn x4.toInt64 0 40 ()) s) fun v3 _ =>
    if v3 = 0 then
      (some ((-1), s))
    else
      (if (x3 + x4) ≤ 41 then
        (bnd (whileO (x0_ups_s40 x3 x4) (x1, 0) s) fun b40 s8 => match b40 with
        | .inl b40 =>
          some ((-2), s8)
        | .inr b40 =>
          some (b40, s8))
      else
        (some ((-1), s))))
noncomputable def x0_row (o : Nat) (x1 : Int32) (s : XS) : Option ((Int32) × XS) :=
  xf s o 0 3 fun v0 => vR v0 fun r1 =>
  dr r1 fun p2 =>
  xf s p2 1 2 fun v0 => vR v0 fun r4 =>
  dr r4 fun p5 =>
  xlen s p5 fun u7 =>
  bnd (stat (x0_isIn x1.toInt64 0 ((u7 - 1).toInt64) ()) s) fun v8 _ =>
  if v8 = 0 then
    (some ((-1), s))
  else
    (xf s o 0 3 fun v0 => vR v0 fun r10 =>
    dr r10 fun p11 =>
    xf s p11 1 2 fun v0 => vR v0 fun r13 =>
    dr r13 fun p14 =>
    xaI s 0 p14 x1 fun u16 =>
    some (u16, s))
noncomputable def x0_most (o : Nat) (x1 : Int32) (s : XS) : Option ((Int64) × XS) :=
  if x1 = 0 then
    (some (1, s))
  else
    (if x1 = 1 then
      (xf s o 0 3 fun v0 => vR v0 fun r10 =>
      dr r10 fun p11 =>
      xf s p11 1 0 fun v0 => vI v0 fun u13 =>
      some (u13.toInt64, s))
    else
      (xf s o 0 3 fun v0 => vR v0 fun r1 =>
      dr r1 fun p2 =>
      xf s p2 1 2 fun v0 => vR v0 fun r4 =>
      dr r4 fun p5 =>
      xaI s 0 p5 (x1 - 1) fun u7 =>
      bnd (x0_upOf u7.toInt64 (x1 - 1) s) fun v8 s9 =>
      some (v8, s9)))
noncomputable def x0_broken_s2 (o : Nat) (a2 : Int32) (s1 : XS) : Option (((Int32) ⊕ ((Int32) ⊕ (Unit))) × XS) :=
  xf s1 o 0 3 fun v0 => vR v0 fun r2 =>
  dr r2 fun p3 =>
  xf s1 p3 1 2 fun v0 => vR v0 fun r5 =>
  dr r5 fun p6 =>
  xlen s1 p6 fun u8 =>
  if u8 ≤ a2 then
    (some (.inr (.inr ()), s1))
  else
    (xf s1 o 0 3 fun v0 => vR v0 fun r9 =>
    dr r9 fun p10 =>
    xf s1 p10 1 2 fun v0 => vR v0 fun r12 =>
    dr r12 fun p13 =>
    xaI s1 0 p13 a2 fun u15 =>
    xo s1 o 0 fun _ =>
    bnd (x0_most o a2 s1) fun v16 s17 =>
    if v16 < u15.toInt64 then
      (some (.inr (.inl a2), s17))
    else
      (if a2 = 0 then
        (xf s17 o 0 3 fun v0 => vR v0 fun r18 =>
        dr r18 fun p19 =>
        xf s17 p19 1 2 fun v0 => vR v0 fun r21 =>
        dr r21 fun p22 =>
        xaI s17 0 p22 (0 : Int32) fun u24 =>
        if u24 = 1 then
          (some (.inl (a2 + 1), s17))
        else
          (some (.inr (.inl a2), s17)))
      else
        (some (.inl (a2 + 1), s17))))
noncomputable def x0_broken (o : Nat) (s : XS) : Option ((Int32) × XS) :=
  bnd (whileO (x0_broken_s2 o) 0 s) fun b2 s25 => match b2 with
  | .inl b2 =>
    some (b2, s25)
  | .inr b2 =>
    some ((-1), s25)
noncomputable def x0_breaks (o : Nat) (x1 : Int32) (s : XS) : Option ((Int64) × XS) :=
  xf s o 0 3 fun v0 => vR v0 fun r1 =>
  dr r1 fun p2 =>
  xf s p2 1 2 fun v0 => vR v0 fun r4 =>
  dr r4 fun p5 =>
  xlen s p5 fun u7 =>
  if u7 = 0 then
    (some ((-1), s))
  else
    (bnd (stat (x0_isIn x1.toInt64 0 1 ()) s) fun v8 _ =>
    if v8 = 0 then
      (some ((-1), s))
    else
      (xo s o 0 fun _ =>
      bnd (x0_broken o s) fun v10 s11 =>
      if x1 = 0 then
        (some (v10.toInt64, s11))
      else
        (if v10 = (-1) then
          (some (v10.toInt64, s11))
        else
          (xo s11 o 0 fun _ =>
          bnd (x0_most o v10 s11) fun v12 s13 =>
          some (v12, s13)))))
noncomputable def x0_isSegment (o : Nat) (x1 : Int32) (s : XS) : Option ((Int32) × XS) :=
  xf s o 0 3 fun v0 => vR v0 fun r1 =>
  dr r1 fun p2 =>
  xf s p2 1 2 fun v0 => vR v0 fun r4 =>
  dr r4 fun p5 =>
  xlen s p5 fun u7 =>
  bnd (stat (x0_isIn x1.toInt64 0 ((u7 - 1).toInt64) ()) s) fun v8 _ =>
  if v8 = 0 then
    (some (0, s))
  else
    (xo s o 0 fun _ =>
    bnd (x0_broken o s) fun v10 s11 =>
    if v10 = (-1) then
      (some (1, s11))
    else
      (some (0, s11)))
noncomputable def x0_segment (o : Nat) (x1 : Int32) (s : XS) : Option ((Int32) × XS) :=
  xo s o 0 fun _ =>
  bnd (x0_isSegment o x1 s) fun v1 s2 =>
  if v1 = 0 then
    (some ((-1), s2))
  else
    (xo s2 o 0 fun _ =>
    bnd (x0_manyHere o x1 s2) fun v3 s4 =>
    xf s4 o 0 3 fun v0 => vR v0 fun r5 =>
    dr r5 fun p6 =>
    xf s4 p6 1 2 fun v0 => vR v0 fun r8 =>
    dr r8 fun p9 =>
    xaI s4 0 p9 x1 fun u11 =>
    some ((v3 - u11), s4))
noncomputable def x0_freshOf (o : Nat) (x1 : Int32) (s : XS) : Option ((Int32) × XS) :=
  if x1 = 0 then
    (some (0, s))
  else
    (xo s o 0 fun _ =>
    bnd (x0_most o x1 s) fun v1 s2 =>
    xf s2 o 0 3 fun v0 => vR v0 fun r3 =>
    dr r3 fun p4 =>
    xf s2 p4 1 2 fun v0 => vR v0 fun r6 =>
    dr r6 fun p7 =>
    xaI s2 0 p7 x1 fun u9 =>
    some ((v1 - u9.toInt64).toInt32, s2))
noncomputable def x0_fresh (o : Nat) (x1 : Int32) (x2 : Int32) (s : XS) : Option ((Int32) × XS) :=
  xo s o 0 fun _ =>
  bnd (x0_isSegment o x1 s) fun v1 s2 =>
  if v1 = 0 then
    (some ((-1), s2))
  else
    (xo s2 o 0 fun _ =>
    bnd (x0_freshOf o x1 s2) fun v3 s4 =>
    if x2 = (-1) then
      (some (v3, s4))
    else
      (bnd (stat (x0_isIn x2.toInt64 0 ((v3 - 1).toInt64) ()) s4) fun v5 _ =>
      if v5 = 0 then
        (some ((-1), s4))
      else
        (xo s4 o 0 fun _ =>
        bnd (x0_manyHere o x1 s4) fun v7 s8 =>
        xf s8 o 0 3 fun v0 => vR v0 fun r9 =>
        dr r9 fun p10 =>
        xf s8 p10 1 2 fun v0 => vR v0 fun r12 =>
        dr r12 fun p13 =>
        xaI s8 0 p13 x1 fun u15 =>
        some ((((v7 - u15) - v3) + x2), s8))))
noncomputable def x0_lastOf_s2 (x0 : Nat) (a2 : Int32) (s1 : XS) : Option (((Int32) ⊕ (Int32)) × XS) :=
  if a2 ≤ 0 then
    (some (.inr a2, s1))
  else
    (xaI s1 0 x0 a2 fun u2 =>
    if u2 = 0 then
      (some (.inl (a2 + (-1)), s1))
    else
      (some (.inr a2, s1)))
noncomputable def x0_lastOf (x0 : Nat) (s : XS) : Option ((Int32) × XS) :=
  bnd (whileO (x0_lastOf_s2 x0) 3 s) fun b2 s3 =>
  some (b2, s3)
noncomputable def x0_betti_s59 (o : Nat) (x1 : Int32) (x2 : Int32) (v5 : Int32) (u16 : Int32) (p17 : Nat) (a59 : Int32 × Int32) (s19 : XS) : Option (((Int32 × Int32) ⊕ (Int32)) × XS) :=
  if (u16 + v5) ≤ a59.2 then
    (some (.inr a59.1, s19))
  else
    (xf s19 o 0 3 fun v0 => vR v0 fun r20 =>
    dr r20 fun p21 =>
    xf s19 p21 1 0 fun v0 => vI v0 fun u23 =>
    bnd (x0_laysOne p17 u23 x1 a59.2 s19) fun v24 s25 =>
    nm (s25.1.2.2.2 0) fun r26 =>
    bnd (x0_lastOf p17 s25) fun v27 s28 =>
    dr r26 fun p29 =>
    xaR s28 6 p29 v27 fun r31 =>
    dr r31 fun p32 =>
    xaI s28 0 p32 x2 fun u34 =>
    nm (a59.1 + u34) fun u35 =>
    some (.inl (u35, (a59.2 + 1)), s28))
noncomputable def x0_betti (o : Nat) (x1 : Int32) (x2 : Int32) (s : XS) : Option ((Int32) × XS) :=
  xo s o 0 fun _ =>
  bnd (x0_isSegment o x1 s) fun v1 s2 =>
  if v1 = 0 then
    (some ((-1), s2))
  else
    (bnd (stat (x0_isIn x2.toInt64 0 3 ()) s2) fun v3 _ =>
    if v3 = 0 then
      (some ((-1), s2))
    else
      (xo s2 o 0 fun _ =>
      bnd (x0_freshOf o x1 s2) fun v5 s6 =>
      xo s6 o 0 fun _ =>
      bnd (x0_manyHere o x1 s6) fun v7 s8 =>
      xf s8 o 0 3 fun v0 => vR v0 fun r9 =>
      dr r9 fun p10 =>
      xf s8 p10 1 2 fun v0 => vR v0 fun r12 =>
      dr r12 fun p13 =>
      xaI s8 0 p13 x1 fun u15 =>
      nm ((v7 - u15) - v5) fun u16 =>
      xmI s8 0 (4 : Int32) fun p17 s18 =>
      bnd (whileO (x0_betti_s59 o x1 x2 v5 u16 p17) (0, u16) s18) fun b59 s36 =>
      some (b59, s36)))
noncomputable def x0_take_s26 (o : Nat) (x1 : Int32) (p3 : Nat) (a26 : Int32) (s5 : XS) : Option (((Int32) ⊕ (Unit)) × XS) :=
  if x1 < a26 then
    (some (.inr (), s5))
  else
    (xf s5 o 0 3 fun v0 => vR v0 fun r6 =>
    dr r6 fun p7 =>
    xo s5 p7 1 fun _ =>
    bnd (x1_size p7 a26 s5) fun v9 s10 =>
    xpI s10 0 p3 a26 v9 fun s11 =>
    some (.inl (a26 + 1), s11))
noncomputable def x0_take (o : Nat) (x1 : Int32) (s : XS) : Option ((Int32) × XS) :=
  bnd (stat (x0_isIn x1.toInt64 0 12 ()) s) fun v1 _ =>
  if v1 = 0 then
    (xo s o 0 fun _ =>
    bnd (x0_refused o 2 s) fun v33 s34 =>
    some (v33, s34))
  else
    (xmI s 0 (x1 + 1) fun p3 s4 =>
    bnd (whileO (x0_take_s26 o x1 p3) 0 s4) fun b26 s12 =>
    xmk s12 6 (cO 1 dfX1) fun p13 s14 =>
    xf s14 o 0 3 fun v0 => vR v0 fun r15 =>
    dr r15 fun p16 =>
    xf s14 p16 1 0 fun v0 => vI v0 fun u18 =>
    bnd (x1_init_2 p13 u18 p3 s14) fun v19 s20 =>
    xf s20 o 0 3 fun v0 => vR v0 fun r21 =>
    dr r21 fun p22 =>
    xf s20 p22 1 1 fun v0 => vR v0 fun r24 =>
    dr r24 fun p25 =>
    xo s20 p13 1 fun _ =>
    bnd (x1_withAll p13 p25 s20) fun r27 s28 =>
    dr r27 fun p29 =>
    xo s28 o 0 fun _ =>
    bnd (x0_becomes o p29 s28) fun v31 s32 =>
    some ((x1 + 1), s32))
noncomputable def x0_setRead_s38 (o : Nat) (x1 : Int32) (p13 : Nat) (a38 : Int32) (s15 : XS) : Option (((Int32) ⊕ ((Unit) ⊕ (Unit))) × XS) :=
  if x1 ≤ a38 then
    (some (.inr (.inr ()), s15))
  else
    (xf s15 o 0 0 fun v0 => vR v0 fun r16 =>
    dr r16 fun p17 =>
    xaI s15 2 p17 a38 fun u19 =>
    nm (u19 &&& 255) fun u20 =>
    xlen s15 p13 fun u21 =>
    if u21 ≤ u20 then
      (some (.inr (.inl ()), s15))
    else
      (xaI s15 3 p13 u20 fun u22 =>
      if u22 = 0 then
        (xpI s15 3 p13 u20 ((1 : Int32) &&& 1) fun s23 =>
        some (.inl (a38 + 1), s23))
      else
        (some (.inr (.inl ()), s15))))
noncomputable def x0_setRead (o : Nat) (x1 : Int32) (s : XS) : Option ((Option Nat) × XS) :=
  if x1 = 0 then
    (some (none, s))
  else
    (xf s o 0 0 fun v0 => vR v0 fun r1 =>
    dr r1 fun p2 =>
    xaI s 2 p2 (0 : Int32) fun u4 =>
    bnd (stat (x0_isIn u4.toInt64 1 8 ()) s) fun v5 _ =>
    if v5 = 0 then
      (some (none, s))
    else
      (xf s o 0 0 fun v0 => vR v0 fun r7 =>
      dr r7 fun p8 =>
      xaI s 2 p8 (0 : Int32) fun u10 =>
      xo s o 0 fun _ =>
      bnd (x0_manyHere o u10 s) fun v11 s12 =>
      xmI s12 3 v11 fun p13 s14 =>
      bnd (whileO (x0_setRead_s38 o x1 p13) 1 s14) fun b38 s24 => match b38 with
      | .inl b38 =>
        some (none, s24)
      | .inr b38 =>
        some ((some p13), s24)))
noncomputable def x0_laysPowers_s15 (o : Nat) (a15 : Int32) (s8 : XS) : Option (((Int32) ⊕ (Unit)) × XS) :=
  xf s8 o 0 12 fun v0 => vR v0 fun r9 =>
  dr r9 fun p10 =>
  xlen s8 p10 fun u12 =>
  if u12 ≤ a15 then
    (some (.inr (), s8))
  else
    (xf s8 o 0 13 fun v0 => vI v0 fun u13 =>
    xo s8 o 0 fun _ =>
    bnd (x0_mono o u13 a15 s8) fun r14 s15 =>
    dr r14 fun p16 =>
    xf s15 p16 5 0 fun v0 => vR v0 fun r18 =>
    xf s15 o 0 14 fun v0 => vR v0 fun r19 =>
    dr r19 fun p20 =>
    dr r18 fun p22 =>
    xcI s15 0 p22 (0 : Int32) p20 ((4 : Int32) * a15) (4 : Int32) fun s24 =>
    some (.inl (a15 + 1), s24))
noncomputable def x0_laysPowers (o : Nat) (s : XS) : Option ((Unit) × XS) :=
  xf s o 0 12 fun v0 => vR v0 fun r1 =>
  dr r1 fun p2 =>
  xlen s p2 fun u4 =>
  xmI s 0 ((4 : Int32) * u4) fun p5 s6 =>
  xp s6 o 0 14 (.ref p5) fun s7 =>
  bnd (whileO (x0_laysPowers_s15 o) 0 s7) fun b15 s25 =>
  some ((), s25)
noncomputable def x0_set (o : Nat) (s : XS) : Option ((Int32) × XS) :=
  xo s o 0 fun _ =>
  bnd (x0_takesTape o s) fun v1 s2 =>
  xo s2 o 0 fun _ =>
  bnd (x0_setRead o v1 s2) fun r3 s4 =>
  match r3 with
  | none => (xo s4 o 0 fun _ =>
    bnd (x0_refused o 1 s4) fun v6 s7 =>
    some (v6, s7))
  | some p5 => (xp s4 o 0 12 (.ref p5) fun s8 =>
    xf s8 o 0 0 fun v0 => vR v0 fun r9 =>
    dr r9 fun p10 =>
    xaI s8 2 p10 (0 : Int32) fun u12 =>
    xp s8 o 0 13 (.int u12) fun s13 =>
    xp s13 o 0 18 (.int 0) fun s14 =>
    xo s14 o 0 fun _ =>
    bnd (x0_laysPowers o s14) fun v15 s16 =>
    some ((v1 - 1), s16))
noncomputable def x0_holds (o : Nat) (x1 : Int32) (s : XS) : Option ((Int32) × XS) :=
  xf s o 0 12 fun v0 => vR v0 fun r1 =>
  match r1 with
  | none => (some ((-1), s))
  | some p2 => (xf s o 0 12 fun v0 => vR v0 fun r3 =>
    dr r3 fun p4 =>
    xlen s p4 fun u6 =>
    bnd (stat (x0_isIn x1.toInt64 0 ((u6 - 1).toInt64) ()) s) fun v7 _ =>
    if v7 = 0 then
      (some ((-1), s))
    else
      (xf s o 0 12 fun v0 => vR v0 fun r9 =>
      dr r9 fun p10 =>
      xaI s 3 p10 x1 fun u12 =>
      bnd (stat (x0_flag u12 ()) s) fun v13 _ =>
      some (v13, s)))
noncomputable def x0_powerOf (o : Nat) (x1 : Int32) (x2 : Int32) (s : XS) : Option ((Int32) × XS) :=
  xf s o 0 14 fun v0 => vR v0 fun r1 =>
  dr r1 fun p2 =>
  xaI s 0 p2 (((4 : Int32) * x1) + x2) fun u4 =>
  some (u4, s)
noncomputable def x0_pressedBy_s18 (o : Nat) (x1 : Nat) (x2 : Int32) (p5 : Nat) (a18 : Int32) (s7 : XS) : Option (((Int32) ⊕ (Unit)) × XS) :=
  xlen s7 x1 fun u8 =>
  if u8 ≤ a18 then
    (some (.inr (), s7))
  else
    (xaI s7 3 x1 a18 fun u9 =>
    if u9 = 0 then
      (some (.inl (a18 + 1), s7))
    else
      (xo s7 o 0 fun _ =>
      bnd (x0_powerOf o a18 x2 s7) fun v10 s11 =>
      xaI s11 0 p5 v10 fun u12 =>
      xpI s11 0 p5 v10 (u12 + 1) fun s13 =>
      some (.inl (a18 + 1), s13)))
noncomputable def x0_pressedBy_j87 (p5 : Nat) (x5_87 : Int32) (x6_87 : Int32) (k0_87 : Nat) (k1_87 : Int32) (k2_87 : Int32) (s20 : XS) : Option (((Int32) ⊕ (Unit)) × XS) :=
  xpI s20 3 k0_87 k1_87 (k2_87 &&& 1) fun s21 =>
  xaI s21 0 p5 x6_87 fun u22 =>
  xpI s21 0 p5 x6_87 (u22 - 1) fun s23 =>
  some (.inl (x5_87 + 1), s23)
noncomputable def x0_pressedBy_s55 (o : Nat) (x1 : Nat) (x2 : Int32) (p2 : Nat) (p5 : Nat) (a55 : Int32) (s15 : XS) : Option (((Int32) ⊕ (Unit)) × XS) :=
  xlen s15 x1 fun u16 =>
  if u16 ≤ a55 then
    (some (.inr (), s15))
  else
    (xo s15 o 0 fun _ =>
    bnd (x0_powerOf o a55 x2 s15) fun v17 s18 =>
    xaI s18 0 p5 v17 fun u19 =>
    if u19 ≤ 0 then
      (x0_pressedBy_j87 p5 a55 v17 p2 a55 0 s18)
    else
      (x0_pressedBy_j87 p5 a55 v17 p2 a55 1 s18))
noncomputable def x0_pressedBy (o : Nat) (x1 : Nat) (x2 : Int32) (s : XS) : Option ((Option Nat) × XS) :=
  xlen s x1 fun u1 =>
  xmI s 3 u1 fun p2 s3 =>
  xf s3 o 0 13 fun v0 => vI v0 fun u4 =>
  xmI s3 0 (u4 + 1) fun p5 s6 =>
  bnd (whileO (x0_pressedBy_s18 o x1 x2 p5) 0 s6) fun b18 s14 =>
  bnd (whileO (x0_pressedBy_s55 o x1 x2 p2 p5) 0 s14) fun b55 s24 =>
  some ((some p2), s24)
noncomputable def x0_come_j27 (x3_27 : Int32) (k0_27 : Int32) (s4 : XS) : Option (((Int32 × Int32) ⊕ (Int32)) × XS) :=
  bnd (stat (x0_flag 0 ()) s4) fun v5 _ =>
  nm (k0_27 + v5) fun u7 =>
  some (.inl (u7, (x3_27 + 1)), s4)
noncomputable def x0_come_s4 (x0 : Nat) (x1 : Nat) (a4 : Int32 × Int32) (s1 : XS) : Option (((Int32 × Int32) ⊕ (Int32)) × XS) :=
  xlen s1 x0 fun u2 =>
  if u2 ≤ a4.2 then
    (some (.inr a4.1, s1))
  else
    (xaI s1 3 x0 a4.2 fun u3 =>
    if u3 = 0 then
      (x0_come_j27 a4.2 a4.1 s1)
    else
      (xaI s1 3 x1 a4.2 fun u8 =>
      if u8 = 0 then
        (bnd (stat (x0_flag 1 ()) s1) fun v9 _ =>
        nm (a4.1 + v9) fun u11 =>
        some (.inl (u11, (a4.2 + 1)), s1))
      else
        (x0_come_j27 a4.2 a4.1 s1)))
noncomputable def x0_come (x0 : Nat) (x1 : Nat) (s : XS) : Option ((Int32) × XS) :=
  bnd (whileO (x0_come_s4 x0 x1) (0, 0) s) fun b4 s12 =>
  some (b4, s12)
noncomputable def x0_press (o : Nat) (x1 : Int32) (s : XS) : Option ((Int32) × XS) :=
  xf s o 0 12 fun v0 => vR v0 fun r1 =>
  match r1 with
  | none => (xo s o 0 fun _ =>
    bnd (x0_refused o 2 s) fun v3 s4 =>
    some (v3, s4))
  | some p2 => (xf s o 0 3 fun v0 => vR v0 fun r5 =>
    dr r5 fun p6 =>
    xf s p6 1 0 fun v0 => vI v0 fun u8 =>
    if u8 = 1 then
      (xo s o 0 fun _ =>
      bnd (x0_refused o 2 s) fun v9 s10 =>
      some (v9, s10))
    else
      (xf s o 0 3 fun v0 => vR v0 fun r11 =>
      dr r11 fun p12 =>
      xf s p12 1 0 fun v0 => vI v0 fun u14 =>
      bnd (stat (x0_isIn x1.toInt64 0 ((u14 - 1).toInt64) ()) s) fun v15 _ =>
      if v15 = 0 then
        (xo s o 0 fun _ =>
        bnd (x0_refused o 2 s) fun v30 s31 =>
        some (v30, s31))
      else
        (xf s o 0 12 fun v0 => vR v0 fun r17 =>
        dr r17 fun p18 =>
        xo s o 0 fun _ =>
        bnd (x0_pressedBy o p18 x1 s) fun r20 s21 =>
        xf s21 o 0 12 fun v0 => vR v0 fun r22 =>
        dr r20 fun p23 =>
        dr r22 fun p25 =>
        bnd (x0_come p23 p25 s21) fun v27 s28 =>
        xp s28 o 0 12 (.ref p23) fun s29 =>
        some (v27, s29))))
noncomputable def x0_pressed (o : Nat) (x1 : Int32) (x2 : Int32) (s : XS) : Option ((Int32) × XS) :=
  xf s o 0 12 fun v0 => vR v0 fun r1 =>
  match r1 with
  | none => (some ((-1), s))
  | some p2 => (bnd (stat (x0_isIn x2.toInt64 0 1 ()) s) fun v3 _ =>
    if v3 = 0 then
      (some ((-1), s))
    else
      (if x1 = (-1) then
        (if x2 = 0 then
          (xf s o 0 18 fun v0 => vI v0 fun u18 =>
          some (u18, s))
        else
          (some ((-1), s)))
      else
        (xf s o 0 18 fun v0 => vI v0 fun u5 =>
        bnd (stat (j8_min u5 100 ()) s) fun v6 _ =>
        bnd (stat (x0_isIn x1.toInt64 0 ((v6 - 1).toInt64) ()) s) fun v8 _ =>
        if v8 = 0 then
          (some ((-1), s))
        else
          (if x2 = 0 then
            (xf s o 0 16 fun v0 => vR v0 fun r14 =>
            dr r14 fun p15 =>
            xaI s 0 p15 x1 fun u17 =>
            some (u17, s))
          else
            (xf s o 0 17 fun v0 => vR v0 fun r10 =>
            dr r10 fun p11 =>
            xaI s 0 p11 x1 fun u13 =>
            some (u13, s))))))
noncomputable def x0_pressOn_j108 (o : Nat) (x1_108 : Int32) (x2_108 : Int32) (s22 : XS) : Option (((Int32 × Int32) ⊕ (Unit)) × XS) :=
  xf s22 o 0 3 fun v0 => vR v0 fun r23 =>
  dr r23 fun p24 =>
  xf s22 p24 1 0 fun v0 => vI v0 fun u26 =>
  chk (¬ u26 = 0) <|
  nm ((x2_108 + 1) - (x2_108 + 1) / u26 * u26) fun u27 =>
  some (.inl (x1_108, u27), s22)
noncomputable def x0_pressOn_j98 (o : Nat) (x1_98 : Int32) (x2_98 : Int32) (s19 : XS) : Option (((Int32 × Int32) ⊕ (Unit)) × XS) :=
  xf s19 o 0 18 fun v0 => vI v0 fun u20 =>
  xp s19 o 0 18 (.int (u20 + 1)) fun s21 =>
  x0_pressOn_j108 o x1_98 x2_98 s21
noncomputable def x0_pressOn_j61 (o : Nat) (x2_61 : Int32) (x3_61 : Int32) (k0_61 : Int32) (s17 : XS) : Option (((Int32 × Int32) ⊕ (Unit)) × XS) :=
  if x3_61 = 0 then
    (x0_pressOn_j108 o k0_61 x2_61 s17)
  else
    (xf s17 o 0 18 fun v0 => vI v0 fun u18 =>
    if (100 : Int32) ≤ u18 then
      (x0_pressOn_j98 o k0_61 x2_61 s17)
    else
      (xf s17 o 0 16 fun v0 => vR v0 fun r28 =>
      xf s17 o 0 18 fun v0 => vI v0 fun u29 =>
      dr r28 fun p30 =>
      xpI s17 0 p30 u29 x2_61 fun s32 =>
      xf s32 o 0 17 fun v0 => vR v0 fun r33 =>
      xf s32 o 0 18 fun v0 => vI v0 fun u34 =>
      dr r33 fun p35 =>
      xpI s32 0 p35 u34 x3_61 fun s37 =>
      x0_pressOn_j98 o k0_61 x2_61 s37))
noncomputable def x0_pressOn_s33 (o : Nat) (a33 : Int32 × Int32) (s10 : XS) : Option (((Int32 × Int32) ⊕ (Unit)) × XS) :=
  xf s10 o 0 3 fun v0 => vR v0 fun r11 =>
  dr r11 fun p12 =>
  xf s10 p12 1 0 fun v0 => vI v0 fun u14 =>
  if u14 ≤ a33.1 then
    (some (.inr (), s10))
  else
    (xo s10 o 0 fun _ =>
    bnd (x0_press o a33.2 s10) fun v15 s16 =>
    if v15 ≤ 0 then
      (x0_pressOn_j61 o a33.2 v15 (a33.1 + 1) s16)
    else
      (x0_pressOn_j61 o a33.2 v15 0 s16))
noncomputable def x0_pressOn (o : Nat) (s : XS) : Option ((Int32) × XS) :=
  xf s o 0 12 fun v0 => vR v0 fun r1 =>
  match r1 with
  | none => (xo s o 0 fun _ =>
    bnd (x0_refused o 2 s) fun v3 s4 =>
    some (v3, s4))
  | some p2 => (xf s o 0 3 fun v0 => vR v0 fun r5 =>
    dr r5 fun p6 =>
    xf s p6 1 0 fun v0 => vI v0 fun u8 =>
    if u8 = 1 then
      (xo s o 0 fun _ =>
      bnd (x0_refused o 2 s) fun v40 s41 =>
      some (v40, s41))
    else
      (xp s o 0 18 (.int 0) fun s9 =>
      bnd (whileO (x0_pressOn_s33 o) (0, 0) s9) fun b33 s38 =>
      xf s38 o 0 18 fun v0 => vI v0 fun u39 =>
      some (u39, s38)))
noncomputable def x0_isPressed_s2 (o : Nat) (a2 : Int32) (s1 : XS) : Option (((Int32) ⊕ ((Unit) ⊕ (Unit))) × XS) :=
  xf s1 o 0 3 fun v0 => vR v0 fun r2 =>
  dr r2 fun p3 =>
  xf s1 p3 1 0 fun v0 => vI v0 fun u5 =>
  if u5 ≤ a2 then
    (some (.inr (.inr ()), s1))
  else
    (xf s1 o 0 3 fun v0 => vR v0 fun r6 =>
    dr r6 fun p7 =>
    xf s1 p7 1 0 fun v0 => vI v0 fun u9 =>
    if u9 ≤ 1 then
      (some (.inr (.inr ()), s1))
    else
      (xf s1 o 0 12 fun v0 => vR v0 fun r10 =>
      dr r10 fun p11 =>
      xo s1 o 0 fun _ =>
      bnd (x0_pressedBy o p11 a2 s1) fun r13 s14 =>
      xf s14 o 0 12 fun v0 => vR v0 fun r15 =>
      dr r13 fun p16 =>
      dr r15 fun p18 =>
      bnd (x0_come p16 p18 s14) fun v20 s21 =>
      if v20 ≤ 0 then
        (some (.inl (a2 + 1), s21))
      else
        (some (.inr (.inl ()), s21))))
noncomputable def x0_isPressed (o : Nat) (s : XS) : Option ((Int32) × XS) :=
  bnd (whileO (x0_isPressed_s2 o) 0 s) fun b2 s22 => match b2 with
  | .inl b2 =>
    some (0, s22)
  | .inr b2 =>
    some (1, s22)
noncomputable def x0_firsts_s10 (x1 : Int32) (p5 : Nat) (a10 : Int32) (s7 : XS) : Option (((Int32) ⊕ (Unit)) × XS) :=
  if x1 ≤ a10 then
    (some (.inr (), s7))
  else
    (xpI s7 3 p5 a10 ((1 : Int32) &&& 1) fun s8 =>
    some (.inl (a10 + 1), s8))
noncomputable def x0_firsts (o : Nat) (x1 : Int32) (s : XS) : Option ((Option Nat) × XS) :=
  xf s o 0 12 fun v0 => vR v0 fun r1 =>
  dr r1 fun p2 =>
  xlen s p2 fun u4 =>
  xmI s 3 u4 fun p5 s6 =>
  bnd (whileO (x0_firsts_s10 x1 p5) 0 s6) fun b10 s9 =>
  some ((some p5), s9)
noncomputable def x0_shadow_s49 (o : Nat) (p4 : Nat) (a49 : Int32) (s16 : XS) : Option (((Int32) ⊕ (Unit)) × XS) :=
  xf s16 o 0 3 fun v0 => vR v0 fun r17 =>
  dr r17 fun p18 =>
  xf s16 p18 1 0 fun v0 => vI v0 fun u20 =>
  if u20 ≤ a49 then
    (some (.inr (), s16))
  else
    (xf s16 o 0 15 fun v0 => vR v0 fun r21 =>
    dr r21 fun p22 =>
    xaI s16 0 p22 a49 fun u24 =>
    xpI s16 0 p22 a49 (u24 + 1) fun s25 =>
    xf s25 o 0 15 fun v0 => vR v0 fun r26 =>
    xf s25 o 0 13 fun v0 => vI v0 fun u27 =>
    xf s25 o 0 3 fun v0 => vR v0 fun r28 =>
    dr r28 fun p29 =>
    xf s25 p29 1 0 fun v0 => vI v0 fun u31 =>
    dr r26 fun p32 =>
    bnd (x0_numberOf p32 (u27 + 1) u31 s25) fun v34 s35 =>
    xpI s35 3 p4 v34 ((1 : Int32) &&& 1) fun s36 =>
    xf s36 o 0 15 fun v0 => vR v0 fun r37 =>
    dr r37 fun p38 =>
    xaI s36 0 p38 a49 fun u40 =>
    xpI s36 0 p38 a49 (u40 - 1) fun s41 =>
    some (.inl (a49 + 1), s41))
noncomputable def x0_shadow_s15 (o : Nat) (x1 : Nat) (p4 : Nat) (a15 : Int32) (s6 : XS) : Option (((Int32) ⊕ (Unit)) × XS) :=
  xlen s6 x1 fun u7 =>
  if u7 ≤ a15 then
    (some (.inr (), s6))
  else
    (xaI s6 3 x1 a15 fun u8 =>
    if u8 = 0 then
      (some (.inl (a15 + 1), s6))
    else
      (xf s6 o 0 14 fun v0 => vR v0 fun r9 =>
      xf s6 o 0 15 fun v0 => vR v0 fun r10 =>
      dr r10 fun p11 =>
      dr r9 fun p13 =>
      xcI s6 0 p13 ((4 : Int32) * a15) p11 (0 : Int32) (4 : Int32) fun s15 =>
      bnd (whileO (x0_shadow_s49 o p4) 0 s15) fun b49 s42 =>
      some (.inl (a15 + 1), s42)))
noncomputable def x0_shadow (o : Nat) (x1 : Nat) (s : XS) : Option ((Int32) × XS) :=
  xf s o 0 13 fun v0 => vI v0 fun u1 =>
  xo s o 0 fun _ =>
  bnd (x0_manyHere o (u1 + 1) s) fun v2 s3 =>
  xmI s3 3 v2 fun p4 s5 =>
  bnd (whileO (x0_shadow_s15 o x1 p4) 0 s5) fun b15 s43 =>
  bnd (x0_held p4 s43) fun v44 s45 =>
  some (v44, s45)
noncomputable def x0_shape (o : Nat) (x1 : Int32) (s : XS) : Option ((Int32) × XS) :=
  xf s o 0 12 fun v0 => vR v0 fun r1 =>
  match r1 with
  | none => (some ((-1), s))
  | some p2 => (if x1 = 0 then
      (xo s o 0 fun _ =>
      bnd (x0_isPressed o s) fun v3 s4 =>
      bnd (stat (x0_flag v3 ()) s4) fun v5 _ =>
      some (v5, s4))
    else
      (if x1 = 1 then
        (xf s o 0 12 fun v0 => vR v0 fun r7 =>
        xf s o 0 12 fun v0 => vR v0 fun r8 =>
        dr r8 fun p9 =>
        bnd (x0_held p9 s) fun v11 s12 =>
        xo s12 o 0 fun _ =>
        bnd (x0_firsts o v11 s12) fun r13 s14 =>
        dr r7 fun p15 =>
        dr r13 fun p17 =>
        bnd (x0_come p15 p17 s14) fun v19 s20 =>
        if v19 = 0 then
          (bnd (stat (x0_flag 1 ()) s20) fun v23 _ =>
          some (v23, s20))
        else
          (bnd (stat (x0_flag 0 ()) s20) fun v21 _ =>
          some (v21, s20)))
      else
        (if x1 = 2 then
          (xf s o 0 12 fun v0 => vR v0 fun r25 =>
          dr r25 fun p26 =>
          xo s o 0 fun _ =>
          bnd (x0_shadow o p26 s) fun v28 s29 =>
          some (v28, s29))
        else
          (if x1 = 3 then
            (xf s o 0 12 fun v0 => vR v0 fun r30 =>
            dr r30 fun p31 =>
            bnd (x0_held p31 s) fun v33 s34 =>
            xo s34 o 0 fun _ =>
            bnd (x0_firsts o v33 s34) fun r35 s36 =>
            dr r35 fun p37 =>
            xo s36 o 0 fun _ =>
            bnd (x0_shadow o p37 s36) fun v39 s40 =>
            some (v39, s40))
          else
            (some ((-1), s))))))
noncomputable def x0_canAct (o : Nat) (x1 : Int32) (x2 : Int32) (s : XS) : Option ((Int32) × XS) :=
  bnd (stat (x0_isIn x1.toInt64 1 8 ()) s) fun v1 _ =>
  if v1 = 0 then
    (some (0, s))
  else
    (xo s o 0 fun _ =>
    bnd (x0_isMono o x1 x2 s) fun v3 s4 =>
    if v3 = 0 then
      (some (0, s4))
    else
      (some (1, s4)))
noncomputable def x0_like (o : Nat) (s : XS) : Option ((Option Nat) × XS) :=
  xmk s 6 (cO 1 dfX1) fun p1 s2 =>
  xf s2 o 0 3 fun v0 => vR v0 fun r3 =>
  dr r3 fun p4 =>
  xf s2 p4 1 0 fun v0 => vI v0 fun u6 =>
  xf s2 o 0 3 fun v0 => vR v0 fun r7 =>
  dr r7 fun p8 =>
  xf s2 p8 1 2 fun v0 => vR v0 fun r10 =>
  dr r10 fun p11 =>
  bnd (x1_init_2 p1 u6 p11 s2) fun v13 s14 =>
  some ((some p1), s14)
noncomputable def x0_join (o : Nat) (x1 : Int32) (x2 : Int32) (s : XS) : Option ((Int32) × XS) :=
  xo s o 0 fun _ =>
  bnd (x0_canAct o x1 x2 s) fun v1 s2 =>
  if v1 = 0 then
    (xo s2 o 0 fun _ =>
    bnd (x0_refused o 2 s2) fun v3 s4 =>
    some (v3, s4))
  else
    (xf s2 o 0 3 fun v0 => vR v0 fun r5 =>
    xo s2 o 0 fun _ =>
    bnd (x0_mono o x1 x2 s2) fun r6 s7 =>
    dr r6 fun p8 =>
    xf s7 p8 5 0 fun v0 => vR v0 fun r10 =>
    dr r10 fun p11 =>
    dr r5 fun p13 =>
    xo s7 p13 1 fun _ =>
    bnd (x1_covers p13 p11 s7) fun v15 s16 =>
    if v15 = 0 then
      (xo s16 o 0 fun _ =>
      bnd (x0_like o s16) fun r17 s18 =>
      xf s18 o 0 3 fun v0 => vR v0 fun r19 =>
      dr r19 fun p20 =>
      xf s18 p20 1 1 fun v0 => vR v0 fun r22 =>
      dr r22 fun p23 =>
      dr r17 fun p25 =>
      xo s18 p25 1 fun _ =>
      bnd (x1_withAll p25 p23 s18) fun r27 s28 =>
      xo s28 o 0 fun _ =>
      bnd (x0_mono o x1 x2 s28) fun r29 s30 =>
      dr r29 fun p31 =>
      dr r27 fun p33 =>
      xo s30 p33 1 fun _ =>
      bnd (x1_with p33 p31 s30) fun r35 s36 =>
      dr r35 fun p37 =>
      xf s36 p37 1 1 fun v0 => vR v0 fun r39 =>
      dr r39 fun p40 =>
      xo s36 p40 7 fun _ =>
      bnd (j2_size p40 s36) fun v42 s43 =>
      if v42 ≤ 40 then
        (xo s43 o 0 fun _ =>
        bnd (x0_becomes o p37 s43) fun v44 s45 =>
        xf s45 p37 1 1 fun v0 => vR v0 fun r46 =>
        dr r46 fun p47 =>
        xo s45 p47 7 fun _ =>
        bnd (j2_size p47 s45) fun v49 s50 =>
        some (v49, s50))
      else
        (xo s43 o 0 fun _ =>
        bnd (x0_refused o 2 s43) fun v51 s52 =>
        some (v51, s52)))
    else
      (xo s16 o 0 fun _ =>
      bnd (x0_refused o 2 s16) fun v53 s54 =>
      some (v53, s54)))
noncomputable def x5_over_s6 (o : Nat) (x1 : Nat) (p1 : Nat) (a6 : Int32) (s3 : XS) : Option (((Int32) ⊕ (Unit)) × XS) :=
  if (4 : Int32) ≤ a6 then
    (some (.inr (), s3))
  else
    (xf s3 o 5 0 fun v0 => vR v0 fun r4 =>
    dr r4 fun p5 =>
    xaI s3 0 p5 a6 fun u7 =>
    xf s3 x1 5 0 fun v0 => vR v0 fun r8 =>
    dr r8 fun p9 =>
    xaI s3 0 p9 a6 fun u11 =>
    bnd (stat (j8_max 0 (u7 - u11) ()) s3) fun v12 _ =>
    xpI s3 0 p1 a6 v12 fun s14 =>
    some (.inl (a6 + 1), s14))
noncomputable def x5_over (o : Nat) (x1 : Nat) (s : XS) : Option ((Option Nat) × XS) :=
  xmI s 0 (4 : Int32) fun p1 s2 =>
  bnd (whileO (x5_over_s6 o x1 p1) 0 s2) fun b6 s15 =>
  xmk s15 2 (cO 5 dfX5) fun p16 s17 =>
  bnd (x5_init p16 p1 s17) fun v18 s19 =>
  some ((some p16), s19)
noncomputable def x0_divide_s42 (r3 : Option Nat) (r5 : Option Nat) (r13 : Option Nat) (a42 : Unit) (s15 : XS) : Option (((Unit) ⊕ (Unit)) × XS) :=
  dr r13 fun p16 =>
  xo s15 p16 8 fun _ =>
  bnd (j14_hasNext p16 s15) fun v18 s19 =>
  if v18 = 0 then
    (some (.inr (), s19))
  else
    (xo s19 p16 8 fun _ =>
    bnd (j14_next p16 s19) fun r20 s21 =>
    dr r20 fun p22 =>
    xo s21 p22 5 fun _ =>
    dr r3 fun p24 =>
    xo s21 p22 5 fun _ =>
    bnd (x5_over p22 p24 s21) fun r26 s27 =>
    dr r26 fun p28 =>
    dr r5 fun p30 =>
    xo s27 p30 1 fun _ =>
    bnd (x1_with p30 p28 s27) fun r32 s33 =>
    some (.inl (), s33))
noncomputable def x0_divide (o : Nat) (x1 : Int32) (x2 : Int32) (s : XS) : Option ((Int32) × XS) :=
  xo s o 0 fun _ =>
  bnd (x0_canAct o x1 x2 s) fun v1 s2 =>
  if v1 = 0 then
    (xo s2 o 0 fun _ =>
    bnd (x0_refused o 2 s2) fun v44 s45 =>
    some (v44, s45))
  else
    (xo s2 o 0 fun _ =>
    bnd (x0_mono o x1 x2 s2) fun r3 s4 =>
    xo s4 o 0 fun _ =>
    bnd (x0_like o s4) fun r5 s6 =>
    xf s6 o 0 3 fun v0 => vR v0 fun r7 =>
    dr r7 fun p8 =>
    xf s6 p8 1 1 fun v0 => vR v0 fun r10 =>
    dr r10 fun p11 =>
    xo s6 p11 7 fun _ =>
    bnd (j2_iterator p11 s6) fun r13 s14 =>
    bnd (whileO (x0_divide_s42 r3 r5 r13) () s14) fun b42 s34 =>
    dr r5 fun p35 =>
    xo s34 o 0 fun _ =>
    bnd (x0_becomes o p35 s34) fun v37 s38 =>
    xf s38 p35 1 1 fun v0 => vR v0 fun r39 =>
    dr r39 fun p40 =>
    xo s38 p40 7 fun _ =>
    bnd (j2_size p40 s38) fun v42 s43 =>
    some (v42, s43))
noncomputable def x5_times (o : Nat) (x1 : Nat) (s : XS) : Option ((Option Nat) × XS) :=
  xmk s 2 (cO 5 dfX5) fun p1 s2 =>
  xmI s2 0 (4 : Int32) fun p3 s4 =>
  xf s4 o 5 0 fun v0 => vR v0 fun r5 =>
  dr r5 fun p6 =>
  xaI s4 0 p6 (0 : Int32) fun u8 =>
  xf s4 x1 5 0 fun v0 => vR v0 fun r9 =>
  dr r9 fun p10 =>
  xaI s4 0 p10 (0 : Int32) fun u12 =>
  xpI s4 0 p3 (0 : Int32) (u8 + u12) fun s13 =>
  xf s13 o 5 0 fun v0 => vR v0 fun r14 =>
  dr r14 fun p15 =>
  xaI s13 0 p15 (1 : Int32) fun u17 =>
  xf s13 x1 5 0 fun v0 => vR v0 fun r18 =>
  dr r18 fun p19 =>
  xaI s13 0 p19 (1 : Int32) fun u21 =>
  xpI s13 0 p3 (1 : Int32) (u17 + u21) fun s22 =>
  xf s22 o 5 0 fun v0 => vR v0 fun r23 =>
  dr r23 fun p24 =>
  xaI s22 0 p24 (2 : Int32) fun u26 =>
  xf s22 x1 5 0 fun v0 => vR v0 fun r27 =>
  dr r27 fun p28 =>
  xaI s22 0 p28 (2 : Int32) fun u30 =>
  xpI s22 0 p3 (2 : Int32) (u26 + u30) fun s31 =>
  xf s31 o 5 0 fun v0 => vR v0 fun r32 =>
  dr r32 fun p33 =>
  xaI s31 0 p33 (3 : Int32) fun u35 =>
  xf s31 x1 5 0 fun v0 => vR v0 fun r36 =>
  dr r36 fun p37 =>
  xaI s31 0 p37 (3 : Int32) fun u39 =>
  xpI s31 0 p3 (3 : Int32) (u35 + u39) fun s40 =>
  bnd (x5_init p1 p3 s40) fun v41 s42 =>
  some ((some p1), s42)
noncomputable def x0_times_s71 (r11 : Option Nat) (r13 : Option Nat) (r21 : Option Nat) (a71 : Unit) (s23 : XS) : Option (((Unit) ⊕ (Unit)) × XS) :=
  dr r21 fun p24 =>
  xo s23 p24 8 fun _ =>
  bnd (j14_hasNext p24 s23) fun v26 s27 =>
  if v26 = 0 then
    (some (.inr (), s27))
  else
    (xo s27 p24 8 fun _ =>
    bnd (j14_next p24 s27) fun r28 s29 =>
    dr r28 fun p30 =>
    xo s29 p30 5 fun _ =>
    dr r11 fun p32 =>
    xo s29 p30 5 fun _ =>
    bnd (x5_times p30 p32 s29) fun r34 s35 =>
    dr r34 fun p36 =>
    dr r13 fun p38 =>
    xo s35 p38 1 fun _ =>
    bnd (x1_with p38 p36 s35) fun r40 s41 =>
    some (.inl (), s41))
noncomputable def x0_times_j44 (o : Nat) (x1 : Int32) (x2 : Int32) (s10 : XS) : Option ((Int32) × XS) :=
  xo s10 o 0 fun _ =>
  bnd (x0_mono o x1 x2 s10) fun r11 s12 =>
  xo s12 o 0 fun _ =>
  bnd (x0_like o s12) fun r13 s14 =>
  xf s14 o 0 3 fun v0 => vR v0 fun r15 =>
  dr r15 fun p16 =>
  xf s14 p16 1 1 fun v0 => vR v0 fun r18 =>
  dr r18 fun p19 =>
  xo s14 p19 7 fun _ =>
  bnd (j2_iterator p19 s14) fun r21 s22 =>
  bnd (whileO (x0_times_s71 r11 r13 r21) () s22) fun b71 s42 =>
  dr r13 fun p43 =>
  xo s42 o 0 fun _ =>
  bnd (x0_becomes o p43 s42) fun v45 s46 =>
  xf s46 p43 1 1 fun v0 => vR v0 fun r47 =>
  dr r47 fun p48 =>
  xo s46 p48 7 fun _ =>
  bnd (j2_size p48 s46) fun v50 s51 =>
  some (v50, s51)
noncomputable def x0_times (o : Nat) (x1 : Int32) (x2 : Int32) (s : XS) : Option ((Int32) × XS) :=
  xo s o 0 fun _ =>
  bnd (x0_canAct o x1 x2 s) fun v1 s2 =>
  if v1 = 0 then
    (xo s2 o 0 fun _ =>
    bnd (x0_refused o 2 s2) fun v3 s4 =>
    some (v3, s4))
  else
    (xf s2 o 0 3 fun v0 => vR v0 fun r5 =>
    dr r5 fun p6 =>
    xo s2 p6 1 fun _ =>
    bnd (x1_highest p6 s2) fun v8 s9 =>
    if (v8 + x1) ≤ 8 then
      (x0_times_j44 o x1 x2 s9)
    else
      (xf s9 o 0 3 fun v0 => vR v0 fun r52 =>
      dr r52 fun p53 =>
      xf s9 p53 1 1 fun v0 => vR v0 fun r55 =>
      dr r55 fun p56 =>
      xo s9 p56 7 fun _ =>
      bnd (j2_isEmpty p56 s9) fun v58 s59 =>
      if v58 = 0 then
        (xo s59 o 0 fun _ =>
        bnd (x0_refused o 2 s59) fun v60 s61 =>
        some (v60, s61))
      else
        (x0_times_j44 o x1 x2 s59)))
noncomputable def x0_comes (o : Nat) (x1 : Nat) (s : XS) : Option ((Int32) × XS) :=
  xf s x1 1 1 fun v0 => vR v0 fun r1 =>
  dr r1 fun p2 =>
  xo s p2 7 fun _ =>
  bnd (j2_size p2 s) fun v4 s5 =>
  if (40 : Int32) < v4 then
    (xo s5 o 0 fun _ =>
    bnd (x0_refused o 2 s5) fun v6 s7 =>
    some (v6, s7))
  else
    (xo s5 x1 1 fun _ =>
    bnd (x1_highest x1 s5) fun v8 s9 =>
    if v8 ≤ 8 then
      (xo s9 o 0 fun _ =>
      bnd (x0_becomes o x1 s9) fun v10 s11 =>
      xf s11 x1 1 1 fun v0 => vR v0 fun r12 =>
      dr r12 fun p13 =>
      xo s11 p13 7 fun _ =>
      bnd (j2_size p13 s11) fun v15 s16 =>
      some (v15, s16))
    else
      (xo s9 o 0 fun _ =>
      bnd (x0_refused o 2 s9) fun v17 s18 =>
      some (v17, s18)))
noncomputable def x0_levelled_s20 (p13 : Nat) (a20 : Option Nat) (s17 : XS) : Option (((Option Nat) ⊕ (Unit)) × XS) :=
  match a20 with
  | none => (some (.inr (), s17))
  | some p18 => (xo s17 p13 1 fun _ =>
    bnd (x1_with p13 p18 s17) fun r19 s20 =>
    bnd (x0_lacking p13 s20) fun r21 s22 =>
    some (.inl r21, s22))
noncomputable def x0_levelled (o : Nat) (s : XS) : Option ((Int32) × XS) :=
  xo s o 0 fun _ =>
  bnd (x0_like o s) fun r1 s2 =>
  xf s2 o 0 3 fun v0 => vR v0 fun r3 =>
  dr r3 fun p4 =>
  xf s2 p4 1 1 fun v0 => vR v0 fun r6 =>
  dr r6 fun p7 =>
  dr r1 fun p9 =>
  xo s2 p9 1 fun _ =>
  bnd (x1_withAll p9 p7 s2) fun r11 s12 =>
  dr r11 fun p13 =>
  bnd (x0_lacking p13 s12) fun r15 s16 =>
  bnd (whileO (x0_levelled_s20 p13) r15 s16) fun b20 s23 =>
  xo s23 o 0 fun _ =>
  bnd (x0_comes o p13 s23) fun v24 s25 =>
  some (v24, s25)
noncomputable def x0_root_s45 (p18 : Nat) (p20 : Nat) (a45 : Int32) (s22 : XS) : Option (((Int32) ⊕ (Unit)) × XS) :=
  if (4 : Int32) ≤ a45 then
    (some (.inr (), s22))
  else
    (xf s22 p18 5 0 fun v0 => vR v0 fun r23 =>
    dr r23 fun p24 =>
    xaI s22 0 p24 a45 fun u26 =>
    bnd (stat (j8_min 1 u26 ()) s22) fun v27 _ =>
    xpI s22 0 p20 a45 v27 fun s29 =>
    some (.inl (a45 + 1), s29))
noncomputable def x0_root_s18 (r1 : Option Nat) (r9 : Option Nat) (a18 : Unit) (s11 : XS) : Option (((Unit) ⊕ (Unit)) × XS) :=
  dr r9 fun p12 =>
  xo s11 p12 8 fun _ =>
  bnd (j14_hasNext p12 s11) fun v14 s15 =>
  if v14 = 0 then
    (some (.inr (), s15))
  else
    (xo s15 p12 8 fun _ =>
    bnd (j14_next p12 s15) fun r16 s17 =>
    dr r16 fun p18 =>
    xo s17 p18 5 fun _ =>
    xmI s17 0 (4 : Int32) fun p20 s21 =>
    bnd (whileO (x0_root_s45 p18 p20) 0 s21) fun b45 s30 =>
    xmk s30 2 (cO 5 dfX5) fun p31 s32 =>
    bnd (x5_init p31 p20 s32) fun v33 s34 =>
    dr r1 fun p35 =>
    xo s34 p35 1 fun _ =>
    bnd (x1_with p35 p31 s34) fun r37 s38 =>
    some (.inl (), s38))
noncomputable def x0_root (o : Nat) (s : XS) : Option ((Int32) × XS) :=
  xo s o 0 fun _ =>
  bnd (x0_like o s) fun r1 s2 =>
  xf s2 o 0 3 fun v0 => vR v0 fun r3 =>
  dr r3 fun p4 =>
  xf s2 p4 1 1 fun v0 => vR v0 fun r6 =>
  dr r6 fun p7 =>
  xo s2 p7 7 fun _ =>
  bnd (j2_iterator p7 s2) fun r9 s10 =>
  bnd (whileO (x0_root_s18 r1 r9) () s10) fun b18 s39 =>
  dr r1 fun p40 =>
  xo s39 o 0 fun _ =>
  bnd (x0_comes o p40 s39) fun v42 s43 =>
  some (v42, s43)
noncomputable def x0_keep (o : Nat) (x1 : Int32) (s : XS) : Option ((Int32) × XS) :=
  bnd (stat (x0_isIn x1.toInt64 0 2 ()) s) fun v1 _ =>
  if v1 = 0 then
    (some ((-1), s))
  else
    (xf s o 0 19 fun v0 => vR v0 fun r3 =>
    xf s o 0 3 fun v0 => vR v0 fun r4 =>
    dr r3 fun p5 =>
    xpR s 5 p5 x1 r4 fun s7 =>
    xf s7 o 0 3 fun v0 => vR v0 fun r8 =>
    dr r8 fun p9 =>
    xf s7 p9 1 1 fun v0 => vR v0 fun r11 =>
    dr r11 fun p12 =>
    xo s7 p12 7 fun _ =>
    bnd (j2_size p12 s7) fun v14 s15 =>
    some (v14, s15))
noncomputable def x0_isKept (o : Nat) (x1 : Int32) (s : XS) : Option ((Int32) × XS) :=
  bnd (stat (x0_isIn x1.toInt64 0 2 ()) s) fun v1 _ =>
  if v1 = 0 then
    (some (0, s))
  else
    (xf s o 0 19 fun v0 => vR v0 fun r3 =>
    dr r3 fun p4 =>
    xaR s 5 p4 x1 fun r6 =>
    match r6 with
    | none => (some (0, s))
    | some p7 => (xf s o 0 19 fun v0 => vR v0 fun r8 =>
      dr r8 fun p9 =>
      xaR s 5 p9 x1 fun r11 =>
      dr r11 fun p12 =>
      xf s p12 1 0 fun v0 => vI v0 fun u14 =>
      xf s o 0 3 fun v0 => vR v0 fun r15 =>
      dr r15 fun p16 =>
      xf s p16 1 0 fun v0 => vI v0 fun u18 =>
      if u14 = u18 then
        (some (1, s))
      else
        (some (0, s))))
noncomputable def x0_hasAll_s10 (x0 : Nat) (r4 : Option Nat) (a10 : Unit) (s6 : XS) : Option (((Unit) ⊕ ((Unit) ⊕ (Unit))) × XS) :=
  dr r4 fun p7 =>
  xo s6 p7 8 fun _ =>
  bnd (j14_hasNext p7 s6) fun v9 s10 =>
  if v9 = 0 then
    (some (.inr (.inr ()), s10))
  else
    (xo s10 p7 8 fun _ =>
    bnd (j14_next p7 s10) fun r11 s12 =>
    dr r11 fun p13 =>
    xo s12 p13 5 fun _ =>
    xf s12 p13 5 0 fun v0 => vR v0 fun r15 =>
    dr r15 fun p16 =>
    xo s12 x0 1 fun _ =>
    bnd (x1_covers x0 p16 s12) fun v18 s19 =>
    if v18 = 0 then
      (some (.inr (.inl ()), s19))
    else
      (some (.inl (), s19)))
noncomputable def x0_hasAll (x0 : Nat) (x1 : Nat) (s : XS) : Option ((Int32) × XS) :=
  xf s x1 1 1 fun v0 => vR v0 fun r1 =>
  dr r1 fun p2 =>
  xo s p2 7 fun _ =>
  bnd (j2_iterator p2 s) fun r4 s5 =>
  bnd (whileO (x0_hasAll_s10 x0 r4) () s5) fun b10 s20 => match b10 with
  | .inl b10 =>
    some (0, s20)
  | .inr b10 =>
    some (1, s20)
noncomputable def x0_within (o : Nat) (x1 : Int32) (s : XS) : Option ((Int32) × XS) :=
  xo s o 0 fun _ =>
  bnd (x0_isKept o x1 s) fun v1 s2 =>
  if v1 = 0 then
    (some ((-1), s2))
  else
    (xf s2 o 0 19 fun v0 => vR v0 fun r3 =>
    dr r3 fun p4 =>
    xaR s2 5 p4 x1 fun r6 =>
    xf s2 o 0 3 fun v0 => vR v0 fun r7 =>
    dr r6 fun p8 =>
    dr r7 fun p10 =>
    bnd (x0_hasAll p8 p10 s2) fun v12 s13 =>
    bnd (stat (x0_flag v12 ()) s13) fun v14 _ =>
    xf s13 o 0 3 fun v0 => vR v0 fun r16 =>
    xf s13 o 0 19 fun v0 => vR v0 fun r17 =>
    dr r17 fun p18 =>
    xaR s13 5 p18 x1 fun r20 =>
    dr r16 fun p21 =>
    dr r20 fun p23 =>
    bnd (x0_hasAll p21 p23 s13) fun v25 s26 =>
    bnd (stat (x0_flag v25 ()) s26) fun v27 _ =>
    some ((v14 + ((2 : Int32) * v27)), s26))
noncomputable def x0_mix (o : Nat) (x1 : Int32) (x2 : Int32) (s : XS) : Option ((Int32) × XS) :=
  xo s o 0 fun _ =>
  bnd (x0_isKept o x1 s) fun v1 s2 =>
  if v1 = 0 then
    (xo s2 o 0 fun _ =>
    bnd (x0_refused o 2 s2) fun v3 s4 =>
    some (v3, s4))
  else
    (bnd (stat (x0_isIn x2.toInt64 0 2 ()) s2) fun v5 _ =>
    if v5 = 0 then
      (xo s2 o 0 fun _ =>
      bnd (x0_refused o 2 s2) fun v36 s37 =>
      some (v36, s37))
    else
      (none))
noncomputable def x0_least (x0 : Nat) (x1 : Nat) (s : XS) : Option ((Option Nat) × XS) :=
  xmk s 2 (cO 5 dfX5) fun p1 s2 =>
  xmI s2 0 (4 : Int32) fun p3 s4 =>
  xf s4 x0 5 0 fun v0 => vR v0 fun r5 =>
  dr r5 fun p6 =>
  xaI s4 0 p6 (0 : Int32) fun u8 =>
  xf s4 x1 5 0 fun v0 => vR v0 fun r9 =>
  dr r9 fun p10 =>
  xaI s4 0 p10 (0 : Int32) fun u12 =>
  bnd (stat (j8_max u8 u12 ()) s4) fun v13 _ =>
  xpI s4 0 p3 (0 : Int32) v13 fun s15 =>
  xf s15 x0 5 0 fun v0 => vR v0 fun r16 =>
  dr r16 fun p17 =>
  xaI s15 0 p17 (1 : Int32) fun u19 =>
  xf s15 x1 5 0 fun v0 => vR v0 fun r20 =>
  dr r20 fun p21 =>
  xaI s15 0 p21 (1 : Int32) fun u23 =>
  bnd (stat (j8_max u19 u23 ()) s15) fun v24 _ =>
  xpI s15 0 p3 (1 : Int32) v24 fun s26 =>
  xf s26 x0 5 0 fun v0 => vR v0 fun r27 =>
  dr r27 fun p28 =>
  xaI s26 0 p28 (2 : Int32) fun u30 =>
  xf s26 x1 5 0 fun v0 => vR v0 fun r31 =>
  dr r31 fun p32 =>
  xaI s26 0 p32 (2 : Int32) fun u34 =>
  bnd (stat (j8_max u30 u34 ()) s26) fun v35 _ =>
  xpI s26 0 p3 (2 : Int32) v35 fun s37 =>
  xf s37 x0 5 0 fun v0 => vR v0 fun r38 =>
  dr r38 fun p39 =>
  xaI s37 0 p39 (3 : Int32) fun u41 =>
  xf s37 x1 5 0 fun v0 => vR v0 fun r42 =>
  dr r42 fun p43 =>
  xaI s37 0 p43 (3 : Int32) fun u45 =>
  bnd (stat (j8_max u41 u45 ()) s37) fun v46 _ =>
  xpI s37 0 p3 (3 : Int32) v46 fun s48 =>
  bnd (x5_init p1 p3 s48) fun v49 s50 =>
  some ((some p1), s50)
noncomputable def x0_lambda_mix_2 (x0 : Nat) (x1 : Nat) (s : XS) : Option ((Option Nat) × XS) :=
  bnd (x0_least x0 x1 s) fun r1 s2 =>
  some (r1, s2)
noncomputable def x0_made_s52 (r23 : Option Nat) (a52 : Unit) (s25 : XS) : Option (((Unit) ⊕ (Unit)) × XS) :=
  dr r23 fun p26 =>
  xo s25 p26 8 fun _ =>
  bnd (j14_hasNext p26 s25) fun v28 s29 =>
  if v28 = 0 then
    (some (.inr (), s29))
  else
    (none)
noncomputable def x0_made_s19 (x1 : Nat) (r9 : Option Nat) (a19 : Unit) (s11 : XS) : Option (((Unit) ⊕ (Unit)) × XS) :=
  dr r9 fun p12 =>
  xo s11 p12 8 fun _ =>
  bnd (j14_hasNext p12 s11) fun v14 s15 =>
  if v14 = 0 then
    (some (.inr (), s15))
  else
    (xo s15 p12 8 fun _ =>
    bnd (j14_next p12 s15) fun r16 s17 =>
    dr r16 fun p18 =>
    xo s17 p18 5 fun _ =>
    xf s17 x1 1 1 fun v0 => vR v0 fun r20 =>
    dr r20 fun p21 =>
    xo s17 p21 7 fun _ =>
    bnd (j2_iterator p21 s17) fun r23 s24 =>
    bnd (whileO (x0_made_s52 r23) () s24) fun b52 s34 =>
    some (.inl (), s34))
noncomputable def x0_made (o : Nat) (x1 : Nat) (x2 : Nat) (s : XS) : Option ((Option Nat) × XS) :=
  xo s o 0 fun _ =>
  bnd (x0_like o s) fun r1 s2 =>
  xf s2 o 0 3 fun v0 => vR v0 fun r3 =>
  dr r3 fun p4 =>
  xf s2 p4 1 1 fun v0 => vR v0 fun r6 =>
  dr r6 fun p7 =>
  xo s2 p7 7 fun _ =>
  bnd (j2_iterator p7 s2) fun r9 s10 =>
  bnd (whileO (x0_made_s19 x1 r9) () s10) fun b19 s35 =>
  some (r1, s35)
noncomputable def x0_lambda_mix_3 (x0 : Nat) (x1 : Nat) (s : XS) : Option ((Option Nat) × XS) :=
  xo s x0 5 fun _ =>
  bnd (x5_times x0 x1 s) fun r1 s2 =>
  some (r1, s2)
noncomputable def x0_undo (o : Nat) (s : XS) : Option ((Int32) × XS) :=
  xf s o 0 6 fun v0 => vR v0 fun r1 =>
  dr r1 fun p2 =>
  xo s p2 7 fun _ =>
  bnd (j2_isEmpty p2 s) fun v4 s5 =>
  if v4 = 0 then
    (xf s5 o 0 6 fun v0 => vR v0 fun r6 =>
    xf s5 o 0 6 fun v0 => vR v0 fun r7 =>
    dr r7 fun p8 =>
    xo s5 p8 7 fun _ =>
    bnd (j2_size p8 s5) fun v10 s11 =>
    dr r6 fun p12 =>
    xo s11 p12 7 fun _ =>
    bnd (j2_remove p12 (v10 - 1) s11) fun r14 s15 =>
    dr r14 fun p16 =>
    xo s15 p16 1 fun _ =>
    xp s15 o 0 3 (.ref p16) fun s18 =>
    xp s18 o 0 12 (.null) fun s19 =>
    some (1, s19))
  else
    (xo s5 o 0 fun _ =>
    bnd (x0_refuses o 3 s5) fun v20 s21 =>
    chk (v20 &&& 1 = v20) <|
    some (v20, s21))
noncomputable def x1_lambda_size_0 (o : Nat) (x1 : Nat) (s : XS) : Option ((Int32) × XS) :=
  xo s o 1 fun _ =>
  bnd (x1_covers o x1 s) fun v1 s2 =>
  if v1 = 0 then
    (some (1, s2))
  else
    (some (0, s2))
