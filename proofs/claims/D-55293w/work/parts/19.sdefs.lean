/-! P-LAYER: the methods as programs, written by gen/dec.py out of the decode rows -/
def s_X1_isBetween (K : ZK) (a1 : Int32) (a2 : Int32) (a3 : Int32) : ZP Int32 :=
  zif (a1 < a2) (zret (0 : Int32)) (zif (a3 < a1) (zret (0 : Int32)) (zret (1 : Int32)))
def s_X4_init (K : ZK) (this : Nat) (a1 : Int32) (a2 : Int32) (a3 : Option Nat) : ZP Unit :=
  zputI (some this) 36 0 a1 (zputI (some this) 36 1 a2 (zputR (some this) 36 2 a3 (zret ())))
def s_X1_refuse (K : ZK) (this : Nat) (a1 : Int32) (a2 : Int32) (a3 : Int32) : ZP Unit :=
  zif (a1 = 0) (zret ()) (znew K 36 3 [.int 0, .int 0, .null] fun q1 => zcall (s_X4_init K q1 a2 a3 none) fun _ => zputR (some this) 24 7 (some q1) (zthrow 0))
def s_X1_inRange_J15 (K : ZK) (x1 : Int32) (t0 : Int32) (t1 : Nat) : ZP Unit :=
  zcallV (some t1) 24 (fun y0 => s_X1_refuse K y0 t0 (1 : Int32) x1) fun _ => zret ()
def s_X1_inRange (K : ZK) (this : Nat) (a1 : Int32) (a2 : Int32) (a3 : Int32) : ZP Unit :=
  zcall (s_X1_isBetween K a1 a2 a3) fun r1 => zif (r1 = 0) (s_X1_inRange_J15 K a1 (1 : Int32) this) (s_X1_inRange_J15 K a1 (0 : Int32) this)
def s_J12_init__J13 (K : ZK) (this : Nat) : ZP Unit :=
  zret ()
def s_J13_init (K : ZK) (this : Nat) (a1 : Int32) : ZP Unit :=
  zcall (s_J12_init__J13 K this) fun _ => zputI (some this) 2 0 a1 (zret ())
def s_J13_valueOf_J23 (K : ZK) (x0 : Int32) : ZP (Option Nat) :=
  znew K 2 1 [.int 0] fun q1 => zcall (s_J13_init K q1 x0) fun _ => zret (some q1)
def s_J13_valueOf (K : ZK) (a1 : Int32) : ZP (Option Nat) :=
  zif (a1 < (-128 : Int32)) (s_J13_valueOf_J23 K a1) (zif ((127 : Int32) < a1) (s_J13_valueOf_J23 K a1) (zaldRK K (some (K.1 0)) 5 (a1 + (128 : Int32)) fun v2 => zret v2))
def s_J14_requireNonNull (K : ZK) (a1 : Option Nat) : ZP (Option Nat) :=
  zif (a1 = none) (zbad) (zret a1)
def s_J13_compare (K : ZK) (a1 : Int32) (a2 : Int32) : ZP Int32 :=
  zif (a2 ≤ a1) (zif (a1 = a2) (zret (0 : Int32)) (zret (1 : Int32))) (zret (-1 : Int32))
def s_J13_compareTo_2 (K : ZK) (this : Nat) (a1 : Option Nat) : ZP Int32 :=
  zgetIK K (some this) 2 0 fun v1 => zgetIK K a1 2 0 fun v2 => zcall (s_J13_compare K v1 v2) fun r3 => zret r3
def s_J13_compareTo (K : ZK) (this : Nat) (a1 : Option Nat) : ZP Int32 :=
  zcastK K a1 [2] (zcallVK K (some this) 2 (fun y0 => s_J13_compareTo_2 K y0 a1) fun r1 => zret r1)
def s_J1_getEntryUsingComparator_B17 (K : ZK) (x2 : Option Nat) (x3 : Option Nat) (self17 : (Option Nat) → ZP (Option Nat)) (x4 : Option Nat) : ZP (Option Nat) :=
  zif (x4 = none) (zret none) (zgetR x4 12 0 fun v3 => zbad)
def s_J1_getEntryUsingComparator_L17 (K : ZK) (x2 : Option Nat) (x3 : Option Nat) : (Option Nat) → ZP (Option Nat) := zloop (fun self17 v => s_J1_getEntryUsingComparator_B17 K x2 x3 self17 v)
def s_J1_getEntryUsingComparator (K : ZK) (this : Nat) (a1 : Option Nat) : ZP (Option Nat) :=
  zgetR (some this) 0 2 fun v1 => zif (v1 = none) (zret none) (zgetR (some this) 0 3 fun v2 => s_J1_getEntryUsingComparator_L17 K a1 v1 v2)
def s_J1_getEntry_B28 (K : ZK) (x2 : Option Nat) (self28 : (Option Nat) → ZP (Option Nat)) (x3 : Option Nat) : ZP (Option Nat) :=
  zif (x3 = none) (zret none) (zgetR x3 12 0 fun v4 => zcallVK K x2 2 (fun y0 => s_J13_compareTo K y0 v4) fun r5 => zif (0 ≤ r5) (zif (r5 ≤ 0) (zret x3) (zgetR x3 12 3 fun v6 => self28 v6)) (zgetR x3 12 2 fun v7 => self28 v7))
def s_J1_getEntry_L28 (K : ZK) (x2 : Option Nat) : (Option Nat) → ZP (Option Nat) := zloop (fun self28 v => s_J1_getEntry_B28 K x2 self28 v)
def s_J1_getEntry (K : ZK) (this : Nat) (a1 : Option Nat) : ZP (Option Nat) :=
  zgetR (some this) 0 2 fun v1 => zif (v1 = none) (zcall (s_J14_requireNonNull K a1) fun r2 => zcastK K a1 [2] (zgetR (some this) 0 3 fun v3 => s_J1_getEntry_L28 K a1 v3)) (zcallV (some this) 0 (fun y0 => s_J1_getEntryUsingComparator K y0 a1) fun r8 => zret r8)
def s_J1_containsKey (K : ZK) (this : Nat) (a1 : Option Nat) : ZP Int32 :=
  zcallV (some this) 0 (fun y0 => s_J1_getEntry K y0 a1) fun r1 => zif (r1 = none) (zret (0 : Int32)) (zret (1 : Int32))
def s_X1_isStation (K : ZK) (this : Nat) (a1 : Int32) : ZP Int32 :=
  zgetR (some this) 24 0 fun v1 => zgetR v1 34 0 fun v2 => zcall (s_J13_valueOf K a1) fun r3 => zcallV v2 0 (fun y0 => s_J1_containsKey K y0 r3) fun r4 => zasg (narrow .boolean (.int r4) = .int r4) (zret r4)
def s_J1_size (K : ZK) (this : Nat) : ZP Int32 :=
  zgetI (some this) 0 4 fun v1 => zret v1
def s_X1_hasPlace_J11 (K : ZK) (x2 : Int32) (t0 : Int32) (t1 : Nat) : ZP Unit :=
  zcallV (some t1) 24 (fun y0 => s_X1_refuse K y0 t0 (4 : Int32) x2) fun _ => zret ()
def s_X1_hasPlace (K : ZK) (this : Nat) (a1 : Int32) (a2 : Int32) : ZP Unit :=
  zif (a1 = a2) (s_X1_hasPlace_J11 K a2 (1 : Int32) this) (s_X1_hasPlace_J11 K a2 (0 : Int32) this)
def s_J0_init__J1 (K : ZK) (this : Nat) : ZP Unit :=
  zret ()
def s_J1_init (K : ZK) (this : Nat) : ZP Unit :=
  zcall (s_J0_init__J1 K this) fun _ => zputI (some this) 0 4 (0 : Int32) (zputI (some this) 0 5 (0 : Int32) (zputR (some this) 0 2 none (zret ())))
def s_X2_init (K : ZK) (this : Nat) : ZP Unit :=
  znew K 0 9 [.null, .null, .null, .null, .int 0, .int 0, .null, .null, .null] fun q1 => zcall (s_J1_init K q1) fun _ => zputR (some this) 34 0 (some q1) (zputI (some this) 34 2 (-1 : Int32) (zputI (some this) 34 6 (-1 : Int32) (zputI (some this) 34 23 (-1 : Int32) (zret ()))))
def s_J2_init__J21 (K : ZK) (this : Nat) : ZP Unit :=
  zret ()
def s_J21_init (K : ZK) (this : Nat) (a1 : Option Nat) : ZP Unit :=
  zputR (some this) 3 0 a1 (zcall (s_J2_init__J21 K this) fun _ => zret ())
def s_J1_values (K : ZK) (this : Nat) : ZP (Option Nat) :=
  zgetR (some this) 0 1 fun v1 => zif (v1 = none) (znew K 3 1 [.null] fun q2 => zcall (s_J21_init K q2 (some this)) fun _ => zputR (some this) 0 1 (some q2) (zret (some q2))) (zret v1)
def s_J1_getFirstEntry_B9 (K : ZK) (self9 : (Option Nat) → ZP (Option Nat)) (x1 : Option Nat) : ZP (Option Nat) :=
  zgetR x1 12 2 fun v2 => zif (v2 = none) (zret x1) (zgetR x1 12 2 fun v3 => self9 v3)
def s_J1_getFirstEntry_L9 (K : ZK) : (Option Nat) → ZP (Option Nat) := zloop (fun self9 v => s_J1_getFirstEntry_B9 K self9 v)
def s_J1_getFirstEntry (K : ZK) (this : Nat) : ZP (Option Nat) :=
  zgetR (some this) 0 3 fun v1 => zif (v1 = none) (zret v1) (s_J1_getFirstEntry_L9 K v1)
def s_J26_init__J28 (K : ZK) (this : Nat) (a1 : Option Nat) (a2 : Option Nat) : ZP Unit :=
  zputR (some this) 8 3 a1 (zgetI a1 0 5 fun v1 => zputI (some this) 8 2 v1 (zputR (some this) 8 1 none (zputR (some this) 8 0 a2 (zret ()))))
def s_J28_init (K : ZK) (this : Nat) (a1 : Option Nat) (a2 : Option Nat) : ZP Unit :=
  zcall (s_J26_init__J28 K this a1 a2) fun _ => zret ()
def s_J21_iterator (K : ZK) (this : Nat) : ZP (Option Nat) :=
  znew K 8 4 [.null, .null, .int 0, .null] fun q1 => zgetR (some this) 3 0 fun v2 => zgetR (some this) 3 0 fun v3 => zcallV v3 0 (fun y0 => s_J1_getFirstEntry K y0) fun r4 => zcall (s_J28_init K q1 v2 r4) fun _ => zret (some q1)
def s_J26_hasNext__J28 (K : ZK) (this : Nat) : ZP Int32 :=
  zgetR (some this) 8 0 fun v1 => zif (v1 = none) (zret (0 : Int32)) (zret (1 : Int32))
def s_X6_init (K : ZK) (this : Nat) (a1 : Option Nat) (a2 : Int32) : ZP Unit :=
  zputR (some this) 38 0 a1 (zputI (some this) 38 1 a2 (zret ()))
def s_X6_copy (K : ZK) (this : Nat) : ZP (Option Nat) :=
  znew K 38 5 [.null, .int 0, .int 0, .int 0, .int 0] fun q1 => zgetR (some this) 38 0 fun v2 => zgetI (some this) 38 1 fun v3 => zcall (s_X6_init K q1 v2 v3) fun _ => zgetI (some this) 38 2 fun v4 => zputI (some q1) 38 2 v4 (zgetI (some this) 38 3 fun v5 => zputT .boolean (some q1) 38 3 v5 (zgetI (some this) 38 4 fun v6 => zputT .boolean (some q1) 38 4 v6 (zret (some q1))))
def s_J1_successor_B42 (K : ZK) (self42 : (Option Nat × Option Nat) → ZP (Option Nat)) (x1 : Option Nat) (x2 : Option Nat) : ZP (Option Nat) :=
  zif (x1 = none) (zret x1) (zgetR x1 12 3 fun v3 => zif (x2 = v3) (zgetR x1 12 4 fun v4 => self42 (v4, x1)) (zret x1))
def s_J1_successor_L42 (K : ZK) : (Option Nat × Option Nat) → ZP (Option Nat) := zloop (fun self42 v => s_J1_successor_B42 K self42 v.1 v.2)
def s_J1_successor_B18 (K : ZK) (self18 : (Option Nat) → ZP (Option Nat)) (x1 : Option Nat) : ZP (Option Nat) :=
  zgetR x1 12 2 fun v6 => zif (v6 = none) (zret x1) (zgetR x1 12 2 fun v7 => self18 v7)
def s_J1_successor_L18 (K : ZK) : (Option Nat) → ZP (Option Nat) := zloop (fun self18 v => s_J1_successor_B18 K self18 v)
def s_J1_successor (K : ZK) (a1 : Option Nat) : ZP (Option Nat) :=
  zif (a1 = none) (zret none) (zgetR a1 12 3 fun v1 => zif (v1 = none) (zgetR a1 12 4 fun v2 => s_J1_successor_L42 K (v2, a1)) (zgetR a1 12 3 fun v5 => s_J1_successor_L18 K v5))
def s_J26_nextEntry__J28 (K : ZK) (this : Nat) : ZP (Option Nat) :=
  zgetR (some this) 8 0 fun v1 => zif (v1 = none) (zbad) (zgetR (some this) 8 3 fun v2 => zgetI v2 0 5 fun v3 => zgetI (some this) 8 2 fun v4 => zif (v3 = v4) (zcall (s_J1_successor K v1) fun r5 => zputR (some this) 8 0 r5 (zputR (some this) 8 1 v1 (zret v1))) (zbad))
def s_J28_next (K : ZK) (this : Nat) : ZP (Option Nat) :=
  zcallV (some this) 8 (fun y0 => s_J26_nextEntry__J28 K y0) fun r1 => zgetR r1 12 1 fun v2 => zret v2
def s_J2_init__J31 (K : ZK) (this : Nat) : ZP Unit :=
  zret ()
def s_J30_init__J31 (K : ZK) (this : Nat) : ZP Unit :=
  zcall (s_J2_init__J31 K this) fun _ => zputI (some this) 11 0 (0 : Int32) (zret ())
def s_J31_init (K : ZK) (this : Nat) : ZP Unit :=
  zcall (s_J30_init__J31 K this) fun _ => zputR (some this) 11 1 (some (K.1 1)) (zret ())
def s_X5_init (K : ZK) (this : Nat) (a1 : Int32) : ZP Unit :=
  znew K 11 3 [.int 0, .null, .int 0] fun q1 => zcall (s_J31_init K q1) fun _ => zputR (some this) 37 1 (some q1) (zputI (some this) 37 0 a1 (zret ()))
def s_J23_init (K : ZK) (this : Nat) (a1 : Option Nat) : ZP Unit :=
  zputR (some this) 5 3 a1 (zputI (some this) 5 1 (-1 : Int32) (zgetR (some this) 5 3 fun v1 => zgetI v1 11 0 fun v2 => zputI (some this) 5 2 v2 (zret ())))
def s_J31_iterator (K : ZK) (this : Nat) : ZP (Option Nat) :=
  znew K 5 4 [.int 0, .int 0, .int 0, .null] fun q1 => zcall (s_J23_init K q1 (some this)) fun _ => zret (some q1)
def s_J23_hasNext (K : ZK) (this : Nat) : ZP Int32 :=
  zgetI (some this) 5 0 fun v1 => zgetR (some this) 5 3 fun v2 => zgetI v2 11 2 fun v3 => zif (v1 = v3) (zret (0 : Int32)) (zret (1 : Int32))
def s_J23_checkForComodification (K : ZK) (this : Nat) : ZP Unit :=
  zgetR (some this) 5 3 fun v1 => zgetI v1 11 0 fun v2 => zgetI (some this) 5 2 fun v3 => zif (v2 = v3) (zret ()) (zbad)
def s_J23_next (K : ZK) (this : Nat) : ZP (Option Nat) :=
  zcallV (some this) 5 (fun y0 => s_J23_checkForComodification K y0) fun _ => zgetI (some this) 5 0 fun v1 => zgetR (some this) 5 3 fun v2 => zgetI v2 11 2 fun v3 => zif (v1 < v3) (zgetR (some this) 5 3 fun v4 => zgetR v4 11 1 fun v5 => zlen v5 4 fun v6 => zif (v1 < v6) (zputI (some this) 5 0 (v1 + (1 : Int32)) (zputI (some this) 5 1 v1 (zaldR v5 4 v1 fun v7 => zret v7))) (zbad)) (zbad)
def s_J16_max (K : ZK) (a1 : Int32) (a2 : Int32) : ZP Int32 :=
  zif (a1 < a2) (zret a2) (zret a1)
def s_J17_hugeLength (K : ZK) (a1 : Int32) (a2 : Int32) : ZP Int32 :=
  zif (0 ≤ (a1 + a2)) (zif ((2147483639 : Int32) < (a1 + a2)) (zret (a1 + a2)) (zret (2147483639 : Int32))) (zbad)
def s_J17_newLength_J21 (K : ZK) (x0 : Int32) (x1 : Int32) : ZP Int32 :=
  zcall (s_J17_hugeLength K x0 x1) fun r2 => zret r2
def s_J17_newLength (K : ZK) (a1 : Int32) (a2 : Int32) (a3 : Int32) : ZP Int32 :=
  zcall (s_J16_max K a2 a3) fun r1 => zif ((a1 + r1) ≤ (0 : Int32)) (s_J17_newLength_J21 K a1 a2) (zif ((2147483639 : Int32) < (a1 + r1)) (s_J17_newLength_J21 K a1 a2) (zret (a1 + r1)))
def s_J16_min (K : ZK) (a1 : Int32) (a2 : Int32) : ZP Int32 :=
  zif (a2 < a1) (zret a2) (zret a1)
def s_J32_copyOf_3_J24 (K : ZK) (x0 : Option Nat) (x1 : Int32) (t0 : Nat) : ZP (Option Nat) :=
  zlen x0 4 fun v2 => zcall (s_J16_min K v2 x1) fun r3 => zcopyR x0 (0 : Int32) (some t0) (0 : Int32) r3 (zret (some t0))
def s_J32_copyOf_3 (K : ZK) (a1 : Option Nat) (a2 : Int32) (a3 : Option Nat) : ZP (Option Nat) :=
  zif (a3 = (some (K.1 20))) (znewA K 4 a2 (.inr (.inr (.inr (.inr (fun _ => none))))) fun q1 => s_J32_copyOf_3_J24 K a1 a2 q1) (zbad)
def s_J32_copyOf_2 (K : ZK) (a1 : Option Nat) (a2 : Int32) : ZP (Option Nat) :=
  zlen a1 4 fun _ => zcall (s_J32_copyOf_3 K a1 a2 (some (K.1 20))) fun r1 => zret r1
def s_J31_grow_2_J20 (K : ZK) (x0 : Nat) (x1 : Int32) (x2 : Int32) : ZP (Option Nat) :=
  zcall (s_J17_newLength K x2 (x1 - x2) (x2 >>> ((1 : Int32) &&& 31))) fun r3 => zgetR (some x0) 11 1 fun v4 => zcall (s_J32_copyOf_2 K v4 r3) fun r5 => zputR (some x0) 11 1 r5 (zret r5)
def s_J31_grow_2 (K : ZK) (this : Nat) (a1 : Int32) : ZP (Option Nat) :=
  zgetR (some this) 11 1 fun v1 => zlenK K v1 4 fun v2 => zif (0 < v2) (s_J31_grow_2_J20 K this a1 v2) (zgetR (some this) 11 1 fun v6 => zif (v6 = (some (K.1 1))) (zcall (s_J16_max K (10 : Int32) a1) fun r7 => znewA K 4 r7 (.inr (.inr (.inr (.inr (fun _ => none))))) fun q8 => zputR (some this) 11 1 (some q8) (zret (some q8))) (s_J31_grow_2_J20 K this a1 v2))
def s_J31_grow (K : ZK) (this : Nat) : ZP (Option Nat) :=
  zgetI (some this) 11 2 fun v1 => zcallV (some this) 11 (fun y0 => s_J31_grow_2 K y0 (v1 + (1 : Int32))) fun r2 => zret r2
def s_J31_add_2_J11 (K : ZK) (x0 : Nat) (x1 : Option Nat) (x2 : Option Nat) (x3 : Int32) : ZP Unit :=
  zastR x2 x3 x1 (zputI (some x0) 11 2 (x3 + (1 : Int32)) (zret ()))
def s_J31_add_2 (K : ZK) (this : Nat) (a1 : Option Nat) (a2 : Option Nat) (a3 : Int32) : ZP Unit :=
  zlenK K a2 4 fun v1 => zif (a3 = v1) (zcallV (some this) 11 (fun y0 => s_J31_grow K y0) fun r2 => s_J31_add_2_J11 K this a1 r2 a3) (s_J31_add_2_J11 K this a1 a2 a3)
def s_J31_add (K : ZK) (this : Nat) (a1 : Option Nat) : ZP Int32 :=
  zgetI (some this) 11 0 fun v1 => zputI (some this) 11 0 (v1 + (1 : Int32)) (zgetR (some this) 11 1 fun v2 => zgetI (some this) 11 2 fun v3 => zcallV (some this) 11 (fun y0 => s_J31_add_2 K y0 a1 v2 v3) fun _ => zret (1 : Int32))
def s_X5_copy_B20 (K : ZK) (x0 : Nat) (x1 : Nat) (x2 : Option Nat) (self20 : Unit → ZP (Option Nat)) : ZP (Option Nat) :=
  zcallV x2 5 (fun y0 => s_J23_hasNext K y0) fun r5 => zif (r5 = 0) (zgetI (some x0) 37 2 fun v6 => zputI (some x1) 37 2 v6 (zgetI (some x0) 37 3 fun v7 => zputI (some x1) 37 3 v7 (zret (some x1)))) (zcallV x2 5 (fun y0 => s_J23_next K y0) fun r8 => zcast r8 [39] (zgetR (some x1) 37 1 fun v9 => zcallV v9 11 (fun y0 => s_J31_add K y0 r8) fun r10 => self20 ()))
def s_X5_copy_L20 (K : ZK) (x0 : Nat) (x1 : Nat) (x2 : Option Nat) : Unit → ZP (Option Nat) := zloop (fun self20 v => s_X5_copy_B20 K x0 x1 x2 self20)
def s_X5_copy (K : ZK) (this : Nat) : ZP (Option Nat) :=
  znew K 37 4 [.int 0, .null, .int 0, .int 0] fun q1 => zgetI (some this) 37 0 fun v2 => zcall (s_X5_init K q1 v2) fun _ => zgetR (some this) 37 1 fun v3 => zcallV v3 11 (fun y0 => s_J31_iterator K y0) fun r4 => s_X5_copy_L20 K this q1 r4 ()
def s_J1_compare (K : ZK) (this : Nat) (a1 : Option Nat) (a2 : Option Nat) : ZP Int32 :=
  zgetR (some this) 0 2 fun v1 => zif (v1 = none) (zcastK K a1 [2] (zcallVK K a1 2 (fun y0 => s_J13_compareTo K y0 a2) fun r2 => zret r2)) (zgetR (some this) 0 2 fun v3 => zbad)
def s_J33_init (K : ZK) (this : Nat) (a1 : Option Nat) (a2 : Option Nat) (a3 : Option Nat) : ZP Unit :=
  zputT .boolean (some this) 12 5 (1 : Int32) (zputR (some this) 12 0 a1 (zputR (some this) 12 1 a2 (zputR (some this) 12 4 a3 (zret ()))))
def s_J1_addEntryToEmptyMap (K : ZK) (this : Nat) (a1 : Option Nat) (a2 : Option Nat) : ZP Unit :=
  zcallV (some this) 0 (fun y0 => s_J1_compare K y0 a1 a1) fun r1 => znew K 12 6 [.null, .null, .null, .null, .null, .int 0] fun q2 => zcall (s_J33_init K q2 a1 a2 none) fun _ => zputR (some this) 0 3 (some q2) (zputI (some this) 0 4 (1 : Int32) (zgetI (some this) 0 5 fun v3 => zputI (some this) 0 5 (v3 + (1 : Int32)) (zret ())))
def s_J1_parentOf (K : ZK) (a1 : Option Nat) : ZP (Option Nat) :=
  zif (a1 = none) (zret none) (zgetR a1 12 4 fun v1 => zret v1)
def s_J1_leftOf (K : ZK) (a1 : Option Nat) : ZP (Option Nat) :=
  zif (a1 = none) (zret none) (zgetR a1 12 2 fun v1 => zret v1)
def s_J1_rightOf (K : ZK) (a1 : Option Nat) : ZP (Option Nat) :=
  zif (a1 = none) (zret none) (zgetR a1 12 3 fun v1 => zret v1)
def s_J1_colorOf (K : ZK) (a1 : Option Nat) : ZP Int32 :=
  zif (a1 = none) (zret (1 : Int32)) (zgetI a1 12 5 fun v1 => zasg (narrow .boolean (.int v1) = .int v1) (zret v1))
def s_J1_setColor (K : ZK) (a1 : Option Nat) (a2 : Int32) : ZP Unit :=
  zif (a1 = none) (zret ()) (zputT .boolean a1 12 5 a2 (zret ()))
def s_J1_rotateLeft_J85 (K : ZK) (x1 : Option Nat) (x2 : Option Nat) : ZP Unit :=
  zputR x2 12 2 x1 (zputR x1 12 4 x2 (zret ()))
def s_J1_rotateLeft_J32 (K : ZK) (x0 : Nat) (x1 : Option Nat) (x2 : Option Nat) : ZP Unit :=
  zgetR x1 12 4 fun v4 => zputR x2 12 4 v4 (zgetR x1 12 4 fun v5 => zif (v5 = none) (zputR (some x0) 0 3 x2 (s_J1_rotateLeft_J85 K x1 x2)) (zgetR x1 12 4 fun v6 => zgetR v6 12 2 fun v7 => zif (v7 = x1) (zgetR x1 12 4 fun v8 => zputR v8 12 2 x2 (s_J1_rotateLeft_J85 K x1 x2)) (zgetR x1 12 4 fun v9 => zputR v9 12 3 x2 (s_J1_rotateLeft_J85 K x1 x2))))
def s_J1_rotateLeft (K : ZK) (this : Nat) (a1 : Option Nat) : ZP Unit :=
  zif (a1 = none) (zret ()) (zgetR a1 12 3 fun v1 => zgetR v1 12 2 fun v2 => zputR a1 12 3 v2 (zgetR v1 12 2 fun v3 => zif (v3 = none) (s_J1_rotateLeft_J32 K this a1 v1) (zgetR v1 12 2 fun v10 => zputR v10 12 4 a1 (s_J1_rotateLeft_J32 K this a1 v1))))
def s_J1_rotateRight_J85 (K : ZK) (x1 : Option Nat) (x2 : Option Nat) : ZP Unit :=
  zputR x2 12 3 x1 (zputR x1 12 4 x2 (zret ()))
def s_J1_rotateRight_J32 (K : ZK) (x0 : Nat) (x1 : Option Nat) (x2 : Option Nat) : ZP Unit :=
  zgetR x1 12 4 fun v4 => zputR x2 12 4 v4 (zgetR x1 12 4 fun v5 => zif (v5 = none) (zputR (some x0) 0 3 x2 (s_J1_rotateRight_J85 K x1 x2)) (zgetR x1 12 4 fun v6 => zgetR v6 12 3 fun v7 => zif (v7 = x1) (zgetR x1 12 4 fun v8 => zputR v8 12 3 x2 (s_J1_rotateRight_J85 K x1 x2)) (zgetR x1 12 4 fun v9 => zputR v9 12 2 x2 (s_J1_rotateRight_J85 K x1 x2))))
def s_J1_rotateRight (K : ZK) (this : Nat) (a1 : Option Nat) : ZP Unit :=
  zif (a1 = none) (zret ()) (zgetR a1 12 2 fun v1 => zgetR v1 12 3 fun v2 => zputR a1 12 2 v2 (zgetR v1 12 3 fun v3 => zif (v3 = none) (s_J1_rotateRight_J32 K this a1 v1) (zgetR v1 12 3 fun v10 => zputR v10 12 4 a1 (s_J1_rotateRight_J32 K this a1 v1))))
def s_J1_fixAfterInsertion_J258 (K : ZK) (x0 : Nat) : ZP Unit :=
  zgetR (some x0) 0 3 fun v1 => zputT .boolean v1 12 5 (1 : Int32) (zret ())
def s_J1_fixAfterInsertion_J118 (K : ZK) (x0 : Nat) (x1 : Option Nat) (self5 : (Option Nat) → ZP Unit) : ZP Unit :=
  zcall (s_J1_parentOf K x1) fun r21 => zcall (s_J1_setColor K r21 (1 : Int32)) fun _ => zcall (s_J1_parentOf K x1) fun r22 => zcall (s_J1_parentOf K r22) fun r23 => zcall (s_J1_setColor K r23 (0 : Int32)) fun _ => zcall (s_J1_parentOf K x1) fun r24 => zcall (s_J1_parentOf K r24) fun r25 => zcallV (some x0) 0 (fun y0 => s_J1_rotateRight K y0 r25) fun _ => self5 x1
def s_J1_fixAfterInsertion_J225 (K : ZK) (x0 : Nat) (x1 : Option Nat) (self5 : (Option Nat) → ZP Unit) : ZP Unit :=
  zcall (s_J1_parentOf K x1) fun r38 => zcall (s_J1_setColor K r38 (1 : Int32)) fun _ => zcall (s_J1_parentOf K x1) fun r39 => zcall (s_J1_parentOf K r39) fun r40 => zcall (s_J1_setColor K r40 (0 : Int32)) fun _ => zcall (s_J1_parentOf K x1) fun r41 => zcall (s_J1_parentOf K r41) fun r42 => zcallV (some x0) 0 (fun y0 => s_J1_rotateLeft K y0 r42) fun _ => self5 x1
def s_J1_fixAfterInsertion_B5 (K : ZK) (x0 : Nat) (self5 : (Option Nat) → ZP Unit) (x1 : Option Nat) : ZP Unit :=
  zif (x1 = none) (s_J1_fixAfterInsertion_J258 K x0) (zgetR (some x0) 0 3 fun v2 => zif (x1 = v2) (s_J1_fixAfterInsertion_J258 K x0) (zgetR x1 12 4 fun v3 => zgetI v3 12 5 fun v4 => zif (v4 = 0) (zcall (s_J1_parentOf K x1) fun r5 => zcall (s_J1_parentOf K x1) fun r6 => zcall (s_J1_parentOf K r6) fun r7 => zcall (s_J1_leftOf K r7) fun r8 => zif (r5 = r8) (zcall (s_J1_parentOf K x1) fun r9 => zcall (s_J1_parentOf K r9) fun r10 => zcall (s_J1_rightOf K r10) fun r11 => zcall (s_J1_colorOf K r11) fun r12 => zif (r12 = 0) (zcall (s_J1_parentOf K x1) fun r13 => zcall (s_J1_setColor K r13 (1 : Int32)) fun _ => zcall (s_J1_setColor K r11 (1 : Int32)) fun _ => zcall (s_J1_parentOf K x1) fun r14 => zcall (s_J1_parentOf K r14) fun r15 => zcall (s_J1_setColor K r15 (0 : Int32)) fun _ => zcall (s_J1_parentOf K x1) fun r16 => zcall (s_J1_parentOf K r16) fun r17 => self5 r17) (zcall (s_J1_parentOf K x1) fun r18 => zcall (s_J1_rightOf K r18) fun r19 => zif (x1 = r19) (zcall (s_J1_parentOf K x1) fun r20 => zcallV (some x0) 0 (fun y0 => s_J1_rotateLeft K y0 r20) fun _ => s_J1_fixAfterInsertion_J118 K x0 r20 self5) (s_J1_fixAfterInsertion_J118 K x0 x1 self5))) (zcall (s_J1_parentOf K x1) fun r26 => zcall (s_J1_parentOf K r26) fun r27 => zcall (s_J1_leftOf K r27) fun r28 => zcall (s_J1_colorOf K r28) fun r29 => zif (r29 = 0) (zcall (s_J1_parentOf K x1) fun r30 => zcall (s_J1_setColor K r30 (1 : Int32)) fun _ => zcall (s_J1_setColor K r28 (1 : Int32)) fun _ => zcall (s_J1_parentOf K x1) fun r31 => zcall (s_J1_parentOf K r31) fun r32 => zcall (s_J1_setColor K r32 (0 : Int32)) fun _ => zcall (s_J1_parentOf K x1) fun r33 => zcall (s_J1_parentOf K r33) fun r34 => self5 r34) (zcall (s_J1_parentOf K x1) fun r35 => zcall (s_J1_leftOf K r35) fun r36 => zif (x1 = r36) (zcall (s_J1_parentOf K x1) fun r37 => zcallV (some x0) 0 (fun y0 => s_J1_rotateRight K y0 r37) fun _ => s_J1_fixAfterInsertion_J225 K x0 r37 self5) (s_J1_fixAfterInsertion_J225 K x0 x1 self5)))) (s_J1_fixAfterInsertion_J258 K x0)))
def s_J1_fixAfterInsertion_L5 (K : ZK) (x0 : Nat) : (Option Nat) → ZP Unit := zloop (fun self5 v => s_J1_fixAfterInsertion_B5 K x0 self5 v)
def s_J1_fixAfterInsertion (K : ZK) (this : Nat) (a1 : Option Nat) : ZP Unit :=
  zputT .boolean a1 12 5 (0 : Int32) (s_J1_fixAfterInsertion_L5 K this a1)
def s_J1_addEntry_J32 (K : ZK) (x0 : Nat) (x5 : Nat) : ZP Unit :=
  zcallV (some x0) 0 (fun y0 => s_J1_fixAfterInsertion K y0 (some x5)) fun _ => zgetI (some x0) 0 4 fun v2 => zputI (some x0) 0 4 (v2 + (1 : Int32)) (zgetI (some x0) 0 5 fun v3 => zputI (some x0) 0 5 (v3 + (1 : Int32)) (zret ()))
def s_J1_addEntry (K : ZK) (this : Nat) (a1 : Option Nat) (a2 : Option Nat) (a3 : Option Nat) (a4 : Int32) : ZP Unit :=
  znew K 12 6 [.null, .null, .null, .null, .null, .int 0] fun q1 => zcall (s_J33_init K q1 a1 a2 a3) fun _ => zif (a4 = 0) (zputR a3 12 3 (some q1) (s_J1_addEntry_J32 K this q1)) (zputR a3 12 2 (some q1) (s_J1_addEntry_J32 K this q1))
def s_J1_put_2_J187 (K : ZK) (x2 : Option Nat) (x4 : Option Nat) (x9 : Option Nat) : ZP (Option Nat) :=
  zputR x4 12 1 x2 (zret x9)
def s_J1_put_2_J216 (K : ZK) (t0 : Int32) (t1 : Option Nat) (t2 : Option Nat) (t3 : Option Nat) (t4 : Nat) : ZP (Option Nat) :=
  zcallV (some t4) 0 (fun y0 => s_J1_addEntry K y0 t3 t2 t1 t0) fun _ => zret none
def s_J1_put_2_J201 (K : ZK) (x0 : Nat) (x1 : Option Nat) (x2 : Option Nat) (x5 : Int32) (x6 : Option Nat) : ZP (Option Nat) :=
  zif (0 ≤ x5) (s_J1_put_2_J216 K (0 : Int32) x6 x2 x1 x0) (s_J1_put_2_J216 K (1 : Int32) x6 x2 x1 x0)
def s_J1_put_2_J196 (K : ZK) (x0 : Nat) (x1 : Option Nat) (x2 : Option Nat) (x3 : Int32) (x4 : Option Nat) (x5 : Int32) (x6 : Option Nat) (x8 : Option Nat) (self123 : (Option Nat) → ZP (Option Nat)) : ZP (Option Nat) :=
  zif (x4 = none) (s_J1_put_2_J201 K x0 x1 x2 x5 x6) (self123 x4)
def s_J1_put_2_B123 (K : ZK) (x0 : Nat) (x1 : Option Nat) (x2 : Option Nat) (x3 : Int32) (x8 : Option Nat) (self123 : (Option Nat) → ZP (Option Nat)) (x4 : Option Nat) : ZP (Option Nat) :=
  zgetR x4 12 0 fun v4 => zcallVK K x8 2 (fun y0 => s_J13_compareTo K y0 v4) fun r5 => zif (0 ≤ r5) (zif (r5 ≤ 0) (zgetR x4 12 1 fun v6 => zif (x3 = 0) (zif (v6 = none) (s_J1_put_2_J187 K x2 x4 v6) (zret v6)) (s_J1_put_2_J187 K x2 x4 v6)) (zgetR x4 12 3 fun v7 => s_J1_put_2_J196 K x0 x1 x2 x3 v7 r5 x4 x8 self123)) (zgetR x4 12 2 fun v8 => s_J1_put_2_J196 K x0 x1 x2 x3 v8 r5 x4 x8 self123)
def s_J1_put_2_L123 (K : ZK) (x0 : Nat) (x1 : Option Nat) (x2 : Option Nat) (x3 : Int32) (x8 : Option Nat) : (Option Nat) → ZP (Option Nat) := zloop (fun self123 v => s_J1_put_2_B123 K x0 x1 x2 x3 x8 self123 v)
def s_J1_put_2_B30 (K : ZK) (x0 : Nat) (x1 : Option Nat) (x2 : Option Nat) (x3 : Int32) (x7 : Option Nat) (self30 : (Option Nat) → ZP (Option Nat)) (x4 : Option Nat) : ZP (Option Nat) :=
  zgetR x4 12 0 fun v9 => zbad
def s_J1_put_2_L30 (K : ZK) (x0 : Nat) (x1 : Option Nat) (x2 : Option Nat) (x3 : Int32) (x7 : Option Nat) : (Option Nat) → ZP (Option Nat) := zloop (fun self30 v => s_J1_put_2_B30 K x0 x1 x2 x3 x7 self30 v)
def s_J1_put_2 (K : ZK) (this : Nat) (a1 : Option Nat) (a2 : Option Nat) (a3 : Int32) : ZP (Option Nat) :=
  zgetR (some this) 0 3 fun v1 => zif (v1 = none) (zcallV (some this) 0 (fun y0 => s_J1_addEntryToEmptyMap K y0 a1 a2) fun _ => zret none) (zgetR (some this) 0 2 fun v2 => zif (v2 = none) (zcall (s_J14_requireNonNull K a1) fun r3 => zcastK K a1 [2] (s_J1_put_2_L123 K this a1 a2 a3 a1 v1)) (s_J1_put_2_L30 K this a1 a2 a3 v2 v1))
def s_J1_put (K : ZK) (this : Nat) (a1 : Option Nat) (a2 : Option Nat) : ZP (Option Nat) :=
  zcallV (some this) 0 (fun y0 => s_J1_put_2 K y0 a1 a2 (1 : Int32)) fun r1 => zret r1
def s_X2_copy_J113 (K : ZK) (x0 : Nat) (x1 : Nat) (t0 : Option Nat) (t1 : Nat) : ZP (Option Nat) :=
  zputR (some t1) 34 5 t0 (zgetI (some x0) 34 6 fun v11 => zputI (some x1) 34 6 v11 (zgetI (some x0) 34 7 fun v12 => zputI (some x1) 34 7 v12 (zgetI (some x0) 34 8 fun v13 => zputI (some x1) 34 8 v13 (zgetI (some x0) 34 9 fun v14 => zputI (some x1) 34 9 v14 (zgetI (some x0) 34 10 fun v15 => zputI (some x1) 34 10 v15 (zgetI (some x0) 34 11 fun v16 => zputI (some x1) 34 11 v16 (zgetI (some x0) 34 12 fun v17 => zputI (some x1) 34 12 v17 (zgetI (some x0) 34 13 fun v18 => zputI (some x1) 34 13 v18 (zgetI (some x0) 34 14 fun v19 => zputI (some x1) 34 14 v19 (zgetI (some x0) 34 15 fun v20 => zputI (some x1) 34 15 v20 (zgetI (some x0) 34 16 fun v21 => zputI (some x1) 34 16 v21 (zgetI (some x0) 34 17 fun v22 => zputI (some x1) 34 17 v22 (zgetI (some x0) 34 18 fun v23 => zputI (some x1) 34 18 v23 (zgetI (some x0) 34 19 fun v24 => zputI (some x1) 34 19 v24 (zgetI (some x0) 34 20 fun v25 => zputI (some x1) 34 20 v25 (zgetI (some x0) 34 21 fun v26 => zputI (some x1) 34 21 v26 (zgetI (some x0) 34 22 fun v27 => zputI (some x1) 34 22 v27 (zret (some x1)))))))))))))))))))
def s_X2_copy_B21 (K : ZK) (x0 : Nat) (x1 : Nat) (x2 : Option Nat) (self21 : Unit → ZP (Option Nat)) : ZP (Option Nat) :=
  zcallV x2 8 (fun y0 => s_J26_hasNext__J28 K y0) fun r5 => zif (r5 = 0) (zgetI (some x0) 34 1 fun v6 => zputI (some x1) 34 1 v6 (zgetI (some x0) 34 2 fun v7 => zputI (some x1) 34 2 v7 (zgetI (some x0) 34 3 fun v8 => zputI (some x1) 34 3 v8 (zgetI (some x0) 34 4 fun v9 => zputI (some x1) 34 4 v9 (zgetR (some x0) 34 5 fun v10 => zif (v10 = none) (s_X2_copy_J113 K x0 x1 none x1) (zgetR (some x0) 34 5 fun v28 => zcallV v28 38 (fun y0 => s_X6_copy K y0) fun r29 => s_X2_copy_J113 K x0 x1 r29 x1)))))) (zcallV x2 8 (fun y0 => s_J28_next K y0) fun r30 => zcast r30 [37] (zgetR (some x1) 34 0 fun v31 => zgetI r30 37 0 fun v32 => zcall (s_J13_valueOf K v32) fun r33 => zcallV r30 37 (fun y0 => s_X5_copy K y0) fun r34 => zcallV v31 0 (fun y0 => s_J1_put K y0 r33 r34) fun r35 => self21 ()))
def s_X2_copy_L21 (K : ZK) (x0 : Nat) (x1 : Nat) (x2 : Option Nat) : Unit → ZP (Option Nat) := zloop (fun self21 v => s_X2_copy_B21 K x0 x1 x2 self21)
def s_X2_copy (K : ZK) (this : Nat) : ZP (Option Nat) :=
  znew K 34 25 [.null, .int 0, .int 0, .int 0, .int 0, .null, .int 0, .int 0, .int 0, .int 0, .int 0, .int 0, .int 0, .int 0, .int 0, .int 0, .int 0, .int 0, .int 0, .int 0, .int 0, .int 0, .int 0, .int 0, .int 0] fun q1 => zcall (s_X2_init K q1) fun _ => zgetR (some this) 34 0 fun v2 => zcallV v2 0 (fun y0 => s_J1_values K y0) fun r3 => zcallV r3 3 (fun y0 => s_J21_iterator K y0) fun r4 => s_X2_copy_L21 K this q1 r4 ()
def s_J3_inc (K : ZK) (a1 : Int32) (a2 : Int32) : ZP Int32 :=
  zif ((a1 + (1 : Int32)) < a2) (zret (a1 + (1 : Int32))) (zret (0 : Int32))
def s_J3_newCapacity (K : ZK) (this : Nat) (a1 : Int32) (a2 : Int32) : ZP Int32 :=
  zgetR (some this) 10 0 fun v1 => zlen v1 4 fun v2 => zif (((v2 + a1) - (2147483639 : Int32)) ≤ 0) (zif (a1 ≤ a2) (zif (0 ≤ ((v2 + a2) - (2147483639 : Int32))) (zret (2147483639 : Int32)) (zret (v2 + a2))) (zret (v2 + a1))) (zif (0 ≤ (v2 + a1)) (zret (2147483647 : Int32)) (zbad))
def s_J3_grow_B145 (K : ZK) (x5 : Option Nat) (x8 : Int32) (self145 : Int32 → ZP Unit) (x7 : Int32) : ZP Unit :=
  zif (x8 ≤ x7) (zret ()) (zastR x5 x7 none (self145 (x7 + (1 : Int32))))
def s_J3_grow_L145 (K : ZK) (x5 : Option Nat) (x8 : Int32) : Int32 → ZP Unit := zloop (fun self145 v => s_J3_grow_B145 K x5 x8 self145 v)
def s_J3_grow_J96 (K : ZK) (x0 : Nat) (x2 : Int32) (x3 : Int32) (x5 : Option Nat) : ZP Unit :=
  zgetI (some x0) 10 1 fun v8 => zgetI (some x0) 10 1 fun v9 => zgetI (some x0) 10 1 fun v10 => zcopyR x5 v8 x5 (v9 + (x3 - x2)) (x2 - v10) (zgetI (some x0) 10 1 fun v11 => zgetI (some x0) 10 1 fun v12 => zputI (some x0) 10 1 (v12 + (x3 - x2)) (s_J3_grow_L145 K x5 (v12 + (x3 - x2)) v11))
def s_J3_grow_J49 (K : ZK) (x0 : Nat) (x2 : Int32) (x3 : Int32) : ZP Unit :=
  zgetR (some x0) 10 0 fun v4 => zcall (s_J32_copyOf_2 K v4 x3) fun r5 => zputR (some x0) 10 0 r5 (zgetI (some x0) 10 2 fun v6 => zgetI (some x0) 10 1 fun v7 => zif (v6 < v7) (s_J3_grow_J96 K x0 x2 x3 r5) (zgetI (some x0) 10 2 fun v13 => zgetI (some x0) 10 1 fun v14 => zif (v13 = v14) (zgetI (some x0) 10 1 fun v15 => zaldR r5 4 v15 fun v16 => zif (v16 = none) (zret ()) (s_J3_grow_J96 K x0 x2 x3 r5)) (zret ())))
def s_J3_grow_J41 (K : ZK) (x0 : Nat) (x1 : Int32) (x2 : Int32) (x4 : Int32) : ZP Unit :=
  zcallV (some x0) 10 (fun y0 => s_J3_newCapacity K y0 x1 x4) fun r3 => s_J3_grow_J49 K x0 x2 r3
def s_J3_grow_J21 (K : ZK) (x0 : Nat) (x1 : Int32) (x2 : Int32) (t0 : Int32) : ZP Unit :=
  zif (t0 < x1) (s_J3_grow_J41 K x0 x1 x2 t0) (zif (((x2 + t0) - (2147483639 : Int32)) ≤ 0) (s_J3_grow_J49 K x0 x2 (x2 + t0)) (s_J3_grow_J41 K x0 x1 x2 t0))
def s_J3_grow (K : ZK) (this : Nat) (a1 : Int32) : ZP Unit :=
  zgetR (some this) 10 0 fun v1 => zlen v1 4 fun v2 => zif ((64 : Int32) ≤ v2) (s_J3_grow_J21 K this a1 v2 (v2 >>> ((1 : Int32) &&& 31))) (s_J3_grow_J21 K this a1 v2 (v2 + (2 : Int32)))
def s_J3_addLast (K : ZK) (this : Nat) (a1 : Option Nat) : ZP Unit :=
  zif (a1 = none) (zbad) (zgetR (some this) 10 0 fun v1 => zgetI (some this) 10 2 fun v2 => zastR v1 v2 a1 (zgetI (some this) 10 1 fun v3 => zgetI (some this) 10 2 fun v4 => zlen v1 4 fun v5 => zcall (s_J3_inc K v4 v5) fun r6 => zputI (some this) 10 2 r6 (zif (v3 = r6) (zcallV (some this) 10 (fun y0 => s_J3_grow K y0 (1 : Int32)) fun _ => zret ()) (zret ()))))
def s_J3_sub (K : ZK) (a1 : Int32) (a2 : Int32) (a3 : Int32) : ZP Int32 :=
  zif (0 ≤ (a1 - a2)) (zret (a1 - a2)) (zret ((a1 - a2) + a3))
def s_J3_size (K : ZK) (this : Nat) : ZP Int32 :=
  zgetI (some this) 10 2 fun v1 => zgetI (some this) 10 1 fun v2 => zgetR (some this) 10 0 fun v3 => zlen v3 4 fun v4 => zcall (s_J3_sub K v1 v2 v4) fun r5 => zret r5
def s_J3_elementAt (K : ZK) (a1 : Option Nat) (a2 : Int32) : ZP (Option Nat) :=
  zaldR a1 4 a2 fun v1 => zret v1
def s_J3_pollFirst (K : ZK) (this : Nat) : ZP (Option Nat) :=
  zgetR (some this) 10 0 fun v1 => zgetI (some this) 10 1 fun v2 => zcall (s_J3_elementAt K v1 v2) fun r3 => zif (r3 = none) (zret r3) (zastR v1 v2 none (zlen v1 4 fun v4 => zcall (s_J3_inc K v2 v4) fun r5 => zputI (some this) 10 1 r5 (zret r3)))
def s_J3_removeFirst (K : ZK) (this : Nat) : ZP (Option Nat) :=
  zcallV (some this) 10 (fun y0 => s_J3_pollFirst K y0) fun r1 => zif (r1 = none) (zbad) (zret r1)
def s_X1_change (K : ZK) (this : Nat) : ZP Unit :=
  zgetI (some this) 24 5 fun v1 => zif (v1 = 0) (zgetR (some this) 24 2 fun v2 => zgetR (some this) 24 0 fun v3 => zcallV v3 34 (fun y0 => s_X2_copy K y0) fun r4 => zcallV v2 10 (fun y0 => s_J3_addLast K y0 r4) fun _ => zgetR (some this) 24 2 fun v5 => zcallV v5 10 (fun y0 => s_J3_size K y0) fun r6 => zif (r6 ≤ (8 : Int32)) (zret ()) (zgetR (some this) 24 2 fun v7 => zcallV v7 10 (fun y0 => s_J3_removeFirst K y0) fun r8 => zret ())) (zret ())
def s_X1_join (K : ZK) (this : Nat) (a1 : Int32) : ZP Int32 :=
  zcallV (some this) 24 (fun y0 => s_X1_inRange K y0 a1 (0 : Int32) (99 : Int32)) fun _ => zcallV (some this) 24 (fun y0 => s_X1_isStation K y0 a1) fun r1 => zcallV (some this) 24 (fun y0 => s_X1_refuse K y0 r1 (2 : Int32) a1) fun _ => zgetR (some this) 24 0 fun v2 => zgetR v2 34 0 fun v3 => zcallV v3 0 (fun y0 => s_J1_size K y0) fun r4 => zcallV (some this) 24 (fun y0 => s_X1_hasPlace K y0 r4 (10 : Int32)) fun _ => zcallV (some this) 24 (fun y0 => s_X1_change K y0) fun _ => zgetR (some this) 24 0 fun v5 => zgetR v5 34 0 fun v6 => zcall (s_J13_valueOf K a1) fun r7 => znew K 37 4 [.int 0, .null, .int 0, .int 0] fun q8 => zcall (s_X5_init K q8 a1) fun _ => zcallV v6 0 (fun y0 => s_J1_put K y0 r7 (some q8)) fun r9 => zgetR (some this) 24 0 fun v10 => zgetR v10 34 0 fun v11 => zcallV v11 0 (fun y0 => s_J1_size K y0) fun r12 => zret r12
def s_X0_join (K : ZK) (a1 : Option Nat) (a2 : Int32) (a3 : Option Nat) : ZP Int32 :=
  zcallVT a1 24 (fun y0 => s_X1_join K y0 a2) [(0, zret (1 : Int32))] fun r2 => zastJ a3 (0 : Int32) r2.toInt64 (zret (0 : Int32))
def s_J1_get (K : ZK) (this : Nat) (a1 : Option Nat) : ZP (Option Nat) :=
  zcallV (some this) 0 (fun y0 => s_J1_getEntry K y0 a1) fun r1 => zif (r1 = none) (zret none) (zgetR r1 12 1 fun v2 => zret v2)
def s_X1_stationFor_J14 (K : ZK) (x0 : Nat) (x1 : Int32) (t0 : Int32) (t1 : Nat) : ZP (Option Nat) :=
  zcallV (some t1) 24 (fun y0 => s_X1_refuse K y0 t0 (3 : Int32) x1) fun _ => zgetR (some x0) 24 0 fun v2 => zgetR v2 34 0 fun v3 => zcall (s_J13_valueOf K x1) fun r4 => zcallV v3 0 (fun y0 => s_J1_get K y0 r4) fun r5 => zcast r5 [37] (zret r5)
def s_X1_stationFor (K : ZK) (this : Nat) (a1 : Int32) : ZP (Option Nat) :=
  zcallV (some this) 24 (fun y0 => s_X1_isStation K y0 a1) fun r1 => zif (r1 = 0) (s_X1_stationFor_J14 K this a1 (1 : Int32) this) (s_X1_stationFor_J14 K this a1 (0 : Int32) this)
def s_J31_size (K : ZK) (this : Nat) : ZP Int32 :=
  zgetI (some this) 11 2 fun v1 => zret v1
def s_J1_getHigherEntry_B64 (K : ZK) (self64 : (Option Nat × Option Nat) → ZP (Option Nat)) (x4 : Option Nat) (x5 : Option Nat) : ZP (Option Nat) :=
  zif (x4 = none) (zret x4) (zgetR x4 12 3 fun v6 => zif (x5 = v6) (zgetR x4 12 4 fun v7 => self64 (v7, x4)) (zret x4))
def s_J1_getHigherEntry_L64 (K : ZK) : (Option Nat × Option Nat) → ZP (Option Nat) := zloop (fun self64 v => s_J1_getHigherEntry_B64 K self64 v.1 v.2)
def s_J1_getHigherEntry_B5 (K : ZK) (x0 : Nat) (x1 : Option Nat) (self5 : (Option Nat) → ZP (Option Nat)) (x2 : Option Nat) : ZP (Option Nat) :=
  zif (x2 = none) (zret none) (zgetR x2 12 0 fun v2 => zcallV (some x0) 0 (fun y0 => s_J1_compare K y0 x1 v2) fun r3 => zif (0 ≤ r3) (zgetR x2 12 3 fun v4 => zif (v4 = none) (zgetR x2 12 4 fun v5 => s_J1_getHigherEntry_L64 K (v5, x2)) (zgetR x2 12 3 fun v8 => self5 v8)) (zgetR x2 12 2 fun v9 => zif (v9 = none) (zret x2) (zgetR x2 12 2 fun v10 => self5 v10)))
def s_J1_getHigherEntry_L5 (K : ZK) (x0 : Nat) (x1 : Option Nat) : (Option Nat) → ZP (Option Nat) := zloop (fun self5 v => s_J1_getHigherEntry_B5 K x0 x1 self5 v)
def s_J1_getHigherEntry (K : ZK) (this : Nat) (a1 : Option Nat) : ZP (Option Nat) :=
  zgetR (some this) 0 3 fun v1 => s_J1_getHigherEntry_L5 K this a1 v1
def s_J1_keyOrNull (K : ZK) (a1 : Option Nat) : ZP (Option Nat) :=
  zif (a1 = none) (zret none) (zgetR a1 12 0 fun v1 => zret v1)
def s_J1_higherKey (K : ZK) (this : Nat) (a1 : Option Nat) : ZP (Option Nat) :=
  zcallV (some this) 0 (fun y0 => s_J1_getHigherEntry K y0 a1) fun r1 => zcall (s_J1_keyOrNull K r1) fun r2 => zret r2
def s_J1_key (K : ZK) (a1 : Option Nat) : ZP (Option Nat) :=
  zif (a1 = none) (zbad) (zgetR a1 12 0 fun v1 => zret v1)
def s_J1_firstKey (K : ZK) (this : Nat) : ZP (Option Nat) :=
  zcallV (some this) 0 (fun y0 => s_J1_getFirstEntry K y0) fun r1 => zcall (s_J1_key K r1) fun r2 => zret r2
def s_J13_intValue (K : ZK) (this : Nat) : ZP Int32 :=
  zgetIK K (some this) 2 0 fun v1 => zret v1
def s_X2_next_J33 (K : ZK) (t0 : Option Nat) : ZP Int32 :=
  zcallVK K t0 2 (fun y0 => s_J13_intValue K y0) fun r6 => zret r6
def s_X2_next (K : ZK) (this : Nat) (a1 : Int32) : ZP Int32 :=
  zgetR (some this) 34 0 fun v1 => zcall (s_J13_valueOf K a1) fun r2 => zcallV v1 0 (fun y0 => s_J1_higherKey K y0 r2) fun r3 => zcastK K r3 [2] (zif (r3 = none) (zgetR (some this) 34 0 fun v4 => zcallV v4 0 (fun y0 => s_J1_firstKey K y0) fun r5 => zcastK K r5 [2] (s_X2_next_J33 K r5)) (s_X2_next_J33 K r3))
def s_J1_fixAfterDeletion_J345 (K : ZK) (x1 : Option Nat) : ZP Unit :=
  zcall (s_J1_setColor K x1 (1 : Int32)) fun _ => zret ()
def s_J1_fixAfterDeletion_J143 (K : ZK) (x0 : Nat) (x1 : Option Nat) (x2 : Option Nat) (self0 : (Option Nat) → ZP Unit) : ZP Unit :=
  zcall (s_J1_parentOf K x1) fun r22 => zcall (s_J1_colorOf K r22) fun r23 => zcall (s_J1_setColor K x2 r23) fun _ => zcall (s_J1_parentOf K x1) fun r24 => zcall (s_J1_setColor K r24 (1 : Int32)) fun _ => zcall (s_J1_rightOf K x2) fun r25 => zcall (s_J1_setColor K r25 (1 : Int32)) fun _ => zcall (s_J1_parentOf K x1) fun r26 => zcallV (some x0) 0 (fun y0 => s_J1_rotateLeft K y0 r26) fun _ => zgetR (some x0) 0 3 fun v27 => self0 v27
def s_J1_fixAfterDeletion_J106 (K : ZK) (x0 : Nat) (x1 : Option Nat) (x2 : Option Nat) (self0 : (Option Nat) → ZP Unit) : ZP Unit :=
  zcall (s_J1_rightOf K x2) fun r17 => zcall (s_J1_colorOf K r17) fun r18 => zif (r18 = (1 : Int32)) (zcall (s_J1_leftOf K x2) fun r19 => zcall (s_J1_setColor K r19 (1 : Int32)) fun _ => zcall (s_J1_setColor K x2 (0 : Int32)) fun _ => zcallV (some x0) 0 (fun y0 => s_J1_rotateRight K y0 x2) fun _ => zcall (s_J1_parentOf K x1) fun r20 => zcall (s_J1_rightOf K r20) fun r21 => s_J1_fixAfterDeletion_J143 K x0 x1 r21 self0) (s_J1_fixAfterDeletion_J143 K x0 x1 x2 self0)
def s_J1_fixAfterDeletion_J71 (K : ZK) (x0 : Nat) (x1 : Option Nat) (x2 : Option Nat) (self0 : (Option Nat) → ZP Unit) : ZP Unit :=
  zcall (s_J1_leftOf K x2) fun r12 => zcall (s_J1_colorOf K r12) fun r13 => zif (r13 = (1 : Int32)) (zcall (s_J1_rightOf K x2) fun r14 => zcall (s_J1_colorOf K r14) fun r15 => zif (r15 = (1 : Int32)) (zcall (s_J1_setColor K x2 (0 : Int32)) fun _ => zcall (s_J1_parentOf K x1) fun r16 => self0 r16) (s_J1_fixAfterDeletion_J106 K x0 x1 x2 self0)) (s_J1_fixAfterDeletion_J106 K x0 x1 x2 self0)
def s_J1_fixAfterDeletion_J302 (K : ZK) (x0 : Nat) (x1 : Option Nat) (x2 : Option Nat) (self0 : (Option Nat) → ZP Unit) : ZP Unit :=
  zcall (s_J1_parentOf K x1) fun r45 => zcall (s_J1_colorOf K r45) fun r46 => zcall (s_J1_setColor K x2 r46) fun _ => zcall (s_J1_parentOf K x1) fun r47 => zcall (s_J1_setColor K r47 (1 : Int32)) fun _ => zcall (s_J1_leftOf K x2) fun r48 => zcall (s_J1_setColor K r48 (1 : Int32)) fun _ => zcall (s_J1_parentOf K x1) fun r49 => zcallV (some x0) 0 (fun y0 => s_J1_rotateRight K y0 r49) fun _ => zgetR (some x0) 0 3 fun v50 => self0 v50
def s_J1_fixAfterDeletion_J265 (K : ZK) (x0 : Nat) (x1 : Option Nat) (x2 : Option Nat) (self0 : (Option Nat) → ZP Unit) : ZP Unit :=
  zcall (s_J1_leftOf K x2) fun r40 => zcall (s_J1_colorOf K r40) fun r41 => zif (r41 = (1 : Int32)) (zcall (s_J1_rightOf K x2) fun r42 => zcall (s_J1_setColor K r42 (1 : Int32)) fun _ => zcall (s_J1_setColor K x2 (0 : Int32)) fun _ => zcallV (some x0) 0 (fun y0 => s_J1_rotateLeft K y0 x2) fun _ => zcall (s_J1_parentOf K x1) fun r43 => zcall (s_J1_leftOf K r43) fun r44 => s_J1_fixAfterDeletion_J302 K x0 x1 r44 self0) (s_J1_fixAfterDeletion_J302 K x0 x1 x2 self0)
def s_J1_fixAfterDeletion_J230 (K : ZK) (x0 : Nat) (x1 : Option Nat) (x2 : Option Nat) (self0 : (Option Nat) → ZP Unit) : ZP Unit :=
  zcall (s_J1_rightOf K x2) fun r35 => zcall (s_J1_colorOf K r35) fun r36 => zif (r36 = (1 : Int32)) (zcall (s_J1_leftOf K x2) fun r37 => zcall (s_J1_colorOf K r37) fun r38 => zif (r38 = (1 : Int32)) (zcall (s_J1_setColor K x2 (0 : Int32)) fun _ => zcall (s_J1_parentOf K x1) fun r39 => self0 r39) (s_J1_fixAfterDeletion_J265 K x0 x1 x2 self0)) (s_J1_fixAfterDeletion_J265 K x0 x1 x2 self0)
def s_J1_fixAfterDeletion_B0 (K : ZK) (x0 : Nat) (self0 : (Option Nat) → ZP Unit) (x1 : Option Nat) : ZP Unit :=
  zgetR (some x0) 0 3 fun v1 => zif (x1 = v1) (s_J1_fixAfterDeletion_J345 K x1) (zcall (s_J1_colorOf K x1) fun r2 => zif (r2 = (1 : Int32)) (zcall (s_J1_parentOf K x1) fun r3 => zcall (s_J1_leftOf K r3) fun r4 => zif (x1 = r4) (zcall (s_J1_parentOf K x1) fun r5 => zcall (s_J1_rightOf K r5) fun r6 => zcall (s_J1_colorOf K r6) fun r7 => zif (r7 = 0) (zcall (s_J1_setColor K r6 (1 : Int32)) fun _ => zcall (s_J1_parentOf K x1) fun r8 => zcall (s_J1_setColor K r8 (0 : Int32)) fun _ => zcall (s_J1_parentOf K x1) fun r9 => zcallV (some x0) 0 (fun y0 => s_J1_rotateLeft K y0 r9) fun _ => zcall (s_J1_parentOf K x1) fun r10 => zcall (s_J1_rightOf K r10) fun r11 => s_J1_fixAfterDeletion_J71 K x0 x1 r11 self0) (s_J1_fixAfterDeletion_J71 K x0 x1 r6 self0)) (zcall (s_J1_parentOf K x1) fun r28 => zcall (s_J1_leftOf K r28) fun r29 => zcall (s_J1_colorOf K r29) fun r30 => zif (r30 = 0) (zcall (s_J1_setColor K r29 (1 : Int32)) fun _ => zcall (s_J1_parentOf K x1) fun r31 => zcall (s_J1_setColor K r31 (0 : Int32)) fun _ => zcall (s_J1_parentOf K x1) fun r32 => zcallV (some x0) 0 (fun y0 => s_J1_rotateRight K y0 r32) fun _ => zcall (s_J1_parentOf K x1) fun r33 => zcall (s_J1_leftOf K r33) fun r34 => s_J1_fixAfterDeletion_J230 K x0 x1 r34 self0) (s_J1_fixAfterDeletion_J230 K x0 x1 r29 self0))) (s_J1_fixAfterDeletion_J345 K x1))
def s_J1_fixAfterDeletion_L0 (K : ZK) (x0 : Nat) : (Option Nat) → ZP Unit := zloop (fun self0 v => s_J1_fixAfterDeletion_B0 K x0 self0 v)
def s_J1_fixAfterDeletion (K : ZK) (this : Nat) (a1 : Option Nat) : ZP Unit :=
  s_J1_fixAfterDeletion_L0 K this a1
def s_J1_deleteEntry_J240 (K : ZK) (x1 : Option Nat) : ZP Unit :=
  zputR x1 12 4 none (zret ())
def s_J1_deleteEntry_J192 (K : ZK) (x1 : Option Nat) : ZP Unit :=
  zgetR x1 12 4 fun v8 => zif (v8 = none) (zret ()) (zgetR x1 12 4 fun v9 => zgetR v9 12 2 fun v10 => zif (x1 = v10) (zgetR x1 12 4 fun v11 => zputR v11 12 2 none (s_J1_deleteEntry_J240 K x1)) (zgetR x1 12 4 fun v12 => zgetR v12 12 3 fun v13 => zif (x1 = v13) (zgetR x1 12 4 fun v14 => zputR v14 12 3 none (s_J1_deleteEntry_J240 K x1)) (s_J1_deleteEntry_J240 K x1)))
def s_J1_deleteEntry_J133 (K : ZK) (x0 : Nat) (x1 : Option Nat) (x2 : Option Nat) : ZP Unit :=
  zputR x1 12 4 none (zputR x1 12 3 none (zputR x1 12 2 none (zgetI x1 12 5 fun v17 => zif (v17 = (1 : Int32)) (zcallV (some x0) 0 (fun y0 => s_J1_fixAfterDeletion K y0 x2) fun _ => zret ()) (zret ()))))
def s_J1_deleteEntry_J75 (K : ZK) (x0 : Nat) (x1 : Option Nat) (t0 : Option Nat) : ZP Unit :=
  zif (t0 = none) (zgetR x1 12 4 fun v6 => zif (v6 = none) (zputR (some x0) 0 3 none (zret ())) (zgetI x1 12 5 fun v7 => zif (v7 = (1 : Int32)) (zcallV (some x0) 0 (fun y0 => s_J1_fixAfterDeletion K y0 x1) fun _ => s_J1_deleteEntry_J192 K x1) (s_J1_deleteEntry_J192 K x1))) (zgetR x1 12 4 fun v15 => zputR t0 12 4 v15 (zgetR x1 12 4 fun v16 => zif (v16 = none) (zputR (some x0) 0 3 t0 (s_J1_deleteEntry_J133 K x0 x1 t0)) (zgetR x1 12 4 fun v18 => zgetR v18 12 2 fun v19 => zif (x1 = v19) (zgetR x1 12 4 fun v20 => zputR v20 12 2 t0 (s_J1_deleteEntry_J133 K x0 x1 t0)) (zgetR x1 12 4 fun v21 => zputR v21 12 3 t0 (s_J1_deleteEntry_J133 K x0 x1 t0)))))
def s_J1_deleteEntry_J57 (K : ZK) (x0 : Nat) (x1 : Option Nat) : ZP Unit :=
  zgetR x1 12 2 fun v4 => zif (v4 = none) (zgetR x1 12 3 fun v5 => s_J1_deleteEntry_J75 K x0 x1 v5) (zgetR x1 12 2 fun v22 => s_J1_deleteEntry_J75 K x0 x1 v22)
def s_J1_deleteEntry (K : ZK) (this : Nat) (a1 : Option Nat) : ZP Unit :=
  zgetI (some this) 0 5 fun v1 => zputI (some this) 0 5 (v1 + (1 : Int32)) (zgetI (some this) 0 4 fun v2 => zputI (some this) 0 4 (v2 - (1 : Int32)) (zgetR a1 12 2 fun v3 => zif (v3 = none) (s_J1_deleteEntry_J57 K this a1) (zgetR a1 12 3 fun v23 => zif (v23 = none) (s_J1_deleteEntry_J57 K this a1) (zcall (s_J1_successor K a1) fun r24 => zgetR r24 12 0 fun v25 => zputR a1 12 0 v25 (zgetR r24 12 1 fun v26 => zputR a1 12 1 v26 (s_J1_deleteEntry_J57 K this r24))))))
def s_J1_remove (K : ZK) (this : Nat) (a1 : Option Nat) : ZP (Option Nat) :=
  zcallV (some this) 0 (fun y0 => s_J1_getEntry K y0 a1) fun r1 => zif (r1 = none) (zret none) (zgetR r1 12 1 fun v2 => zcallV (some this) 0 (fun y0 => s_J1_deleteEntry K y0 r1) fun _ => zret v2)
def s_X2_loses_J39 (K : ZK) (x0 : Nat) (x1 : Int32) (t0 : Int32) (t1 : Int32) (t2 : Nat) : ZP Int32 :=
  zputI (some t2) 34 14 (t1 + t0) (zputI (some x0) 34 1 (0 : Int32) (zputI (some x0) 34 2 (-1 : Int32) (zputR (some x0) 34 5 none (zret x1))))
def s_X2_loses_J20 (K : ZK) (x0 : Nat) (x1 : Int32) (t0 : Int32) (t1 : Int32) (t2 : Nat) : ZP Int32 :=
  zputI (some t2) 34 22 (t1 + t0) (zgetI (some x0) 34 14 fun v3 => zif (x1 = (2 : Int32)) (s_X2_loses_J39 K x0 x1 (1 : Int32) v3 x0) (s_X2_loses_J39 K x0 x1 (0 : Int32) v3 x0))
def s_X2_loses (K : ZK) (this : Nat) : ZP Int32 :=
  zgetI (some this) 34 1 fun v1 => zgetI (some this) 34 22 fun v2 => zif (v1 = (1 : Int32)) (s_X2_loses_J20 K this v1 (1 : Int32) v2 this) (s_X2_loses_J20 K this v1 (0 : Int32) v2 this)
def s_X2_leaves_J107 (K : ZK) (x2 : Int32) (t0 : Int32) (t1 : Nat) : ZP Int32 :=
  zputI (some t1) 34 6 t0 (zret x2)
def s_X2_leaves_J78 (K : ZK) (x0 : Nat) (x1 : Int32) (x2 : Int32) : ZP Int32 :=
  zgetR (some x0) 34 0 fun v9 => zcall (s_J13_valueOf K x1) fun r10 => zcallV v9 0 (fun y0 => s_J1_remove K y0 r10) fun r11 => zgetI (some x0) 34 6 fun v12 => zif (v12 = x1) (s_X2_leaves_J107 K x2 (-1 : Int32) x0) (zgetI (some x0) 34 6 fun v13 => s_X2_leaves_J107 K x2 v13 x0)
def s_X2_leaves_J76 (K : ZK) (x0 : Nat) (x1 : Int32) (t0 : Int32) (t1 : Int32) : ZP Int32 :=
  s_X2_leaves_J78 K x0 x1 (t1 + t0)
def s_X2_leaves (K : ZK) (this : Nat) (a1 : Int32) : ZP Int32 :=
  zgetR (some this) 34 0 fun v1 => zcall (s_J13_valueOf K a1) fun r2 => zcallV v1 0 (fun y0 => s_J1_get K y0 r2) fun r3 => zcast r3 [37] (zgetR r3 37 1 fun v4 => zcallV v4 11 (fun y0 => s_J31_size K y0) fun r5 => zgetI (some this) 34 15 fun v6 => zputI (some this) 34 15 (v6 + r5) (zcallV (some this) 34 (fun y0 => s_X2_next K y0 a1) fun r7 => zgetI (some this) 34 1 fun v8 => zif (v8 = 0) (s_X2_leaves_J78 K this a1 r5) (zgetI (some this) 34 2 fun v14 => zif (v14 = a1) (zputI (some this) 34 2 r7 (zif (r7 = a1) (zcallV (some this) 34 (fun y0 => s_X2_loses K y0) fun r15 => zif (r15 = (2 : Int32)) (s_X2_leaves_J76 K this a1 (1 : Int32) r5) (s_X2_leaves_J76 K this a1 (0 : Int32) r5)) (s_X2_leaves_J78 K this a1 r5))) (s_X2_leaves_J78 K this a1 r5))))
def s_X1_leave (K : ZK) (this : Nat) (a1 : Int32) : ZP Int32 :=
  zcallV (some this) 24 (fun y0 => s_X1_stationFor K y0 a1) fun r1 => zcallV (some this) 24 (fun y0 => s_X1_change K y0) fun _ => zgetR (some this) 24 0 fun v2 => zcallV v2 34 (fun y0 => s_X2_leaves K y0 a1) fun r3 => zret r3
def s_X0_leave (K : ZK) (a1 : Option Nat) (a2 : Int32) (a3 : Option Nat) : ZP Int32 :=
  zcallVT a1 24 (fun y0 => s_X1_leave K y0 a2) [(0, zret (1 : Int32))] fun r2 => zastJ a3 (0 : Int32) r2.toInt64 (zret (0 : Int32))
def s_X7_init (K : ZK) (this : Nat) (a1 : Int32) (a2 : Int32) (a3 : Int32) (a4 : Int32) (a5 : Int32) (a6 : Int32) : ZP Unit :=
  zputI (some this) 39 0 a1 (zputI (some this) 39 1 a2 (zputI (some this) 39 2 a3 (zputI (some this) 39 3 a4 (zputI (some this) 39 4 a5 (zputI (some this) 39 5 a6 (zret ()))))))
def s_J31_rangeCheckForAdd (K : ZK) (this : Nat) (a1 : Int32) : ZP Unit :=
  zgetI (some this) 11 2 fun v1 => zif (v1 < a1) (zbad) (zif (0 ≤ a1) (zret ()) (zbad))
def s_J31_add_3_J38 (K : ZK) (x0 : Nat) (x1 : Int32) (x2 : Option Nat) (x3 : Int32) (x4 : Option Nat) : ZP Unit :=
  zcopyR x4 x1 x4 (x1 + (1 : Int32)) (x3 - x1) (zastR x4 x1 x2 (zputI (some x0) 11 2 (x3 + (1 : Int32)) (zret ())))
def s_J31_add_3 (K : ZK) (this : Nat) (a1 : Int32) (a2 : Option Nat) : ZP Unit :=
  zcallV (some this) 11 (fun y0 => s_J31_rangeCheckForAdd K y0 a1) fun _ => zgetI (some this) 11 0 fun v1 => zputI (some this) 11 0 (v1 + (1 : Int32)) (zgetI (some this) 11 2 fun v2 => zgetR (some this) 11 1 fun v3 => zlenK K v3 4 fun v4 => zif (v2 = v4) (zcallV (some this) 11 (fun y0 => s_J31_grow K y0) fun r5 => s_J31_add_3_J38 K this a1 a2 v2 r5) (s_J31_add_3_J38 K this a1 a2 v2 v3))
def s_J20_checkIndex_J9 (K : ZK) (x0 : Int32) (x1 : Int32) (x2 : Option Nat) : ZP Int32 :=
  zbad
def s_J20_checkIndex (K : ZK) (a1 : Int32) (a2 : Int32) (a3 : Option Nat) : ZP Int32 :=
  zif (a1 < 0) (s_J20_checkIndex_J9 K a1 a2 a3) (zif (a1 < a2) (zret a1) (s_J20_checkIndex_J9 K a1 a2 a3))
def s_J14_checkIndex (K : ZK) (a1 : Int32) (a2 : Int32) : ZP Int32 :=
  zcall (s_J20_checkIndex K a1 a2 none) fun r1 => zret r1
def s_J31_elementData (K : ZK) (this : Nat) (a1 : Int32) : ZP (Option Nat) :=
  zgetR (some this) 11 1 fun v1 => zaldR v1 4 a1 fun v2 => zret v2
def s_J31_get (K : ZK) (this : Nat) (a1 : Int32) : ZP (Option Nat) :=
  zgetI (some this) 11 2 fun v1 => zcall (s_J14_checkIndex K a1 v1) fun r2 => zcallV (some this) 11 (fun y0 => s_J31_elementData K y0 a1) fun r3 => zret r3
def s_X5_add_J40 (K : ZK) (x0 : Nat) (x1 : Option Nat) (x2 : Int32) : ZP Unit :=
  zgetR (some x0) 37 1 fun v3 => zcallV v3 11 (fun y0 => s_J31_add_3 K y0 x2 x1) fun _ => zret ()
def s_X5_add_B2 (K : ZK) (x0 : Nat) (x1 : Option Nat) (self2 : Int32 → ZP Unit) (x2 : Int32) : ZP Unit :=
  zgetR (some x0) 37 1 fun v1 => zcallV v1 11 (fun y0 => s_J31_size K y0) fun r2 => zif (r2 ≤ x2) (s_X5_add_J40 K x0 x1 x2) (zgetR (some x0) 37 1 fun v4 => zcallV v4 11 (fun y0 => s_J31_get K y0 x2) fun r5 => zcast r5 [39] (zgetI r5 39 3 fun v6 => zgetI x1 39 3 fun v7 => zif (v6 < v7) (s_X5_add_J40 K x0 x1 x2) (self2 (x2 + (1 : Int32)))))
def s_X5_add_L2 (K : ZK) (x0 : Nat) (x1 : Option Nat) : Int32 → ZP Unit := zloop (fun self2 v => s_X5_add_B2 K x0 x1 self2 v)
def s_X5_add (K : ZK) (this : Nat) (a1 : Option Nat) : ZP Unit :=
  s_X5_add_L2 K this a1 (0 : Int32)
def s_X1_queue_J42 (K : ZK) (x0 : Nat) (x1 : Int32) (x2 : Int32) (x3 : Int32) (x4 : Int32) (x5 : Option Nat) (t0 : Int32) (t1 : Nat) : ZP Int32 :=
  zcallV (some t1) 24 (fun y0 => s_X1_refuse K y0 t0 (5 : Int32) x1) fun _ => zgetR x5 37 1 fun v2 => zcallV v2 11 (fun y0 => s_J31_size K y0) fun r3 => zcallV (some x0) 24 (fun y0 => s_X1_hasPlace K y0 r3 (12 : Int32)) fun _ => zcallV (some x0) 24 (fun y0 => s_X1_change K y0) fun _ => zgetR (some x0) 24 0 fun v4 => zgetI v4 34 9 fun v5 => zgetR (some x0) 24 0 fun v6 => zgetR v6 34 0 fun v7 => zcall (s_J13_valueOf K x1) fun r8 => zcallV v7 0 (fun y0 => s_J1_get K y0 r8) fun r9 => zcast r9 [37] (znew K 39 6 [.int 0, .int 0, .int 0, .int 0, .int 0, .int 0] fun q10 => zgetR (some x0) 24 0 fun v11 => zgetI v11 34 8 fun v12 => zcall (s_X7_init K q10 v5 x1 x2 x3 x4 v12) fun _ => zcallV r9 37 (fun y0 => s_X5_add K y0 (some q10)) fun _ => zgetR (some x0) 24 0 fun v13 => zgetI v13 34 9 fun v14 => zputI v13 34 9 (v14 + (1 : Int32)) (zret v5))
def s_X1_queue (K : ZK) (this : Nat) (a1 : Int32) (a2 : Int32) (a3 : Int32) (a4 : Int32) : ZP Int32 :=
  zcallV (some this) 24 (fun y0 => s_X1_stationFor K y0 a1) fun r1 => zcallV (some this) 24 (fun y0 => s_X1_inRange K y0 a2 (0 : Int32) (99 : Int32)) fun _ => zcallV (some this) 24 (fun y0 => s_X1_inRange K y0 a3 (0 : Int32) (3 : Int32)) fun _ => zcallV (some this) 24 (fun y0 => s_X1_inRange K y0 a4 (1 : Int32) (9 : Int32)) fun _ => zif (a1 = a2) (s_X1_queue_J42 K this a1 a2 a3 a4 r1 (1 : Int32) this) (s_X1_queue_J42 K this a1 a2 a3 a4 r1 (0 : Int32) this)
def s_X0_queue (K : ZK) (a1 : Option Nat) (a2 : Int32) (a3 : Int32) (a4 : Int32) (a5 : Int32) (a6 : Option Nat) : ZP Int32 :=
  zcallVT a1 24 (fun y0 => s_X1_queue K y0 a2 a3 a4 a5) [(0, zret (1 : Int32))] fun r2 => zastJ a6 (0 : Int32) r2.toInt64 (zret (0 : Int32))
def s_J31_isEmpty (K : ZK) (this : Nat) : ZP Int32 :=
  zgetI (some this) 11 2 fun v1 => zif (v1 = 0) (zret (1 : Int32)) (zret (0 : Int32))
def s_J31_fastRemove_J34 (K : ZK) (x0 : Nat) (x1 : Option Nat) (x3 : Int32) : ZP Unit :=
  zputI (some x0) 11 2 x3 (zastR x1 x3 none (zret ()))
def s_J31_fastRemove (K : ZK) (this : Nat) (a1 : Option Nat) (a2 : Int32) : ZP Unit :=
  zgetI (some this) 11 0 fun v1 => zputI (some this) 11 0 (v1 + (1 : Int32)) (zgetI (some this) 11 2 fun v2 => zif ((v2 - (1 : Int32)) ≤ a2) (s_J31_fastRemove_J34 K this a1 (v2 - (1 : Int32))) (zcopyR a1 (a2 + (1 : Int32)) a1 a2 ((v2 - (1 : Int32)) - a2) (s_J31_fastRemove_J34 K this a1 (v2 - (1 : Int32)))))
def s_J31_remove (K : ZK) (this : Nat) (a1 : Int32) : ZP (Option Nat) :=
  zgetI (some this) 11 2 fun v1 => zcall (s_J14_checkIndex K a1 v1) fun r2 => zgetR (some this) 11 1 fun v3 => zaldR v3 4 a1 fun v4 => zcallV (some this) 11 (fun y0 => s_J31_fastRemove K y0 v3 a1) fun _ => zret v4
def s_X1_drop (K : ZK) (this : Nat) (a1 : Int32) : ZP Int32 :=
  zcallV (some this) 24 (fun y0 => s_X1_stationFor K y0 a1) fun r1 => zgetR r1 37 1 fun v2 => zcallV v2 11 (fun y0 => s_J31_isEmpty K y0) fun r3 => zcallV (some this) 24 (fun y0 => s_X1_refuse K y0 r3 (9 : Int32) a1) fun _ => zcallV (some this) 24 (fun y0 => s_X1_change K y0) fun _ => zgetR (some this) 24 0 fun v4 => zgetR v4 34 0 fun v5 => zcall (s_J13_valueOf K a1) fun r6 => zcallV v5 0 (fun y0 => s_J1_get K y0 r6) fun r7 => zcast r7 [37] (zgetR r7 37 1 fun v8 => zcallV v8 11 (fun y0 => s_J31_size K y0) fun r9 => zcallV v8 11 (fun y0 => s_J31_remove K y0 (r9 - (1 : Int32))) fun r10 => zcast r10 [39] (zgetR (some this) 24 0 fun v11 => zgetI v11 34 16 fun v12 => zputI v11 34 16 (v12 + (1 : Int32)) (zgetI r10 39 0 fun v13 => zret v13)))
def s_X0_drop (K : ZK) (a1 : Option Nat) (a2 : Int32) (a3 : Option Nat) : ZP Int32 :=
  zcallVT a1 24 (fun y0 => s_X1_drop K y0 a2) [(0, zret (1 : Int32))] fun r2 => zastJ a3 (0 : Int32) r2.toInt64 (zret (0 : Int32))
def s_X1_monitor_J23 (K : ZK) (x0 : Nat) (x1 : Int32) (t0 : Int32) (t1 : Nat) : ZP Int32 :=
  zcallV (some t1) 24 (fun y0 => s_X1_refuse K y0 t0 (8 : Int32) x1) fun _ => zcallV (some x0) 24 (fun y0 => s_X1_change K y0) fun _ => zgetR (some x0) 24 0 fun v4 => zgetI v4 34 6 fun v5 => zgetR (some x0) 24 0 fun v6 => zputI v6 34 6 x1 (zret v5)
def s_X1_monitor (K : ZK) (this : Nat) (a1 : Int32) : ZP Int32 :=
  zcallV (some this) 24 (fun y0 => s_X1_stationFor K y0 a1) fun r1 => zgetR (some this) 24 0 fun v2 => zgetI v2 34 6 fun v3 => zif (v3 = a1) (s_X1_monitor_J23 K this a1 (1 : Int32) this) (s_X1_monitor_J23 K this a1 (0 : Int32) this)
def s_X0_monitor (K : ZK) (a1 : Option Nat) (a2 : Int32) (a3 : Option Nat) : ZP Int32 :=
  zcallVT a1 24 (fun y0 => s_X1_monitor K y0 a2) [(0, zret (1 : Int32))] fun r2 => zastJ a3 (0 : Int32) r2.toInt64 (zret (0 : Int32))
def s_X2_tokenComes (K : ZK) (this : Nat) (a1 : Int32) (a2 : Int32) : ZP Unit :=
  zputI (some this) 34 1 (1 : Int32) (zputI (some this) 34 2 a1 (zputI (some this) 34 3 a2 (zputI (some this) 34 4 (0 : Int32) (zputR (some this) 34 5 none (zret ())))))
def s_X2_waiting_B15 (K : ZK) (x2 : Option Nat) (self15 : Int32 → ZP Int32) (x1 : Int32) : ZP Int32 :=
  zcallV x2 8 (fun y0 => s_J26_hasNext__J28 K y0) fun r4 => zif (r4 = 0) (zret x1) (zcallV x2 8 (fun y0 => s_J28_next K y0) fun r5 => zcast r5 [37] (zgetR r5 37 1 fun v6 => zcallV v6 11 (fun y0 => s_J31_size K y0) fun r7 => self15 (x1 + r7)))
def s_X2_waiting_L15 (K : ZK) (x2 : Option Nat) : Int32 → ZP Int32 := zloop (fun self15 v => s_X2_waiting_B15 K x2 self15 v)
def s_X2_waiting (K : ZK) (this : Nat) : ZP Int32 :=
  zgetR (some this) 34 0 fun v1 => zcallV v1 0 (fun y0 => s_J1_values K y0) fun r2 => zcallV r2 3 (fun y0 => s_J21_iterator K y0) fun r3 => s_X2_waiting_L15 K r3 (0 : Int32)
def s_X1_token_J22 (K : ZK) (x0 : Nat) (x1 : Int32) (t0 : Int32) (t1 : Nat) : ZP Int32 :=
  zgetR (some x0) 24 0 fun v4 => zgetI v4 34 1 fun v5 => zcallV (some t1) 24 (fun y0 => s_X1_refuse K y0 t0 (6 : Int32) v5) fun _ => zcallV (some x0) 24 (fun y0 => s_X1_change K y0) fun _ => zgetR (some x0) 24 0 fun v6 => zcallV v6 34 (fun y0 => s_X2_tokenComes K y0 x1 (0 : Int32)) fun _ => zgetR (some x0) 24 0 fun v7 => zputI v7 34 7 (0 : Int32) (zgetR (some x0) 24 0 fun v8 => zcallV v8 34 (fun y0 => s_X2_waiting K y0) fun r9 => zret r9)
def s_X1_token (K : ZK) (this : Nat) (a1 : Int32) : ZP Int32 :=
  zcallV (some this) 24 (fun y0 => s_X1_stationFor K y0 a1) fun r1 => zgetR (some this) 24 0 fun v2 => zgetI v2 34 1 fun v3 => zif (v3 = 0) (s_X1_token_J22 K this a1 (0 : Int32) this) (s_X1_token_J22 K this a1 (1 : Int32) this)
def s_X0_token (K : ZK) (a1 : Option Nat) (a2 : Int32) (a3 : Option Nat) : ZP Int32 :=
  zcallVT a1 24 (fun y0 => s_X1_token K y0 a2) [(0, zret (1 : Int32))] fun r2 => zastJ a3 (0 : Int32) r2.toInt64 (zret (0 : Int32))
def s_X1_lose_J16 (K : ZK) (x0 : Nat) (t0 : Int32) (t1 : Nat) : ZP Int32 :=
  zcallV (some t1) 24 (fun y0 => s_X1_refuse K y0 t0 (7 : Int32) (0 : Int32)) fun _ => zcallV (some x0) 24 (fun y0 => s_X1_change K y0) fun _ => zgetR (some x0) 24 0 fun v3 => zcallV v3 34 (fun y0 => s_X2_loses K y0) fun r4 => zret r4
def s_X1_lose (K : ZK) (this : Nat) : ZP Int32 :=
  zgetR (some this) 24 0 fun v1 => zgetI v1 34 1 fun v2 => zif (v2 = 0) (s_X1_lose_J16 K this (1 : Int32) this) (s_X1_lose_J16 K this (0 : Int32) this)
def s_X0_lose (K : ZK) (a1 : Option Nat) (a2 : Option Nat) : ZP Int32 :=
  zcallVT a1 24 (fun y0 => s_X1_lose K y0) [(0, zret (1 : Int32))] fun r2 => zastJ a2 (0 : Int32) r2.toInt64 (zret (0 : Int32))
def s_X8_init (K : ZK) (this : Nat) (a1 : Option Nat) : ZP Unit :=
  zputR (some this) 40 0 a1 (zret ())
def s_J0_isEmpty__J1 (K : ZK) (this : Nat) : ZP Int32 :=
  zcallV (some this) 0 (fun y0 => s_J1_size K y0) fun r1 => zif (r1 = 0) (zret (1 : Int32)) (zret (0 : Int32))
def s_J1_getLastEntry_B9 (K : ZK) (self9 : (Option Nat) → ZP (Option Nat)) (x1 : Option Nat) : ZP (Option Nat) :=
  zgetR x1 12 3 fun v2 => zif (v2 = none) (zret x1) (zgetR x1 12 3 fun v3 => self9 v3)
def s_J1_getLastEntry_L9 (K : ZK) : (Option Nat) → ZP (Option Nat) := zloop (fun self9 v => s_J1_getLastEntry_B9 K self9 v)
def s_J1_getLastEntry (K : ZK) (this : Nat) : ZP (Option Nat) :=
  zgetR (some this) 0 3 fun v1 => zif (v1 = none) (zret v1) (s_J1_getLastEntry_L9 K v1)
def s_J1_lastKey (K : ZK) (this : Nat) : ZP (Option Nat) :=
  zcallV (some this) 0 (fun y0 => s_J1_getLastEntry K y0) fun r1 => zcall (s_J1_key K r1) fun r2 => zret r2
def s_X8_isSilent_J74 (K : ZK) (x0 : Nat) : ZP Unit :=
  zgetR (some x0) 40 0 fun v5 => zgetI v5 34 7 fun v6 => zif (v6 < (8 : Int32)) (zret ()) (zgetR (some x0) 40 0 fun v7 => zgetR v7 34 0 fun v8 => zcallV v8 0 (fun y0 => s_J0_isEmpty__J1 K y0) fun r9 => zif (r9 = 0) (zgetR (some x0) 40 0 fun v10 => zgetI v10 34 6 fun v11 => zif (v11 = (-1 : Int32)) (zgetR (some x0) 40 0 fun v12 => zgetR (some x0) 40 0 fun v13 => zgetR v13 34 0 fun v14 => zcallV v14 0 (fun y0 => s_J1_lastKey K y0) fun r15 => zcastK K r15 [2] (zcallVK K r15 2 (fun y0 => s_J13_intValue K y0) fun r16 => zputI v12 34 6 r16 (zgetR (some x0) 40 0 fun v17 => zputI v17 34 7 (0 : Int32) (zgetR (some x0) 40 0 fun v18 => zgetI v18 34 21 fun v19 => zputI v18 34 21 (v19 + (1 : Int32)) (zret ()))))) (zret ())) (zret ()))
def s_X8_isSilent (K : ZK) (this : Nat) : ZP Unit :=
  zgetR (some this) 40 0 fun v1 => zgetI v1 34 7 fun v2 => zputI v1 34 7 (v2 + (1 : Int32)) (zgetR (some this) 40 0 fun v3 => zgetI v3 34 7 fun v4 => zif (v4 < (5 : Int32)) (s_X8_isSilent_J74 K this) (zgetR (some this) 40 0 fun v20 => zgetI v20 34 6 fun v21 => zif (v21 = (-1 : Int32)) (s_X8_isSilent_J74 K this) (zgetR (some this) 40 0 fun v22 => zgetR (some this) 40 0 fun v23 => zgetI v23 34 6 fun v24 => zcallV v22 34 (fun y0 => s_X2_tokenComes K y0 v24 (0 : Int32)) fun _ => zgetR (some this) 40 0 fun v25 => zputI v25 34 7 (0 : Int32) (zgetR (some this) 40 0 fun v26 => zgetI v26 34 20 fun v27 => zputI v26 34 20 (v27 + (1 : Int32)) (zret ())))))
def s_X5_rank (K : ZK) (this : Nat) : ZP Int32 :=
  zgetR (some this) 37 1 fun v1 => zcallV v1 11 (fun y0 => s_J31_isEmpty K y0) fun r2 => zif (r2 = 0) (zgetR (some this) 37 1 fun v3 => zcallV v3 11 (fun y0 => s_J31_get K y0 (0 : Int32)) fun r4 => zcast r4 [39] (zgetI r4 39 3 fun v5 => zret v5)) (zret (-1 : Int32))
def s_X8_takes (K : ZK) (this : Nat) (a1 : Option Nat) : ZP Unit :=
  zgetR a1 37 1 fun v1 => zcallV v1 11 (fun y0 => s_J31_remove K y0 (0 : Int32)) fun r2 => zcast r2 [39] (zgetR (some this) 40 0 fun v3 => znew K 38 5 [.null, .int 0, .int 0, .int 0, .int 0] fun q4 => zgetR (some this) 40 0 fun v5 => zgetI v5 34 3 fun v6 => zcall (s_X6_init K q4 r2 v6) fun _ => zputR v3 34 5 (some q4) (zgetR (some this) 40 0 fun v7 => zputI v7 34 1 (2 : Int32) (zgetI a1 37 2 fun v8 => zputI a1 37 2 (v8 + (1 : Int32)) (zgetR (some this) 40 0 fun v9 => zgetI v9 34 10 fun v10 => zputI v9 34 10 (v10 + (1 : Int32)) (zgetR (some this) 40 0 fun v11 => zgetI v11 34 8 fun v12 => zgetI r2 39 5 fun v13 => zgetR (some this) 40 0 fun v14 => zgetI v14 34 18 fun v15 => zputI v14 34 18 (v15 + (v12 - v13)) (zgetR (some this) 40 0 fun v16 => zgetR (some this) 40 0 fun v17 => zgetI v17 34 19 fun v18 => zcall (s_J16_max K v18 (v12 - v13)) fun r19 => zputI v16 34 19 r19 (zret ())))))))
def s_X8_comesToken_J83 (K : ZK) (t0 : Int32) (t1 : Option Nat) : ZP Unit :=
  zputI t1 34 3 t0 (zret ())
def s_X8_comesToken (K : ZK) (this : Nat) (a1 : Option Nat) : ZP Unit :=
  zcallV a1 37 (fun y0 => s_X5_rank K y0) fun r1 => zgetR (some this) 40 0 fun v2 => zgetI v2 34 3 fun v3 => zif (r1 < v3) (zgetI a1 37 0 fun v4 => zgetR (some this) 40 0 fun v5 => zgetI v5 34 6 fun v6 => zif (v4 = v6) (zgetR (some this) 40 0 fun v7 => zgetI v7 34 3 fun v8 => zif (v8 ≤ 0) (zret ()) (zgetR (some this) 40 0 fun v9 => zgetI v9 34 4 fun v10 => zputI v9 34 4 (v10 + (1 : Int32)) (zgetR (some this) 40 0 fun v11 => zgetR (some this) 40 0 fun v12 => zgetI v12 34 4 fun v13 => zif (v13 = (3 : Int32)) (s_X8_comesToken_J83 K (0 : Int32) v11) (zgetR (some this) 40 0 fun v14 => zgetI v14 34 3 fun v15 => s_X8_comesToken_J83 K v15 v11)))) (zret ())) (zcallV (some this) 40 (fun y0 => s_X8_takes K y0 a1) fun _ => zret ())
def s_X8_receives_J95 (K : ZK) (t0 : Int32) (t1 : Int32) (t2 : Option Nat) : ZP Unit :=
  zputT .boolean t2 34 24 (t1 ||| t0) (zret ())
def s_X8_receives (K : ZK) (this : Nat) (a1 : Option Nat) : ZP Unit :=
  zgetR (some this) 40 0 fun v1 => zgetR v1 34 5 fun v2 => zputT .boolean v2 38 3 (1 : Int32) (zgetI a1 37 3 fun v3 => zputI a1 37 3 (v3 + (1 : Int32)) (zgetR (some this) 40 0 fun v4 => zgetI v4 34 11 fun v5 => zputI v4 34 11 (v5 + (1 : Int32)) (zgetR (some this) 40 0 fun v6 => zgetI v6 34 17 fun v7 => zgetR (some this) 40 0 fun v8 => zgetR v8 34 5 fun v9 => zgetR v9 38 0 fun v10 => zgetI v10 39 4 fun v11 => zputI v6 34 17 (v7 + v11) (zgetR (some this) 40 0 fun v12 => zgetI v12 34 24 fun v13 => zgetR (some this) 40 0 fun v14 => zgetR v14 34 5 fun v15 => zgetR v15 38 0 fun v16 => zgetI v16 39 0 fun v17 => zgetR (some this) 40 0 fun v18 => zgetI v18 34 23 fun v19 => zif (v17 = v19) (s_X8_receives_J95 K (1 : Int32) v13 v12) (s_X8_receives_J95 K (0 : Int32) v13 v12)))))
def s_X6_rankBehind (K : ZK) (this : Nat) : ZP Int32 :=
  zgetI (some this) 38 2 fun v1 => zgetI (some this) 38 1 fun v2 => zcall (s_J16_max K v1 v2) fun r3 => zret r3
def s_X8_comesFrame_J163 (K : ZK) (x0 : Nat) (x1 : Option Nat) : ZP Unit :=
  zgetR (some x0) 40 0 fun v30 => zgetR v30 34 5 fun v31 => zgetR (some x0) 40 0 fun v32 => zgetR v32 34 5 fun v33 => zgetI v33 38 2 fun v34 => zcallV x1 37 (fun y0 => s_X5_rank K y0) fun r35 => zcall (s_J16_max K v34 r35) fun r36 => zputI v31 38 2 r36 (zret ())
def s_X8_comesFrame_J38 (K : ZK) (x0 : Nat) (x1 : Option Nat) : ZP Unit :=
  zgetI x1 37 0 fun v9 => zgetR (some x0) 40 0 fun v10 => zgetR v10 34 5 fun v11 => zgetR v11 38 0 fun v12 => zgetI v12 39 1 fun v13 => zif (v9 = v13) (zgetR (some x0) 40 0 fun v14 => zgetI v14 34 12 fun v15 => zputI v14 34 12 (v15 + (1 : Int32)) (zgetR (some x0) 40 0 fun v16 => zgetR (some x0) 40 0 fun v17 => zgetI v17 34 2 fun v18 => zgetR (some x0) 40 0 fun v19 => zgetR v19 34 5 fun v20 => zcallV v20 38 (fun y0 => s_X6_rankBehind K y0) fun r21 => zcallV v16 34 (fun y0 => s_X2_tokenComes K y0 v18 r21) fun _ => zret ())) (zgetI x1 37 0 fun v22 => zgetR (some x0) 40 0 fun v23 => zgetI v23 34 6 fun v24 => zif (v22 = v24) (zgetR (some x0) 40 0 fun v25 => zgetR v25 34 5 fun v26 => zgetI v26 38 4 fun v27 => zif (v27 = 0) (zgetR (some x0) 40 0 fun v28 => zgetR v28 34 5 fun v29 => zputT .boolean v29 38 4 (1 : Int32) (s_X8_comesFrame_J163 K x0 x1)) (zgetR (some x0) 40 0 fun v37 => zgetI v37 34 13 fun v38 => zputI v37 34 13 (v38 + (1 : Int32)) (zgetR (some x0) 40 0 fun v39 => zgetR (some x0) 40 0 fun v40 => zgetI v40 34 2 fun v41 => zcallV v39 34 (fun y0 => s_X2_tokenComes K y0 v41 (0 : Int32)) fun _ => zret ()))) (s_X8_comesFrame_J163 K x0 x1))
def s_X8_comesFrame (K : ZK) (this : Nat) (a1 : Option Nat) : ZP Unit :=
  zgetI a1 37 0 fun v1 => zgetR (some this) 40 0 fun v2 => zgetR v2 34 5 fun v3 => zgetR v3 38 0 fun v4 => zgetI v4 39 2 fun v5 => zif (v1 = v5) (zgetR (some this) 40 0 fun v6 => zgetR v6 34 5 fun v7 => zgetI v7 38 3 fun v8 => zif (v8 = 0) (zcallV (some this) 40 (fun y0 => s_X8_receives K y0 a1) fun _ => s_X8_comesFrame_J38 K this a1) (s_X8_comesFrame_J38 K this a1)) (s_X8_comesFrame_J38 K this a1)
def s_X8_goes_J86 (K : ZK) (x0 : Nat) : ZP Unit :=
  zgetR (some x0) 40 0 fun v3 => zgetI v3 34 8 fun v4 => zputI v3 34 8 (v4 + (1 : Int32)) (zret ())
def s_X8_goes (K : ZK) (this : Nat) : ZP Unit :=
  zgetR (some this) 40 0 fun v1 => zgetI v1 34 1 fun v2 => zif (v2 = 0) (zcallV (some this) 40 (fun y0 => s_X8_isSilent K y0) fun _ => s_X8_goes_J86 K this) (zgetR (some this) 40 0 fun v5 => zgetR (some this) 40 0 fun v6 => zgetR (some this) 40 0 fun v7 => zgetI v7 34 2 fun v8 => zcallV v6 34 (fun y0 => s_X2_next K y0 v8) fun r9 => zputI v5 34 2 r9 (zgetR (some this) 40 0 fun v10 => zgetR v10 34 0 fun v11 => zgetR (some this) 40 0 fun v12 => zgetI v12 34 2 fun v13 => zcall (s_J13_valueOf K v13) fun r14 => zcallV v11 0 (fun y0 => s_J1_get K y0 r14) fun r15 => zcast r15 [37] (zgetR (some this) 40 0 fun v16 => zgetI v16 34 1 fun v17 => zif (v17 = (1 : Int32)) (zcallV (some this) 40 (fun y0 => s_X8_comesToken K y0 r15) fun _ => s_X8_goes_J86 K this) (zcallV (some this) 40 (fun y0 => s_X8_comesFrame K y0 r15) fun _ => s_X8_goes_J86 K this))))
def s_X2_goesBy (K : ZK) (this : Nat) : ZP Unit :=
  znew K 40 1 [.null] fun q1 => zcall (s_X8_init K q1 (some this)) fun _ => zcallV (some q1) 40 (fun y0 => s_X8_goes K y0) fun _ => zret ()
def s_X1_tick_B22 (K : ZK) (x0 : Nat) (x1 : Int32) (x2 : Int32) (self22 : Int32 → ZP Int32) (x3 : Int32) : ZP Int32 :=
  zif (x1 ≤ x3) (zgetR (some x0) 24 0 fun v3 => zgetI v3 34 11 fun v4 => zret (v4 - x2)) (zgetR (some x0) 24 0 fun v5 => zcallV v5 34 (fun y0 => s_X2_goesBy K y0) fun _ => self22 (x3 + (1 : Int32)))
def s_X1_tick_L22 (K : ZK) (x0 : Nat) (x1 : Int32) (x2 : Int32) : Int32 → ZP Int32 := zloop (fun self22 v => s_X1_tick_B22 K x0 x1 x2 self22 v)
def s_X1_tick (K : ZK) (this : Nat) (a1 : Int32) : ZP Int32 :=
  zcallV (some this) 24 (fun y0 => s_X1_inRange K y0 a1 (1 : Int32) (40 : Int32)) fun _ => zcallV (some this) 24 (fun y0 => s_X1_change K y0) fun _ => zgetR (some this) 24 0 fun v1 => zgetI v1 34 11 fun v2 => s_X1_tick_L22 K this a1 v2 (0 : Int32)
def s_X0_tick (K : ZK) (a1 : Option Nat) (a2 : Int32) (a3 : Option Nat) : ZP Int32 :=
  zcallVT a1 24 (fun y0 => s_X1_tick K y0 a2) [(0, zret (1 : Int32))] fun r2 => zastJ a3 (0 : Int32) r2.toInt64 (zret (0 : Int32))
def s_X1_check (K : ZK) (a1 : Int32) : ZP Unit :=
  zif (a1 = 0) (zthrow 1) (zret ())
def s_X1_of (K : ZK) (a1 : Int32) : ZP Int32 :=
  zif (a1 = 0) (zret (0 : Int32)) (zret (1 : Int32))
def s_X1_onRingOf (K : ZK) (a1 : Option Nat) (a2 : Int32) : ZP Int32 :=
  zif (a2 = 0) (zgetI a1 34 1 fun v1 => zret v1) (zif (a2 = (1 : Int32)) (zgetI a1 34 2 fun v2 => zret v2) (zgetI a1 34 1 fun v3 => zif (v3 = (1 : Int32)) (zif (a2 = (2 : Int32)) (zgetI a1 34 3 fun v4 => zret v4) (zret (-1 : Int32))) (zgetI a1 34 1 fun v5 => zif (v5 = 0) (zret (-1 : Int32)) (zsw a2 [((2 : Int32), zgetR a1 34 5 fun v6 => zgetR v6 38 0 fun v7 => zgetI v7 39 3 fun v8 => zret v8), ((3 : Int32), zgetR a1 34 5 fun v9 => zgetI v9 38 2 fun v10 => zret v10), ((4 : Int32), zgetR a1 34 5 fun v11 => zgetI v11 38 1 fun v12 => zret v12), ((5 : Int32), zgetR a1 34 5 fun v13 => zgetI v13 38 4 fun v14 => zcall (s_X1_of K v14) fun r15 => zret r15)] (zgetR a1 34 5 fun v16 => zgetR v16 38 0 fun v17 => zgetI v17 39 0 fun v18 => zret v18)))))
def s_X1_onRing (K : ZK) (this : Nat) (a1 : Int32) : ZP Int32 :=
  zcall (s_X1_isBetween K a1 (0 : Int32) (6 : Int32)) fun r1 => zcall (s_X1_check K r1) fun _ => zgetR (some this) 24 0 fun v2 => zcall (s_X1_onRingOf K v2 a1) fun r3 => zret r3
def s_X0_onRing (K : ZK) (a1 : Option Nat) (a2 : Int32) (a3 : Option Nat) : ZP Int32 :=
  zcallVT a1 24 (fun y0 => s_X1_onRing K y0 a2) [(1, zret (1 : Int32))] fun r2 => zastJ a3 (0 : Int32) r2.toInt64 (zret (0 : Int32))
def s_X1_checkElement (K : ZK) (a1 : Int32) : ZP Unit :=
  zif (a1 = 0) (zthrow 3) (zret ())
def s_X1_stationAt_B41 (K : ZK) (x1 : Int32) (x4 : Option Nat) (self41 : (Int32 × Int32) → ZP Int32) (x2 : Int32) (x3 : Int32) : ZP Int32 :=
  zcallV x4 8 (fun y0 => s_J26_hasNext__J28 K y0) fun r9 => zif (r9 = 0) (zret x3) (zcallV x4 8 (fun y0 => s_J28_next K y0) fun r10 => zcast r10 [37] (zif (x2 = x1) (zgetI r10 37 0 fun v11 => self41 (x2 + (1 : Int32), v11)) (self41 (x2 + (1 : Int32), x3))))
def s_X1_stationAt_L41 (K : ZK) (x1 : Int32) (x4 : Option Nat) : (Int32 × Int32) → ZP Int32 := zloop (fun self41 v => s_X1_stationAt_B41 K x1 x4 self41 v.1 v.2)
def s_X1_stationAt (K : ZK) (this : Nat) (a1 : Int32) : ZP Int32 :=
  zgetR (some this) 24 0 fun v1 => zgetR v1 34 0 fun v2 => zcallV v2 0 (fun y0 => s_J1_size K y0) fun r3 => zcall (s_X1_isBetween K a1 (0 : Int32) (r3 - (1 : Int32))) fun r4 => zcall (s_X1_checkElement K r4) fun _ => zgetR (some this) 24 0 fun v5 => zgetR v5 34 0 fun v6 => zcallV v6 0 (fun y0 => s_J1_values K y0) fun r7 => zcallV r7 3 (fun y0 => s_J21_iterator K y0) fun r8 => s_X1_stationAt_L41 K a1 r8 ((0 : Int32), (-1 : Int32))
def s_X0_stationAt (K : ZK) (a1 : Option Nat) (a2 : Int32) (a3 : Option Nat) : ZP Int32 :=
  zcallVT a1 24 (fun y0 => s_X1_stationAt K y0 a2) [(3, zret (1 : Int32))] fun r2 => zastJ a3 (0 : Int32) r2.toInt64 (zret (0 : Int32))
def s_X1_checkIndex (K : ZK) (a1 : Int32) : ZP Unit :=
  zif (a1 = 0) (zthrow 2) (zret ())
def s_X1_station0 (K : ZK) (this : Nat) (a1 : Int32) : ZP (Option Nat) :=
  zcallV (some this) 24 (fun y0 => s_X1_isStation K y0 a1) fun r1 => zcall (s_X1_checkIndex K r1) fun _ => zgetR (some this) 24 0 fun v2 => zgetR v2 34 0 fun v3 => zcall (s_J13_valueOf K a1) fun r4 => zcallV v3 0 (fun y0 => s_J1_get K y0 r4) fun r5 => zcast r5 [37] (zret r5)
def s_X1_waits (K : ZK) (this : Nat) (a1 : Int32) (a2 : Int32) : ZP Int32 :=
  zcallV (some this) 24 (fun y0 => s_X1_station0 K y0 a1) fun r1 => zgetR r1 37 1 fun v2 => zcallV v2 11 (fun y0 => s_J31_size K y0) fun r3 => zcall (s_X1_isBetween K a2 (0 : Int32) (r3 - (1 : Int32))) fun r4 => zcall (s_X1_checkElement K r4) fun _ => zcallV v2 11 (fun y0 => s_J31_get K y0 a2) fun r5 => zcast r5 [39] (zgetI r5 39 0 fun v6 => zret v6)
def s_X0_waits (K : ZK) (a1 : Option Nat) (a2 : Int32) (a3 : Int32) (a4 : Option Nat) : ZP Int32 :=
  zcallVT a1 24 (fun y0 => s_X1_waits K y0 a2 a3) [(2, zret (1 : Int32)), (3, zret (2 : Int32))] fun r3 => zastJ a4 (0 : Int32) r3.toInt64 (zret (0 : Int32))
def s_X2_whereIs_B66 (K : ZK) (x1 : Int32) (x2 : Option Nat) (x3 : Option Nat) (x4 : Option Nat) (self38 : Unit → ZP Int32) (self66 : Unit → ZP Int32) : ZP Int32 :=
  zcallV x4 5 (fun y0 => s_J23_hasNext K y0) fun r12 => zif (r12 = 0) (self38 ()) (zcallV x4 5 (fun y0 => s_J23_next K y0) fun r13 => zcast r13 [39] (zgetI r13 39 0 fun v14 => zif (v14 = x1) (zgetI x3 37 0 fun v15 => zret v15) (self66 ())))
def s_X2_whereIs_L66 (K : ZK) (x1 : Int32) (x2 : Option Nat) (x3 : Option Nat) (x4 : Option Nat) (self38 : Unit → ZP Int32) : Unit → ZP Int32 := zloop (fun self66 v => s_X2_whereIs_B66 K x1 x2 x3 x4 self38 self66)
def s_X2_whereIs_B38 (K : ZK) (x1 : Int32) (x2 : Option Nat) (self38 : Unit → ZP Int32) : ZP Int32 :=
  zcallV x2 8 (fun y0 => s_J26_hasNext__J28 K y0) fun r8 => zif (r8 = 0) (zret (-1 : Int32)) (zcallV x2 8 (fun y0 => s_J28_next K y0) fun r9 => zcast r9 [37] (zgetR r9 37 1 fun v10 => zcallV v10 11 (fun y0 => s_J31_iterator K y0) fun r11 => s_X2_whereIs_L66 K x1 x2 r9 r11 self38 ()))
def s_X2_whereIs_L38 (K : ZK) (x1 : Int32) (x2 : Option Nat) : Unit → ZP Int32 := zloop (fun self38 v => s_X2_whereIs_B38 K x1 x2 self38)
def s_X2_whereIs_J25 (K : ZK) (x0 : Nat) (x1 : Int32) : ZP Int32 :=
  zgetR (some x0) 34 0 fun v5 => zcallV v5 0 (fun y0 => s_J1_values K y0) fun r6 => zcallV r6 3 (fun y0 => s_J21_iterator K y0) fun r7 => s_X2_whereIs_L38 K x1 r7 ()
def s_X2_whereIs (K : ZK) (this : Nat) (a1 : Int32) : ZP Int32 :=
  zgetI (some this) 34 1 fun v1 => zif (v1 = (2 : Int32)) (zgetR (some this) 34 5 fun v2 => zgetR v2 38 0 fun v3 => zgetI v3 39 0 fun v4 => zif (v4 = a1) (zret (100 : Int32)) (s_X2_whereIs_J25 K this a1)) (s_X2_whereIs_J25 K this a1)
def s_X1_find_B68 (K : ZK) (x1 : Int32) (x2 : Option Nat) (x4 : Option Nat) (self40 : Unit → ZP (Option Nat)) (self68 : Unit → ZP (Option Nat)) : ZP (Option Nat) :=
  zcallV x4 5 (fun y0 => s_J23_hasNext K y0) fun r14 => zif (r14 = 0) (self40 ()) (zcallV x4 5 (fun y0 => s_J23_next K y0) fun r15 => zcast r15 [39] (zgetI r15 39 0 fun v16 => zif (v16 = x1) (zret r15) (self68 ())))
def s_X1_find_L68 (K : ZK) (x1 : Int32) (x2 : Option Nat) (x4 : Option Nat) (self40 : Unit → ZP (Option Nat)) : Unit → ZP (Option Nat) := zloop (fun self68 v => s_X1_find_B68 K x1 x2 x4 self40 self68)
def s_X1_find_B40 (K : ZK) (x1 : Int32) (x2 : Option Nat) (self40 : Unit → ZP (Option Nat)) : ZP (Option Nat) :=
  zcallV x2 8 (fun y0 => s_J26_hasNext__J28 K y0) fun r10 => zif (r10 = 0) (zret none) (zcallV x2 8 (fun y0 => s_J28_next K y0) fun r11 => zcast r11 [37] (zgetR r11 37 1 fun v12 => zcallV v12 11 (fun y0 => s_J31_iterator K y0) fun r13 => s_X1_find_L68 K x1 x2 r13 self40 ()))
def s_X1_find_L40 (K : ZK) (x1 : Int32) (x2 : Option Nat) : Unit → ZP (Option Nat) := zloop (fun self40 v => s_X1_find_B40 K x1 x2 self40)
def s_X1_find (K : ZK) (this : Nat) (a1 : Int32) : ZP (Option Nat) :=
  zgetR (some this) 24 0 fun v1 => zcallV v1 34 (fun y0 => s_X2_whereIs K y0 a1) fun r2 => zif (r2 = (100 : Int32)) (zgetR (some this) 24 0 fun v3 => zgetR v3 34 5 fun v4 => zgetR v4 38 0 fun v5 => zret v5) (zgetR (some this) 24 0 fun v6 => zgetR v6 34 0 fun v7 => zcallV v7 0 (fun y0 => s_J1_values K y0) fun r8 => zcallV r8 3 (fun y0 => s_J21_iterator K y0) fun r9 => s_X1_find_L40 K a1 r9 ())
def s_X1_rankOf_J15 (K : ZK) (x2 : Option Nat) (t0 : Int32) : ZP Int32 :=
  zcall (s_X1_checkElement K t0) fun _ => zif (x2 = none) (zret (0 : Int32)) (zgetI x2 39 3 fun v2 => zret v2)
def s_X1_rankOf (K : ZK) (this : Nat) (a1 : Int32) : ZP Int32 :=
  zcallV (some this) 24 (fun y0 => s_X1_find K y0 a1) fun r1 => zif (r1 = none) (s_X1_rankOf_J15 K r1 (0 : Int32)) (s_X1_rankOf_J15 K r1 (1 : Int32))
def s_X0_rankOf (K : ZK) (a1 : Option Nat) (a2 : Int32) (a3 : Option Nat) : ZP Int32 :=
  zcallVT a1 24 (fun y0 => s_X1_rankOf K y0 a2) [(3, zret (1 : Int32))] fun r2 => zastJ a3 (0 : Int32) r2.toInt64 (zret (0 : Int32))
def s_X1_whereIs_J19 (K : ZK) (x2 : Int32) (t0 : Int32) : ZP Int32 :=
  zcall (s_X1_checkElement K t0) fun _ => zret x2
def s_X1_whereIs (K : ZK) (this : Nat) (a1 : Int32) : ZP Int32 :=
  zgetR (some this) 24 0 fun v1 => zcallV v1 34 (fun y0 => s_X2_whereIs K y0 a1) fun r2 => zif (r2 = (-1 : Int32)) (s_X1_whereIs_J19 K r2 (0 : Int32)) (s_X1_whereIs_J19 K r2 (1 : Int32))
def s_X0_whereIs (K : ZK) (a1 : Option Nat) (a2 : Int32) (a3 : Option Nat) : ZP Int32 :=
  zcallVT a1 24 (fun y0 => s_X1_whereIs K y0 a2) [(3, zret (1 : Int32))] fun r2 => zastJ a3 (0 : Int32) r2.toInt64 (zret (0 : Int32))
def s_X5_lengths_B10 (K : ZK) (x2 : Option Nat) (self10 : Int32 → ZP Int32) (x1 : Int32) : ZP Int32 :=
  zcallV x2 5 (fun y0 => s_J23_hasNext K y0) fun r3 => zif (r3 = 0) (zret x1) (zcallV x2 5 (fun y0 => s_J23_next K y0) fun r4 => zcast r4 [39] (zgetI r4 39 4 fun v5 => self10 (x1 + v5)))
def s_X5_lengths_L10 (K : ZK) (x2 : Option Nat) : Int32 → ZP Int32 := zloop (fun self10 v => s_X5_lengths_B10 K x2 self10 v)
def s_X5_lengths (K : ZK) (this : Nat) : ZP Int32 :=
  zgetR (some this) 37 1 fun v1 => zcallV v1 11 (fun y0 => s_J31_iterator K y0) fun r2 => s_X5_lengths_L10 K r2 (0 : Int32)
def s_X1_queueOf (K : ZK) (this : Nat) (a1 : Int32) (a2 : Int32) : ZP Int32 :=
  zcallV (some this) 24 (fun y0 => s_X1_station0 K y0 a1) fun r1 => zcall (s_X1_isBetween K a2 (0 : Int32) (4 : Int32)) fun r2 => zcall (s_X1_check K r2) fun _ => zsw a2 [((0 : Int32), zgetR r1 37 1 fun v3 => zcallV v3 11 (fun y0 => s_J31_size K y0) fun r4 => zret r4), ((1 : Int32), zcallV r1 37 (fun y0 => s_X5_rank K y0) fun r5 => zret r5), ((2 : Int32), zcallV r1 37 (fun y0 => s_X5_lengths K y0) fun r6 => zret r6), ((3 : Int32), zgetI r1 37 2 fun v7 => zret v7)] (zgetI r1 37 3 fun v8 => zret v8)
def s_X0_queueOf (K : ZK) (a1 : Option Nat) (a2 : Int32) (a3 : Int32) (a4 : Option Nat) : ZP Int32 :=
  zcallVT a1 24 (fun y0 => s_X1_queueOf K y0 a2 a3) [(1, zret (2 : Int32)), (2, zret (1 : Int32))] fun r3 => zastJ a4 (0 : Int32) r3.toInt64 (zret (0 : Int32))
def s_X1_next (K : ZK) (this : Nat) (a1 : Int32) : ZP Int32 :=
  zcallV (some this) 24 (fun y0 => s_X1_isStation K y0 a1) fun r1 => zcall (s_X1_checkIndex K r1) fun _ => zgetR (some this) 24 0 fun v2 => zcallV v2 34 (fun y0 => s_X2_next K y0 a1) fun r3 => zret r3
def s_X0_next (K : ZK) (a1 : Option Nat) (a2 : Int32) (a3 : Option Nat) : ZP Int32 :=
  zcallVT a1 24 (fun y0 => s_X1_next K y0 a2) [(2, zret (1 : Int32))] fun r2 => zastJ a3 (0 : Int32) r2.toInt64 (zret (0 : Int32))
def s_X9_init (K : ZK) (this : Nat) (a1 : Option Nat) (a2 : Int32) : ZP Unit :=
  zputR (some this) 41 1 a1 (zputI (some this) 41 0 a2 (zret ()))
def s_X2_round (K : ZK) (this : Nat) (a1 : Int32) : ZP (Option Nat) :=
  znew K 41 2 [.int 0, .null] fun q1 => zcall (s_X9_init K q1 (some this) a1) fun _ => zret (some q1)
def s_X10_init (K : ZK) (this : Nat) (a1 : Option Nat) : ZP Unit :=
  zputR (some this) 25 2 a1 (zgetR (some this) 25 2 fun v1 => zgetI v1 41 0 fun v2 => zputI (some this) 25 0 v2 (zret ()))
def s_X9_iterator (K : ZK) (this : Nat) : ZP (Option Nat) :=
  znew K 25 3 [.int 0, .int 0, .null] fun q1 => zcall (s_X10_init K q1 (some this)) fun _ => zret (some q1)
def s_X10_hasNext (K : ZK) (this : Nat) : ZP Int32 :=
  zgetI (some this) 25 1 fun v1 => zgetR (some this) 25 2 fun v2 => zgetR v2 41 1 fun v3 => zgetR v3 34 0 fun v4 => zcallV v4 0 (fun y0 => s_J1_size K y0) fun r5 => zif (r5 ≤ v1) (zret (0 : Int32)) (zret (1 : Int32))
def s_X10_next_2 (K : ZK) (this : Nat) : ZP (Option Nat) :=
  zgetR (some this) 25 2 fun v1 => zgetR v1 41 1 fun v2 => zgetI (some this) 25 0 fun v3 => zcallV v2 34 (fun y0 => s_X2_next K y0 v3) fun r4 => zputI (some this) 25 0 r4 (zgetI (some this) 25 1 fun v5 => zputI (some this) 25 1 (v5 + (1 : Int32)) (zgetR (some this) 25 2 fun v6 => zgetR v6 41 1 fun v7 => zgetR v7 34 0 fun v8 => zgetI (some this) 25 0 fun v9 => zcall (s_J13_valueOf K v9) fun r10 => zcallV v8 0 (fun y0 => s_J1_get K y0 r10) fun r11 => zcast r11 [37] (zret r11)))
def s_X10_next (K : ZK) (this : Nat) : ZP (Option Nat) :=
  zcallV (some this) 25 (fun y0 => s_X10_next_2 K y0) fun r1 => zret r1
def s_X1_steps_B46 (K : ZK) (x2 : Int32) (x4 : Option Nat) (self46 : Int32 → ZP Int32) (x3 : Int32) : ZP Int32 :=
  zcallV x4 25 (fun y0 => s_X10_hasNext K y0) fun r5 => zif (r5 = 0) (zret x3) (zcallV x4 25 (fun y0 => s_X10_next K y0) fun r6 => zcast r6 [37] (zgetI r6 37 0 fun v7 => zif (v7 = x2) (zret (x3 + (1 : Int32))) (self46 (x3 + (1 : Int32)))))
def s_X1_steps_L46 (K : ZK) (x2 : Int32) (x4 : Option Nat) : Int32 → ZP Int32 := zloop (fun self46 v => s_X1_steps_B46 K x2 x4 self46 v)
def s_X1_steps_J21 (K : ZK) (x0 : Nat) (x1 : Int32) (x2 : Int32) (t0 : Int32) : ZP Int32 :=
  zcall (s_X1_checkIndex K t0) fun _ => zif (x1 = x2) (zret (0 : Int32)) (zgetR (some x0) 24 0 fun v2 => zcallV v2 34 (fun y0 => s_X2_round K y0 x1) fun r3 => zcallV r3 41 (fun y0 => s_X9_iterator K y0) fun r4 => s_X1_steps_L46 K x2 r4 (0 : Int32))
def s_X1_steps_J20 (K : ZK) (x0 : Nat) (x1 : Int32) (x2 : Int32) : ZP Int32 :=
  s_X1_steps_J21 K x0 x1 x2 (0 : Int32)
def s_X1_steps (K : ZK) (this : Nat) (a1 : Int32) (a2 : Int32) : ZP Int32 :=
  zcallV (some this) 24 (fun y0 => s_X1_isStation K y0 a1) fun r1 => zif (r1 = 0) (s_X1_steps_J20 K this a1 a2) (zcallV (some this) 24 (fun y0 => s_X1_isStation K y0 a2) fun r8 => zif (r8 = 0) (s_X1_steps_J20 K this a1 a2) (s_X1_steps_J21 K this a1 a2 (1 : Int32)))
def s_X0_steps (K : ZK) (a1 : Option Nat) (a2 : Int32) (a3 : Int32) (a4 : Option Nat) : ZP Int32 :=
  zcallVT a1 24 (fun y0 => s_X1_steps K y0 a2 a3) [(2, zret (1 : Int32))] fun r2 => zastJ a4 (0 : Int32) r2.toInt64 (zret (0 : Int32))
def s_J0_init__J43 (K : ZK) (this : Nat) : ZP Unit :=
  zret ()
def s_J42_init__J43_J58 (K : ZK) (x0 : Nat) (x1 : Option Nat) (x2 : Int32) (x3 : Option Nat) (x4 : Int32) (x5 : Int32) (x6 : Option Nat) (x7 : Int32) : ZP Unit :=
  zputR (some x0) 18 0 x1 (zputT .boolean (some x0) 18 3 x2 (zputR (some x0) 18 1 x3 (zputT .boolean (some x0) 18 5 x4 (zputT .boolean (some x0) 18 4 x5 (zputR (some x0) 18 2 x6 (zputT .boolean (some x0) 18 6 x7 (zret ())))))))
def s_J42_init__J43_J44 (K : ZK) (x0 : Nat) (x1 : Option Nat) (x2 : Int32) (x3 : Option Nat) (x4 : Int32) (x5 : Int32) (x6 : Option Nat) (x7 : Int32) : ZP Unit :=
  zif (x5 = 0) (zcallV x1 0 (fun y0 => s_J1_compare K y0 x6 x6) fun r3 => s_J42_init__J43_J58 K x0 x1 x2 x3 x4 x5 x6 x7) (s_J42_init__J43_J58 K x0 x1 x2 x3 x4 x5 x6 x7)
def s_J42_init__J43_J33 (K : ZK) (x0 : Nat) (x1 : Option Nat) (x2 : Int32) (x3 : Option Nat) (x4 : Int32) (x5 : Int32) (x6 : Option Nat) (x7 : Int32) : ZP Unit :=
  zif (x2 = 0) (zcallV x1 0 (fun y0 => s_J1_compare K y0 x3 x3) fun r2 => s_J42_init__J43_J44 K x0 x1 x2 x3 x4 x5 x6 x7) (s_J42_init__J43_J44 K x0 x1 x2 x3 x4 x5 x6 x7)
def s_J42_init__J43 (K : ZK) (this : Nat) (a1 : Option Nat) (a2 : Int32) (a3 : Option Nat) (a4 : Int32) (a5 : Int32) (a6 : Option Nat) (a7 : Int32) : ZP Unit :=
  zcall (s_J0_init__J43 K this) fun _ => zif (a2 = 0) (zif (a5 = 0) (zcallV a1 0 (fun y0 => s_J1_compare K y0 a3 a6) fun r1 => zif (r1 ≤ 0) (s_J42_init__J43_J58 K this a1 a2 a3 a4 a5 a6 a7) (zbad)) (s_J42_init__J43_J33 K this a1 a2 a3 a4 a5 a6 a7)) (s_J42_init__J43_J33 K this a1 a2 a3 a4 a5 a6 a7)
def s_J43_init (K : ZK) (this : Nat) (a1 : Option Nat) (a2 : Int32) (a3 : Option Nat) (a4 : Int32) (a5 : Int32) (a6 : Option Nat) (a7 : Int32) : ZP Unit :=
  zcall (s_J42_init__J43 K this a1 a2 a3 a4 a5 a6 a7) fun _ => zret ()
def s_J1_headMap_2 (K : ZK) (this : Nat) (a1 : Option Nat) (a2 : Int32) : ZP (Option Nat) :=
  znew K 18 12 [.null, .null, .null, .int 0, .int 0, .int 0, .int 0, .null, .null, .null, .null, .null] fun q1 => zcall (s_J43_init K q1 (some this) (1 : Int32) none (1 : Int32) (0 : Int32) a1 a2) fun _ => zret (some q1)
def s_J1_headMap (K : ZK) (this : Nat) (a1 : Option Nat) : ZP (Option Nat) :=
  zcallV (some this) 0 (fun y0 => s_J1_headMap_2 K y0 a1 (0 : Int32)) fun r1 => zret r1
def s_J2_init__J40 (K : ZK) (this : Nat) : ZP Unit :=
  zret ()
def s_J37_init__J40 (K : ZK) (this : Nat) : ZP Unit :=
  zcall (s_J2_init__J40 K this) fun _ => zret ()
def s_J39_init__J40 (K : ZK) (this : Nat) (a1 : Option Nat) : ZP Unit :=
  zputR (some this) 16 2 a1 (zcall (s_J37_init__J40 K this) fun _ => zputI (some this) 16 0 (-1 : Int32) (zret ()))
def s_J40_init (K : ZK) (this : Nat) (a1 : Option Nat) : ZP Unit :=
  zputR (some this) 16 3 a1 (zcall (s_J39_init__J40 K this a1) fun _ => zret ())
def s_J43_entrySet (K : ZK) (this : Nat) : ZP (Option Nat) :=
  zgetR (some this) 18 8 fun v1 => zif (v1 = none) (znew K 16 4 [.int 0, .int 0, .null, .null] fun q2 => zcall (s_J40_init K q2 (some this)) fun _ => zputR (some this) 18 8 (some q2) (zret (some q2))) (zret v1)
def s_J42_tooHigh__J43 (K : ZK) (this : Nat) (a1 : Option Nat) : ZP Int32 :=
  zgetI (some this) 18 4 fun v1 => zif (v1 = 0) (zgetR (some this) 18 0 fun v2 => zgetR (some this) 18 2 fun v3 => zcallV v2 0 (fun y0 => s_J1_compare K y0 a1 v3) fun r4 => zif (0 < r4) (zret (1 : Int32)) (zif (r4 = 0) (zgetI (some this) 18 6 fun v5 => zif (v5 = 0) (zret (1 : Int32)) (zret (0 : Int32))) (zret (0 : Int32)))) (zret (0 : Int32))
def s_J1_getCeilingEntry_B68 (K : ZK) (self68 : (Option Nat × Option Nat) → ZP (Option Nat)) (x4 : Option Nat) (x5 : Option Nat) : ZP (Option Nat) :=
  zif (x4 = none) (zret x4) (zgetR x4 12 3 fun v6 => zif (x5 = v6) (zgetR x4 12 4 fun v7 => self68 (v7, x4)) (zret x4))
def s_J1_getCeilingEntry_L68 (K : ZK) : (Option Nat × Option Nat) → ZP (Option Nat) := zloop (fun self68 v => s_J1_getCeilingEntry_B68 K self68 v.1 v.2)
def s_J1_getCeilingEntry_B5 (K : ZK) (x0 : Nat) (x1 : Option Nat) (self5 : (Option Nat) → ZP (Option Nat)) (x2 : Option Nat) : ZP (Option Nat) :=
  zif (x2 = none) (zret none) (zgetR x2 12 0 fun v2 => zcallV (some x0) 0 (fun y0 => s_J1_compare K y0 x1 v2) fun r3 => zif (0 ≤ r3) (zif (r3 ≤ 0) (zret x2) (zgetR x2 12 3 fun v4 => zif (v4 = none) (zgetR x2 12 4 fun v5 => s_J1_getCeilingEntry_L68 K (v5, x2)) (zgetR x2 12 3 fun v8 => self5 v8))) (zgetR x2 12 2 fun v9 => zif (v9 = none) (zret x2) (zgetR x2 12 2 fun v10 => self5 v10)))
def s_J1_getCeilingEntry_L5 (K : ZK) (x0 : Nat) (x1 : Option Nat) : (Option Nat) → ZP (Option Nat) := zloop (fun self5 v => s_J1_getCeilingEntry_B5 K x0 x1 self5 v)
def s_J1_getCeilingEntry (K : ZK) (this : Nat) (a1 : Option Nat) : ZP (Option Nat) :=
  zgetR (some this) 0 3 fun v1 => s_J1_getCeilingEntry_L5 K this a1 v1
def s_J42_absLowest__J43_J49 (K : ZK) (x0 : Nat) (t0 : Option Nat) : ZP (Option Nat) :=
  zif (t0 = none) (zret none) (zgetR t0 12 0 fun v6 => zcallV (some x0) 18 (fun y0 => s_J42_tooHigh__J43 K y0 v6) fun r7 => zif (r7 = 0) (zret t0) (zret none))
def s_J42_absLowest__J43 (K : ZK) (this : Nat) : ZP (Option Nat) :=
  zgetI (some this) 18 3 fun v1 => zif (v1 = 0) (zgetI (some this) 18 5 fun v2 => zif (v2 = 0) (zgetR (some this) 18 0 fun v3 => zgetR (some this) 18 1 fun v4 => zcallV v3 0 (fun y0 => s_J1_getHigherEntry K y0 v4) fun r5 => s_J42_absLowest__J43_J49 K this r5) (zgetR (some this) 18 0 fun v8 => zgetR (some this) 18 1 fun v9 => zcallV v8 0 (fun y0 => s_J1_getCeilingEntry K y0 v9) fun r10 => s_J42_absLowest__J43_J49 K this r10)) (zgetR (some this) 18 0 fun v11 => zcallV v11 0 (fun y0 => s_J1_getFirstEntry K y0) fun r12 => s_J42_absLowest__J43_J49 K this r12)
def s_J42_absHighFence__J43 (K : ZK) (this : Nat) : ZP (Option Nat) :=
  zgetI (some this) 18 4 fun v1 => zif (v1 = 0) (zgetI (some this) 18 6 fun v2 => zif (v2 = 0) (zgetR (some this) 18 0 fun v3 => zgetR (some this) 18 2 fun v4 => zcallV v3 0 (fun y0 => s_J1_getCeilingEntry K y0 v4) fun r5 => zret r5) (zgetR (some this) 18 0 fun v6 => zgetR (some this) 18 2 fun v7 => zcallV v6 0 (fun y0 => s_J1_getHigherEntry K y0 v7) fun r8 => zret r8)) (zret none)
def s_J24_init__J25_J45 (K : ZK) (t0 : Option Nat) (t1 : Nat) : ZP Unit :=
  zputR (some t1) 6 2 t0 (zret ())
def s_J24_init__J25 (K : ZK) (this : Nat) (a1 : Option Nat) (a2 : Option Nat) (a3 : Option Nat) : ZP Unit :=
  zputR (some this) 6 4 a1 (zgetR a1 18 0 fun v1 => zgetI v1 0 5 fun v2 => zputI (some this) 6 3 v2 (zputR (some this) 6 0 none (zputR (some this) 6 1 a2 (zif (a3 = none) (s_J24_init__J25_J45 K (some (K.1 4)) this) (zgetR a3 12 0 fun v3 => s_J24_init__J25_J45 K v3 this)))))
def s_J25_init (K : ZK) (this : Nat) (a1 : Option Nat) (a2 : Option Nat) (a3 : Option Nat) : ZP Unit :=
  zcall (s_J24_init__J25 K this a1 a2 a3) fun _ => zret ()
def s_J40_iterator (K : ZK) (this : Nat) : ZP (Option Nat) :=
  znew K 6 5 [.null, .null, .null, .int 0, .null] fun q1 => zgetR (some this) 16 3 fun v2 => zgetR (some this) 16 3 fun v3 => zcallV v3 18 (fun y0 => s_J42_absLowest__J43 K y0) fun r4 => zgetR (some this) 16 3 fun v5 => zcallV v5 18 (fun y0 => s_J42_absHighFence__J43 K y0) fun r6 => zcall (s_J25_init K q1 v2 r4 r6) fun _ => zret (some q1)
def s_J24_hasNext__J25 (K : ZK) (this : Nat) : ZP Int32 :=
  zgetR (some this) 6 1 fun v1 => zif (v1 = none) (zret (0 : Int32)) (zgetR (some this) 6 1 fun v2 => zgetR v2 12 0 fun v3 => zgetR (some this) 6 2 fun v4 => zif (v3 = v4) (zret (0 : Int32)) (zret (1 : Int32)))
def s_J24_nextEntry__J25 (K : ZK) (this : Nat) : ZP (Option Nat) :=
  zgetR (some this) 6 1 fun v1 => zif (v1 = none) (zbad) (zgetR v1 12 0 fun v2 => zgetR (some this) 6 2 fun v3 => zif (v2 = v3) (zbad) (zgetR (some this) 6 4 fun v4 => zgetR v4 18 0 fun v5 => zgetI v5 0 5 fun v6 => zgetI (some this) 6 3 fun v7 => zif (v6 = v7) (zcall (s_J1_successor K v1) fun r8 => zputR (some this) 6 1 r8 (zputR (some this) 6 0 v1 (zret v1))) (zbad)))
def s_J25_next_2 (K : ZK) (this : Nat) : ZP (Option Nat) :=
  zcallV (some this) 6 (fun y0 => s_J24_nextEntry__J25 K y0) fun r1 => zret r1
def s_J25_next (K : ZK) (this : Nat) : ZP (Option Nat) :=
  zcallV (some this) 6 (fun y0 => s_J25_next_2 K y0) fun r1 => zret r1
def s_J39_size__J40_J109 (K : ZK) (x0 : Nat) : ZP Int32 :=
  zgetI (some x0) 16 0 fun v9 => zret v9
def s_J39_size__J40_B80 (K : ZK) (x0 : Nat) (x1 : Option Nat) (self80 : Unit → ZP Int32) : ZP Int32 :=
  zcallV x1 6 (fun y0 => s_J24_hasNext__J25 K y0) fun r8 => zif (r8 = 0) (s_J39_size__J40_J109 K x0) (zgetI (some x0) 16 0 fun v10 => zputI (some x0) 16 0 (v10 + (1 : Int32)) (zcallV x1 6 (fun y0 => s_J25_next K y0) fun r11 => self80 ()))
def s_J39_size__J40_L80 (K : ZK) (x0 : Nat) (x1 : Option Nat) : Unit → ZP Int32 := zloop (fun self80 v => s_J39_size__J40_B80 K x0 x1 self80)
def s_J39_size__J40_J56 (K : ZK) (x0 : Nat) : ZP Int32 :=
  zgetR (some x0) 16 2 fun v4 => zgetR v4 18 0 fun v5 => zgetI v5 0 5 fun v6 => zputI (some x0) 16 1 v6 (zputI (some x0) 16 0 (0 : Int32) (zcallV (some x0) 16 (fun y0 => s_J40_iterator K y0) fun r7 => s_J39_size__J40_L80 K x0 r7 ()))
def s_J39_size__J40_J31 (K : ZK) (x0 : Nat) : ZP Int32 :=
  zgetI (some x0) 16 0 fun v3 => zif (v3 = (-1 : Int32)) (s_J39_size__J40_J56 K x0) (zgetI (some x0) 16 1 fun v12 => zgetR (some x0) 16 2 fun v13 => zgetR v13 18 0 fun v14 => zgetI v14 0 5 fun v15 => zif (v12 = v15) (s_J39_size__J40_J109 K x0) (s_J39_size__J40_J56 K x0))
def s_J39_size__J40 (K : ZK) (this : Nat) : ZP Int32 :=
  zgetR (some this) 16 2 fun v1 => zgetI v1 18 3 fun v2 => zif (v2 = 0) (s_J39_size__J40_J31 K this) (zgetR (some this) 16 2 fun v16 => zgetI v16 18 4 fun v17 => zif (v17 = 0) (s_J39_size__J40_J31 K this) (zgetR (some this) 16 2 fun v18 => zgetR v18 18 0 fun v19 => zcallV v19 0 (fun y0 => s_J1_size K y0) fun r20 => zret r20))
def s_J42_size__J43_J24 (K : ZK) (x0 : Nat) : ZP Int32 :=
  zcallV (some x0) 18 (fun y0 => s_J43_entrySet K y0) fun r2 => zcallV r2 16 (fun y0 => s_J39_size__J40 K y0) fun r3 => zret r3
def s_J42_size__J43 (K : ZK) (this : Nat) : ZP Int32 :=
  zgetI (some this) 18 3 fun v1 => zif (v1 = 0) (s_J42_size__J43_J24 K this) (zgetI (some this) 18 4 fun v4 => zif (v4 = 0) (s_J42_size__J43_J24 K this) (zgetR (some this) 18 0 fun v5 => zcallV v5 0 (fun y0 => s_J1_size K y0) fun r6 => zret r6))
def s_X1_placeOf (K : ZK) (this : Nat) (a1 : Int32) : ZP Int32 :=
  zgetR (some this) 24 0 fun v1 => zgetR v1 34 0 fun v2 => zcall (s_J13_valueOf K a1) fun r3 => zcallV v2 0 (fun y0 => s_J1_headMap K y0 r3) fun r4 => zcallV r4 18 (fun y0 => s_J42_size__J43 K y0) fun r304 => zret r304
def s_X1_stepsAgain_J21 (K : ZK) (x0 : Nat) (x1 : Int32) (x2 : Int32) (t0 : Int32) : ZP Int32 :=
  zcall (s_X1_checkIndex K t0) fun _ => zcallV (some x0) 24 (fun y0 => s_X1_placeOf K y0 x2) fun r2 => zcallV (some x0) 24 (fun y0 => s_X1_placeOf K y0 x1) fun r3 => zif (0 ≤ (r2 - r3)) (zret (r2 - r3)) (zgetR (some x0) 24 0 fun v4 => zgetR v4 34 0 fun v5 => zcallV v5 0 (fun y0 => s_J1_size K y0) fun r6 => zret ((r2 - r3) + r6))
def s_X1_stepsAgain_J20 (K : ZK) (x0 : Nat) (x1 : Int32) (x2 : Int32) : ZP Int32 :=
  s_X1_stepsAgain_J21 K x0 x1 x2 (0 : Int32)
def s_X1_stepsAgain (K : ZK) (this : Nat) (a1 : Int32) (a2 : Int32) : ZP Int32 :=
  zcallV (some this) 24 (fun y0 => s_X1_isStation K y0 a1) fun r1 => zif (r1 = 0) (s_X1_stepsAgain_J20 K this a1 a2) (zcallV (some this) 24 (fun y0 => s_X1_isStation K y0 a2) fun r7 => zif (r7 = 0) (s_X1_stepsAgain_J20 K this a1 a2) (s_X1_stepsAgain_J21 K this a1 a2 (1 : Int32)))
def s_X0_stepsAgain (K : ZK) (a1 : Option Nat) (a2 : Int32) (a3 : Int32) (a4 : Option Nat) : ZP Int32 :=
  zcallVT a1 24 (fun y0 => s_X1_stepsAgain K y0 a2 a3) [(2, zret (1 : Int32))] fun r2 => zastJ a4 (0 : Int32) r2.toInt64 (zret (0 : Int32))
def s_X1_isAddress (K : ZK) (a1 : Int32) : ZP Int32 :=
  zcall (s_X1_isBetween K a1 (0 : Int32) (99 : Int32)) fun r1 => zasg (narrow .boolean (.int r1) = .int r1) (zret r1)
def s_X1_isInRing (K : ZK) (this : Nat) (a1 : Int32) : ZP Int32 :=
  zcall (s_X1_isAddress K a1) fun r1 => zcall (s_X1_check K r1) fun _ => zcallV (some this) 24 (fun y0 => s_X1_isStation K y0 a1) fun r2 => zasg (narrow .boolean (.int r2) = .int r2) (zret r2)
def s_X0_isInRing_J15 (K : ZK) (t0 : Int64) (t1 : Int32) (t2 : Option Nat) : ZP Int32 :=
  zastJ t2 t1 t0 (zret (0 : Int32))
def s_X0_isInRing (K : ZK) (a1 : Option Nat) (a2 : Int32) (a3 : Option Nat) : ZP Int32 :=
  zcallVT a1 24 (fun y0 => s_X1_isInRing K y0 a2) [(1, zret (1 : Int32))] fun r2 => zif (r2 = 0) (s_X0_isInRing_J15 K (0 : Int64) (0 : Int32) a3) (s_X0_isInRing_J15 K (1 : Int64) (0 : Int32) a3)
def s_X2_canTake (K : ZK) (this : Nat) (a1 : Option Nat) : ZP Int32 :=
  zgetI (some this) 34 1 fun v1 => zif (v1 = (1 : Int32)) (zcallV a1 37 (fun y0 => s_X5_rank K y0) fun r2 => zgetI (some this) 34 3 fun v3 => zif (r2 < v3) (zret (0 : Int32)) (zret (1 : Int32))) (zret (0 : Int32))
def s_X1_canTake (K : ZK) (this : Nat) (a1 : Int32) : ZP Int32 :=
  zgetR (some this) 24 0 fun v1 => zcallV (some this) 24 (fun y0 => s_X1_station0 K y0 a1) fun r2 => zcallV v1 34 (fun y0 => s_X2_canTake K y0 r2) fun r3 => zasg (narrow .boolean (.int r3) = .int r3) (zret r3)
def s_X0_canTake_J15 (K : ZK) (t0 : Int64) (t1 : Int32) (t2 : Option Nat) : ZP Int32 :=
  zastJ t2 t1 t0 (zret (0 : Int32))
def s_X0_canTake (K : ZK) (a1 : Option Nat) (a2 : Int32) (a3 : Option Nat) : ZP Int32 :=
  zcallVT a1 24 (fun y0 => s_X1_canTake K y0 a2) [(2, zret (1 : Int32))] fun r2 => zif (r2 = 0) (s_X0_canTake_J15 K (0 : Int64) (0 : Int32) a3) (s_X0_canTake_J15 K (1 : Int64) (0 : Int32) a3)
def s_X1_whoTakes_B37 (K : ZK) (x0 : Nat) (x1 : Option Nat) (self37 : Unit → ZP Int32) : ZP Int32 :=
  zcallV x1 25 (fun y0 => s_X10_hasNext K y0) fun r8 => zif (r8 = 0) (zthrow 3) (zcallV x1 25 (fun y0 => s_X10_next K y0) fun r9 => zcast r9 [37] (zgetR (some x0) 24 0 fun v10 => zcallV v10 34 (fun y0 => s_X2_canTake K y0 r9) fun r11 => zif (r11 = 0) (self37 ()) (zgetI r9 37 0 fun v12 => zret v12)))
def s_X1_whoTakes_L37 (K : ZK) (x0 : Nat) (x1 : Option Nat) : Unit → ZP Int32 := zloop (fun self37 v => s_X1_whoTakes_B37 K x0 x1 self37)
def s_X1_whoTakes_J16 (K : ZK) (x0 : Nat) (t0 : Int32) : ZP Int32 :=
  zcall (s_X1_checkElement K t0) fun _ => zgetR (some x0) 24 0 fun v3 => zgetR (some x0) 24 0 fun v4 => zgetI v4 34 2 fun v5 => zcallV v3 34 (fun y0 => s_X2_round K y0 v5) fun r6 => zcallV r6 41 (fun y0 => s_X9_iterator K y0) fun r7 => s_X1_whoTakes_L37 K x0 r7 ()
def s_X1_whoTakes (K : ZK) (this : Nat) : ZP Int32 :=
  zgetR (some this) 24 0 fun v1 => zgetI v1 34 1 fun v2 => zif (v2 = (1 : Int32)) (s_X1_whoTakes_J16 K this (1 : Int32)) (s_X1_whoTakes_J16 K this (0 : Int32))
def s_X0_whoTakes (K : ZK) (a1 : Option Nat) (a2 : Option Nat) : ZP Int32 :=
  zcallVT a1 24 (fun y0 => s_X1_whoTakes K y0) [(3, zret (1 : Int32))] fun r2 => zastJ a2 (0 : Int32) r2.toInt64 (zret (0 : Int32))
def s_X1_receivedIn_J82 (K : ZK) (x3 : Option Nat) (x4 : Int32) : ZP Int32 :=
  zgetI x3 34 24 fun v5 => zcall (s_X1_checkElement K v5) fun _ => zret x4
def s_X1_receivedIn_B57 (K : ZK) (x3 : Option Nat) (self57 : Int32 → ZP Int32) (x4 : Int32) : ZP Int32 :=
  zif ((200 : Int32) ≤ x4) (s_X1_receivedIn_J82 K x3 x4) (zgetI x3 34 24 fun v6 => zif (v6 = 0) (zcallV x3 34 (fun y0 => s_X2_goesBy K y0) fun _ => self57 (x4 + (1 : Int32))) (s_X1_receivedIn_J82 K x3 x4))
def s_X1_receivedIn_L57 (K : ZK) (x3 : Option Nat) : Int32 → ZP Int32 := zloop (fun self57 v => s_X1_receivedIn_B57 K x3 self57 v)
def s_X1_receivedIn_J38 (K : ZK) (x0 : Nat) (x1 : Int32) (t0 : Int32) : ZP Int32 :=
  zcall (s_X1_checkElement K t0) fun _ => zgetR (some x0) 24 0 fun v3 => zcallV v3 34 (fun y0 => s_X2_copy K y0) fun r4 => zputI r4 34 23 x1 (s_X1_receivedIn_L57 K r4 (0 : Int32))
def s_X1_receivedIn_J37 (K : ZK) (x0 : Nat) (x1 : Int32) : ZP Int32 :=
  s_X1_receivedIn_J38 K x0 x1 (0 : Int32)
def s_X1_receivedIn (K : ZK) (this : Nat) (a1 : Int32) : ZP Int32 :=
  zgetR (some this) 24 0 fun v1 => zcallV v1 34 (fun y0 => s_X2_whereIs K y0 a1) fun r2 => zif (r2 = (-1 : Int32)) (s_X1_receivedIn_J37 K this a1) (zif (r2 = (100 : Int32)) (zgetR (some this) 24 0 fun v7 => zgetR v7 34 5 fun v8 => zgetI v8 38 3 fun v9 => zif (v9 = 0) (s_X1_receivedIn_J38 K this a1 (1 : Int32)) (s_X1_receivedIn_J37 K this a1)) (s_X1_receivedIn_J38 K this a1 (1 : Int32)))
def s_X0_receivedIn (K : ZK) (a1 : Option Nat) (a2 : Int32) (a3 : Option Nat) : ZP Int32 :=
  zcallVT a1 24 (fun y0 => s_X1_receivedIn K y0 a2) [(3, zret (1 : Int32))] fun r2 => zastJ a3 (0 : Int32) r2.toInt64 (zret (0 : Int32))
def s_X1_tokenIn_J71 (K : ZK) (x3 : Int32) (t0 : Int32) : ZP Int32 :=
  zcall (s_X1_checkElement K t0) fun _ => zret x3
def s_X1_tokenIn_J70 (K : ZK) (x3 : Int32) : ZP Int32 :=
  s_X1_tokenIn_J71 K x3 (0 : Int32)
def s_X1_tokenIn_J50 (K : ZK) (x1 : Int32) (x2 : Option Nat) (x3 : Int32) : ZP Int32 :=
  zgetI x2 34 1 fun v4 => zif (v4 = (1 : Int32)) (zgetI x2 34 2 fun v5 => zif (v5 = x1) (s_X1_tokenIn_J71 K x3 (1 : Int32)) (s_X1_tokenIn_J70 K x3)) (s_X1_tokenIn_J70 K x3)
def s_X1_tokenIn_J40 (K : ZK) (x1 : Int32) (x2 : Option Nat) (x3 : Int32) (self18 : Int32 → ZP Int32) : ZP Int32 :=
  zcallV x2 34 (fun y0 => s_X2_goesBy K y0) fun _ => self18 (x3 + (1 : Int32))
def s_X1_tokenIn_B18 (K : ZK) (x1 : Int32) (x2 : Option Nat) (self18 : Int32 → ZP Int32) (x3 : Int32) : ZP Int32 :=
  zif ((100 : Int32) ≤ x3) (s_X1_tokenIn_J50 K x1 x2 x3) (zgetI x2 34 1 fun v6 => zif (v6 = (1 : Int32)) (zgetI x2 34 2 fun v7 => zif (v7 = x1) (s_X1_tokenIn_J50 K x1 x2 x3) (s_X1_tokenIn_J40 K x1 x2 x3 self18)) (s_X1_tokenIn_J40 K x1 x2 x3 self18))
def s_X1_tokenIn_L18 (K : ZK) (x1 : Int32) (x2 : Option Nat) : Int32 → ZP Int32 := zloop (fun self18 v => s_X1_tokenIn_B18 K x1 x2 self18 v)
def s_X1_tokenIn (K : ZK) (this : Nat) (a1 : Int32) : ZP Int32 :=
  zcallV (some this) 24 (fun y0 => s_X1_isStation K y0 a1) fun r1 => zcall (s_X1_checkIndex K r1) fun _ => zgetR (some this) 24 0 fun v2 => zcallV v2 34 (fun y0 => s_X2_copy K y0) fun r3 => s_X1_tokenIn_L18 K a1 r3 (0 : Int32)
def s_X0_tokenIn (K : ZK) (a1 : Option Nat) (a2 : Int32) (a3 : Option Nat) : ZP Int32 :=
  zcallVT a1 24 (fun y0 => s_X1_tokenIn K y0 a2) [(2, zret (1 : Int32)), (3, zret (2 : Int32))] fun r3 => zastJ a3 (0 : Int32) r3.toInt64 (zret (0 : Int32))
def s_X1_ahead_B38 (K : ZK) (x1 : Int32) (x2 : Int32) (x3 : Option Nat) (self38 : Int32 → ZP Int32) (x4 : Int32) : ZP Int32 :=
  zif (x1 ≤ x4) (zsw x2 [((0 : Int32), zgetI x3 34 11 fun v4 => zret v4), ((1 : Int32), zcallV x3 34 (fun y0 => s_X2_waiting K y0) fun r5 => zret r5), ((2 : Int32), zcall (s_X1_onRingOf K x3 (0 : Int32)) fun r6 => zret r6), ((3 : Int32), zgetI x3 34 6 fun v7 => zret v7), ((4 : Int32), zgetI x3 34 7 fun v8 => zret v8)] (zgetI x3 34 13 fun v9 => zret v9)) (zcallV x3 34 (fun y0 => s_X2_goesBy K y0) fun _ => self38 (x4 + (1 : Int32)))
def s_X1_ahead_L38 (K : ZK) (x1 : Int32) (x2 : Int32) (x3 : Option Nat) : Int32 → ZP Int32 := zloop (fun self38 v => s_X1_ahead_B38 K x1 x2 x3 self38 v)
def s_X1_ahead_J24 (K : ZK) (x0 : Nat) (x1 : Int32) (x2 : Int32) (t0 : Int32) : ZP Int32 :=
  zcall (s_X1_check K t0) fun _ => zgetR (some x0) 24 0 fun v2 => zcallV v2 34 (fun y0 => s_X2_copy K y0) fun r3 => s_X1_ahead_L38 K x1 x2 r3 (0 : Int32)
def s_X1_ahead_J23 (K : ZK) (x0 : Nat) (x1 : Int32) (x2 : Int32) : ZP Int32 :=
  s_X1_ahead_J24 K x0 x1 x2 (0 : Int32)
def s_X1_ahead (K : ZK) (this : Nat) (a1 : Int32) (a2 : Int32) : ZP Int32 :=
  zcall (s_X1_isBetween K a1 (0 : Int32) (60 : Int32)) fun r1 => zif (r1 = 0) (s_X1_ahead_J23 K this a1 a2) (zcall (s_X1_isBetween K a2 (0 : Int32) (5 : Int32)) fun r10 => zif (r10 = 0) (s_X1_ahead_J23 K this a1 a2) (s_X1_ahead_J24 K this a1 a2 (1 : Int32)))
def s_X0_ahead (K : ZK) (a1 : Option Nat) (a2 : Int32) (a3 : Int32) (a4 : Option Nat) : ZP Int32 :=
  zcallVT a1 24 (fun y0 => s_X1_ahead K y0 a2 a3) [(1, zret (1 : Int32))] fun r2 => zastJ a4 (0 : Int32) r2.toInt64 (zret (0 : Int32))
def s_X11_init (K : ZK) (this : Nat) (a1 : Option Nat) : ZP Unit :=
  zputR (some this) 26 0 a1 (zret ())
def s_X11_is (K : ZK) (this : Nat) (a1 : Option Nat) (a2 : Option Nat) : ZP Int32 :=
  zgetR a1 37 1 fun v1 => zcallV v1 11 (fun y0 => s_J31_size K y0) fun r2 => zgetR a2 37 1 fun v3 => zcallV v3 11 (fun y0 => s_J31_size K y0) fun r4 => zif (r2 = r4) (zcallV a1 37 (fun y0 => s_X5_lengths K y0) fun r5 => zcallV a2 37 (fun y0 => s_X5_lengths K y0) fun r6 => zif (r5 = r6) (zgetI a1 37 0 fun v7 => zgetI a2 37 0 fun v8 => zif (v8 ≤ v7) (zret (0 : Int32)) (zret (1 : Int32))) (zcallV a1 37 (fun y0 => s_X5_lengths K y0) fun r9 => zcallV a2 37 (fun y0 => s_X5_lengths K y0) fun r10 => zif (r9 ≤ r10) (zret (0 : Int32)) (zret (1 : Int32)))) (zgetR a1 37 1 fun v11 => zcallV v11 11 (fun y0 => s_J31_size K y0) fun r12 => zgetR a2 37 1 fun v13 => zcallV v13 11 (fun y0 => s_J31_size K y0) fun r14 => zif (r12 ≤ r14) (zret (0 : Int32)) (zret (1 : Int32)))
def s_X1_ranked_B85 (K : ZK) (x0 : Nat) (x1 : Int32) (x2 : Nat) (x3 : Option Nat) (x4 : Option Nat) (x6 : Option Nat) (self45 : Unit → ZP Int32) (self85 : Int32 → ZP Int32) (x5 : Int32) : ZP Int32 :=
  zcallV x6 8 (fun y0 => s_J26_hasNext__J28 K y0) fun r16 => zif (r16 = 0) (zif (x5 = x1) (zgetI x4 37 0 fun v17 => zret v17) (self45 ())) (zcallV x6 8 (fun y0 => s_J28_next K y0) fun r18 => zcast r18 [37] (zcallV (some x2) 26 (fun y0 => s_X11_is K y0 r18 x4) fun r19 => zcall (s_X1_of K r19) fun r20 => self85 (x5 + r20)))
def s_X1_ranked_L85 (K : ZK) (x0 : Nat) (x1 : Int32) (x2 : Nat) (x3 : Option Nat) (x4 : Option Nat) (x6 : Option Nat) (self45 : Unit → ZP Int32) : Int32 → ZP Int32 := zloop (fun self85 v => s_X1_ranked_B85 K x0 x1 x2 x3 x4 x6 self45 self85 v)
def s_X1_ranked_B45 (K : ZK) (x0 : Nat) (x1 : Int32) (x2 : Nat) (x3 : Option Nat) (self45 : Unit → ZP Int32) : ZP Int32 :=
  zcallV x3 8 (fun y0 => s_J26_hasNext__J28 K y0) fun r10 => zif (r10 = 0) (zthrow 3) (zcallV x3 8 (fun y0 => s_J28_next K y0) fun r11 => zcast r11 [37] (zgetR (some x0) 24 0 fun v12 => zgetR v12 34 0 fun v13 => zcallV v13 0 (fun y0 => s_J1_values K y0) fun r14 => zcallV r14 3 (fun y0 => s_J21_iterator K y0) fun r15 => s_X1_ranked_L85 K x0 x1 x2 x3 r11 r15 self45 (0 : Int32)))
def s_X1_ranked_L45 (K : ZK) (x0 : Nat) (x1 : Int32) (x2 : Nat) (x3 : Option Nat) : Unit → ZP Int32 := zloop (fun self45 v => s_X1_ranked_B45 K x0 x1 x2 x3 self45)
def s_X1_ranked (K : ZK) (this : Nat) (a1 : Int32) : ZP Int32 :=
  zgetR (some this) 24 0 fun v1 => zgetR v1 34 0 fun v2 => zcallV v2 0 (fun y0 => s_J1_size K y0) fun r3 => zcall (s_X1_isBetween K a1 (0 : Int32) (r3 - (1 : Int32))) fun r4 => zcall (s_X1_checkElement K r4) fun _ => znew K 26 1 [.null] fun q5 => zcall (s_X11_init K q5 (some this)) fun _ => zgetR (some this) 24 0 fun v6 => zgetR v6 34 0 fun v7 => zcallV v7 0 (fun y0 => s_J1_values K y0) fun r8 => zcallV r8 3 (fun y0 => s_J21_iterator K y0) fun r9 => s_X1_ranked_L45 K this a1 q5 r9 ()
def s_X0_ranked (K : ZK) (a1 : Option Nat) (a2 : Int32) (a3 : Option Nat) : ZP Int32 :=
  zcallVT a1 24 (fun y0 => s_X1_ranked K y0 a2) [(3, zret (1 : Int32))] fun r2 => zastJ a3 (0 : Int32) r2.toInt64 (zret (0 : Int32))
def s_X1_longestWait_J106 (K : ZK) (x1 : Option Nat) (t0 : Int32) : ZP Int32 :=
  zcall (s_X1_checkElement K t0) fun _ => zif (x1 = none) (zret (0 : Int32)) (zgetI x1 39 0 fun v6 => zret v6)
def s_X1_longestWait_J90 (K : ZK) (x2 : Option Nat) (x4 : Option Nat) (t0 : Option Nat) (self18 : (Option Nat) → ZP Int32) (self46 : (Option Nat) → ZP Int32) : ZP Int32 :=
  self46 t0
def s_X1_longestWait_B46 (K : ZK) (x2 : Option Nat) (x4 : Option Nat) (self18 : (Option Nat) → ZP Int32) (self46 : (Option Nat) → ZP Int32) (x1 : Option Nat) : ZP Int32 :=
  zcallV x4 5 (fun y0 => s_J23_hasNext K y0) fun r10 => zif (r10 = 0) (self18 x1) (zcallV x4 5 (fun y0 => s_J23_next K y0) fun r11 => zcast r11 [39] (zif (x1 = none) (s_X1_longestWait_J90 K x2 x4 r11 self18 self46) (zgetI r11 39 0 fun v12 => zgetI x1 39 0 fun v13 => zif (v13 ≤ v12) (s_X1_longestWait_J90 K x2 x4 x1 self18 self46) (s_X1_longestWait_J90 K x2 x4 r11 self18 self46))))
def s_X1_longestWait_L46 (K : ZK) (x2 : Option Nat) (x4 : Option Nat) (self18 : (Option Nat) → ZP Int32) : (Option Nat) → ZP Int32 := zloop (fun self46 v => s_X1_longestWait_B46 K x2 x4 self18 self46 v)
def s_X1_longestWait_B18 (K : ZK) (x2 : Option Nat) (self18 : (Option Nat) → ZP Int32) (x1 : Option Nat) : ZP Int32 :=
  zcallV x2 8 (fun y0 => s_J26_hasNext__J28 K y0) fun r5 => zif (r5 = 0) (zif (x1 = none) (s_X1_longestWait_J106 K x1 (0 : Int32)) (s_X1_longestWait_J106 K x1 (1 : Int32))) (zcallV x2 8 (fun y0 => s_J28_next K y0) fun r7 => zcast r7 [37] (zgetR r7 37 1 fun v8 => zcallV v8 11 (fun y0 => s_J31_iterator K y0) fun r9 => s_X1_longestWait_L46 K x2 r9 self18 x1))
def s_X1_longestWait_L18 (K : ZK) (x2 : Option Nat) : (Option Nat) → ZP Int32 := zloop (fun self18 v => s_X1_longestWait_B18 K x2 self18 v)
def s_X1_longestWait (K : ZK) (this : Nat) : ZP Int32 :=
  zgetR (some this) 24 0 fun v1 => zgetR v1 34 0 fun v2 => zcallV v2 0 (fun y0 => s_J1_values K y0) fun r3 => zcallV r3 3 (fun y0 => s_J21_iterator K y0) fun r4 => s_X1_longestWait_L18 K r4 none
def s_X0_longestWait (K : ZK) (a1 : Option Nat) (a2 : Option Nat) : ZP Int32 :=
  zcallVT a1 24 (fun y0 => s_X1_longestWait K y0) [(3, zret (1 : Int32))] fun r2 => zastJ a2 (0 : Int32) r2.toInt64 (zret (0 : Int32))
def s_X1_greatest_J82 (K : ZK) (x1 : Int32) (t0 : Int32) : ZP Int32 :=
  zcall (s_X1_checkElement K t0) fun _ => zret x1
def s_X1_greatest_J58 (K : ZK) (x2 : Int32) (x3 : Option Nat) (x4 : Option Nat) (t0 : Int32) (self20 : (Int32 × Int32) → ZP Int32) : ZP Int32 :=
  zcallV x4 37 (fun y0 => s_X5_rank K y0) fun r8 => zcall (s_J16_max K x2 r8) fun r9 => self20 (t0, r9)
def s_X1_greatest_B20 (K : ZK) (x3 : Option Nat) (self20 : (Int32 × Int32) → ZP Int32) (x1 : Int32) (x2 : Int32) : ZP Int32 :=
  zcallV x3 8 (fun y0 => s_J26_hasNext__J28 K y0) fun r5 => zif (r5 = 0) (zif (x1 = (-1 : Int32)) (s_X1_greatest_J82 K x1 (0 : Int32)) (s_X1_greatest_J82 K x1 (1 : Int32))) (zcallV x3 8 (fun y0 => s_J28_next K y0) fun r6 => zcast r6 [37] (zcallV r6 37 (fun y0 => s_X5_rank K y0) fun r7 => zif (r7 ≤ x2) (s_X1_greatest_J58 K x2 x3 r6 x1 self20) (zgetI r6 37 0 fun v10 => s_X1_greatest_J58 K x2 x3 r6 v10 self20)))
def s_X1_greatest_L20 (K : ZK) (x3 : Option Nat) : (Int32 × Int32) → ZP Int32 := zloop (fun self20 v => s_X1_greatest_B20 K x3 self20 v.1 v.2)
def s_X1_greatest (K : ZK) (this : Nat) : ZP Int32 :=
  zgetR (some this) 24 0 fun v1 => zgetR v1 34 0 fun v2 => zcallV v2 0 (fun y0 => s_J1_values K y0) fun r3 => zcallV r3 3 (fun y0 => s_J21_iterator K y0) fun r4 => s_X1_greatest_L20 K r4 ((-1 : Int32), (-1 : Int32))
def s_X0_greatest (K : ZK) (a1 : Option Nat) (a2 : Option Nat) : ZP Int32 :=
  zcallVT a1 24 (fun y0 => s_X1_greatest K y0) [(3, zret (1 : Int32))] fun r2 => zastJ a2 (0 : Int32) r2.toInt64 (zret (0 : Int32))
def s_J4_length__J5 (K : ZK) (this : Nat) : ZP Int32 :=
  zgetI (some this) 21 3 fun v1 => zret v1
def s_J5_length (K : ZK) (this : Nat) : ZP Int32 :=
  zcallV (some this) 21 (fun y0 => s_J4_length__J5 K y0) fun r1 => zret r1
def s_X1_checkState (K : ZK) (a1 : Int32) : ZP Unit :=
  zif (a1 = 0) (zthrow 4) (zret ())
def s_J4_newCapacity__J5 (K : ZK) (this : Nat) (a1 : Int32) : ZP Int32 :=
  zgetR (some this) 21 0 fun v1 => zlen v1 3 fun v2 => zgetI (some this) 21 1 fun v3 => zgetI (some this) 21 1 fun v4 => zcall (s_J17_newLength K v2 ((a1 <<< (v3 &&& 31)) - v2) (v2 + ((2 : Int32) <<< (v4 &&& 31)))) fun r5 => zif (r5 = (2147483647 : Int32)) (zbad) (zgetI (some this) 21 1 fun v6 => zret (r5 >>> (v6 &&& 31)))
def s_J32_copyOf (K : ZK) (a1 : Option Nat) (a2 : Int32) : ZP (Option Nat) :=
  zlen a1 3 fun v1 => zif (a2 = v1) (zbad) (znewA K 3 a2 (.inl (fun _ => 0)) fun q2 => zlen a1 3 fun v3 => zcall (s_J16_min K v3 a2) fun r4 => zcopyB K a1 (0 : Int32) (some q2) (0 : Int32) r4 (zret (some q2)))
def s_J4_ensureCapacityInternal__J5 (K : ZK) (this : Nat) (a1 : Int32) : ZP Unit :=
  zgetR (some this) 21 0 fun v1 => zlen v1 3 fun v2 => zgetI (some this) 21 1 fun v3 => zif ((a1 - (v2 >>> (v3 &&& 31))) ≤ 0) (zret ()) (zgetR (some this) 21 0 fun v4 => zcallV (some this) 21 (fun y0 => s_J4_newCapacity__J5 K y0 a1) fun r5 => zgetI (some this) 21 1 fun v6 => zcall (s_J32_copyOf K v4 (r5 <<< (v6 &&& 31))) fun r7 => zputR (some this) 21 0 r7 (zret ()))
def s_J4_isLatin1__J5 (K : ZK) (this : Nat) : ZP Int32 :=
  zif ((1 : Int32) = 0) (zbad) (zgetI (some this) 21 1 fun v1 => zif (v1 = 0) (zret (1 : Int32)) (zret (0 : Int32)))
def s_J15_canEncode (K : ZK) (a1 : Int32) : ZP Int32 :=
  zif ((255 : Int32) < a1) (zret (0 : Int32)) (zret (1 : Int32))
def s_J4_append_3__J5_J56 (K : ZK) (x0 : Nat) (x1 : Int32) : ZP (Option Nat) :=
  zgetR (some x0) 21 0 fun v4 => zgetI (some x0) 21 3 fun v5 => zputI (some x0) 21 3 (v5 + (1 : Int32)) (zbad)
def s_J4_append_3__J5_J45 (K : ZK) (x0 : Nat) (x1 : Int32) : ZP (Option Nat) :=
  zcallV (some x0) 21 (fun y0 => s_J4_isLatin1__J5 K y0) fun r3 => zif (r3 = 0) (s_J4_append_3__J5_J56 K x0 x1) (zbad)
def s_J4_append_3__J5 (K : ZK) (this : Nat) (a1 : Int32) : ZP (Option Nat) :=
  zgetI (some this) 21 3 fun v1 => zcallV (some this) 21 (fun y0 => s_J4_ensureCapacityInternal__J5 K y0 (v1 + (1 : Int32))) fun _ => zcallV (some this) 21 (fun y0 => s_J4_isLatin1__J5 K y0) fun r2 => zif (r2 = 0) (s_J4_append_3__J5_J45 K this a1) (zcall (s_J15_canEncode K a1) fun r6 => zif (r6 = 0) (s_J4_append_3__J5_J45 K this a1) (zgetR (some this) 21 0 fun v7 => zgetI (some this) 21 3 fun v8 => zputI (some this) 21 3 (v8 + (1 : Int32)) (zastB v7 v8 a1.toInt8.toInt32 (zret (some this)))))
def s_J5_append_3 (K : ZK) (this : Nat) (a1 : Int32) : ZP (Option Nat) :=
  zcallV (some this) 21 (fun y0 => s_J4_append_3__J5 K y0 a1) fun r1 => zret (some this)
def s_X1_append_J28 (K : ZK) (x0 : Nat) (x1 : Int32) (t0 : Int32) : ZP Int32 :=
  zcall (s_X1_checkState K t0) fun _ => zgetR (some x0) 24 3 fun v4 => zcallV v4 21 (fun y0 => s_J5_append_3 K y0 x1) fun r5 => zgetR (some x0) 24 3 fun v6 => zcallV v6 21 (fun y0 => s_J5_length K y0) fun r7 => zret r7
def s_X1_append (K : ZK) (this : Nat) (a1 : Int32) : ZP Int32 :=
  zcall (s_X1_isBetween K a1 (33 : Int32) (126 : Int32)) fun r1 => zcall (s_X1_check K r1) fun _ => zgetR (some this) 24 3 fun v2 => zcallV v2 21 (fun y0 => s_J5_length K y0) fun r3 => zif ((60 : Int32) ≤ r3) (s_X1_append_J28 K this a1 (0 : Int32)) (s_X1_append_J28 K this a1 (1 : Int32))
def s_X0_append (K : ZK) (a1 : Option Nat) (a2 : Int32) (a3 : Option Nat) : ZP Int32 :=
  zcallVT a1 24 (fun y0 => s_X1_append K y0 a2) [(1, zret (1 : Int32)), (4, zret (2 : Int32))] fun r3 => zastJ a3 (0 : Int32) r3.toInt64 (zret (0 : Int32))
def s_J4_getValue__J5 (K : ZK) (this : Nat) : ZP (Option Nat) :=
  zgetR (some this) 21 0 fun v1 => zret v1
def s_J32_checkLength (K : ZK) (a1 : Int32) (a2 : Int32) : ZP Unit :=
  zif (a1 ≤ a2) (zret ()) (zbad)
def s_J32_copyOfRangeByte (K : ZK) (a1 : Option Nat) (a2 : Int32) (a3 : Int32) : ZP (Option Nat) :=
  zcall (s_J32_checkLength K a2 a3) fun _ => znewA K 3 (a3 - a2) (.inl (fun _ => 0)) fun q1 => zlen a1 3 fun v2 => zcall (s_J16_min K (v2 - a2) (a3 - a2)) fun r3 => zcopyB K a1 a2 (some q1) (0 : Int32) r3 (zret (some q1))
def s_J32_copyOfRange_J10 (K : ZK) (x0 : Option Nat) (x1 : Int32) (x2 : Int32) : ZP (Option Nat) :=
  zcall (s_J32_copyOfRangeByte K x0 x1 x2) fun r2 => zret r2
def s_J32_copyOfRange (K : ZK) (a1 : Option Nat) (a2 : Int32) (a3 : Int32) : ZP (Option Nat) :=
  zif (a2 = 0) (zlen a1 3 fun v1 => zif (a3 = v1) (zbad) (s_J32_copyOfRange_J10 K a1 a2 a3)) (s_J32_copyOfRange_J10 K a1 a2 a3)
def s_J6_init_2_J79 (K : ZK) (x0 : Nat) (x3 : Option Nat) (x4 : Int32) : ZP Unit :=
  zputT .byte (some x0) 22 1 (1 : Int32) (zcall (s_J32_copyOfRange K x3 (0 : Int32) (x4 <<< ((1 : Int32) &&& 31))) fun r5 => zputR (some x0) 22 0 r5 (zret ()))
def s_J6_init_2 (K : ZK) (this : Nat) (a1 : Option Nat) (a2 : Option Nat) : ZP Unit :=
  zcallV a1 21 (fun y0 => s_J4_getValue__J5 K y0) fun r1 => zcallV a1 21 (fun y0 => s_J5_length K y0) fun r2 => zcallV a1 21 (fun y0 => s_J4_isLatin1__J5 K y0) fun r3 => zif (r3 = 0) (zif ((1 : Int32) = 0) (zbad) (zgetI a1 21 2 fun v4 => zif (v4 = 0) (s_J6_init_2_J79 K this r1 r2) (zbad))) (zputT .byte (some this) 22 1 (0 : Int32) (zcall (s_J32_copyOfRange K r1 (0 : Int32) r2) fun r6 => zputR (some this) 22 0 r6 (zret ())))
def s_J6_init (K : ZK) (this : Nat) (a1 : Option Nat) : ZP Unit :=
  zcall (s_J6_init_2 K this a1 none) fun _ => zret ()
def s_J5_toString (K : ZK) (this : Nat) : ZP (Option Nat) :=
  znew K 22 4 [.null, .int 0, .int 0, .int 0] fun q1 => zcall (s_J6_init K q1 (some this)) fun _ => zret (some q1)
def s_X12_init (K : ZK) (this : Nat) (a1 : Option Nat) (a2 : Option Nat) : ZP Unit :=
  zputR (some this) 27 4 a1 (znew K 11 3 [.int 0, .null, .int 0] fun q1 => zcall (s_J31_init K q1) fun _ => zputR (some this) 27 1 (some q1) (zputR (some this) 27 0 a2 (zret ())))
def s_J32_rangeCheck (K : ZK) (a1 : Int32) (a2 : Int32) (a3 : Int32) : ZP Unit :=
  zif (a2 ≤ a3) (zif (0 ≤ a2) (zif (a3 ≤ a1) (zret ()) (zbad)) (zbad)) (zbad)
def s_J32_fill_B10 (K : ZK) (x0 : Option Nat) (x2 : Int32) (x3 : Int32) (self10 : Int32 → ZP Unit) (x4 : Int32) : ZP Unit :=
  zif (x2 ≤ x4) (zret ()) (zastB x0 x4 x3 (self10 (x4 + (1 : Int32))))
def s_J32_fill_L10 (K : ZK) (x0 : Option Nat) (x2 : Int32) (x3 : Int32) : Int32 → ZP Unit := zloop (fun self10 v => s_J32_fill_B10 K x0 x2 x3 self10 v)
def s_J32_fill (K : ZK) (a1 : Option Nat) (a2 : Int32) (a3 : Int32) (a4 : Int32) : ZP Unit :=
  zlen a1 3 fun v1 => zcall (s_J32_rangeCheck K v1 a2 a3) fun _ => s_J32_fill_L10 K a1 a3 a4 a2
def s_J15_fillNull (K : ZK) (a1 : Option Nat) (a2 : Int32) (a3 : Int32) : ZP Unit :=
  zcall (s_J32_fill K a1 a2 a3 (0 : Int32)) fun _ => zret ()
def s_J4_setLength__J5_J76 (K : ZK) (x0 : Nat) (x1 : Int32) : ZP Unit :=
  zputI (some x0) 21 3 x1 (zret ())
def s_J4_setLength__J5 (K : ZK) (this : Nat) (a1 : Int32) : ZP Unit :=
  zif (0 ≤ a1) (zcallV (some this) 21 (fun y0 => s_J4_ensureCapacityInternal__J5 K y0 a1) fun _ => zgetI (some this) 21 3 fun v1 => zif (a1 ≤ v1) (zgetI (some this) 21 3 fun v2 => zif (v2 ≤ a1) (s_J4_setLength__J5_J76 K this a1) (zputT .boolean (some this) 21 2 (1 : Int32) (s_J4_setLength__J5_J76 K this a1))) (zcallV (some this) 21 (fun y0 => s_J4_isLatin1__J5 K y0) fun r3 => zif (r3 = 0) (zgetR (some this) 21 0 fun v4 => zgetI (some this) 21 3 fun v5 => zbad) (zgetR (some this) 21 0 fun v6 => zgetI (some this) 21 3 fun v7 => zcall (s_J15_fillNull K v6 v7 a1) fun _ => s_J4_setLength__J5_J76 K this a1))) (zbad)
def s_J5_setLength (K : ZK) (this : Nat) (a1 : Int32) : ZP Unit :=
  zcallV (some this) 21 (fun y0 => s_J4_setLength__J5 K y0 a1) fun _ => zret ()
def s_J6_coder (K : ZK) (this : Nat) : ZP Int32 :=
  zif ((1 : Int32) = 0) (zbad) (zgetIK K (some this) 22 1 fun v1 => zasg (narrow .byte (.int v1) = .int v1) (zret v1))
def s_J6_length (K : ZK) (this : Nat) : ZP Int32 :=
  zgetRK K (some this) 22 0 fun v1 => zlenK K v1 3 fun v2 => zcallVK K (some this) 22 (fun y0 => s_J6_coder K y0) fun r3 => zret (v2 >>> (r3 &&& 31))
def s_J6_isLatin1 (K : ZK) (this : Nat) : ZP Int32 :=
  zif ((1 : Int32) = 0) (zbad) (zgetIK K (some this) 22 1 fun v1 => zif (v1 = 0) (zret (1 : Int32)) (zret (0 : Int32)))
def s_J6_checkIndex (K : ZK) (a1 : Int32) (a2 : Int32) : ZP Unit :=
  zcall (s_J20_checkIndex K a1 a2 (zoptK K)) fun r1 => zret ()
def s_J15_charAt (K : ZK) (a1 : Option Nat) (a2 : Int32) : ZP Int32 :=
  zlenK K a1 3 fun v1 => zcall (s_J6_checkIndex K a2 v1) fun _ => zaldK K a1 3 a2 fun v2 => zasg (narrow .char (.int (((v2 &&& (255 : Int32)).toUInt32 % 65536).toInt32)) = .int (((v2 &&& (255 : Int32)).toUInt32 % 65536).toInt32)) (zret (((v2 &&& (255 : Int32)).toUInt32 % 65536).toInt32))
def s_J6_charAt (K : ZK) (this : Nat) (a1 : Int32) : ZP Int32 :=
  zcallVK K (some this) 22 (fun y0 => s_J6_isLatin1 K y0) fun r1 => zif (r1 = 0) (zgetRK K (some this) 22 0 fun v2 => zbad) (zgetRK K (some this) 22 0 fun v3 => zcall (s_J15_charAt K v3 a1) fun r4 => zasg (narrow .char (.int r4) = .int r4) (zret r4))
def s_X12_here (K : ZK) (this : Nat) : ZP Int32 :=
  zgetI (some this) 27 2 fun v1 => zgetR (some this) 27 0 fun v2 => zcallVK K v2 22 (fun y0 => s_J6_length K y0) fun r3 => zif (r3 ≤ v1) (zret (0 : Int32)) (zgetR (some this) 27 0 fun v4 => zgetI (some this) 27 2 fun v5 => zcallVK K v4 22 (fun y0 => s_J6_charAt K y0 v5) fun r6 => zasg (narrow .char (.int r6) = .int r6) (zret r6))
def s_X12_takes (K : ZK) (this : Nat) (a1 : Int32) : ZP Int32 :=
  zgetI (some this) 27 3 fun v1 => zif (v1 = 0) (zcallV (some this) 27 (fun y0 => s_X12_here K y0) fun r2 => zif (r2 = a1) (zgetI (some this) 27 2 fun v3 => zputI (some this) 27 2 (v3 + (1 : Int32)) (zret (1 : Int32))) (zret (0 : Int32))) (zret (0 : Int32))
def s_X12_wants_J18 (K : ZK) (t0 : Int32) (t1 : Int32) (t2 : Nat) : ZP Unit :=
  zputT .boolean (some t2) 27 3 (t1 ||| t0) (zret ())
def s_X12_wants (K : ZK) (this : Nat) (a1 : Int32) : ZP Unit :=
  zgetI (some this) 27 3 fun v1 => zcallV (some this) 27 (fun y0 => s_X12_takes K y0 a1) fun r2 => zif (r2 = 0) (s_X12_wants_J18 K (1 : Int32) v1 this) (s_X12_wants_J18 K (0 : Int32) v1 this)
def s_X13_init__X19 (K : ZK) (this : Nat) (a1 : Option Nat) : ZP Unit :=
  zputR (some this) 33 0 a1 (zret ())
def s_X19_init (K : ZK) (this : Nat) (a1 : Option Nat) : ZP Unit :=
  zputR (some this) 33 1 a1 (zgetR a1 27 4 fun v1 => zcall (s_X13_init__X19 K this v1) fun _ => zret ())
def s_X12_losing (K : ZK) (this : Nat) : ZP (Option Nat) :=
  zcallV (some this) 27 (fun y0 => s_X12_wants K y0 (120 : Int32)) fun _ => znew K 33 2 [.null, .null] fun q1 => zcall (s_X19_init K q1 (some this)) fun _ => zret (some q1)
def s_X12_isDigit (K : ZK) (this : Nat) : ZP Int32 :=
  zgetI (some this) 27 3 fun v1 => zif (v1 = 0) (zcallV (some this) 27 (fun y0 => s_X12_here K y0) fun r2 => zif (r2 < (48 : Int32)) (zret (0 : Int32)) (zcallV (some this) 27 (fun y0 => s_X12_here K y0) fun r3 => zif ((57 : Int32) < r3) (zret (0 : Int32)) (zret (1 : Int32)))) (zret (0 : Int32))
def s_X13_init__X18 (K : ZK) (this : Nat) (a1 : Option Nat) : ZP Unit :=
  zputR (some this) 32 0 a1 (zret ())
def s_X18_init (K : ZK) (this : Nat) (a1 : Option Nat) (a2 : Int32) : ZP Unit :=
  zputR (some this) 32 2 a1 (zputI (some this) 32 1 a2 (zgetR a1 27 4 fun v1 => zcall (s_X13_init__X18 K this v1) fun _ => zret ()))
def s_X12_digit_J17 (K : ZK) (x0 : Nat) (t0 : Int32) (t1 : Int32) (t2 : Nat) : ZP Int32 :=
  zputT .boolean (some t2) 27 3 (t1 ||| t0) (zgetI (some x0) 27 3 fun v3 => zif (v3 = 0) (zgetI (some x0) 27 2 fun v4 => zputI (some x0) 27 2 (v4 + (1 : Int32)) (zgetR (some x0) 27 0 fun v5 => zgetI (some x0) 27 2 fun v6 => zcallVK K v5 22 (fun y0 => s_J6_charAt K y0 (v6 - (1 : Int32))) fun r7 => zret (r7 - (48 : Int32)))) (zret (0 : Int32)))
def s_X12_digit (K : ZK) (this : Nat) : ZP Int32 :=
  zgetI (some this) 27 3 fun v1 => zcallV (some this) 27 (fun y0 => s_X12_isDigit K y0) fun r2 => zif (r2 = 0) (s_X12_digit_J17 K this (1 : Int32) v1 this) (s_X12_digit_J17 K this (0 : Int32) v1 this)
def s_X12_number (K : ZK) (this : Nat) : ZP Int32 :=
  zcallV (some this) 27 (fun y0 => s_X12_digit K y0) fun r1 => zcallV (some this) 27 (fun y0 => s_X12_isDigit K y0) fun r2 => zif (r2 = 0) (zret r1) (zcallV (some this) 27 (fun y0 => s_X12_digit K y0) fun r3 => zret (((10 : Int32) * r1) + r3))
def s_X12_ticking_J15 (K : ZK) (x0 : Nat) (t0 : Int32) : ZP (Option Nat) :=
  znew K 32 3 [.null, .int 0, .null] fun q2 => zcall (s_X18_init K q2 (some x0) t0) fun _ => zret (some q2)
def s_X12_ticking (K : ZK) (this : Nat) : ZP (Option Nat) :=
  zcallV (some this) 27 (fun y0 => s_X12_isDigit K y0) fun r1 => zif (r1 = 0) (s_X12_ticking_J15 K this (1 : Int32)) (zcallV (some this) 27 (fun y0 => s_X12_number K y0) fun r3 => s_X12_ticking_J15 K this r3)
def s_X13_init__X17 (K : ZK) (this : Nat) (a1 : Option Nat) : ZP Unit :=
  zputR (some this) 31 0 a1 (zret ())
def s_X17_init (K : ZK) (this : Nat) (a1 : Option Nat) (a2 : Int32) : ZP Unit :=
  zputR (some this) 31 2 a1 (zputI (some this) 31 1 a2 (zgetR a1 27 4 fun v1 => zcall (s_X13_init__X17 K this v1) fun _ => zret ()))
def s_X12_watching (K : ZK) (this : Nat) : ZP (Option Nat) :=
  zcallV (some this) 27 (fun y0 => s_X12_number K y0) fun r1 => znew K 31 3 [.null, .int 0, .null] fun q2 => zcall (s_X17_init K q2 (some this) r1) fun _ => zret (some q2)
def s_X13_init__X16 (K : ZK) (this : Nat) (a1 : Option Nat) : ZP Unit :=
  zputR (some this) 30 0 a1 (zret ())
def s_X16_init (K : ZK) (this : Nat) (a1 : Option Nat) (a2 : Int32) (a3 : Int32) (a4 : Int32) : ZP Unit :=
  zputR (some this) 30 4 a1 (zputI (some this) 30 1 a2 (zputI (some this) 30 2 a3 (zputI (some this) 30 3 a4 (zgetR a1 27 4 fun v1 => zcall (s_X13_init__X16 K this v1) fun _ => zret ()))))
def s_X12_queueing (K : ZK) (this : Nat) : ZP (Option Nat) :=
  zcallV (some this) 27 (fun y0 => s_X12_number K y0) fun r1 => zcallV (some this) 27 (fun y0 => s_X12_wants K y0 (62 : Int32)) fun _ => zcallV (some this) 27 (fun y0 => s_X12_number K y0) fun r2 => zcallV (some this) 27 (fun y0 => s_X12_wants K y0 (42 : Int32)) fun _ => zcallV (some this) 27 (fun y0 => s_X12_digit K y0) fun r3 => znew K 30 5 [.null, .int 0, .int 0, .int 0, .null] fun q4 => zcall (s_X16_init K q4 (some this) r1 r2 r3) fun _ => zret (some q4)
def s_X13_init__X15 (K : ZK) (this : Nat) (a1 : Option Nat) : ZP Unit :=
  zputR (some this) 29 0 a1 (zret ())
def s_X15_init (K : ZK) (this : Nat) (a1 : Option Nat) (a2 : Int32) : ZP Unit :=
  zputR (some this) 29 2 a1 (zputI (some this) 29 1 a2 (zgetR a1 27 4 fun v1 => zcall (s_X13_init__X15 K this v1) fun _ => zret ()))
def s_X12_going (K : ZK) (this : Nat) : ZP (Option Nat) :=
  zcallV (some this) 27 (fun y0 => s_X12_number K y0) fun r1 => znew K 29 3 [.null, .int 0, .null] fun q2 => zcall (s_X15_init K q2 (some this) r1) fun _ => zret (some q2)
def s_X13_init__X14 (K : ZK) (this : Nat) (a1 : Option Nat) : ZP Unit :=
  zputR (some this) 28 0 a1 (zret ())
def s_X14_init (K : ZK) (this : Nat) (a1 : Option Nat) (a2 : Int32) : ZP Unit :=
  zputR (some this) 28 2 a1 (zputI (some this) 28 1 a2 (zgetR a1 27 4 fun v1 => zcall (s_X13_init__X14 K this v1) fun _ => zret ()))
def s_X12_coming (K : ZK) (this : Nat) : ZP (Option Nat) :=
  zcallV (some this) 27 (fun y0 => s_X12_number K y0) fun r1 => znew K 28 3 [.null, .int 0, .null] fun q2 => zcall (s_X14_init K q2 (some this) r1) fun _ => zret (some q2)
def s_X12_order (K : ZK) (this : Nat) : ZP (Option Nat) :=
  zcallV (some this) 27 (fun y0 => s_X12_takes K y0 (43 : Int32)) fun r1 => zif (r1 = 0) (zcallV (some this) 27 (fun y0 => s_X12_takes K y0 (45 : Int32)) fun r2 => zif (r2 = 0) (zcallV (some this) 27 (fun y0 => s_X12_takes K y0 (113 : Int32)) fun r3 => zif (r3 = 0) (zcallV (some this) 27 (fun y0 => s_X12_takes K y0 (109 : Int32)) fun r4 => zif (r4 = 0) (zcallV (some this) 27 (fun y0 => s_X12_takes K y0 (116 : Int32)) fun r5 => zif (r5 = 0) (zcallV (some this) 27 (fun y0 => s_X12_losing K y0) fun r6 => zret r6) (zcallV (some this) 27 (fun y0 => s_X12_ticking K y0) fun r7 => zret r7)) (zcallV (some this) 27 (fun y0 => s_X12_watching K y0) fun r8 => zret r8)) (zcallV (some this) 27 (fun y0 => s_X12_queueing K y0) fun r9 => zret r9)) (zcallV (some this) 27 (fun y0 => s_X12_going K y0) fun r10 => zret r10)) (zcallV (some this) 27 (fun y0 => s_X12_coming K y0) fun r11 => zret r11)
def s_X12_read_J62 (K : ZK) (t0 : Int32) (t1 : Int32) (t2 : Nat) : ZP Unit :=
  zputT .boolean (some t2) 27 3 (t1 ||| t0) (zret ())
def s_X12_read_B12 (K : ZK) (x0 : Nat) (self12 : Unit → ZP Unit) : ZP Unit :=
  zcallV (some x0) 27 (fun y0 => s_X12_takes K y0 (59 : Int32)) fun r4 => zif (r4 = 0) (zgetI (some x0) 27 3 fun v5 => zgetI (some x0) 27 2 fun v6 => zgetR (some x0) 27 0 fun v7 => zcallVK K v7 22 (fun y0 => s_J6_length K y0) fun r8 => zif (r8 ≤ v6) (s_X12_read_J62 K (0 : Int32) v5 x0) (s_X12_read_J62 K (1 : Int32) v5 x0)) (zgetR (some x0) 27 1 fun v9 => zcallV (some x0) 27 (fun y0 => s_X12_order K y0) fun r10 => zcallV v9 11 (fun y0 => s_J31_add K y0 r10) fun r11 => self12 ())
def s_X12_read_L12 (K : ZK) (x0 : Nat) : Unit → ZP Unit := zloop (fun self12 v => s_X12_read_B12 K x0 self12)
def s_X12_read (K : ZK) (this : Nat) : ZP Unit :=
  zgetR (some this) 27 1 fun v1 => zcallV (some this) 27 (fun y0 => s_X12_order K y0) fun r2 => zcallV v1 11 (fun y0 => s_J31_add K y0 r2) fun r3 => s_X12_read_L12 K this ()
def s_X14_does (K : ZK) (this : Nat) : ZP Unit :=
  zgetR (some this) 28 2 fun v1 => zgetR v1 27 4 fun v2 => zgetI (some this) 28 1 fun v3 => zcallV v2 24 (fun y0 => s_X1_join K y0 v3) fun r4 => zret ()
def s_X15_does (K : ZK) (this : Nat) : ZP Unit :=
  zgetR (some this) 29 2 fun v1 => zgetR v1 27 4 fun v2 => zgetI (some this) 29 1 fun v3 => zcallV v2 24 (fun y0 => s_X1_leave K y0 v3) fun r4 => zret ()
def s_X16_does (K : ZK) (this : Nat) : ZP Unit :=
  zgetR (some this) 30 4 fun v1 => zgetR v1 27 4 fun v2 => zgetI (some this) 30 1 fun v3 => zgetI (some this) 30 2 fun v4 => zgetI (some this) 30 3 fun v5 => zcallV v2 24 (fun y0 => s_X1_queue K y0 v3 v4 v5 (1 : Int32)) fun r6 => zret ()
def s_X17_does (K : ZK) (this : Nat) : ZP Unit :=
  zgetR (some this) 31 2 fun v1 => zgetR v1 27 4 fun v2 => zgetI (some this) 31 1 fun v3 => zcallV v2 24 (fun y0 => s_X1_monitor K y0 v3) fun r4 => zret ()
def s_X18_does (K : ZK) (this : Nat) : ZP Unit :=
  zgetR (some this) 32 2 fun v1 => zgetR v1 27 4 fun v2 => zgetI (some this) 32 1 fun v3 => zcallV v2 24 (fun y0 => s_X1_tick K y0 v3) fun r4 => zret ()
def s_X19_does (K : ZK) (this : Nat) : ZP Unit :=
  zgetR (some this) 33 1 fun v1 => zgetR v1 27 4 fun v2 => zcallV v2 24 (fun y0 => s_X1_lose K y0) fun r3 => zret ()
def s_X1_doAll_B26 (K : ZK) (x0 : Nat) (x2 : Option Nat) (x4 : Option Nat) (self26 : Int32 → ZP Int32) (x3 : Int32) : ZP Int32 :=
  zcallVT x4 5 (fun y0 => s_J23_hasNext K y0) [] fun r4 => zif (r4 = 0) (zputT .boolean (some x0) 24 5 (0 : Int32) (zgetR (some x0) 24 0 fun v5 => zputR (some x0) 24 0 x2 (zcallV (some x0) 24 (fun y0 => s_X1_change K y0) fun _ => zputR (some x0) 24 0 v5 (zret x3)))) (zcallVT x4 5 (fun y0 => s_J23_next K y0) [] fun r6 => zcast r6 [28, 29, 30, 31, 32, 33] (zdisp r6 [(28, zcallVT r6 28 (fun y0 => s_X14_does K y0) [(0, zputR (some x0) 24 0 x2 (znew K 36 3 [.int 0, .int 0, .null] fun q8 => zgetR (some x0) 24 7 fun v9 => zcallT (s_X4_init K q8 (10 : Int32) x3 v9) [] fun _ => zputR (some x0) 24 7 (some q8) (zputT .boolean (some x0) 24 5 (0 : Int32) (zrethrow 0))))] fun _ => self26 (x3 + (1 : Int32))), (29, zcallVT r6 29 (fun y0 => s_X15_does K y0) [(0, zputR (some x0) 24 0 x2 (znew K 36 3 [.int 0, .int 0, .null] fun q11 => zgetR (some x0) 24 7 fun v12 => zcallT (s_X4_init K q11 (10 : Int32) x3 v12) [] fun _ => zputR (some x0) 24 7 (some q11) (zputT .boolean (some x0) 24 5 (0 : Int32) (zrethrow 0))))] fun _ => self26 (x3 + (1 : Int32))), (30, zcallVT r6 30 (fun y0 => s_X16_does K y0) [(0, zputR (some x0) 24 0 x2 (znew K 36 3 [.int 0, .int 0, .null] fun q14 => zgetR (some x0) 24 7 fun v15 => zcallT (s_X4_init K q14 (10 : Int32) x3 v15) [] fun _ => zputR (some x0) 24 7 (some q14) (zputT .boolean (some x0) 24 5 (0 : Int32) (zrethrow 0))))] fun _ => self26 (x3 + (1 : Int32))), (31, zcallVT r6 31 (fun y0 => s_X17_does K y0) [(0, zputR (some x0) 24 0 x2 (znew K 36 3 [.int 0, .int 0, .null] fun q17 => zgetR (some x0) 24 7 fun v18 => zcallT (s_X4_init K q17 (10 : Int32) x3 v18) [] fun _ => zputR (some x0) 24 7 (some q17) (zputT .boolean (some x0) 24 5 (0 : Int32) (zrethrow 0))))] fun _ => self26 (x3 + (1 : Int32))), (32, zcallVT r6 32 (fun y0 => s_X18_does K y0) [(0, zputR (some x0) 24 0 x2 (znew K 36 3 [.int 0, .int 0, .null] fun q20 => zgetR (some x0) 24 7 fun v21 => zcallT (s_X4_init K q20 (10 : Int32) x3 v21) [] fun _ => zputR (some x0) 24 7 (some q20) (zputT .boolean (some x0) 24 5 (0 : Int32) (zrethrow 0))))] fun _ => self26 (x3 + (1 : Int32))), (33, zcallVT r6 33 (fun y0 => s_X19_does K y0) [(0, zputR (some x0) 24 0 x2 (znew K 36 3 [.int 0, .int 0, .null] fun q23 => zgetR (some x0) 24 7 fun v24 => zcallT (s_X4_init K q23 (10 : Int32) x3 v24) [] fun _ => zputR (some x0) 24 7 (some q23) (zputT .boolean (some x0) 24 5 (0 : Int32) (zrethrow 0))))] fun _ => self26 (x3 + (1 : Int32)))]))
def s_X1_doAll_L26 (K : ZK) (x0 : Nat) (x2 : Option Nat) (x4 : Option Nat) : Int32 → ZP Int32 := zloop (fun self26 v => s_X1_doAll_B26 K x0 x2 x4 self26 v)
def s_X1_doAll (K : ZK) (this : Nat) (a1 : Option Nat) : ZP Int32 :=
  zgetR (some this) 24 0 fun v1 => zcallV v1 34 (fun y0 => s_X2_copy K y0) fun r2 => zputR (some this) 24 0 r2 (zputT .boolean (some this) 24 5 (1 : Int32) (zcallVT a1 11 (fun y0 => s_J31_iterator K y0) [] fun r3 => s_X1_doAll_L26 K this v1 r3 (0 : Int32)))
def s_X1_run_J59 (K : ZK) (x0 : Nat) (x1 : Nat) (t0 : Int32) : ZP Int32 :=
  zcall (s_X1_check K t0) fun _ => zgetR (some x1) 27 1 fun v7 => zcallV (some x0) 24 (fun y0 => s_X1_doAll K y0 v7) fun r8 => zret r8
def s_X1_run_J44 (K : ZK) (x0 : Nat) (x1 : Nat) (t0 : Int32) (t1 : Nat) : ZP Int32 :=
  zputI (some t1) 24 6 t0 (zgetI (some x1) 27 3 fun v6 => zif (v6 = 0) (s_X1_run_J59 K x0 x1 (1 : Int32)) (s_X1_run_J59 K x0 x1 (0 : Int32)))
def s_X1_run (K : ZK) (this : Nat) : ZP Int32 :=
  znew K 27 5 [.null, .null, .int 0, .int 0, .null] fun q1 => zgetR (some this) 24 3 fun v2 => zcallV v2 21 (fun y0 => s_J5_toString K y0) fun r3 => zcall (s_X12_init K q1 (some this) r3) fun _ => zgetR (some this) 24 3 fun v4 => zcallV v4 21 (fun y0 => s_J5_setLength K y0 (0 : Int32)) fun _ => zcallV (some q1) 27 (fun y0 => s_X12_read K y0) fun _ => zgetI (some q1) 27 3 fun v5 => zif (v5 = 0) (s_X1_run_J44 K this q1 (-1 : Int32) this) (zgetI (some q1) 27 2 fun v9 => s_X1_run_J44 K this q1 v9 this)
def s_X0_run (K : ZK) (a1 : Option Nat) (a2 : Option Nat) : ZP Int32 :=
  zcallVT a1 24 (fun y0 => s_X1_run K y0) [(0, zret (2 : Int32)), (1, zret (1 : Int32))] fun r3 => zastJ a2 (0 : Int32) r3.toInt64 (zret (0 : Int32))
def s_X1_reason_J44 (K : ZK) (x2 : Int32) (x3 : Option Nat) (t0 : Int32) : ZP Int32 :=
  zcall (s_X1_checkElement K t0) fun _ => zif (x3 = none) (zret (0 : Int32)) (zif (x2 = 0) (zgetI x3 36 0 fun v4 => zret v4) (zgetI x3 36 1 fun v5 => zret v5))
def s_X1_reason_J34 (K : ZK) (x2 : Int32) (t0 : Option Nat) : ZP Int32 :=
  zif (t0 = none) (s_X1_reason_J44 K x2 t0 (0 : Int32)) (s_X1_reason_J44 K x2 t0 (1 : Int32))
def s_X1_reason_J20 (K : ZK) (x0 : Nat) (x2 : Int32) : ZP Int32 :=
  zgetR (some x0) 24 7 fun v3 => s_X1_reason_J34 K x2 v3
def s_X1_reason (K : ZK) (this : Nat) (a1 : Int32) (a2 : Int32) : ZP Int32 :=
  zcall (s_X1_isBetween K a1 (0 : Int32) (1 : Int32)) fun r1 => zcall (s_X1_check K r1) fun _ => zgetR (some this) 24 7 fun v2 => zif (v2 = none) (s_X1_reason_J20 K this a2) (zif (a1 = 0) (s_X1_reason_J20 K this a2) (zgetR (some this) 24 7 fun v6 => zgetR v6 36 2 fun v7 => s_X1_reason_J34 K a2 v7))
def s_X0_reason (K : ZK) (a1 : Option Nat) (a2 : Int32) (a3 : Int32) (a4 : Option Nat) : ZP Int32 :=
  zcallVT a1 24 (fun y0 => s_X1_reason K y0 a2 a3) [(1, zret (1 : Int32)), (3, zret (2 : Int32))] fun r3 => zastJ a4 (0 : Int32) r3.toInt64 (zret (0 : Int32))
def s_J4_inflateIfNeededFor__J5 (K : ZK) (this : Nat) (a1 : Option Nat) : ZP Unit :=
  zif ((1 : Int32) = 0) (zbad) (zgetI (some this) 21 1 fun v1 => zcallVK K a1 22 (fun y0 => s_J6_coder K y0) fun r2 => zif (v1 = r2) (zret ()) (zbad))
def s_J15_inflate (K : ZK) (a1 : Option Nat) (a2 : Int32) (a3 : Option Nat) (a4 : Int32) (a5 : Int32) : ZP Unit :=
  zbad
def s_J6_getBytes (K : ZK) (this : Nat) (a1 : Option Nat) (a2 : Int32) (a3 : Int32) : ZP Unit :=
  zcallVK K (some this) 22 (fun y0 => s_J6_coder K y0) fun r1 => zif (r1 = a3) (zgetRK K (some this) 22 0 fun v2 => zgetRK K (some this) 22 0 fun v3 => zlenK K v3 3 fun v4 => zcopyB K v2 (0 : Int32) a1 (a2 <<< (a3 &&& 31)) v4 (zret ())) (zgetRK K (some this) 22 0 fun v5 => zgetRK K (some this) 22 0 fun v6 => zlenK K v6 3 fun v7 => zcall (s_J15_inflate K v5 (0 : Int32) a1 a2 v7) fun _ => zret ())
def s_J4_putStringAt__J5 (K : ZK) (this : Nat) (a1 : Int32) (a2 : Option Nat) : ZP Unit :=
  zcallV (some this) 21 (fun y0 => s_J4_inflateIfNeededFor__J5 K y0 a2) fun _ => zgetR (some this) 21 0 fun v1 => zgetI (some this) 21 1 fun v2 => zcallVK K a2 22 (fun y0 => s_J6_getBytes K y0 v1 a1 v2) fun _ => zret ()
def s_J4_append__J5 (K : ZK) (this : Nat) (a1 : Option Nat) : ZP (Option Nat) :=
  zif (a1 = none) (zbad) (zcallVK K a1 22 (fun y0 => s_J6_length K y0) fun r1 => zgetI (some this) 21 3 fun v2 => zcallV (some this) 21 (fun y0 => s_J4_ensureCapacityInternal__J5 K y0 (v2 + r1)) fun _ => zgetI (some this) 21 3 fun v3 => zcallV (some this) 21 (fun y0 => s_J4_putStringAt__J5 K y0 v3 a1) fun _ => zgetI (some this) 21 3 fun v4 => zputI (some this) 21 3 (v4 + r1) (zret (some this)))
def s_J5_append (K : ZK) (this : Nat) (a1 : Option Nat) : ZP (Option Nat) :=
  zcallV (some this) 21 (fun y0 => s_J4_append__J5 K y0 a1) fun r1 => zret (some this)
def s_J13_stringSize_B16 (K : ZK) (x0 : Int32) (x1 : Int32) (self16 : (Int32 × Int32) → ZP Int32) (x2 : Int32) (x3 : Int32) : ZP Int32 :=
  zif ((10 : Int32) ≤ x3) (zret ((10 : Int32) + x1)) (zif (x0 ≤ x2) (self16 ((10 : Int32) * x2, x3 + (1 : Int32))) (zret (x3 + x1)))
def s_J13_stringSize_L16 (K : ZK) (x0 : Int32) (x1 : Int32) : (Int32 × Int32) → ZP Int32 := zloop (fun self16 v => s_J13_stringSize_B16 K x0 x1 self16 v.1 v.2)
def s_J13_stringSize (K : ZK) (a1 : Int32) : ZP Int32 :=
  zif (a1 < 0) (s_J13_stringSize_L16 K a1 (1 : Int32) ((-10 : Int32), (1 : Int32))) (s_J13_stringSize_L16 K (-a1) (0 : Int32) ((-10 : Int32), (1 : Int32)))
def s_J13_getChars_J104 (K : ZK) (x2 : Option Nat) (x5 : Int32) (x6 : Int32) : ZP Int32 :=
  zif (x6 = 0) (zret x5) (zastB x2 (x5 + (-1 : Int32)) (45 : Int32) (zret (x5 + (-1 : Int32))))
def s_J13_getChars_B22 (K : ZK) (x2 : Option Nat) (x6 : Int32) (self22 : (Int32 × Int32) → ZP Int32) (x0 : Int32) (x5 : Int32) : ZP Int32 :=
  zif ((-100 : Int32) < x0) (zaldK K (some (K.1 3)) 3 (-x0) fun v1 => zastB x2 (x5 + (-1 : Int32)) v1 (zif ((-9 : Int32) ≤ x0) (s_J13_getChars_J104 K x2 (x5 + (-1 : Int32)) x6) (zaldK K (some (K.1 2)) 3 (-x0) fun v2 => zastB x2 ((x5 + (-1 : Int32)) + (-1 : Int32)) v2 (s_J13_getChars_J104 K x2 ((x5 + (-1 : Int32)) + (-1 : Int32)) x6)))) (zasg (¬ (100 : Int32) = 0) (zaldK K (some (K.1 3)) 3 (((x0 / (100 : Int32)) * (100 : Int32)) - x0) fun v3 => zastB x2 (x5 + (-1 : Int32)) v3 (zaldK K (some (K.1 2)) 3 (((x0 / (100 : Int32)) * (100 : Int32)) - x0) fun v4 => zastB x2 ((x5 + (-1 : Int32)) + (-1 : Int32)) v4 (self22 (x0 / (100 : Int32), (x5 + (-1 : Int32)) + (-1 : Int32))))))
def s_J13_getChars_L22 (K : ZK) (x2 : Option Nat) (x6 : Int32) : (Int32 × Int32) → ZP Int32 := zloop (fun self22 v => s_J13_getChars_B22 K x2 x6 self22 v.1 v.2)
def s_J13_getChars_J12 (K : ZK) (x0 : Int32) (x2 : Option Nat) (x5 : Int32) (t0 : Int32) : ZP Int32 :=
  zif (t0 = 0) (s_J13_getChars_L22 K x2 t0 (-x0, x5)) (s_J13_getChars_L22 K x2 t0 (x0, x5))
def s_J13_getChars (K : ZK) (a1 : Int32) (a2 : Int32) (a3 : Option Nat) : ZP Int32 :=
  zif (0 ≤ a1) (s_J13_getChars_J12 K a1 a3 a2 (0 : Int32)) (s_J13_getChars_J12 K a1 a3 a2 (1 : Int32))
def s_J4_append_2__J5_J48 (K : ZK) (x0 : Nat) (x3 : Int32) : ZP (Option Nat) :=
  zputI (some x0) 21 3 x3 (zret (some x0))
def s_J4_append_2__J5 (K : ZK) (this : Nat) (a1 : Int32) : ZP (Option Nat) :=
  zgetI (some this) 21 3 fun v1 => zcall (s_J13_stringSize K a1) fun r2 => zcallV (some this) 21 (fun y0 => s_J4_ensureCapacityInternal__J5 K y0 (v1 + r2)) fun _ => zcallV (some this) 21 (fun y0 => s_J4_isLatin1__J5 K y0) fun r3 => zif (r3 = 0) (zgetR (some this) 21 0 fun v4 => zbad) (zgetR (some this) 21 0 fun v5 => zcall (s_J13_getChars K a1 (v1 + r2) v5) fun r6 => s_J4_append_2__J5_J48 K this (v1 + r2))
def s_J5_append_2 (K : ZK) (this : Nat) (a1 : Int32) : ZP (Option Nat) :=
  zcallV (some this) 21 (fun y0 => s_J4_append_2__J5 K y0 a1) fun r1 => zret (some this)
def s_X1_tellQueue_J121 (K : ZK) (x0 : Nat) (t0 : Option Nat) (t1 : Option Nat) : ZP Int32 :=
  zcallV t1 21 (fun y0 => s_J5_append K y0 t0) fun r9 => zgetR (some x0) 24 4 fun v10 => zcallV v10 21 (fun y0 => s_J5_length K y0) fun r11 => zret r11
def s_X1_tellQueue_J65 (K : ZK) (x0 : Nat) (x2 : Option Nat) (x3 : Option Nat) (x4 : Option Nat) (t0 : Option Nat) (t1 : Option Nat) (self22 : Unit → ZP Int32) : ZP Int32 :=
  zcallV t1 21 (fun y0 => s_J5_append K y0 t0) fun r16 => zcallV r16 21 (fun y0 => s_J5_append_3 K y0 (35 : Int32)) fun r17 => zgetI x4 39 0 fun v18 => zcallV r17 21 (fun y0 => s_J5_append_2 K y0 v18) fun r19 => zcallV r19 21 (fun y0 => s_J5_append_3 K y0 (47 : Int32)) fun r20 => zgetI x4 39 3 fun v21 => zcallV r20 21 (fun y0 => s_J5_append_2 K y0 v21) fun r22 => self22 ()
def s_X1_tellQueue_B22 (K : ZK) (x0 : Nat) (x2 : Option Nat) (x3 : Option Nat) (self22 : Unit → ZP Int32) : ZP Int32 :=
  zcallV x3 5 (fun y0 => s_J23_hasNext K y0) fun r5 => zif (r5 = 0) (zgetR (some x0) 24 4 fun v6 => zgetR x2 37 1 fun v7 => zcallV v7 11 (fun y0 => s_J31_isEmpty K y0) fun r8 => zif (r8 = 0) (s_X1_tellQueue_J121 K x0 (some (K.1 11)) v6) (s_X1_tellQueue_J121 K x0 (some (K.1 14)) v6)) (zcallV x3 5 (fun y0 => s_J23_next K y0) fun r12 => zcast r12 [39] (zgetR (some x0) 24 4 fun v13 => zgetR (some x0) 24 4 fun v14 => zcallV v14 21 (fun y0 => s_J5_length K y0) fun r15 => zif (r15 ≤ 0) (s_X1_tellQueue_J65 K x0 x2 x3 r12 (some (K.1 11)) v13 self22) (s_X1_tellQueue_J65 K x0 x2 x3 r12 (some (K.1 10)) v13 self22)))
def s_X1_tellQueue_L22 (K : ZK) (x0 : Nat) (x2 : Option Nat) (x3 : Option Nat) : Unit → ZP Int32 := zloop (fun self22 v => s_X1_tellQueue_B22 K x0 x2 x3 self22)
def s_X1_tellQueue (K : ZK) (this : Nat) (a1 : Int32) : ZP Int32 :=
  zcallV (some this) 24 (fun y0 => s_X1_station0 K y0 a1) fun r1 => zgetR (some this) 24 4 fun v2 => zcallV v2 21 (fun y0 => s_J5_setLength K y0 (0 : Int32)) fun _ => zgetR r1 37 1 fun v3 => zcallV v3 11 (fun y0 => s_J31_iterator K y0) fun r4 => s_X1_tellQueue_L22 K this r1 r4 ()
def s_X0_tellQueue (K : ZK) (a1 : Option Nat) (a2 : Int32) (a3 : Option Nat) : ZP Int32 :=
  zcallVT a1 24 (fun y0 => s_X1_tellQueue K y0 a2) [(2, zret (1 : Int32))] fun r2 => zastJ a3 (0 : Int32) r2.toInt64 (zret (0 : Int32))
def s_J4_charAt__J5 (K : ZK) (this : Nat) (a1 : Int32) : ZP Int32 :=
  zgetI (some this) 21 1 fun v1 => zgetR (some this) 21 0 fun v2 => zgetI (some this) 21 3 fun v3 => zlen v2 3 fun v4 => zcall (s_J16_min K v3 (v4 >>> (v1 &&& 31))) fun r5 => zcall (s_J6_checkIndex K a1 r5) fun _ => zif (v1 = 0) (zald v2 3 a1 fun v6 => zasg (narrow .char (.int (((v6 &&& (255 : Int32)).toUInt32 % 65536).toInt32)) = .int (((v6 &&& (255 : Int32)).toUInt32 % 65536).toInt32)) (zret (((v6 &&& (255 : Int32)).toUInt32 % 65536).toInt32))) (zbad)
def s_J5_charAt (K : ZK) (this : Nat) (a1 : Int32) : ZP Int32 :=
  zcallV (some this) 21 (fun y0 => s_J4_charAt__J5 K y0 a1) fun r1 => zasg (narrow .char (.int r1) = .int r1) (zret r1)
def s_X1_character (K : ZK) (this : Nat) (a1 : Int32) : ZP Int32 :=
  zgetR (some this) 24 4 fun v1 => zcallV v1 21 (fun y0 => s_J5_length K y0) fun r2 => zcall (s_X1_isBetween K a1 (0 : Int32) (r2 - (1 : Int32))) fun r3 => zcall (s_X1_checkIndex K r3) fun _ => zgetR (some this) 24 4 fun v4 => zcallV v4 21 (fun y0 => s_J5_charAt K y0 a1) fun r5 => zasg (narrow .char (.int r5) = .int r5) (zret r5)
def s_X0_character (K : ZK) (a1 : Option Nat) (a2 : Int32) (a3 : Option Nat) : ZP Int32 :=
  zcallVT a1 24 (fun y0 => s_X1_character K y0 a2) [(2, zret (1 : Int32))] fun r2 => zastJ a3 (0 : Int32) r2.toInt64 (zret (0 : Int32))
def s_X1_account (K : ZK) (this : Nat) (a1 : Int32) : ZP Int32 :=
  zcall (s_X1_isBetween K a1 (0 : Int32) (19 : Int32)) fun r1 => zcall (s_X1_check K r1) fun _ => zsw a1 [((0 : Int32), zgetR (some this) 24 0 fun v2 => zgetI v2 34 8 fun v3 => zret v3), ((1 : Int32), zgetR (some this) 24 0 fun v4 => zgetR v4 34 0 fun v5 => zcallV v5 0 (fun y0 => s_J1_size K y0) fun r6 => zret r6), ((2 : Int32), zgetR (some this) 24 0 fun v7 => zgetI v7 34 6 fun v8 => zret v8), ((3 : Int32), zgetR (some this) 24 0 fun v9 => zgetI v9 34 7 fun v10 => zret v10), ((4 : Int32), zgetR (some this) 24 0 fun v11 => zgetI v11 34 9 fun v12 => zret v12), ((5 : Int32), zgetR (some this) 24 0 fun v13 => zgetI v13 34 10 fun v14 => zret v14), ((6 : Int32), zgetR (some this) 24 0 fun v15 => zgetI v15 34 11 fun v16 => zret v16), ((7 : Int32), zgetR (some this) 24 0 fun v17 => zgetI v17 34 12 fun v18 => zret v18), ((8 : Int32), zgetR (some this) 24 0 fun v19 => zgetI v19 34 13 fun v20 => zret v20), ((9 : Int32), zgetR (some this) 24 0 fun v21 => zgetI v21 34 14 fun v22 => zret v22), ((10 : Int32), zgetR (some this) 24 0 fun v23 => zgetI v23 34 15 fun v24 => zret v24), ((11 : Int32), zgetR (some this) 24 0 fun v25 => zgetI v25 34 16 fun v26 => zret v26), ((12 : Int32), zgetR (some this) 24 0 fun v27 => zgetI v27 34 17 fun v28 => zret v28), ((13 : Int32), zgetR (some this) 24 0 fun v29 => zgetI v29 34 18 fun v30 => zret v30), ((14 : Int32), zgetR (some this) 24 0 fun v31 => zgetI v31 34 19 fun v32 => zret v32), ((15 : Int32), zgetR (some this) 24 0 fun v33 => zgetI v33 34 20 fun v34 => zret v34), ((16 : Int32), zgetR (some this) 24 0 fun v35 => zgetI v35 34 21 fun v36 => zret v36), ((17 : Int32), zgetR (some this) 24 0 fun v37 => zgetI v37 34 22 fun v38 => zret v38), ((18 : Int32), zgetR (some this) 24 3 fun v39 => zcallV v39 21 (fun y0 => s_J5_length K y0) fun r40 => zret r40)] (zgetR (some this) 24 2 fun v41 => zcallV v41 10 (fun y0 => s_J3_size K y0) fun r42 => zret r42)
def s_X0_account (K : ZK) (a1 : Option Nat) (a2 : Int32) (a3 : Option Nat) : ZP Int32 :=
  zcallVT a1 24 (fun y0 => s_X1_account K y0 a2) [(1, zret (1 : Int32))] fun r2 => zastJ a3 (0 : Int32) r2.toInt64 (zret (0 : Int32))
def s_X1_checkPut (K : ZK) (this : Nat) : ZP Unit :=
  zgetR (some this) 24 0 fun v1 => zgetI v1 34 10 fun v2 => zif (v2 = 0) (zthrow 5) (zret ())
def s_X1_meanDelay (K : ZK) (this : Nat) : ZP UInt64 :=
  zcallV (some this) 24 (fun y0 => s_X1_checkPut K y0) fun _ => zgetR (some this) 24 0 fun v1 => zgetI v1 34 18 fun v2 => zgetR (some this) 24 0 fun v3 => zgetI v3 34 10 fun v4 => zasg (vf_n64 (FP.ddiv (FP.i2d v2) (FP.i2d v4))) (zret (FP.ddiv (FP.i2d v2) (FP.i2d v4)))
def s_X0_meanDelay (K : ZK) (a1 : Option Nat) (a2 : Option Nat) : ZP Int32 :=
  zcallVT a1 24 (fun y0 => s_X1_meanDelay K y0) [(5, zret (1 : Int32))] fun r2 => zastD a2 (0 : Int32) r2 (zret (0 : Int32))
def s_X1_receivedShare (K : ZK) (this : Nat) : ZP UInt32 :=
  zcallV (some this) 24 (fun y0 => s_X1_checkPut K y0) fun _ => zgetR (some this) 24 0 fun v1 => zgetI v1 34 11 fun v2 => zgetR (some this) 24 0 fun v3 => zgetI v3 34 10 fun v4 => zasg (vf_n32 (FP.fdiv (FP.i2f v2) (FP.i2f v4))) (zret (FP.fdiv (FP.i2f v2) (FP.i2f v4)))
def s_X0_receivedShare (K : ZK) (a1 : Option Nat) (a2 : Option Nat) : ZP Int32 :=
  zcallVT a1 24 (fun y0 => s_X1_receivedShare K y0) [(5, zret (1 : Int32))] fun r2 => zasg (vf_n64 (FP.f2d r2)) (zastD a2 (0 : Int32) (FP.f2d r2) (zret (0 : Int32)))
def s_J3_isEmpty (K : ZK) (this : Nat) : ZP Int32 :=
  zgetI (some this) 10 1 fun v1 => zgetI (some this) 10 2 fun v2 => zif (v1 = v2) (zret (1 : Int32)) (zret (0 : Int32))
def s_J3_dec (K : ZK) (a1 : Int32) (a2 : Int32) : ZP Int32 :=
  zif (0 ≤ (a1 + (-1 : Int32))) (zret (a1 + (-1 : Int32))) (zret (a2 - (1 : Int32)))
def s_J3_pollLast (K : ZK) (this : Nat) : ZP (Option Nat) :=
  zgetR (some this) 10 0 fun v1 => zgetI (some this) 10 2 fun v2 => zlen v1 4 fun v3 => zcall (s_J3_dec K v2 v3) fun r4 => zcall (s_J3_elementAt K v1 r4) fun r5 => zif (r5 = none) (zret r5) (zputI (some this) 10 2 r4 (zastR v1 r4 none (zret r5)))
def s_J3_removeLast (K : ZK) (this : Nat) : ZP (Option Nat) :=
  zcallV (some this) 10 (fun y0 => s_J3_pollLast K y0) fun r1 => zif (r1 = none) (zbad) (zret r1)
def s_X1_undo_J15 (K : ZK) (x0 : Nat) (t0 : Int32) : ZP Int32 :=
  zcall (s_X1_checkState K t0) fun _ => zgetR (some x0) 24 2 fun v3 => zcallV v3 10 (fun y0 => s_J3_removeLast K y0) fun r4 => zcast r4 [34] (zputR (some x0) 24 0 r4 (zgetR (some x0) 24 2 fun v5 => zcallV v5 10 (fun y0 => s_J3_size K y0) fun r6 => zret r6))
def s_X1_undo (K : ZK) (this : Nat) : ZP Int32 :=
  zgetR (some this) 24 2 fun v1 => zcallV v1 10 (fun y0 => s_J3_isEmpty K y0) fun r2 => zif (r2 = 0) (s_X1_undo_J15 K this (1 : Int32)) (s_X1_undo_J15 K this (0 : Int32))
def s_X0_undo (K : ZK) (a1 : Option Nat) (a2 : Option Nat) : ZP Int32 :=
  zcallVT a1 24 (fun y0 => s_X1_undo K y0) [(4, zret (1 : Int32))] fun r2 => zastJ a2 (0 : Int32) r2.toInt64 (zret (0 : Int32))
def s_J3_circularClear_B12 (K : ZK) (x0 : Option Nat) (x2 : Int32) (self12 : (Int32 × Int32) → ZP Unit) (x1 : Int32) (x3 : Int32) : ZP Unit :=
  zif (x3 ≤ x1) (zif (x3 = x2) (zret ()) (self12 ((0 : Int32), x2))) (zastR x0 x1 none (self12 (x1 + (1 : Int32), x3)))
def s_J3_circularClear_L12 (K : ZK) (x0 : Option Nat) (x2 : Int32) : (Int32 × Int32) → ZP Unit := zloop (fun self12 v => s_J3_circularClear_B12 K x0 x2 self12 v.1 v.2)
def s_J3_circularClear (K : ZK) (a1 : Option Nat) (a2 : Int32) (a3 : Int32) : ZP Unit :=
  zif (a3 < a2) (zlen a1 4 fun v1 => s_J3_circularClear_L12 K a1 a3 (a2, v1)) (s_J3_circularClear_L12 K a1 a3 (a2, a3))
def s_J3_clear (K : ZK) (this : Nat) : ZP Unit :=
  zgetR (some this) 10 0 fun v1 => zgetI (some this) 10 1 fun v2 => zgetI (some this) 10 2 fun v3 => zcall (s_J3_circularClear K v1 v2 v3) fun _ => zputI (some this) 10 2 (0 : Int32) (zputI (some this) 10 1 (0 : Int32) (zret ()))
def s_X1_restore_J12 (K : ZK) (x0 : Nat) (t0 : Int32) : ZP Int32 :=
  zcall (s_X1_checkState K t0) fun _ => zgetR (some x0) 24 1 fun v2 => zcallV v2 34 (fun y0 => s_X2_copy K y0) fun r3 => zputR (some x0) 24 0 r3 (zgetR (some x0) 24 2 fun v4 => zcallV v4 10 (fun y0 => s_J3_clear K y0) fun _ => zgetR (some x0) 24 0 fun v5 => zgetI v5 34 8 fun v6 => zret v6)
def s_X1_restore (K : ZK) (this : Nat) : ZP Int32 :=
  zgetR (some this) 24 1 fun v1 => zif (v1 = none) (s_X1_restore_J12 K this (0 : Int32)) (s_X1_restore_J12 K this (1 : Int32))
def s_X0_restore (K : ZK) (a1 : Option Nat) (a2 : Option Nat) : ZP Int32 :=
  zcallVT a1 24 (fun y0 => s_X1_restore K y0) [(4, zret (1 : Int32))] fun r2 => zastJ a2 (0 : Int32) r2.toInt64 (zret (0 : Int32))
def s_J2_init__J3 (K : ZK) (this : Nat) : ZP Unit :=
  zret ()
def s_J3_init (K : ZK) (this : Nat) : ZP Unit :=
  zcall (s_J2_init__J3 K this) fun _ => znewA K 4 (17 : Int32) (.inr (.inr (.inr (.inr (fun _ => none))))) fun q1 => zputR (some this) 10 0 (some q1) (zret ())
def s_J4_init__J5 (K : ZK) (this : Nat) (a1 : Int32) : ZP Unit :=
  zif ((1 : Int32) = 0) (zbad) (znewA K 3 a1 (.inl (fun _ => 0)) fun q1 => zputR (some this) 21 0 (some q1) (zputT .byte (some this) 21 1 (0 : Int32) (zret ())))
def s_J5_init (K : ZK) (this : Nat) : ZP Unit :=
  zcall (s_J4_init__J5 K this (16 : Int32)) fun _ => zret ()
def s_X1_init (K : ZK) (this : Nat) : ZP Unit :=
  znew K 34 25 [.null, .int 0, .int 0, .int 0, .int 0, .null, .int 0, .int 0, .int 0, .int 0, .int 0, .int 0, .int 0, .int 0, .int 0, .int 0, .int 0, .int 0, .int 0, .int 0, .int 0, .int 0, .int 0, .int 0, .int 0] fun q1 => zcall (s_X2_init K q1) fun _ => zputR (some this) 24 0 (some q1) (znew K 10 3 [.null, .int 0, .int 0] fun q2 => zcall (s_J3_init K q2) fun _ => zputR (some this) 24 2 (some q2) (znew K 21 4 [.null, .int 0, .int 0, .int 0] fun q3 => zcall (s_J5_init K q3) fun _ => zputR (some this) 24 3 (some q3) (znew K 21 4 [.null, .int 0, .int 0, .int 0] fun q4 => zcall (s_J5_init K q4) fun _ => zputR (some this) 24 4 (some q4) (zputI (some this) 24 6 (-1 : Int32) (zret ())))))
def s_X1_waiting (K : ZK) (this : Nat) : ZP Int32 :=
  zgetR (some this) 24 0 fun v1 => zcallV v1 34 (fun y0 => s_X2_waiting K y0) fun r2 => zret r2
def s_X1_waitingAgain (K : ZK) (this : Nat) : ZP Int32 :=
  zgetR (some this) 24 0 fun v1 => zgetI v1 34 9 fun v2 => zgetR (some this) 24 0 fun v3 => zgetI v3 34 10 fun v4 => zgetR (some this) 24 0 fun v5 => zgetI v5 34 16 fun v6 => zgetR (some this) 24 0 fun v7 => zgetI v7 34 15 fun v8 => zret (((v2 - v4) - v6) - v8)
def s_X1_faultPosition (K : ZK) (this : Nat) : ZP Int32 :=
  zgetI (some this) 24 6 fun v1 => zret v1
def s_X1_tellRing_J198 (K : ZK) (x0 : Nat) (t0 : Option Nat) (t1 : Option Nat) : ZP Int32 :=
  zcallV t1 21 (fun y0 => s_J5_append K y0 t0) fun r11 => zgetR (some x0) 24 4 fun v12 => zcallV v12 21 (fun y0 => s_J5_length K y0) fun r13 => zret r13
def s_X1_tellRing_J154 (K : ZK) (x0 : Nat) (x1 : Option Nat) (t0 : Int32) (t1 : Option Nat) (self24 : Unit → ZP Int32) : ZP Int32 :=
  zcallV t1 21 (fun y0 => s_J5_append_3 K y0 t0) fun r34 => zgetR (some x0) 24 0 fun v35 => zcall (s_X1_onRingOf K v35 (2 : Int32)) fun r36 => zcallV r34 21 (fun y0 => s_J5_append_2 K y0 r36) fun r37 => self24 ()
def s_X1_tellRing_J104 (K : ZK) (x0 : Nat) (x1 : Option Nat) (x2 : Option Nat) (t0 : Option Nat) (t1 : Option Nat) (self24 : Unit → ZP Int32) : ZP Int32 :=
  zcallV t1 21 (fun y0 => s_J5_append K y0 t0) fun r25 => zgetR (some x0) 24 0 fun v26 => zgetI v26 34 1 fun v27 => zif (v27 = 0) (self24 ()) (zgetR (some x0) 24 0 fun v28 => zgetI v28 34 2 fun v29 => zgetI x2 37 0 fun v30 => zif (v29 = v30) (zgetR (some x0) 24 4 fun v31 => zgetR (some x0) 24 0 fun v32 => zgetI v32 34 1 fun v33 => zif (v33 = (1 : Int32)) (s_X1_tellRing_J154 K x0 x1 (84 : Int32) v31 self24) (s_X1_tellRing_J154 K x0 x1 (70 : Int32) v31 self24)) (self24 ()))
def s_X1_tellRing_J66 (K : ZK) (x0 : Nat) (x1 : Option Nat) (x2 : Option Nat) (t0 : Option Nat) (t1 : Option Nat) (self24 : Unit → ZP Int32) : ZP Int32 :=
  zcallV t1 21 (fun y0 => s_J5_append K y0 t0) fun r18 => zgetI x2 37 0 fun v19 => zcallV r18 21 (fun y0 => s_J5_append_2 K y0 v19) fun r20 => zgetR (some x0) 24 4 fun v21 => zgetI x2 37 0 fun v22 => zgetR (some x0) 24 0 fun v23 => zgetI v23 34 6 fun v24 => zif (v22 = v24) (s_X1_tellRing_J104 K x0 x1 x2 (some (K.1 12)) v21 self24) (s_X1_tellRing_J104 K x0 x1 x2 (some (K.1 11)) v21 self24)
def s_X1_tellRing_B24 (K : ZK) (x0 : Nat) (x1 : Option Nat) (self24 : Unit → ZP Int32) : ZP Int32 :=
  zcallV x1 8 (fun y0 => s_J26_hasNext__J28 K y0) fun r6 => zif (r6 = 0) (zgetR (some x0) 24 4 fun v7 => zgetR (some x0) 24 0 fun v8 => zgetR v8 34 0 fun v9 => zcallV v9 0 (fun y0 => s_J0_isEmpty__J1 K y0) fun r10 => zif (r10 = 0) (s_X1_tellRing_J198 K x0 (some (K.1 11)) v7) (s_X1_tellRing_J198 K x0 (some (K.1 13)) v7)) (zcallV x1 8 (fun y0 => s_J28_next K y0) fun r14 => zcast r14 [37] (zgetR (some x0) 24 4 fun v15 => zgetR (some x0) 24 4 fun v16 => zcallV v16 21 (fun y0 => s_J5_length K y0) fun r17 => zif (r17 ≤ 0) (s_X1_tellRing_J66 K x0 x1 r14 (some (K.1 11)) v15 self24) (s_X1_tellRing_J66 K x0 x1 r14 (some (K.1 10)) v15 self24)))
def s_X1_tellRing_L24 (K : ZK) (x0 : Nat) (x1 : Option Nat) : Unit → ZP Int32 := zloop (fun self24 v => s_X1_tellRing_B24 K x0 x1 self24)
def s_X1_tellRing (K : ZK) (this : Nat) : ZP Int32 :=
  zgetR (some this) 24 4 fun v1 => zcallV v1 21 (fun y0 => s_J5_setLength K y0 (0 : Int32)) fun _ => zgetR (some this) 24 0 fun v2 => zgetR v2 34 0 fun v3 => zcallV v3 0 (fun y0 => s_J1_values K y0) fun r4 => zcallV r4 3 (fun y0 => s_J21_iterator K y0) fun r5 => s_X1_tellRing_L24 K this r5 ()
def s_X1_save (K : ZK) (this : Nat) : ZP Int32 :=
  zgetR (some this) 24 0 fun v1 => zcallV v1 34 (fun y0 => s_X2_copy K y0) fun r2 => zputR (some this) 24 1 r2 (zgetR (some this) 24 0 fun v3 => zgetI v3 34 8 fun v4 => zret v4)
def s_X3_init (K : ZK) (this : Nat) : ZP Unit :=
  znewA K 0 (671 : Int32) (.inl (fun _ => 0)) fun q1 => zputR (some this) 35 0 (some q1) (znewA K 0 (671 : Int32) (.inl (fun _ => 0)) fun q2 => zputR (some this) 35 1 (some q2) (znewA K 0 (671 : Int32) (.inl (fun _ => 0)) fun q3 => zputR (some this) 35 2 (some q3) (znewA K 0 (671 : Int32) (.inl (fun _ => 0)) fun q4 => zputR (some this) 35 3 (some q4) (znewA K 0 (5368 : Int32) (.inl (fun _ => 0)) fun q5 => zputR (some this) 35 4 (some q5) (zputI (some this) 35 5 (0 : Int32) (zputI (some this) 35 6 (0 : Int32) (zputI (some this) 35 7 (0 : Int32) (zputI (some this) 35 8 (0 : Int32) (zputI (some this) 35 9 (0 : Int32) (zputI (some this) 35 10 (0 : Int32) (zputI (some this) 35 11 (0 : Int32) (zputI (some this) 35 12 (0 : Int32) (zputI (some this) 35 13 (-1 : Int32) (zputT .boolean (some this) 35 14 (0 : Int32) (znewA K 0 (60 : Int32) (.inl (fun _ => 0)) fun q6 => zputR (some this) 35 15 (some q6) (znewA K 0 (32 : Int32) (.inl (fun _ => 0)) fun q7 => zputR (some this) 35 16 (some q7) (znewA K 0 (32 : Int32) (.inl (fun _ => 0)) fun q8 => zputR (some this) 35 17 (some q8) (znewA K 0 (32 : Int32) (.inl (fun _ => 0)) fun q9 => zputR (some this) 35 18 (some q9) (znewA K 0 (32 : Int32) (.inl (fun _ => 0)) fun q10 => zputR (some this) 35 19 (some q10) (zputI (some this) 35 20 (0 : Int32) (zputI (some this) 35 21 (0 : Int32) (zputI (some this) 35 22 (0 : Int32) (zputT .boolean (some this) 35 23 (0 : Int32) (znewA K 0 (120 : Int32) (.inl (fun _ => 0)) fun q11 => zputR (some this) 35 24 (some q11) (zputI (some this) 35 25 (0 : Int32) (zgetR (some this) 35 0 fun v12 => zast v12 (2 : Int32) (-1 : Int32) (zret ())))))))))))))))))))))))))))
def s_X3_thrown (K : ZK) (this : Nat) : ZP Int32 :=
  zgetI (some this) 35 5 fun v1 => zret v1
def s_X3_copies_B3 (K : ZK) (x0 : Option Nat) (x1 : Int32) (x2 : Option Nat) (x3 : Int32) (self3 : Int32 → ZP Unit) (x4 : Int32) : ZP Unit :=
  zif ((671 : Int32) ≤ x4) (zret ()) (zald x0 0 (x1 + x4) fun v1 => zast x2 (x3 + x4) v1 (self3 (x4 + (1 : Int32))))
def s_X3_copies_L3 (K : ZK) (x0 : Option Nat) (x1 : Int32) (x2 : Option Nat) (x3 : Int32) : Int32 → ZP Unit := zloop (fun self3 v => s_X3_copies_B3 K x0 x1 x2 x3 self3 v)
def s_X3_copies (K : ZK) (a1 : Option Nat) (a2 : Int32) (a3 : Option Nat) (a4 : Int32) : ZP Unit :=
  s_X3_copies_L3 K a1 a2 a3 a4 (0 : Int32)
def s_X3_begins (K : ZK) (this : Nat) : ZP Unit :=
  zputI (some this) 35 5 (0 : Int32) (zgetR (some this) 35 0 fun v1 => zgetR (some this) 35 1 fun v2 => zcall (s_X3_copies K v1 (0 : Int32) v2 (0 : Int32)) fun _ => zret ())
def s_X3_in (K : ZK) (a1 : Int32) (a2 : Int32) (a3 : Int32) : ZP Int32 :=
  zif (a1 < a2) (zret (0 : Int32)) (zif (a3 < a1) (zret (0 : Int32)) (zret (1 : Int32)))
def s_X3_isAddress (K : ZK) (a1 : Int32) : ZP Int32 :=
  zcall (s_X3_in K a1 (0 : Int32) (99 : Int32)) fun r1 => zasg (narrow .boolean (.int r1) = .int r1) (zret r1)
def s_X3_isBad (K : ZK) (this : Nat) (a1 : Int32) (a2 : Int32) : ZP Int32 :=
  zputI (some this) 35 7 a1 (zputI (some this) 35 8 a2 (zret (1 : Int32)))
def s_X3_sv (K : ZK) (this : Nat) (a1 : Int32) (a2 : Int32) : ZP Int32 :=
  zgetR (some this) 35 0 fun v1 => zald v1 0 (((31 : Int32) + ((64 : Int32) * a1)) + a2) fun v2 => zret v2
def s_X3_placeOf_B2 (K : ZK) (x0 : Nat) (x1 : Int32) (self2 : Int32 → ZP Int32) (x2 : Int32) : ZP Int32 :=
  zgetR (some x0) 35 0 fun v1 => zald v1 0 (1 : Int32) fun v2 => zif (v2 ≤ x2) (zret (-1 : Int32)) (zcallV (some x0) 35 (fun y0 => s_X3_sv K y0 x2 (0 : Int32)) fun r3 => zif (r3 = x1) (zret x2) (self2 (x2 + (1 : Int32))))
def s_X3_placeOf_L2 (K : ZK) (x0 : Nat) (x1 : Int32) : Int32 → ZP Int32 := zloop (fun self2 v => s_X3_placeOf_B2 K x0 x1 self2 v)
def s_X3_placeOf (K : ZK) (this : Nat) (a1 : Int32) : ZP Int32 :=
  s_X3_placeOf_L2 K this a1 (0 : Int32)
def s_X3_isRefusedJoin (K : ZK) (this : Nat) (a1 : Int32) : ZP Int32 :=
  zcall (s_X3_isAddress K a1) fun r1 => zif (r1 = 0) (zcallV (some this) 35 (fun y0 => s_X3_isBad K y0 (1 : Int32) a1) fun r2 => zasg (narrow .boolean (.int r2) = .int r2) (zret r2)) (zcallV (some this) 35 (fun y0 => s_X3_placeOf K y0 a1) fun r3 => zif (r3 < 0) (zgetR (some this) 35 0 fun v4 => zald v4 0 (1 : Int32) fun v5 => zif (v5 = (10 : Int32)) (zcallV (some this) 35 (fun y0 => s_X3_isBad K y0 (4 : Int32) (10 : Int32)) fun r6 => zif (r6 = 0) (zret (0 : Int32)) (zret (1 : Int32))) (zret (0 : Int32))) (zcallV (some this) 35 (fun y0 => s_X3_isBad K y0 (2 : Int32) a1) fun r7 => zasg (narrow .boolean (.int r7) = .int r7) (zret r7)))
def s_X3_ls (K : ZK) (this : Nat) (a1 : Int32) (a2 : Int32) (a3 : Int32) : ZP Unit :=
  zgetR (some this) 35 0 fun v1 => zast v1 (((31 : Int32) + ((64 : Int32) * a1)) + a2) a3 (zret ())
def s_X3_joins_B59 (K : ZK) (x0 : Nat) (x1 : Int32) (x2 : Int32) (self59 : Int32 → ZP Int32) (x3 : Int32) : ZP Int32 :=
  zif ((64 : Int32) ≤ x3) (zcallV (some x0) 35 (fun y0 => s_X3_ls K y0 x2 (0 : Int32) x1) fun _ => zgetR (some x0) 35 0 fun v3 => zald v3 0 (1 : Int32) fun v4 => zast v3 (1 : Int32) (v4 + (1 : Int32)) (zgetR (some x0) 35 0 fun v5 => zald v5 0 (1 : Int32) fun v6 => zret v6)) (zcallV (some x0) 35 (fun y0 => s_X3_ls K y0 x2 x3 (0 : Int32)) fun _ => self59 (x3 + (1 : Int32)))
def s_X3_joins_L59 (K : ZK) (x0 : Nat) (x1 : Int32) (x2 : Int32) : Int32 → ZP Int32 := zloop (fun self59 v => s_X3_joins_B59 K x0 x1 x2 self59 v)
def s_X3_joins_B25 (K : ZK) (x0 : Nat) (x1 : Int32) (x2 : Int32) (self7 : Int32 → ZP Int32) (self25 : Int32 → ZP Int32) (x3 : Int32) : ZP Int32 :=
  zif ((64 : Int32) ≤ x3) (self7 (x2 + (-1 : Int32))) (zcallV (some x0) 35 (fun y0 => s_X3_sv K y0 (x2 - (1 : Int32)) x3) fun r8 => zcallV (some x0) 35 (fun y0 => s_X3_ls K y0 x2 x3 r8) fun _ => self25 (x3 + (1 : Int32)))
def s_X3_joins_L25 (K : ZK) (x0 : Nat) (x1 : Int32) (x2 : Int32) (self7 : Int32 → ZP Int32) : Int32 → ZP Int32 := zloop (fun self25 v => s_X3_joins_B25 K x0 x1 x2 self7 self25 v)
def s_X3_joins_B7 (K : ZK) (x0 : Nat) (x1 : Int32) (self7 : Int32 → ZP Int32) (x2 : Int32) : ZP Int32 :=
  zif (x2 ≤ 0) (s_X3_joins_L59 K x0 x1 x2 (0 : Int32)) (zcallV (some x0) 35 (fun y0 => s_X3_sv K y0 (x2 - (1 : Int32)) (0 : Int32)) fun r7 => zif (r7 ≤ x1) (s_X3_joins_L59 K x0 x1 x2 (0 : Int32)) (s_X3_joins_L25 K x0 x1 x2 self7 (0 : Int32)))
def s_X3_joins_L7 (K : ZK) (x0 : Nat) (x1 : Int32) : Int32 → ZP Int32 := zloop (fun self7 v => s_X3_joins_B7 K x0 x1 self7 v)
def s_X3_joins (K : ZK) (this : Nat) (a1 : Int32) : ZP Int32 :=
  zgetR (some this) 35 0 fun v1 => zald v1 0 (1 : Int32) fun v2 => s_X3_joins_L7 K this a1 v2
def s_X3_keeps_J56 (K : ZK) (x0 : Nat) (x1 : Int32) : ZP Int32 :=
  zgetR (some x0) 35 1 fun v3 => zgetR (some x0) 35 4 fun v4 => zgetI (some x0) 35 6 fun v5 => zcall (s_X3_copies K v3 (0 : Int32) v4 ((671 : Int32) * v5)) fun _ => zgetI (some x0) 35 6 fun v6 => zputI (some x0) 35 6 (v6 + (1 : Int32)) (zret x1)
def s_X3_keeps_B11 (K : ZK) (x0 : Nat) (x1 : Int32) (self11 : Int32 → ZP Int32) (x2 : Int32) : ZP Int32 :=
  zif ((8 : Int32) ≤ x2) (zgetI (some x0) 35 6 fun v2 => zputI (some x0) 35 6 (v2 - (1 : Int32)) (s_X3_keeps_J56 K x0 x1)) (zgetR (some x0) 35 4 fun v7 => zgetR (some x0) 35 4 fun v8 => zcall (s_X3_copies K v7 ((671 : Int32) * x2) v8 ((671 : Int32) * (x2 - (1 : Int32)))) fun _ => self11 (x2 + (1 : Int32)))
def s_X3_keeps_L11 (K : ZK) (x0 : Nat) (x1 : Int32) : Int32 → ZP Int32 := zloop (fun self11 v => s_X3_keeps_B11 K x0 x1 self11 v)
def s_X3_keeps (K : ZK) (this : Nat) (a1 : Int32) : ZP Int32 :=
  zgetI (some this) 35 6 fun v1 => zif (v1 = (8 : Int32)) (s_X3_keeps_L11 K this a1 (1 : Int32)) (s_X3_keeps_J56 K this a1)
def s_X3_no (K : ZK) (this : Nat) (a1 : Int32) : ZP Int32 :=
  zputI (some this) 35 5 a1 (zret (0 : Int32))
def s_X3_refused (K : ZK) (this : Nat) : ZP Int32 :=
  zgetI (some this) 35 7 fun v1 => zputI (some this) 35 9 v1 (zgetI (some this) 35 8 fun v2 => zputI (some this) 35 10 v2 (zputI (some this) 35 11 (0 : Int32) (zcallV (some this) 35 (fun y0 => s_X3_no K y0 (1 : Int32)) fun r3 => zret r3)))
def s_X3_join (K : ZK) (this : Nat) (a1 : Int32) : ZP Int32 :=
  zcallV (some this) 35 (fun y0 => s_X3_begins K y0) fun _ => zcallV (some this) 35 (fun y0 => s_X3_isRefusedJoin K y0 a1) fun r1 => zif (r1 = 0) (zcallV (some this) 35 (fun y0 => s_X3_joins K y0 a1) fun r2 => zcallV (some this) 35 (fun y0 => s_X3_keeps K y0 r2) fun r3 => zret r3) (zcallV (some this) 35 (fun y0 => s_X3_refused K y0) fun r4 => zret r4)
def s_X3_isOut (K : ZK) (this : Nat) (a1 : Int32) : ZP Int32 :=
  zcallV (some this) 35 (fun y0 => s_X3_placeOf K y0 a1) fun r1 => zif (0 ≤ r1) (zret (0 : Int32)) (zcallV (some this) 35 (fun y0 => s_X3_isBad K y0 (3 : Int32) a1) fun r2 => zif (r2 = 0) (zret (0 : Int32)) (zret (1 : Int32)))
def s_X3_losesIt_J24 (K : ZK) (x0 : Nat) (x1 : Int32) (t0 : Int32) (t1 : Option Nat) : ZP Int32 :=
  zald t1 0 t0 fun v4 => zast t1 t0 (v4 + (1 : Int32)) (zgetR (some x0) 35 0 fun v5 => zast v5 (18 : Int32) (0 : Int32) (zret x1))
def s_X3_losesIt (K : ZK) (this : Nat) : ZP Int32 :=
  zgetR (some this) 35 0 fun v1 => zald v1 0 (18 : Int32) fun v2 => zgetR (some this) 35 0 fun v3 => zif (v2 = (1 : Int32)) (s_X3_losesIt_J24 K this v2 (17 : Int32) v3) (s_X3_losesIt_J24 K this v2 (9 : Int32) v3)
def s_X3_nextOf (K : ZK) (this : Nat) (a1 : Int32) : ZP Int32 :=
  zcallV (some this) 35 (fun y0 => s_X3_placeOf K y0 a1) fun r1 => zgetR (some this) 35 0 fun v2 => zald v2 0 (1 : Int32) fun v3 => zasg (¬ v3 = 0) (zcallV (some this) 35 (fun y0 => s_X3_sv K y0 ((r1 + (1 : Int32)) - (r1 + (1 : Int32)) / v3 * v3) (0 : Int32)) fun r4 => zret r4)
def s_X3_leaves_B130 (K : ZK) (x0 : Nat) (x3 : Int32) (x4 : Int32) (self116 : Int32 → ZP Int32) (self130 : Int32 → ZP Int32) (x5 : Int32) : ZP Int32 :=
  zif ((64 : Int32) ≤ x5) (self116 (x4 + (1 : Int32))) (zcallV (some x0) 35 (fun y0 => s_X3_sv K y0 (x4 + (1 : Int32)) x5) fun r14 => zcallV (some x0) 35 (fun y0 => s_X3_ls K y0 x4 x5 r14) fun _ => self130 (x5 + (1 : Int32)))
def s_X3_leaves_L130 (K : ZK) (x0 : Nat) (x3 : Int32) (x4 : Int32) (self116 : Int32 → ZP Int32) : Int32 → ZP Int32 := zloop (fun self130 v => s_X3_leaves_B130 K x0 x3 x4 self116 self130 v)
def s_X3_leaves_B116 (K : ZK) (x0 : Nat) (x3 : Int32) (self116 : Int32 → ZP Int32) (x4 : Int32) : ZP Int32 :=
  zgetR (some x0) 35 0 fun v12 => zald v12 0 (1 : Int32) fun v13 => zif (v13 ≤ x4) (zret x3) (s_X3_leaves_L130 K x0 x3 x4 self116 (0 : Int32))
def s_X3_leaves_L116 (K : ZK) (x0 : Nat) (x3 : Int32) : Int32 → ZP Int32 := zloop (fun self116 v => s_X3_leaves_B116 K x0 x3 self116 v)
def s_X3_leaves_J103 (K : ZK) (x0 : Nat) (x2 : Int32) (x3 : Int32) : ZP Int32 :=
  zgetR (some x0) 35 0 fun v10 => zald v10 0 (1 : Int32) fun v11 => zast v10 (1 : Int32) (v11 - (1 : Int32)) (s_X3_leaves_L116 K x0 x3 x2)
def s_X3_leaves_J86 (K : ZK) (x0 : Nat) (x1 : Int32) (x2 : Int32) (x3 : Int32) : ZP Int32 :=
  zgetR (some x0) 35 0 fun v7 => zald v7 0 (2 : Int32) fun v8 => zif (v8 = x1) (zgetR (some x0) 35 0 fun v9 => zast v9 (2 : Int32) (-1 : Int32) (s_X3_leaves_J103 K x0 x2 x3)) (s_X3_leaves_J103 K x0 x2 x3)
def s_X3_leaves (K : ZK) (this : Nat) (a1 : Int32) : ZP Int32 :=
  zcallV (some this) 35 (fun y0 => s_X3_placeOf K y0 a1) fun r1 => zcallV (some this) 35 (fun y0 => s_X3_sv K y0 r1 (1 : Int32)) fun r2 => zgetR (some this) 35 0 fun v3 => zald v3 0 (10 : Int32) fun v4 => zast v3 (10 : Int32) (v4 + r2) (zgetR (some this) 35 0 fun v5 => zald v5 0 (18 : Int32) fun v6 => zif (v6 ≤ 0) (s_X3_leaves_J86 K this a1 r1 r2) (zgetR (some this) 35 0 fun v15 => zald v15 0 (19 : Int32) fun v16 => zif (v16 = a1) (zgetR (some this) 35 0 fun v17 => zald v17 0 (1 : Int32) fun v18 => zif (v18 = (1 : Int32)) (zcallV (some this) 35 (fun y0 => s_X3_losesIt K y0) fun r19 => zif (r19 = (2 : Int32)) (s_X3_leaves_J86 K this a1 r1 (r2 + (1 : Int32))) (s_X3_leaves_J86 K this a1 r1 (r2 + (0 : Int32)))) (zgetR (some this) 35 0 fun v20 => zcallV (some this) 35 (fun y0 => s_X3_nextOf K y0 a1) fun r21 => zast v20 (19 : Int32) r21 (s_X3_leaves_J86 K this a1 r1 r2))) (s_X3_leaves_J86 K this a1 r1 r2)))
def s_X3_leave (K : ZK) (this : Nat) (a1 : Int32) : ZP Int32 :=
  zcallV (some this) 35 (fun y0 => s_X3_begins K y0) fun _ => zcallV (some this) 35 (fun y0 => s_X3_isOut K y0 a1) fun r1 => zif (r1 = 0) (zcallV (some this) 35 (fun y0 => s_X3_leaves K y0 a1) fun r2 => zcallV (some this) 35 (fun y0 => s_X3_keeps K y0 r2) fun r3 => zret r3) (zcallV (some this) 35 (fun y0 => s_X3_refused K y0) fun r4 => zret r4)
def s_X3_isRefusedQueue (K : ZK) (this : Nat) (a1 : Int32) (a2 : Int32) (a3 : Int32) (a4 : Int32) : ZP Int32 :=
  zcallV (some this) 35 (fun y0 => s_X3_isOut K y0 a1) fun r1 => zif (r1 = 0) (zcall (s_X3_isAddress K a2) fun r2 => zif (r2 = 0) (zcallV (some this) 35 (fun y0 => s_X3_isBad K y0 (1 : Int32) a2) fun r3 => zasg (narrow .boolean (.int r3) = .int r3) (zret r3)) (zcall (s_X3_in K a3 (0 : Int32) (3 : Int32)) fun r4 => zif (r4 = 0) (zcallV (some this) 35 (fun y0 => s_X3_isBad K y0 (1 : Int32) a3) fun r5 => zasg (narrow .boolean (.int r5) = .int r5) (zret r5)) (zcall (s_X3_in K a4 (1 : Int32) (9 : Int32)) fun r6 => zif (r6 = 0) (zcallV (some this) 35 (fun y0 => s_X3_isBad K y0 (1 : Int32) a4) fun r7 => zasg (narrow .boolean (.int r7) = .int r7) (zret r7)) (zif (a1 = a2) (zcallV (some this) 35 (fun y0 => s_X3_isBad K y0 (5 : Int32) a1) fun r8 => zasg (narrow .boolean (.int r8) = .int r8) (zret r8)) (zcallV (some this) 35 (fun y0 => s_X3_placeOf K y0 a1) fun r9 => zcallV (some this) 35 (fun y0 => s_X3_sv K y0 r9 (1 : Int32)) fun r10 => zif (r10 = (12 : Int32)) (zcallV (some this) 35 (fun y0 => s_X3_isBad K y0 (4 : Int32) (12 : Int32)) fun r11 => zif (r11 = 0) (zret (0 : Int32)) (zret (1 : Int32))) (zret (0 : Int32))))))) (zret (1 : Int32))
def s_X3_qv (K : ZK) (this : Nat) (a1 : Int32) (a2 : Int32) (a3 : Int32) : ZP Int32 :=
  zcallV (some this) 35 (fun y0 => s_X3_sv K y0 a1 (((4 : Int32) + ((5 : Int32) * a2)) + a3)) fun r1 => zret r1
def s_X3_queues_J84 (K : ZK) (x0 : Nat) (x2 : Int32) (x3 : Int32) (x4 : Int32) (x5 : Int32) (x6 : Int32) : ZP Int32 :=
  zgetR (some x0) 35 0 fun v3 => zald v3 0 (4 : Int32) fun v4 => zcallV (some x0) 35 (fun y0 => s_X3_ls K y0 x5 (((4 : Int32) + ((5 : Int32) * x6)) + (0 : Int32)) v4) fun _ => zcallV (some x0) 35 (fun y0 => s_X3_ls K y0 x5 (((4 : Int32) + ((5 : Int32) * x6)) + (1 : Int32)) x2) fun _ => zcallV (some x0) 35 (fun y0 => s_X3_ls K y0 x5 (((4 : Int32) + ((5 : Int32) * x6)) + (2 : Int32)) x3) fun _ => zcallV (some x0) 35 (fun y0 => s_X3_ls K y0 x5 (((4 : Int32) + ((5 : Int32) * x6)) + (3 : Int32)) x4) fun _ => zgetR (some x0) 35 0 fun v5 => zald v5 0 (0 : Int32) fun v6 => zcallV (some x0) 35 (fun y0 => s_X3_ls K y0 x5 (((4 : Int32) + ((5 : Int32) * x6)) + (4 : Int32)) v6) fun _ => zcallV (some x0) 35 (fun y0 => s_X3_sv K y0 x5 (1 : Int32)) fun r7 => zcallV (some x0) 35 (fun y0 => s_X3_ls K y0 x5 (1 : Int32) (r7 + (1 : Int32))) fun _ => zgetR (some x0) 35 0 fun v8 => zald v8 0 (4 : Int32) fun v9 => zast v8 (4 : Int32) (v9 + (1 : Int32)) (zgetR (some x0) 35 0 fun v10 => zald v10 0 (4 : Int32) fun v11 => zret (v11 - (1 : Int32)))
def s_X3_queues_B39 (K : ZK) (x0 : Nat) (x2 : Int32) (x3 : Int32) (x4 : Int32) (x5 : Int32) (x6 : Int32) (self16 : Int32 → ZP Int32) (self39 : Int32 → ZP Int32) (x7 : Int32) : ZP Int32 :=
  zif ((5 : Int32) ≤ x7) (self16 (x6 + (-1 : Int32))) (zcallV (some x0) 35 (fun y0 => s_X3_qv K y0 x5 (x6 - (1 : Int32)) x7) fun r13 => zcallV (some x0) 35 (fun y0 => s_X3_ls K y0 x5 (((4 : Int32) + ((5 : Int32) * x6)) + x7) r13) fun _ => self39 (x7 + (1 : Int32)))
def s_X3_queues_L39 (K : ZK) (x0 : Nat) (x2 : Int32) (x3 : Int32) (x4 : Int32) (x5 : Int32) (x6 : Int32) (self16 : Int32 → ZP Int32) : Int32 → ZP Int32 := zloop (fun self39 v => s_X3_queues_B39 K x0 x2 x3 x4 x5 x6 self16 self39 v)
def s_X3_queues_B16 (K : ZK) (x0 : Nat) (x2 : Int32) (x3 : Int32) (x4 : Int32) (x5 : Int32) (self16 : Int32 → ZP Int32) (x6 : Int32) : ZP Int32 :=
  zif (x6 ≤ 0) (s_X3_queues_J84 K x0 x2 x3 x4 x5 x6) (zcallV (some x0) 35 (fun y0 => s_X3_qv K y0 x5 (x6 - (1 : Int32)) (2 : Int32)) fun r12 => zif (x3 ≤ r12) (s_X3_queues_J84 K x0 x2 x3 x4 x5 x6) (s_X3_queues_L39 K x0 x2 x3 x4 x5 x6 self16 (0 : Int32)))
def s_X3_queues_L16 (K : ZK) (x0 : Nat) (x2 : Int32) (x3 : Int32) (x4 : Int32) (x5 : Int32) : Int32 → ZP Int32 := zloop (fun self16 v => s_X3_queues_B16 K x0 x2 x3 x4 x5 self16 v)
def s_X3_queues (K : ZK) (this : Nat) (a1 : Int32) (a2 : Int32) (a3 : Int32) (a4 : Int32) : ZP Int32 :=
  zcallV (some this) 35 (fun y0 => s_X3_placeOf K y0 a1) fun r1 => zcallV (some this) 35 (fun y0 => s_X3_sv K y0 r1 (1 : Int32)) fun r2 => s_X3_queues_L16 K this a2 a3 a4 r1 r2
def s_X3_queue (K : ZK) (this : Nat) (a1 : Int32) (a2 : Int32) (a3 : Int32) (a4 : Int32) : ZP Int32 :=
  zcallV (some this) 35 (fun y0 => s_X3_begins K y0) fun _ => zcallV (some this) 35 (fun y0 => s_X3_isRefusedQueue K y0 a1 a2 a3 a4) fun r1 => zif (r1 = 0) (zcallV (some this) 35 (fun y0 => s_X3_queues K y0 a1 a2 a3 a4) fun r2 => zcallV (some this) 35 (fun y0 => s_X3_keeps K y0 r2) fun r3 => zret r3) (zcallV (some this) 35 (fun y0 => s_X3_refused K y0) fun r4 => zret r4)
def s_X3_drop_J42 (K : ZK) (x0 : Nat) (x2 : Int32) : ZP Int32 :=
  zcallV (some x0) 35 (fun y0 => s_X3_sv K y0 x2 (1 : Int32)) fun r5 => zcallV (some x0) 35 (fun y0 => s_X3_ls K y0 x2 (1 : Int32) (r5 - (1 : Int32))) fun _ => zgetR (some x0) 35 0 fun v6 => zald v6 0 (11 : Int32) fun v7 => zast v6 (11 : Int32) (v7 + (1 : Int32)) (zcallV (some x0) 35 (fun y0 => s_X3_qv K y0 x2 (r5 - (1 : Int32)) (0 : Int32)) fun r8 => zcallV (some x0) 35 (fun y0 => s_X3_keeps K y0 r8) fun r9 => zret r9)
def s_X3_drop_J37 (K : ZK) (x0 : Nat) : ZP Int32 :=
  zcallV (some x0) 35 (fun y0 => s_X3_refused K y0) fun r10 => zret r10
def s_X3_drop (K : ZK) (this : Nat) (a1 : Int32) : ZP Int32 :=
  zcallV (some this) 35 (fun y0 => s_X3_begins K y0) fun _ => zcallV (some this) 35 (fun y0 => s_X3_placeOf K y0 a1) fun r1 => zcallV (some this) 35 (fun y0 => s_X3_isOut K y0 a1) fun r2 => zif (r2 = 0) (zcallV (some this) 35 (fun y0 => s_X3_sv K y0 r1 (1 : Int32)) fun r3 => zif (r3 = 0) (zcallV (some this) 35 (fun y0 => s_X3_isBad K y0 (9 : Int32) a1) fun r4 => zif (r4 = 0) (s_X3_drop_J42 K this r1) (s_X3_drop_J37 K this)) (s_X3_drop_J42 K this r1)) (s_X3_drop_J37 K this)
def s_X3_isRefusedMonitor (K : ZK) (this : Nat) (a1 : Int32) : ZP Int32 :=
  zcallV (some this) 35 (fun y0 => s_X3_isOut K y0 a1) fun r1 => zif (r1 = 0) (zgetR (some this) 35 0 fun v2 => zald v2 0 (2 : Int32) fun v3 => zif (v3 = a1) (zcallV (some this) 35 (fun y0 => s_X3_isBad K y0 (8 : Int32) a1) fun r4 => zif (r4 = 0) (zret (0 : Int32)) (zret (1 : Int32))) (zret (0 : Int32))) (zret (1 : Int32))
def s_X3_monitors (K : ZK) (this : Nat) (a1 : Int32) : ZP Int32 :=
  zgetR (some this) 35 0 fun v1 => zald v1 0 (2 : Int32) fun v2 => zgetR (some this) 35 0 fun v3 => zast v3 (2 : Int32) a1 (zret v2)
def s_X3_monitor (K : ZK) (this : Nat) (a1 : Int32) : ZP Int32 :=
  zcallV (some this) 35 (fun y0 => s_X3_begins K y0) fun _ => zcallV (some this) 35 (fun y0 => s_X3_isRefusedMonitor K y0 a1) fun r1 => zif (r1 = 0) (zcallV (some this) 35 (fun y0 => s_X3_monitors K y0 a1) fun r2 => zcallV (some this) 35 (fun y0 => s_X3_keeps K y0 r2) fun r3 => zret r3) (zcallV (some this) 35 (fun y0 => s_X3_refused K y0) fun r4 => zret r4)
def s_X3_comesToken (K : ZK) (this : Nat) (a1 : Int32) (a2 : Int32) : ZP Unit :=
  zgetR (some this) 35 0 fun v1 => zast v1 (18 : Int32) (1 : Int32) (zgetR (some this) 35 0 fun v2 => zast v2 (19 : Int32) a1 (zgetR (some this) 35 0 fun v3 => zast v3 (20 : Int32) a2 (zgetR (some this) 35 0 fun v4 => zast v4 (21 : Int32) (0 : Int32) (zret ()))))
def s_X3_allWaiting_B4 (K : ZK) (x0 : Nat) (self4 : (Int32 × Int32) → ZP Int32) (x1 : Int32) (x2 : Int32) : ZP Int32 :=
  zgetR (some x0) 35 0 fun v1 => zald v1 0 (1 : Int32) fun v2 => zif (v2 ≤ x2) (zret x1) (zcallV (some x0) 35 (fun y0 => s_X3_sv K y0 x2 (1 : Int32)) fun r3 => self4 (x1 + r3, x2 + (1 : Int32)))
def s_X3_allWaiting_L4 (K : ZK) (x0 : Nat) : (Int32 × Int32) → ZP Int32 := zloop (fun self4 v => s_X3_allWaiting_B4 K x0 self4 v.1 v.2)
def s_X3_allWaiting (K : ZK) (this : Nat) : ZP Int32 :=
  s_X3_allWaiting_L4 K this ((0 : Int32), (0 : Int32))
def s_X3_token_J43 (K : ZK) (x0 : Nat) (x1 : Int32) : ZP Int32 :=
  zcallV (some x0) 35 (fun y0 => s_X3_comesToken K y0 x1 (0 : Int32)) fun _ => zgetR (some x0) 35 0 fun v4 => zast v4 (3 : Int32) (0 : Int32) (zcallV (some x0) 35 (fun y0 => s_X3_allWaiting K y0) fun r5 => zcallV (some x0) 35 (fun y0 => s_X3_keeps K y0 r5) fun r6 => zret r6)
def s_X3_token_J38 (K : ZK) (x0 : Nat) : ZP Int32 :=
  zcallV (some x0) 35 (fun y0 => s_X3_refused K y0) fun r10 => zret r10
def s_X3_token (K : ZK) (this : Nat) (a1 : Int32) : ZP Int32 :=
  zcallV (some this) 35 (fun y0 => s_X3_begins K y0) fun _ => zcallV (some this) 35 (fun y0 => s_X3_isOut K y0 a1) fun r1 => zif (r1 = 0) (zgetR (some this) 35 0 fun v2 => zald v2 0 (18 : Int32) fun v3 => zif (v3 ≤ 0) (s_X3_token_J43 K this a1) (zgetR (some this) 35 0 fun v7 => zald v7 0 (18 : Int32) fun v8 => zcallV (some this) 35 (fun y0 => s_X3_isBad K y0 (6 : Int32) v8) fun r9 => zif (r9 = 0) (s_X3_token_J43 K this a1) (s_X3_token_J38 K this))) (s_X3_token_J38 K this)
def s_X3_isSilent (K : ZK) (this : Nat) : ZP Int32 :=
  zgetR (some this) 35 0 fun v1 => zald v1 0 (18 : Int32) fun v2 => zif (v2 = 0) (zcallV (some this) 35 (fun y0 => s_X3_isBad K y0 (7 : Int32) (0 : Int32)) fun r3 => zif (r3 = 0) (zret (0 : Int32)) (zret (1 : Int32))) (zret (0 : Int32))
def s_X3_lose (K : ZK) (this : Nat) : ZP Int32 :=
  zcallV (some this) 35 (fun y0 => s_X3_begins K y0) fun _ => zcallV (some this) 35 (fun y0 => s_X3_isSilent K y0) fun r1 => zif (r1 = 0) (zcallV (some this) 35 (fun y0 => s_X3_losesIt K y0) fun r2 => zcallV (some this) 35 (fun y0 => s_X3_keeps K y0 r2) fun r3 => zret r3) (zcallV (some this) 35 (fun y0 => s_X3_refused K y0) fun r4 => zret r4)
def s_X3_areTicks (K : ZK) (a1 : Int32) : ZP Int32 :=
  zcall (s_X3_in K a1 (1 : Int32) (40 : Int32)) fun r1 => zasg (narrow .boolean (.int r1) = .int r1) (zret r1)
def s_X3_isRefusedTicks (K : ZK) (this : Nat) (a1 : Int32) : ZP Int32 :=
  zcall (s_X3_areTicks K a1) fun r1 => zif (r1 = 0) (zcallV (some this) 35 (fun y0 => s_X3_isBad K y0 (1 : Int32) a1) fun r2 => zif (r2 = 0) (zret (0 : Int32)) (zret (1 : Int32))) (zret (0 : Int32))
def s_X3_waitsOn_J58 (K : ZK) (x0 : Nat) : ZP Unit :=
  zgetR (some x0) 35 0 fun v5 => zald v5 0 (3 : Int32) fun v6 => zif (v6 < (8 : Int32)) (zret ()) (zgetR (some x0) 35 0 fun v7 => zald v7 0 (2 : Int32) fun v8 => zif (0 ≤ v8) (zret ()) (zgetR (some x0) 35 0 fun v9 => zald v9 0 (1 : Int32) fun v10 => zif (v10 ≤ 0) (zret ()) (zgetR (some x0) 35 0 fun v11 => zgetR (some x0) 35 0 fun v12 => zald v12 0 (1 : Int32) fun v13 => zcallV (some x0) 35 (fun y0 => s_X3_sv K y0 (v13 - (1 : Int32)) (0 : Int32)) fun r14 => zast v11 (2 : Int32) r14 (zgetR (some x0) 35 0 fun v15 => zast v15 (3 : Int32) (0 : Int32) (zgetR (some x0) 35 0 fun v16 => zald v16 0 (16 : Int32) fun v17 => zast v16 (16 : Int32) (v17 + (1 : Int32)) (zret ()))))))
def s_X3_waitsOn (K : ZK) (this : Nat) : ZP Unit :=
  zgetR (some this) 35 0 fun v1 => zald v1 0 (3 : Int32) fun v2 => zast v1 (3 : Int32) (v2 + (1 : Int32)) (zgetR (some this) 35 0 fun v3 => zald v3 0 (3 : Int32) fun v4 => zif (v4 < (5 : Int32)) (s_X3_waitsOn_J58 K this) (zgetR (some this) 35 0 fun v18 => zald v18 0 (2 : Int32) fun v19 => zif (v19 < 0) (s_X3_waitsOn_J58 K this) (zgetR (some this) 35 0 fun v20 => zald v20 0 (2 : Int32) fun v21 => zcallV (some this) 35 (fun y0 => s_X3_comesToken K y0 v21 (0 : Int32)) fun _ => zgetR (some this) 35 0 fun v22 => zast v22 (3 : Int32) (0 : Int32) (zgetR (some this) 35 0 fun v23 => zald v23 0 (15 : Int32) fun v24 => zast v23 (15 : Int32) (v24 + (1 : Int32)) (s_X3_waitsOn_J58 K this)))))
def s_X3_takes (K : ZK) (this : Nat) (a1 : Int32) : ZP Int32 :=
  zcallV (some this) 35 (fun y0 => s_X3_sv K y0 a1 (1 : Int32)) fun r1 => zif (r1 ≤ 0) (zret (0 : Int32)) (zcallV (some this) 35 (fun y0 => s_X3_qv K y0 a1 (0 : Int32) (2 : Int32)) fun r2 => zgetR (some this) 35 0 fun v3 => zald v3 0 (20 : Int32) fun v4 => zif (r2 < v4) (zret (0 : Int32)) (zret (1 : Int32)))
def s_X3_most (K : ZK) (a1 : Int32) (a2 : Int32) : ZP Int32 :=
  zif (a1 ≤ a2) (zret a2) (zret a1)
def s_X3_puts_B212 (K : ZK) (x0 : Nat) (x1 : Int32) (x3 : Int32) (self199 : Int32 → ZP Unit) (self212 : Int32 → ZP Unit) (x4 : Int32) : ZP Unit :=
  zif ((5 : Int32) ≤ x4) (self199 (x3 + (1 : Int32))) (zcallV (some x0) 35 (fun y0 => s_X3_qv K y0 x1 (x3 + (1 : Int32)) x4) fun r32 => zcallV (some x0) 35 (fun y0 => s_X3_ls K y0 x1 (((4 : Int32) + ((5 : Int32) * x3)) + x4) r32) fun _ => self212 (x4 + (1 : Int32)))
def s_X3_puts_L212 (K : ZK) (x0 : Nat) (x1 : Int32) (x3 : Int32) (self199 : Int32 → ZP Unit) : Int32 → ZP Unit := zloop (fun self212 v => s_X3_puts_B212 K x0 x1 x3 self199 self212 v)
def s_X3_puts_B199 (K : ZK) (x0 : Nat) (x1 : Int32) (self199 : Int32 → ZP Unit) (x3 : Int32) : ZP Unit :=
  zcallV (some x0) 35 (fun y0 => s_X3_sv K y0 x1 (1 : Int32)) fun r31 => zif (r31 ≤ x3) (zret ()) (s_X3_puts_L212 K x0 x1 x3 self199 (0 : Int32))
def s_X3_puts_L199 (K : ZK) (x0 : Nat) (x1 : Int32) : Int32 → ZP Unit := zloop (fun self199 v => s_X3_puts_B199 K x0 x1 self199 v)
def s_X3_puts (K : ZK) (this : Nat) (a1 : Int32) : ZP Unit :=
  zgetR (some this) 35 0 fun v1 => zald v1 0 (0 : Int32) fun v2 => zcallV (some this) 35 (fun y0 => s_X3_qv K y0 a1 (0 : Int32) (4 : Int32)) fun r3 => zgetR (some this) 35 0 fun v4 => zast v4 (18 : Int32) (2 : Int32) (zgetR (some this) 35 0 fun v5 => zcallV (some this) 35 (fun y0 => s_X3_qv K y0 a1 (0 : Int32) (0 : Int32)) fun r6 => zast v5 (22 : Int32) r6 (zgetR (some this) 35 0 fun v7 => zcallV (some this) 35 (fun y0 => s_X3_sv K y0 a1 (0 : Int32)) fun r8 => zast v7 (23 : Int32) r8 (zgetR (some this) 35 0 fun v9 => zcallV (some this) 35 (fun y0 => s_X3_qv K y0 a1 (0 : Int32) (1 : Int32)) fun r10 => zast v9 (24 : Int32) r10 (zgetR (some this) 35 0 fun v11 => zcallV (some this) 35 (fun y0 => s_X3_qv K y0 a1 (0 : Int32) (2 : Int32)) fun r12 => zast v11 (25 : Int32) r12 (zgetR (some this) 35 0 fun v13 => zcallV (some this) 35 (fun y0 => s_X3_qv K y0 a1 (0 : Int32) (3 : Int32)) fun r14 => zast v13 (26 : Int32) r14 (zgetR (some this) 35 0 fun v15 => zgetR (some this) 35 0 fun v16 => zald v16 0 (20 : Int32) fun v17 => zast v15 (27 : Int32) v17 (zgetR (some this) 35 0 fun v18 => zast v18 (28 : Int32) (0 : Int32) (zgetR (some this) 35 0 fun v19 => zast v19 (29 : Int32) (0 : Int32) (zgetR (some this) 35 0 fun v20 => zast v20 (30 : Int32) (0 : Int32) (zgetR (some this) 35 0 fun v21 => zald v21 0 (5 : Int32) fun v22 => zast v21 (5 : Int32) (v22 + (1 : Int32)) (zgetR (some this) 35 0 fun v23 => zald v23 0 (13 : Int32) fun v24 => zast v23 (13 : Int32) (v24 + (v2 - r3)) (zgetR (some this) 35 0 fun v25 => zgetR (some this) 35 0 fun v26 => zald v26 0 (14 : Int32) fun v27 => zcall (s_X3_most K v27 (v2 - r3)) fun r28 => zast v25 (14 : Int32) r28 (zcallV (some this) 35 (fun y0 => s_X3_sv K y0 a1 (2 : Int32)) fun r29 => zcallV (some this) 35 (fun y0 => s_X3_ls K y0 a1 (2 : Int32) (r29 + (1 : Int32))) fun _ => zcallV (some this) 35 (fun y0 => s_X3_sv K y0 a1 (1 : Int32)) fun r30 => zcallV (some this) 35 (fun y0 => s_X3_ls K y0 a1 (1 : Int32) (r30 - (1 : Int32))) fun _ => s_X3_puts_L199 K this a1 (0 : Int32))))))))))))))
def s_X3_tokenComes (K : ZK) (this : Nat) (a1 : Int32) : ZP Unit :=
  zcallV (some this) 35 (fun y0 => s_X3_takes K y0 a1) fun r1 => zif (r1 = 0) (zgetR (some this) 35 0 fun v2 => zald v2 0 (20 : Int32) fun v3 => zif (v3 = 0) (zret ()) (zgetR (some this) 35 0 fun v4 => zald v4 0 (19 : Int32) fun v5 => zgetR (some this) 35 0 fun v6 => zald v6 0 (2 : Int32) fun v7 => zif (v5 = v7) (zgetR (some this) 35 0 fun v8 => zald v8 0 (21 : Int32) fun v9 => zast v8 (21 : Int32) (v9 + (1 : Int32)) (zgetR (some this) 35 0 fun v10 => zald v10 0 (21 : Int32) fun v11 => zif (v11 = (3 : Int32)) (zgetR (some this) 35 0 fun v12 => zast v12 (20 : Int32) (0 : Int32) (zret ())) (zret ()))) (zret ()))) (zcallV (some this) 35 (fun y0 => s_X3_puts K y0 a1) fun _ => zret ())
def s_X3_frameComes_J199 (K : ZK) (x0 : Nat) (x1 : Int32) (x2 : Int32) : ZP Int32 :=
  zcallV (some x0) 35 (fun y0 => s_X3_sv K y0 x1 (1 : Int32)) fun r39 => zif (r39 ≤ 0) (zret x2) (zgetR (some x0) 35 0 fun v40 => zgetR (some x0) 35 0 fun v41 => zald v41 0 (28 : Int32) fun v42 => zcallV (some x0) 35 (fun y0 => s_X3_qv K y0 x1 (0 : Int32) (2 : Int32)) fun r43 => zcall (s_X3_most K v42 r43) fun r44 => zast v40 (28 : Int32) r44 (zret x2))
def s_X3_frameComes_J81 (K : ZK) (x0 : Nat) (x1 : Int32) (x2 : Int32) : ZP Int32 :=
  zgetR (some x0) 35 0 fun v15 => zald v15 0 (19 : Int32) fun v16 => zgetR (some x0) 35 0 fun v17 => zald v17 0 (23 : Int32) fun v18 => zif (v16 = v18) (zgetR (some x0) 35 0 fun v19 => zald v19 0 (7 : Int32) fun v20 => zast v19 (7 : Int32) (v20 + (1 : Int32)) (zgetR (some x0) 35 0 fun v21 => zald v21 0 (19 : Int32) fun v22 => zgetR (some x0) 35 0 fun v23 => zald v23 0 (28 : Int32) fun v24 => zgetR (some x0) 35 0 fun v25 => zald v25 0 (27 : Int32) fun v26 => zcall (s_X3_most K v24 v26) fun r27 => zcallV (some x0) 35 (fun y0 => s_X3_comesToken K y0 v22 r27) fun _ => zret x2)) (zgetR (some x0) 35 0 fun v28 => zald v28 0 (19 : Int32) fun v29 => zgetR (some x0) 35 0 fun v30 => zald v30 0 (2 : Int32) fun v31 => zif (v29 = v31) (zgetR (some x0) 35 0 fun v32 => zald v32 0 (29 : Int32) fun v33 => zif (v33 = (1 : Int32)) (zgetR (some x0) 35 0 fun v34 => zald v34 0 (8 : Int32) fun v35 => zast v34 (8 : Int32) (v35 + (1 : Int32)) (zgetR (some x0) 35 0 fun v36 => zald v36 0 (19 : Int32) fun v37 => zcallV (some x0) 35 (fun y0 => s_X3_comesToken K y0 v37 (0 : Int32)) fun _ => zret x2)) (zgetR (some x0) 35 0 fun v38 => zast v38 (29 : Int32) (1 : Int32) (s_X3_frameComes_J199 K x0 x1 x2))) (s_X3_frameComes_J199 K x0 x1 x2))
def s_X3_frameComes (K : ZK) (this : Nat) (a1 : Int32) : ZP Int32 :=
  zgetR (some this) 35 0 fun v1 => zald v1 0 (19 : Int32) fun v2 => zgetR (some this) 35 0 fun v3 => zald v3 0 (24 : Int32) fun v4 => zif (v2 = v4) (zgetR (some this) 35 0 fun v5 => zald v5 0 (30 : Int32) fun v6 => zif (v6 = 0) (zgetR (some this) 35 0 fun v7 => zast v7 (30 : Int32) (1 : Int32) (zgetR (some this) 35 0 fun v8 => zald v8 0 (6 : Int32) fun v9 => zast v8 (6 : Int32) (v9 + (1 : Int32)) (zgetR (some this) 35 0 fun v10 => zald v10 0 (12 : Int32) fun v11 => zgetR (some this) 35 0 fun v12 => zald v12 0 (26 : Int32) fun v13 => zast v10 (12 : Int32) (v11 + v13) (zcallV (some this) 35 (fun y0 => s_X3_sv K y0 a1 (3 : Int32)) fun r14 => zcallV (some this) 35 (fun y0 => s_X3_ls K y0 a1 (3 : Int32) (r14 + (1 : Int32))) fun _ => s_X3_frameComes_J81 K this a1 (1 : Int32))))) (s_X3_frameComes_J81 K this a1 (0 : Int32))) (s_X3_frameComes_J81 K this a1 (0 : Int32))
def s_X3_goesTick_J74 (K : ZK) (x0 : Nat) (x1 : Int32) : ZP Int32 :=
  zgetR (some x0) 35 0 fun v3 => zald v3 0 (0 : Int32) fun v4 => zast v3 (0 : Int32) (v4 + (1 : Int32)) (zret x1)
def s_X3_goesTick (K : ZK) (this : Nat) : ZP Int32 :=
  zgetR (some this) 35 0 fun v1 => zald v1 0 (18 : Int32) fun v2 => zif (v2 = 0) (zcallV (some this) 35 (fun y0 => s_X3_waitsOn K y0) fun _ => s_X3_goesTick_J74 K this (0 : Int32)) (zgetR (some this) 35 0 fun v5 => zgetR (some this) 35 0 fun v6 => zald v6 0 (19 : Int32) fun v7 => zcallV (some this) 35 (fun y0 => s_X3_nextOf K y0 v7) fun r8 => zast v5 (19 : Int32) r8 (zgetR (some this) 35 0 fun v9 => zald v9 0 (19 : Int32) fun v10 => zcallV (some this) 35 (fun y0 => s_X3_placeOf K y0 v10) fun r11 => zgetR (some this) 35 0 fun v12 => zald v12 0 (18 : Int32) fun v13 => zif (v13 = (1 : Int32)) (zcallV (some this) 35 (fun y0 => s_X3_tokenComes K y0 r11) fun _ => s_X3_goesTick_J74 K this (0 : Int32)) (zcallV (some this) 35 (fun y0 => s_X3_frameComes K y0 r11) fun r14 => s_X3_goesTick_J74 K this r14)))
def s_X3_goes_B4 (K : ZK) (x0 : Nat) (x1 : Int32) (self4 : (Int32 × Int32) → ZP Int32) (x2 : Int32) (x3 : Int32) : ZP Int32 :=
  zif (x1 ≤ x3) (zret x2) (zcallV (some x0) 35 (fun y0 => s_X3_goesTick K y0) fun r1 => self4 (x2 + r1, x3 + (1 : Int32)))
def s_X3_goes_L4 (K : ZK) (x0 : Nat) (x1 : Int32) : (Int32 × Int32) → ZP Int32 := zloop (fun self4 v => s_X3_goes_B4 K x0 x1 self4 v.1 v.2)
def s_X3_goes (K : ZK) (this : Nat) (a1 : Int32) : ZP Int32 :=
  s_X3_goes_L4 K this a1 ((0 : Int32), (0 : Int32))
def s_X3_tick (K : ZK) (this : Nat) (a1 : Int32) : ZP Int32 :=
  zcallV (some this) 35 (fun y0 => s_X3_begins K y0) fun _ => zcallV (some this) 35 (fun y0 => s_X3_isRefusedTicks K y0 a1) fun r1 => zif (r1 = 0) (zcallV (some this) 35 (fun y0 => s_X3_goes K y0 a1) fun r2 => zcallV (some this) 35 (fun y0 => s_X3_keeps K y0 r2) fun r3 => zret r3) (zcallV (some this) 35 (fun y0 => s_X3_refused K y0) fun r4 => zret r4)
def s_X3_onRing_J98 (K : ZK) (t0 : Int32) (t1 : Option Nat) : ZP Int32 :=
  zald t1 0 t0 fun v6 => zret v6
def s_X3_onRing (K : ZK) (this : Nat) (a1 : Int32) : ZP Int32 :=
  zputI (some this) 35 5 (0 : Int32) (zgetR (some this) 35 0 fun v1 => zald v1 0 (18 : Int32) fun v2 => zsw a1 [((0 : Int32), zret v2), ((1 : Int32), zif (v2 = 0) (zret (-1 : Int32)) (zgetR (some this) 35 0 fun v3 => zald v3 0 (19 : Int32) fun v4 => zret v4)), ((2 : Int32), zif (v2 = 0) (zret (-1 : Int32)) (zgetR (some this) 35 0 fun v5 => zif (v2 = (1 : Int32)) (s_X3_onRing_J98 K (20 : Int32) v5) (s_X3_onRing_J98 K (25 : Int32) v5))), ((3 : Int32), zif ((2 : Int32) ≤ v2) (zgetR (some this) 35 0 fun v7 => zald v7 0 (28 : Int32) fun v8 => zret v8) (zret (-1 : Int32))), ((4 : Int32), zif ((2 : Int32) ≤ v2) (zgetR (some this) 35 0 fun v9 => zald v9 0 (27 : Int32) fun v10 => zret v10) (zret (-1 : Int32))), ((5 : Int32), zif ((2 : Int32) ≤ v2) (zgetR (some this) 35 0 fun v11 => zald v11 0 (29 : Int32) fun v12 => zret v12) (zret (-1 : Int32))), ((6 : Int32), zif ((2 : Int32) ≤ v2) (zgetR (some this) 35 0 fun v13 => zald v13 0 (22 : Int32) fun v14 => zret v14) (zret (-1 : Int32)))] (zcallV (some this) 35 (fun y0 => s_X3_no K y0 (1 : Int32)) fun r15 => zret r15))
def s_X3_stationAt (K : ZK) (this : Nat) (a1 : Int32) : ZP Int32 :=
  zputI (some this) 35 5 (0 : Int32) (zgetR (some this) 35 0 fun v1 => zald v1 0 (1 : Int32) fun v2 => zcall (s_X3_in K a1 (0 : Int32) (v2 - (1 : Int32))) fun r3 => zif (r3 = 0) (zcallV (some this) 35 (fun y0 => s_X3_no K y0 (1 : Int32)) fun r4 => zret r4) (zcallV (some this) 35 (fun y0 => s_X3_sv K y0 a1 (0 : Int32)) fun r5 => zret r5))
def s_X3_waits (K : ZK) (this : Nat) (a1 : Int32) (a2 : Int32) : ZP Int32 :=
  zputI (some this) 35 5 (0 : Int32) (zcallV (some this) 35 (fun y0 => s_X3_placeOf K y0 a1) fun r1 => zif (0 ≤ r1) (zcallV (some this) 35 (fun y0 => s_X3_sv K y0 r1 (1 : Int32)) fun r2 => zcall (s_X3_in K a2 (0 : Int32) (r2 - (1 : Int32))) fun r3 => zif (r3 = 0) (zcallV (some this) 35 (fun y0 => s_X3_no K y0 (2 : Int32)) fun r4 => zret r4) (zcallV (some this) 35 (fun y0 => s_X3_qv K y0 r1 a2 (0 : Int32)) fun r5 => zret r5)) (zcallV (some this) 35 (fun y0 => s_X3_no K y0 (1 : Int32)) fun r6 => zret r6))
def s_X3_isRound (K : ZK) (this : Nat) (a1 : Int32) : ZP Int32 :=
  zgetR (some this) 35 0 fun v1 => zald v1 0 (18 : Int32) fun v2 => zif (v2 = (2 : Int32)) (zgetR (some this) 35 0 fun v3 => zald v3 0 (22 : Int32) fun v4 => zif (v4 = a1) (zret (1 : Int32)) (zret (0 : Int32))) (zret (0 : Int32))
def s_X3_spot_B14 (K : ZK) (x0 : Nat) (x1 : Int32) (x2 : Int32) (self2 : Int32 → ZP Int32) (self14 : Int32 → ZP Int32) (x3 : Int32) : ZP Int32 :=
  zcallV (some x0) 35 (fun y0 => s_X3_sv K y0 x2 (1 : Int32)) fun r3 => zif (r3 ≤ x3) (self2 (x2 + (1 : Int32))) (zcallV (some x0) 35 (fun y0 => s_X3_qv K y0 x2 x3 (0 : Int32)) fun r4 => zif (r4 = x1) (zret (((12 : Int32) * x2) + x3)) (self14 (x3 + (1 : Int32))))
def s_X3_spot_L14 (K : ZK) (x0 : Nat) (x1 : Int32) (x2 : Int32) (self2 : Int32 → ZP Int32) : Int32 → ZP Int32 := zloop (fun self14 v => s_X3_spot_B14 K x0 x1 x2 self2 self14 v)
def s_X3_spot_B2 (K : ZK) (x0 : Nat) (x1 : Int32) (self2 : Int32 → ZP Int32) (x2 : Int32) : ZP Int32 :=
  zgetR (some x0) 35 0 fun v1 => zald v1 0 (1 : Int32) fun v2 => zif (v2 ≤ x2) (zret (-1 : Int32)) (s_X3_spot_L14 K x0 x1 x2 self2 (0 : Int32))
def s_X3_spot_L2 (K : ZK) (x0 : Nat) (x1 : Int32) : Int32 → ZP Int32 := zloop (fun self2 v => s_X3_spot_B2 K x0 x1 self2 v)
def s_X3_spot (K : ZK) (this : Nat) (a1 : Int32) : ZP Int32 :=
  s_X3_spot_L2 K this a1 (0 : Int32)
def s_X3_rankOf (K : ZK) (this : Nat) (a1 : Int32) : ZP Int32 :=
  zputI (some this) 35 5 (0 : Int32) (zcallV (some this) 35 (fun y0 => s_X3_isRound K y0 a1) fun r1 => zif (r1 = 0) (zcallV (some this) 35 (fun y0 => s_X3_spot K y0 a1) fun r2 => zif (0 ≤ r2) (zasg (¬ (12 : Int32) = 0) (zasg (¬ (12 : Int32) = 0) (zcallV (some this) 35 (fun y0 => s_X3_qv K y0 (r2 / (12 : Int32)) (r2 - r2 / (12 : Int32) * (12 : Int32)) (2 : Int32)) fun r3 => zret r3))) (zcallV (some this) 35 (fun y0 => s_X3_no K y0 (1 : Int32)) fun r4 => zret r4)) (zgetR (some this) 35 0 fun v5 => zald v5 0 (25 : Int32) fun v6 => zret v6))
def s_X3_whereIs (K : ZK) (this : Nat) (a1 : Int32) : ZP Int32 :=
  zputI (some this) 35 5 (0 : Int32) (zcallV (some this) 35 (fun y0 => s_X3_isRound K y0 a1) fun r1 => zif (r1 = 0) (zcallV (some this) 35 (fun y0 => s_X3_spot K y0 a1) fun r2 => zif (0 ≤ r2) (zasg (¬ (12 : Int32) = 0) (zcallV (some this) 35 (fun y0 => s_X3_sv K y0 (r2 / (12 : Int32)) (0 : Int32)) fun r3 => zret r3)) (zcallV (some this) 35 (fun y0 => s_X3_no K y0 (1 : Int32)) fun r4 => zret r4)) (zret (100 : Int32)))
def s_X3_firstRank (K : ZK) (this : Nat) (a1 : Int32) : ZP Int32 :=
  zcallV (some this) 35 (fun y0 => s_X3_sv K y0 a1 (1 : Int32)) fun r1 => zif (r1 = 0) (zret (-1 : Int32)) (zcallV (some this) 35 (fun y0 => s_X3_qv K y0 a1 (0 : Int32) (2 : Int32)) fun r2 => zret r2)
def s_X3_lengths_B4 (K : ZK) (x0 : Nat) (x1 : Int32) (self4 : (Int32 × Int32) → ZP Int32) (x2 : Int32) (x3 : Int32) : ZP Int32 :=
  zcallV (some x0) 35 (fun y0 => s_X3_sv K y0 x1 (1 : Int32)) fun r1 => zif (r1 ≤ x3) (zret x2) (zcallV (some x0) 35 (fun y0 => s_X3_qv K y0 x1 x3 (3 : Int32)) fun r2 => self4 (x2 + r2, x3 + (1 : Int32)))
def s_X3_lengths_L4 (K : ZK) (x0 : Nat) (x1 : Int32) : (Int32 × Int32) → ZP Int32 := zloop (fun self4 v => s_X3_lengths_B4 K x0 x1 self4 v.1 v.2)
def s_X3_lengths (K : ZK) (this : Nat) (a1 : Int32) : ZP Int32 :=
  s_X3_lengths_L4 K this a1 ((0 : Int32), (0 : Int32))
def s_X3_queueOf (K : ZK) (this : Nat) (a1 : Int32) (a2 : Int32) : ZP Int32 :=
  zputI (some this) 35 5 (0 : Int32) (zcallV (some this) 35 (fun y0 => s_X3_placeOf K y0 a1) fun r1 => zif (0 ≤ r1) (zsw a2 [((0 : Int32), zcallV (some this) 35 (fun y0 => s_X3_sv K y0 r1 (1 : Int32)) fun r2 => zret r2), ((1 : Int32), zcallV (some this) 35 (fun y0 => s_X3_firstRank K y0 r1) fun r3 => zret r3), ((2 : Int32), zcallV (some this) 35 (fun y0 => s_X3_lengths K y0 r1) fun r4 => zret r4), ((3 : Int32), zcallV (some this) 35 (fun y0 => s_X3_sv K y0 r1 (2 : Int32)) fun r5 => zret r5), ((4 : Int32), zcallV (some this) 35 (fun y0 => s_X3_sv K y0 r1 (3 : Int32)) fun r6 => zret r6)] (zcallV (some this) 35 (fun y0 => s_X3_no K y0 (2 : Int32)) fun r7 => zret r7)) (zcallV (some this) 35 (fun y0 => s_X3_no K y0 (1 : Int32)) fun r8 => zret r8))
def s_X3_next (K : ZK) (this : Nat) (a1 : Int32) : ZP Int32 :=
  zputI (some this) 35 5 (0 : Int32) (zcallV (some this) 35 (fun y0 => s_X3_placeOf K y0 a1) fun r1 => zif (0 ≤ r1) (zcallV (some this) 35 (fun y0 => s_X3_nextOf K y0 a1) fun r2 => zret r2) (zcallV (some this) 35 (fun y0 => s_X3_no K y0 (1 : Int32)) fun r3 => zret r3))
def s_X3_stepsTo_J21 (K : ZK) (x0 : Nat) : ZP Int32 :=
  zcallV (some x0) 35 (fun y0 => s_X3_no K y0 (1 : Int32)) fun r2 => zret r2
def s_X3_stepsTo (K : ZK) (this : Nat) (a1 : Int32) (a2 : Int32) : ZP Int32 :=
  zputI (some this) 35 5 (0 : Int32) (zcallV (some this) 35 (fun y0 => s_X3_placeOf K y0 a1) fun r1 => zif (r1 < 0) (s_X3_stepsTo_J21 K this) (zcallV (some this) 35 (fun y0 => s_X3_placeOf K y0 a2) fun r3 => zif (0 ≤ r3) (zcallV (some this) 35 (fun y0 => s_X3_placeOf K y0 a2) fun r4 => zcallV (some this) 35 (fun y0 => s_X3_placeOf K y0 a1) fun r5 => zgetR (some this) 35 0 fun v6 => zald v6 0 (1 : Int32) fun v7 => zgetR (some this) 35 0 fun v8 => zald v8 0 (1 : Int32) fun v9 => zasg (¬ v9 = 0) (zret (((r4 - r5) + v7) - ((r4 - r5) + v7) / v9 * v9))) (s_X3_stepsTo_J21 K this)))
def s_X3_steps (K : ZK) (this : Nat) (a1 : Int32) (a2 : Int32) : ZP Int32 :=
  zcallV (some this) 35 (fun y0 => s_X3_stepsTo K y0 a1 a2) fun r1 => zret r1
def s_X3_stepsAgain (K : ZK) (this : Nat) (a1 : Int32) (a2 : Int32) : ZP Int32 :=
  zcallV (some this) 35 (fun y0 => s_X3_stepsTo K y0 a1 a2) fun r1 => zret r1
def s_X3_isInRing_J13 (K : ZK) (x0 : Nat) (x1 : Int32) (t0 : Int32) (t1 : Nat) : ZP Int32 :=
  zputI (some t1) 35 5 t0 (zgetI (some x0) 35 5 fun v2 => zif (v2 = 0) (zcallV (some x0) 35 (fun y0 => s_X3_placeOf K y0 x1) fun r3 => zif (r3 < 0) (zret (0 : Int32)) (zret (1 : Int32))) (zret (0 : Int32)))
def s_X3_isInRing (K : ZK) (this : Nat) (a1 : Int32) : ZP Int32 :=
  zcall (s_X3_isAddress K a1) fun r1 => zif (r1 = 0) (s_X3_isInRing_J13 K this a1 (1 : Int32) this) (s_X3_isInRing_J13 K this a1 (0 : Int32) this)
def s_X3_canTake_J16 (K : ZK) (x0 : Nat) (x2 : Int32) (t0 : Int32) (t1 : Nat) : ZP Int32 :=
  zputI (some t1) 35 5 t0 (zif (x2 < 0) (zret (0 : Int32)) (zgetR (some x0) 35 0 fun v2 => zald v2 0 (18 : Int32) fun v3 => zif (v3 = (1 : Int32)) (zcallV (some x0) 35 (fun y0 => s_X3_takes K y0 x2) fun r4 => zif (r4 = 0) (zret (0 : Int32)) (zret (1 : Int32))) (zret (0 : Int32))))
def s_X3_canTake (K : ZK) (this : Nat) (a1 : Int32) : ZP Int32 :=
  zcallV (some this) 35 (fun y0 => s_X3_placeOf K y0 a1) fun r1 => zif (0 ≤ r1) (s_X3_canTake_J16 K this r1 (0 : Int32) this) (s_X3_canTake_J16 K this r1 (1 : Int32) this)
def s_X3_whoTakes_J80 (K : ZK) (x0 : Nat) : ZP Int32 :=
  zcallV (some x0) 35 (fun y0 => s_X3_no K y0 (1 : Int32)) fun r8 => zret r8
def s_X3_whoTakes_B34 (K : ZK) (x0 : Nat) (x1 : Int32) (self34 : Int32 → ZP Int32) (x2 : Int32) : ZP Int32 :=
  zgetR (some x0) 35 0 fun v6 => zald v6 0 (1 : Int32) fun v7 => zif (v7 < x2) (s_X3_whoTakes_J80 K x0) (zif (x1 < 0) (s_X3_whoTakes_J80 K x0) (zgetR (some x0) 35 0 fun v9 => zald v9 0 (1 : Int32) fun v10 => zasg (¬ v10 = 0) (zcallV (some x0) 35 (fun y0 => s_X3_takes K y0 ((x1 + x2) - (x1 + x2) / v10 * v10)) fun r11 => zif (r11 = 0) (self34 (x2 + (1 : Int32))) (zcallV (some x0) 35 (fun y0 => s_X3_sv K y0 ((x1 + x2) - (x1 + x2) / v10 * v10) (0 : Int32)) fun r12 => zret r12))))
def s_X3_whoTakes_L34 (K : ZK) (x0 : Nat) (x1 : Int32) : Int32 → ZP Int32 := zloop (fun self34 v => s_X3_whoTakes_B34 K x0 x1 self34 v)
def s_X3_whoTakes (K : ZK) (this : Nat) : ZP Int32 :=
  zputI (some this) 35 5 (0 : Int32) (zgetR (some this) 35 0 fun v1 => zald v1 0 (18 : Int32) fun v2 => zif (v2 = (1 : Int32)) (zgetR (some this) 35 0 fun v3 => zald v3 0 (19 : Int32) fun v4 => zcallV (some this) 35 (fun y0 => s_X3_placeOf K y0 v4) fun r5 => s_X3_whoTakes_L34 K this r5 (1 : Int32)) (s_X3_whoTakes_L34 K this (-1 : Int32) (1 : Int32)))
def s_X3_isGot (K : ZK) (this : Nat) (a1 : Int32) : ZP Int32 :=
  zcallV (some this) 35 (fun y0 => s_X3_isRound K y0 a1) fun r1 => zif (r1 = 0) (zret (0 : Int32)) (zgetR (some this) 35 0 fun v2 => zald v2 0 (30 : Int32) fun v3 => zif (v3 = (1 : Int32)) (zret (1 : Int32)) (zret (0 : Int32)))
def s_X3_receivedIn_J113 (K : ZK) (x0 : Nat) (x2 : Int32) (x3 : Int32) : ZP Int32 :=
  zgetR (some x0) 35 2 fun v6 => zgetR (some x0) 35 0 fun v7 => zcall (s_X3_copies K v6 (0 : Int32) v7 (0 : Int32)) fun _ => zif (x3 = 0) (zcallV (some x0) 35 (fun y0 => s_X3_no K y0 (1 : Int32)) fun r8 => zret r8) (zret x2)
def s_X3_receivedIn_J85 (K : ZK) (x0 : Nat) (x1 : Int32) (x2 : Int32) (t0 : Int32) (self52 : (Int32 × Int32) → ZP Int32) : ZP Int32 :=
  zcallV (some x0) 35 (fun y0 => s_X3_goesTick K y0) fun r13 => zif (r13 = (1 : Int32)) (zif (t0 = x1) (self52 (x2 + (1 : Int32), (1 : Int32))) (self52 (x2 + (1 : Int32), (0 : Int32)))) (self52 (x2 + (1 : Int32), (0 : Int32)))
def s_X3_receivedIn_B52 (K : ZK) (x0 : Nat) (x1 : Int32) (self52 : (Int32 × Int32) → ZP Int32) (x2 : Int32) (x3 : Int32) : ZP Int32 :=
  zif ((200 : Int32) ≤ x2) (s_X3_receivedIn_J113 K x0 x2 x3) (zif (x3 = 0) (zgetR (some x0) 35 0 fun v9 => zald v9 0 (18 : Int32) fun v10 => zif (v10 = (2 : Int32)) (zgetR (some x0) 35 0 fun v11 => zald v11 0 (22 : Int32) fun v12 => s_X3_receivedIn_J85 K x0 x1 x2 v12 self52) (s_X3_receivedIn_J85 K x0 x1 x2 (-1 : Int32) self52)) (s_X3_receivedIn_J113 K x0 x2 x3))
def s_X3_receivedIn_L52 (K : ZK) (x0 : Nat) (x1 : Int32) : (Int32 × Int32) → ZP Int32 := zloop (fun self52 v => s_X3_receivedIn_B52 K x0 x1 self52 v.1 v.2)
def s_X3_receivedIn_J35 (K : ZK) (x0 : Nat) (x1 : Int32) : ZP Int32 :=
  zgetR (some x0) 35 0 fun v4 => zgetR (some x0) 35 2 fun v5 => zcall (s_X3_copies K v4 (0 : Int32) v5 (0 : Int32)) fun _ => s_X3_receivedIn_L52 K x0 x1 ((0 : Int32), (0 : Int32))
def s_X3_receivedIn_J29 (K : ZK) (x0 : Nat) : ZP Int32 :=
  zcallV (some x0) 35 (fun y0 => s_X3_no K y0 (1 : Int32)) fun r14 => zret r14
def s_X3_receivedIn (K : ZK) (this : Nat) (a1 : Int32) : ZP Int32 :=
  zputI (some this) 35 5 (0 : Int32) (zcallV (some this) 35 (fun y0 => s_X3_isGot K y0 a1) fun r1 => zif (r1 = 0) (zcallV (some this) 35 (fun y0 => s_X3_isRound K y0 a1) fun r2 => zif (r2 = 0) (zcallV (some this) 35 (fun y0 => s_X3_spot K y0 a1) fun r3 => zif (0 ≤ r3) (s_X3_receivedIn_J35 K this a1) (s_X3_receivedIn_J29 K this)) (s_X3_receivedIn_J35 K this a1)) (s_X3_receivedIn_J29 K this))
def s_X3_isTokenAt (K : ZK) (this : Nat) (a1 : Int32) : ZP Int32 :=
  zgetR (some this) 35 0 fun v1 => zald v1 0 (18 : Int32) fun v2 => zif (v2 = (1 : Int32)) (zgetR (some this) 35 0 fun v3 => zald v3 0 (19 : Int32) fun v4 => zif (v4 = a1) (zret (1 : Int32)) (zret (0 : Int32))) (zret (0 : Int32))
def s_X3_tokenIn_J61 (K : ZK) (x0 : Nat) (x1 : Int32) (x2 : Int32) : ZP Int32 :=
  zcallV (some x0) 35 (fun y0 => s_X3_isTokenAt K y0 x1) fun r4 => zgetR (some x0) 35 2 fun v5 => zgetR (some x0) 35 0 fun v6 => zcall (s_X3_copies K v5 (0 : Int32) v6 (0 : Int32)) fun _ => zif (r4 = 0) (zcallV (some x0) 35 (fun y0 => s_X3_no K y0 (2 : Int32)) fun r7 => zret r7) (zret x2)
def s_X3_tokenIn_B36 (K : ZK) (x0 : Nat) (x1 : Int32) (self36 : Int32 → ZP Int32) (x2 : Int32) : ZP Int32 :=
  zif ((100 : Int32) ≤ x2) (s_X3_tokenIn_J61 K x0 x1 x2) (zcallV (some x0) 35 (fun y0 => s_X3_isTokenAt K y0 x1) fun r8 => zif (r8 = 0) (zcallV (some x0) 35 (fun y0 => s_X3_goesTick K y0) fun r9 => self36 (x2 + (1 : Int32))) (s_X3_tokenIn_J61 K x0 x1 x2))
def s_X3_tokenIn_L36 (K : ZK) (x0 : Nat) (x1 : Int32) : Int32 → ZP Int32 := zloop (fun self36 v => s_X3_tokenIn_B36 K x0 x1 self36 v)
def s_X3_tokenIn (K : ZK) (this : Nat) (a1 : Int32) : ZP Int32 :=
  zputI (some this) 35 5 (0 : Int32) (zcallV (some this) 35 (fun y0 => s_X3_placeOf K y0 a1) fun r1 => zif (0 ≤ r1) (zgetR (some this) 35 0 fun v2 => zgetR (some this) 35 2 fun v3 => zcall (s_X3_copies K v2 (0 : Int32) v3 (0 : Int32)) fun _ => s_X3_tokenIn_L36 K this a1 (0 : Int32)) (zcallV (some this) 35 (fun y0 => s_X3_no K y0 (1 : Int32)) fun r10 => zret r10))
def s_X3_ahead_J24 (K : ZK) (x0 : Nat) : ZP Int32 :=
  zcallV (some x0) 35 (fun y0 => s_X3_no K y0 (1 : Int32)) fun r2 => zret r2
def s_X3_ahead_J125 (K : ZK) (x0 : Nat) (t0 : Int32) : ZP Int32 :=
  zgetR (some x0) 35 2 fun v9 => zgetR (some x0) 35 0 fun v10 => zcall (s_X3_copies K v9 (0 : Int32) v10 (0 : Int32)) fun _ => zret t0
def s_X3_ahead (K : ZK) (this : Nat) (a1 : Int32) (a2 : Int32) : ZP Int32 :=
  zputI (some this) 35 5 (0 : Int32) (zcall (s_X3_in K a1 (0 : Int32) (60 : Int32)) fun r1 => zif (r1 = 0) (s_X3_ahead_J24 K this) (zcall (s_X3_in K a2 (0 : Int32) (5 : Int32)) fun r3 => zif (r3 = 0) (s_X3_ahead_J24 K this) (zgetR (some this) 35 0 fun v4 => zgetR (some this) 35 2 fun v5 => zcall (s_X3_copies K v4 (0 : Int32) v5 (0 : Int32)) fun _ => zcallV (some this) 35 (fun y0 => s_X3_goes K y0 a1) fun r6 => zif (a2 = 0) (zgetR (some this) 35 0 fun v7 => zald v7 0 (6 : Int32) fun v8 => s_X3_ahead_J125 K this v8) (zif (a2 = (1 : Int32)) (zcallV (some this) 35 (fun y0 => s_X3_allWaiting K y0) fun r11 => s_X3_ahead_J125 K this r11) (zif (a2 = (2 : Int32)) (zgetR (some this) 35 0 fun v12 => zald v12 0 (18 : Int32) fun v13 => s_X3_ahead_J125 K this v13) (zif (a2 = (3 : Int32)) (zgetR (some this) 35 0 fun v14 => zald v14 0 (2 : Int32) fun v15 => s_X3_ahead_J125 K this v15) (zif (a2 = (4 : Int32)) (zgetR (some this) 35 0 fun v16 => zald v16 0 (3 : Int32) fun v17 => s_X3_ahead_J125 K this v17) (zgetR (some this) 35 0 fun v18 => zald v18 0 (8 : Int32) fun v19 => s_X3_ahead_J125 K this v19))))))))
def s_X3_isAhead (K : ZK) (this : Nat) (a1 : Int32) (a2 : Int32) : ZP Int32 :=
  zcallV (some this) 35 (fun y0 => s_X3_sv K y0 a1 (1 : Int32)) fun r1 => zcallV (some this) 35 (fun y0 => s_X3_sv K y0 a2 (1 : Int32)) fun r2 => zif (r1 = r2) (zcallV (some this) 35 (fun y0 => s_X3_lengths K y0 a1) fun r3 => zcallV (some this) 35 (fun y0 => s_X3_lengths K y0 a2) fun r4 => zif (r4 < r3) (zret (1 : Int32)) (zcallV (some this) 35 (fun y0 => s_X3_lengths K y0 a1) fun r5 => zcallV (some this) 35 (fun y0 => s_X3_lengths K y0 a2) fun r6 => zif (r5 = r6) (zif (a2 ≤ a1) (zret (0 : Int32)) (zret (1 : Int32))) (zret (0 : Int32)))) (zcallV (some this) 35 (fun y0 => s_X3_sv K y0 a1 (1 : Int32)) fun r7 => zcallV (some this) 35 (fun y0 => s_X3_sv K y0 a2 (1 : Int32)) fun r8 => zif (r7 ≤ r8) (zret (0 : Int32)) (zret (1 : Int32)))
def s_X3_ranked_B22 (K : ZK) (x0 : Nat) (x1 : Int32) (x2 : Int32) (self7 : Int32 → ZP Int32) (self22 : (Int32 × Int32) → ZP Int32) (x3 : Int32) (x4 : Int32) : ZP Int32 :=
  zgetR (some x0) 35 0 fun v4 => zald v4 0 (1 : Int32) fun v5 => zif (v5 ≤ x4) (zif (x3 = x1) (zcallV (some x0) 35 (fun y0 => s_X3_sv K y0 x2 (0 : Int32)) fun r6 => zret r6) (self7 (x2 + (1 : Int32)))) (zcallV (some x0) 35 (fun y0 => s_X3_isAhead K y0 x4 x2) fun r7 => zif (r7 = 0) (self22 (x3 + (0 : Int32), x4 + (1 : Int32))) (self22 (x3 + (1 : Int32), x4 + (1 : Int32))))
def s_X3_ranked_L22 (K : ZK) (x0 : Nat) (x1 : Int32) (x2 : Int32) (self7 : Int32 → ZP Int32) : (Int32 × Int32) → ZP Int32 := zloop (fun self22 v => s_X3_ranked_B22 K x0 x1 x2 self7 self22 v.1 v.2)
def s_X3_ranked_B7 (K : ZK) (x0 : Nat) (x1 : Int32) (self7 : Int32 → ZP Int32) (x2 : Int32) : ZP Int32 :=
  zgetR (some x0) 35 0 fun v1 => zald v1 0 (1 : Int32) fun v2 => zif (v2 ≤ x2) (zcallV (some x0) 35 (fun y0 => s_X3_no K y0 (1 : Int32)) fun r3 => zret r3) (s_X3_ranked_L22 K x0 x1 x2 self7 ((0 : Int32), (0 : Int32)))
def s_X3_ranked_L7 (K : ZK) (x0 : Nat) (x1 : Int32) : Int32 → ZP Int32 := zloop (fun self7 v => s_X3_ranked_B7 K x0 x1 self7 v)
def s_X3_ranked (K : ZK) (this : Nat) (a1 : Int32) : ZP Int32 :=
  zputI (some this) 35 5 (0 : Int32) (s_X3_ranked_L7 K this a1 (0 : Int32))
def s_X3_longestWait_J77 (K : ZK) (x0 : Nat) (x3 : Int32) (x4 : Int32) (x5 : Int32) (x6 : Int32) (self11 : (Int32 × Int32 × Int32) → ZP Int32) (self24 : (Int32 × Int32 × Int32) → ZP Int32) : ZP Int32 :=
  self24 (x6, x5, x4 + (1 : Int32))
def s_X3_longestWait_B24 (K : ZK) (x0 : Nat) (x3 : Int32) (self11 : (Int32 × Int32 × Int32) → ZP Int32) (self24 : (Int32 × Int32 × Int32) → ZP Int32) (x1 : Int32) (x2 : Int32) (x4 : Int32) : ZP Int32 :=
  zcallV (some x0) 35 (fun y0 => s_X3_sv K y0 x3 (1 : Int32)) fun r4 => zif (r4 ≤ x4) (self11 (x1, x2, x3 + (1 : Int32))) (zcallV (some x0) 35 (fun y0 => s_X3_qv K y0 x3 x4 (4 : Int32)) fun r5 => zcallV (some x0) 35 (fun y0 => s_X3_qv K y0 x3 x4 (0 : Int32)) fun r6 => zif (x1 < 0) (s_X3_longestWait_J77 K x0 x3 x4 r5 r6 self11 self24) (zif (r5 < x2) (s_X3_longestWait_J77 K x0 x3 x4 r5 r6 self11 self24) (zif (r5 = x2) (zif (x1 ≤ r6) (self24 (x1, x2, x4 + (1 : Int32))) (s_X3_longestWait_J77 K x0 x3 x4 r5 r6 self11 self24)) (self24 (x1, x2, x4 + (1 : Int32))))))
def s_X3_longestWait_L24 (K : ZK) (x0 : Nat) (x3 : Int32) (self11 : (Int32 × Int32 × Int32) → ZP Int32) : (Int32 × Int32 × Int32) → ZP Int32 := zloop (fun self24 v => s_X3_longestWait_B24 K x0 x3 self11 self24 v.1 v.2.1 v.2.2)
def s_X3_longestWait_B11 (K : ZK) (x0 : Nat) (self11 : (Int32 × Int32 × Int32) → ZP Int32) (x1 : Int32) (x2 : Int32) (x3 : Int32) : ZP Int32 :=
  zgetR (some x0) 35 0 fun v1 => zald v1 0 (1 : Int32) fun v2 => zif (v2 ≤ x3) (zif (0 ≤ x1) (zret x1) (zcallV (some x0) 35 (fun y0 => s_X3_no K y0 (1 : Int32)) fun r3 => zret r3)) (s_X3_longestWait_L24 K x0 x3 self11 (x1, x2, (0 : Int32)))
def s_X3_longestWait_L11 (K : ZK) (x0 : Nat) : (Int32 × Int32 × Int32) → ZP Int32 := zloop (fun self11 v => s_X3_longestWait_B11 K x0 self11 v.1 v.2.1 v.2.2)
def s_X3_longestWait (K : ZK) (this : Nat) : ZP Int32 :=
  zputI (some this) 35 5 (0 : Int32) (s_X3_longestWait_L11 K this ((-1 : Int32), (0 : Int32), (0 : Int32)))
def s_X3_greatest_B9 (K : ZK) (x0 : Nat) (self9 : (Int32 × Int32) → ZP Int32) (x1 : Int32) (x2 : Int32) : ZP Int32 :=
  zgetR (some x0) 35 0 fun v1 => zald v1 0 (1 : Int32) fun v2 => zif (v2 ≤ x2) (zif (0 ≤ x1) (zcallV (some x0) 35 (fun y0 => s_X3_sv K y0 x1 (0 : Int32)) fun r3 => zret r3) (zcallV (some x0) 35 (fun y0 => s_X3_no K y0 (1 : Int32)) fun r4 => zret r4)) (zcallV (some x0) 35 (fun y0 => s_X3_firstRank K y0 x2) fun r5 => zif (r5 < 0) (self9 (x1, x2 + (1 : Int32))) (zif (x1 < 0) (self9 (x2, x2 + (1 : Int32))) (zcallV (some x0) 35 (fun y0 => s_X3_firstRank K y0 x2) fun r6 => zcallV (some x0) 35 (fun y0 => s_X3_firstRank K y0 x1) fun r7 => zif (r6 ≤ r7) (self9 (x1, x2 + (1 : Int32))) (self9 (x2, x2 + (1 : Int32))))))
def s_X3_greatest_L9 (K : ZK) (x0 : Nat) : (Int32 × Int32) → ZP Int32 := zloop (fun self9 v => s_X3_greatest_B9 K x0 self9 v.1 v.2)
def s_X3_greatest (K : ZK) (this : Nat) : ZP Int32 :=
  zputI (some this) 35 5 (0 : Int32) (s_X3_greatest_L9 K this ((-1 : Int32), (0 : Int32)))
def s_X3_waiting (K : ZK) (this : Nat) : ZP Int32 :=
  zputI (some this) 35 5 (0 : Int32) (zcallV (some this) 35 (fun y0 => s_X3_allWaiting K y0) fun r1 => zret r1)
def s_X3_waitingAgain (K : ZK) (this : Nat) : ZP Int32 :=
  zputI (some this) 35 5 (0 : Int32) (zcallV (some this) 35 (fun y0 => s_X3_allWaiting K y0) fun r1 => zret r1)
def s_X3_append (K : ZK) (this : Nat) (a1 : Int32) : ZP Int32 :=
  zputI (some this) 35 5 (0 : Int32) (zcall (s_X3_in K a1 (33 : Int32) (126 : Int32)) fun r1 => zif (r1 = 0) (zcallV (some this) 35 (fun y0 => s_X3_no K y0 (1 : Int32)) fun r2 => zret r2) (zgetI (some this) 35 20 fun v3 => zif (v3 = (60 : Int32)) (zcallV (some this) 35 (fun y0 => s_X3_no K y0 (2 : Int32)) fun r4 => zret r4) (zgetR (some this) 35 15 fun v5 => zgetI (some this) 35 20 fun v6 => zast v5 v6 a1 (zgetI (some this) 35 20 fun v7 => zputI (some this) 35 20 (v7 + (1 : Int32)) (zgetI (some this) 35 20 fun v8 => zret v8)))))
def s_X3_sign (K : ZK) (this : Nat) : ZP Int32 :=
  zgetI (some this) 35 23 fun v1 => zif (v1 = 0) (zgetI (some this) 35 21 fun v2 => zgetI (some this) 35 20 fun v3 => zif (v3 ≤ v2) (zret (-1 : Int32)) (zgetR (some this) 35 15 fun v4 => zgetI (some this) 35 21 fun v5 => zald v4 0 v5 fun v6 => zret v6)) (zret (-1 : Int32))
def s_X3_takesSign (K : ZK) (this : Nat) (a1 : Int32) : ZP Unit :=
  zcallV (some this) 35 (fun y0 => s_X3_sign K y0) fun r1 => zif (r1 = a1) (zgetI (some this) 35 21 fun v2 => zputI (some this) 35 21 (v2 + (1 : Int32)) (zret ())) (zputT .boolean (some this) 35 23 (1 : Int32) (zret ()))
def s_X3_digit (K : ZK) (this : Nat) : ZP Int32 :=
  zcallV (some this) 35 (fun y0 => s_X3_sign K y0) fun r1 => zcall (s_X3_in K r1 (48 : Int32) (57 : Int32)) fun r2 => zif (r2 = 0) (zputT .boolean (some this) 35 23 (1 : Int32) (zret (0 : Int32))) (zgetI (some this) 35 21 fun v3 => zputI (some this) 35 21 (v3 + (1 : Int32)) (zret (r1 - (48 : Int32))))
def s_X3_figures (K : ZK) (this : Nat) : ZP Int32 :=
  zcallV (some this) 35 (fun y0 => s_X3_digit K y0) fun r1 => zcallV (some this) 35 (fun y0 => s_X3_sign K y0) fun r2 => zcall (s_X3_in K r2 (48 : Int32) (57 : Int32)) fun r3 => zif (r3 = 0) (zret r1) (zcallV (some this) 35 (fun y0 => s_X3_digit K y0) fun r4 => zret (((10 : Int32) * r1) + r4))
def s_X3_order_J150 (K : ZK) (x0 : Nat) (x1 : Int32) (x2 : Int32) : ZP Unit :=
  zgetI (some x0) 35 23 fun v9 => zif (v9 = 0) (zgetR (some x0) 35 16 fun v10 => zast v10 x1 x2 (zgetI (some x0) 35 22 fun v11 => zputI (some x0) 35 22 (v11 + (1 : Int32)) (zret ()))) (zret ())
def s_X3_order_J111 (K : ZK) (x0 : Nat) (x1 : Int32) (x2 : Int32) (t0 : Int32) (t1 : Int32) (t2 : Option Nat) : ZP Unit :=
  zast t2 t1 t0 (zif (x2 = (113 : Int32)) (zcallV (some x0) 35 (fun y0 => s_X3_takesSign K y0 (62 : Int32)) fun _ => zgetR (some x0) 35 18 fun v5 => zcallV (some x0) 35 (fun y0 => s_X3_figures K y0) fun r6 => zast v5 x1 r6 (zcallV (some x0) 35 (fun y0 => s_X3_takesSign K y0 (42 : Int32)) fun _ => zgetR (some x0) 35 19 fun v7 => zcallV (some x0) 35 (fun y0 => s_X3_digit K y0) fun r8 => zast v7 x1 r8 (s_X3_order_J150 K x0 x1 x2))) (s_X3_order_J150 K x0 x1 x2))
def s_X3_order_J107 (K : ZK) (x0 : Nat) (x1 : Int32) (x2 : Int32) (t0 : Int32) (t1 : Option Nat) : ZP Unit :=
  zcallV (some x0) 35 (fun y0 => s_X3_figures K y0) fun r14 => s_X3_order_J111 K x0 x1 x2 r14 t0 t1
def s_X3_order_J51 (K : ZK) (x0 : Nat) (x1 : Int32) (x2 : Int32) (t0 : Int32) : ZP Unit :=
  zif (t0 = 0) (zputT .boolean (some x0) 35 23 (1 : Int32) (zret ())) (zgetI (some x0) 35 21 fun v3 => zputI (some x0) 35 21 (v3 + (1 : Int32)) (zgetR (some x0) 35 17 fun v4 => zif (x2 = (120 : Int32)) (s_X3_order_J111 K x0 x1 x2 (1 : Int32) x1 v4) (zif (x2 = (116 : Int32)) (zcallV (some x0) 35 (fun y0 => s_X3_sign K y0) fun r12 => zcall (s_X3_in K r12 (48 : Int32) (57 : Int32)) fun r13 => zif (r13 = 0) (s_X3_order_J111 K x0 x1 x2 (1 : Int32) x1 v4) (s_X3_order_J107 K x0 x1 x2 x1 v4)) (s_X3_order_J107 K x0 x1 x2 x1 v4))))
def s_X3_order (K : ZK) (this : Nat) : ZP Unit :=
  zgetI (some this) 35 22 fun v1 => zcallV (some this) 35 (fun y0 => s_X3_sign K y0) fun r2 => zif (r2 = (43 : Int32)) (s_X3_order_J51 K this v1 r2 (1 : Int32)) (zif (r2 = (45 : Int32)) (s_X3_order_J51 K this v1 r2 (1 : Int32)) (zif (r2 = (113 : Int32)) (s_X3_order_J51 K this v1 r2 (1 : Int32)) (zif (r2 = (109 : Int32)) (s_X3_order_J51 K this v1 r2 (1 : Int32)) (zif (r2 = (116 : Int32)) (s_X3_order_J51 K this v1 r2 (1 : Int32)) (zif (r2 = (120 : Int32)) (s_X3_order_J51 K this v1 r2 (1 : Int32)) (s_X3_order_J51 K this v1 r2 (0 : Int32)))))))
def s_X3_reads_J66 (K : ZK) (x0 : Nat) (t0 : Int32) (t1 : Int32) (t2 : Nat) : ZP Unit :=
  zputT .boolean (some t2) 35 23 (t1 ||| t0) (zputI (some x0) 35 20 (0 : Int32) (zret ()))
def s_X3_reads_B19 (K : ZK) (x0 : Nat) (self19 : Unit → ZP Unit) : ZP Unit :=
  zcallV (some x0) 35 (fun y0 => s_X3_sign K y0) fun r1 => zif (r1 = (59 : Int32)) (zgetI (some x0) 35 21 fun v2 => zputI (some x0) 35 21 (v2 + (1 : Int32)) (zcallV (some x0) 35 (fun y0 => s_X3_order K y0) fun _ => self19 ())) (zgetI (some x0) 35 23 fun v3 => zgetI (some x0) 35 21 fun v4 => zgetI (some x0) 35 20 fun v5 => zif (v5 ≤ v4) (s_X3_reads_J66 K x0 (0 : Int32) v3 x0) (s_X3_reads_J66 K x0 (1 : Int32) v3 x0))
def s_X3_reads_L19 (K : ZK) (x0 : Nat) : Unit → ZP Unit := zloop (fun self19 v => s_X3_reads_B19 K x0 self19)
def s_X3_reads (K : ZK) (this : Nat) : ZP Unit :=
  zputI (some this) 35 21 (0 : Int32) (zputI (some this) 35 22 (0 : Int32) (zputT .boolean (some this) 35 23 (0 : Int32) (zcallV (some this) 35 (fun y0 => s_X3_order K y0) fun _ => s_X3_reads_L19 K this ())))
def s_X3_cannot (K : ZK) (this : Nat) (a1 : Int32) : ZP Int32 :=
  zgetR (some this) 35 16 fun v1 => zald v1 0 a1 fun v2 => zsw v2 [((43 : Int32), zgetR (some this) 35 17 fun v3 => zald v3 0 a1 fun v4 => zcallV (some this) 35 (fun y0 => s_X3_isRefusedJoin K y0 v4) fun r5 => zif (r5 = 0) (zgetR (some this) 35 17 fun v6 => zald v6 0 a1 fun v7 => zcallV (some this) 35 (fun y0 => s_X3_joins K y0 v7) fun r8 => zret (0 : Int32)) (zret (1 : Int32))), ((45 : Int32), zgetR (some this) 35 17 fun v9 => zald v9 0 a1 fun v10 => zcallV (some this) 35 (fun y0 => s_X3_isOut K y0 v10) fun r11 => zif (r11 = 0) (zgetR (some this) 35 17 fun v12 => zald v12 0 a1 fun v13 => zcallV (some this) 35 (fun y0 => s_X3_leaves K y0 v13) fun r14 => zret (0 : Int32)) (zret (1 : Int32))), ((109 : Int32), zgetR (some this) 35 17 fun v15 => zald v15 0 a1 fun v16 => zcallV (some this) 35 (fun y0 => s_X3_isRefusedMonitor K y0 v16) fun r17 => zif (r17 = 0) (zgetR (some this) 35 17 fun v18 => zald v18 0 a1 fun v19 => zcallV (some this) 35 (fun y0 => s_X3_monitors K y0 v19) fun r20 => zret (0 : Int32)) (zret (1 : Int32))), ((113 : Int32), zgetR (some this) 35 17 fun v21 => zald v21 0 a1 fun v22 => zgetR (some this) 35 18 fun v23 => zald v23 0 a1 fun v24 => zgetR (some this) 35 19 fun v25 => zald v25 0 a1 fun v26 => zcallV (some this) 35 (fun y0 => s_X3_isRefusedQueue K y0 v22 v24 v26 (1 : Int32)) fun r27 => zif (r27 = 0) (zgetR (some this) 35 17 fun v28 => zald v28 0 a1 fun v29 => zgetR (some this) 35 18 fun v30 => zald v30 0 a1 fun v31 => zgetR (some this) 35 19 fun v32 => zald v32 0 a1 fun v33 => zcallV (some this) 35 (fun y0 => s_X3_queues K y0 v29 v31 v33 (1 : Int32)) fun r34 => zret (0 : Int32)) (zret (1 : Int32))), ((116 : Int32), zgetR (some this) 35 17 fun v35 => zald v35 0 a1 fun v36 => zcallV (some this) 35 (fun y0 => s_X3_isRefusedTicks K y0 v36) fun r37 => zif (r37 = 0) (zgetR (some this) 35 17 fun v38 => zald v38 0 a1 fun v39 => zcallV (some this) 35 (fun y0 => s_X3_goes K y0 v39) fun r40 => zret (0 : Int32)) (zret (1 : Int32)))] (zcallV (some this) 35 (fun y0 => s_X3_isSilent K y0) fun r41 => zif (r41 = 0) (zcallV (some this) 35 (fun y0 => s_X3_losesIt K y0) fun r42 => zret (0 : Int32)) (zret (1 : Int32)))
def s_X3_run_B42 (K : ZK) (x0 : Nat) (self42 : Int32 → ZP Int32) (x1 : Int32) : ZP Int32 :=
  zgetI (some x0) 35 22 fun v3 => zif (v3 ≤ x1) (zgetI (some x0) 35 22 fun v4 => zcallV (some x0) 35 (fun y0 => s_X3_keeps K y0 v4) fun r5 => zret r5) (zcallV (some x0) 35 (fun y0 => s_X3_cannot K y0 x1) fun r6 => zif (r6 = 0) (self42 (x1 + (1 : Int32))) (zgetR (some x0) 35 1 fun v7 => zgetR (some x0) 35 0 fun v8 => zcall (s_X3_copies K v7 (0 : Int32) v8 (0 : Int32)) fun _ => zputI (some x0) 35 9 (10 : Int32) (zputI (some x0) 35 10 x1 (zgetI (some x0) 35 7 fun v9 => zputI (some x0) 35 11 v9 (zgetI (some x0) 35 8 fun v10 => zputI (some x0) 35 12 v10 (zcallV (some x0) 35 (fun y0 => s_X3_no K y0 (2 : Int32)) fun r11 => zret r11))))))
def s_X3_run_L42 (K : ZK) (x0 : Nat) : Int32 → ZP Int32 := zloop (fun self42 v => s_X3_run_B42 K x0 self42 v)
def s_X3_run_J24 (K : ZK) (x0 : Nat) (t0 : Int32) (t1 : Nat) : ZP Int32 :=
  zputI (some t1) 35 13 t0 (zgetI (some x0) 35 23 fun v2 => zif (v2 = 0) (s_X3_run_L42 K x0 (0 : Int32)) (zcallV (some x0) 35 (fun y0 => s_X3_no K y0 (1 : Int32)) fun r12 => zret r12))
def s_X3_run (K : ZK) (this : Nat) : ZP Int32 :=
  zcallV (some this) 35 (fun y0 => s_X3_begins K y0) fun _ => zcallV (some this) 35 (fun y0 => s_X3_reads K y0) fun _ => zgetI (some this) 35 23 fun v1 => zif (v1 = 0) (s_X3_run_J24 K this (-1 : Int32) this) (zgetI (some this) 35 21 fun v13 => s_X3_run_J24 K this v13 this)
def s_X3_faultPosition (K : ZK) (this : Nat) : ZP Int32 :=
  zputI (some this) 35 5 (0 : Int32) (zgetI (some this) 35 13 fun v1 => zret v1)
def s_X3_reason_J39 (K : ZK) (x0 : Nat) : ZP Int32 :=
  zcallV (some x0) 35 (fun y0 => s_X3_no K y0 (2 : Int32)) fun r4 => zret r4
def s_X3_reason_J45 (K : ZK) (x0 : Nat) (x1 : Int32) (x2 : Int32) : ZP Int32 :=
  zif (x1 = (1 : Int32)) (zif (x2 = 0) (zgetI (some x0) 35 11 fun v6 => zret v6) (zgetI (some x0) 35 12 fun v7 => zret v7)) (zif (x2 = 0) (zgetI (some x0) 35 9 fun v8 => zret v8) (zgetI (some x0) 35 10 fun v9 => zret v9))
def s_X3_reason (K : ZK) (this : Nat) (a1 : Int32) (a2 : Int32) : ZP Int32 :=
  zputI (some this) 35 5 (0 : Int32) (zcall (s_X3_in K a1 (0 : Int32) (1 : Int32)) fun r1 => zif (r1 = 0) (zcallV (some this) 35 (fun y0 => s_X3_no K y0 (1 : Int32)) fun r2 => zret r2) (zgetI (some this) 35 9 fun v3 => zif (v3 = 0) (s_X3_reason_J39 K this) (zif (a1 = (1 : Int32)) (zgetI (some this) 35 11 fun v5 => zif (v5 = 0) (s_X3_reason_J39 K this) (s_X3_reason_J45 K this a1 a2)) (s_X3_reason_J45 K this a1 a2))))
def s_X3_writes (K : ZK) (this : Nat) (a1 : Int32) : ZP Unit :=
  zgetR (some this) 35 24 fun v1 => zgetI (some this) 35 25 fun v2 => zast v1 v2 a1 (zgetI (some this) 35 25 fun v3 => zputI (some this) 35 25 (v3 + (1 : Int32)) (zret ()))
def s_X3_writesNobody (K : ZK) (this : Nat) : ZP Unit :=
  zcallV (some this) 35 (fun y0 => s_X3_writes K y0 (110 : Int32)) fun _ => zcallV (some this) 35 (fun y0 => s_X3_writes K y0 (111 : Int32)) fun _ => zcallV (some this) 35 (fun y0 => s_X3_writes K y0 (98 : Int32)) fun _ => zcallV (some this) 35 (fun y0 => s_X3_writes K y0 (111 : Int32)) fun _ => zcallV (some this) 35 (fun y0 => s_X3_writes K y0 (100 : Int32)) fun _ => zcallV (some this) 35 (fun y0 => s_X3_writes K y0 (121 : Int32)) fun _ => zret ()
def s_X3_writesNumber_B20 (K : ZK) (x0 : Nat) (x1 : Int32) (self20 : Int32 → ZP Unit) (x3 : Int32) : ZP Unit :=
  zif (x3 ≤ 0) (zret ()) (zasg (¬ x3 = 0) (zasg (¬ (10 : Int32) = 0) (zcallV (some x0) 35 (fun y0 => s_X3_writes K y0 ((48 : Int32) + ((x1 / x3) - (x1 / x3) / (10 : Int32) * (10 : Int32)))) fun _ => zasg (¬ (10 : Int32) = 0) (self20 (x3 / (10 : Int32))))))
def s_X3_writesNumber_L20 (K : ZK) (x0 : Nat) (x1 : Int32) : Int32 → ZP Unit := zloop (fun self20 v => s_X3_writesNumber_B20 K x0 x1 self20 v)
def s_X3_writesNumber_B2 (K : ZK) (x0 : Nat) (x1 : Int32) (self2 : Int32 → ZP Unit) (x2 : Int32) : ZP Unit :=
  zasg (¬ x2 = 0) (zif ((x1 / x2) < (10 : Int32)) (s_X3_writesNumber_L20 K x0 x1 x2) (self2 (x2 * (10 : Int32))))
def s_X3_writesNumber_L2 (K : ZK) (x0 : Nat) (x1 : Int32) : Int32 → ZP Unit := zloop (fun self2 v => s_X3_writesNumber_B2 K x0 x1 self2 v)
def s_X3_writesNumber (K : ZK) (this : Nat) (a1 : Int32) : ZP Unit :=
  s_X3_writesNumber_L2 K this a1 (1 : Int32)
def s_X3_tellRing_J144 (K : ZK) (x0 : Nat) (x1 : Int32) (t0 : Int32) (t1 : Option Nat) (t2 : Int32) (t3 : Nat) (self25 : Int32 → ZP Int32) : ZP Int32 :=
  zald t1 0 t0 fun v18 => zcallV (some t3) 35 (fun y0 => s_X3_writes K y0 (t2 + v18)) fun _ => self25 (x1 + (1 : Int32))
def s_X3_tellRing_J116 (K : ZK) (x0 : Nat) (x1 : Int32) (t0 : Int32) (t1 : Nat) (self25 : Int32 → ZP Int32) : ZP Int32 :=
  zcallV (some t1) 35 (fun y0 => s_X3_writes K y0 t0) fun _ => zgetR (some x0) 35 0 fun v15 => zgetR (some x0) 35 0 fun v16 => zald v16 0 (18 : Int32) fun v17 => zif (v17 = (1 : Int32)) (s_X3_tellRing_J144 K x0 x1 (20 : Int32) v15 (48 : Int32) x0 self25) (s_X3_tellRing_J144 K x0 x1 (25 : Int32) v15 (48 : Int32) x0 self25)
def s_X3_tellRing_J73 (K : ZK) (x0 : Nat) (x1 : Int32) (x2 : Int32) (self25 : Int32 → ZP Int32) : ZP Int32 :=
  zgetR (some x0) 35 0 fun v9 => zald v9 0 (18 : Int32) fun v10 => zif (v10 = 0) (self25 (x1 + (1 : Int32))) (zgetR (some x0) 35 0 fun v11 => zald v11 0 (19 : Int32) fun v12 => zif (v12 = x2) (zgetR (some x0) 35 0 fun v13 => zald v13 0 (18 : Int32) fun v14 => zif (v14 = (1 : Int32)) (s_X3_tellRing_J116 K x0 x1 (84 : Int32) x0 self25) (s_X3_tellRing_J116 K x0 x1 (70 : Int32) x0 self25)) (self25 (x1 + (1 : Int32))))
def s_X3_tellRing_J52 (K : ZK) (x0 : Nat) (x1 : Int32) (x2 : Int32) (self25 : Int32 → ZP Int32) : ZP Int32 :=
  zcallV (some x0) 35 (fun y0 => s_X3_writesNumber K y0 x2) fun _ => zgetR (some x0) 35 0 fun v7 => zald v7 0 (2 : Int32) fun v8 => zif (x2 = v8) (zcallV (some x0) 35 (fun y0 => s_X3_writes K y0 (42 : Int32)) fun _ => s_X3_tellRing_J73 K x0 x1 x2 self25) (s_X3_tellRing_J73 K x0 x1 x2 self25)
def s_X3_tellRing_B25 (K : ZK) (x0 : Nat) (self25 : Int32 → ZP Int32) (x1 : Int32) : ZP Int32 :=
  zgetR (some x0) 35 0 fun v3 => zald v3 0 (1 : Int32) fun v4 => zif (v4 ≤ x1) (zgetI (some x0) 35 25 fun v5 => zret v5) (zcallV (some x0) 35 (fun y0 => s_X3_sv K y0 x1 (0 : Int32)) fun r6 => zif (x1 ≤ 0) (s_X3_tellRing_J52 K x0 x1 r6 self25) (zcallV (some x0) 35 (fun y0 => s_X3_writes K y0 (32 : Int32)) fun _ => s_X3_tellRing_J52 K x0 x1 r6 self25))
def s_X3_tellRing_L25 (K : ZK) (x0 : Nat) : Int32 → ZP Int32 := zloop (fun self25 v => s_X3_tellRing_B25 K x0 self25 v)
def s_X3_tellRing (K : ZK) (this : Nat) : ZP Int32 :=
  zputI (some this) 35 5 (0 : Int32) (zputI (some this) 35 25 (0 : Int32) (zgetR (some this) 35 0 fun v1 => zald v1 0 (1 : Int32) fun v2 => zif (v2 = 0) (zcallV (some this) 35 (fun y0 => s_X3_writesNobody K y0) fun _ => s_X3_tellRing_L25 K this (0 : Int32)) (s_X3_tellRing_L25 K this (0 : Int32))))
def s_X3_tellQueue_J63 (K : ZK) (x0 : Nat) (x2 : Int32) (x3 : Int32) (self43 : Int32 → ZP Int32) : ZP Int32 :=
  zcallV (some x0) 35 (fun y0 => s_X3_writes K y0 (35 : Int32)) fun _ => zcallV (some x0) 35 (fun y0 => s_X3_qv K y0 x2 x3 (0 : Int32)) fun r5 => zcallV (some x0) 35 (fun y0 => s_X3_writesNumber K y0 r5) fun _ => zcallV (some x0) 35 (fun y0 => s_X3_writes K y0 (47 : Int32)) fun _ => zcallV (some x0) 35 (fun y0 => s_X3_qv K y0 x2 x3 (2 : Int32)) fun r6 => zcallV (some x0) 35 (fun y0 => s_X3_writes K y0 ((48 : Int32) + r6)) fun _ => self43 (x3 + (1 : Int32))
def s_X3_tellQueue_B43 (K : ZK) (x0 : Nat) (x2 : Int32) (self43 : Int32 → ZP Int32) (x3 : Int32) : ZP Int32 :=
  zcallV (some x0) 35 (fun y0 => s_X3_sv K y0 x2 (1 : Int32)) fun r3 => zif (r3 ≤ x3) (zgetI (some x0) 35 25 fun v4 => zret v4) (zif (x3 ≤ 0) (s_X3_tellQueue_J63 K x0 x2 x3 self43) (zcallV (some x0) 35 (fun y0 => s_X3_writes K y0 (32 : Int32)) fun _ => s_X3_tellQueue_J63 K x0 x2 x3 self43))
def s_X3_tellQueue_L43 (K : ZK) (x0 : Nat) (x2 : Int32) : Int32 → ZP Int32 := zloop (fun self43 v => s_X3_tellQueue_B43 K x0 x2 self43 v)
def s_X3_tellQueue (K : ZK) (this : Nat) (a1 : Int32) : ZP Int32 :=
  zputI (some this) 35 5 (0 : Int32) (zcallV (some this) 35 (fun y0 => s_X3_placeOf K y0 a1) fun r1 => zif (0 ≤ r1) (zputI (some this) 35 25 (0 : Int32) (zcallV (some this) 35 (fun y0 => s_X3_sv K y0 r1 (1 : Int32)) fun r2 => zif (r2 = 0) (zcallV (some this) 35 (fun y0 => s_X3_writes K y0 (45 : Int32)) fun _ => s_X3_tellQueue_L43 K this r1 (0 : Int32)) (s_X3_tellQueue_L43 K this r1 (0 : Int32)))) (zcallV (some this) 35 (fun y0 => s_X3_no K y0 (1 : Int32)) fun r7 => zret r7))
def s_X3_character_J20 (K : ZK) (x0 : Nat) (x1 : Int32) (t0 : Int32) (t1 : Nat) : ZP Int32 :=
  zputI (some t1) 35 5 t0 (zgetI (some x0) 35 5 fun v3 => zif (v3 ≤ 0) (zgetR (some x0) 35 24 fun v4 => zald v4 0 x1 fun v5 => zasg (narrow .char (.int ((v5.toUInt32 % 65536).toInt32)) = .int ((v5.toUInt32 % 65536).toInt32)) (zret ((v5.toUInt32 % 65536).toInt32))) (zasg (narrow .char (.int (32 : Int32)) = .int (32 : Int32)) (zret (32 : Int32))))
def s_X3_character (K : ZK) (this : Nat) (a1 : Int32) : ZP Int32 :=
  zgetI (some this) 35 25 fun v1 => zcall (s_X3_in K a1 (0 : Int32) (v1 - (1 : Int32))) fun r2 => zif (r2 = 0) (s_X3_character_J20 K this a1 (1 : Int32) this) (s_X3_character_J20 K this a1 (0 : Int32) this)
def s_X3_account (K : ZK) (this : Nat) (a1 : Int32) : ZP Int32 :=
  zputI (some this) 35 5 (0 : Int32) (zcall (s_X3_in K a1 (0 : Int32) (17 : Int32)) fun r1 => zif (r1 = 0) (zif (a1 = (18 : Int32)) (zgetI (some this) 35 20 fun v2 => zret v2) (zif (a1 = (19 : Int32)) (zgetI (some this) 35 6 fun v3 => zret v3) (zcallV (some this) 35 (fun y0 => s_X3_no K y0 (1 : Int32)) fun r4 => zret r4))) (zgetR (some this) 35 0 fun v5 => zald v5 0 a1 fun v6 => zret v6))
def s_X3_meanDelay_J15 (K : ZK) (x0 : Nat) (t0 : Int32) (t1 : Nat) : ZP UInt64 :=
  zputI (some t1) 35 5 t0 (zgetI (some x0) 35 5 fun v3 => zif (v3 ≤ 0) (zgetR (some x0) 35 0 fun v4 => zald v4 0 (13 : Int32) fun v5 => zgetR (some x0) 35 0 fun v6 => zald v6 0 (5 : Int32) fun v7 => zasg (vf_n64 (FP.ddiv (FP.i2d v5) (FP.i2d v7))) (zret (FP.ddiv (FP.i2d v5) (FP.i2d v7)))) (zret FP.dconst0))
def s_X3_meanDelay (K : ZK) (this : Nat) : ZP UInt64 :=
  zgetR (some this) 35 0 fun v1 => zald v1 0 (5 : Int32) fun v2 => zif (v2 = 0) (s_X3_meanDelay_J15 K this (1 : Int32) this) (s_X3_meanDelay_J15 K this (0 : Int32) this)
def s_X3_receivedShare_J15 (K : ZK) (x0 : Nat) (t0 : Int32) (t1 : Nat) : ZP UInt32 :=
  zputI (some t1) 35 5 t0 (zgetI (some x0) 35 5 fun v3 => zif (v3 ≤ 0) (zgetR (some x0) 35 0 fun v4 => zald v4 0 (6 : Int32) fun v5 => zgetR (some x0) 35 0 fun v6 => zald v6 0 (5 : Int32) fun v7 => zasg (vf_n32 (FP.fdiv (FP.i2f v5) (FP.i2f v7))) (zret (FP.fdiv (FP.i2f v5) (FP.i2f v7)))) (zret FP.fconst0))
def s_X3_receivedShare (K : ZK) (this : Nat) : ZP UInt32 :=
  zgetR (some this) 35 0 fun v1 => zald v1 0 (5 : Int32) fun v2 => zif (v2 = 0) (s_X3_receivedShare_J15 K this (1 : Int32) this) (s_X3_receivedShare_J15 K this (0 : Int32) this)
def s_X3_undo (K : ZK) (this : Nat) : ZP Int32 :=
  zputI (some this) 35 5 (0 : Int32) (zgetI (some this) 35 6 fun v1 => zif (v1 = 0) (zcallV (some this) 35 (fun y0 => s_X3_no K y0 (1 : Int32)) fun r2 => zret r2) (zgetI (some this) 35 6 fun v3 => zputI (some this) 35 6 (v3 - (1 : Int32)) (zgetR (some this) 35 4 fun v4 => zgetI (some this) 35 6 fun v5 => zgetR (some this) 35 0 fun v6 => zcall (s_X3_copies K v4 ((671 : Int32) * v5) v6 (0 : Int32)) fun _ => zgetI (some this) 35 6 fun v7 => zret v7)))
def s_X3_save (K : ZK) (this : Nat) : ZP Int32 :=
  zputI (some this) 35 5 (0 : Int32) (zgetR (some this) 35 0 fun v1 => zgetR (some this) 35 3 fun v2 => zcall (s_X3_copies K v1 (0 : Int32) v2 (0 : Int32)) fun _ => zputT .boolean (some this) 35 14 (1 : Int32) (zgetR (some this) 35 0 fun v3 => zald v3 0 (0 : Int32) fun v4 => zret v4))
def s_X3_restore (K : ZK) (this : Nat) : ZP Int32 :=
  zputI (some this) 35 5 (0 : Int32) (zgetI (some this) 35 14 fun v1 => zif (v1 = 0) (zcallV (some this) 35 (fun y0 => s_X3_no K y0 (1 : Int32)) fun r2 => zret r2) (zgetR (some this) 35 3 fun v3 => zgetR (some this) 35 0 fun v4 => zcall (s_X3_copies K v3 (0 : Int32) v4 (0 : Int32)) fun _ => zputI (some this) 35 6 (0 : Int32) (zgetR (some this) 35 0 fun v5 => zald v5 0 (0 : Int32) fun v6 => zret v6)))
def s_X0_law_J1302 (K : ZK) (x0 : Option Nat) (x1 : Nat) (x2 : Nat) (x3 : Nat) (x4 : Nat) (x5 : Int32) (t0 : Int64) (t1 : Int64) (self28 : Int32 → ZP Int32) : ZP Int32 :=
  zif ((lg_cmp t1 t0) = 0) (self28 (x5 + (5 : Int32))) (zret (0 : Int32))
def s_X0_law_J1365 (K : ZK) (x0 : Option Nat) (x1 : Nat) (x2 : Nat) (x3 : Nat) (x4 : Nat) (x5 : Int32) (t0 : Int64) (t1 : Int64) (self28 : Int32 → ZP Int32) : ZP Int32 :=
  zif ((lg_cmp t1 t0) = 0) (self28 (x5 + (5 : Int32))) (zret (0 : Int32))
def s_X0_law_J1931 (K : ZK) (x0 : Option Nat) (x1 : Nat) (x2 : Nat) (x3 : Nat) (x4 : Nat) (x5 : Int32) (x6 : Int32) (t0 : Int32) (t1 : Int32) (t2 : Nat) (self28 : Int32 → ZP Int32) : ZP Int32 :=
  zcallV (some t2) 35 (fun y0 => s_X3_reason K y0 t1 t0) fun r192 => zcallV (some x2) 35 (fun y0 => s_X3_thrown K y0) fun r193 => zif (r193 = x6) (zif (x6 = 0) (zaldJ (some x3) 1 (0 : Int32) fun v194 => zif ((lg_cmp v194 r192.toInt64) = 0) (self28 (x5 + (5 : Int32))) (zret (0 : Int32))) (self28 (x5 + (5 : Int32)))) (zret (0 : Int32))
def s_X0_law_J1904 (K : ZK) (x0 : Option Nat) (x1 : Nat) (x2 : Nat) (x3 : Nat) (x4 : Nat) (x5 : Int32) (t0 : Int32) (t1 : Int32) (t2 : Nat) (self28 : Int32 → ZP Int32) : ZP Int32 :=
  zcall (s_X0_reason K (some t2) t1 t0 (some x3)) fun r189 => zaldK K x0 6 (x5 + (1 : Int32)) fun v190 => zaldK K x0 6 (x5 + (2 : Int32)) fun v191 => zif (v191 = 0) (s_X0_law_J1931 K x0 x1 x2 x3 x4 x5 r189 (0 : Int32) v190 x2 self28) (s_X0_law_J1931 K x0 x1 x2 x3 x4 x5 r189 (1 : Int32) v190 x2 self28)
def s_X0_law_B28 (K : ZK) (x0 : Option Nat) (x1 : Nat) (x2 : Nat) (x3 : Nat) (x4 : Nat) (self28 : Int32 → ZP Int32) (x5 : Int32) : ZP Int32 :=
  zlenK K x0 6 fun v5 => zif ((v5 - (5 : Int32)) < x5) (zret (1 : Int32)) (zaldK K x0 6 x5 fun v6 => zsw (v6 &&& (63 : Int32)) [((0 : Int32), zaldK K x0 6 (x5 + (1 : Int32)) fun v7 => zcall (s_X0_join K (some x1) v7 (some x3)) fun r8 => zaldK K x0 6 (x5 + (1 : Int32)) fun v9 => zcallV (some x2) 35 (fun y0 => s_X3_join K y0 v9) fun r10 => zcallV (some x2) 35 (fun y0 => s_X3_thrown K y0) fun r11 => zif (r11 = r8) (zif (r8 = 0) (zaldJ (some x3) 1 (0 : Int32) fun v12 => zif ((lg_cmp v12 r10.toInt64) = 0) (self28 (x5 + (5 : Int32))) (zret (0 : Int32))) (self28 (x5 + (5 : Int32)))) (zret (0 : Int32))), ((1 : Int32), zaldK K x0 6 (x5 + (1 : Int32)) fun v13 => zcall (s_X0_leave K (some x1) v13 (some x3)) fun r14 => zaldK K x0 6 (x5 + (1 : Int32)) fun v15 => zcallV (some x2) 35 (fun y0 => s_X3_leave K y0 v15) fun r16 => zcallV (some x2) 35 (fun y0 => s_X3_thrown K y0) fun r17 => zif (r17 = r14) (zif (r14 = 0) (zaldJ (some x3) 1 (0 : Int32) fun v18 => zif ((lg_cmp v18 r16.toInt64) = 0) (self28 (x5 + (5 : Int32))) (zret (0 : Int32))) (self28 (x5 + (5 : Int32)))) (zret (0 : Int32))), ((2 : Int32), zaldK K x0 6 (x5 + (1 : Int32)) fun v19 => zaldK K x0 6 (x5 + (2 : Int32)) fun v20 => zaldK K x0 6 (x5 + (3 : Int32)) fun v21 => zaldK K x0 6 (x5 + (4 : Int32)) fun v22 => zcall (s_X0_queue K (some x1) v19 v20 v21 v22 (some x3)) fun r23 => zaldK K x0 6 (x5 + (1 : Int32)) fun v24 => zaldK K x0 6 (x5 + (2 : Int32)) fun v25 => zaldK K x0 6 (x5 + (3 : Int32)) fun v26 => zaldK K x0 6 (x5 + (4 : Int32)) fun v27 => zcallV (some x2) 35 (fun y0 => s_X3_queue K y0 v24 v25 v26 v27) fun r28 => zcallV (some x2) 35 (fun y0 => s_X3_thrown K y0) fun r29 => zif (r29 = r23) (zif (r23 = 0) (zaldJ (some x3) 1 (0 : Int32) fun v30 => zif ((lg_cmp v30 r28.toInt64) = 0) (self28 (x5 + (5 : Int32))) (zret (0 : Int32))) (self28 (x5 + (5 : Int32)))) (zret (0 : Int32))), ((3 : Int32), zaldK K x0 6 (x5 + (1 : Int32)) fun v31 => zcall (s_X0_drop K (some x1) v31 (some x3)) fun r32 => zaldK K x0 6 (x5 + (1 : Int32)) fun v33 => zcallV (some x2) 35 (fun y0 => s_X3_drop K y0 v33) fun r34 => zcallV (some x2) 35 (fun y0 => s_X3_thrown K y0) fun r35 => zif (r35 = r32) (zif (r32 = 0) (zaldJ (some x3) 1 (0 : Int32) fun v36 => zif ((lg_cmp v36 r34.toInt64) = 0) (self28 (x5 + (5 : Int32))) (zret (0 : Int32))) (self28 (x5 + (5 : Int32)))) (zret (0 : Int32))), ((4 : Int32), zaldK K x0 6 (x5 + (1 : Int32)) fun v37 => zcall (s_X0_monitor K (some x1) v37 (some x3)) fun r38 => zaldK K x0 6 (x5 + (1 : Int32)) fun v39 => zcallV (some x2) 35 (fun y0 => s_X3_monitor K y0 v39) fun r40 => zcallV (some x2) 35 (fun y0 => s_X3_thrown K y0) fun r41 => zif (r41 = r38) (zif (r38 = 0) (zaldJ (some x3) 1 (0 : Int32) fun v42 => zif ((lg_cmp v42 r40.toInt64) = 0) (self28 (x5 + (5 : Int32))) (zret (0 : Int32))) (self28 (x5 + (5 : Int32)))) (zret (0 : Int32))), ((5 : Int32), zaldK K x0 6 (x5 + (1 : Int32)) fun v43 => zcall (s_X0_token K (some x1) v43 (some x3)) fun r44 => zaldK K x0 6 (x5 + (1 : Int32)) fun v45 => zcallV (some x2) 35 (fun y0 => s_X3_token K y0 v45) fun r46 => zcallV (some x2) 35 (fun y0 => s_X3_thrown K y0) fun r47 => zif (r47 = r44) (zif (r44 = 0) (zaldJ (some x3) 1 (0 : Int32) fun v48 => zif ((lg_cmp v48 r46.toInt64) = 0) (self28 (x5 + (5 : Int32))) (zret (0 : Int32))) (self28 (x5 + (5 : Int32)))) (zret (0 : Int32))), ((6 : Int32), zcall (s_X0_lose K (some x1) (some x3)) fun r49 => zcallV (some x2) 35 (fun y0 => s_X3_lose K y0) fun r50 => zcallV (some x2) 35 (fun y0 => s_X3_thrown K y0) fun r51 => zif (r51 = r49) (zif (r49 = 0) (zaldJ (some x3) 1 (0 : Int32) fun v52 => zif ((lg_cmp v52 r50.toInt64) = 0) (self28 (x5 + (5 : Int32))) (zret (0 : Int32))) (self28 (x5 + (5 : Int32)))) (zret (0 : Int32))), ((7 : Int32), zaldK K x0 6 (x5 + (1 : Int32)) fun v53 => zcall (s_X0_tick K (some x1) v53 (some x3)) fun r54 => zaldK K x0 6 (x5 + (1 : Int32)) fun v55 => zcallV (some x2) 35 (fun y0 => s_X3_tick K y0 v55) fun r56 => zcallV (some x2) 35 (fun y0 => s_X3_thrown K y0) fun r57 => zif (r57 = r54) (zif (r54 = 0) (zaldJ (some x3) 1 (0 : Int32) fun v58 => zif ((lg_cmp v58 r56.toInt64) = 0) (self28 (x5 + (5 : Int32))) (zret (0 : Int32))) (self28 (x5 + (5 : Int32)))) (zret (0 : Int32))), ((8 : Int32), zaldK K x0 6 (x5 + (1 : Int32)) fun v59 => zcall (s_X0_onRing K (some x1) v59 (some x3)) fun r60 => zaldK K x0 6 (x5 + (1 : Int32)) fun v61 => zcallV (some x2) 35 (fun y0 => s_X3_onRing K y0 v61) fun r62 => zcallV (some x2) 35 (fun y0 => s_X3_thrown K y0) fun r63 => zif (r63 = r60) (zif (r60 = 0) (zaldJ (some x3) 1 (0 : Int32) fun v64 => zif ((lg_cmp v64 r62.toInt64) = 0) (self28 (x5 + (5 : Int32))) (zret (0 : Int32))) (self28 (x5 + (5 : Int32)))) (zret (0 : Int32))), ((9 : Int32), zaldK K x0 6 (x5 + (1 : Int32)) fun v65 => zcall (s_X0_stationAt K (some x1) v65 (some x3)) fun r66 => zaldK K x0 6 (x5 + (1 : Int32)) fun v67 => zcallV (some x2) 35 (fun y0 => s_X3_stationAt K y0 v67) fun r68 => zcallV (some x2) 35 (fun y0 => s_X3_thrown K y0) fun r69 => zif (r69 = r66) (zif (r66 = 0) (zaldJ (some x3) 1 (0 : Int32) fun v70 => zif ((lg_cmp v70 r68.toInt64) = 0) (self28 (x5 + (5 : Int32))) (zret (0 : Int32))) (self28 (x5 + (5 : Int32)))) (zret (0 : Int32))), ((10 : Int32), zaldK K x0 6 (x5 + (1 : Int32)) fun v71 => zaldK K x0 6 (x5 + (2 : Int32)) fun v72 => zcall (s_X0_waits K (some x1) v71 v72 (some x3)) fun r73 => zaldK K x0 6 (x5 + (1 : Int32)) fun v74 => zaldK K x0 6 (x5 + (2 : Int32)) fun v75 => zcallV (some x2) 35 (fun y0 => s_X3_waits K y0 v74 v75) fun r76 => zcallV (some x2) 35 (fun y0 => s_X3_thrown K y0) fun r77 => zif (r77 = r73) (zif (r73 = 0) (zaldJ (some x3) 1 (0 : Int32) fun v78 => zif ((lg_cmp v78 r76.toInt64) = 0) (self28 (x5 + (5 : Int32))) (zret (0 : Int32))) (self28 (x5 + (5 : Int32)))) (zret (0 : Int32))), ((11 : Int32), zaldK K x0 6 (x5 + (1 : Int32)) fun v79 => zcall (s_X0_rankOf K (some x1) v79 (some x3)) fun r80 => zaldK K x0 6 (x5 + (1 : Int32)) fun v81 => zcallV (some x2) 35 (fun y0 => s_X3_rankOf K y0 v81) fun r82 => zcallV (some x2) 35 (fun y0 => s_X3_thrown K y0) fun r83 => zif (r83 = r80) (zif (r80 = 0) (zaldJ (some x3) 1 (0 : Int32) fun v84 => zif ((lg_cmp v84 r82.toInt64) = 0) (self28 (x5 + (5 : Int32))) (zret (0 : Int32))) (self28 (x5 + (5 : Int32)))) (zret (0 : Int32))), ((12 : Int32), zaldK K x0 6 (x5 + (1 : Int32)) fun v85 => zcall (s_X0_whereIs K (some x1) v85 (some x3)) fun r86 => zaldK K x0 6 (x5 + (1 : Int32)) fun v87 => zcallV (some x2) 35 (fun y0 => s_X3_whereIs K y0 v87) fun r88 => zcallV (some x2) 35 (fun y0 => s_X3_thrown K y0) fun r89 => zif (r89 = r86) (zif (r86 = 0) (zaldJ (some x3) 1 (0 : Int32) fun v90 => zif ((lg_cmp v90 r88.toInt64) = 0) (self28 (x5 + (5 : Int32))) (zret (0 : Int32))) (self28 (x5 + (5 : Int32)))) (zret (0 : Int32))), ((13 : Int32), zaldK K x0 6 (x5 + (1 : Int32)) fun v91 => zaldK K x0 6 (x5 + (2 : Int32)) fun v92 => zcall (s_X0_queueOf K (some x1) v91 v92 (some x3)) fun r93 => zaldK K x0 6 (x5 + (1 : Int32)) fun v94 => zaldK K x0 6 (x5 + (2 : Int32)) fun v95 => zcallV (some x2) 35 (fun y0 => s_X3_queueOf K y0 v94 v95) fun r96 => zcallV (some x2) 35 (fun y0 => s_X3_thrown K y0) fun r97 => zif (r97 = r93) (zif (r93 = 0) (zaldJ (some x3) 1 (0 : Int32) fun v98 => zif ((lg_cmp v98 r96.toInt64) = 0) (self28 (x5 + (5 : Int32))) (zret (0 : Int32))) (self28 (x5 + (5 : Int32)))) (zret (0 : Int32))), ((14 : Int32), zaldK K x0 6 (x5 + (1 : Int32)) fun v99 => zcall (s_X0_next K (some x1) v99 (some x3)) fun r100 => zaldK K x0 6 (x5 + (1 : Int32)) fun v101 => zcallV (some x2) 35 (fun y0 => s_X3_next K y0 v101) fun r102 => zcallV (some x2) 35 (fun y0 => s_X3_thrown K y0) fun r103 => zif (r103 = r100) (zif (r100 = 0) (zaldJ (some x3) 1 (0 : Int32) fun v104 => zif ((lg_cmp v104 r102.toInt64) = 0) (self28 (x5 + (5 : Int32))) (zret (0 : Int32))) (self28 (x5 + (5 : Int32)))) (zret (0 : Int32))), ((15 : Int32), zaldK K x0 6 (x5 + (1 : Int32)) fun v105 => zaldK K x0 6 (x5 + (2 : Int32)) fun v106 => zcall (s_X0_steps K (some x1) v105 v106 (some x3)) fun r107 => zaldK K x0 6 (x5 + (1 : Int32)) fun v108 => zaldK K x0 6 (x5 + (2 : Int32)) fun v109 => zcallV (some x2) 35 (fun y0 => s_X3_steps K y0 v108 v109) fun r110 => zcallV (some x2) 35 (fun y0 => s_X3_thrown K y0) fun r111 => zif (r111 = r107) (zif (r107 = 0) (zaldJ (some x3) 1 (0 : Int32) fun v112 => zif ((lg_cmp v112 r110.toInt64) = 0) (self28 (x5 + (5 : Int32))) (zret (0 : Int32))) (self28 (x5 + (5 : Int32)))) (zret (0 : Int32))), ((16 : Int32), zaldK K x0 6 (x5 + (1 : Int32)) fun v113 => zaldK K x0 6 (x5 + (2 : Int32)) fun v114 => zcall (s_X0_stepsAgain K (some x1) v113 v114 (some x3)) fun r115 => zaldK K x0 6 (x5 + (1 : Int32)) fun v116 => zaldK K x0 6 (x5 + (2 : Int32)) fun v117 => zcallV (some x2) 35 (fun y0 => s_X3_stepsAgain K y0 v116 v117) fun r118 => zcallV (some x2) 35 (fun y0 => s_X3_thrown K y0) fun r119 => zif (r119 = r115) (zif (r115 = 0) (zaldJ (some x3) 1 (0 : Int32) fun v120 => zif ((lg_cmp v120 r118.toInt64) = 0) (self28 (x5 + (5 : Int32))) (zret (0 : Int32))) (self28 (x5 + (5 : Int32)))) (zret (0 : Int32))), ((17 : Int32), zaldK K x0 6 (x5 + (1 : Int32)) fun v121 => zcall (s_X0_isInRing K (some x1) v121 (some x3)) fun r122 => zaldK K x0 6 (x5 + (1 : Int32)) fun v123 => zcallV (some x2) 35 (fun y0 => s_X3_isInRing K y0 v123) fun r124 => zcallV (some x2) 35 (fun y0 => s_X3_thrown K y0) fun r125 => zif (r125 = r122) (zif (r122 = 0) (zaldJ (some x3) 1 (0 : Int32) fun v126 => zif (r124 = 0) (s_X0_law_J1302 K x0 x1 x2 x3 x4 x5 (0 : Int64) v126 self28) (s_X0_law_J1302 K x0 x1 x2 x3 x4 x5 (1 : Int64) v126 self28)) (self28 (x5 + (5 : Int32)))) (zret (0 : Int32))), ((18 : Int32), zaldK K x0 6 (x5 + (1 : Int32)) fun v127 => zcall (s_X0_canTake K (some x1) v127 (some x3)) fun r128 => zaldK K x0 6 (x5 + (1 : Int32)) fun v129 => zcallV (some x2) 35 (fun y0 => s_X3_canTake K y0 v129) fun r130 => zcallV (some x2) 35 (fun y0 => s_X3_thrown K y0) fun r131 => zif (r131 = r128) (zif (r128 = 0) (zaldJ (some x3) 1 (0 : Int32) fun v132 => zif (r130 = 0) (s_X0_law_J1365 K x0 x1 x2 x3 x4 x5 (0 : Int64) v132 self28) (s_X0_law_J1365 K x0 x1 x2 x3 x4 x5 (1 : Int64) v132 self28)) (self28 (x5 + (5 : Int32)))) (zret (0 : Int32))), ((19 : Int32), zcall (s_X0_whoTakes K (some x1) (some x3)) fun r133 => zcallV (some x2) 35 (fun y0 => s_X3_whoTakes K y0) fun r134 => zcallV (some x2) 35 (fun y0 => s_X3_thrown K y0) fun r135 => zif (r135 = r133) (zif (r133 = 0) (zaldJ (some x3) 1 (0 : Int32) fun v136 => zif ((lg_cmp v136 r134.toInt64) = 0) (self28 (x5 + (5 : Int32))) (zret (0 : Int32))) (self28 (x5 + (5 : Int32)))) (zret (0 : Int32))), ((20 : Int32), zaldK K x0 6 (x5 + (1 : Int32)) fun v137 => zcall (s_X0_receivedIn K (some x1) v137 (some x3)) fun r138 => zaldK K x0 6 (x5 + (1 : Int32)) fun v139 => zcallV (some x2) 35 (fun y0 => s_X3_receivedIn K y0 v139) fun r140 => zcallV (some x2) 35 (fun y0 => s_X3_thrown K y0) fun r141 => zif (r141 = r138) (zif (r138 = 0) (zaldJ (some x3) 1 (0 : Int32) fun v142 => zif ((lg_cmp v142 r140.toInt64) = 0) (self28 (x5 + (5 : Int32))) (zret (0 : Int32))) (self28 (x5 + (5 : Int32)))) (zret (0 : Int32))), ((21 : Int32), zaldK K x0 6 (x5 + (1 : Int32)) fun v143 => zcall (s_X0_tokenIn K (some x1) v143 (some x3)) fun r144 => zaldK K x0 6 (x5 + (1 : Int32)) fun v145 => zcallV (some x2) 35 (fun y0 => s_X3_tokenIn K y0 v145) fun r146 => zcallV (some x2) 35 (fun y0 => s_X3_thrown K y0) fun r147 => zif (r147 = r144) (zif (r144 = 0) (zaldJ (some x3) 1 (0 : Int32) fun v148 => zif ((lg_cmp v148 r146.toInt64) = 0) (self28 (x5 + (5 : Int32))) (zret (0 : Int32))) (self28 (x5 + (5 : Int32)))) (zret (0 : Int32))), ((22 : Int32), zaldK K x0 6 (x5 + (1 : Int32)) fun v149 => zaldK K x0 6 (x5 + (2 : Int32)) fun v150 => zcall (s_X0_ahead K (some x1) v149 v150 (some x3)) fun r151 => zaldK K x0 6 (x5 + (1 : Int32)) fun v152 => zaldK K x0 6 (x5 + (2 : Int32)) fun v153 => zcallV (some x2) 35 (fun y0 => s_X3_ahead K y0 v152 v153) fun r154 => zcallV (some x2) 35 (fun y0 => s_X3_thrown K y0) fun r155 => zif (r155 = r151) (zif (r151 = 0) (zaldJ (some x3) 1 (0 : Int32) fun v156 => zif ((lg_cmp v156 r154.toInt64) = 0) (self28 (x5 + (5 : Int32))) (zret (0 : Int32))) (self28 (x5 + (5 : Int32)))) (zret (0 : Int32))), ((23 : Int32), zaldK K x0 6 (x5 + (1 : Int32)) fun v157 => zcall (s_X0_ranked K (some x1) v157 (some x3)) fun r158 => zaldK K x0 6 (x5 + (1 : Int32)) fun v159 => zcallV (some x2) 35 (fun y0 => s_X3_ranked K y0 v159) fun r160 => zcallV (some x2) 35 (fun y0 => s_X3_thrown K y0) fun r161 => zif (r161 = r158) (zif (r158 = 0) (zaldJ (some x3) 1 (0 : Int32) fun v162 => zif ((lg_cmp v162 r160.toInt64) = 0) (self28 (x5 + (5 : Int32))) (zret (0 : Int32))) (self28 (x5 + (5 : Int32)))) (zret (0 : Int32))), ((24 : Int32), zcall (s_X0_longestWait K (some x1) (some x3)) fun r163 => zcallV (some x2) 35 (fun y0 => s_X3_longestWait K y0) fun r164 => zcallV (some x2) 35 (fun y0 => s_X3_thrown K y0) fun r165 => zif (r165 = r163) (zif (r163 = 0) (zaldJ (some x3) 1 (0 : Int32) fun v166 => zif ((lg_cmp v166 r164.toInt64) = 0) (self28 (x5 + (5 : Int32))) (zret (0 : Int32))) (self28 (x5 + (5 : Int32)))) (zret (0 : Int32))), ((25 : Int32), zcall (s_X0_greatest K (some x1) (some x3)) fun r167 => zcallV (some x2) 35 (fun y0 => s_X3_greatest K y0) fun r168 => zcallV (some x2) 35 (fun y0 => s_X3_thrown K y0) fun r169 => zif (r169 = r167) (zif (r167 = 0) (zaldJ (some x3) 1 (0 : Int32) fun v170 => zif ((lg_cmp v170 r168.toInt64) = 0) (self28 (x5 + (5 : Int32))) (zret (0 : Int32))) (self28 (x5 + (5 : Int32)))) (zret (0 : Int32))), ((26 : Int32), zcallV (some x1) 24 (fun y0 => s_X1_waiting K y0) fun r171 => zcallV (some x2) 35 (fun y0 => s_X3_waiting K y0) fun r172 => zif (r171 = r172) (self28 (x5 + (5 : Int32))) (zret (0 : Int32))), ((27 : Int32), zcallV (some x1) 24 (fun y0 => s_X1_waitingAgain K y0) fun r173 => zcallV (some x2) 35 (fun y0 => s_X3_waitingAgain K y0) fun r174 => zif (r173 = r174) (self28 (x5 + (5 : Int32))) (zret (0 : Int32))), ((28 : Int32), zaldK K x0 6 (x5 + (1 : Int32)) fun v175 => zcall (s_X0_append K (some x1) ((v175.toUInt32 % 65536).toInt32) (some x3)) fun r176 => zaldK K x0 6 (x5 + (1 : Int32)) fun v177 => zcallV (some x2) 35 (fun y0 => s_X3_append K y0 ((v177.toUInt32 % 65536).toInt32)) fun r178 => zcallV (some x2) 35 (fun y0 => s_X3_thrown K y0) fun r179 => zif (r179 = r176) (zif (r176 = 0) (zaldJ (some x3) 1 (0 : Int32) fun v180 => zif ((lg_cmp v180 r178.toInt64) = 0) (self28 (x5 + (5 : Int32))) (zret (0 : Int32))) (self28 (x5 + (5 : Int32)))) (zret (0 : Int32))), ((29 : Int32), zcall (s_X0_run K (some x1) (some x3)) fun r181 => zcallV (some x2) 35 (fun y0 => s_X3_run K y0) fun r182 => zcallV (some x2) 35 (fun y0 => s_X3_thrown K y0) fun r183 => zif (r183 = r181) (zif (r181 = 0) (zaldJ (some x3) 1 (0 : Int32) fun v184 => zif ((lg_cmp v184 r182.toInt64) = 0) (self28 (x5 + (5 : Int32))) (zret (0 : Int32))) (self28 (x5 + (5 : Int32)))) (zret (0 : Int32))), ((30 : Int32), zcallV (some x1) 24 (fun y0 => s_X1_faultPosition K y0) fun r185 => zcallV (some x2) 35 (fun y0 => s_X3_faultPosition K y0) fun r186 => zif (r185 = r186) (self28 (x5 + (5 : Int32))) (zret (0 : Int32))), ((31 : Int32), zaldK K x0 6 (x5 + (1 : Int32)) fun v187 => zaldK K x0 6 (x5 + (2 : Int32)) fun v188 => zif (v188 = 0) (s_X0_law_J1904 K x0 x1 x2 x3 x4 x5 (0 : Int32) v187 x1 self28) (s_X0_law_J1904 K x0 x1 x2 x3 x4 x5 (1 : Int32) v187 x1 self28)), ((32 : Int32), zcallV (some x1) 24 (fun y0 => s_X1_tellRing K y0) fun r195 => zcallV (some x2) 35 (fun y0 => s_X3_tellRing K y0) fun r196 => zif (r195 = r196) (self28 (x5 + (5 : Int32))) (zret (0 : Int32))), ((33 : Int32), zaldK K x0 6 (x5 + (1 : Int32)) fun v197 => zcall (s_X0_tellQueue K (some x1) v197 (some x3)) fun r198 => zaldK K x0 6 (x5 + (1 : Int32)) fun v199 => zcallV (some x2) 35 (fun y0 => s_X3_tellQueue K y0 v199) fun r200 => zcallV (some x2) 35 (fun y0 => s_X3_thrown K y0) fun r201 => zif (r201 = r198) (zif (r198 = 0) (zaldJ (some x3) 1 (0 : Int32) fun v202 => zif ((lg_cmp v202 r200.toInt64) = 0) (self28 (x5 + (5 : Int32))) (zret (0 : Int32))) (self28 (x5 + (5 : Int32)))) (zret (0 : Int32))), ((34 : Int32), zaldK K x0 6 (x5 + (1 : Int32)) fun v203 => zcall (s_X0_character K (some x1) v203 (some x3)) fun r204 => zaldK K x0 6 (x5 + (1 : Int32)) fun v205 => zcallV (some x2) 35 (fun y0 => s_X3_character K y0 v205) fun r206 => zcallV (some x2) 35 (fun y0 => s_X3_thrown K y0) fun r207 => zif (r207 = r204) (zif (r204 = 0) (zaldJ (some x3) 1 (0 : Int32) fun v208 => zif ((lg_cmp v208 r206.toInt64) = 0) (self28 (x5 + (5 : Int32))) (zret (0 : Int32))) (self28 (x5 + (5 : Int32)))) (zret (0 : Int32))), ((35 : Int32), zaldK K x0 6 (x5 + (1 : Int32)) fun v209 => zcall (s_X0_account K (some x1) v209 (some x3)) fun r210 => zaldK K x0 6 (x5 + (1 : Int32)) fun v211 => zcallV (some x2) 35 (fun y0 => s_X3_account K y0 v211) fun r212 => zcallV (some x2) 35 (fun y0 => s_X3_thrown K y0) fun r213 => zif (r213 = r210) (zif (r210 = 0) (zaldJ (some x3) 1 (0 : Int32) fun v214 => zif ((lg_cmp v214 r212.toInt64) = 0) (self28 (x5 + (5 : Int32))) (zret (0 : Int32))) (self28 (x5 + (5 : Int32)))) (zret (0 : Int32))), ((36 : Int32), zcall (s_X0_meanDelay K (some x1) (some x4)) fun r215 => zcallV (some x2) 35 (fun y0 => s_X3_meanDelay K y0) fun r216 => zcallV (some x2) 35 (fun y0 => s_X3_thrown K y0) fun r217 => zif (r217 = r215) (zif (r215 = 0) (zaldD (some x4) 2 (0 : Int32) fun v218 => zif ((Op.cmpValue (FP.dcmp v218 r216) .l) = 0) (self28 (x5 + (5 : Int32))) (zaldD (some x4) 2 (0 : Int32) fun v219 => zaldD (some x4) 2 (0 : Int32) fun v220 => zif ((Op.cmpValue (FP.dcmp v219 v220) .l) = 0) (zret (0 : Int32)) (zif ((Op.cmpValue (FP.dcmp r216 r216) .l) = 0) (zret (0 : Int32)) (self28 (x5 + (5 : Int32)))))) (self28 (x5 + (5 : Int32)))) (zret (0 : Int32))), ((37 : Int32), zcall (s_X0_receivedShare K (some x1) (some x4)) fun r221 => zcallV (some x2) 35 (fun y0 => s_X3_receivedShare K y0) fun r222 => zcallV (some x2) 35 (fun y0 => s_X3_thrown K y0) fun r223 => zif (r223 = r221) (zif (r221 = 0) (zaldD (some x4) 2 (0 : Int32) fun v224 => zasg (vf_n64 (FP.f2d r222)) (zif ((Op.cmpValue (FP.dcmp v224 (FP.f2d r222)) .l) = 0) (self28 (x5 + (5 : Int32))) (zaldD (some x4) 2 (0 : Int32) fun v225 => zaldD (some x4) 2 (0 : Int32) fun v226 => zif ((Op.cmpValue (FP.dcmp v225 v226) .l) = 0) (zret (0 : Int32)) (zif ((Op.cmpValue (FP.fcmp r222 r222) .l) = 0) (zret (0 : Int32)) (self28 (x5 + (5 : Int32))))))) (self28 (x5 + (5 : Int32)))) (zret (0 : Int32))), ((38 : Int32), zcall (s_X0_undo K (some x1) (some x3)) fun r227 => zcallV (some x2) 35 (fun y0 => s_X3_undo K y0) fun r228 => zcallV (some x2) 35 (fun y0 => s_X3_thrown K y0) fun r229 => zif (r229 = r227) (zif (r227 = 0) (zaldJ (some x3) 1 (0 : Int32) fun v230 => zif ((lg_cmp v230 r228.toInt64) = 0) (self28 (x5 + (5 : Int32))) (zret (0 : Int32))) (self28 (x5 + (5 : Int32)))) (zret (0 : Int32))), ((39 : Int32), zcallV (some x1) 24 (fun y0 => s_X1_save K y0) fun r231 => zcallV (some x2) 35 (fun y0 => s_X3_save K y0) fun r232 => zif (r231 = r232) (self28 (x5 + (5 : Int32))) (zret (0 : Int32))), ((40 : Int32), zcall (s_X0_restore K (some x1) (some x3)) fun r233 => zcallV (some x2) 35 (fun y0 => s_X3_restore K y0) fun r234 => zcallV (some x2) 35 (fun y0 => s_X3_thrown K y0) fun r235 => zif (r235 = r233) (zif (r233 = 0) (zaldJ (some x3) 1 (0 : Int32) fun v236 => zif ((lg_cmp v236 r234.toInt64) = 0) (self28 (x5 + (5 : Int32))) (zret (0 : Int32))) (self28 (x5 + (5 : Int32)))) (zret (0 : Int32)))] (self28 (x5 + (5 : Int32))))
def s_X0_law_L28 (K : ZK) (x0 : Option Nat) (x1 : Nat) (x2 : Nat) (x3 : Nat) (x4 : Nat) : Int32 → ZP Int32 := zloop (fun self28 v => s_X0_law_B28 K x0 x1 x2 x3 x4 self28 v)
def s_X0_law (K : ZK) (a1 : Option Nat) : ZP Int32 :=
  znew K 24 8 [.null, .null, .null, .null, .null, .int 0, .int 0, .null] fun q1 => zcall (s_X1_init K q1) fun _ => znew K 35 26 [.null, .null, .null, .null, .null, .int 0, .int 0, .int 0, .int 0, .int 0, .int 0, .int 0, .int 0, .int 0, .int 0, .null, .null, .null, .null, .null, .int 0, .int 0, .int 0, .int 0, .null, .int 0] fun q2 => zcall (s_X3_init K q2) fun _ => znewA K 1 (1 : Int32) (.inr (.inl (fun _ => 0))) fun q3 => znewA K 2 (1 : Int32) (.inr (.inr (.inr (.inl (fun _ => 0))))) fun q4 => s_X0_law_L28 K a1 q1 q2 q3 q4 (0 : Int32)
