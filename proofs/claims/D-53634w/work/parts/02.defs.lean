/-! shallow functions, printed by gen.py -/
set_option maxRecDepth 100000
def f_J0_init_c12 (a0 : Nat) : xM Unit :=
  xrt ()
def f_J1_init_c12 (a0 : Nat) : xM Unit :=
  xbd (f_J0_init_c12 a0) fun _ =>
  xbd (xpt 12 0 a0 (.int (0 : Int32))) fun _ =>
  xrt ()
def f_J2_init (a0 : Nat) : xM Unit :=
  xbd (f_J1_init_c12 a0) fun _ =>
  xbd xe0 fun v2 =>
  xbd (xpt 12 1 a0 (.ref v2)) fun _ =>
  xrt ()
def f_X2_init (a0 : Nat) : xM Unit :=
  xbd (xnw 12 [.int 0, .null, .int 0]) fun v2 =>
  xbd (f_J2_init v2) fun _ =>
  xbd (xpt 2 0 a0 (.ref v2)) fun _ =>
  xrt ()
def f_J0_init_c13 (a0 : Nat) : xM Unit :=
  xrt ()
def f_J1_init_c13 (a0 : Nat) : xM Unit :=
  xbd (f_J0_init_c13 a0) fun _ =>
  xbd (xpt 13 0 a0 (.int (0 : Int32))) fun _ =>
  xrt ()
def f_J3_init_c13 (a0 : Nat) : xM Unit :=
  xbd (f_J1_init_c13 a0) fun _ =>
  xrt ()
def f_J4_init (a0 : Nat) : xM Unit :=
  xbd (f_J3_init_c13 a0) fun _ =>
  xbd (xpt 13 1 a0 (.int (0 : Int32))) fun _ =>
  xrt ()
def f_X1_init (a0 : Nat) : xM Unit :=
  xbd (xnw 2 [.null]) fun v5 =>
  xbd (f_X2_init v5) fun _ =>
  xbd (xpt 1 0 a0 (.ref v5)) fun _ =>
  xbd (xnw 2 [.null]) fun v6 =>
  xbd (f_X2_init v6) fun _ =>
  xbd (xpt 1 1 a0 (.ref v6)) fun _ =>
  xbd (xnw 2 [.null]) fun v7 =>
  xbd (f_X2_init v7) fun _ =>
  xbd (xpt 1 2 a0 (.ref v7)) fun _ =>
  xbd (xnw 13 [.int 0, .int 0, .null, .null]) fun v8 =>
  xbd (f_J4_init v8) fun _ =>
  xbd (xpt 1 3 a0 (.ref v8)) fun _ =>
  xbd (xpt 1 4 a0 (.double (4611686018427387904 : UInt64))) fun _ =>
  xbd (xpt 1 5 a0 (.int (10 : Int32))) fun _ =>
  xbd (xpt 1 6 a0 (.int (30 : Int32))) fun _ =>
  xrt ()
def f_J0_init_c14 (a0 : Nat) : xM Unit :=
  xrt ()
def f_J5_init (a0 : Nat) : xM Unit :=
  xbd (f_J0_init_c14 a0) fun _ =>
  xbd (xna 3 xzR (17 : Int32)) fun v2 =>
  xbd (xpt 14 0 a0 (.ref v2)) fun _ =>
  xrt ()
def f_J9_newBytesLength (a0 : Int32) : xM Int32 :=
  if 0 ≤ a0 then
    if a0 < (1073741823 : Int32) then
      xrt (a0 <<< ((1 : Int32) &&& 31))
    else
      xno
  else
    xno
def f_J9_newBytesFor (a0 : Int32) : xM Nat :=
  xbd (f_J9_newBytesLength a0) fun v3 =>
  xbd (xna 2 xzI v3) fun v4 =>
  xrt v4
def f_J6_init (a0 : Nat) (a1 : Int32) : xM Unit :=
  xbd (xna 2 xzI a1) fun v3 =>
  xbd (xpt 15 0 a0 (.ref v3)) fun _ =>
  xbd (xptB 15 1 a0 (0 : Int32)) fun _ =>
  xrt ()
def f_J7_init (a0 : Nat) (a1 : Int32) : xM Unit :=
  xbd (f_J6_init a0 a1) fun _ =>
  xrt ()
def f_X0_init (a0 : Nat) : xM Unit :=
  xbd (xnw 1 [.null, .null, .null, .null, .double 0, .int 0, .int 0, .int 0, .int 0]) fun v4 =>
  xbd (f_X1_init v4) fun _ =>
  xbd (xpt 0 0 a0 (.ref v4)) fun _ =>
  xbd (xnw 14 [.null, .int 0, .int 0]) fun v5 =>
  xbd (f_J5_init v5) fun _ =>
  xbd (xpt 0 2 a0 (.ref v5)) fun _ =>
  xbd (xnw 15 [.null, .int 0, .int 0, .int 0]) fun v6 =>
  xbd (f_J7_init v6 (60 : Int32)) fun _ =>
  xbd (xpt 0 3 a0 (.ref v6)) fun _ =>
  xrt ()
def f_X3_init (a0 : Nat) : xM Unit :=
  xbd (xna 1 xzL (1411 : Int32)) fun v10 =>
  xbd (xpt 3 1 a0 (.ref v10)) fun _ =>
  xbd (xna 1 xzL (1411 : Int32)) fun v11 =>
  xbd (xpt 3 2 a0 (.ref v11)) fun _ =>
  xbd (xna 1 xzL (1411 : Int32)) fun v12 =>
  xbd (xpt 3 3 a0 (.ref v12)) fun _ =>
  xbd (xna 1 xzL (5644 : Int32)) fun v13 =>
  xbd (xpt 3 5 a0 (.ref v13)) fun _ =>
  xbd (xna 0 xzI (60 : Int32)) fun v14 =>
  xbd (xpt 3 7 a0 (.ref v14)) fun _ =>
  xbd (xna 0 xzI (36 : Int32)) fun v15 =>
  xbd (xpt 3 11 a0 (.ref v15)) fun _ =>
  xbd (xgN 3 1 a0) fun v16 =>
  xbd (xstL v16 (4 : Int32) ((4611686018427387904 : UInt64).toInt64)) fun _ =>
  xbd (xgN 3 1 a0) fun v17 =>
  xbd (xstL v17 (5 : Int32) (10 : Int64)) fun _ =>
  xbd (xgN 3 1 a0) fun v18 =>
  xbd (xstL v18 (6 : Int32) (30 : Int64)) fun _ =>
  xrt ()
def f_J2_size (a0 : Nat) : xM Int32 :=
  xbd (xck 12 a0) fun _ =>
  xbd (xgI 12 2 a0) fun v2 =>
  xrt v2
def f_X2_size (a0 : Nat) : xM Int32 :=
  xbd (xck 2 a0) fun _ =>
  xbd (xgN 2 0 a0) fun v3 =>
  xbd (f_J2_size v3) fun v4 =>
  xrt v4
def f_J10_init (a0 : Nat) (a1 : Nat) : xM Unit :=
  xbd (xpt 16 3 a0 (.ref a1)) fun _ =>
  xbd (xpt 16 1 a0 (.int (-1 : Int32))) fun _ =>
  xbd (xgN 16 3 a0) fun v3 =>
  xbd (xgI 12 0 v3) fun v4 =>
  xbd (xpt 16 2 a0 (.int v4)) fun _ =>
  xrt ()
def f_J2_iterator (a0 : Nat) : xM Nat :=
  xbd (xck 12 a0) fun _ =>
  xbd (xnw 16 [.int 0, .int 0, .int 0, .null]) fun v2 =>
  xbd (f_J10_init v2 a0) fun _ =>
  xrt v2
def f_J10_hasNext (a0 : Nat) : xM Int32 :=
  xbd (xck 16 a0) fun _ =>
  xbd (xgI 16 0 a0) fun v4 =>
  xbd (xgN 16 3 a0) fun v5 =>
  xbd (xgI 12 2 v5) fun v6 =>
  if v4 = v6 then
    xrtZ (0 : Int32)
  else
    xrtZ (1 : Int32)
def f_J10_checkForComodification (a0 : Nat) : xM Unit :=
  xbd (xck 16 a0) fun _ =>
  xbd (xgN 16 3 a0) fun v4 =>
  xbd (xgI 12 0 v4) fun v5 =>
  xbd (xgI 16 2 a0) fun v6 =>
  if v5 = v6 then
    xrt ()
  else
    xno
def f_J10_next (a0 : Nat) : xM Nat :=
  xbd (xck 16 a0) fun _ =>
  xbd (f_J10_checkForComodification a0) fun _ =>
  xbd (xgI 16 0 a0) fun v8 =>
  xbd (xgN 16 3 a0) fun v9 =>
  xbd (xgI 12 2 v9) fun v10 =>
  if v8 < v10 then
    xbd (xgN 16 3 a0) fun v11 =>
    xbd (xgN 12 1 v11) fun v12 =>
    xbd (xln v12) fun v13 =>
    if v8 < v13 then
      xbd (xpt 16 0 a0 (.int (v8 + (1 : Int32)))) fun _ =>
      xbd (xpt 16 1 a0 (.int v8)) fun _ =>
      xbd (xldN 3 v12 v8) fun v14 =>
      xrt v14
    else
      xno
  else
    xno
def f_X7_init (a0 : Nat) (a1 : Int32) (a2 : UInt64) (a4 : UInt64) (a6 : Int32) : xM Unit :=
  xbd (xpt 7 0 a0 (.int a1)) fun _ =>
  xbd (xpt 7 1 a0 (.double a2)) fun _ =>
  xbd (xpt 7 2 a0 (.double a4)) fun _ =>
  xbd (xpt 7 3 a0 (.int a6)) fun _ =>
  xrt ()
def f_X7_copy_2 (a0 : Nat) : xM Nat :=
  xbd (xck 7 a0) fun _ =>
  xbd (xnw 7 [.int 0, .double 0, .double 0, .int 0, .int 0, .int 0, .int 0, .int 0, .int 0]) fun v11 =>
  xbd (xgI 7 0 a0) fun v12 =>
  xbd (xgD 7 1 a0) fun v13 =>
  xbd (xgD 7 2 a0) fun v14 =>
  xbd (xgI 7 3 a0) fun v15 =>
  xbd (f_X7_init v11 v12 v13 v14 v15) fun _ =>
  xbd (xgI 7 4 a0) fun v16 =>
  xbd (xpt 7 4 v11 (.int v16)) fun _ =>
  xbd (xgI 7 5 a0) fun v17 =>
  xbd (xpt 7 5 v11 (.int v17)) fun _ =>
  xbd (xgI 7 6 a0) fun v18 =>
  xbd (xpt 7 6 v11 (.int v18)) fun _ =>
  xbd (xgI 7 7 a0) fun v19 =>
  xbd (xpt 7 7 v11 (.int v19)) fun _ =>
  xbd (xgI 7 8 a0) fun v20 =>
  xbd (xptZ 7 8 v11 v20) fun _ =>
  xrt v11
def f_X7_copy (a0 : Nat) : xM Nat :=
  xbd (xck 7 a0) fun _ =>
  xbd (f_X7_copy_2 a0) fun v2 =>
  xrt v2
def f_J21_max (a0 : Int32) (a1 : Int32) : xM Int32 :=
  if a0 < a1 then
    xrt a1
  else
    xrt a0
def f_J20_newLength (a0 : Int32) (a1 : Int32) (a2 : Int32) : xM Int32 :=
  xbd (f_J21_max a1 a2) fun v2 =>
  if (a0 + v2) ≤ (0 : Int32) then
    xno
  else
    if (2147483639 : Int32) < (a0 + v2) then
      xno
    else
      xrt (a0 + v2)
def f_J21_min (a0 : Int32) (a1 : Int32) : xM Int32 :=
  if a1 < a0 then
    xrt a1
  else
    xrt a0
def f_J22_copyOf_3 (a0 : Nat) (a1 : Int32) : xM Nat :=
  xbd (xna 3 xzR a1) fun v1 =>
  xbd (xln a0) fun v2 =>
  xbd (f_J21_min v2 a1) fun v3 =>
  xbd (xcpy 3 a0 (0 : Int32) v1 (0 : Int32) v3) fun _ =>
  xrt v1
def f_J22_copyOf_2 (a0 : Nat) (a1 : Int32) : xM Nat :=
  xbd (xckR 3 a0) fun _ =>
  f_J22_copyOf_3 a0 a1
def f_J2_grow_2_b20 (a0 : Nat) (a1 : Int32) (a2 : Int32) : xM Nat :=
  xbd (f_J20_newLength a2 (a1 - a2) (a2 >>> ((1 : Int32) &&& 31))) fun v10 =>
  xbd (xgN 12 1 a0) fun v11 =>
  xbd (f_J22_copyOf_2 v11 v10) fun v12 =>
  xbd (xpt 12 1 a0 (.ref v12)) fun _ =>
  xrt v12
def f_J2_grow_2 (a0 : Nat) (a1 : Int32) : xM Nat :=
  xbd (xck 12 a0) fun _ =>
  xbd (xgN 12 1 a0) fun v13 =>
  xbd (xln v13) fun v14 =>
  if 0 < v14 then
    f_J2_grow_2_b20 a0 a1 v14
  else
    xbd (xgN 12 1 a0) fun v15 =>
    xbd xe0 fun v16 =>
    if v15 = v16 then
      xbd (f_J21_max (10 : Int32) a1) fun v17 =>
      xbd (xna 3 xzR v17) fun v18 =>
      xbd (xpt 12 1 a0 (.ref v18)) fun _ =>
      xrt v18
    else
      f_J2_grow_2_b20 a0 a1 v14
def f_J2_grow (a0 : Nat) : xM Nat :=
  xbd (xck 12 a0) fun _ =>
  xbd (xgI 12 2 a0) fun v3 =>
  xbd (f_J2_grow_2 a0 (v3 + (1 : Int32))) fun v4 =>
  xrt v4
def f_J2_add_2_b11 (a0 : Nat) (a1 : Nat) (a2 : Nat) (a3 : Int32) : xM Unit :=
  xbd (xstR 3 a2 a3 a1) fun _ =>
  xbd (xpt 12 2 a0 (.int (a3 + (1 : Int32)))) fun _ =>
  xrt ()
def f_J2_add_2 (a0 : Nat) (a1 : Nat) (a2 : Nat) (a3 : Int32) : xM Unit :=
  xbd (xck 12 a0) fun _ =>
  xbd (xln a2) fun v3 =>
  if a3 = v3 then
    xbd (f_J2_grow a0) fun v4 =>
    f_J2_add_2_b11 a0 a1 v4 a3
  else
    f_J2_add_2_b11 a0 a1 a2 a3
def f_J2_add (a0 : Nat) (a1 : Nat) : xM Int32 :=
  xbd (xck 12 a0) fun _ =>
  xbd (xgI 12 0 a0) fun v4 =>
  xbd (xpt 12 0 a0 (.int (v4 + (1 : Int32)))) fun _ =>
  xbd (xgN 12 1 a0) fun v5 =>
  xbd (xgI 12 2 a0) fun v6 =>
  xbd (f_J2_add_2 a0 a1 v5 v6) fun _ =>
  xrtZ (1 : Int32)
def f_X2_add (a0 : Nat) (a1 : Nat) : xM Nat :=
  xbd (xck 2 a0) fun _ =>
  xbd (xgN 2 0 a0) fun v3 =>
  xbd (f_J2_add v3 a1) fun v4 =>
  xrt a1
def f_X2_copy_7_b18 (rec18 : Nat → Nat → xM Nat) (a1 : Nat) (a2 : Nat) : xM Nat :=
  xbd (f_J10_hasNext a2) fun v8 =>
  if v8 = 0 then
    xrt a1
  else
    xbd (f_J10_next a2) fun v9 =>
    xbd (xcks [4, 5, 6, 7] v9) fun _ =>
    xbd (f_X7_copy v9) fun v10 =>
    xbd (f_X2_add a1 v10) fun v11 =>
    rec18 a1 a2
def f_X2_copy_7_L18 : Nat → Nat → Nat → xM Nat
  | 0, _, _ => xno
  | n+1, a1, a2 => f_X2_copy_7_b18 (f_X2_copy_7_L18 n) a1 a2
def f_X2_copy_7 (a0 : Nat) : xM Nat :=
  xbd (xck 2 a0) fun _ =>
  xbd (xnw 2 [.null]) fun v12 =>
  xbd (f_X2_init v12) fun _ =>
  xbd (xgN 2 0 a0) fun v13 =>
  xbd (f_J2_iterator v13) fun v14 =>
  f_X2_copy_7_L18 xFU v12 v14
def f_X6_init (a0 : Nat) (a1 : Int32) (a2 : Int32) : xM Unit :=
  xbd (xnw 2 [.null]) fun v2 =>
  xbd (f_X2_init v2) fun _ =>
  xbd (xpt 6 2 a0 (.ref v2)) fun _ =>
  xbd (xpt 6 3 a0 (.int (0 : Int32))) fun _ =>
  xbd (xpt 6 0 a0 (.int a1)) fun _ =>
  xbd (xpt 6 1 a0 (.int a2)) fun _ =>
  xrt ()
def f_X5_init (a0 : Nat) (a1 : Int32) (a2 : Int32) (a3 : Int32) (a4 : Int32) : xM Unit :=
  xbd (xpt 5 0 a0 (.int a1)) fun _ =>
  xbd (xpt 5 1 a0 (.int a2)) fun _ =>
  xbd (xpt 5 2 a0 (.int a3)) fun _ =>
  xbd (xpt 5 3 a0 (.int a4)) fun _ =>
  xrt ()
def f_X5_copy_2 (a0 : Nat) : xM Nat :=
  xbd (xck 5 a0) fun _ =>
  xbd (xnw 5 [.int 0, .int 0, .int 0, .int 0, .int 0, .int 0, .int 0, .int 0, .int 0]) fun v11 =>
  xbd (xgI 5 0 a0) fun v12 =>
  xbd (xgI 5 1 a0) fun v13 =>
  xbd (xgI 5 2 a0) fun v14 =>
  xbd (xgI 5 3 a0) fun v15 =>
  xbd (f_X5_init v11 v12 v13 v14 v15) fun _ =>
  xbd (xgI 5 4 a0) fun v16 =>
  xbd (xpt 5 4 v11 (.int v16)) fun _ =>
  xbd (xgI 5 5 a0) fun v17 =>
  xbd (xpt 5 5 v11 (.int v17)) fun _ =>
  xbd (xgI 5 6 a0) fun v18 =>
  xbd (xpt 5 6 v11 (.int v18)) fun _ =>
  xbd (xgI 5 7 a0) fun v19 =>
  xbd (xpt 5 7 v11 (.int v19)) fun _ =>
  xbd (xgI 5 8 a0) fun v20 =>
  xbd (xpt 5 8 v11 (.int v20)) fun _ =>
  xrt v11
def f_X5_copy (a0 : Nat) : xM Nat :=
  xbd (xck 5 a0) fun _ =>
  xbd (f_X5_copy_2 a0) fun v2 =>
  xrt v2
def f_X2_copy_5_b18 (rec18 : Nat → Nat → xM Nat) (a1 : Nat) (a2 : Nat) : xM Nat :=
  xbd (f_J10_hasNext a2) fun v8 =>
  if v8 = 0 then
    xrt a1
  else
    xbd (f_J10_next a2) fun v9 =>
    xbd (xcks [4, 5, 6, 7] v9) fun _ =>
    xbd (f_X5_copy v9) fun v10 =>
    xbd (f_X2_add a1 v10) fun v11 =>
    rec18 a1 a2
def f_X2_copy_5_L18 : Nat → Nat → Nat → xM Nat
  | 0, _, _ => xno
  | n+1, a1, a2 => f_X2_copy_5_b18 (f_X2_copy_5_L18 n) a1 a2
def f_X2_copy_5 (a0 : Nat) : xM Nat :=
  xbd (xck 2 a0) fun _ =>
  xbd (xnw 2 [.null]) fun v12 =>
  xbd (f_X2_init v12) fun _ =>
  xbd (xgN 2 0 a0) fun v13 =>
  xbd (f_J2_iterator v13) fun v14 =>
  f_X2_copy_5_L18 xFU v12 v14
def f_X6_copy_2 (a0 : Nat) : xM Nat :=
  xbd (xck 6 a0) fun _ =>
  xbd (xnw 6 [.int 0, .int 0, .null, .int 0, .int 0]) fun v8 =>
  xbd (xgI 6 0 a0) fun v9 =>
  xbd (xgI 6 1 a0) fun v10 =>
  xbd (f_X6_init v8 v9 v10) fun _ =>
  xbd (xgN 6 2 a0) fun v11 =>
  xbd (f_X2_copy_5 v11) fun v12 =>
  xbd (xpt 6 2 v8 (.ref v12)) fun _ =>
  xbd (xgI 6 3 a0) fun v13 =>
  xbd (xpt 6 3 v8 (.int v13)) fun _ =>
  xbd (xgI 6 4 a0) fun v14 =>
  xbd (xpt 6 4 v8 (.int v14)) fun _ =>
  xrt v8
def f_X6_copy (a0 : Nat) : xM Nat :=
  xbd (xck 6 a0) fun _ =>
  xbd (f_X6_copy_2 a0) fun v2 =>
  xrt v2
def f_X2_copy_6_b18 (rec18 : Nat → Nat → xM Nat) (a1 : Nat) (a2 : Nat) : xM Nat :=
  xbd (f_J10_hasNext a2) fun v8 =>
  if v8 = 0 then
    xrt a1
  else
    xbd (f_J10_next a2) fun v9 =>
    xbd (xcks [4, 5, 6, 7] v9) fun _ =>
    xbd (f_X6_copy v9) fun v10 =>
    xbd (f_X2_add a1 v10) fun v11 =>
    rec18 a1 a2
def f_X2_copy_6_L18 : Nat → Nat → Nat → xM Nat
  | 0, _, _ => xno
  | n+1, a1, a2 => f_X2_copy_6_b18 (f_X2_copy_6_L18 n) a1 a2
def f_X2_copy_6 (a0 : Nat) : xM Nat :=
  xbd (xck 2 a0) fun _ =>
  xbd (xnw 2 [.null]) fun v12 =>
  xbd (f_X2_init v12) fun _ =>
  xbd (xgN 2 0 a0) fun v13 =>
  xbd (f_J2_iterator v13) fun v14 =>
  f_X2_copy_6_L18 xFU v12 v14
def f_X4_init (a0 : Nat) (a1 : Int32) (a2 : Int32) (a3 : Int32) (a4 : Int32) (a5 : Nat) : xM Unit :=
  xbd (xpt 4 5 a0 (.int (0 : Int32))) fun _ =>
  xbd (xpt 4 7 a0 (.int (-5 : Int32))) fun _ =>
  xbd (xpt 4 8 a0 (.int (-5 : Int32))) fun _ =>
  xbd (xpt 4 9 a0 (.int (-5 : Int32))) fun _ =>
  xbd (xpt 4 10 a0 (.int (-5 : Int32))) fun _ =>
  xbd (xpt 4 0 a0 (.int a1)) fun _ =>
  xbd (xpt 4 1 a0 (.int a2)) fun _ =>
  xbd (xpt 4 2 a0 (.int a3)) fun _ =>
  xbd (xpt 4 3 a0 (.int a4)) fun _ =>
  xbd (xpt 4 4 a0 (.ref a5)) fun _ =>
  xrt ()
def f_X4_copy_2 (a0 : Nat) : xM Nat :=
  xbd (xck 4 a0) fun _ =>
  xbd (xgN 4 4 a0) fun v19 =>
  xbd (xln v19) fun v20 =>
  xbd (xna 4 xzR v20) fun v21 =>
  xbd (xgN 4 4 a0) fun v22 =>
  xbd (xln v21) fun v23 =>
  xbd (xcpy 4 v22 (0 : Int32) v21 (0 : Int32) v23) fun _ =>
  xbd (xnw 4 [.int 0, .int 0, .int 0, .int 0, .null, .int 0, .int 0, .int 0, .int 0, .int 0, .int 0, .int 0, .int 0]) fun v24 =>
  xbd (xgI 4 0 a0) fun v25 =>
  xbd (xgI 4 1 a0) fun v26 =>
  xbd (xgI 4 2 a0) fun v27 =>
  xbd (xgI 4 3 a0) fun v28 =>
  xbd (f_X4_init v24 v25 v26 v27 v28 v21) fun _ =>
  xbd (xgI 4 5 a0) fun v29 =>
  xbd (xpt 4 5 v24 (.int v29)) fun _ =>
  xbd (xgI 4 6 a0) fun v30 =>
  xbd (xpt 4 6 v24 (.int v30)) fun _ =>
  xbd (xgI 4 7 a0) fun v31 =>
  xbd (xpt 4 7 v24 (.int v31)) fun _ =>
  xbd (xgI 4 8 a0) fun v32 =>
  xbd (xpt 4 8 v24 (.int v32)) fun _ =>
  xbd (xgI 4 9 a0) fun v33 =>
  xbd (xpt 4 9 v24 (.int v33)) fun _ =>
  xbd (xgI 4 10 a0) fun v34 =>
  xbd (xpt 4 10 v24 (.int v34)) fun _ =>
  xbd (xgI 4 11 a0) fun v35 =>
  xbd (xptZ 4 11 v24 v35) fun _ =>
  xbd (xgI 4 12 a0) fun v36 =>
  xbd (xptZ 4 12 v24 v36) fun _ =>
  xrt v24
def f_X4_copy (a0 : Nat) : xM Nat :=
  xbd (xck 4 a0) fun _ =>
  xbd (f_X4_copy_2 a0) fun v2 =>
  xrt v2
def f_X2_copy_4_b18 (rec18 : Nat → Nat → xM Nat) (a1 : Nat) (a2 : Nat) : xM Nat :=
  xbd (f_J10_hasNext a2) fun v8 =>
  if v8 = 0 then
    xrt a1
  else
    xbd (f_J10_next a2) fun v9 =>
    xbd (xcks [4, 5, 6, 7] v9) fun _ =>
    xbd (f_X4_copy v9) fun v10 =>
    xbd (f_X2_add a1 v10) fun v11 =>
    rec18 a1 a2
def f_X2_copy_4_L18 : Nat → Nat → Nat → xM Nat
  | 0, _, _ => xno
  | n+1, a1, a2 => f_X2_copy_4_b18 (f_X2_copy_4_L18 n) a1 a2
def f_X2_copy_4 (a0 : Nat) : xM Nat :=
  xbd (xck 2 a0) fun _ =>
  xbd (xnw 2 [.null]) fun v12 =>
  xbd (f_X2_init v12) fun _ =>
  xbd (xgN 2 0 a0) fun v13 =>
  xbd (f_J2_iterator v13) fun v14 =>
  f_X2_copy_4_L18 xFU v12 v14
def f_J4_isPositionIndex (a0 : Nat) (a1 : Int32) : xM Int32 :=
  xbd (xck 13 a0) fun _ =>
  if a1 < 0 then
    xrtZ (0 : Int32)
  else
    xbd (xgI 13 1 a0) fun v2 =>
    if v2 < a1 then
      xrtZ (0 : Int32)
    else
      xrtZ (1 : Int32)
def f_J4_checkPositionIndex (a0 : Nat) (a1 : Int32) : xM Unit :=
  xbd (xck 13 a0) fun _ =>
  xbd (f_J4_isPositionIndex a0 a1) fun v2 =>
  if v2 = 0 then
    xno
  else
    xrt ()
def f_J4_node_b17 (rec17 : Int32 → Nat → Int32 → xM Nat) (a1 : Int32) (a2 : Nat) (a3 : Int32) : xM Nat :=
  if a1 ≤ a3 then
    xrt a2
  else
    xbd (xgN 18 1 a2) fun v8 =>
    rec17 a1 v8 (a3 + (1 : Int32))
def f_J4_node_L17 : Nat → Int32 → Nat → Int32 → xM Nat
  | 0, _, _, _ => xno
  | n+1, a1, a2, a3 => f_J4_node_b17 (f_J4_node_L17 n) a1 a2 a3
def f_J4_node_b47 (rec47 : Int32 → Nat → Int32 → xM Nat) (a1 : Int32) (a2 : Nat) (a3 : Int32) : xM Nat :=
  if a3 ≤ a1 then
    xrt a2
  else
    xbd (xgN 18 2 a2) fun v7 =>
    rec47 a1 v7 (a3 - (1 : Int32))
def f_J4_node_L47 : Nat → Int32 → Nat → Int32 → xM Nat
  | 0, _, _, _ => xno
  | n+1, a1, a2, a3 => f_J4_node_b47 (f_J4_node_L47 n) a1 a2 a3
def f_J4_node (a0 : Nat) (a1 : Int32) : xM Nat :=
  xbd (xck 13 a0) fun _ =>
  xbd (xgI 13 1 a0) fun v9 =>
  if (v9 >>> ((1 : Int32) &&& 31)) ≤ a1 then
    xbd (xgN 13 3 a0) fun v10 =>
    xbd (xgI 13 1 a0) fun v11 =>
    f_J4_node_L47 xFU a1 v10 (v11 - (1 : Int32))
  else
    xbd (xgN 13 2 a0) fun v12 =>
    f_J4_node_L17 xFU a1 v12 (0 : Int32)
def f_J13_init_b38 (t0 : Nat) (t1 : (Option Nat)) (a0 : Nat) (a2 : Int32) : xM Unit :=
  match t1 with
  | none =>
    xbd (xpt 17 1 t0 (.null)) fun _ =>
    xbd (xpt 17 2 a0 (.int a2)) fun _ =>
    xrt ()
  | some bt1 =>
    xbd (xpt 17 1 t0 (.ref bt1)) fun _ =>
    xbd (xpt 17 2 a0 (.int a2)) fun _ =>
    xrt ()
def f_J13_init (a0 : Nat) (a1 : Nat) (a2 : Int32) : xM Unit :=
  xbd (xpt 17 4 a0 (.ref a1)) fun _ =>
  xbd (xgN 17 4 a0) fun v5 =>
  xbd (xgI 13 0 v5) fun v6 =>
  xbd (xpt 17 3 a0 (.int v6)) fun _ =>
  xbd (xgI 13 1 a1) fun v7 =>
  if a2 = v7 then
    f_J13_init_b38 a0 none a0 a2
  else
    xbd (f_J4_node a1 a2) fun v8 =>
    f_J13_init_b38 a0 (some v8) a0 a2
def f_J4_listIterator (a0 : Nat) (a1 : Int32) : xM Nat :=
  xbd (xck 13 a0) fun _ =>
  xbd (f_J4_checkPositionIndex a0 a1) fun _ =>
  xbd (xnw 17 [.null, .null, .int 0, .int 0, .null]) fun v2 =>
  xbd (f_J13_init v2 a0 a1) fun _ =>
  xrt v2
def f_J1_listIterator_c13 (a0 : Nat) : xM Nat :=
  xbd (xck 13 a0) fun _ =>
  xbd (f_J4_listIterator a0 (0 : Int32)) fun v2 =>
  xrt v2
def f_J3_iterator_c13 (a0 : Nat) : xM Nat :=
  xbd (xck 13 a0) fun _ =>
  xbd (f_J1_listIterator_c13 a0) fun v2 =>
  xrt v2
def f_J13_hasNext (a0 : Nat) : xM Int32 :=
  xbd (xck 17 a0) fun _ =>
  xbd (xgI 17 2 a0) fun v4 =>
  xbd (xgN 17 4 a0) fun v5 =>
  xbd (xgI 13 1 v5) fun v6 =>
  if v6 ≤ v4 then
    xrtZ (0 : Int32)
  else
    xrtZ (1 : Int32)
def f_J13_checkForComodification (a0 : Nat) : xM Unit :=
  xbd (xck 17 a0) fun _ =>
  xbd (xgN 17 4 a0) fun v4 =>
  xbd (xgI 13 0 v4) fun v5 =>
  xbd (xgI 17 3 a0) fun v6 =>
  if v5 = v6 then
    xrt ()
  else
    xno
def f_J13_next (a0 : Nat) : xM Nat :=
  xbd (xck 17 a0) fun _ =>
  xbd (f_J13_checkForComodification a0) fun _ =>
  xbd (f_J13_hasNext a0) fun v10 =>
  if v10 = 0 then
    xno
  else
    xbd (xgQ 17 1 a0) fun ov11 =>
    match ov11 with
    | none =>
      xbd (xpt 17 0 a0 (.null)) fun _ =>
      xbd (xgQ 17 1 a0) fun ov12 =>
      match ov12 with
      | none =>
        xno
      | some v12 =>
        xbd (xgQ 18 1 v12) fun ov13 =>
        match ov13 with
        | none =>
          xbd (xpt 17 1 a0 (.null)) fun _ =>
          xbd (xgI 17 2 a0) fun v14 =>
          xbd (xpt 17 2 a0 (.int (v14 + (1 : Int32)))) fun _ =>
          xbd (xgQ 17 0 a0) fun ov15 =>
          match ov15 with
          | none =>
            xno
          | some v15 =>
            xbd (xgN 18 0 v15) fun v16 =>
            xrt v16
        | some v13 =>
          xbd (xpt 17 1 a0 (.ref v13)) fun _ =>
          xbd (xgI 17 2 a0) fun v17 =>
          xbd (xpt 17 2 a0 (.int (v17 + (1 : Int32)))) fun _ =>
          xbd (xgQ 17 0 a0) fun ov18 =>
          match ov18 with
          | none =>
            xno
          | some v18 =>
            xbd (xgN 18 0 v18) fun v19 =>
            xrt v19
    | some v11 =>
      xbd (xpt 17 0 a0 (.ref v11)) fun _ =>
      xbd (xgQ 17 1 a0) fun ov20 =>
      match ov20 with
      | none =>
        xno
      | some v20 =>
        xbd (xgQ 18 1 v20) fun ov21 =>
        match ov21 with
        | none =>
          xbd (xpt 17 1 a0 (.null)) fun _ =>
          xbd (xgI 17 2 a0) fun v22 =>
          xbd (xpt 17 2 a0 (.int (v22 + (1 : Int32)))) fun _ =>
          xbd (xgQ 17 0 a0) fun ov23 =>
          match ov23 with
          | none =>
            xno
          | some v23 =>
            xbd (xgN 18 0 v23) fun v24 =>
            xrt v24
        | some v21 =>
          xbd (xpt 17 1 a0 (.ref v21)) fun _ =>
          xbd (xgI 17 2 a0) fun v25 =>
          xbd (xpt 17 2 a0 (.int (v25 + (1 : Int32)))) fun _ =>
          xbd (xgQ 17 0 a0) fun ov26 =>
          match ov26 with
          | none =>
            xno
          | some v26 =>
            xbd (xgN 18 0 v26) fun v27 =>
            xrt v27
def f_J24_init (a0 : Nat) (a1 : (Option Nat)) (a2 : Nat) (a3 : (Option Nat)) : xM Unit :=
  match a1 with
  | none =>
    match a3 with
    | none =>
      xbd (xpt 18 0 a0 (.ref a2)) fun _ =>
      xbd (xpt 18 1 a0 (.null)) fun _ =>
      xbd (xpt 18 2 a0 (.null)) fun _ =>
      xrt ()
    | some ba3 =>
      xbd (xpt 18 0 a0 (.ref a2)) fun _ =>
      xbd (xpt 18 1 a0 (.ref ba3)) fun _ =>
      xbd (xpt 18 2 a0 (.null)) fun _ =>
      xrt ()
  | some ba1 =>
    match a3 with
    | none =>
      xbd (xpt 18 0 a0 (.ref a2)) fun _ =>
      xbd (xpt 18 1 a0 (.null)) fun _ =>
      xbd (xpt 18 2 a0 (.ref ba1)) fun _ =>
      xrt ()
    | some ba3 =>
      xbd (xpt 18 0 a0 (.ref a2)) fun _ =>
      xbd (xpt 18 1 a0 (.ref ba3)) fun _ =>
      xbd (xpt 18 2 a0 (.ref ba1)) fun _ =>
      xrt ()
def f_J4_linkLast_b38 (a0 : Nat) : xM Unit :=
  xbd (xgI 13 1 a0) fun v14 =>
  xbd (xpt 13 1 a0 (.int (v14 + (1 : Int32)))) fun _ =>
  xbd (xgI 13 0 a0) fun v15 =>
  xbd (xpt 13 0 a0 (.int (v15 + (1 : Int32)))) fun _ =>
  xrt ()
def f_J4_linkLast (a0 : Nat) (a1 : Nat) : xM Unit :=
  xbd (xck 13 a0) fun _ =>
  xbd (xgQ 13 3 a0) fun ov16 =>
  match ov16 with
  | none =>
    xbd (xnw 18 [.null, .null, .null]) fun v17 =>
    xbd (f_J24_init v17 none a1 none) fun _ =>
    xbd (xpt 13 3 a0 (.ref v17)) fun _ =>
    xbd (xpt 13 2 a0 (.ref v17)) fun _ =>
    f_J4_linkLast_b38 a0
  | some v16 =>
    xbd (xnw 18 [.null, .null, .null]) fun v18 =>
    xbd (f_J24_init v18 (some v16) a1 none) fun _ =>
    xbd (xpt 13 3 a0 (.ref v18)) fun _ =>
    xbd (xpt 18 1 v16 (.ref v18)) fun _ =>
    f_J4_linkLast_b38 a0
def f_J4_addLast (a0 : Nat) (a1 : Nat) : xM Unit :=
  xbd (xck 13 a0) fun _ =>
  xbd (f_J4_linkLast a0 a1) fun _ =>
  xrt ()
def f_X1_copy_b77 (a0 : Nat) (a1 : Nat) : xM Nat :=
  xbd (xgD 1 4 a0) fun v21 =>
  xbd (xpt 1 4 a1 (.double v21)) fun _ =>
  xbd (xgI 1 5 a0) fun v22 =>
  xbd (xpt 1 5 a1 (.int v22)) fun _ =>
  xbd (xgI 1 6 a0) fun v23 =>
  xbd (xpt 1 6 a1 (.int v23)) fun _ =>
  xbd (xgI 1 7 a0) fun v24 =>
  xbd (xpt 1 7 a1 (.int v24)) fun _ =>
  xbd (xgI 1 8 a0) fun v25 =>
  xbd (xpt 1 8 a1 (.int v25)) fun _ =>
  xrt a1
def f_X1_copy_b49 (rec49 : Nat → Nat → Nat → xM Nat) (a0 : Nat) (a1 : Nat) (a2 : Nat) : xM Nat :=
  xbd (f_J13_hasNext a2) fun v18 =>
  if v18 = 0 then
    f_X1_copy_b77 a0 a1
  else
    xbd (xgN 1 3 a1) fun v19 =>
    xbd (f_J13_next a2) fun v20 =>
    xbd (xcks [8] v20) fun _ =>
    xbd (f_J4_addLast v19 v20) fun _ =>
    rec49 a0 a1 a2
def f_X1_copy_L49 : Nat → Nat → Nat → Nat → xM Nat
  | 0, _, _, _ => xno
  | n+1, a0, a1, a2 => f_X1_copy_b49 (f_X1_copy_L49 n) a0 a1 a2
def f_X1_copy (a0 : Nat) : xM Nat :=
  xbd (xck 1 a0) fun _ =>
  xbd (xnw 1 [.null, .null, .null, .null, .double 0, .int 0, .int 0, .int 0, .int 0]) fun v26 =>
  xbd (f_X1_init v26) fun _ =>
  xbd (xgN 1 0 a0) fun v27 =>
  xbd (f_X2_copy_7 v27) fun v28 =>
  xbd (xpt 1 0 v26 (.ref v28)) fun _ =>
  xbd (xgN 1 1 a0) fun v29 =>
  xbd (f_X2_copy_6 v29) fun v30 =>
  xbd (xpt 1 1 v26 (.ref v30)) fun _ =>
  xbd (xgN 1 2 a0) fun v31 =>
  xbd (f_X2_copy_4 v31) fun v32 =>
  xbd (xpt 1 2 v26 (.ref v32)) fun _ =>
  xbd (xgN 1 3 a0) fun v33 =>
  xbd (f_J3_iterator_c13 v33) fun v34 =>
  f_X1_copy_L49 xFU a0 v26 v34
def f_X7_init_2 (a0 : Nat) (a1 : Int32) : xM Unit :=
  xbd (f_X7_init a0 a1 (4617315517961601024 : UInt64) FP.dconst0 (100 : Int32)) fun _ =>
  xrt ()
def f_J5_inc (a0 : Int32) (a1 : Int32) : xM Int32 :=
  if (a0 + (1 : Int32)) < a1 then
    xrt (a0 + (1 : Int32))
  else
    xrt (0 : Int32)
def f_J5_addLast (a0 : Nat) (a1 : Nat) : xM Unit :=
  xbd (xck 14 a0) fun _ =>
  xbd (xgN 14 0 a0) fun v7 =>
  xbd (xgI 14 2 a0) fun v8 =>
  xbd (xstR 3 v7 v8 a1) fun _ =>
  xbd (xgI 14 1 a0) fun v9 =>
  xbd (xgI 14 2 a0) fun v10 =>
  xbd (xln v7) fun v11 =>
  xbd (f_J5_inc v10 v11) fun v12 =>
  xbd (xpt 14 2 a0 (.int v12)) fun _ =>
  if v9 = v12 then
    xno
  else
    xrt ()
def f_J5_sub (a0 : Int32) (a1 : Int32) (a2 : Int32) : xM Int32 :=
  if 0 ≤ (a0 - a1) then
    xrt (a0 - a1)
  else
    xrt ((a0 - a1) + a2)
def f_J5_size (a0 : Nat) : xM Int32 :=
  xbd (xck 14 a0) fun _ =>
  xbd (xgI 14 2 a0) fun v6 =>
  xbd (xgI 14 1 a0) fun v7 =>
  xbd (xgN 14 0 a0) fun v8 =>
  xbd (xln v8) fun v9 =>
  xbd (f_J5_sub v6 v7 v9) fun v10 =>
  xrt v10
def f_J5_elementAt (a0 : Nat) (a1 : Int32) : xM (Option Nat) :=
  xbd (xldQ 3 a0 a1) fun ov2 =>
  match ov2 with
  | none =>
    xrt none
  | some v2 =>
    xrt (some v2)
def f_J5_pollFirst (a0 : Nat) : xM (Option Nat) :=
  xbd (xck 14 a0) fun _ =>
  xbd (xgN 14 0 a0) fun v12 =>
  xbd (xgI 14 1 a0) fun v13 =>
  xbd (f_J5_elementAt v12 v13) fun v14 =>
  match v14 with
  | none =>
    xrt none
  | some v14n =>
    xbd (xst0 3 v12 v13) fun _ =>
    xbd (xln v12) fun v15 =>
    xbd (f_J5_inc v13 v15) fun v16 =>
    xbd (xpt 14 1 a0 (.int v16)) fun _ =>
    xrt (some v14n)
def f_J5_removeFirst (a0 : Nat) : xM Nat :=
  xbd (xck 14 a0) fun _ =>
  xbd (f_J5_pollFirst a0) fun v2 =>
  match v2 with
  | none =>
    xno
  | some v2n =>
    xrt v2n
def f_X0_become_b30 (a0 : Nat) (a1 : Nat) (a2 : Int32) : xM Int32 :=
  xbd (xpt 0 0 a0 (.ref a1)) fun _ =>
  xrt a2
def f_X0_become (a0 : Nat) (a1 : Nat) (a2 : Int32) : xM Int32 :=
  xbd (xck 0 a0) fun _ =>
  xbd (xgN 0 2 a0) fun v7 =>
  xbd (xgN 0 0 a0) fun v8 =>
  xbd (f_J5_addLast v7 v8) fun _ =>
  xbd (xgN 0 2 a0) fun v9 =>
  xbd (f_J5_size v9) fun v10 =>
  if v10 ≤ (4 : Int32) then
    f_X0_become_b30 a0 a1 a2
  else
    xbd (xgN 0 2 a0) fun v11 =>
    xbd (f_J5_removeFirst v11) fun v12 =>
    f_X0_become_b30 a0 a1 a2
def f_X0_addSupplier (a0 : Nat) : xM Int32 :=
  xbd (xck 0 a0) fun _ =>
  xbd (xgN 0 0 a0) fun v10 =>
  xbd (xgN 1 0 v10) fun v11 =>
  xbd (f_X2_size v11) fun v12 =>
  if v12 = (5 : Int32) then
    xrt (-3 : Int32)
  else
    xbd (xgN 0 0 a0) fun v13 =>
    xbd (f_X1_copy v13) fun v14 =>
    xbd (xgN 1 0 v14) fun v15 =>
    xbd (xnw 7 [.int 0, .double 0, .double 0, .int 0, .int 0, .int 0, .int 0, .int 0, .int 0]) fun v16 =>
    xbd (f_X7_init_2 v16 v12) fun _ =>
    xbd (f_X2_add v15 v16) fun v17 =>
    xbd (f_X0_become a0 v14 v12) fun v18 =>
    xrt v18
def f_X3_aside_b7 (rec7 : Nat → Int32 → xM Unit) (a0 : Nat) (a1 : Int32) : xM Unit :=
  if (1411 : Int32) ≤ a1 then
    xrt ()
  else
    xbd (xgN 3 2 a0) fun v4 =>
    xbd (xgN 3 1 a0) fun v5 =>
    xbd (xldL 1 v5 a1) fun v6 =>
    xbd (xstL v4 a1 v6) fun _ =>
    rec7 a0 (a1 + (1 : Int32))
def f_X3_aside_L7 : Nat → Nat → Int32 → xM Unit
  | 0, _, _ => xno
  | n+1, a0, a1 => f_X3_aside_b7 (f_X3_aside_L7 n) a0 a1
def f_X3_aside (a0 : Nat) : xM Unit :=
  xbd (xck 3 a0) fun _ =>
  xbd (xpt 3 0 a0 (.int (0 : Int32))) fun _ =>
  f_X3_aside_L7 xFU a0 (0 : Int32)
def f_X3_at (a0 : Nat) (a1 : Int32) : xM Int32 :=
  xbd (xck 3 a0) fun _ =>
  xbd (xgN 3 1 a0) fun v3 =>
  xbd (xldL 1 v3 a1) fun v4 =>
  xrt v4.toInt32
def f_X3_ofSupplier (a0 : Int32) (a1 : Int32) : xM Int32 :=
  xrt (((11 : Int32) + ((8 : Int32) * a0)) + a1)
def f_X3_acted_b85 (a0 : Nat) (a1 : Int32) : xM Int32 :=
  xbd (xgI 3 6 a0) fun v19 =>
  xbd (xpt 3 6 a0 (.int (v19 + (1 : Int32)))) fun _ =>
  xrt a1
def f_X3_acted_b51 (rec51 : Nat → Int32 → Int32 → xM Int32) (a0 : Nat) (a1 : Int32) (a2 : Int32) : xM Int32 :=
  if (1411 : Int32) ≤ a2 then
    f_X3_acted_b85 a0 a1
  else
    xbd (xgN 3 5 a0) fun v15 =>
    xbd (xgI 3 6 a0) fun v16 =>
    xbd (xgN 3 2 a0) fun v17 =>
    xbd (xldL 1 v17 a2) fun v18 =>
    xbd (xstL v15 (((1411 : Int32) * v16) + a2) v18) fun _ =>
    rec51 a0 a1 (a2 + (1 : Int32))
def f_X3_acted_L51 : Nat → Nat → Int32 → Int32 → xM Int32
  | 0, _, _, _ => xno
  | n+1, a0, a1, a2 => f_X3_acted_b51 (f_X3_acted_L51 n) a0 a1 a2
def f_X3_acted_b49 (a0 : Nat) (a1 : Int32) : xM Int32 :=
  f_X3_acted_L51 xFU a0 a1 (0 : Int32)
def f_X3_acted_b39 (a0 : Nat) (a1 : Int32) : xM Int32 :=
  xbd (xgI 3 6 a0) fun v14 =>
  xbd (xpt 3 6 a0 (.int (v14 - (1 : Int32)))) fun _ =>
  f_X3_acted_b49 a0 a1
def f_X3_acted_b10 (rec10 : Nat → Int32 → Int32 → xM Int32) (a0 : Nat) (a1 : Int32) (a2 : Int32) : xM Int32 :=
  if (4233 : Int32) ≤ a2 then
    f_X3_acted_b39 a0 a1
  else
    xbd (xgN 3 5 a0) fun v11 =>
    xbd (xgN 3 5 a0) fun v12 =>
    xbd (xldL 1 v12 (a2 + (1411 : Int32))) fun v13 =>
    xbd (xstL v11 a2 v13) fun _ =>
    rec10 a0 a1 (a2 + (1 : Int32))
def f_X3_acted_L10 : Nat → Nat → Int32 → Int32 → xM Int32
  | 0, _, _, _ => xno
  | n+1, a0, a1, a2 => f_X3_acted_b10 (f_X3_acted_L10 n) a0 a1 a2
def f_X3_acted (a0 : Nat) (a1 : Int32) : xM Int32 :=
  xbd (xck 3 a0) fun _ =>
  xbd (xgI 3 6 a0) fun v20 =>
  if v20 = (4 : Int32) then
    f_X3_acted_L10 xFU a0 a1 (0 : Int32)
  else
    f_X3_acted_b49 a0 a1
def f_X3_addSupplier (a0 : Nat) : xM Int32 :=
  xbd (xck 3 a0) fun _ =>
  xbd (f_X3_aside a0) fun _ =>
  xbd (f_X3_at a0 (1 : Int32)) fun v10 =>
  if v10 = (5 : Int32) then
    xrt (-3 : Int32)
  else
    xbd (f_X3_at a0 (1 : Int32)) fun v11 =>
    xbd (xgN 3 1 a0) fun v12 =>
    xbd (f_X3_ofSupplier v11 (0 : Int32)) fun v13 =>
    xbd (xstL v12 v13 ((4617315517961601024 : UInt64).toInt64)) fun _ =>
    xbd (xgN 3 1 a0) fun v14 =>
    xbd (f_X3_ofSupplier v11 (2 : Int32)) fun v15 =>
    xbd (xstL v14 v15 (100 : Int64)) fun _ =>
    xbd (xgN 3 1 a0) fun v16 =>
    xbd (xldL 1 v16 (1 : Int32)) fun v17 =>
    xbd (xstL v16 (1 : Int32) (v17 + (1 : Int64))) fun _ =>
    xbd (f_X3_acted a0 v11) fun v18 =>
    xrt v18
def f_X0_inRange (a0 : Int32) (a1 : Int32) (a2 : Int32) : xM Int32 :=
  if a0 < a1 then
    xrtZ (0 : Int32)
  else
    if a2 < a0 then
      xrtZ (0 : Int32)
    else
      xrtZ (1 : Int32)
def f_X2_has (a0 : Nat) (a1 : Int32) : xM Int32 :=
  xbd (xck 2 a0) fun _ =>
  xbd (xgN 2 0 a0) fun v4 =>
  xbd (f_J2_size v4) fun v5 =>
  xbd (f_X0_inRange a1 (0 : Int32) (v5 - (1 : Int32))) fun v6 =>
  xrtZ v6
def f_X0_isPercent (a0 : Int64) (a2 : UInt64) : xM Int32 :=
  if (lg_cmp a0 (0 : Int64)) < 0 then
    xrtZ (0 : Int32)
  else
    if (lg_cmp (a0 &&& (9223372036854775807 : Int64)) (9218868437227405312 : Int64)) ≤ 0 then
      xbd (xl2d a0) fun _ =>
      if 0 < (Op.cmpValue (FP.dcmp a0.toUInt64 a2) .g) then
        xrtZ (0 : Int32)
      else
        xrtZ (1 : Int32)
    else
      xrtZ (0 : Int32)
def f_X0_nothing : xM UInt64 :=
  xrt (9221120237041090560 : UInt64)
def f_J15_checkIndex (a0 : Int32) (a1 : Int32) : xM Int32 :=
  if a0 < 0 then
    xno
  else
    if a0 < a1 then
      xrt a0
    else
      xno
def f_J14_checkIndex (a0 : Int32) (a1 : Int32) : xM Int32 :=
  xbd (f_J15_checkIndex a0 a1) fun v2 =>
  xrt v2
def f_J2_elementData (a0 : Nat) (a1 : Int32) : xM Nat :=
  xbd (xck 12 a0) fun _ =>
  xbd (xgN 12 1 a0) fun v3 =>
  xbd (xldN 3 v3 a1) fun v4 =>
  xrt v4
def f_J2_get (a0 : Nat) (a1 : Int32) : xM Nat :=
  xbd (xck 12 a0) fun _ =>
  xbd (xgI 12 2 a0) fun v4 =>
  xbd (f_J14_checkIndex a1 v4) fun v5 =>
  xbd (f_J2_elementData a0 a1) fun v6 =>
  xrt v6
def f_X2_get (a0 : Nat) (a1 : Int32) : xM Nat :=
  xbd (xck 2 a0) fun _ =>
  xbd (xgN 2 0 a0) fun v3 =>
  xbd (f_J2_get v3 a1) fun v4 =>
  xbd (xcks [4, 5, 6, 7] v4) fun _ =>
  xrt v4
def f_X0_tolerance (a0 : Nat) (a1 : Int32) (a2 : Int32) : xM UInt64 :=
  xbd (xck 0 a0) fun _ =>
  xbd (xgN 0 0 a0) fun v13 =>
  xbd (xgN 1 0 v13) fun v14 =>
  xbd (f_X2_has v14 a1) fun v15 =>
  if v15 = 0 then
    xbd f_X0_nothing fun v24 =>
    xrt v24
  else
    if a2 = 0 then
      xbd (xgN 0 0 a0) fun v16 =>
      xbd (xgN 1 0 v16) fun v17 =>
      xbd (f_X2_get v17 a1) fun v18 =>
      xbd (xcks [7] v18) fun _ =>
      xbd (xgD 7 1 v18) fun v19 =>
      xrt v19
    else
      xbd (xgN 0 0 a0) fun v20 =>
      xbd (xgN 1 0 v20) fun v21 =>
      xbd (f_X2_get v21 a1) fun v22 =>
      xbd (xcks [7] v22) fun _ =>
      xbd (xgD 7 2 v22) fun v23 =>
      xrt v23
def f_X0_setTolerance_b100 (a0 : Nat) (a7 : Nat) : xM Int32 :=
  xbd (f_X0_become a0 a7 (1 : Int32)) fun v13 =>
  xrt v13
def f_X0_setTolerance (a0 : Nat) (a1 : Int32) (a2 : Int32) (a3 : Int64) : xM Int32 :=
  xbd (xck 0 a0) fun _ =>
  xbd (xgN 0 0 a0) fun v14 =>
  xbd (xgN 1 0 v14) fun v15 =>
  xbd (f_X2_has v15 a1) fun v16 =>
  if v16 = 0 then
    xrt (-1 : Int32)
  else
    xbd (f_X0_isPercent a3 (4632233691727265792 : UInt64)) fun v17 =>
    if v17 = 0 then
      xrt (-2 : Int32)
    else
      xbd (xl2d a3) fun _ =>
      xbd (f_X0_tolerance a0 a1 a2) fun v18 =>
      if (Op.cmpValue (FP.dcmp v18 a3.toUInt64) .l) = 0 then
        xrt (-5 : Int32)
      else
        xbd (xgN 0 0 a0) fun v19 =>
        xbd (f_X1_copy v19) fun v20 =>
        if a2 = 0 then
          xbd (xgN 1 0 v20) fun v21 =>
          xbd (f_X2_get v21 a1) fun v22 =>
          xbd (xcks [7] v22) fun _ =>
          xbd (xpt 7 1 v22 (.double a3.toUInt64)) fun _ =>
          f_X0_setTolerance_b100 a0 v20
        else
          xbd (xgN 1 0 v20) fun v23 =>
          xbd (f_X2_get v23 a1) fun v24 =>
          xbd (xcks [7] v24) fun _ =>
          xbd (xpt 7 2 v24 (.double a3.toUInt64)) fun _ =>
          f_X0_setTolerance_b100 a0 v20
def f_X3_in (a0 : Int32) (a1 : Int32) (a2 : Int32) : xM Int32 :=
  if a0 < a1 then
    xrtZ (0 : Int32)
  else
    if a2 < a0 then
      xrtZ (0 : Int32)
    else
      xrtZ (1 : Int32)
def f_X3_isSupplier (a0 : Nat) (a1 : Int32) : xM Int32 :=
  xbd (xck 3 a0) fun _ =>
  xbd (f_X3_at a0 (1 : Int32)) fun v3 =>
  xbd (f_X3_in a1 (0 : Int32) (v3 - (1 : Int32))) fun v4 =>
  xrtZ v4
def f_X3_isFrom (a0 : Int64) (a2 : UInt64) : xM Int32 :=
  if (lg_cmp a0 (0 : Int64)) < 0 then
    xrtZ (0 : Int32)
  else
    if 0 < (lg_cmp a0 (9218868437227405312 : Int64)) then
      xrtZ (0 : Int32)
    else
      xbd (xl2d a0) fun _ =>
      if 0 < (Op.cmpValue (FP.dcmp a0.toUInt64 a2) .g) then
        xrtZ (0 : Int32)
      else
        xrtZ (1 : Int32)
def f_X3_setTolerance_b37 (t0 : Int32) (t1 : Int32) (a0 : Nat) (a3 : Int64) : xM Int32 :=
  xbd (f_X3_ofSupplier t0 t1) fun v8 =>
  xbd (xgN 3 1 a0) fun v9 =>
  xbd (xldL 1 v9 v8) fun v10 =>
  if (lg_cmp v10 a3) = 0 then
    xrt (-5 : Int32)
  else
    xbd (xgN 3 1 a0) fun v11 =>
    xbd (xstL v11 v8 a3) fun _ =>
    xbd (f_X3_acted a0 (1 : Int32)) fun v12 =>
    xrt v12
def f_X3_setTolerance (a0 : Nat) (a1 : Int32) (a2 : Int32) (a3 : Int64) : xM Int32 :=
  xbd (xck 3 a0) fun _ =>
  xbd (f_X3_aside a0) fun _ =>
  xbd (f_X3_isSupplier a0 a1) fun v13 =>
  if v13 = 0 then
    xrt (-1 : Int32)
  else
    xbd (f_X3_isFrom a3 (4632233691727265792 : UInt64)) fun v14 =>
    if v14 = 0 then
      xrt (-2 : Int32)
    else
      if a2 = 0 then
        f_X3_setTolerance_b37 a1 (0 : Int32) a0 a3
      else
        f_X3_setTolerance_b37 a1 (1 : Int32) a0 a3
def f_X0_setTrifle (a0 : Nat) (a1 : Int32) (a2 : Int32) : xM Int32 :=
  xbd (xck 0 a0) fun _ =>
  xbd (xgN 0 0 a0) fun v14 =>
  xbd (xgN 1 0 v14) fun v15 =>
  xbd (f_X2_has v15 a1) fun v16 =>
  if v16 = 0 then
    xrt (-1 : Int32)
  else
    xbd (f_X0_inRange a2 (0 : Int32) (9999 : Int32)) fun v17 =>
    if v17 = 0 then
      xrt (-2 : Int32)
    else
      xbd (xgN 0 0 a0) fun v18 =>
      xbd (xgN 1 0 v18) fun v19 =>
      xbd (f_X2_get v19 a1) fun v20 =>
      xbd (xcks [7] v20) fun _ =>
      xbd (xgI 7 3 v20) fun v21 =>
      if v21 = a2 then
        xrt (-5 : Int32)
      else
        xbd (xgN 0 0 a0) fun v22 =>
        xbd (f_X1_copy v22) fun v23 =>
        xbd (xgN 1 0 v23) fun v24 =>
        xbd (f_X2_get v24 a1) fun v25 =>
        xbd (xcks [7] v25) fun _ =>
        xbd (xpt 7 3 v25 (.int a2)) fun _ =>
        xbd (f_X0_become a0 v23 v21) fun v26 =>
        xrt v26
def f_X3_setTrifle (a0 : Nat) (a1 : Int32) (a2 : Int32) : xM Int32 :=
  xbd (xck 3 a0) fun _ =>
  xbd (f_X3_aside a0) fun _ =>
  xbd (f_X3_isSupplier a0 a1) fun v8 =>
  if v8 = 0 then
    xrt (-1 : Int32)
  else
    xbd (f_X3_in a2 (0 : Int32) (9999 : Int32)) fun v9 =>
    if v9 = 0 then
      xrt (-2 : Int32)
    else
      xbd (f_X3_ofSupplier a1 (2 : Int32)) fun v10 =>
      xbd (f_X3_at a0 v10) fun v11 =>
      if v11 = a2 then
        xrt (-5 : Int32)
      else
        xbd (xgN 3 1 a0) fun v12 =>
        xbd (f_X3_ofSupplier a1 (2 : Int32)) fun v13 =>
        xbd (xstL v12 v13 a2.toInt64) fun _ =>
        xbd (f_X3_acted a0 v11) fun v14 =>
        xrt v14
def f_X2_iterator (a0 : Nat) : xM Nat :=
  xbd (xck 2 a0) fun _ =>
  xbd (xgN 2 0 a0) fun v3 =>
  xbd (f_J2_iterator v3) fun v4 =>
  xrt v4
def f_X1_invoicesOf_b83 (rec11 : Nat → Int32 → Int32 → Int32 → Nat → xM Int32) (t0 : Int32) (t1 : Int32) (a0 : Nat) (a1 : Int32) (a2 : Int32) (a4 : Nat) : xM Int32 :=
  rec11 a0 a1 a2 (t0 + t1) a4
def f_X1_invoicesOf_b78 (rec11 : Nat → Int32 → Int32 → Int32 → Nat → xM Int32) (t0 : Int32) (a0 : Nat) (a1 : Int32) (a2 : Int32) (a4 : Nat) : xM Int32 :=
  f_X1_invoicesOf_b83 rec11 t0 (1 : Int32) a0 a1 a2 a4
def f_X1_invoicesOf_b82 (rec11 : Nat → Int32 → Int32 → Int32 → Nat → xM Int32) (t0 : Int32) (a0 : Nat) (a1 : Int32) (a2 : Int32) (a4 : Nat) : xM Int32 :=
  f_X1_invoicesOf_b83 rec11 t0 (0 : Int32) a0 a1 a2 a4
def f_X1_invoicesOf_b11 (rec11 : Nat → Int32 → Int32 → Int32 → Nat → xM Int32) (a0 : Nat) (a1 : Int32) (a2 : Int32) (a3 : Int32) (a4 : Nat) : xM Int32 :=
  xbd (f_J10_hasNext a4) fun v11 =>
  if v11 = 0 then
    xrt a3
  else
    xbd (f_J10_next a4) fun v12 =>
    xbd (xcks [4] v12) fun _ =>
    xbd (xgN 1 1 a0) fun v13 =>
    xbd (xgI 4 2 v12) fun v14 =>
    xbd (f_X2_get v13 v14) fun v15 =>
    xbd (xcks [6] v15) fun _ =>
    xbd (xgI 6 1 v15) fun v16 =>
    if v16 = a1 then
      if a2 = 0 then
        xbd (xgI 4 5 v12) fun v17 =>
        if v17 = (3 : Int32) then
          f_X1_invoicesOf_b82 rec11 a3 a0 a1 a2 a4
        else
          xbd (xgI 4 5 v12) fun v18 =>
          if v18 = (4 : Int32) then
            f_X1_invoicesOf_b82 rec11 a3 a0 a1 a2 a4
          else
            f_X1_invoicesOf_b78 rec11 a3 a0 a1 a2 a4
      else
        f_X1_invoicesOf_b78 rec11 a3 a0 a1 a2 a4
    else
      f_X1_invoicesOf_b82 rec11 a3 a0 a1 a2 a4
def f_X1_invoicesOf_L11 : Nat → Nat → Int32 → Int32 → Int32 → Nat → xM Int32
  | 0, _, _, _, _, _ => xno
  | n+1, a0, a1, a2, a3, a4 => f_X1_invoicesOf_b11 (f_X1_invoicesOf_L11 n) a0 a1 a2 a3 a4
def f_X1_invoicesOf (a0 : Nat) (a1 : Int32) (a2 : Int32) : xM Int32 :=
  xbd (xck 1 a0) fun _ =>
  xbd (xgN 1 2 a0) fun v19 =>
  xbd (f_X2_iterator v19) fun v20 =>
  f_X1_invoicesOf_L11 xFU a0 a1 a2 (0 : Int32) v20
def f_X0_block (a0 : Nat) (a1 : Int32) (a2 : Int32) : xM Int32 :=
  xbd (xck 0 a0) fun _ =>
  xbd (xgN 0 0 a0) fun v14 =>
  xbd (xgN 1 0 v14) fun v15 =>
  xbd (f_X2_has v15 a1) fun v16 =>
  if v16 = 0 then
    xrt (-1 : Int32)
  else
    xbd (xgN 0 0 a0) fun v17 =>
    xbd (xgN 1 0 v17) fun v18 =>
    xbd (f_X2_get v18 a1) fun v19 =>
    xbd (xcks [7] v19) fun _ =>
    xbd (xgI 7 8 v19) fun v20 =>
    if v20 = a2 then
      xrt (-5 : Int32)
    else
      xbd (xgN 0 0 a0) fun v21 =>
      xbd (f_X1_copy v21) fun v22 =>
      xbd (xgN 1 0 v22) fun v23 =>
      xbd (f_X2_get v23 a1) fun v24 =>
      xbd (xcks [7] v24) fun _ =>
      xbd (xptZ 7 8 v24 a2) fun _ =>
      xbd (f_X1_invoicesOf v22 a1 (0 : Int32)) fun v25 =>
      xbd (f_X0_become a0 v22 v25) fun v26 =>
      xrt v26
def f_X3_isBlocked (a0 : Nat) (a1 : Int32) : xM Int32 :=
  xbd (xck 3 a0) fun _ =>
  xbd (f_X3_ofSupplier a1 (4 : Int32)) fun v3 =>
  xbd (f_X3_at a0 v3) fun v4 =>
  if v4 = (1 : Int32) then
    xrtZ (1 : Int32)
  else
    xrtZ (0 : Int32)
def f_X3_ofInvoice (a0 : Int32) (a1 : Int32) : xM Int32 :=
  xrt (((675 : Int32) + ((29 : Int32) * a0)) + a1)
def f_X3_ofOrder (a0 : Int32) (a1 : Int32) : xM Int32 :=
  xrt (((51 : Int32) + ((4 : Int32) * a0)) + a1)
def f_X3_whose (a0 : Nat) (a1 : Int32) : xM Int32 :=
  xbd (xck 3 a0) fun _ =>
  xbd (f_X3_ofOrder a1 (0 : Int32)) fun v3 =>
  xbd (f_X3_at a0 v3) fun v4 =>
  xrt v4
def f_X3_payee (a0 : Nat) (a1 : Int32) : xM Int32 :=
  xbd (xck 3 a0) fun _ =>
  xbd (f_X3_ofInvoice a1 (1 : Int32)) fun v4 =>
  xbd (f_X3_at a0 v4) fun v5 =>
  xbd (f_X3_whose a0 v5) fun v6 =>
  xrt v6
def f_X3_block_b90 (rec50 : Nat → Int32 → Int32 → Int32 → xM Int32) (t0 : Int32) (t1 : Int32) (a0 : Nat) (a1 : Int32) (a4 : Int32) : xM Int32 :=
  rec50 a0 a1 (t0 + t1) (a4 + (1 : Int32))
def f_X3_block_b89 (rec50 : Nat → Int32 → Int32 → Int32 → xM Int32) (t0 : Int32) (a0 : Nat) (a1 : Int32) (a4 : Int32) : xM Int32 :=
  f_X3_block_b90 rec50 t0 (0 : Int32) a0 a1 a4
def f_X3_block_b98 (a0 : Nat) (a3 : Int32) : xM Int32 :=
  xbd (f_X3_acted a0 a3) fun v14 =>
  xrt v14
def f_X3_block_b50 (rec50 : Nat → Int32 → Int32 → Int32 → xM Int32) (a0 : Nat) (a1 : Int32) (a3 : Int32) (a4 : Int32) : xM Int32 :=
  xbd (f_X3_at a0 (3 : Int32)) fun v10 =>
  if v10 ≤ a4 then
    f_X3_block_b98 a0 a3
  else
    xbd (f_X3_payee a0 a4) fun v11 =>
    if v11 = a1 then
      xbd (f_X3_ofInvoice a4 (4 : Int32)) fun v12 =>
      xbd (f_X3_at a0 v12) fun v13 =>
      if (3 : Int32) ≤ v13 then
        f_X3_block_b89 rec50 a3 a0 a1 a4
      else
        f_X3_block_b90 rec50 a3 (1 : Int32) a0 a1 a4
    else
      f_X3_block_b89 rec50 a3 a0 a1 a4
def f_X3_block_L50 : Nat → Nat → Int32 → Int32 → Int32 → xM Int32
  | 0, _, _, _, _ => xno
  | n+1, a0, a1, a3, a4 => f_X3_block_b50 (f_X3_block_L50 n) a0 a1 a3 a4
def f_X3_block_b44 (t0 : Nat) (t1 : Int32) (t2 : Int64) (a0 : Nat) (a1 : Int32) : xM Int32 :=
  xbd (xstL t0 t1 t2) fun _ =>
  f_X3_block_L50 xFU a0 a1 (0 : Int32) (0 : Int32)
def f_X3_block (a0 : Nat) (a1 : Int32) (a2 : Int32) : xM Int32 :=
  xbd (xck 3 a0) fun _ =>
  xbd (f_X3_aside a0) fun _ =>
  xbd (f_X3_isSupplier a0 a1) fun v15 =>
  if v15 = 0 then
    xrt (-1 : Int32)
  else
    xbd (f_X3_isBlocked a0 a1) fun v16 =>
    if v16 = a2 then
      xrt (-5 : Int32)
    else
      xbd (xgN 3 1 a0) fun v17 =>
      xbd (f_X3_ofSupplier a1 (4 : Int32)) fun v18 =>
      if a2 = 0 then
        f_X3_block_b44 v17 v18 (0 : Int64) a0 a1
      else
        f_X3_block_b44 v17 v18 (1 : Int64) a0 a1
def f_X0_setDiscount (a0 : Nat) (a1 : Int64) : xM Int32 :=
  xbd (xck 0 a0) fun _ =>
  xbd (f_X0_isPercent a1 (4626322717216342016 : UInt64)) fun v7 =>
  if v7 = 0 then
    xrt (-2 : Int32)
  else
    xbd (xl2d a1) fun _ =>
    xbd (xgN 0 0 a0) fun v8 =>
    xbd (xgD 1 4 v8) fun v9 =>
    if (Op.cmpValue (FP.dcmp a1.toUInt64 v9) .l) = 0 then
      xrt (-5 : Int32)
    else
      xbd (xgN 0 0 a0) fun v10 =>
      xbd (f_X1_copy v10) fun v11 =>
      xbd (xpt 1 4 v11 (.double a1.toUInt64)) fun _ =>
      xbd (f_X0_become a0 v11 (1 : Int32)) fun v12 =>
      xrt v12
def f_X3_setDiscount (a0 : Nat) (a1 : Int64) : xM Int32 :=
  xbd (xck 3 a0) fun _ =>
  xbd (f_X3_aside a0) fun _ =>
  xbd (f_X3_isFrom a1 (4626322717216342016 : UInt64)) fun v6 =>
  if v6 = 0 then
    xrt (-2 : Int32)
  else
    xbd (xgN 3 1 a0) fun v7 =>
    xbd (xldL 1 v7 (4 : Int32)) fun v8 =>
    if (lg_cmp v8 a1) = 0 then
      xrt (-5 : Int32)
    else
      xbd (xgN 3 1 a0) fun v9 =>
      xbd (xstL v9 (4 : Int32) a1) fun _ =>
      xbd (f_X3_acted a0 (1 : Int32)) fun v10 =>
      xrt v10
def f_X0_setTerms_b50 (a0 : Nat) (a1 : Int32) (a2 : Int32) (a3 : Int32) : xM Int32 :=
  xbd (xgN 0 0 a0) fun v10 =>
  xbd (f_X1_copy v10) fun v11 =>
  xbd (xpt 1 5 v11 (.int a1)) fun _ =>
  xbd (xpt 1 6 v11 (.int a2)) fun _ =>
  xbd (f_X0_become a0 v11 a3) fun v12 =>
  xrt v12
def f_X0_setTerms (a0 : Nat) (a1 : Int32) (a2 : Int32) : xM Int32 :=
  xbd (xck 0 a0) fun _ =>
  xbd (f_X0_inRange a1 (0 : Int32) (60 : Int32)) fun v13 =>
  if v13 = 0 then
    xrt (-2 : Int32)
  else
    xbd (f_X0_inRange a2 (1 : Int32) (90 : Int32)) fun v14 =>
    if v14 = 0 then
      xrt (-2 : Int32)
    else
      xbd (xgN 0 0 a0) fun v15 =>
      xbd (xgI 1 6 v15) fun v16 =>
      if v16 = a2 then
        xbd (xgN 0 0 a0) fun v17 =>
        xbd (xgI 1 5 v17) fun v18 =>
        if v18 = a1 then
          xrt (-5 : Int32)
        else
          f_X0_setTerms_b50 a0 a1 a2 v16
      else
        f_X0_setTerms_b50 a0 a1 a2 v16
def f_X3_setTerms_b51 (a0 : Nat) (a1 : Int32) (a2 : Int32) (a3 : Int32) : xM Int32 :=
  xbd (xgN 3 1 a0) fun v8 =>
  xbd (xstL v8 (5 : Int32) a1.toInt64) fun _ =>
  xbd (xgN 3 1 a0) fun v9 =>
  xbd (xstL v9 (6 : Int32) a2.toInt64) fun _ =>
  xbd (f_X3_acted a0 a3) fun v10 =>
  xrt v10
def f_X3_setTerms (a0 : Nat) (a1 : Int32) (a2 : Int32) : xM Int32 :=
  xbd (xck 3 a0) fun _ =>
  xbd (f_X3_aside a0) fun _ =>
  xbd (f_X3_in a1 (0 : Int32) (60 : Int32)) fun v11 =>
  if v11 = 0 then
    xrt (-2 : Int32)
  else
    xbd (f_X3_in a2 (1 : Int32) (90 : Int32)) fun v12 =>
    if v12 = 0 then
      xrt (-2 : Int32)
    else
      xbd (f_X3_at a0 (6 : Int32)) fun v13 =>
      xbd (f_X3_at a0 (5 : Int32)) fun v14 =>
      if v14 = a1 then
        if v13 = a2 then
          xrt (-5 : Int32)
        else
          f_X3_setTerms_b51 a0 a1 a2 v13
      else
        f_X3_setTerms_b51 a0 a1 a2 v13
def f_X0_addOrder (a0 : Nat) (a1 : Int32) : xM Int32 :=
  xbd (xck 0 a0) fun _ =>
  xbd (xgN 0 0 a0) fun v17 =>
  xbd (xgN 1 0 v17) fun v18 =>
  xbd (f_X2_has v18 a1) fun v19 =>
  if v19 = 0 then
    xrt (-1 : Int32)
  else
    xbd (xgN 0 0 a0) fun v20 =>
    xbd (xgN 1 0 v20) fun v21 =>
    xbd (f_X2_get v21 a1) fun v22 =>
    xbd (xcks [7] v22) fun _ =>
    xbd (xgI 7 8 v22) fun v23 =>
    if v23 = 0 then
      xbd (xgN 0 0 a0) fun v24 =>
      xbd (xgN 1 1 v24) fun v25 =>
      xbd (f_X2_size v25) fun v26 =>
      if v26 = (12 : Int32) then
        xrt (-3 : Int32)
      else
        xbd (xgN 0 0 a0) fun v27 =>
        xbd (f_X1_copy v27) fun v28 =>
        xbd (xgN 1 1 v28) fun v29 =>
        xbd (xnw 6 [.int 0, .int 0, .null, .int 0, .int 0]) fun v30 =>
        xbd (f_X6_init v30 v26 a1) fun _ =>
        xbd (f_X2_add v29 v30) fun v31 =>
        xbd (f_X0_become a0 v28 v26) fun v32 =>
        xrt v32
    else
      xrt (-4 : Int32)
def f_X3_addOrder_b68 (a0 : Nat) (a1 : Int32) (a2 : Int32) : xM Int32 :=
  xbd (xgN 3 1 a0) fun v14 =>
  xbd (f_X3_ofOrder a2 (0 : Int32)) fun v15 =>
  xbd (xstL v14 v15 a1.toInt64) fun _ =>
  xbd (xgN 3 1 a0) fun v16 =>
  xbd (xldL 1 v16 (2 : Int32)) fun v17 =>
  xbd (xstL v16 (2 : Int32) (v17 + (1 : Int64))) fun _ =>
  xbd (f_X3_acted a0 a2) fun v18 =>
  xrt v18
def f_X3_addOrder_b46 (rec46 : Nat → Int32 → Int32 → Int32 → xM Int32) (a0 : Nat) (a1 : Int32) (a2 : Int32) (a3 : Int32) : xM Int32 :=
  if (4 : Int32) ≤ a3 then
    f_X3_addOrder_b68 a0 a1 a2
  else
    xbd (xgN 3 1 a0) fun v12 =>
    xbd (f_X3_ofOrder a2 a3) fun v13 =>
    xbd (xstL v12 v13 (0 : Int64)) fun _ =>
    rec46 a0 a1 a2 (a3 + (1 : Int32))
def f_X3_addOrder_L46 : Nat → Nat → Int32 → Int32 → Int32 → xM Int32
  | 0, _, _, _, _ => xno
  | n+1, a0, a1, a2, a3 => f_X3_addOrder_b46 (f_X3_addOrder_L46 n) a0 a1 a2 a3
def f_X3_addOrder (a0 : Nat) (a1 : Int32) : xM Int32 :=
  xbd (xck 3 a0) fun _ =>
  xbd (f_X3_aside a0) fun _ =>
  xbd (f_X3_isSupplier a0 a1) fun v19 =>
  if v19 = 0 then
    xrt (-1 : Int32)
  else
    xbd (f_X3_isBlocked a0 a1) fun v20 =>
    if v20 = 0 then
      xbd (f_X3_at a0 (2 : Int32)) fun v21 =>
      if v21 = (12 : Int32) then
        xrt (-3 : Int32)
      else
        xbd (f_X3_at a0 (2 : Int32)) fun v22 =>
        f_X3_addOrder_L46 xFU a0 a1 v22 (0 : Int32)
    else
      xrt (-4 : Int32)
def f_X0_areUnits (a0 : Int32) : xM Int32 :=
  xbd (f_X0_inRange a0 (1 : Int32) (999 : Int32)) fun v2 =>
  xrtZ v2
def f_X0_isPrice (a0 : Int32) : xM Int32 :=
  xbd (f_X0_inRange a0 (1 : Int32) (9999 : Int32)) fun v2 =>
  xrtZ v2
def f_X0_isOpen (a0 : Nat) (a1 : Int32) : xM Int32 :=
  xbd (xck 0 a0) fun _ =>
  xbd (xgN 0 0 a0) fun v5 =>
  xbd (xgN 1 1 v5) fun v6 =>
  xbd (f_X2_get v6 a1) fun v7 =>
  xbd (xcks [6] v7) fun _ =>
  xbd (xgI 6 3 v7) fun v8 =>
  if v8 = 0 then
    xrtZ (1 : Int32)
  else
    xrtZ (0 : Int32)
def f_X0_addLine (a0 : Nat) (a1 : Int32) (a2 : Int32) (a3 : Int32) (a4 : Int32) : xM Int32 :=
  xbd (xck 0 a0) fun _ =>
  xbd (xgN 0 0 a0) fun v21 =>
  xbd (xgN 1 1 v21) fun v22 =>
  xbd (f_X2_has v22 a1) fun v23 =>
  if v23 = 0 then
    xrt (-1 : Int32)
  else
    xbd (f_X0_inRange a2 (0 : Int32) (99 : Int32)) fun v24 =>
    if v24 = 0 then
      xrt (-2 : Int32)
    else
      xbd (f_X0_areUnits a3) fun v25 =>
      if v25 = 0 then
        xrt (-2 : Int32)
      else
        xbd (f_X0_isPrice a4) fun v26 =>
        if v26 = 0 then
          xrt (-2 : Int32)
        else
          xbd (f_X0_isOpen a0 a1) fun v27 =>
          if v27 = 0 then
            xrt (-4 : Int32)
          else
            xbd (xgN 0 0 a0) fun v28 =>
            xbd (xgN 1 1 v28) fun v29 =>
            xbd (f_X2_get v29 a1) fun v30 =>
            xbd (xcks [6] v30) fun _ =>
            xbd (xgN 6 2 v30) fun v31 =>
            xbd (f_X2_size v31) fun v32 =>
            if v32 = (6 : Int32) then
              xrt (-3 : Int32)
            else
              xbd (xgN 0 0 a0) fun v33 =>
              xbd (f_X1_copy v33) fun v34 =>
              xbd (xgN 1 1 v34) fun v35 =>
              xbd (f_X2_get v35 a1) fun v36 =>
              xbd (xcks [6] v36) fun _ =>
              xbd (xgN 6 2 v36) fun v37 =>
              xbd (xnw 5 [.int 0, .int 0, .int 0, .int 0, .int 0, .int 0, .int 0, .int 0, .int 0]) fun v38 =>
              xbd (f_X5_init v38 v32 a2 a3 a4) fun _ =>
              xbd (f_X2_add v37 v38) fun v39 =>
              xbd (f_X0_become a0 v34 v32) fun v40 =>
              xrt v40
def f_X3_isOrder (a0 : Nat) (a1 : Int32) : xM Int32 :=
  xbd (xck 3 a0) fun _ =>
  xbd (f_X3_at a0 (2 : Int32)) fun v3 =>
  xbd (f_X3_in a1 (0 : Int32) (v3 - (1 : Int32))) fun v4 =>
  xrtZ v4
def f_X3_isOpen (a0 : Nat) (a1 : Int32) : xM Int32 :=
  xbd (xck 3 a0) fun _ =>
  xbd (f_X3_ofOrder a1 (2 : Int32)) fun v3 =>
  xbd (f_X3_at a0 v3) fun v4 =>
  if v4 = 0 then
    xrtZ (1 : Int32)
  else
    xrtZ (0 : Int32)
def f_X3_ofLine (a0 : Int32) (a1 : Int32) (a2 : Int32) : xM Int32 :=
  xrt ((((99 : Int32) + ((48 : Int32) * a0)) + ((8 : Int32) * a1)) + a2)
def f_X3_addLine_b112 (a0 : Nat) (a1 : Int32) (a2 : Int32) (a3 : Int32) (a4 : Int32) (a5 : Int32) : xM Int32 :=
  xbd (xgN 3 1 a0) fun v22 =>
  xbd (f_X3_ofLine a1 a5 (0 : Int32)) fun v23 =>
  xbd (xstL v22 v23 a2.toInt64) fun _ =>
  xbd (xgN 3 1 a0) fun v24 =>
  xbd (f_X3_ofLine a1 a5 (1 : Int32)) fun v25 =>
  xbd (xstL v24 v25 a3.toInt64) fun _ =>
  xbd (xgN 3 1 a0) fun v26 =>
  xbd (f_X3_ofLine a1 a5 (2 : Int32)) fun v27 =>
  xbd (xstL v26 v27 a4.toInt64) fun _ =>
  xbd (xgN 3 1 a0) fun v28 =>
  xbd (f_X3_ofOrder a1 (1 : Int32)) fun v29 =>
  xbd (xldL 1 v28 v29) fun v30 =>
  xbd (xstL v28 v29 (v30 + (1 : Int64))) fun _ =>
  xbd (f_X3_acted a0 a5) fun v31 =>
  xrt v31
def f_X3_addLine_b85 (rec85 : Nat → Int32 → Int32 → Int32 → Int32 → Int32 → Int32 → xM Int32) (a0 : Nat) (a1 : Int32) (a2 : Int32) (a3 : Int32) (a4 : Int32) (a5 : Int32) (a6 : Int32) : xM Int32 :=
  if (8 : Int32) ≤ a6 then
    f_X3_addLine_b112 a0 a1 a2 a3 a4 a5
  else
    xbd (xgN 3 1 a0) fun v20 =>
    xbd (f_X3_ofLine a1 a5 a6) fun v21 =>
    xbd (xstL v20 v21 (0 : Int64)) fun _ =>
    rec85 a0 a1 a2 a3 a4 a5 (a6 + (1 : Int32))
def f_X3_addLine_L85 : Nat → Nat → Int32 → Int32 → Int32 → Int32 → Int32 → Int32 → xM Int32
  | 0, _, _, _, _, _, _, _ => xno
  | n+1, a0, a1, a2, a3, a4, a5, a6 => f_X3_addLine_b85 (f_X3_addLine_L85 n) a0 a1 a2 a3 a4 a5 a6
def f_X3_addLine (a0 : Nat) (a1 : Int32) (a2 : Int32) (a3 : Int32) (a4 : Int32) : xM Int32 :=
  xbd (xck 3 a0) fun _ =>
  xbd (f_X3_aside a0) fun _ =>
  xbd (f_X3_isOrder a0 a1) fun v32 =>
  if v32 = 0 then
    xrt (-1 : Int32)
  else
    xbd (f_X3_in a2 (0 : Int32) (99 : Int32)) fun v33 =>
    if v33 = 0 then
      xrt (-2 : Int32)
    else
      xbd (f_X3_in a3 (1 : Int32) (999 : Int32)) fun v34 =>
      if v34 = 0 then
        xrt (-2 : Int32)
      else
        xbd (f_X3_in a4 (1 : Int32) (9999 : Int32)) fun v35 =>
        if v35 = 0 then
          xrt (-2 : Int32)
        else
          xbd (f_X3_isOpen a0 a1) fun v36 =>
          if v36 = 0 then
            xrt (-4 : Int32)
          else
            xbd (f_X3_ofOrder a1 (1 : Int32)) fun v37 =>
            xbd (f_X3_at a0 v37) fun v38 =>
            if v38 = (6 : Int32) then
              xrt (-3 : Int32)
            else
              f_X3_addLine_L85 xFU a0 a1 a2 a3 a4 v38 (0 : Int32)
def f_X1_hasLine (a0 : Nat) (a1 : Int32) (a2 : Int32) : xM Int32 :=
  xbd (xck 1 a0) fun _ =>
  xbd (xgN 1 1 a0) fun v7 =>
  xbd (f_X2_has v7 a1) fun v8 =>
  if v8 = 0 then
    xrtZ (0 : Int32)
  else
    xbd (xgN 1 1 a0) fun v9 =>
    xbd (f_X2_get v9 a1) fun v10 =>
    xbd (xcks [6] v10) fun _ =>
    xbd (xgN 6 2 v10) fun v11 =>
    xbd (f_X2_has v11 a2) fun v12 =>
    if v12 = 0 then
      xrtZ (0 : Int32)
    else
      xrtZ (1 : Int32)
def f_X1_line (a0 : Nat) (a1 : Int32) (a2 : Int32) : xM Nat :=
  xbd (xck 1 a0) fun _ =>
  xbd (xgN 1 1 a0) fun v5 =>
  xbd (f_X2_get v5 a1) fun v6 =>
  xbd (xcks [6] v6) fun _ =>
  xbd (xgN 6 2 v6) fun v7 =>
  xbd (f_X2_get v7 a2) fun v8 =>
  xbd (xcks [5] v8) fun _ =>
  xrt v8
def f_X0_changeLine_b94 (a0 : Nat) (a1 : Int32) (a2 : Int32) (a3 : Int32) (a4 : Int32) : xM Int32 :=
  xbd (xgN 0 0 a0) fun v23 =>
  xbd (f_X1_copy v23) fun v24 =>
  xbd (f_X1_line v24 a1 a2) fun v25 =>
  xbd (xpt 5 2 v25 (.int a3)) fun _ =>
  xbd (f_X1_line v24 a1 a2) fun v26 =>
  xbd (xpt 5 3 v26 (.int a4)) fun _ =>
  xbd (xgN 1 1 v24) fun v27 =>
  xbd (f_X2_get v27 a1) fun v28 =>
  xbd (xcks [6] v28) fun _ =>
  xbd (xgI 6 4 v28) fun v29 =>
  xbd (xpt 6 4 v28 (.int (v29 + (1 : Int32)))) fun _ =>
  xbd (xgN 1 1 v24) fun v30 =>
  xbd (f_X2_get v30 a1) fun v31 =>
  xbd (xcks [6] v31) fun _ =>
  xbd (xgI 6 4 v31) fun v32 =>
  xbd (f_X0_become a0 v24 v32) fun v33 =>
  xrt v33
def f_X0_changeLine (a0 : Nat) (a1 : Int32) (a2 : Int32) (a3 : Int32) (a4 : Int32) : xM Int32 :=
  xbd (xck 0 a0) fun _ =>
  xbd (xgN 0 0 a0) fun v34 =>
  xbd (f_X1_hasLine v34 a1 a2) fun v35 =>
  if v35 = 0 then
    xrt (-1 : Int32)
  else
    xbd (f_X0_areUnits a3) fun v36 =>
    if v36 = 0 then
      xrt (-2 : Int32)
    else
      xbd (f_X0_isPrice a4) fun v37 =>
      if v37 = 0 then
        xrt (-2 : Int32)
      else
        xbd (xgN 0 0 a0) fun v38 =>
        xbd (f_X1_line v38 a1 a2) fun v39 =>
        xbd (f_X0_isOpen a0 a1) fun v40 =>
        if v40 = 0 then
          xrt (-4 : Int32)
        else
          xbd (xgI 5 4 v39) fun v41 =>
          if a3 < v41 then
            xrt (-4 : Int32)
          else
            xbd (xgI 5 6 v39) fun v42 =>
            if v42 ≤ a3 then
              xbd (xgI 5 2 v39) fun v43 =>
              if v43 = a3 then
                xbd (xgI 5 3 v39) fun v44 =>
                if v44 = a4 then
                  xrt (-5 : Int32)
                else
                  f_X0_changeLine_b94 a0 a1 a2 a3 a4
              else
                f_X0_changeLine_b94 a0 a1 a2 a3 a4
            else
              xrt (-4 : Int32)
def f_X3_isLine (a0 : Nat) (a1 : Int32) (a2 : Int32) : xM Int32 :=
  xbd (xck 3 a0) fun _ =>
  xbd (f_X3_isOrder a0 a1) fun v5 =>
  if v5 = 0 then
    xrtZ (0 : Int32)
  else
    xbd (f_X3_ofOrder a1 (1 : Int32)) fun v6 =>
    xbd (f_X3_at a0 v6) fun v7 =>
    xbd (f_X3_in a2 (0 : Int32) (v7 - (1 : Int32))) fun v8 =>
    if v8 = 0 then
      xrtZ (0 : Int32)
    else
      xrtZ (1 : Int32)
def f_X3_changeLine_b112 (a0 : Nat) (a1 : Int32) (a2 : Int32) (a3 : Int32) (a4 : Int32) : xM Int32 :=
  xbd (xgN 3 1 a0) fun v23 =>
  xbd (f_X3_ofLine a1 a2 (1 : Int32)) fun v24 =>
  xbd (xstL v23 v24 a3.toInt64) fun _ =>
  xbd (xgN 3 1 a0) fun v25 =>
  xbd (f_X3_ofLine a1 a2 (2 : Int32)) fun v26 =>
  xbd (xstL v25 v26 a4.toInt64) fun _ =>
  xbd (xgN 3 1 a0) fun v27 =>
  xbd (f_X3_ofOrder a1 (3 : Int32)) fun v28 =>
  xbd (xldL 1 v27 v28) fun v29 =>
  xbd (xstL v27 v28 (v29 + (1 : Int64))) fun _ =>
  xbd (f_X3_ofOrder a1 (3 : Int32)) fun v30 =>
  xbd (f_X3_at a0 v30) fun v31 =>
  xbd (f_X3_acted a0 v31) fun v32 =>
  xrt v32
def f_X3_changeLine (a0 : Nat) (a1 : Int32) (a2 : Int32) (a3 : Int32) (a4 : Int32) : xM Int32 :=
  xbd (xck 3 a0) fun _ =>
  xbd (f_X3_aside a0) fun _ =>
  xbd (f_X3_isLine a0 a1 a2) fun v33 =>
  if v33 = 0 then
    xrt (-1 : Int32)
  else
    xbd (f_X3_in a3 (1 : Int32) (999 : Int32)) fun v34 =>
    if v34 = 0 then
      xrt (-2 : Int32)
    else
      xbd (f_X3_in a4 (1 : Int32) (9999 : Int32)) fun v35 =>
      if v35 = 0 then
        xrt (-2 : Int32)
      else
        xbd (f_X3_isOpen a0 a1) fun v36 =>
        if v36 = 0 then
          xrt (-4 : Int32)
        else
          xbd (f_X3_ofLine a1 a2 (3 : Int32)) fun v37 =>
          xbd (f_X3_at a0 v37) fun v38 =>
          if a3 < v38 then
            xrt (-4 : Int32)
          else
            xbd (f_X3_ofLine a1 a2 (5 : Int32)) fun v39 =>
            xbd (f_X3_at a0 v39) fun v40 =>
            if v40 ≤ a3 then
              xbd (f_X3_ofLine a1 a2 (1 : Int32)) fun v41 =>
              xbd (f_X3_at a0 v41) fun v42 =>
              if v42 = a3 then
                xbd (f_X3_ofLine a1 a2 (2 : Int32)) fun v43 =>
                xbd (f_X3_at a0 v43) fun v44 =>
                if v44 = a4 then
                  xrt (-5 : Int32)
                else
                  f_X3_changeLine_b112 a0 a1 a2 a3 a4
              else
                f_X3_changeLine_b112 a0 a1 a2 a3 a4
            else
              xrt (-4 : Int32)
def f_X5_weight (a0 : Nat) : xM Int32 :=
  xbd (xck 5 a0) fun _ =>
  xbd (xgI 5 2 a0) fun v4 =>
  xbd (xgI 5 4 a0) fun v5 =>
  xbd (f_J21_max (0 : Int32) (v4 - v5)) fun v6 =>
  xrt v6
def f_X8_weightOf_5_b9 (rec9 : Int32 → Nat → xM Int32) (a1 : Int32) (a2 : Nat) : xM Int32 :=
  xbd (f_J10_hasNext a2) fun v5 =>
  if v5 = 0 then
    xrt a1
  else
    xbd (f_J10_next a2) fun v6 =>
    xbd (xcks [4, 5, 6, 7] v6) fun _ =>
    xbd (f_X5_weight v6) fun v7 =>
    rec9 (a1 + v7) a2
def f_X8_weightOf_5_L9 : Nat → Int32 → Nat → xM Int32
  | 0, _, _ => xno
  | n+1, a1, a2 => f_X8_weightOf_5_b9 (f_X8_weightOf_5_L9 n) a1 a2
def f_X8_weightOf_5 (a0 : Nat) : xM Int32 :=
  xbd (f_X2_iterator a0) fun v8 =>
  f_X8_weightOf_5_L9 xFU (0 : Int32) v8
def f_X6_weight (a0 : Nat) : xM Int32 :=
  xbd (xck 6 a0) fun _ =>
  xbd (xgN 6 2 a0) fun v3 =>
  xbd (f_X8_weightOf_5 v3) fun v4 =>
  xrt v4
def f_X0_setState (a0 : Nat) (a1 : Int32) (a2 : Int32) (a3 : Int32) : xM Int32 :=
  xbd (xck 0 a0) fun _ =>
  xbd (xgN 0 0 a0) fun v6 =>
  xbd (f_X1_copy v6) fun v7 =>
  xbd (xgN 1 1 v7) fun v8 =>
  xbd (f_X2_get v8 a1) fun v9 =>
  xbd (xcks [6] v9) fun _ =>
  xbd (xpt 6 3 v9 (.int a2)) fun _ =>
  xbd (f_X0_become a0 v7 a3) fun v10 =>
  xrt v10
def f_X0_close (a0 : Nat) (a1 : Int32) : xM Int32 :=
  xbd (xck 0 a0) fun _ =>
  xbd (xgN 0 0 a0) fun v10 =>
  xbd (xgN 1 1 v10) fun v11 =>
  xbd (f_X2_has v11 a1) fun v12 =>
  if v12 = 0 then
    xrt (-1 : Int32)
  else
    xbd (f_X0_isOpen a0 a1) fun v13 =>
    if v13 = 0 then
      xrt (-4 : Int32)
    else
      xbd (xgN 0 0 a0) fun v14 =>
      xbd (xgN 1 1 v14) fun v15 =>
      xbd (f_X2_get v15 a1) fun v16 =>
      xbd (xcks [6] v16) fun _ =>
      xbd (f_X6_weight v16) fun v17 =>
      xbd (f_X0_setState a0 a1 (1 : Int32) v17) fun v18 =>
      xrt v18
def f_X3_close_b88 (rec40 : Nat → Int32 → Int32 → Int32 → xM Int32) (t0 : Int32) (t1 : Int32) (a0 : Nat) (a1 : Int32) (a3 : Int32) : xM Int32 :=
  rec40 a0 a1 (t0 + t1) (a3 + (1 : Int32))
def f_X3_close_b96 (a0 : Nat) (a2 : Int32) : xM Int32 :=
  xbd (f_X3_acted a0 a2) fun v18 =>
  xrt v18
def f_X3_close_b40 (rec40 : Nat → Int32 → Int32 → Int32 → xM Int32) (a0 : Nat) (a1 : Int32) (a2 : Int32) (a3 : Int32) : xM Int32 :=
  xbd (f_X3_ofOrder a1 (1 : Int32)) fun v12 =>
  xbd (f_X3_at a0 v12) fun v13 =>
  if v13 ≤ a3 then
    f_X3_close_b96 a0 a2
  else
    xbd (f_X3_ofLine a1 a3 (1 : Int32)) fun v14 =>
    xbd (f_X3_at a0 v14) fun v15 =>
    xbd (f_X3_ofLine a1 a3 (3 : Int32)) fun v16 =>
    xbd (f_X3_at a0 v16) fun v17 =>
    if (v15 - v17) ≤ 0 then
      f_X3_close_b88 rec40 a2 (0 : Int32) a0 a1 a3
    else
      f_X3_close_b88 rec40 a2 (v15 - v17) a0 a1 a3
def f_X3_close_L40 : Nat → Nat → Int32 → Int32 → Int32 → xM Int32
  | 0, _, _, _, _ => xno
  | n+1, a0, a1, a2, a3 => f_X3_close_b40 (f_X3_close_L40 n) a0 a1 a2 a3
def f_X3_close (a0 : Nat) (a1 : Int32) : xM Int32 :=
  xbd (xck 3 a0) fun _ =>
  xbd (f_X3_aside a0) fun _ =>
  xbd (f_X3_isOrder a0 a1) fun v19 =>
  if v19 = 0 then
    xrt (-1 : Int32)
  else
    xbd (f_X3_isOpen a0 a1) fun v20 =>
    if v20 = 0 then
      xrt (-4 : Int32)
    else
      xbd (xgN 3 1 a0) fun v21 =>
      xbd (f_X3_ofOrder a1 (2 : Int32)) fun v22 =>
      xbd (xstL v21 v22 (1 : Int64)) fun _ =>
      f_X3_close_L40 xFU a0 a1 (0 : Int32) (0 : Int32)
def f_X5_isUsed (a0 : Nat) : xM Int32 :=
  xbd (xck 5 a0) fun _ =>
  xbd (xgI 5 4 a0) fun v4 =>
  if 0 < v4 then
    xrtZ (1 : Int32)
  else
    xbd (xgI 5 6 a0) fun v5 =>
    if 0 < v5 then
      xrtZ (1 : Int32)
    else
      xbd (xgI 5 7 a0) fun v6 =>
      if v6 ≤ 0 then
        xrtZ (0 : Int32)
      else
        xrtZ (1 : Int32)
def f_X6_isUsed_b45 (rec10 : Int32 → Nat → xM Int32) (t0 : Int32) (a2 : Nat) : xM Int32 :=
  rec10 t0 a2
def f_X6_isUsed_b40 (rec10 : Int32 → Nat → xM Int32) (a2 : Nat) : xM Int32 :=
  f_X6_isUsed_b45 rec10 (1 : Int32) a2
def f_X6_isUsed_b10 (rec10 : Int32 → Nat → xM Int32) (a1 : Int32) (a2 : Nat) : xM Int32 :=
  xbd (f_J10_hasNext a2) fun v6 =>
  if v6 = 0 then
    xrtZ a1
  else
    xbd (f_J10_next a2) fun v7 =>
    xbd (xcks [5] v7) fun _ =>
    if a1 = 0 then
      xbd (f_X5_isUsed v7) fun v8 =>
      if v8 = 0 then
        f_X6_isUsed_b45 rec10 (0 : Int32) a2
      else
        f_X6_isUsed_b40 rec10 a2
    else
      f_X6_isUsed_b40 rec10 a2
def f_X6_isUsed_L10 : Nat → Int32 → Nat → xM Int32
  | 0, _, _ => xno
  | n+1, a1, a2 => f_X6_isUsed_b10 (f_X6_isUsed_L10 n) a1 a2
def f_X6_isUsed (a0 : Nat) : xM Int32 :=
  xbd (xck 6 a0) fun _ =>
  xbd (xgN 6 2 a0) fun v9 =>
  xbd (f_X2_iterator v9) fun v10 =>
  f_X6_isUsed_L10 xFU (0 : Int32) v10
def f_X0_cancel (a0 : Nat) (a1 : Int32) : xM Int32 :=
  xbd (xck 0 a0) fun _ =>
  xbd (xgN 0 0 a0) fun v12 =>
  xbd (xgN 1 1 v12) fun v13 =>
  xbd (f_X2_has v13 a1) fun v14 =>
  if v14 = 0 then
    xrt (-1 : Int32)
  else
    xbd (xgN 0 0 a0) fun v15 =>
    xbd (xgN 1 1 v15) fun v16 =>
    xbd (f_X2_get v16 a1) fun v17 =>
    xbd (xcks [6] v17) fun _ =>
    xbd (f_X0_isOpen a0 a1) fun v18 =>
    if v18 = 0 then
      xrt (-4 : Int32)
    else
      xbd (f_X6_isUsed v17) fun v19 =>
      if v19 = 0 then
        xbd (xgN 6 2 v17) fun v20 =>
        xbd (f_X2_size v20) fun v21 =>
        xbd (f_X0_setState a0 a1 (2 : Int32) v21) fun v22 =>
        xrt v22
      else
        xrt (-4 : Int32)
def f_X3_cancel_b73 (a0 : Nat) (a1 : Int32) (a2 : Int32) : xM Int32 :=
  xbd (f_X3_isOpen a0 a1) fun v24 =>
  if v24 = 0 then
    xrt (-4 : Int32)
  else
    if a2 ≤ 0 then
      xbd (xgN 3 1 a0) fun v25 =>
      xbd (f_X3_ofOrder a1 (2 : Int32)) fun v26 =>
      xbd (xstL v25 v26 (2 : Int64)) fun _ =>
      xbd (f_X3_ofOrder a1 (1 : Int32)) fun v27 =>
      xbd (f_X3_at a0 v27) fun v28 =>
      xbd (f_X3_acted a0 v28) fun v29 =>
      xrt v29
    else
      xrt (-4 : Int32)
def f_X3_cancel_b18 (rec18 : Nat → Int32 → Int32 → Int32 → xM Int32) (a0 : Nat) (a1 : Int32) (a2 : Int32) (a3 : Int32) : xM Int32 :=
  xbd (f_X3_ofOrder a1 (1 : Int32)) fun v16 =>
  xbd (f_X3_at a0 v16) fun v17 =>
  if v17 ≤ a3 then
    f_X3_cancel_b73 a0 a1 a2
  else
    xbd (f_X3_ofLine a1 a3 (3 : Int32)) fun v18 =>
    xbd (f_X3_at a0 v18) fun v19 =>
    xbd (f_X3_ofLine a1 a3 (5 : Int32)) fun v20 =>
    xbd (f_X3_at a0 v20) fun v21 =>
    xbd (f_X3_ofLine a1 a3 (6 : Int32)) fun v22 =>
    xbd (f_X3_at a0 v22) fun v23 =>
    rec18 a0 a1 (a2 + ((v19 + v21) + v23)) (a3 + (1 : Int32))
def f_X3_cancel_L18 : Nat → Nat → Int32 → Int32 → Int32 → xM Int32
  | 0, _, _, _, _ => xno
  | n+1, a0, a1, a2, a3 => f_X3_cancel_b18 (f_X3_cancel_L18 n) a0 a1 a2 a3
def f_X3_cancel (a0 : Nat) (a1 : Int32) : xM Int32 :=
  xbd (xck 3 a0) fun _ =>
  xbd (f_X3_aside a0) fun _ =>
  xbd (f_X3_isOrder a0 a1) fun v30 =>
  if v30 = 0 then
    xrt (-1 : Int32)
  else
    f_X3_cancel_L18 xFU a0 a1 (0 : Int32) (0 : Int32)
def f_X1_supplierOf (a0 : Nat) (a1 : Int32) : xM Nat :=
  xbd (xck 1 a0) fun _ =>
  xbd (xgN 1 0 a0) fun v6 =>
  xbd (xgN 1 1 a0) fun v7 =>
  xbd (f_X2_get v7 a1) fun v8 =>
  xbd (xcks [6] v8) fun _ =>
  xbd (xgI 6 1 v8) fun v9 =>
  xbd (f_X2_get v6 v9) fun v10 =>
  xbd (xcks [7] v10) fun _ =>
  xrt v10
def f_X7_with (a0 : Nat) (a1 : Int32) : xM Int32 :=
  xbd (xck 7 a0) fun _ =>
  xbd (xgD 7 2 a0) fun v2 =>
  xbd (xdb (FP.ddiv v2 (4636737291354636288 : UInt64))) fun _ =>
  xbd (xdb (FP.dadd FP.dconst1 (FP.ddiv v2 (4636737291354636288 : UInt64)))) fun _ =>
  xbd (xdb (FP.dmul (FP.i2d a1) (FP.dadd FP.dconst1 (FP.ddiv v2 (4636737291354636288 : UInt64))))) fun _ =>
  xrt (FP.d2i (FP.dmul (FP.i2d a1) (FP.dadd FP.dconst1 (FP.ddiv v2 (4636737291354636288 : UInt64)))))
def f_X0_roomOf (a0 : Nat) (a1 : Int32) (a2 : Int32) : xM Int32 :=
  xbd (xck 0 a0) fun _ =>
  xbd (xgN 0 0 a0) fun v10 =>
  xbd (f_X1_supplierOf v10 a1) fun v11 =>
  xbd (xgN 0 0 a0) fun v12 =>
  xbd (f_X1_line v12 a1 a2) fun v13 =>
  xbd (xgI 5 2 v13) fun v14 =>
  xbd (f_X7_with v11 v14) fun v15 =>
  xbd (xgN 0 0 a0) fun v16 =>
  xbd (f_X1_line v16 a1 a2) fun v17 =>
  xbd (xgI 5 4 v17) fun v18 =>
  xrt (v15 - v18)
def f_X9_init (a0 : Nat) (a1 : Int32) (a2 : Int32) (a3 : Int32) (a4 : Int32) : xM Unit :=
  xbd (xpt 8 0 a0 (.int a1)) fun _ =>
  xbd (xpt 8 1 a0 (.int a2)) fun _ =>
  xbd (xpt 8 2 a0 (.int a3)) fun _ =>
  xbd (xpt 8 3 a0 (.int a4)) fun _ =>
  xrt ()
def f_J4_linkFirst_b38 (a0 : Nat) : xM Unit :=
  xbd (xgI 13 1 a0) fun v14 =>
  xbd (xpt 13 1 a0 (.int (v14 + (1 : Int32)))) fun _ =>
  xbd (xgI 13 0 a0) fun v15 =>
  xbd (xpt 13 0 a0 (.int (v15 + (1 : Int32)))) fun _ =>
  xrt ()
def f_J4_linkFirst (a0 : Nat) (a1 : Nat) : xM Unit :=
  xbd (xck 13 a0) fun _ =>
  xbd (xgQ 13 2 a0) fun ov16 =>
  match ov16 with
  | none =>
    xbd (xnw 18 [.null, .null, .null]) fun v17 =>
    xbd (f_J24_init v17 none a1 none) fun _ =>
    xbd (xpt 13 2 a0 (.ref v17)) fun _ =>
    xbd (xpt 13 3 a0 (.ref v17)) fun _ =>
    f_J4_linkFirst_b38 a0
  | some v16 =>
    xbd (xnw 18 [.null, .null, .null]) fun v18 =>
    xbd (f_J24_init v18 none a1 (some v16)) fun _ =>
    xbd (xpt 13 2 a0 (.ref v18)) fun _ =>
    xbd (xpt 18 2 v16 (.ref v18)) fun _ =>
    f_J4_linkFirst_b38 a0
def f_J4_addFirst (a0 : Nat) (a1 : Nat) : xM Unit :=
  xbd (xck 13 a0) fun _ =>
  xbd (f_J4_linkFirst a0 a1) fun _ =>
  xrt ()
def f_J4_size (a0 : Nat) : xM Int32 :=
  xbd (xck 13 a0) fun _ =>
  xbd (xgI 13 1 a0) fun v2 =>
  xrt v2
def f_J4_unlinkLast_b42 (a0 : Nat) (a2 : Nat) : xM Nat :=
  xbd (xgI 13 1 a0) fun v11 =>
  xbd (xpt 13 1 a0 (.int (v11 - (1 : Int32)))) fun _ =>
  xbd (xgI 13 0 a0) fun v12 =>
  xbd (xpt 13 0 a0 (.int (v12 + (1 : Int32)))) fun _ =>
  xrt a2
def f_J4_unlinkLast (a0 : Nat) (a1 : Nat) : xM Nat :=
  xbd (xck 13 a0) fun _ =>
  xbd (xgN 18 0 a1) fun v13 =>
  xbd (xgQ 18 2 a1) fun ov14 =>
  match ov14 with
  | none =>
    xbd (xpt 18 0 a1 (.null)) fun _ =>
    xbd (xpt 18 2 a1 (.null)) fun _ =>
    xbd (xpt 13 3 a0 (.null)) fun _ =>
    xbd (xpt 13 2 a0 (.null)) fun _ =>
    f_J4_unlinkLast_b42 a0 v13
  | some v14 =>
    xbd (xpt 18 0 a1 (.null)) fun _ =>
    xbd (xpt 18 2 a1 (.null)) fun _ =>
    xbd (xpt 13 3 a0 (.ref v14)) fun _ =>
    xbd (xpt 18 1 v14 (.null)) fun _ =>
    f_J4_unlinkLast_b42 a0 v13
def f_J4_removeLast (a0 : Nat) : xM Nat :=
  xbd (xck 13 a0) fun _ =>
  xbd (xgQ 13 3 a0) fun ov6 =>
  match ov6 with
  | none =>
    xno
  | some v6 =>
    xbd (f_J4_unlinkLast a0 v6) fun v7 =>
    xrt v7
def f_X1_tell (a0 : Nat) (a1 : Int32) (a2 : Int32) (a3 : Int32) : xM Unit :=
  xbd (xck 1 a0) fun _ =>
  xbd (xgN 1 3 a0) fun v8 =>
  xbd (xnw 8 [.int 0, .int 0, .int 0, .int 0]) fun v9 =>
  xbd (xgI 1 7 a0) fun v10 =>
  xbd (f_X9_init v9 a1 a2 a3 v10) fun _ =>
  xbd (f_J4_addFirst v8 v9) fun _ =>
  xbd (xgN 1 3 a0) fun v11 =>
  xbd (f_J4_size v11) fun v12 =>
  if v12 ≤ (10 : Int32) then
    xrt ()
  else
    xbd (xgN 1 3 a0) fun v13 =>
    xbd (f_J4_removeLast v13) fun v14 =>
    xrt ()
def f_X1_receive (a0 : Nat) (a1 : Int32) (a2 : Int32) (a3 : Int32) (a4 : Int32) : xM Int32 :=
  xbd (xck 1 a0) fun _ =>
  xbd (f_X1_line a0 a1 a2) fun v5 =>
  xbd (xgI 5 4 v5) fun v6 =>
  xbd (xpt 5 4 v5 (.int (v6 + a3))) fun _ =>
  xbd (xgI 5 5 v5) fun v7 =>
  xbd (xpt 5 5 v5 (.int (v7 + a4))) fun _ =>
  xbd (f_X1_tell a0 (0 : Int32) a1 a3) fun _ =>
  xbd (xgI 5 4 v5) fun v8 =>
  xrt v8
def f_X0_receive_b72 (a0 : Nat) (a1 : Int32) (a2 : Int32) (a3 : Int32) (a4 : Int32) : xM Int32 :=
  xbd (xgN 0 0 a0) fun v11 =>
  xbd (f_X1_copy v11) fun v12 =>
  xbd (f_X1_receive v12 a1 a2 a3 a4) fun v13 =>
  xbd (f_X0_become a0 v12 v13) fun v14 =>
  xrt v14
def f_X0_receive (a0 : Nat) (a1 : Int32) (a2 : Int32) (a3 : Int32) (a4 : Int32) : xM Int32 :=
  xbd (xck 0 a0) fun _ =>
  xbd (xgN 0 0 a0) fun v15 =>
  xbd (f_X1_hasLine v15 a1 a2) fun v16 =>
  if v16 = 0 then
    xrt (-1 : Int32)
  else
    xbd (f_X0_inRange a3 (0 : Int32) (999 : Int32)) fun v17 =>
    if v17 = 0 then
      xrt (-2 : Int32)
    else
      xbd (f_X0_inRange a4 (0 : Int32) (999 : Int32)) fun v18 =>
      if v18 = 0 then
        xrt (-2 : Int32)
      else
        if (a3 + a4) = 0 then
          xrt (-2 : Int32)
        else
          xbd (f_X0_isOpen a0 a1) fun v19 =>
          if v19 = 0 then
            xrt (-4 : Int32)
          else
            if a3 ≤ 0 then
              f_X0_receive_b72 a0 a1 a2 a3 a4
            else
              xbd (f_X0_roomOf a0 a1 a2) fun v20 =>
              if a3 ≤ v20 then
                f_X0_receive_b72 a0 a1 a2 a3 a4
              else
                xrt (-4 : Int32)
def f_X3_real (a0 : Nat) (a1 : Int32) : xM UInt64 :=
  xbd (xck 3 a0) fun _ =>
  xbd (xgN 3 1 a0) fun v3 =>
  xbd (xldL 1 v3 a1) fun v4 =>
  xbd (xl2d v4) fun _ =>
  xrt v4.toUInt64
def f_X3_stretched (a0 : Nat) (a1 : Int32) (a2 : Int32) : xM Int32 :=
  xbd (xck 3 a0) fun _ =>
  xbd (f_X3_whose a0 a1) fun v4 =>
  xbd (f_X3_ofSupplier v4 (1 : Int32)) fun v5 =>
  xbd (f_X3_real a0 v5) fun v6 =>
  xbd (xdb (FP.ddiv v6 (4636737291354636288 : UInt64))) fun _ =>
  xbd (xdb (FP.dadd FP.dconst1 (FP.ddiv v6 (4636737291354636288 : UInt64)))) fun _ =>
  xbd (xdb (FP.dmul (FP.i2d a2) (FP.dadd FP.dconst1 (FP.ddiv v6 (4636737291354636288 : UInt64))))) fun _ =>
  xrt (FP.d2i (FP.dmul (FP.i2d a2) (FP.dadd FP.dconst1 (FP.ddiv v6 (4636737291354636288 : UInt64)))))
def f_X3_takesMost (a0 : Nat) (a1 : Int32) (a2 : Int32) : xM Int32 :=
  xbd (xck 3 a0) fun _ =>
  xbd (f_X3_ofLine a1 a2 (1 : Int32)) fun v4 =>
  xbd (f_X3_at a0 v4) fun v5 =>
  xbd (f_X3_stretched a0 a1 v5) fun v6 =>
  xrt v6
def f_X3_log_b40 (a0 : Nat) (a1 : Int32) (a2 : Int32) (a3 : Int32) : xM Unit :=
  xbd (xgN 3 1 a0) fun v15 =>
  xbd (xstL v15 (1371 : Int32) a1.toInt64) fun _ =>
  xbd (xgN 3 1 a0) fun v16 =>
  xbd (xstL v16 (1372 : Int32) a2.toInt64) fun _ =>
  xbd (xgN 3 1 a0) fun v17 =>
  xbd (xstL v17 (1373 : Int32) a3.toInt64) fun _ =>
  xbd (xgN 3 1 a0) fun v18 =>
  xbd (xgN 3 1 a0) fun v19 =>
  xbd (xldL 1 v19 (0 : Int32)) fun v20 =>
  xbd (xstL v18 (1374 : Int32) v20) fun _ =>
  xbd (xgN 3 1 a0) fun v21 =>
  xbd (xldL 1 v21 (10 : Int32)) fun v22 =>
  xbd (xstL v21 (10 : Int32) (v22 + (1 : Int64))) fun _ =>
  xrt ()
def f_X3_log_b4 (rec4 : Nat → Int32 → Int32 → Int32 → Int32 → xM Unit) (a0 : Nat) (a1 : Int32) (a2 : Int32) (a3 : Int32) (a4 : Int32) : xM Unit :=
  if a4 ≤ (3 : Int32) then
    f_X3_log_b40 a0 a1 a2 a3
  else
    xbd (xgN 3 1 a0) fun v12 =>
    xbd (xgN 3 1 a0) fun v13 =>
    xbd (xldL 1 v13 (((1371 : Int32) + a4) - (4 : Int32))) fun v14 =>
    xbd (xstL v12 ((1371 : Int32) + a4) v14) fun _ =>
    rec4 a0 a1 a2 a3 (a4 - (1 : Int32))
def f_X3_log_L4 : Nat → Nat → Int32 → Int32 → Int32 → Int32 → xM Unit
  | 0, _, _, _, _, _ => xno
  | n+1, a0, a1, a2, a3, a4 => f_X3_log_b4 (f_X3_log_L4 n) a0 a1 a2 a3 a4
def f_X3_log (a0 : Nat) (a1 : Int32) (a2 : Int32) (a3 : Int32) : xM Unit :=
  xbd (xck 3 a0) fun _ =>
  f_X3_log_L4 xFU a0 a1 a2 a3 (39 : Int32)
def f_X3_receive_b84 (a0 : Nat) (a1 : Int32) (a2 : Int32) (a3 : Int32) (a4 : Int32) : xM Int32 :=
  xbd (xgN 3 1 a0) fun v17 =>
  xbd (f_X3_ofLine a1 a2 (3 : Int32)) fun v18 =>
  xbd (xldL 1 v17 v18) fun v19 =>
  xbd (xstL v17 v18 (v19 + a3.toInt64)) fun _ =>
  xbd (xgN 3 1 a0) fun v20 =>
  xbd (f_X3_ofLine a1 a2 (4 : Int32)) fun v21 =>
  xbd (xldL 1 v20 v21) fun v22 =>
  xbd (xstL v20 v21 (v22 + a4.toInt64)) fun _ =>
  xbd (f_X3_log a0 (0 : Int32) a1 a3) fun _ =>
  xbd (f_X3_ofLine a1 a2 (3 : Int32)) fun v23 =>
  xbd (f_X3_at a0 v23) fun v24 =>
  xbd (f_X3_acted a0 v24) fun v25 =>
  xrt v25
def f_X3_receive (a0 : Nat) (a1 : Int32) (a2 : Int32) (a3 : Int32) (a4 : Int32) : xM Int32 :=
  xbd (xck 3 a0) fun _ =>
  xbd (f_X3_aside a0) fun _ =>
  xbd (f_X3_isLine a0 a1 a2) fun v26 =>
  if v26 = 0 then
    xrt (-1 : Int32)
  else
    xbd (f_X3_in a3 (0 : Int32) (999 : Int32)) fun v27 =>
    if v27 = 0 then
      xrt (-2 : Int32)
    else
      xbd (f_X3_in a4 (0 : Int32) (999 : Int32)) fun v28 =>
      if v28 = 0 then
        xrt (-2 : Int32)
      else
        if (a3 + a4) = 0 then
          xrt (-2 : Int32)
        else
          xbd (f_X3_isOpen a0 a1) fun v29 =>
          if v29 = 0 then
            xrt (-4 : Int32)
          else
            if a3 ≤ 0 then
              f_X3_receive_b84 a0 a1 a2 a3 a4
            else
              xbd (f_X3_ofLine a1 a2 (3 : Int32)) fun v30 =>
              xbd (f_X3_at a0 v30) fun v31 =>
              xbd (f_X3_takesMost a0 a1 a2) fun v32 =>
              if (v31 + a3) ≤ v32 then
                f_X3_receive_b84 a0 a1 a2 a3 a4
              else
                xrt (-4 : Int32)
def f_X5_claim (a0 : Nat) (a1 : Int32) : xM Int32 :=
  xbd (xck 5 a0) fun _ =>
  xbd (xgI 5 7 a0) fun v6 =>
  xbd (xgI 5 8 a0) fun v7 =>
  xbd (f_J21_max (0 : Int32) ((v6 - a1) - v7)) fun v8 =>
  xbd (xgI 5 8 a0) fun v9 =>
  xbd (xpt 5 8 a0 (.int (v9 + v8))) fun _ =>
  xbd (xgI 5 3 a0) fun v10 =>
  xrt (v8 * v10)
def f_X1_claim (a0 : Nat) (a1 : Nat) (a2 : Nat) : xM Int32 :=
  xbd (xck 1 a0) fun _ =>
  xbd (xgI 5 4 a2) fun v5 =>
  xbd (f_X7_with a1 v5) fun v6 =>
  xbd (f_X5_claim a2 v6) fun v7 =>
  xbd (xgI 7 4 a1) fun v8 =>
  xbd (xpt 7 4 a1 (.int (v8 + v7))) fun _ =>
  xrt v7
def f_X1_giveBack (a0 : Nat) (a1 : Int32) (a2 : Int32) (a3 : Int32) : xM Int32 :=
  xbd (xck 1 a0) fun _ =>
  xbd (f_X1_line a0 a1 a2) fun v5 =>
  xbd (xgI 5 4 v5) fun v6 =>
  xbd (xpt 5 4 v5 (.int (v6 - a3))) fun _ =>
  xbd (f_X1_tell a0 (1 : Int32) a1 a3) fun _ =>
  xbd (f_X1_supplierOf a0 a1) fun v7 =>
  xbd (f_X1_claim a0 v7 v5) fun v8 =>
  xrt v8
def f_X0_giveBack (a0 : Nat) (a1 : Int32) (a2 : Int32) (a3 : Int32) : xM Int32 :=
  xbd (xck 0 a0) fun _ =>
  xbd (xgN 0 0 a0) fun v11 =>
  xbd (f_X1_hasLine v11 a1 a2) fun v12 =>
  if v12 = 0 then
    xrt (-1 : Int32)
  else
    xbd (f_X0_areUnits a3) fun v13 =>
    if v13 = 0 then
      xrt (-2 : Int32)
    else
      xbd (xgN 0 0 a0) fun v14 =>
      xbd (f_X1_line v14 a1 a2) fun v15 =>
      xbd (xgI 5 4 v15) fun v16 =>
      if a3 ≤ v16 then
        xbd (xgN 0 0 a0) fun v17 =>
        xbd (f_X1_copy v17) fun v18 =>
        xbd (f_X1_giveBack v18 a1 a2 a3) fun v19 =>
        xbd (f_X0_become a0 v18 v19) fun v20 =>
        xrt v20
      else
        xrt (-4 : Int32)
def f_X3_billsMost (a0 : Nat) (a1 : Int32) (a2 : Int32) : xM Int32 :=
  xbd (xck 3 a0) fun _ =>
  xbd (f_X3_ofLine a1 a2 (3 : Int32)) fun v4 =>
  xbd (f_X3_at a0 v4) fun v5 =>
  xbd (f_X3_stretched a0 a1 v5) fun v6 =>
  xrt v6
def f_X3_claims (a0 : Nat) (a1 : Int32) (a2 : Int32) : xM Int32 :=
  xbd (xck 3 a0) fun _ =>
  xbd (f_X3_ofLine a1 a2 (6 : Int32)) fun v15 =>
  xbd (f_X3_at a0 v15) fun v16 =>
  xbd (f_X3_ofLine a1 a2 (7 : Int32)) fun v17 =>
  xbd (f_X3_at a0 v17) fun v18 =>
  xbd (f_X3_billsMost a0 a1 a2) fun v19 =>
  if 0 < ((v16 - v18) - v19) then
    xbd (f_X3_ofLine a1 a2 (2 : Int32)) fun v20 =>
    xbd (f_X3_at a0 v20) fun v21 =>
    xbd (xgN 3 1 a0) fun v22 =>
    xbd (f_X3_ofLine a1 a2 (7 : Int32)) fun v23 =>
    xbd (xldL 1 v22 v23) fun v24 =>
    xbd (xstL v22 v23 (v24 + (((v16 - v18) - v19).toInt64))) fun _ =>
    xbd (xgN 3 1 a0) fun v25 =>
    xbd (f_X3_whose a0 a1) fun v26 =>
    xbd (f_X3_ofSupplier v26 (3 : Int32)) fun v27 =>
    xbd (xldL 1 v25 v27) fun v28 =>
    xbd (xstL v25 v27 (v28 + ((((v16 - v18) - v19) * v21).toInt64))) fun _ =>
    xrt (((v16 - v18) - v19) * v21)
  else
    xrt (0 : Int32)
def f_X3_giveBack (a0 : Nat) (a1 : Int32) (a2 : Int32) (a3 : Int32) : xM Int32 :=
  xbd (xck 3 a0) fun _ =>
  xbd (f_X3_aside a0) fun _ =>
  xbd (f_X3_isLine a0 a1 a2) fun v10 =>
  if v10 = 0 then
    xrt (-1 : Int32)
  else
    xbd (f_X3_in a3 (1 : Int32) (999 : Int32)) fun v11 =>
    if v11 = 0 then
      xrt (-2 : Int32)
    else
      xbd (f_X3_ofLine a1 a2 (3 : Int32)) fun v12 =>
      xbd (f_X3_at a0 v12) fun v13 =>
      if a3 ≤ v13 then
        xbd (xgN 3 1 a0) fun v14 =>
        xbd (f_X3_ofLine a1 a2 (3 : Int32)) fun v15 =>
        xbd (xldL 1 v14 v15) fun v16 =>
        xbd (xstL v14 v15 (v16 - a3.toInt64)) fun _ =>
        xbd (f_X3_claims a0 a1 a2) fun v17 =>
        xbd (f_X3_log a0 (1 : Int32) a1 a3) fun _ =>
        xbd (f_X3_acted a0 v17) fun v18 =>
        xrt v18
      else
        xrt (-4 : Int32)
def f_X10_init (a0 : Nat) (a1 : Int32) (a2 : Int32) (a3 : Int32) : xM Unit :=
  xbd (xpt 9 0 a0 (.int a1)) fun _ =>
  xbd (xpt 9 1 a0 (.int a2)) fun _ =>
  xbd (xpt 9 2 a0 (.int a3)) fun _ =>
  xrt ()
def f_X10_amount (a0 : Nat) : xM Int32 :=
  xbd (xck 9 a0) fun _ =>
  xbd (xgI 9 1 a0) fun v3 =>
  xbd (xgI 9 2 a0) fun v4 =>
  xrt (v3 * v4)
def f_X4_total_b4 (rec4 : Nat → Int32 → Int32 → xM Int32) (a0 : Nat) (a1 : Int32) (a2 : Int32) : xM Int32 :=
  xbd (xgN 4 4 a0) fun v6 =>
  xbd (xln v6) fun v7 =>
  if v7 ≤ a2 then
    xrt a1
  else
    xbd (xgN 4 4 a0) fun v8 =>
    xbd (xldN 4 v8 a2) fun v9 =>
    xbd (f_X10_amount v9) fun v10 =>
    rec4 a0 (a1 + v10) (a2 + (1 : Int32))
def f_X4_total_L4 : Nat → Nat → Int32 → Int32 → xM Int32
  | 0, _, _, _ => xno
  | n+1, a0, a1, a2 => f_X4_total_b4 (f_X4_total_L4 n) a0 a1 a2
def f_X4_total (a0 : Nat) : xM Int32 :=
  xbd (xck 4 a0) fun _ =>
  f_X4_total_L4 xFU a0 (0 : Int32) (0 : Int32)
def f_X1_enter (a0 : Nat) (a1 : Int32) (a2 : Int32) (a3 : Nat) : xM Int32 :=
  xbd (xck 1 a0) fun _ =>
  xbd (xgN 1 2 a0) fun v10 =>
  xbd (xnw 4 [.int 0, .int 0, .int 0, .int 0, .null, .int 0, .int 0, .int 0, .int 0, .int 0, .int 0, .int 0, .int 0]) fun v11 =>
  xbd (xgN 1 2 a0) fun v12 =>
  xbd (f_X2_size v12) fun v13 =>
  xbd (xgI 1 7 a0) fun v14 =>
  xbd (f_X4_init v11 v13 a1 a2 v14 a3) fun _ =>
  xbd (f_X2_add v10 v11) fun v15 =>
  xbd (xcks [4] v15) fun _ =>
  xbd (xgI 4 0 v15) fun v16 =>
  xbd (f_X4_total v15) fun v17 =>
  xbd (f_X1_tell a0 (2 : Int32) v16 v17) fun _ =>
  xbd (xgI 4 0 v15) fun v18 =>
  xrt v18
def f_X0_enter (a0 : Nat) (a1 : Int32) (a2 : Int32) (a3 : Nat) : xM Int32 :=
  xbd (xck 0 a0) fun _ =>
  xbd (xgN 0 0 a0) fun v8 =>
  xbd (xgN 1 2 v8) fun v9 =>
  xbd (f_X2_size v9) fun v10 =>
  if v10 = (24 : Int32) then
    xrt (-3 : Int32)
  else
    xbd (xgN 0 0 a0) fun v11 =>
    xbd (f_X1_copy v11) fun v12 =>
    xbd (f_X1_enter v12 a1 a2 a3) fun v13 =>
    xbd (f_X0_become a0 v12 v13) fun v14 =>
    xrt v14
def f_X0_bill (a0 : Nat) (a1 : Int32) (a2 : Int32) (a3 : Int32) (a4 : Int32) (a5 : Int32) : xM Int32 :=
  xbd (xck 0 a0) fun _ =>
  xbd (xgN 0 0 a0) fun v9 =>
  xbd (f_X1_hasLine v9 a2 a3) fun v10 =>
  if v10 = 0 then
    xrt (-1 : Int32)
  else
    xbd (f_X0_inRange a1 (0 : Int32) (999 : Int32)) fun v11 =>
    if v11 = 0 then
      xrt (-2 : Int32)
    else
      xbd (f_X0_areUnits a4) fun v12 =>
      if v12 = 0 then
        xrt (-2 : Int32)
      else
        xbd (f_X0_isPrice a5) fun v13 =>
        if v13 = 0 then
          xrt (-2 : Int32)
        else
          xbd (xna 4 xzR (1 : Int32)) fun v14 =>
          xbd (xnw 9 [.int 0, .int 0, .int 0]) fun v15 =>
          xbd (f_X10_init v15 a3 a4 a5) fun _ =>
          xbd (xstR 4 v14 (0 : Int32) v15) fun _ =>
          xbd (f_X0_enter a0 a1 a2 v14) fun v16 =>
          xrt v16
def f_X3_begins_b105 (a0 : Nat) (a3 : Int32) : xM Int32 :=
  xbd (xgN 3 1 a0) fun v28 =>
  xbd (xldL 1 v28 (3 : Int32)) fun v29 =>
  xbd (xstL v28 (3 : Int32) (v29 + (1 : Int64))) fun _ =>
  xrt a3
def f_X3_begins_b78 (rec78 : Nat → Int32 → Int32 → xM Int32) (a0 : Nat) (a3 : Int32) (a4 : Int32) : xM Int32 :=
  if (9 : Int32) < a4 then
    f_X3_begins_b105 a0 a3
  else
    xbd (xgN 3 1 a0) fun v26 =>
    xbd (f_X3_ofInvoice a3 a4) fun v27 =>
    xbd (xstL v26 v27 (-5 : Int64)) fun _ =>
    rec78 a0 a3 (a4 + (1 : Int32))
def f_X3_begins_L78 : Nat → Nat → Int32 → Int32 → xM Int32
  | 0, _, _, _ => xno
  | n+1, a0, a3, a4 => f_X3_begins_b78 (f_X3_begins_L78 n) a0 a3 a4
def f_X3_begins_b34 (a0 : Nat) (a1 : Int32) (a2 : Int32) (a3 : Int32) : xM Int32 :=
  xbd (xgN 3 1 a0) fun v18 =>
  xbd (f_X3_ofInvoice a3 (0 : Int32)) fun v19 =>
  xbd (xstL v18 v19 a1.toInt64) fun _ =>
  xbd (xgN 3 1 a0) fun v20 =>
  xbd (f_X3_ofInvoice a3 (1 : Int32)) fun v21 =>
  xbd (xstL v20 v21 a2.toInt64) fun _ =>
  xbd (xgN 3 1 a0) fun v22 =>
  xbd (f_X3_ofInvoice a3 (2 : Int32)) fun v23 =>
  xbd (xgN 3 1 a0) fun v24 =>
  xbd (xldL 1 v24 (0 : Int32)) fun v25 =>
  xbd (xstL v22 v23 v25) fun _ =>
  f_X3_begins_L78 xFU a0 a3 (6 : Int32)
def f_X3_begins_b9 (rec9 : Nat → Int32 → Int32 → Int32 → Int32 → xM Int32) (a0 : Nat) (a1 : Int32) (a2 : Int32) (a3 : Int32) (a4 : Int32) : xM Int32 :=
  if (29 : Int32) ≤ a4 then
    f_X3_begins_b34 a0 a1 a2 a3
  else
    xbd (xgN 3 1 a0) fun v16 =>
    xbd (f_X3_ofInvoice a3 a4) fun v17 =>
    xbd (xstL v16 v17 (0 : Int64)) fun _ =>
    rec9 a0 a1 a2 a3 (a4 + (1 : Int32))
def f_X3_begins_L9 : Nat → Nat → Int32 → Int32 → Int32 → Int32 → xM Int32
  | 0, _, _, _, _, _ => xno
  | n+1, a0, a1, a2, a3, a4 => f_X3_begins_b9 (f_X3_begins_L9 n) a0 a1 a2 a3 a4
def f_X3_begins (a0 : Nat) (a1 : Int32) (a2 : Int32) : xM Int32 :=
  xbd (xck 3 a0) fun _ =>
  xbd (f_X3_at a0 (3 : Int32)) fun v30 =>
  f_X3_begins_L9 xFU a0 a1 a2 v30 (0 : Int32)
def f_X3_adds (a0 : Nat) (a1 : Int32) (a2 : Int32) (a3 : Int32) (a4 : Int32) : xM Unit :=
  xbd (xck 3 a0) fun _ =>
  xbd (f_X3_ofInvoice a1 (11 : Int32)) fun v10 =>
  xbd (f_X3_ofInvoice a1 (3 : Int32)) fun v11 =>
  xbd (f_X3_at a0 v11) fun v12 =>
  xbd (xgN 3 1 a0) fun v13 =>
  xbd (xstL v13 (v10 + ((3 : Int32) * v12)) a2.toInt64) fun _ =>
  xbd (xgN 3 1 a0) fun v14 =>
  xbd (xstL v14 ((v10 + ((3 : Int32) * v12)) + (1 : Int32)) a3.toInt64) fun _ =>
  xbd (xgN 3 1 a0) fun v15 =>
  xbd (xstL v15 ((v10 + ((3 : Int32) * v12)) + (2 : Int32)) a4.toInt64) fun _ =>
  xbd (xgN 3 1 a0) fun v16 =>
  xbd (f_X3_ofInvoice a1 (3 : Int32)) fun v17 =>
  xbd (xldL 1 v16 v17) fun v18 =>
  xbd (xstL v16 v17 (v18 + (1 : Int64))) fun _ =>
  xrt ()
def f_X3_entryOf (a0 : Nat) (a1 : Int32) (a2 : Int32) (a3 : Int32) : xM Int32 :=
  xbd (xck 3 a0) fun _ =>
  xbd (f_X3_ofInvoice a1 (11 : Int32)) fun v3 =>
  xbd (f_X3_at a0 ((v3 + ((3 : Int32) * a2)) + a3)) fun v4 =>
  xrt v4
def f_X3_total_b4 (rec4 : Nat → Int32 → Int32 → Int32 → xM Int32) (a0 : Nat) (a1 : Int32) (a2 : Int32) (a3 : Int32) : xM Int32 :=
  xbd (f_X3_ofInvoice a1 (3 : Int32)) fun v5 =>
  xbd (f_X3_at a0 v5) fun v6 =>
  if v6 ≤ a3 then
    xrt a2
  else
    xbd (f_X3_entryOf a0 a1 a3 (1 : Int32)) fun v7 =>
    xbd (f_X3_entryOf a0 a1 a3 (2 : Int32)) fun v8 =>
    rec4 a0 a1 (a2 + (v7 * v8)) (a3 + (1 : Int32))
def f_X3_total_L4 : Nat → Nat → Int32 → Int32 → Int32 → xM Int32
  | 0, _, _, _, _ => xno
  | n+1, a0, a1, a2, a3 => f_X3_total_b4 (f_X3_total_L4 n) a0 a1 a2 a3
def f_X3_total (a0 : Nat) (a1 : Int32) : xM Int32 :=
  xbd (xck 3 a0) fun _ =>
  f_X3_total_L4 xFU a0 a1 (0 : Int32) (0 : Int32)
def f_X3_entered (a0 : Nat) (a1 : Int32) : xM Int32 :=
  xbd (xck 3 a0) fun _ =>
  xbd (f_X3_total a0 a1) fun v3 =>
  xbd (f_X3_log a0 (2 : Int32) a1 v3) fun _ =>
  xbd (f_X3_acted a0 a1) fun v4 =>
  xrt v4
def f_X3_bill (a0 : Nat) (a1 : Int32) (a2 : Int32) (a3 : Int32) (a4 : Int32) (a5 : Int32) : xM Int32 :=
  xbd (xck 3 a0) fun _ =>
  xbd (f_X3_aside a0) fun _ =>
  xbd (f_X3_isLine a0 a2 a3) fun v8 =>
  if v8 = 0 then
    xrt (-1 : Int32)
  else
    xbd (f_X3_in a1 (0 : Int32) (999 : Int32)) fun v9 =>
    if v9 = 0 then
      xrt (-2 : Int32)
    else
      xbd (f_X3_in a4 (1 : Int32) (999 : Int32)) fun v10 =>
      if v10 = 0 then
        xrt (-2 : Int32)
      else
        xbd (f_X3_in a5 (1 : Int32) (9999 : Int32)) fun v11 =>
        if v11 = 0 then
          xrt (-2 : Int32)
        else
          xbd (f_X3_at a0 (3 : Int32)) fun v12 =>
          if v12 = (24 : Int32) then
            xrt (-3 : Int32)
          else
            xbd (f_X3_begins a0 a1 a2) fun v13 =>
            xbd (f_X3_adds a0 v13 a3 a4 a5) fun _ =>
            xbd (f_X3_entered a0 v13) fun v14 =>
            xrt v14
def f_X11_init (a0 : Nat) (a1 : Nat) : xM Unit :=
  xbd (xnw 12 [.int 0, .null, .int 0]) fun v2 =>
  xbd (f_J2_init v2) fun _ =>
  xbd (xpt 10 1 a0 (.ref v2)) fun _ =>
  xbd (xpt 10 0 a0 (.ref a1)) fun _ =>
  xrt ()
def f_J6_length (a0 : Nat) : xM Int32 :=
  xbd (xck 15 a0) fun _ =>
  xbd (xgI 15 3 a0) fun v2 =>
  xrt v2
def f_J7_length (a0 : Nat) : xM Int32 :=
  xbd (xck 15 a0) fun _ =>
  xbd (f_J6_length a0) fun v2 =>
  xrt v2
def f_J8_checkIndex (a0 : Int32) (a1 : Int32) : xM Unit :=
  xbd (f_J15_checkIndex a0 a1) fun v4 =>
  xrt ()
def f_J9_length (a0 : Nat) : xM Int32 :=
  xbd (xln a0) fun v2 =>
  xrt (v2 >>> ((1 : Int32) &&& 31))
def f_J9_getChar_b28 (a0 : Nat) (a1 : Int32) : xM Int32 :=
  xbd (xldI 2 a0 (a1 <<< ((1 : Int32) &&& 31))) fun v4 =>
  xbd (xldI 2 a0 ((a1 <<< ((1 : Int32) &&& 31)) + (1 : Int32))) fun v5 =>
  xrtC (((((v4 &&& (255 : Int32)) <<< ((0 : Int32) &&& 31)) ||| ((v5 &&& (255 : Int32)) <<< ((8 : Int32) &&& 31))).toUInt32 % 65536).toInt32)
def f_J9_getChar (a0 : Nat) (a1 : Int32) : xM Int32 :=
  f_J9_getChar_b28 a0 a1
def f_J6_charAt (a0 : Nat) (a1 : Int32) : xM Int32 :=
  xbd (xck 15 a0) fun _ =>
  xbd (xgI 15 1 a0) fun v8 =>
  xbd (xgN 15 0 a0) fun v9 =>
  xbd (xgI 15 3 a0) fun v10 =>
  xbd (xln v9) fun v11 =>
  xbd (f_J21_min v10 (v11 >>> (v8 &&& 31))) fun v12 =>
  xbd (f_J8_checkIndex a1 v12) fun _ =>
  if v8 = 0 then
    xbd (xldI 2 v9 a1) fun v14 =>
    xrtC (((v14 &&& (255 : Int32)).toUInt32 % 65536).toInt32)
  else
    xbd (f_J9_getChar v9 a1) fun v13 =>
    xrtC v13
def f_J7_charAt (a0 : Nat) (a1 : Int32) : xM Int32 :=
  xbd (xck 15 a0) fun _ =>
  xbd (f_J6_charAt a0 a1) fun v2 =>
  xrtC v2
def f_X11_seesFigure (a0 : Nat) : xM Int32 :=
  xbd (xck 10 a0) fun _ =>
  xbd (xgI 10 4 a0) fun v8 =>
  xbd (xgN 10 0 a0) fun v9 =>
  xbd (f_J7_length v9) fun v10 =>
  if v10 ≤ v8 then
    xrtZ (0 : Int32)
  else
    xbd (xgN 10 0 a0) fun v11 =>
    xbd (xgI 10 4 a0) fun v12 =>
    xbd (f_J7_charAt v11 v12) fun v13 =>
    xbd (f_X0_inRange v13 (48 : Int32) (57 : Int32)) fun v14 =>
    if v14 = 0 then
      xrtZ (0 : Int32)
    else
      xrtZ (1 : Int32)
def f_X11_number_b48 (rec48 : Nat → Int32 → Int32 → Int32 → xM (Nat ⊕ Int32)) (a0 : Nat) (a1 : Int32) (a2 : Int32) (a3 : Int32) : xM (Nat ⊕ Int32) :=
  if a1 ≤ a3 then
    xrt (.inr a2)
  else
    if a2 ≤ 0 then
      xrt (.inr a2)
    else
      xbd (f_X11_seesFigure a0) fun v11 =>
      if v11 = 0 then
        xrt (.inr a2)
      else
        xbd (xgN 10 0 a0) fun v12 =>
        xbd (xgI 10 4 a0) fun v13 =>
        xbd (f_J7_charAt v12 v13) fun v14 =>
        xbd (xgI 10 4 a0) fun v15 =>
        xbd (xpt 10 4 a0 (.int (v15 + (1 : Int32)))) fun _ =>
        rec48 a0 a1 ((((10 : Int32) * a2) + v14) - (48 : Int32)) (a3 + (1 : Int32))
def f_X11_number_L48 : Nat → Nat → Int32 → Int32 → Int32 → xM (Nat ⊕ Int32)
  | 0, _, _, _, _ => xno
  | n+1, a0, a1, a2, a3 => f_X11_number_b48 (f_X11_number_L48 n) a0 a1 a2 a3
def f_X11_number (a0 : Nat) (a1 : Int32) : xM (Nat ⊕ Int32) :=
  xbd (xck 10 a0) fun _ =>
  xbd (f_X11_seesFigure a0) fun v16 =>
  if v16 = 0 then
    xbd (xgI 10 4 a0) fun v =>
    xbd (xnf v) fun q =>
    xrt (.inl q)
  else
    xbd (xgN 10 0 a0) fun v17 =>
    xbd (xgI 10 4 a0) fun v18 =>
    xbd (f_J7_charAt v17 v18) fun v19 =>
    xbd (xgI 10 4 a0) fun v20 =>
    xbd (xpt 10 4 a0 (.int (v20 + (1 : Int32)))) fun _ =>
    f_X11_number_L48 xFU a0 a1 (v19 - (48 : Int32)) (1 : Int32)
def f_X11_sign_b33 (a0 : Nat) : xM (Nat ⊕ Unit) :=
  xbd (xgI 10 4 a0) fun v =>
  xbd (xnf v) fun q =>
  xrt (.inl q)
def f_X11_sign (a0 : Nat) (a1 : Int32) : xM (Nat ⊕ Unit) :=
  xbd (xck 10 a0) fun _ =>
  xbd (xgI 10 4 a0) fun v8 =>
  xbd (xgN 10 0 a0) fun v9 =>
  xbd (f_J7_length v9) fun v10 =>
  if v10 ≤ v8 then
    f_X11_sign_b33 a0
  else
    xbd (xgN 10 0 a0) fun v11 =>
    xbd (xgI 10 4 a0) fun v12 =>
    xbd (f_J7_charAt v11 v12) fun v13 =>
    if v13 = a1 then
      xbd (xgI 10 4 a0) fun v14 =>
      xbd (xpt 10 4 a0 (.int (v14 + (1 : Int32)))) fun _ =>
      xrt (.inr ())
    else
      f_X11_sign_b33 a0
def f_X11_entry (a0 : Nat) : xM (Nat ⊕ Unit) :=
  xbd (xck 10 a0) fun _ =>
  xbd (f_X11_number a0 (3 : Int32)) fun tv13 =>
  match tv13 with
  | .inl qv13 =>
    xrt (.inl qv13)
  | .inr v13 =>
    xbd (f_X11_sign a0 (120 : Int32)) fun tv14 =>
    match tv14 with
    | .inl qv14 =>
      xrt (.inl qv14)
    | .inr _ =>
      xbd (f_X11_number a0 (3 : Int32)) fun tv16 =>
      match tv16 with
      | .inl qv16 =>
        xrt (.inl qv16)
      | .inr v16 =>
        xbd (f_X11_sign a0 (64 : Int32)) fun tv17 =>
        match tv17 with
        | .inl qv17 =>
          xrt (.inl qv17)
        | .inr _ =>
          xbd (xgN 10 1 a0) fun v18 =>
          xbd (xnw 9 [.int 0, .int 0, .int 0]) fun v19 =>
          xbd (f_X11_number a0 (4 : Int32)) fun tv21 =>
          match tv21 with
          | .inl qv21 =>
            xrt (.inl qv21)
          | .inr v21 =>
            xbd (f_X10_init v19 v13 v16 v21) fun _ =>
            xbd (f_J2_add v18 v19) fun v22 =>
            xrt (.inr ())
def f_X11_read_b34 (rec34 : Nat → xM (Nat ⊕ Unit)) (a0 : Nat) : xM (Nat ⊕ Unit) :=
  xbd (xgI 10 4 a0) fun v13 =>
  xbd (xgN 10 0 a0) fun v14 =>
  xbd (f_J7_length v14) fun v15 =>
  if v15 ≤ v13 then
    xrt (.inr ())
  else
    xbd (f_X11_sign a0 (44 : Int32)) fun tv16 =>
    match tv16 with
    | .inl qv16 =>
      xrt (.inl qv16)
    | .inr _ =>
      xbd (f_X11_entry a0) fun tv17 =>
      match tv17 with
      | .inl qv17 =>
        xrt (.inl qv17)
      | .inr _ =>
        rec34 a0
def f_X11_read_L34 : Nat → Nat → xM (Nat ⊕ Unit)
  | 0, _ => xno
  | n+1, a0 => f_X11_read_b34 (f_X11_read_L34 n) a0
def f_X11_read (a0 : Nat) : xM (Nat ⊕ Unit) :=
  xbd (xck 10 a0) fun _ =>
  xbd (f_X11_number a0 (3 : Int32)) fun tv19 =>
  match tv19 with
  | .inl qv19 =>
    xrt (.inl qv19)
  | .inr v19 =>
    xbd (xpt 10 2 a0 (.int v19)) fun _ =>
    xbd (f_X11_sign a0 (47 : Int32)) fun tv20 =>
    match tv20 with
    | .inl qv20 =>
      xrt (.inl qv20)
    | .inr _ =>
      xbd (f_X11_number a0 (3 : Int32)) fun tv22 =>
      match tv22 with
      | .inl qv22 =>
        xrt (.inl qv22)
      | .inr v22 =>
        xbd (xpt 10 3 a0 (.int v22)) fun _ =>
        xbd (f_X11_sign a0 (58 : Int32)) fun tv23 =>
        match tv23 with
        | .inl qv23 =>
          xrt (.inl qv23)
        | .inr _ =>
          xbd (f_X11_entry a0) fun tv24 =>
          match tv24 with
          | .inl qv24 =>
            xrt (.inl qv24)
          | .inr _ =>
            f_X11_read_L34 xFU a0
def f_X11_row_b15 (rec15 : Nat → Nat → Int32 → xM Nat) (a0 : Nat) (a1 : Nat) (a2 : Int32) : xM Nat :=
  xbd (xln a1) fun v7 =>
  if v7 ≤ a2 then
    xrt a1
  else
    xbd (xgN 10 1 a0) fun v8 =>
    xbd (f_J2_get v8 a2) fun v9 =>
    xbd (xcks [9] v9) fun _ =>
    xbd (xstR 4 a1 a2 v9) fun _ =>
    rec15 a0 a1 (a2 + (1 : Int32))
def f_X11_row_L15 : Nat → Nat → Nat → Int32 → xM Nat
  | 0, _, _, _ => xno
  | n+1, a0, a1, a2 => f_X11_row_b15 (f_X11_row_L15 n) a0 a1 a2
def f_X11_row (a0 : Nat) : xM Nat :=
  xbd (xck 10 a0) fun _ =>
  xbd (xgN 10 1 a0) fun v10 =>
  xbd (f_J2_size v10) fun v11 =>
  xbd (xna 4 xzR v11) fun v12 =>
  f_X11_row_L15 xFU a0 v12 (0 : Int32)
def f_X0_areKnown_b62 (rec23 : Nat → Int32 → Int32 → Nat → Int32 → Int32 → xM Int32) (t0 : Int32) (a0 : Nat) (a1 : Int32) (a4 : Nat) (a5 : Int32) (a6 : Int32) : xM Int32 :=
  rec23 a0 a1 t0 a4 a5 (a6 + (1 : Int32))
def f_X0_areKnown_b61 (rec23 : Nat → Int32 → Int32 → Nat → Int32 → Int32 → xM Int32) (a0 : Nat) (a1 : Int32) (a4 : Nat) (a5 : Int32) (a6 : Int32) : xM Int32 :=
  f_X0_areKnown_b62 rec23 (0 : Int32) a0 a1 a4 a5 a6
def f_X0_areKnown_b23 (rec23 : Nat → Int32 → Int32 → Nat → Int32 → Int32 → xM Int32) (a0 : Nat) (a1 : Int32) (a3 : Int32) (a4 : Nat) (a5 : Int32) (a6 : Int32) : xM Int32 :=
  if a5 ≤ a6 then
    xrtZ a3
  else
    xbd (xldN 4 a4 a6) fun v9 =>
    if a3 = 0 then
      f_X0_areKnown_b61 rec23 a0 a1 a4 a5 a6
    else
      xbd (xgN 0 0 a0) fun v10 =>
      xbd (xgI 9 0 v9) fun v11 =>
      xbd (f_X1_hasLine v10 a1 v11) fun v12 =>
      if v12 = 0 then
        f_X0_areKnown_b61 rec23 a0 a1 a4 a5 a6
      else
        f_X0_areKnown_b62 rec23 (1 : Int32) a0 a1 a4 a5 a6
def f_X0_areKnown_L23 : Nat → Nat → Int32 → Int32 → Nat → Int32 → Int32 → xM Int32
  | 0, _, _, _, _, _, _ => xno
  | n+1, a0, a1, a3, a4, a5, a6 => f_X0_areKnown_b23 (f_X0_areKnown_L23 n) a0 a1 a3 a4 a5 a6
def f_X0_areKnown (a0 : Nat) (a1 : Int32) (a2 : Nat) : xM Int32 :=
  xbd (xck 0 a0) fun _ =>
  xbd (xgN 0 0 a0) fun v13 =>
  xbd (xgN 1 1 v13) fun v14 =>
  xbd (f_X2_has v14 a1) fun v15 =>
  xbd (xln a2) fun v16 =>
  f_X0_areKnown_L23 xFU a0 a1 v15 a2 v16 (0 : Int32)
def f_X0_areGood_b69 (rec13 : Int32 → Int32 → Nat → Int32 → Int32 → xM Int32) (t0 : Int32) (a1 : Int32) (a3 : Nat) (a4 : Int32) (a5 : Int32) (a6 : Nat) : xM Int32 :=
  xbd (xgI 9 0 a6) fun v15 =>
  rec13 (a1 ||| ((1 : Int32) <<< (v15 &&& 31))) t0 a3 a4 (a5 + (1 : Int32))
def f_X0_areGood_b68 (rec13 : Int32 → Int32 → Nat → Int32 → Int32 → xM Int32) (a1 : Int32) (a3 : Nat) (a4 : Int32) (a5 : Int32) (a6 : Nat) : xM Int32 :=
  f_X0_areGood_b69 rec13 (0 : Int32) a1 a3 a4 a5 a6
def f_X0_areGood_b13 (rec13 : Int32 → Int32 → Nat → Int32 → Int32 → xM Int32) (a1 : Int32) (a2 : Int32) (a3 : Nat) (a4 : Int32) (a5 : Int32) : xM Int32 :=
  if a4 ≤ a5 then
    xrtZ a2
  else
    xbd (xldN 4 a3 a5) fun v9 =>
    if a2 = 0 then
      f_X0_areGood_b68 rec13 a1 a3 a4 a5 v9
    else
      xbd (xgI 9 1 v9) fun v10 =>
      xbd (f_X0_areUnits v10) fun v11 =>
      if v11 = 0 then
        f_X0_areGood_b68 rec13 a1 a3 a4 a5 v9
      else
        xbd (xgI 9 2 v9) fun v12 =>
        xbd (f_X0_isPrice v12) fun v13 =>
        if v13 = 0 then
          f_X0_areGood_b68 rec13 a1 a3 a4 a5 v9
        else
          xbd (xgI 9 0 v9) fun v14 =>
          if ((a1 >>> (v14 &&& 31)) &&& (1 : Int32)) = 0 then
            f_X0_areGood_b69 rec13 (1 : Int32) a1 a3 a4 a5 v9
          else
            f_X0_areGood_b68 rec13 a1 a3 a4 a5 v9
def f_X0_areGood_L13 : Nat → Int32 → Int32 → Nat → Int32 → Int32 → xM Int32
  | 0, _, _, _, _, _ => xno
  | n+1, a1, a2, a3, a4, a5 => f_X0_areGood_b13 (f_X0_areGood_L13 n) a1 a2 a3 a4 a5
def f_X0_areGood (a0 : Nat) : xM Int32 :=
  xbd (xln a0) fun v16 =>
  f_X0_areGood_L13 xFU (0 : Int32) (1 : Int32) a0 v16 (0 : Int32)
def f_X0_readInvoice (a0 : Nat) : xM Int32 :=
  xbd (xck 0 a0) fun _ =>
  xbd (xnw 10 [.null, .null, .int 0, .int 0, .int 0]) fun v12 =>
  xbd (xgN 0 3 a0) fun v13 =>
  xbd (f_X11_init v12 v13) fun _ =>
  xbd (f_X11_read v12) fun tv14 =>
  match tv14 with
  | .inl qv14 =>
    xbd (xgI 11 0 qv14) fun v22 =>
    xrt ((-100 : Int32) - v22)
  | .inr _ =>
    xbd (f_X11_row v12) fun v15 =>
    xbd (xgI 10 3 v12) fun v16 =>
    xbd (f_X0_areKnown a0 v16 v15) fun v17 =>
    if v17 = 0 then
      xrt (-1 : Int32)
    else
      xbd (f_X0_areGood v15) fun v18 =>
      if v18 = 0 then
        xrt (-2 : Int32)
      else
        xbd (xgI 10 2 v12) fun v19 =>
        xbd (xgI 10 3 v12) fun v20 =>
        xbd (f_X0_enter a0 v19 v20 v15) fun v21 =>
        xrt v21
def f_X3_look (a0 : Nat) : xM Int32 :=
  xbd (xck 3 a0) fun _ =>
  xbd (xgI 3 9 a0) fun v6 =>
  xbd (xgI 3 8 a0) fun v7 =>
  if v7 ≤ v6 then
    xrt (-1 : Int32)
  else
    xbd (xgN 3 7 a0) fun v8 =>
    xbd (xgI 3 9 a0) fun v9 =>
    xbd (xldI 0 v8 v9) fun v10 =>
    xrt v10
def f_X3_must_b37 (t0 : Nat) (t1 : Int32) (t2 : Int32) : xM Unit :=
  xbd (xpt 3 9 t0 (.int (t1 + t2))) fun _ =>
  xrt ()
def f_X3_must_b17 (t0 : Nat) (t1 : Int32) (a0 : Nat) : xM Unit :=
  xbd (xptZ 3 10 t0 t1) fun _ =>
  xbd (xgI 3 9 a0) fun v4 =>
  xbd (xgI 3 10 a0) fun v5 =>
  if v5 = 0 then
    f_X3_must_b37 a0 v4 (1 : Int32)
  else
    f_X3_must_b37 a0 v4 (0 : Int32)
def f_X3_must_b12 (t0 : Nat) (a0 : Nat) : xM Unit :=
  f_X3_must_b17 t0 (1 : Int32) a0
def f_X3_must (a0 : Nat) (a1 : Int32) : xM Unit :=
  xbd (xck 3 a0) fun _ =>
  xbd (xgI 3 10 a0) fun v6 =>
  if v6 = 0 then
    if a1 = 0 then
      f_X3_must_b12 a0 a0
    else
      f_X3_must_b17 a0 (0 : Int32) a0
  else
    f_X3_must_b12 a0 a0
def f_X3_number_b25 (rec25 : Nat → Int32 → Int32 → Int32 → xM Int32) (a0 : Nat) (a1 : Int32) (a2 : Int32) (a3 : Int32) : xM Int32 :=
  if a1 ≤ a3 then
    xrt a2
  else
    xbd (xgI 3 10 a0) fun v9 =>
    if v9 = 0 then
      if a2 ≤ 0 then
        xrt a2
      else
        xbd (f_X3_look a0) fun v10 =>
        xbd (f_X3_in v10 (48 : Int32) (57 : Int32)) fun v11 =>
        if v11 = 0 then
          xrt a2
        else
          xbd (f_X3_look a0) fun v12 =>
          xbd (xgI 3 9 a0) fun v13 =>
          xbd (xpt 3 9 a0 (.int (v13 + (1 : Int32)))) fun _ =>
          rec25 a0 a1 ((((10 : Int32) * a2) + v12) - (48 : Int32)) (a3 + (1 : Int32))
    else
      xrt a2
def f_X3_number_L25 : Nat → Nat → Int32 → Int32 → Int32 → xM Int32
  | 0, _, _, _, _ => xno
  | n+1, a0, a1, a2, a3 => f_X3_number_b25 (f_X3_number_L25 n) a0 a1 a2 a3
def f_X3_number (a0 : Nat) (a1 : Int32) : xM Int32 :=
  xbd (xck 3 a0) fun _ =>
  xbd (f_X3_look a0) fun v14 =>
  xbd (f_X3_look a0) fun v15 =>
  xbd (f_X3_in v15 (48 : Int32) (57 : Int32)) fun v16 =>
  xbd (f_X3_must a0 v16) fun _ =>
  f_X3_number_L25 xFU a0 a1 (v14 - (48 : Int32)) (1 : Int32)
def f_X3_tell_b61 (t0 : Nat) (t1 : Int32) (a0 : Nat) (a1 : Int32) : xM Unit :=
  xbd (f_X3_must t0 t1) fun _ =>
  xbd (xgN 3 11 a0) fun v12 =>
  xbd (f_X3_number a0 (4 : Int32)) fun v13 =>
  xbd (xstI v12 (((3 : Int32) * a1) + (2 : Int32)) v13) fun _ =>
  xrt ()
def f_X3_tell_b28 (t0 : Nat) (t1 : Int32) (a0 : Nat) (a1 : Int32) : xM Unit :=
  xbd (f_X3_must t0 t1) fun _ =>
  xbd (xgN 3 11 a0) fun v9 =>
  xbd (f_X3_number a0 (3 : Int32)) fun v10 =>
  xbd (xstI v9 (((3 : Int32) * a1) + (1 : Int32)) v10) fun _ =>
  xbd (f_X3_look a0) fun v11 =>
  if v11 = (64 : Int32) then
    f_X3_tell_b61 a0 (1 : Int32) a0 a1
  else
    f_X3_tell_b61 a0 (0 : Int32) a0 a1
def f_X3_tell (a0 : Nat) (a1 : Int32) : xM Unit :=
  xbd (xck 3 a0) fun _ =>
  xbd (xgN 3 11 a0) fun v14 =>
  xbd (f_X3_number a0 (3 : Int32)) fun v15 =>
  xbd (xstI v14 ((3 : Int32) * a1) v15) fun _ =>
  xbd (f_X3_look a0) fun v16 =>
  if v16 = (120 : Int32) then
    f_X3_tell_b28 a0 (1 : Int32) a0 a1
  else
    f_X3_tell_b28 a0 (0 : Int32) a0 a1
def f_X3_areLines_b41 (rec9 : Nat → Int32 → Int32 → Int32 → Int32 → xM Int32) (t0 : Int32) (a0 : Nat) (a1 : Int32) (a2 : Int32) (a4 : Int32) : xM Int32 :=
  rec9 a0 a1 a2 t0 (a4 + (1 : Int32))
def f_X3_areLines_b40 (rec9 : Nat → Int32 → Int32 → Int32 → Int32 → xM Int32) (a0 : Nat) (a1 : Int32) (a2 : Int32) (a4 : Int32) : xM Int32 :=
  f_X3_areLines_b41 rec9 (0 : Int32) a0 a1 a2 a4
def f_X3_areLines_b9 (rec9 : Nat → Int32 → Int32 → Int32 → Int32 → xM Int32) (a0 : Nat) (a1 : Int32) (a2 : Int32) (a3 : Int32) (a4 : Int32) : xM Int32 :=
  if a2 ≤ a4 then
    xrtZ a3
  else
    if a3 = 0 then
      f_X3_areLines_b40 rec9 a0 a1 a2 a4
    else
      xbd (xgN 3 11 a0) fun v5 =>
      xbd (xldI 0 v5 ((3 : Int32) * a4)) fun v6 =>
      xbd (f_X3_isLine a0 a1 v6) fun v7 =>
      if v7 = 0 then
        f_X3_areLines_b40 rec9 a0 a1 a2 a4
      else
        f_X3_areLines_b41 rec9 (1 : Int32) a0 a1 a2 a4
def f_X3_areLines_L9 : Nat → Nat → Int32 → Int32 → Int32 → Int32 → xM Int32
  | 0, _, _, _, _, _ => xno
  | n+1, a0, a1, a2, a3, a4 => f_X3_areLines_b9 (f_X3_areLines_L9 n) a0 a1 a2 a3 a4
def f_X3_areLines (a0 : Nat) (a1 : Int32) (a2 : Int32) : xM Int32 :=
  xbd (xck 3 a0) fun _ =>
  xbd (f_X3_isOrder a0 a1) fun v8 =>
  f_X3_areLines_L9 xFU a0 a1 a2 v8 (0 : Int32)
def f_X3_areEntries_b83 (rec4 : Nat → Int32 → Int32 → Int32 → xM Int32) (rec48 : Nat → Int32 → Int32 → Int32 → Int32 → xM Int32) (t0 : Int32) (a0 : Nat) (a1 : Int32) (a3 : Int32) (a4 : Int32) : xM Int32 :=
  rec48 a0 a1 t0 a3 (a4 + (1 : Int32))
def f_X3_areEntries_b82 (rec4 : Nat → Int32 → Int32 → Int32 → xM Int32) (rec48 : Nat → Int32 → Int32 → Int32 → Int32 → xM Int32) (a0 : Nat) (a1 : Int32) (a3 : Int32) (a4 : Int32) : xM Int32 :=
  f_X3_areEntries_b83 rec4 rec48 (0 : Int32) a0 a1 a3 a4
def f_X3_areEntries_b90 (rec4 : Nat → Int32 → Int32 → Int32 → xM Int32) (a0 : Nat) (a1 : Int32) (a2 : Int32) (a3 : Int32) : xM Int32 :=
  rec4 a0 a1 a2 (a3 + (1 : Int32))
def f_X3_areEntries_b48 (rec4 : Nat → Int32 → Int32 → Int32 → xM Int32) (rec48 : Nat → Int32 → Int32 → Int32 → Int32 → xM Int32) (a0 : Nat) (a1 : Int32) (a2 : Int32) (a3 : Int32) (a4 : Int32) : xM Int32 :=
  if a3 ≤ a4 then
    f_X3_areEntries_b90 rec4 a0 a1 a2 a3
  else
    if a2 = 0 then
      f_X3_areEntries_b82 rec4 rec48 a0 a1 a3 a4
    else
      xbd (xgN 3 11 a0) fun v13 =>
      xbd (xldI 0 v13 ((3 : Int32) * a4)) fun v14 =>
      xbd (xgN 3 11 a0) fun v15 =>
      xbd (xldI 0 v15 ((3 : Int32) * a3)) fun v16 =>
      if v14 = v16 then
        f_X3_areEntries_b82 rec4 rec48 a0 a1 a3 a4
      else
        f_X3_areEntries_b83 rec4 rec48 (1 : Int32) a0 a1 a3 a4
def f_X3_areEntries_L48 (rec4 : Nat → Int32 → Int32 → Int32 → xM Int32) : Nat → Nat → Int32 → Int32 → Int32 → Int32 → xM Int32
  | 0, _, _, _, _, _ => xno
  | n+1, a0, a1, a2, a3, a4 => f_X3_areEntries_b48 rec4 (f_X3_areEntries_L48 rec4 n) a0 a1 a2 a3 a4
def f_X3_areEntries_b44 (rec4 : Nat → Int32 → Int32 → Int32 → xM Int32) (t0 : Int32) (a0 : Nat) (a1 : Int32) (a3 : Int32) : xM Int32 :=
  f_X3_areEntries_L48 rec4 xFU a0 a1 t0 a3 (0 : Int32)
def f_X3_areEntries_b43 (rec4 : Nat → Int32 → Int32 → Int32 → xM Int32) (a0 : Nat) (a1 : Int32) (a3 : Int32) : xM Int32 :=
  f_X3_areEntries_b44 rec4 (0 : Int32) a0 a1 a3
def f_X3_areEntries_b4 (rec4 : Nat → Int32 → Int32 → Int32 → xM Int32) (a0 : Nat) (a1 : Int32) (a2 : Int32) (a3 : Int32) : xM Int32 :=
  if a1 ≤ a3 then
    xrtZ a2
  else
    if a2 = 0 then
      f_X3_areEntries_b43 rec4 a0 a1 a3
    else
      xbd (xgN 3 11 a0) fun v9 =>
      xbd (xldI 0 v9 (((3 : Int32) * a3) + (1 : Int32))) fun v10 =>
      if v10 ≤ 0 then
        f_X3_areEntries_b43 rec4 a0 a1 a3
      else
        xbd (xgN 3 11 a0) fun v11 =>
        xbd (xldI 0 v11 (((3 : Int32) * a3) + (2 : Int32))) fun v12 =>
        if v12 ≤ 0 then
          f_X3_areEntries_b43 rec4 a0 a1 a3
        else
          f_X3_areEntries_b44 rec4 (1 : Int32) a0 a1 a3
def f_X3_areEntries_L4 : Nat → Nat → Int32 → Int32 → Int32 → xM Int32
  | 0, _, _, _, _ => xno
  | n+1, a0, a1, a2, a3 => f_X3_areEntries_b4 (f_X3_areEntries_L4 n) a0 a1 a2 a3
def f_X3_areEntries (a0 : Nat) (a1 : Int32) : xM Int32 :=
  xbd (xck 3 a0) fun _ =>
  f_X3_areEntries_L4 xFU a0 a1 (1 : Int32) (0 : Int32)
def f_X3_readInvoice_b140 (rec67 : Nat → Int32 → Int32 → Int32 → Int32 → xM Int32) (t0 : Int32) (a0 : Nat) (a1 : Int32) (a2 : Int32) (a3 : Int32) : xM Int32 :=
  rec67 a0 a1 a2 a3 t0
def f_X3_readInvoice_b125 (rec67 : Nat → Int32 → Int32 → Int32 → Int32 → xM Int32) (t0 : Nat) (t1 : Int32) (a0 : Nat) (a1 : Int32) (a2 : Int32) (a3 : Int32) : xM Int32 :=
  xbd (f_X3_must t0 t1) fun _ =>
  xbd (xgI 3 10 a0) fun v42 =>
  if v42 = 0 then
    f_X3_readInvoice_b140 rec67 (1 : Int32) a0 a1 a2 a3
  else
    f_X3_readInvoice_b140 rec67 (0 : Int32) a0 a1 a2 a3
def f_X3_readInvoice_b103 (rec67 : Nat → Int32 → Int32 → Int32 → Int32 → xM Int32) (t0 : Int32) (a0 : Nat) (a1 : Int32) (a2 : Int32) (a3 : Int32) : xM Int32 :=
  if t0 = 0 then
    rec67 a0 a1 a2 a3 t0
  else
    xbd (f_X3_look a0) fun v41 =>
    if v41 = (44 : Int32) then
      f_X3_readInvoice_b125 rec67 a0 (1 : Int32) a0 a1 a2 a3
    else
      f_X3_readInvoice_b125 rec67 a0 (0 : Int32) a0 a1 a2 a3
def f_X3_readInvoice_b102 (rec67 : Nat → Int32 → Int32 → Int32 → Int32 → xM Int32) (a0 : Nat) (a1 : Int32) (a2 : Int32) (a3 : Int32) : xM Int32 :=
  f_X3_readInvoice_b103 rec67 (0 : Int32) a0 a1 a2 a3
def f_X3_readInvoice_b255 (a0 : Nat) (a5 : Int32) : xM Int32 :=
  xbd (f_X3_entered a0 a5) fun v40 =>
  xrt v40
def f_X3_readInvoice_b206 (rec206 : Nat → Int32 → Int32 → Int32 → xM Int32) (a0 : Nat) (a3 : Int32) (a5 : Int32) (a6 : Int32) : xM Int32 :=
  if a3 ≤ a6 then
    f_X3_readInvoice_b255 a0 a5
  else
    xbd (xgN 3 11 a0) fun v34 =>
    xbd (xldI 0 v34 ((3 : Int32) * a6)) fun v35 =>
    xbd (xgN 3 11 a0) fun v36 =>
    xbd (xldI 0 v36 (((3 : Int32) * a6) + (1 : Int32))) fun v37 =>
    xbd (xgN 3 11 a0) fun v38 =>
    xbd (xldI 0 v38 (((3 : Int32) * a6) + (2 : Int32))) fun v39 =>
    xbd (f_X3_adds a0 a5 v35 v37 v39) fun _ =>
    rec206 a0 a3 a5 (a6 + (1 : Int32))
def f_X3_readInvoice_L206 : Nat → Nat → Int32 → Int32 → Int32 → xM Int32
  | 0, _, _, _, _ => xno
  | n+1, a0, a3, a5, a6 => f_X3_readInvoice_b206 (f_X3_readInvoice_L206 n) a0 a3 a5 a6
def f_X3_readInvoice_b145 (a0 : Nat) (a1 : Int32) (a2 : Int32) (a3 : Int32) : xM Int32 :=
  xbd (xgI 3 10 a0) fun v28 =>
  if v28 = 0 then
    xbd (f_X3_areLines a0 a2 a3) fun v29 =>
    if v29 = 0 then
      xrt (-1 : Int32)
    else
      xbd (f_X3_areEntries a0 a3) fun v30 =>
      if v30 = 0 then
        xrt (-2 : Int32)
      else
        xbd (f_X3_at a0 (3 : Int32)) fun v31 =>
        if v31 = (24 : Int32) then
          xrt (-3 : Int32)
        else
          xbd (f_X3_begins a0 a1 a2) fun v32 =>
          f_X3_readInvoice_L206 xFU a0 a3 v32 (0 : Int32)
  else
    xbd (xgI 3 9 a0) fun v33 =>
    xrt ((-100 : Int32) - v33)
def f_X3_readInvoice_b67 (rec67 : Nat → Int32 → Int32 → Int32 → Int32 → xM Int32) (a0 : Nat) (a1 : Int32) (a2 : Int32) (a3 : Int32) (a4 : Int32) : xM Int32 :=
  if a4 = 0 then
    f_X3_readInvoice_b145 a0 a1 a2 a3
  else
    xbd (f_X3_tell a0 a3) fun _ =>
    xbd (xgI 3 10 a0) fun v25 =>
    if v25 = 0 then
      xbd (xgI 3 9 a0) fun v26 =>
      xbd (xgI 3 8 a0) fun v27 =>
      if v27 ≤ v26 then
        f_X3_readInvoice_b102 rec67 a0 a1 a2 (a3 + (1 : Int32))
      else
        f_X3_readInvoice_b103 rec67 (1 : Int32) a0 a1 a2 (a3 + (1 : Int32))
    else
      f_X3_readInvoice_b102 rec67 a0 a1 a2 (a3 + (1 : Int32))
def f_X3_readInvoice_L67 : Nat → Nat → Int32 → Int32 → Int32 → Int32 → xM Int32
  | 0, _, _, _, _, _ => xno
  | n+1, a0, a1, a2, a3, a4 => f_X3_readInvoice_b67 (f_X3_readInvoice_L67 n) a0 a1 a2 a3 a4
def f_X3_readInvoice_b59 (t0 : Nat) (t1 : Int32) (a0 : Nat) (a1 : Int32) (a2 : Int32) : xM Int32 :=
  xbd (f_X3_must t0 t1) fun _ =>
  f_X3_readInvoice_L67 xFU a0 a1 a2 (0 : Int32) (1 : Int32)
def f_X3_readInvoice_b35 (t0 : Nat) (t1 : Int32) (a0 : Nat) (a1 : Int32) : xM Int32 :=
  xbd (f_X3_must t0 t1) fun _ =>
  xbd (f_X3_number a0 (3 : Int32)) fun v23 =>
  xbd (f_X3_look a0) fun v24 =>
  if v24 = (58 : Int32) then
    f_X3_readInvoice_b59 a0 (1 : Int32) a0 a1 v23
  else
    f_X3_readInvoice_b59 a0 (0 : Int32) a0 a1 v23
def f_X3_readInvoice (a0 : Nat) : xM Int32 :=
  xbd (xck 3 a0) fun _ =>
  xbd (f_X3_aside a0) fun _ =>
  xbd (xpt 3 9 a0 (.int (0 : Int32))) fun _ =>
  xbd (xptZ 3 10 a0 (0 : Int32)) fun _ =>
  xbd (f_X3_number a0 (3 : Int32)) fun v43 =>
  xbd (f_X3_look a0) fun v44 =>
  if v44 = (47 : Int32) then
    f_X3_readInvoice_b35 a0 (1 : Int32) a0 v43
  else
    f_X3_readInvoice_b35 a0 (0 : Int32) a0 v43
def f_X4_isWaiting (a0 : Nat) : xM Int32 :=
  xbd (xck 4 a0) fun _ =>
  xbd (xgI 4 5 a0) fun v3 =>
  if v3 = 0 then
    xrtZ (1 : Int32)
  else
    xbd (xgI 4 5 a0) fun v4 =>
    if v4 = (2 : Int32) then
      xrtZ (1 : Int32)
    else
      xrtZ (0 : Int32)
def f_X1_isTwice_b75 (rec4 : Nat → Nat → Int32 → Int32 → xM Int32) (t0 : Int32) (a0 : Nat) (a1 : Nat) (a3 : Int32) : xM Int32 :=
  rec4 a0 a1 t0 (a3 + (1 : Int32))
def f_X1_isTwice_b70 (rec4 : Nat → Nat → Int32 → Int32 → xM Int32) (a0 : Nat) (a1 : Nat) (a3 : Int32) : xM Int32 :=
  f_X1_isTwice_b75 rec4 (1 : Int32) a0 a1 a3
def f_X1_isTwice_b74 (rec4 : Nat → Nat → Int32 → Int32 → xM Int32) (a0 : Nat) (a1 : Nat) (a3 : Int32) : xM Int32 :=
  f_X1_isTwice_b75 rec4 (0 : Int32) a0 a1 a3
def f_X1_isTwice_b4 (rec4 : Nat → Nat → Int32 → Int32 → xM Int32) (a0 : Nat) (a1 : Nat) (a2 : Int32) (a3 : Int32) : xM Int32 :=
  xbd (xgI 4 0 a1) fun v11 =>
  if v11 ≤ a3 then
    xrtZ a2
  else
    xbd (xgN 1 2 a0) fun v12 =>
    xbd (f_X2_get v12 a3) fun v13 =>
    xbd (xcks [4] v13) fun _ =>
    if a2 = 0 then
      xbd (xgI 4 1 v13) fun v14 =>
      xbd (xgI 4 1 a1) fun v15 =>
      if v14 = v15 then
        xbd (xgI 4 5 v13) fun v16 =>
        if v16 = (4 : Int32) then
          f_X1_isTwice_b74 rec4 a0 a1 a3
        else
          xbd (xgI 4 2 v13) fun v17 =>
          xbd (f_X1_supplierOf a0 v17) fun v18 =>
          xbd (xgI 4 2 a1) fun v19 =>
          xbd (f_X1_supplierOf a0 v19) fun v20 =>
          if v18 = v20 then
            f_X1_isTwice_b70 rec4 a0 a1 a3
          else
            f_X1_isTwice_b74 rec4 a0 a1 a3
      else
        f_X1_isTwice_b74 rec4 a0 a1 a3
    else
      f_X1_isTwice_b70 rec4 a0 a1 a3
def f_X1_isTwice_L4 : Nat → Nat → Nat → Int32 → Int32 → xM Int32
  | 0, _, _, _, _ => xno
  | n+1, a0, a1, a2, a3 => f_X1_isTwice_b4 (f_X1_isTwice_L4 n) a0 a1 a2 a3
def f_X1_isTwice (a0 : Nat) (a1 : Nat) : xM Int32 :=
  xbd (xck 1 a0) fun _ =>
  f_X1_isTwice_L4 xFU a0 a1 (0 : Int32) (0 : Int32)
def f_X1_lineOf (a0 : Nat) (a1 : Nat) (a2 : Nat) : xM Nat :=
  xbd (xck 1 a0) fun _ =>
  xbd (xgI 4 2 a1) fun v4 =>
  xbd (xgI 9 0 a2) fun v5 =>
  xbd (f_X1_line a0 v4 v5) fun v6 =>
  xrt v6
def f_X7_isTooDear (a0 : Nat) (a1 : Int32) (a2 : Int32) (a3 : Nat) : xM Int32 :=
  xbd (xck 7 a0) fun _ =>
  xbd (xgI 5 3 a3) fun v5 =>
  if (a1 - v5) ≤ 0 then
    xrtZ (0 : Int32)
  else
    xbd (xdb (FP.dmul (FP.i2d (a1 - v5)) (4636737291354636288 : UInt64))) fun _ =>
    xbd (xgI 5 3 a3) fun v6 =>
    xbd (xdb (FP.ddiv (FP.dmul (FP.i2d (a1 - v5)) (4636737291354636288 : UInt64)) (FP.i2d v6))) fun _ =>
    xbd (xgD 7 1 a0) fun v7 =>
    if (Op.cmpValue (FP.dcmp (FP.ddiv (FP.dmul (FP.i2d (a1 - v5)) (4636737291354636288 : UInt64)) (FP.i2d v6)) v7) .l) ≤ 0 then
      xrtZ (0 : Int32)
    else
      xbd (xgI 7 3 a0) fun v8 =>
      if ((a1 - v5) * a2) ≤ v8 then
        xrtZ (0 : Int32)
      else
        xrtZ (1 : Int32)
def f_X1_left (a0 : Nat) (a1 : Int32) (a2 : Int32) : xM Int32 :=
  xbd (xck 1 a0) fun _ =>
  xbd (f_X1_supplierOf a0 a1) fun v7 =>
  xbd (f_X1_line a0 a1 a2) fun v8 =>
  xbd (xgI 5 4 v8) fun v9 =>
  xbd (f_X7_with v7 v9) fun v10 =>
  xbd (f_X1_line a0 a1 a2) fun v11 =>
  xbd (xgI 5 6 v11) fun v12 =>
  xrt (v10 - v12)
def f_X4_isBilled (a0 : Nat) : xM Int32 :=
  xbd (xck 4 a0) fun _ =>
  xbd (xgI 4 5 a0) fun v3 =>
  if v3 = (1 : Int32) then
    xrtZ (1 : Int32)
  else
    xbd (xgI 4 5 a0) fun v4 =>
    if v4 = (3 : Int32) then
      xrtZ (1 : Int32)
    else
      xrtZ (0 : Int32)
def f_X1_leftFor_b27 (t0 : Int32) (t1 : Int32) : xM Int32 :=
  xrt (t0 + t1)
def f_X1_leftFor (a0 : Nat) (a1 : Nat) (a2 : Nat) : xM Int32 :=
  xbd (xck 1 a0) fun _ =>
  xbd (xgI 4 2 a1) fun v6 =>
  xbd (xgI 9 0 a2) fun v7 =>
  xbd (f_X1_left a0 v6 v7) fun v8 =>
  xbd (f_X4_isBilled a1) fun v9 =>
  if v9 = 0 then
    f_X1_leftFor_b27 v8 (0 : Int32)
  else
    xbd (xgI 9 1 a2) fun v10 =>
    f_X1_leftFor_b27 v8 v10
def f_X1_against_b150 (rec81 : Nat → Nat → Nat → Int32 → Nat → Int32 → Int32 → xM Int32) (t0 : Int32) (t1 : Int32) (a0 : Nat) (a1 : Nat) (a2 : Nat) (a4 : Nat) (a5 : Int32) (a6 : Int32) : xM Int32 :=
  rec81 a0 a1 a2 (t0 ||| t1) a4 a5 (a6 + (1 : Int32))
def f_X1_against_b126 (rec81 : Nat → Nat → Nat → Int32 → Nat → Int32 → Int32 → xM Int32) (t0 : Int32) (t1 : Int32) (a0 : Nat) (a1 : Nat) (a2 : Nat) (a4 : Nat) (a5 : Int32) (a6 : Int32) (a7 : Nat) : xM Int32 :=
  xbd (xgI 9 1 a7) fun v30 =>
  xbd (f_X1_leftFor a0 a1 a7) fun v31 =>
  if v30 ≤ v31 then
    f_X1_against_b150 rec81 (t0 ||| t1) (0 : Int32) a0 a1 a2 a4 a5 a6
  else
    f_X1_against_b150 rec81 (t0 ||| t1) (16 : Int32) a0 a1 a2 a4 a5 a6
def f_X1_against_b81 (rec81 : Nat → Nat → Nat → Int32 → Nat → Int32 → Int32 → xM Int32) (a0 : Nat) (a1 : Nat) (a2 : Nat) (a3 : Int32) (a4 : Nat) (a5 : Int32) (a6 : Int32) : xM Int32 :=
  if a5 ≤ a6 then
    xrt a3
  else
    xbd (xldN 4 a4 a6) fun v25 =>
    xbd (xgI 9 2 v25) fun v26 =>
    xbd (xgI 9 1 v25) fun v27 =>
    xbd (f_X1_lineOf a0 a1 v25) fun v28 =>
    xbd (f_X7_isTooDear a2 v26 v27 v28) fun v29 =>
    if v29 = 0 then
      f_X1_against_b126 rec81 a3 (0 : Int32) a0 a1 a2 a4 a5 a6 v25
    else
      f_X1_against_b126 rec81 a3 (8 : Int32) a0 a1 a2 a4 a5 a6 v25
def f_X1_against_L81 : Nat → Nat → Nat → Nat → Int32 → Nat → Int32 → Int32 → xM Int32
  | 0, _, _, _, _, _, _, _ => xno
  | n+1, a0, a1, a2, a3, a4, a5, a6 => f_X1_against_b81 (f_X1_against_L81 n) a0 a1 a2 a3 a4 a5 a6
def f_X1_against_b65 (t0 : Int32) (t1 : Int32) (a0 : Nat) (a1 : Nat) (a2 : Nat) : xM Int32 :=
  xbd (xgN 4 4 a1) fun v23 =>
  xbd (xln v23) fun v24 =>
  f_X1_against_L81 xFU a0 a1 a2 (t0 ||| t1) v23 v24 (0 : Int32)
def f_X1_against_b36 (t0 : Int32) (t1 : Int32) (a0 : Nat) (a1 : Nat) (a2 : Nat) : xM Int32 :=
  xbd (xgN 1 1 a0) fun v19 =>
  xbd (xgI 4 2 a1) fun v20 =>
  xbd (f_X2_get v19 v20) fun v21 =>
  xbd (xcks [6] v21) fun _ =>
  xbd (xgI 6 3 v21) fun v22 =>
  if v22 = (2 : Int32) then
    f_X1_against_b65 (t0 ||| t1) (4 : Int32) a0 a1 a2
  else
    f_X1_against_b65 (t0 ||| t1) (0 : Int32) a0 a1 a2
def f_X1_against_b21 (t0 : Int32) (a0 : Nat) (a1 : Nat) (a2 : Nat) : xM Int32 :=
  xbd (f_X1_isTwice a0 a1) fun v18 =>
  if v18 = 0 then
    f_X1_against_b36 t0 (0 : Int32) a0 a1 a2
  else
    f_X1_against_b36 t0 (2 : Int32) a0 a1 a2
def f_X1_against (a0 : Nat) (a1 : Nat) : xM Int32 :=
  xbd (xck 1 a0) fun _ =>
  xbd (xgI 4 2 a1) fun v32 =>
  xbd (f_X1_supplierOf a0 v32) fun v33 =>
  xbd (xgI 7 8 v33) fun v34 =>
  if v34 = 0 then
    f_X1_against_b21 (0 : Int32) a0 a1 v33
  else
    f_X1_against_b21 (1 : Int32) a0 a1 v33
def f_X1_approve_b54 (a0 : Nat) (a1 : Nat) : xM Unit :=
  xbd (xgI 4 0 a1) fun v13 =>
  xbd (f_X4_total a1) fun v14 =>
  xbd (f_X1_tell a0 (3 : Int32) v13 v14) fun _ =>
  xrt ()
def f_X1_approve_b16 (rec16 : Nat → Nat → Nat → Int32 → Int32 → xM Unit) (a0 : Nat) (a1 : Nat) (a2 : Nat) (a3 : Int32) (a4 : Int32) : xM Unit :=
  if a3 ≤ a4 then
    f_X1_approve_b54 a0 a1
  else
    xbd (xldN 4 a2 a4) fun v9 =>
    xbd (f_X1_lineOf a0 a1 v9) fun v10 =>
    xbd (xgI 5 6 v10) fun v11 =>
    xbd (xgI 9 1 v9) fun v12 =>
    xbd (xpt 5 6 v10 (.int (v11 + v12))) fun _ =>
    rec16 a0 a1 a2 a3 (a4 + (1 : Int32))
def f_X1_approve_L16 : Nat → Nat → Nat → Nat → Int32 → Int32 → xM Unit
  | 0, _, _, _, _, _ => xno
  | n+1, a0, a1, a2, a3, a4 => f_X1_approve_b16 (f_X1_approve_L16 n) a0 a1 a2 a3 a4
def f_X1_approve (a0 : Nat) (a1 : Nat) : xM Unit :=
  xbd (xck 1 a0) fun _ =>
  xbd (xpt 4 5 a1 (.int (1 : Int32))) fun _ =>
  xbd (xgN 4 4 a1) fun v15 =>
  xbd (xln v15) fun v16 =>
  f_X1_approve_L16 xFU a0 a1 v15 v16 (0 : Int32)
def f_X1_match_b30 (t0 : Nat) (t1 : Int32) (a0 : Nat) (a1 : Nat) (a2 : Int32) : xM Int32 :=
  xbd (xptZ 4 12 t0 t1) fun _ =>
  xbd (xptZ 4 11 a1 (1 : Int32)) fun _ =>
  xbd (xpt 4 6 a1 (.int a2)) fun _ =>
  if a2 = 0 then
    xbd (f_X1_approve a0 a1) fun _ =>
    xrt a2
  else
    xbd (xpt 4 5 a1 (.int (2 : Int32))) fun _ =>
    xbd (xgI 4 0 a1) fun v5 =>
    xbd (f_X1_tell a0 (4 : Int32) v5 a2) fun _ =>
    xrt a2
def f_X1_match (a0 : Nat) (a1 : Nat) : xM Int32 :=
  xbd (xck 1 a0) fun _ =>
  xbd (f_X1_against a0 a1) fun v6 =>
  xbd (xgI 4 11 a1) fun v7 =>
  if v7 = 0 then
    if v6 = 0 then
      f_X1_match_b30 a1 (1 : Int32) a0 a1 v6
    else
      f_X1_match_b30 a1 (0 : Int32) a0 a1 v6
  else
    xbd (xgI 4 12 a1) fun v8 =>
    f_X1_match_b30 a1 v8 a0 a1 v6
def f_X0_match_b67 (a0 : Nat) (a1 : Int32) : xM Int32 :=
  xbd (xgN 0 0 a0) fun v18 =>
  xbd (f_X1_copy v18) fun v19 =>
  xbd (xgN 1 2 v19) fun v20 =>
  xbd (f_X2_get v20 a1) fun v21 =>
  xbd (xcks [4] v21) fun _ =>
  xbd (f_X1_match v19 v21) fun v22 =>
  xbd (f_X0_become a0 v19 v22) fun v23 =>
  xrt v23
def f_X0_match (a0 : Nat) (a1 : Int32) : xM Int32 :=
  xbd (xck 0 a0) fun _ =>
  xbd (xgN 0 0 a0) fun v24 =>
  xbd (xgN 1 2 v24) fun v25 =>
  xbd (f_X2_has v25 a1) fun v26 =>
  if v26 = 0 then
    xrt (-1 : Int32)
  else
    xbd (xgN 0 0 a0) fun v27 =>
    xbd (xgN 1 2 v27) fun v28 =>
    xbd (f_X2_get v28 a1) fun v29 =>
    xbd (xcks [4] v29) fun _ =>
    xbd (f_X4_isWaiting v29) fun v30 =>
    if v30 = 0 then
      xrt (-4 : Int32)
    else
      xbd (xgI 4 5 v29) fun v31 =>
      if v31 = (2 : Int32) then
        xbd (xgI 4 6 v29) fun v32 =>
        xbd (xgN 0 0 a0) fun v33 =>
        xbd (f_X1_against v33 v29) fun v34 =>
        if v32 = v34 then
          xrt (-5 : Int32)
        else
          f_X0_match_b67 a0 a1
      else
        f_X0_match_b67 a0 a1
def f_X3_isInvoice (a0 : Nat) (a1 : Int32) : xM Int32 :=
  xbd (xck 3 a0) fun _ =>
  xbd (f_X3_at a0 (3 : Int32)) fun v3 =>
  xbd (f_X3_in a1 (0 : Int32) (v3 - (1 : Int32))) fun v4 =>
  xrtZ v4
def f_X3_isWaiting (a0 : Nat) (a1 : Int32) : xM Int32 :=
  xbd (xck 3 a0) fun _ =>
  xbd (f_X3_ofInvoice a1 (4 : Int32)) fun v3 =>
  xbd (f_X3_at a0 v3) fun v4 =>
  if v4 = 0 then
    xrtZ (1 : Int32)
  else
    if v4 = (2 : Int32) then
      xrtZ (1 : Int32)
    else
      xrtZ (0 : Int32)
def f_X3_isDear (a0 : Nat) (a1 : Int32) (a2 : Int32) (a3 : Int32) (a4 : Int32) : xM Int32 :=
  xbd (xck 3 a0) fun _ =>
  xbd (f_X3_ofLine a1 a2 (2 : Int32)) fun v9 =>
  xbd (f_X3_at a0 v9) fun v10 =>
  if (a4 - v10) ≤ 0 then
    xrtZ (0 : Int32)
  else
    xbd (xdb (FP.dmul (FP.i2d (a4 - v10)) (4636737291354636288 : UInt64))) fun _ =>
    xbd (xdb (FP.ddiv (FP.dmul (FP.i2d (a4 - v10)) (4636737291354636288 : UInt64)) (FP.i2d v10))) fun _ =>
    xbd (f_X3_whose a0 a1) fun v11 =>
    xbd (f_X3_ofSupplier v11 (0 : Int32)) fun v12 =>
    xbd (f_X3_real a0 v12) fun v13 =>
    if (Op.cmpValue (FP.dcmp (FP.ddiv (FP.dmul (FP.i2d (a4 - v10)) (4636737291354636288 : UInt64)) (FP.i2d v10)) v13) .l) ≤ 0 then
      xrtZ (0 : Int32)
    else
      xbd (f_X3_whose a0 a1) fun v14 =>
      xbd (f_X3_ofSupplier v14 (2 : Int32)) fun v15 =>
      xbd (f_X3_at a0 v15) fun v16 =>
      if ((a4 - v10) * a3) ≤ v16 then
        xrtZ (0 : Int32)
      else
        xrtZ (1 : Int32)
def f_X3_billedBut_b65 (t0 : Int32) (t1 : Int32) : xM Int32 :=
  xrt (t0 - t1)
def f_X3_billedBut_b31 (t0 : Int32) (a0 : Nat) (a1 : Int32) (a2 : Int32) (a3 : Int32) : xM Int32 :=
  xbd (f_X3_entryOf a0 a1 a3 (0 : Int32)) fun v9 =>
  xbd (f_X3_ofLine a2 v9 (5 : Int32)) fun v10 =>
  xbd (f_X3_at a0 v10) fun v11 =>
  if t0 = 0 then
    f_X3_billedBut_b65 v11 (0 : Int32)
  else
    xbd (f_X3_entryOf a0 a1 a3 (1 : Int32)) fun v12 =>
    f_X3_billedBut_b65 v11 v12
def f_X3_billedBut_b26 (a0 : Nat) (a1 : Int32) (a2 : Int32) (a3 : Int32) : xM Int32 :=
  f_X3_billedBut_b31 (1 : Int32) a0 a1 a2 a3
def f_X3_billedBut (a0 : Nat) (a1 : Int32) (a2 : Int32) (a3 : Int32) : xM Int32 :=
  xbd (xck 3 a0) fun _ =>
  xbd (f_X3_ofInvoice a1 (4 : Int32)) fun v13 =>
  xbd (f_X3_at a0 v13) fun v14 =>
  if v14 = (1 : Int32) then
    f_X3_billedBut_b26 a0 a1 a2 a3
  else
    xbd (f_X3_ofInvoice a1 (4 : Int32)) fun v15 =>
    xbd (f_X3_at a0 v15) fun v16 =>
    if v16 = (3 : Int32) then
      f_X3_billedBut_b26 a0 a1 a2 a3
    else
      f_X3_billedBut_b31 (0 : Int32) a0 a1 a2 a3
def f_X3_isMuch (a0 : Nat) (a1 : Int32) (a2 : Int32) (a3 : Int32) (a4 : Int32) : xM Int32 :=
  xbd (xck 3 a0) fun _ =>
  xbd (f_X3_billsMost a0 a1 a2) fun v2 =>
  if (a3 + a4) ≤ v2 then
    xrtZ (0 : Int32)
  else
    xrtZ (1 : Int32)
def f_X3_reasonsOf_b35 (t0 : Int32) (t1 : Int32) : xM Int32 :=
  xrt (t0 + t1)
def f_X3_reasonsOf_b17 (t0 : Int32) (a0 : Nat) (a1 : Int32) : xM Int32 :=
  xbd (f_X3_ofOrder a1 (2 : Int32)) fun v5 =>
  xbd (f_X3_at a0 v5) fun v6 =>
  if v6 = (2 : Int32) then
    f_X3_reasonsOf_b35 t0 (4 : Int32)
  else
    f_X3_reasonsOf_b35 t0 (0 : Int32)
def f_X3_reasonsOf (a0 : Nat) (a1 : Int32) : xM Int32 :=
  xbd (xck 3 a0) fun _ =>
  xbd (f_X3_whose a0 a1) fun v7 =>
  xbd (f_X3_isBlocked a0 v7) fun v8 =>
  if v8 = 0 then
    f_X3_reasonsOf_b17 (0 : Int32) a0 a1
  else
    f_X3_reasonsOf_b17 (1 : Int32) a0 a1
def f_X3_isTwice_b56 (rec2 : Nat → Int32 → Int32 → xM Int32) (a0 : Nat) (a1 : Int32) (a2 : Int32) : xM Int32 :=
  rec2 a0 a1 (a2 + (1 : Int32))
def f_X3_isTwice_b2 (rec2 : Nat → Int32 → Int32 → xM Int32) (a0 : Nat) (a1 : Int32) (a2 : Int32) : xM Int32 :=
  if a1 ≤ a2 then
    xrtZ (0 : Int32)
  else
    xbd (f_X3_payee a0 a2) fun v9 =>
    xbd (f_X3_payee a0 a1) fun v10 =>
    if v9 = v10 then
      xbd (f_X3_ofInvoice a2 (0 : Int32)) fun v11 =>
      xbd (f_X3_at a0 v11) fun v12 =>
      xbd (f_X3_ofInvoice a1 (0 : Int32)) fun v13 =>
      xbd (f_X3_at a0 v13) fun v14 =>
      if v12 = v14 then
        xbd (f_X3_ofInvoice a2 (4 : Int32)) fun v15 =>
        xbd (f_X3_at a0 v15) fun v16 =>
        if v16 = (4 : Int32) then
          f_X3_isTwice_b56 rec2 a0 a1 a2
        else
          xrtZ (1 : Int32)
      else
        f_X3_isTwice_b56 rec2 a0 a1 a2
    else
      f_X3_isTwice_b56 rec2 a0 a1 a2
def f_X3_isTwice_L2 : Nat → Nat → Int32 → Int32 → xM Int32
  | 0, _, _, _ => xno
  | n+1, a0, a1, a2 => f_X3_isTwice_b2 (f_X3_isTwice_L2 n) a0 a1 a2
def f_X3_isTwice (a0 : Nat) (a1 : Int32) : xM Int32 :=
  xbd (xck 3 a0) fun _ =>
  f_X3_isTwice_L2 xFU a0 a1 (0 : Int32)
def f_X3_reasons_b114 (rec18 : Nat → Int32 → Int32 → Int32 → Int32 → Int32 → xM Int32) (t0 : Int32) (a0 : Nat) (a1 : Int32) (a2 : Int32) (a3 : Int32) (a5 : Int32) : xM Int32 :=
  rec18 a0 a1 a2 a3 t0 (a5 + (1 : Int32))
def f_X3_reasons_b109 (rec18 : Nat → Int32 → Int32 → Int32 → Int32 → Int32 → xM Int32) (a0 : Nat) (a1 : Int32) (a2 : Int32) (a3 : Int32) (a5 : Int32) : xM Int32 :=
  f_X3_reasons_b114 rec18 (1 : Int32) a0 a1 a2 a3 a5
def f_X3_reasons_b77 (rec18 : Nat → Int32 → Int32 → Int32 → Int32 → Int32 → xM Int32) (t0 : Int32) (a0 : Nat) (a1 : Int32) (a2 : Int32) (a4 : Int32) (a5 : Int32) (a6 : Int32) : xM Int32 :=
  if a4 = 0 then
    xbd (f_X3_billedBut a0 a1 a2 a5) fun v22 =>
    xbd (f_X3_entryOf a0 a1 a5 (1 : Int32)) fun v23 =>
    xbd (f_X3_isMuch a0 a2 a6 v22 v23) fun v24 =>
    if v24 = 0 then
      f_X3_reasons_b114 rec18 (0 : Int32) a0 a1 a2 t0 a5
    else
      f_X3_reasons_b109 rec18 a0 a1 a2 t0 a5
  else
    f_X3_reasons_b109 rec18 a0 a1 a2 t0 a5
def f_X3_reasons_b72 (rec18 : Nat → Int32 → Int32 → Int32 → Int32 → Int32 → xM Int32) (a0 : Nat) (a1 : Int32) (a2 : Int32) (a4 : Int32) (a5 : Int32) (a6 : Int32) : xM Int32 :=
  f_X3_reasons_b77 rec18 (1 : Int32) a0 a1 a2 a4 a5 a6
def f_X3_reasons_b163 (t0 : Int32) (t1 : Int32) : xM Int32 :=
  xrt (t0 + t1)
def f_X3_reasons_b151 (t0 : Int32) (t1 : Int32) (a4 : Int32) : xM Int32 :=
  if a4 = 0 then
    f_X3_reasons_b163 (t0 + t1) (0 : Int32)
  else
    f_X3_reasons_b163 (t0 + t1) (16 : Int32)
def f_X3_reasons_b140 (t0 : Int32) (t1 : Int32) (a3 : Int32) (a4 : Int32) : xM Int32 :=
  if a3 = 0 then
    f_X3_reasons_b151 (t0 + t1) (0 : Int32) a4
  else
    f_X3_reasons_b151 (t0 + t1) (8 : Int32) a4
def f_X3_reasons_b122 (a0 : Nat) (a1 : Int32) (a2 : Int32) (a3 : Int32) (a4 : Int32) : xM Int32 :=
  xbd (f_X3_reasonsOf a0 a2) fun v20 =>
  xbd (f_X3_isTwice a0 a1) fun v21 =>
  if v21 = 0 then
    f_X3_reasons_b140 v20 (0 : Int32) a3 a4
  else
    f_X3_reasons_b140 v20 (2 : Int32) a3 a4
def f_X3_reasons_b18 (rec18 : Nat → Int32 → Int32 → Int32 → Int32 → Int32 → xM Int32) (a0 : Nat) (a1 : Int32) (a2 : Int32) (a3 : Int32) (a4 : Int32) (a5 : Int32) : xM Int32 :=
  xbd (f_X3_ofInvoice a1 (3 : Int32)) fun v14 =>
  xbd (f_X3_at a0 v14) fun v15 =>
  if v15 ≤ a5 then
    f_X3_reasons_b122 a0 a1 a2 a3 a4
  else
    xbd (f_X3_entryOf a0 a1 a5 (0 : Int32)) fun v16 =>
    if a3 = 0 then
      xbd (f_X3_entryOf a0 a1 a5 (1 : Int32)) fun v17 =>
      xbd (f_X3_entryOf a0 a1 a5 (2 : Int32)) fun v18 =>
      xbd (f_X3_isDear a0 a2 v16 v17 v18) fun v19 =>
      if v19 = 0 then
        f_X3_reasons_b77 rec18 (0 : Int32) a0 a1 a2 a4 a5 v16
      else
        f_X3_reasons_b72 rec18 a0 a1 a2 a4 a5 v16
    else
      f_X3_reasons_b72 rec18 a0 a1 a2 a4 a5 v16
def f_X3_reasons_L18 : Nat → Nat → Int32 → Int32 → Int32 → Int32 → Int32 → xM Int32
  | 0, _, _, _, _, _, _ => xno
  | n+1, a0, a1, a2, a3, a4, a5 => f_X3_reasons_b18 (f_X3_reasons_L18 n) a0 a1 a2 a3 a4 a5
def f_X3_reasons (a0 : Nat) (a1 : Int32) : xM Int32 :=
  xbd (xck 3 a0) fun _ =>
  xbd (f_X3_ofInvoice a1 (1 : Int32)) fun v25 =>
  xbd (f_X3_at a0 v25) fun v26 =>
  f_X3_reasons_L18 xFU a0 a1 v26 (0 : Int32) (0 : Int32) (0 : Int32)
def f_X3_approves_b70 (a0 : Nat) (a1 : Int32) : xM Unit :=
  xbd (f_X3_total a0 a1) fun v20 =>
  xbd (f_X3_log a0 (3 : Int32) a1 v20) fun _ =>
  xrt ()
def f_X3_approves_b23 (rec23 : Nat → Int32 → Int32 → Int32 → xM Unit) (a0 : Nat) (a1 : Int32) (a2 : Int32) (a3 : Int32) : xM Unit :=
  xbd (f_X3_ofInvoice a1 (3 : Int32)) fun v13 =>
  xbd (f_X3_at a0 v13) fun v14 =>
  if v14 ≤ a3 then
    f_X3_approves_b70 a0 a1
  else
    xbd (xgN 3 1 a0) fun v15 =>
    xbd (f_X3_entryOf a0 a1 a3 (0 : Int32)) fun v16 =>
    xbd (f_X3_ofLine a2 v16 (5 : Int32)) fun v17 =>
    xbd (xldL 1 v15 v17) fun v18 =>
    xbd (f_X3_entryOf a0 a1 a3 (1 : Int32)) fun v19 =>
    xbd (xstL v15 v17 (v18 + v19.toInt64)) fun _ =>
    rec23 a0 a1 a2 (a3 + (1 : Int32))
def f_X3_approves_L23 : Nat → Nat → Int32 → Int32 → Int32 → xM Unit
  | 0, _, _, _, _ => xno
  | n+1, a0, a1, a2, a3 => f_X3_approves_b23 (f_X3_approves_L23 n) a0 a1 a2 a3
def f_X3_approves (a0 : Nat) (a1 : Int32) : xM Unit :=
  xbd (xck 3 a0) fun _ =>
  xbd (f_X3_ofInvoice a1 (1 : Int32)) fun v21 =>
  xbd (f_X3_at a0 v21) fun v22 =>
  xbd (xgN 3 1 a0) fun v23 =>
  xbd (f_X3_ofInvoice a1 (4 : Int32)) fun v24 =>
  xbd (xstL v23 v24 (1 : Int64)) fun _ =>
  f_X3_approves_L23 xFU a0 a1 v22 (0 : Int32)
def f_X3_match_b159 (a0 : Nat) (a2 : Int32) : xM Int32 :=
  xbd (f_X3_acted a0 a2) fun v33 =>
  xrt v33
def f_X3_match_b115 (a0 : Nat) (a1 : Int32) (a2 : Int32) : xM Int32 :=
  xbd (xgN 3 1 a0) fun v29 =>
  xbd (f_X3_ofInvoice a1 (5 : Int32)) fun v30 =>
  xbd (xstL v29 v30 a2.toInt64) fun _ =>
  if a2 = 0 then
    xbd (f_X3_approves a0 a1) fun _ =>
    f_X3_match_b159 a0 a2
  else
    xbd (xgN 3 1 a0) fun v31 =>
    xbd (f_X3_ofInvoice a1 (4 : Int32)) fun v32 =>
    xbd (xstL v31 v32 (2 : Int64)) fun _ =>
    xbd (f_X3_log a0 (4 : Int32) a1 a2) fun _ =>
    f_X3_match_b159 a0 a2
def f_X3_match_b113 (t0 : Nat) (t1 : Int32) (t2 : Int64) (t3 : Int64) (a0 : Nat) (a1 : Int32) (a2 : Int32) : xM Int32 :=
  xbd (xstL t0 t1 (t2 + t3)) fun _ =>
  f_X3_match_b115 a0 a1 a2
def f_X3_match_b60 (a0 : Nat) (a1 : Int32) (a2 : Int32) : xM Int32 :=
  xbd (f_X3_ofInvoice a1 (10 : Int32)) fun v21 =>
  xbd (f_X3_at a0 v21) fun v22 =>
  if v22 = 0 then
    xbd (xgN 3 1 a0) fun v23 =>
    xbd (f_X3_ofInvoice a1 (10 : Int32)) fun v24 =>
    xbd (xstL v23 v24 (1 : Int64)) fun _ =>
    xbd (xgN 3 1 a0) fun v25 =>
    xbd (xldL 1 v25 (8 : Int32)) fun v26 =>
    xbd (xstL v25 (8 : Int32) (v26 + (1 : Int64))) fun _ =>
    xbd (xgN 3 1 a0) fun v27 =>
    xbd (xldL 1 v27 (7 : Int32)) fun v28 =>
    if a2 = 0 then
      f_X3_match_b113 v27 (7 : Int32) v28 (1 : Int64) a0 a1 a2
    else
      f_X3_match_b113 v27 (7 : Int32) v28 (0 : Int64) a0 a1 a2
  else
    f_X3_match_b115 a0 a1 a2
def f_X3_match (a0 : Nat) (a1 : Int32) : xM Int32 :=
  xbd (xck 3 a0) fun _ =>
  xbd (f_X3_aside a0) fun _ =>
  xbd (f_X3_isInvoice a0 a1) fun v34 =>
  if v34 = 0 then
    xrt (-1 : Int32)
  else
    xbd (f_X3_isWaiting a0 a1) fun v35 =>
    if v35 = 0 then
      xrt (-4 : Int32)
    else
      xbd (f_X3_reasons a0 a1) fun v36 =>
      xbd (f_X3_ofInvoice a1 (4 : Int32)) fun v37 =>
      xbd (f_X3_at a0 v37) fun v38 =>
      if v38 = (2 : Int32) then
        xbd (f_X3_ofInvoice a1 (5 : Int32)) fun v39 =>
        xbd (f_X3_at a0 v39) fun v40 =>
        if v40 = v36 then
          xrt (-5 : Int32)
        else
          f_X3_match_b60 a0 a1 v36
      else
        f_X3_match_b60 a0 a1 v36
def f_X1_noted_b41 (t0 : Int32) (a0 : Nat) (a1 : Nat) (a2 : Nat) : xM Nat :=
  xbd (xgI 9 1 a2) fun v17 =>
  xbd (xgI 4 2 a1) fun v18 =>
  xbd (xgI 9 0 a2) fun v19 =>
  xbd (f_X1_left a0 v18 v19) fun v20 =>
  xbd (f_J21_max (0 : Int32) v20) fun v21 =>
  xbd (f_J21_min v17 v21) fun v22 =>
  xbd (xnw 9 [.int 0, .int 0, .int 0]) fun v23 =>
  xbd (xgI 9 0 a2) fun v24 =>
  xbd (f_X10_init v23 v24 v22 t0) fun _ =>
  xrt v23
def f_X1_noted (a0 : Nat) (a1 : Nat) (a2 : Nat) : xM Nat :=
  xbd (xck 1 a0) fun _ =>
  xbd (f_X1_lineOf a0 a1 a2) fun v25 =>
  xbd (xgI 4 2 a1) fun v26 =>
  xbd (f_X1_supplierOf a0 v26) fun v27 =>
  xbd (xgI 9 2 a2) fun v28 =>
  xbd (xgI 9 1 a2) fun v29 =>
  xbd (f_X7_isTooDear v27 v28 v29 v25) fun v30 =>
  if v30 = 0 then
    xbd (xgI 9 2 a2) fun v31 =>
    f_X1_noted_b41 v31 a0 a1 a2
  else
    xbd (xgI 5 3 v25) fun v32 =>
    f_X1_noted_b41 v32 a0 a1 a2
def f_X1_note_b39 (a0 : Nat) (a1 : Nat) (a2 : Int32) : xM Int32 :=
  xbd (f_X4_total a1) fun v20 =>
  xbd (xpt 4 7 a1 (.int (a2 - v20))) fun _ =>
  xbd (xgI 4 2 a1) fun v21 =>
  xbd (f_X1_supplierOf a0 v21) fun v22 =>
  xbd (xgI 7 6 v22) fun v23 =>
  xbd (xpt 7 6 v22 (.int (v23 + (a2 - v20)))) fun _ =>
  xbd (xgI 1 8 a0) fun v24 =>
  xbd (xpt 1 8 a0 (.int (v24 + (1 : Int32)))) fun _ =>
  xbd (xgI 4 0 a1) fun v25 =>
  xbd (f_X1_tell a0 (5 : Int32) v25 (a2 - v20)) fun _ =>
  xbd (f_X1_approve a0 a1) fun _ =>
  xrt (a2 - v20)
def f_X1_note_b7 (rec7 : Nat → Nat → Int32 → Int32 → xM Int32) (a0 : Nat) (a1 : Nat) (a2 : Int32) (a3 : Int32) : xM Int32 :=
  xbd (xgN 4 4 a1) fun v14 =>
  xbd (xln v14) fun v15 =>
  if v15 ≤ a3 then
    f_X1_note_b39 a0 a1 a2
  else
    xbd (xgN 4 4 a1) fun v16 =>
    xbd (xgN 4 4 a1) fun v17 =>
    xbd (xldN 4 v17 a3) fun v18 =>
    xbd (f_X1_noted a0 a1 v18) fun v19 =>
    xbd (xstR 4 v16 a3 v19) fun _ =>
    rec7 a0 a1 a2 (a3 + (1 : Int32))
def f_X1_note_L7 : Nat → Nat → Nat → Int32 → Int32 → xM Int32
  | 0, _, _, _, _ => xno
  | n+1, a0, a1, a2, a3 => f_X1_note_b7 (f_X1_note_L7 n) a0 a1 a2 a3
def f_X1_note (a0 : Nat) (a1 : Nat) : xM Int32 :=
  xbd (xck 1 a0) fun _ =>
  xbd (f_X4_total a1) fun v26 =>
  f_X1_note_L7 xFU a0 a1 v26 (0 : Int32)
def f_X0_note (a0 : Nat) (a1 : Int32) : xM Int32 :=
  xbd (xck 0 a0) fun _ =>
  xbd (xgN 0 0 a0) fun v16 =>
  xbd (xgN 1 2 v16) fun v17 =>
  xbd (f_X2_has v17 a1) fun v18 =>
  if v18 = 0 then
    xrt (-1 : Int32)
  else
    xbd (xgN 0 0 a0) fun v19 =>
    xbd (xgN 1 2 v19) fun v20 =>
    xbd (f_X2_get v20 a1) fun v21 =>
    xbd (xcks [4] v21) fun _ =>
    xbd (xgI 4 5 v21) fun v22 =>
    if v22 = (2 : Int32) then
      xbd (xgN 0 0 a0) fun v23 =>
      xbd (f_X1_against v23 v21) fun v24 =>
      if (v24 - v24 / (8 : Int32) * (8 : Int32)) ≤ 0 then
        xbd (xgN 0 0 a0) fun v25 =>
        xbd (f_X1_copy v25) fun v26 =>
        xbd (xgN 1 2 v26) fun v27 =>
        xbd (f_X2_get v27 a1) fun v28 =>
        xbd (xcks [4] v28) fun _ =>
        xbd (f_X1_note v26 v28) fun v29 =>
        xbd (f_X0_become a0 v26 v29) fun v30 =>
        xrt v30
      else
        xrt (-4 : Int32)
    else
      xrt (-4 : Int32)
def f_X3_note_b215 (rec60 : Nat → Int32 → Int32 → Int32 → Int32 → xM Int32) (a0 : Nat) (a1 : Int32) (a2 : Int32) (a3 : Int32) (a4 : Int32) : xM Int32 :=
  rec60 a0 a1 a2 a3 (a4 + (1 : Int32))
def f_X3_note_b214 (rec60 : Nat → Int32 → Int32 → Int32 → Int32 → xM Int32) (t0 : Nat) (t1 : Int32) (t2 : Int64) (a0 : Nat) (a1 : Int32) (a2 : Int32) (a3 : Int32) (a4 : Int32) : xM Int32 :=
  xbd (xstL t0 t1 t2) fun _ =>
  f_X3_note_b215 rec60 a0 a1 a2 a3 a4
def f_X3_note_b144 (rec60 : Nat → Int32 → Int32 → Int32 → Int32 → xM Int32) (a0 : Nat) (a1 : Int32) (a2 : Int32) (a3 : Int32) (a4 : Int32) (a5 : Int32) (a6 : Int32) : xM Int32 :=
  xbd (f_X3_ofLine a2 a5 (5 : Int32)) fun v58 =>
  xbd (f_X3_at a0 v58) fun v59 =>
  xbd (f_X3_entryOf a0 a1 a4 (1 : Int32)) fun v60 =>
  xbd (f_X3_isMuch a0 a2 a5 v59 v60) fun v61 =>
  if v61 = 0 then
    f_X3_note_b215 rec60 a0 a1 a2 a3 a4
  else
    xbd (f_X3_billsMost a0 a2 a5) fun v62 =>
    xbd (f_X3_ofLine a2 a5 (5 : Int32)) fun v63 =>
    xbd (f_X3_at a0 v63) fun v64 =>
    xbd (xgN 3 1 a0) fun v65 =>
    if (v62 - v64) ≤ 0 then
      f_X3_note_b214 rec60 v65 (a6 + (1 : Int32)) (0 : Int64) a0 a1 a2 a3 a4
    else
      f_X3_note_b214 rec60 v65 (a6 + (1 : Int32)) ((v62 - v64).toInt64) a0 a1 a2 a3 a4
def f_X3_note_b221 (a0 : Nat) (a1 : Int32) (a2 : Int32) (a3 : Int32) : xM Int32 :=
  xbd (f_X3_total a0 a1) fun v48 =>
  xbd (xgN 3 1 a0) fun v49 =>
  xbd (f_X3_ofInvoice a1 (6 : Int32)) fun v50 =>
  xbd (xstL v49 v50 ((a3 - v48).toInt64)) fun _ =>
  xbd (xgN 3 1 a0) fun v51 =>
  xbd (f_X3_whose a0 a2) fun v52 =>
  xbd (f_X3_ofSupplier v52 (6 : Int32)) fun v53 =>
  xbd (xldL 1 v51 v53) fun v54 =>
  xbd (xstL v51 v53 (v54 + ((a3 - v48).toInt64))) fun _ =>
  xbd (xgN 3 1 a0) fun v55 =>
  xbd (xldL 1 v55 (9 : Int32)) fun v56 =>
  xbd (xstL v55 (9 : Int32) (v56 + (1 : Int64))) fun _ =>
  xbd (f_X3_log a0 (5 : Int32) a1 (a3 - v48)) fun _ =>
  xbd (f_X3_approves a0 a1) fun _ =>
  xbd (f_X3_acted a0 (a3 - v48)) fun v57 =>
  xrt v57
def f_X3_note_b60 (rec60 : Nat → Int32 → Int32 → Int32 → Int32 → xM Int32) (a0 : Nat) (a1 : Int32) (a2 : Int32) (a3 : Int32) (a4 : Int32) : xM Int32 :=
  xbd (f_X3_ofInvoice a1 (3 : Int32)) fun v37 =>
  xbd (f_X3_at a0 v37) fun v38 =>
  if v38 ≤ a4 then
    f_X3_note_b221 a0 a1 a2 a3
  else
    xbd (f_X3_entryOf a0 a1 a4 (0 : Int32)) fun v39 =>
    xbd (f_X3_ofInvoice a1 (11 : Int32)) fun v40 =>
    xbd (f_X3_entryOf a0 a1 a4 (1 : Int32)) fun v41 =>
    xbd (f_X3_entryOf a0 a1 a4 (2 : Int32)) fun v42 =>
    xbd (f_X3_isDear a0 a2 v39 v41 v42) fun v43 =>
    if v43 = 0 then
      f_X3_note_b144 rec60 a0 a1 a2 a3 a4 v39 (v40 + ((3 : Int32) * a4))
    else
      xbd (xgN 3 1 a0) fun v44 =>
      xbd (xgN 3 1 a0) fun v45 =>
      xbd (f_X3_ofLine a2 v39 (2 : Int32)) fun v46 =>
      xbd (xldL 1 v45 v46) fun v47 =>
      xbd (xstL v44 ((v40 + ((3 : Int32) * a4)) + (2 : Int32)) v47) fun _ =>
      f_X3_note_b144 rec60 a0 a1 a2 a3 a4 v39 (v40 + ((3 : Int32) * a4))
def f_X3_note_L60 : Nat → Nat → Int32 → Int32 → Int32 → Int32 → xM Int32
  | 0, _, _, _, _, _ => xno
  | n+1, a0, a1, a2, a3, a4 => f_X3_note_b60 (f_X3_note_L60 n) a0 a1 a2 a3 a4
def f_X3_note (a0 : Nat) (a1 : Int32) : xM Int32 :=
  xbd (xck 3 a0) fun _ =>
  xbd (f_X3_aside a0) fun _ =>
  xbd (f_X3_isInvoice a0 a1) fun v66 =>
  if v66 = 0 then
    xrt (-1 : Int32)
  else
    xbd (f_X3_ofInvoice a1 (4 : Int32)) fun v67 =>
    xbd (f_X3_at a0 v67) fun v68 =>
    if v68 = (2 : Int32) then
      xbd (f_X3_reasons a0 a1) fun v69 =>
      if (v69 &&& (7 : Int32)) = 0 then
        xbd (f_X3_ofInvoice a1 (1 : Int32)) fun v70 =>
        xbd (f_X3_at a0 v70) fun v71 =>
        xbd (f_X3_total a0 a1) fun v72 =>
        f_X3_note_L60 xFU a0 a1 v71 v72 (0 : Int32)
      else
        xrt (-4 : Int32)
    else
      xrt (-4 : Int32)
def f_X0_reject (a0 : Nat) (a1 : Int32) : xM Int32 :=
  xbd (xck 0 a0) fun _ =>
  xbd (xgN 0 0 a0) fun v15 =>
  xbd (xgN 1 2 v15) fun v16 =>
  xbd (f_X2_has v16 a1) fun v17 =>
  if v17 = 0 then
    xrt (-1 : Int32)
  else
    xbd (xgN 0 0 a0) fun v18 =>
    xbd (xgN 1 2 v18) fun v19 =>
    xbd (f_X2_get v19 a1) fun v20 =>
    xbd (xcks [4] v20) fun _ =>
    xbd (f_X4_isWaiting v20) fun v21 =>
    if v21 = 0 then
      xrt (-4 : Int32)
    else
      xbd (xgN 0 0 a0) fun v22 =>
      xbd (f_X1_copy v22) fun v23 =>
      xbd (xgN 1 2 v23) fun v24 =>
      xbd (f_X2_get v24 a1) fun v25 =>
      xbd (xcks [4] v25) fun _ =>
      xbd (xpt 4 5 v25 (.int (4 : Int32))) fun _ =>
      xbd (f_X4_total v25) fun v26 =>
      xbd (f_X1_tell v23 (7 : Int32) a1 v26) fun _ =>
      xbd (f_X4_total v25) fun v27 =>
      xbd (f_X0_become a0 v23 v27) fun v28 =>
      xrt v28
def f_X3_reject (a0 : Nat) (a1 : Int32) : xM Int32 :=
  xbd (xck 3 a0) fun _ =>
  xbd (f_X3_aside a0) fun _ =>
  xbd (f_X3_isInvoice a0 a1) fun v8 =>
  if v8 = 0 then
    xrt (-1 : Int32)
  else
    xbd (f_X3_isWaiting a0 a1) fun v9 =>
    if v9 = 0 then
      xrt (-4 : Int32)
    else
      xbd (xgN 3 1 a0) fun v10 =>
      xbd (f_X3_ofInvoice a1 (4 : Int32)) fun v11 =>
      xbd (xstL v10 v11 (4 : Int64)) fun _ =>
      xbd (f_X3_total a0 a1) fun v12 =>
      xbd (f_X3_log a0 (7 : Int32) a1 v12) fun _ =>
      xbd (f_X3_total a0 a1) fun v13 =>
      xbd (f_X3_acted a0 v13) fun v14 =>
      xrt v14
def f_X1_pay_b192 (a0 : Nat) (a1 : Nat) : xM Int32 :=
  xbd (xgI 4 0 a1) fun v45 =>
  xbd (xgI 4 8 a1) fun v46 =>
  xbd (f_X1_tell a0 (6 : Int32) v45 v46) fun _ =>
  xbd (xgI 4 8 a1) fun v47 =>
  xrt v47
def f_X1_pay_b140 (rec140 : Nat → Nat → Nat → Nat → Int32 → Int32 → xM Int32) (a0 : Nat) (a1 : Nat) (a2 : Nat) (a5 : Nat) (a6 : Int32) (a7 : Int32) : xM Int32 :=
  if a6 ≤ a7 then
    f_X1_pay_b192 a0 a1
  else
    xbd (xldN 4 a5 a7) fun v40 =>
    xbd (f_X1_lineOf a0 a1 v40) fun v41 =>
    xbd (xgI 5 7 v41) fun v42 =>
    xbd (xgI 9 1 v40) fun v43 =>
    xbd (xpt 5 7 v41 (.int (v42 + v43))) fun _ =>
    xbd (f_X1_claim a0 a2 v41) fun v44 =>
    rec140 a0 a1 a2 a5 a6 (a7 + (1 : Int32))
def f_X1_pay_L140 : Nat → Nat → Nat → Nat → Nat → Int32 → Int32 → xM Int32
  | 0, _, _, _, _, _, _ => xno
  | n+1, a0, a1, a2, a5, a6, a7 => f_X1_pay_b140 (f_X1_pay_L140 n) a0 a1 a2 a5 a6 a7
def f_X1_pay_b47 (t0 : Nat) (t1 : Int32) (a0 : Nat) (a1 : Nat) (a2 : Nat) (a3 : Int32) : xM Int32 :=
  xbd (xpt 4 9 t0 (.int t1)) fun _ =>
  xbd (xgI 4 9 a1) fun v28 =>
  xbd (xgI 7 4 a2) fun v29 =>
  xbd (f_J21_min (a3 - v28) v29) fun v30 =>
  xbd (xpt 4 10 a1 (.int v30)) fun _ =>
  xbd (xgI 4 10 a1) fun v31 =>
  xbd (xpt 4 8 a1 (.int ((a3 - v28) - v31))) fun _ =>
  xbd (xgI 7 4 a2) fun v32 =>
  xbd (xgI 4 10 a1) fun v33 =>
  xbd (xpt 7 4 a2 (.int (v32 - v33))) fun _ =>
  xbd (xgI 7 5 a2) fun v34 =>
  xbd (xgI 4 8 a1) fun v35 =>
  xbd (xpt 7 5 a2 (.int (v34 + v35))) fun _ =>
  xbd (xgI 7 7 a2) fun v36 =>
  xbd (xgI 4 9 a1) fun v37 =>
  xbd (xpt 7 7 a2 (.int (v36 + v37))) fun _ =>
  xbd (xpt 4 5 a1 (.int (3 : Int32))) fun _ =>
  xbd (xgN 4 4 a1) fun v38 =>
  xbd (xln v38) fun v39 =>
  f_X1_pay_L140 xFU a0 a1 a2 v38 v39 (0 : Int32)
def f_X1_pay (a0 : Nat) (a1 : Nat) : xM Int32 :=
  xbd (xck 1 a0) fun _ =>
  xbd (xgI 4 2 a1) fun v48 =>
  xbd (f_X1_supplierOf a0 v48) fun v49 =>
  xbd (f_X4_total a1) fun v50 =>
  xbd (xgI 1 7 a0) fun v51 =>
  xbd (xgI 4 3 a1) fun v52 =>
  xbd (xgI 1 5 a0) fun v53 =>
  if (v52 + v53) < v51 then
    f_X1_pay_b47 a1 (0 : Int32) a0 a1 v49 v50
  else
    xbd (xgD 1 4 a0) fun v54 =>
    xbd (xdb (FP.dmul (FP.i2d v50) v54)) fun _ =>
    xbd (xdb (FP.ddiv (FP.dmul (FP.i2d v50) v54) (4636737291354636288 : UInt64))) fun _ =>
    f_X1_pay_b47 a1 (FP.d2i (FP.ddiv (FP.dmul (FP.i2d v50) v54) (4636737291354636288 : UInt64))) a0 a1 v49 v50
def f_X0_pay (a0 : Nat) (a1 : Int32) : xM Int32 :=
  xbd (xck 0 a0) fun _ =>
  xbd (xgN 0 0 a0) fun v18 =>
  xbd (xgN 1 2 v18) fun v19 =>
  xbd (f_X2_has v19 a1) fun v20 =>
  if v20 = 0 then
    xrt (-1 : Int32)
  else
    xbd (xgN 0 0 a0) fun v21 =>
    xbd (xgN 1 2 v21) fun v22 =>
    xbd (f_X2_get v22 a1) fun v23 =>
    xbd (xcks [4] v23) fun _ =>
    xbd (xgI 4 5 v23) fun v24 =>
    if v24 = (1 : Int32) then
      xbd (xgN 0 0 a0) fun v25 =>
      xbd (xgI 4 2 v23) fun v26 =>
      xbd (f_X1_supplierOf v25 v26) fun v27 =>
      xbd (xgI 7 8 v27) fun v28 =>
      if v28 = 0 then
        xbd (xgN 0 0 a0) fun v29 =>
        xbd (f_X1_copy v29) fun v30 =>
        xbd (xgN 1 2 v30) fun v31 =>
        xbd (f_X2_get v31 a1) fun v32 =>
        xbd (xcks [4] v32) fun _ =>
        xbd (f_X1_pay v30 v32) fun v33 =>
        xbd (f_X0_become a0 v30 v33) fun v34 =>
        xrt v34
      else
        xrt (-4 : Int32)
    else
      xrt (-4 : Int32)
def f_X3_canBePaid (a0 : Nat) (a1 : Int32) : xM Int32 :=
  xbd (xck 3 a0) fun _ =>
  xbd (f_X3_ofInvoice a1 (4 : Int32)) fun v5 =>
  xbd (f_X3_at a0 v5) fun v6 =>
  if v6 = (1 : Int32) then
    xbd (f_X3_payee a0 a1) fun v7 =>
    xbd (f_X3_isBlocked a0 v7) fun v8 =>
    if v8 = 0 then
      xrtZ (1 : Int32)
    else
      xrtZ (0 : Int32)
  else
    xrtZ (0 : Int32)
