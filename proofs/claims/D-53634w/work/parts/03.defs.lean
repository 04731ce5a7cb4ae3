/-! shallow functions, printed by gen.py -/
set_option maxRecDepth 100000
def f_X3_pays_b281 (a0 : Nat) (a1 : Int32) (a6 : Int32) (a7 : Int32) : xM Int32 :=
  xbd (f_X3_log a0 (6 : Int32) a1 (a6 - a7)) fun _ =>
  xrt (a6 - a7)
def f_X3_pays_b216 (rec216 : Nat → Int32 → Int32 → Int32 → Int32 → Int32 → xM Int32) (a0 : Nat) (a1 : Int32) (a2 : Int32) (a6 : Int32) (a7 : Int32) (a8 : Int32) : xM Int32 :=
  xbd (f_X3_ofInvoice a1 (3 : Int32)) fun v61 =>
  xbd (f_X3_at a0 v61) fun v62 =>
  if v62 ≤ a8 then
    f_X3_pays_b281 a0 a1 a6 a7
  else
    xbd (xgN 3 1 a0) fun v63 =>
    xbd (f_X3_entryOf a0 a1 a8 (0 : Int32)) fun v64 =>
    xbd (f_X3_ofLine a2 v64 (6 : Int32)) fun v65 =>
    xbd (xldL 1 v63 v65) fun v66 =>
    xbd (f_X3_entryOf a0 a1 a8 (1 : Int32)) fun v67 =>
    xbd (xstL v63 v65 (v66 + v67.toInt64)) fun _ =>
    xbd (f_X3_entryOf a0 a1 a8 (0 : Int32)) fun v68 =>
    xbd (f_X3_claims a0 a2 v68) fun v69 =>
    rec216 a0 a1 a2 a6 a7 (a8 + (1 : Int32))
def f_X3_pays_L216 : Nat → Nat → Int32 → Int32 → Int32 → Int32 → Int32 → xM Int32
  | 0, _, _, _, _, _, _ => xno
  | n+1, a0, a1, a2, a6, a7, a8 => f_X3_pays_b216 (f_X3_pays_L216 n) a0 a1 a2 a6 a7 a8
def f_X3_pays_b101 (t0 : Int32) (a0 : Nat) (a1 : Int32) (a2 : Int32) (a3 : Int32) (a5 : Int32) (a6 : Int32) : xM Int32 :=
  xbd (xgN 3 1 a0) fun v44 =>
  xbd (f_X3_ofInvoice a1 (4 : Int32)) fun v45 =>
  xbd (xstL v44 v45 (3 : Int64)) fun _ =>
  xbd (xgN 3 1 a0) fun v46 =>
  xbd (f_X3_ofInvoice a1 (7 : Int32)) fun v47 =>
  xbd (xstL v46 v47 ((a6 - t0).toInt64)) fun _ =>
  xbd (xgN 3 1 a0) fun v48 =>
  xbd (f_X3_ofInvoice a1 (8 : Int32)) fun v49 =>
  xbd (xstL v48 v49 a5.toInt64) fun _ =>
  xbd (xgN 3 1 a0) fun v50 =>
  xbd (f_X3_ofInvoice a1 (9 : Int32)) fun v51 =>
  xbd (xstL v50 v51 t0.toInt64) fun _ =>
  xbd (xgN 3 1 a0) fun v52 =>
  xbd (f_X3_ofSupplier a3 (3 : Int32)) fun v53 =>
  xbd (xldL 1 v52 v53) fun v54 =>
  xbd (xstL v52 v53 (v54 - t0.toInt64)) fun _ =>
  xbd (xgN 3 1 a0) fun v55 =>
  xbd (f_X3_ofSupplier a3 (5 : Int32)) fun v56 =>
  xbd (xldL 1 v55 v56) fun v57 =>
  xbd (xstL v55 v56 (v57 + ((a6 - t0).toInt64))) fun _ =>
  xbd (xgN 3 1 a0) fun v58 =>
  xbd (f_X3_ofSupplier a3 (7 : Int32)) fun v59 =>
  xbd (xldL 1 v58 v59) fun v60 =>
  xbd (xstL v58 v59 (v60 + a5.toInt64)) fun _ =>
  f_X3_pays_L216 xFU a0 a1 a2 a6 t0 (0 : Int32)
def f_X3_pays_b64 (t0 : Int32) (a0 : Nat) (a1 : Int32) (a2 : Int32) (a3 : Int32) (a4 : Int32) : xM Int32 :=
  xbd (f_X3_ofSupplier a3 (3 : Int32)) fun v40 =>
  xbd (f_X3_at a0 v40) fun v41 =>
  if (a4 - t0) ≤ v41 then
    f_X3_pays_b101 (a4 - t0) a0 a1 a2 a3 t0 (a4 - t0)
  else
    xbd (f_X3_ofSupplier a3 (3 : Int32)) fun v42 =>
    xbd (f_X3_at a0 v42) fun v43 =>
    f_X3_pays_b101 v43 a0 a1 a2 a3 t0 (a4 - t0)
def f_X3_pays (a0 : Nat) (a1 : Int32) : xM Int32 :=
  xbd (xck 3 a0) fun _ =>
  xbd (f_X3_ofInvoice a1 (1 : Int32)) fun v70 =>
  xbd (f_X3_at a0 v70) fun v71 =>
  xbd (f_X3_whose a0 v71) fun v72 =>
  xbd (f_X3_total a0 a1) fun v73 =>
  xbd (f_X3_at a0 (0 : Int32)) fun v74 =>
  xbd (f_X3_ofInvoice a1 (2 : Int32)) fun v75 =>
  xbd (f_X3_at a0 v75) fun v76 =>
  xbd (f_X3_at a0 (5 : Int32)) fun v77 =>
  if (v76 + v77) < v74 then
    f_X3_pays_b64 (0 : Int32) a0 a1 v71 v72 v73
  else
    xbd (f_X3_real a0 (4 : Int32)) fun v78 =>
    xbd (xdb (FP.dmul (FP.i2d v73) v78)) fun _ =>
    xbd (xdb (FP.ddiv (FP.dmul (FP.i2d v73) v78) (4636737291354636288 : UInt64))) fun _ =>
    f_X3_pays_b64 (FP.d2i (FP.ddiv (FP.dmul (FP.i2d v73) v78) (4636737291354636288 : UInt64))) a0 a1 v71 v72 v73
def f_X3_pay (a0 : Nat) (a1 : Int32) : xM Int32 :=
  xbd (xck 3 a0) fun _ =>
  xbd (f_X3_aside a0) fun _ =>
  xbd (f_X3_isInvoice a0 a1) fun v5 =>
  if v5 = 0 then
    xrt (-1 : Int32)
  else
    xbd (f_X3_canBePaid a0 a1) fun v6 =>
    if v6 = 0 then
      xrt (-4 : Int32)
    else
      xbd (f_X3_pays a0 a1) fun v7 =>
      xbd (f_X3_acted a0 v7) fun v8 =>
      xrt v8
def f_X1_payDue_b10 (rec10 : Nat → Int32 → Nat → xM Int32) (a0 : Nat) (a1 : Int32) (a2 : Nat) : xM Int32 :=
  xbd (f_J10_hasNext a2) fun v13 =>
  if v13 = 0 then
    xrt a1
  else
    xbd (f_J10_next a2) fun v14 =>
    xbd (xcks [4] v14) fun _ =>
    xbd (xgI 4 5 v14) fun v15 =>
    if v15 = (1 : Int32) then
      xbd (xgI 1 7 a0) fun v16 =>
      xbd (xgI 4 3 v14) fun v17 =>
      xbd (xgI 1 6 a0) fun v18 =>
      if (v16 - v17) < v18 then
        rec10 a0 a1 a2
      else
        xbd (xgI 4 2 v14) fun v19 =>
        xbd (f_X1_supplierOf a0 v19) fun v20 =>
        xbd (xgI 7 8 v20) fun v21 =>
        if v21 = 0 then
          xbd (f_X1_pay a0 v14) fun v22 =>
          rec10 a0 (a1 + (1 : Int32)) a2
        else
          rec10 a0 a1 a2
    else
      rec10 a0 a1 a2
def f_X1_payDue_L10 : Nat → Nat → Int32 → Nat → xM Int32
  | 0, _, _, _ => xno
  | n+1, a0, a1, a2 => f_X1_payDue_b10 (f_X1_payDue_L10 n) a0 a1 a2
def f_X1_payDue (a0 : Nat) : xM Int32 :=
  xbd (xck 1 a0) fun _ =>
  xbd (xgN 1 2 a0) fun v23 =>
  xbd (f_X2_iterator v23) fun v24 =>
  f_X1_payDue_L10 xFU a0 (0 : Int32) v24
def f_X1_pass_b4 (rec4 : Nat → Int32 → Int32 → Int32 → xM Int32) (a0 : Nat) (a1 : Int32) (a2 : Int32) (a3 : Int32) : xM Int32 :=
  if a1 ≤ a3 then
    xrt a2
  else
    xbd (xgI 1 7 a0) fun v3 =>
    xbd (xpt 1 7 a0 (.int (v3 + (1 : Int32)))) fun _ =>
    xbd (f_X1_payDue a0) fun v4 =>
    rec4 a0 a1 (a2 + v4) (a3 + (1 : Int32))
def f_X1_pass_L4 : Nat → Nat → Int32 → Int32 → Int32 → xM Int32
  | 0, _, _, _, _ => xno
  | n+1, a0, a1, a2, a3 => f_X1_pass_b4 (f_X1_pass_L4 n) a0 a1 a2 a3
def f_X1_pass (a0 : Nat) (a1 : Int32) : xM Int32 :=
  xbd (xck 1 a0) fun _ =>
  f_X1_pass_L4 xFU a0 a1 (0 : Int32) (0 : Int32)
def f_X0_pass (a0 : Nat) (a1 : Int32) : xM Int32 :=
  xbd (xck 0 a0) fun _ =>
  xbd (f_X0_inRange a1 (1 : Int32) (60 : Int32)) fun v8 =>
  if v8 = 0 then
    xrt (-2 : Int32)
  else
    xbd (xgN 0 0 a0) fun v9 =>
    xbd (xgI 1 7 v9) fun v10 =>
    if (v10 + a1) ≤ (9999 : Int32) then
      xbd (xgN 0 0 a0) fun v11 =>
      xbd (f_X1_copy v11) fun v12 =>
      xbd (f_X1_pass v12 a1) fun v13 =>
      xbd (f_X0_become a0 v12 v13) fun v14 =>
      xrt v14
    else
      xrt (-4 : Int32)
def f_X3_pass_b109 (rec37 : Nat → Int32 → Int32 → Int32 → xM Int32) (rec55 : Nat → Int32 → Int32 → Int32 → Int32 → xM Int32) (a0 : Nat) (a1 : Int32) (a2 : Int32) (a3 : Int32) (a4 : Int32) : xM Int32 :=
  rec55 a0 a1 a2 a3 (a4 + (1 : Int32))
def f_X3_pass_b115 (rec37 : Nat → Int32 → Int32 → Int32 → xM Int32) (a0 : Nat) (a1 : Int32) (a2 : Int32) (a3 : Int32) : xM Int32 :=
  rec37 a0 a1 a2 (a3 + (1 : Int32))
def f_X3_pass_b55 (rec37 : Nat → Int32 → Int32 → Int32 → xM Int32) (rec55 : Nat → Int32 → Int32 → Int32 → Int32 → xM Int32) (a0 : Nat) (a1 : Int32) (a2 : Int32) (a3 : Int32) (a4 : Int32) : xM Int32 :=
  xbd (f_X3_at a0 (3 : Int32)) fun v16 =>
  if v16 ≤ a4 then
    f_X3_pass_b115 rec37 a0 a1 a2 a3
  else
    xbd (f_X3_canBePaid a0 a4) fun v17 =>
    if v17 = 0 then
      f_X3_pass_b109 rec37 rec55 a0 a1 a2 a3 a4
    else
      xbd (f_X3_at a0 (0 : Int32)) fun v18 =>
      xbd (f_X3_ofInvoice a4 (2 : Int32)) fun v19 =>
      xbd (f_X3_at a0 v19) fun v20 =>
      xbd (f_X3_at a0 (6 : Int32)) fun v21 =>
      if (v18 - v20) < v21 then
        f_X3_pass_b109 rec37 rec55 a0 a1 a2 a3 a4
      else
        xbd (f_X3_pays a0 a4) fun v22 =>
        f_X3_pass_b109 rec37 rec55 a0 a1 (a2 + (1 : Int32)) a3 a4
def f_X3_pass_L55 (rec37 : Nat → Int32 → Int32 → Int32 → xM Int32) : Nat → Nat → Int32 → Int32 → Int32 → Int32 → xM Int32
  | 0, _, _, _, _, _ => xno
  | n+1, a0, a1, a2, a3, a4 => f_X3_pass_b55 rec37 (f_X3_pass_L55 rec37 n) a0 a1 a2 a3 a4
def f_X3_pass_b121 (a0 : Nat) (a2 : Int32) : xM Int32 :=
  xbd (f_X3_acted a0 a2) fun v15 =>
  xrt v15
def f_X3_pass_b37 (rec37 : Nat → Int32 → Int32 → Int32 → xM Int32) (a0 : Nat) (a1 : Int32) (a2 : Int32) (a3 : Int32) : xM Int32 :=
  if a1 ≤ a3 then
    f_X3_pass_b121 a0 a2
  else
    xbd (xgN 3 1 a0) fun v13 =>
    xbd (xldL 1 v13 (0 : Int32)) fun v14 =>
    xbd (xstL v13 (0 : Int32) (v14 + (1 : Int64))) fun _ =>
    f_X3_pass_L55 rec37 xFU a0 a1 a2 a3 (0 : Int32)
def f_X3_pass_L37 : Nat → Nat → Int32 → Int32 → Int32 → xM Int32
  | 0, _, _, _, _ => xno
  | n+1, a0, a1, a2, a3 => f_X3_pass_b37 (f_X3_pass_L37 n) a0 a1 a2 a3
def f_X3_pass (a0 : Nat) (a1 : Int32) : xM Int32 :=
  xbd (xck 3 a0) fun _ =>
  xbd (f_X3_aside a0) fun _ =>
  xbd (f_X3_in a1 (1 : Int32) (60 : Int32)) fun v23 =>
  if v23 = 0 then
    xrt (-2 : Int32)
  else
    xbd (f_X3_at a0 (0 : Int32)) fun v24 =>
    if (v24 + a1) ≤ (9999 : Int32) then
      f_X3_pass_L37 xFU a0 a1 (0 : Int32) (0 : Int32)
    else
      xrt (-4 : Int32)
def f_J6_ensureCapacityInternal (a0 : Nat) (a1 : Int32) : xM Unit :=
  xbd (xck 15 a0) fun _ =>
  xbd (xgN 15 0 a0) fun v5 =>
  xbd (xln v5) fun v6 =>
  xbd (xgI 15 1 a0) fun v7 =>
  if (a1 - (v6 >>> (v7 &&& 31))) ≤ 0 then
    xrt ()
  else
    xno
def f_J6_isLatin1 (a0 : Nat) : xM Int32 :=
  xbd (xck 15 a0) fun _ =>
  xbd (xgI 15 1 a0) fun v2 =>
  if v2 = 0 then
    xrtZ (1 : Int32)
  else
    xrtZ (0 : Int32)
def f_J23_canEncode (a0 : Int32) : xM Int32 :=
  if (255 : Int32) < a0 then
    xrtZ (0 : Int32)
  else
    xrtZ (1 : Int32)
def f_J15_checkFromIndexSize (a0 : Int32) (a1 : Int32) (a2 : Int32) : xM Int32 :=
  if ((a2 ||| a0) ||| a1) < 0 then
    xno
  else
    if a1 ≤ (a2 - a0) then
      xrt a0
    else
      xno
def f_J8_checkBoundsOffCount (a0 : Int32) (a1 : Int32) (a2 : Int32) : xM Int32 :=
  xbd (f_J15_checkFromIndexSize a0 a1 a2) fun v4 =>
  xrt v4
def f_J9_checkBoundsOffCount (a0 : Int32) (a1 : Int32) (a2 : Nat) : xM Unit :=
  xbd (f_J9_length a2) fun v3 =>
  xbd (f_J8_checkBoundsOffCount a0 a1 v3) fun v4 =>
  xrt ()
def f_J9_putChar_b28 (a0 : Nat) (a1 : Int32) (a2 : Int32) : xM Unit :=
  xbd (xstB a0 (a1 <<< ((1 : Int32) &&& 31)) ((a2 >>> ((0 : Int32) &&& 31)).toInt8.toInt32)) fun _ =>
  xbd (xstB a0 ((a1 <<< ((1 : Int32) &&& 31)) + (1 : Int32)) ((a2 >>> ((8 : Int32) &&& 31)).toInt8.toInt32)) fun _ =>
  xrt ()
def f_J9_putChar (a0 : Nat) (a1 : Int32) (a2 : Int32) : xM Unit :=
  f_J9_putChar_b28 a0 a1 a2
def f_J9_inflate_b10 (rec10 : Nat → Int32 → Nat → Int32 → Int32 → Int32 → xM Unit) (a0 : Nat) (a1 : Int32) (a2 : Nat) (a3 : Int32) (a4 : Int32) (a5 : Int32) : xM Unit :=
  if a4 ≤ a5 then
    xrt ()
  else
    xbd (xldI 2 a0 a1) fun v2 =>
    xbd (f_J9_putChar a2 a3 (v2 &&& (255 : Int32))) fun _ =>
    rec10 a0 (a1 + (1 : Int32)) a2 (a3 + (1 : Int32)) a4 (a5 + (1 : Int32))
def f_J9_inflate_L10 : Nat → Nat → Int32 → Nat → Int32 → Int32 → Int32 → xM Unit
  | 0, _, _, _, _, _, _ => xno
  | n+1, a0, a1, a2, a3, a4, a5 => f_J9_inflate_b10 (f_J9_inflate_L10 n) a0 a1 a2 a3 a4 a5
def f_J9_inflate (a0 : Nat) (a1 : Int32) (a2 : Nat) (a3 : Int32) (a4 : Int32) : xM Unit :=
  xbd (f_J9_checkBoundsOffCount a3 a4 a2) fun _ =>
  f_J9_inflate_L10 xFU a0 a1 a2 a3 a4 (0 : Int32)
def f_J23_inflate (a0 : Nat) (a1 : Int32) (a2 : Nat) (a3 : Int32) (a4 : Int32) : xM Unit :=
  xbd (f_J9_inflate a0 a1 a2 a3 a4) fun _ =>
  xrt ()
def f_J6_inflate (a0 : Nat) : xM Unit :=
  xbd (xck 15 a0) fun _ =>
  xbd (f_J6_isLatin1 a0) fun v7 =>
  if v7 = 0 then
    xrt ()
  else
    xbd (xgN 15 0 a0) fun v8 =>
    xbd (xln v8) fun v9 =>
    xbd (f_J9_newBytesFor v9) fun v10 =>
    xbd (xgN 15 0 a0) fun v11 =>
    xbd (xgI 15 3 a0) fun v12 =>
    xbd (f_J23_inflate v11 (0 : Int32) v10 (0 : Int32) v12) fun _ =>
    xbd (xpt 15 0 a0 (.ref v10)) fun _ =>
    xbd (xptB 15 1 a0 (1 : Int32)) fun _ =>
    xrt ()
def f_J9_checkIndex (a0 : Int32) (a1 : Nat) : xM Unit :=
  xbd (f_J9_length a1) fun v2 =>
  xbd (f_J8_checkIndex a0 v2) fun _ =>
  xrt ()
def f_J9_putCharSB (a0 : Nat) (a1 : Int32) (a2 : Int32) : xM Unit :=
  xbd (f_J9_checkIndex a1 a0) fun _ =>
  xbd (f_J9_putChar a0 a1 a2) fun _ =>
  xrt ()
def f_J6_append_2_b56 (a0 : Nat) (a1 : Int32) : xM Nat :=
  xbd (xgN 15 0 a0) fun v10 =>
  xbd (xgI 15 3 a0) fun v11 =>
  xbd (xpt 15 3 a0 (.int (v11 + (1 : Int32)))) fun _ =>
  xbd (f_J9_putCharSB v10 v11 a1) fun _ =>
  xrt a0
def f_J6_append_2_b45 (a0 : Nat) (a1 : Int32) : xM Nat :=
  xbd (f_J6_isLatin1 a0) fun v9 =>
  if v9 = 0 then
    f_J6_append_2_b56 a0 a1
  else
    xbd (f_J6_inflate a0) fun _ =>
    f_J6_append_2_b56 a0 a1
def f_J6_append_2 (a0 : Nat) (a1 : Int32) : xM Nat :=
  xbd (xck 15 a0) fun _ =>
  xbd (xgI 15 3 a0) fun v12 =>
  xbd (f_J6_ensureCapacityInternal a0 (v12 + (1 : Int32))) fun _ =>
  xbd (f_J6_isLatin1 a0) fun v13 =>
  if v13 = 0 then
    f_J6_append_2_b45 a0 a1
  else
    xbd (f_J23_canEncode a1) fun v14 =>
    if v14 = 0 then
      f_J6_append_2_b45 a0 a1
    else
      xbd (xgN 15 0 a0) fun v15 =>
      xbd (xgI 15 3 a0) fun v16 =>
      xbd (xpt 15 3 a0 (.int (v16 + (1 : Int32)))) fun _ =>
      xbd (xstB v15 v16 a1.toInt8.toInt32) fun _ =>
      xrt a0
def f_J7_append_2 (a0 : Nat) (a1 : Int32) : xM Nat :=
  xbd (xck 15 a0) fun _ =>
  xbd (f_J6_append_2 a0 a1) fun v2 =>
  xrt a0
def f_X0_type (a0 : Nat) (a1 : Int32) : xM Int32 :=
  xbd (xck 0 a0) fun _ =>
  xbd (xgN 0 3 a0) fun v7 =>
  xbd (f_J7_length v7) fun v8 =>
  if v8 = (60 : Int32) then
    xrt (-3 : Int32)
  else
    xbd (xgN 0 3 a0) fun v9 =>
    xbd (f_J7_append_2 v9 a1) fun v10 =>
    xbd (xgN 0 3 a0) fun v11 =>
    xbd (f_J7_length v11) fun v12 =>
    xrt v12
def f_X3_type (a0 : Nat) (a1 : Int32) : xM Int32 :=
  xbd (xck 3 a0) fun _ =>
  xbd (xpt 3 0 a0 (.int (0 : Int32))) fun _ =>
  xbd (xgI 3 8 a0) fun v6 =>
  if v6 = (60 : Int32) then
    xrt (-3 : Int32)
  else
    xbd (xgN 3 7 a0) fun v7 =>
    xbd (xgI 3 8 a0) fun v8 =>
    xbd (xstI v7 v8 a1) fun _ =>
    xbd (xgI 3 8 a0) fun v9 =>
    xbd (xpt 3 8 a0 (.int (v9 + (1 : Int32)))) fun _ =>
    xbd (xgI 3 8 a0) fun v10 =>
    xrt v10
def f_J22_rangeCheck (a0 : Int32) (a1 : Int32) (a2 : Int32) : xM Unit :=
  if a1 ≤ a2 then
    if 0 ≤ a1 then
      if a2 ≤ a0 then
        xrt ()
      else
        xno
    else
      xno
  else
    xno
def f_J22_fill_b10 (rec10 : Nat → Int32 → Int32 → Int32 → xM Unit) (a0 : Nat) (a2 : Int32) (a3 : Int32) (a4 : Int32) : xM Unit :=
  if a2 ≤ a4 then
    xrt ()
  else
    xbd (xstB a0 a4 a3) fun _ =>
    rec10 a0 a2 a3 (a4 + (1 : Int32))
def f_J22_fill_L10 : Nat → Nat → Int32 → Int32 → Int32 → xM Unit
  | 0, _, _, _, _ => xno
  | n+1, a0, a2, a3, a4 => f_J22_fill_b10 (f_J22_fill_L10 n) a0 a2 a3 a4
def f_J22_fill (a0 : Nat) (a1 : Int32) (a2 : Int32) (a3 : Int32) : xM Unit :=
  xbd (xln a0) fun v2 =>
  xbd (f_J22_rangeCheck v2 a1 a2) fun _ =>
  f_J22_fill_L10 xFU a0 a2 a3 a1
def f_J23_fillNull (a0 : Nat) (a1 : Int32) (a2 : Int32) : xM Unit :=
  xbd (f_J22_fill a0 a1 a2 (0 : Int32)) fun _ =>
  xrt ()
def f_J9_fillNull (a0 : Nat) (a1 : Int32) (a2 : Int32) : xM Unit :=
  xbd (f_J22_fill a0 (a1 <<< ((1 : Int32) &&& 31)) (a2 <<< ((1 : Int32) &&& 31)) (0 : Int32)) fun _ =>
  xrt ()
def f_J6_setLength_b76 (a0 : Nat) (a1 : Int32) : xM Unit :=
  xbd (xpt 15 3 a0 (.int a1)) fun _ =>
  xrt ()
def f_J6_setLength (a0 : Nat) (a1 : Int32) : xM Unit :=
  xbd (xck 15 a0) fun _ =>
  if 0 ≤ a1 then
    xbd (f_J6_ensureCapacityInternal a0 a1) fun _ =>
    xbd (xgI 15 3 a0) fun v8 =>
    if a1 ≤ v8 then
      xbd (xgI 15 3 a0) fun v9 =>
      if v9 ≤ a1 then
        f_J6_setLength_b76 a0 a1
      else
        xbd (xptZ 15 2 a0 (1 : Int32)) fun _ =>
        f_J6_setLength_b76 a0 a1
    else
      xbd (f_J6_isLatin1 a0) fun v10 =>
      if v10 = 0 then
        xbd (xgN 15 0 a0) fun v11 =>
        xbd (xgI 15 3 a0) fun v12 =>
        xbd (f_J9_fillNull v11 v12 a1) fun _ =>
        f_J6_setLength_b76 a0 a1
      else
        xbd (xgN 15 0 a0) fun v13 =>
        xbd (xgI 15 3 a0) fun v14 =>
        xbd (f_J23_fillNull v13 v14 a1) fun _ =>
        f_J6_setLength_b76 a0 a1
  else
    xno
def f_J7_setLength (a0 : Nat) (a1 : Int32) : xM Unit :=
  xbd (xck 15 a0) fun _ =>
  xbd (f_J6_setLength a0 a1) fun _ =>
  xrt ()
def f_X0_clearText (a0 : Nat) : xM Int32 :=
  xbd (xck 0 a0) fun _ =>
  xbd (xgN 0 3 a0) fun v4 =>
  xbd (f_J7_length v4) fun v5 =>
  xbd (xgN 0 3 a0) fun v6 =>
  xbd (f_J7_setLength v6 (0 : Int32)) fun _ =>
  xrt v5
def f_X3_clearText (a0 : Nat) : xM Int32 :=
  xbd (xck 3 a0) fun _ =>
  xbd (xpt 3 0 a0 (.int (0 : Int32))) fun _ =>
  xbd (xgI 3 8 a0) fun v2 =>
  xbd (xpt 3 8 a0 (.int (0 : Int32))) fun _ =>
  xrt v2
def f_J5_isEmpty (a0 : Nat) : xM Int32 :=
  xbd (xck 14 a0) fun _ =>
  xbd (xgI 14 1 a0) fun v3 =>
  xbd (xgI 14 2 a0) fun v4 =>
  if v3 = v4 then
    xrtZ (1 : Int32)
  else
    xrtZ (0 : Int32)
def f_J5_dec (a0 : Int32) (a1 : Int32) : xM Int32 :=
  if 0 ≤ (a0 - (1 : Int32)) then
    xrt (a0 - (1 : Int32))
  else
    xrt (a1 - (1 : Int32))
def f_J5_pollLast (a0 : Nat) : xM (Option Nat) :=
  xbd (xck 14 a0) fun _ =>
  xbd (xgN 14 0 a0) fun v6 =>
  xbd (xgI 14 2 a0) fun v7 =>
  xbd (xln v6) fun v8 =>
  xbd (f_J5_dec v7 v8) fun v9 =>
  xbd (f_J5_elementAt v6 v9) fun v10 =>
  match v10 with
  | none =>
    xrt none
  | some v10n =>
    xbd (xpt 14 2 a0 (.int v9)) fun _ =>
    xbd (xst0 3 v6 v9) fun _ =>
    xrt (some v10n)
def f_J5_removeLast (a0 : Nat) : xM Nat :=
  xbd (xck 14 a0) fun _ =>
  xbd (f_J5_pollLast a0) fun v2 =>
  match v2 with
  | none =>
    xno
  | some v2n =>
    xrt v2n
def f_X0_undo (a0 : Nat) : xM Int32 :=
  xbd (xck 0 a0) fun _ =>
  xbd (xgN 0 2 a0) fun v7 =>
  xbd (f_J5_isEmpty v7) fun v8 =>
  if v8 = 0 then
    xbd (xgN 0 2 a0) fun v9 =>
    xbd (f_J5_removeLast v9) fun v10 =>
    xbd (xcks [1] v10) fun _ =>
    xbd (xpt 0 0 a0 (.ref v10)) fun _ =>
    xbd (xgN 0 2 a0) fun v11 =>
    xbd (f_J5_size v11) fun v12 =>
    xrt v12
  else
    xrt (-5 : Int32)
def f_X3_undo_b61 (a0 : Nat) : xM Int32 :=
  xbd (xgI 3 6 a0) fun v12 =>
  xrt v12
def f_X3_undo_b27 (rec27 : Nat → Int32 → xM Int32) (a0 : Nat) (a1 : Int32) : xM Int32 :=
  if (1411 : Int32) ≤ a1 then
    f_X3_undo_b61 a0
  else
    xbd (xgN 3 1 a0) fun v8 =>
    xbd (xgN 3 5 a0) fun v9 =>
    xbd (xgI 3 6 a0) fun v10 =>
    xbd (xldL 1 v9 (((1411 : Int32) * v10) + a1)) fun v11 =>
    xbd (xstL v8 a1 v11) fun _ =>
    rec27 a0 (a1 + (1 : Int32))
def f_X3_undo_L27 : Nat → Nat → Int32 → xM Int32
  | 0, _, _ => xno
  | n+1, a0, a1 => f_X3_undo_b27 (f_X3_undo_L27 n) a0 a1
def f_X3_undo (a0 : Nat) : xM Int32 :=
  xbd (xck 3 a0) fun _ =>
  xbd (xpt 3 0 a0 (.int (0 : Int32))) fun _ =>
  xbd (xgI 3 6 a0) fun v13 =>
  if v13 = 0 then
    xrt (-5 : Int32)
  else
    xbd (xgI 3 6 a0) fun v14 =>
    xbd (xpt 3 6 a0 (.int (v14 - (1 : Int32)))) fun _ =>
    f_X3_undo_L27 xFU a0 (0 : Int32)
def f_X0_keep (a0 : Nat) : xM Int32 :=
  xbd (xck 0 a0) fun _ =>
  xbd (xgN 0 0 a0) fun v5 =>
  xbd (f_X1_copy v5) fun v6 =>
  xbd (xpt 0 1 a0 (.ref v6)) fun _ =>
  xbd (xgN 0 0 a0) fun v7 =>
  xbd (xgI 1 7 v7) fun v8 =>
  xrt v8
def f_X3_keep_b32 (a0 : Nat) : xM Int32 :=
  xbd (xptZ 3 4 a0 (1 : Int32)) fun _ =>
  xbd (f_X3_at a0 (0 : Int32)) fun v8 =>
  xrt v8
def f_X3_keep_b7 (rec7 : Nat → Int32 → xM Int32) (a0 : Nat) (a1 : Int32) : xM Int32 :=
  if (1411 : Int32) ≤ a1 then
    f_X3_keep_b32 a0
  else
    xbd (xgN 3 3 a0) fun v5 =>
    xbd (xgN 3 1 a0) fun v6 =>
    xbd (xldL 1 v6 a1) fun v7 =>
    xbd (xstL v5 a1 v7) fun _ =>
    rec7 a0 (a1 + (1 : Int32))
def f_X3_keep_L7 : Nat → Nat → Int32 → xM Int32
  | 0, _, _ => xno
  | n+1, a0, a1 => f_X3_keep_b7 (f_X3_keep_L7 n) a0 a1
def f_X3_keep (a0 : Nat) : xM Int32 :=
  xbd (xck 3 a0) fun _ =>
  xbd (xpt 3 0 a0 (.int (0 : Int32))) fun _ =>
  f_X3_keep_L7 xFU a0 (0 : Int32)
def f_X0_restore (a0 : Nat) : xM Int32 :=
  xbd (xck 0 a0) fun _ =>
  xbd (xgQ 0 1 a0) fun ov9 =>
  match ov9 with
  | none =>
    xrt (-5 : Int32)
  | some v9 =>
    xbd (xgQ 0 1 a0) fun ov10 =>
    match ov10 with
    | none =>
      xno
    | some v10 =>
      xbd (f_X1_copy v10) fun v11 =>
      xbd (xgQ 0 1 a0) fun ov12 =>
      match ov12 with
      | none =>
        xno
      | some v12 =>
        xbd (xgI 1 7 v12) fun v13 =>
        xbd (f_X0_become a0 v11 v13) fun v14 =>
        xrt v14
def f_X3_restore_b41 (a0 : Nat) : xM Int32 :=
  xbd (f_X3_at a0 (0 : Int32)) fun v10 =>
  xbd (f_X3_acted a0 v10) fun v11 =>
  xrt v11
def f_X3_restore_b16 (rec16 : Nat → Int32 → xM Int32) (a0 : Nat) (a1 : Int32) : xM Int32 :=
  if (1411 : Int32) ≤ a1 then
    f_X3_restore_b41 a0
  else
    xbd (xgN 3 1 a0) fun v7 =>
    xbd (xgN 3 3 a0) fun v8 =>
    xbd (xldL 1 v8 a1) fun v9 =>
    xbd (xstL v7 a1 v9) fun _ =>
    rec16 a0 (a1 + (1 : Int32))
def f_X3_restore_L16 : Nat → Nat → Int32 → xM Int32
  | 0, _, _ => xno
  | n+1, a0, a1 => f_X3_restore_b16 (f_X3_restore_L16 n) a0 a1
def f_X3_restore (a0 : Nat) : xM Int32 :=
  xbd (xck 3 a0) fun _ =>
  xbd (f_X3_aside a0) fun _ =>
  xbd (xgI 3 4 a0) fun v12 =>
  if v12 = 0 then
    xrt (-5 : Int32)
  else
    f_X3_restore_L16 xFU a0 (0 : Int32)
def f_X1_ordersOf_b45 (rec10 : Int32 → Int32 → Nat → xM Int32) (t0 : Int32) (t1 : Int32) (a1 : Int32) (a3 : Nat) : xM Int32 :=
  rec10 a1 (t0 + t1) a3
def f_X1_ordersOf_b10 (rec10 : Int32 → Int32 → Nat → xM Int32) (a1 : Int32) (a2 : Int32) (a3 : Nat) : xM Int32 :=
  xbd (f_J10_hasNext a3) fun v6 =>
  if v6 = 0 then
    xrt a2
  else
    xbd (f_J10_next a3) fun v7 =>
    xbd (xcks [6] v7) fun _ =>
    xbd (xgI 6 1 v7) fun v8 =>
    if v8 = a1 then
      f_X1_ordersOf_b45 rec10 a2 (1 : Int32) a1 a3
    else
      f_X1_ordersOf_b45 rec10 a2 (0 : Int32) a1 a3
def f_X1_ordersOf_L10 : Nat → Int32 → Int32 → Nat → xM Int32
  | 0, _, _, _ => xno
  | n+1, a1, a2, a3 => f_X1_ordersOf_b10 (f_X1_ordersOf_L10 n) a1 a2 a3
def f_X1_ordersOf (a0 : Nat) (a1 : Int32) : xM Int32 :=
  xbd (xck 1 a0) fun _ =>
  xbd (xgN 1 1 a0) fun v9 =>
  xbd (f_X2_iterator v9) fun v10 =>
  f_X1_ordersOf_L10 xFU a1 (0 : Int32) v10
def f_X0_supplier_b80 (a3 : Nat) : xM Int32 :=
  xbd (xgI 7 3 a3) fun v26 =>
  xrt v26
def f_X0_supplier_b87 (a3 : Nat) : xM Int32 :=
  xbd (xgI 7 4 a3) fun v25 =>
  xrt v25
def f_X0_supplier_b94 (a3 : Nat) : xM Int32 :=
  xbd (xgI 7 8 a3) fun v24 =>
  if v24 = 0 then
    xrt (0 : Int32)
  else
    xrt (1 : Int32)
def f_X0_supplier_b109 (a0 : Nat) (a1 : Int32) : xM Int32 :=
  xbd (xgN 0 0 a0) fun v22 =>
  xbd (f_X1_ordersOf v22 a1) fun v23 =>
  xrt v23
def f_X0_supplier_b120 (a0 : Nat) (a1 : Int32) : xM Int32 :=
  xbd (xgN 0 0 a0) fun v20 =>
  xbd (f_X1_invoicesOf v20 a1 (1 : Int32)) fun v21 =>
  xrt v21
def f_X0_supplier_b132 (a3 : Nat) : xM Int32 :=
  xbd (xgI 7 5 a3) fun v19 =>
  xrt v19
def f_X0_supplier_b139 (a3 : Nat) : xM Int32 :=
  xbd (xgI 7 6 a3) fun v18 =>
  xrt v18
def f_X0_supplier_b146 (a3 : Nat) : xM Int32 :=
  xbd (xgI 7 7 a3) fun v17 =>
  xrt v17
def f_X0_supplier (a0 : Nat) (a1 : Int32) (a2 : Int32) : xM Int32 :=
  xbd (xck 0 a0) fun _ =>
  xbd (xgN 0 0 a0) fun v27 =>
  xbd (xgN 1 0 v27) fun v28 =>
  xbd (f_X2_has v28 a1) fun v29 =>
  if v29 = 0 then
    xrt (-1 : Int32)
  else
    xbd (xgN 0 0 a0) fun v30 =>
    xbd (xgN 1 0 v30) fun v31 =>
    xbd (f_X2_get v31 a1) fun v32 =>
    xbd (xcks [7] v32) fun _ =>
    if a2 = (0 : Int32) then
      f_X0_supplier_b80 v32
    else
      if a2 = (1 : Int32) then
        f_X0_supplier_b87 v32
      else
        if a2 = (2 : Int32) then
          f_X0_supplier_b94 v32
        else
          if a2 = (3 : Int32) then
            f_X0_supplier_b109 a0 a1
          else
            if a2 = (4 : Int32) then
              f_X0_supplier_b120 a0 a1
            else
              if a2 = (5 : Int32) then
                f_X0_supplier_b132 v32
              else
                if a2 = (6 : Int32) then
                  f_X0_supplier_b139 v32
                else
                  if a2 = (7 : Int32) then
                    f_X0_supplier_b146 v32
                  else
                    xrt (-2 : Int32)
def f_X3_papersOf_b52 (rec5 : Nat → Int32 → Int32 → Int32 → Int32 → xM Int32) (t0 : Int32) (t1 : Int32) (a0 : Nat) (a1 : Int32) (a2 : Int32) (a4 : Int32) : xM Int32 :=
  rec5 a0 a1 a2 (t0 + t1) (a4 + (1 : Int32))
def f_X3_papersOf_b43 (rec5 : Nat → Int32 → Int32 → Int32 → Int32 → xM Int32) (t0 : Int32) (t1 : Int32) (a0 : Nat) (a1 : Int32) (a2 : Int32) (a4 : Int32) : xM Int32 :=
  if t1 = a1 then
    f_X3_papersOf_b52 rec5 t0 (1 : Int32) a0 a1 a2 a4
  else
    f_X3_papersOf_b52 rec5 t0 (0 : Int32) a0 a1 a2 a4
def f_X3_papersOf_b17 (rec5 : Nat → Int32 → Int32 → Int32 → Int32 → xM Int32) (t0 : Int32) (t1 : Nat) (t2 : Int32) (a0 : Nat) (a1 : Int32) (a2 : Int32) (a3 : Int32) (a4 : Int32) : xM Int32 :=
  xbd (f_X3_at t1 t2) fun v4 =>
  if v4 ≤ t0 then
    xrt a3
  else
    if a2 = 0 then
      xbd (f_X3_whose a0 a4) fun v5 =>
      f_X3_papersOf_b43 rec5 a3 v5 a0 a1 a2 a4
    else
      xbd (f_X3_payee a0 a4) fun v6 =>
      f_X3_papersOf_b43 rec5 a3 v6 a0 a1 a2 a4
def f_X3_papersOf_b5 (rec5 : Nat → Int32 → Int32 → Int32 → Int32 → xM Int32) (a0 : Nat) (a1 : Int32) (a2 : Int32) (a3 : Int32) (a4 : Int32) : xM Int32 :=
  if a2 = 0 then
    f_X3_papersOf_b17 rec5 a4 a0 (2 : Int32) a0 a1 a2 a3 a4
  else
    f_X3_papersOf_b17 rec5 a4 a0 (3 : Int32) a0 a1 a2 a3 a4
def f_X3_papersOf_L5 : Nat → Nat → Int32 → Int32 → Int32 → Int32 → xM Int32
  | 0, _, _, _, _, _ => xno
  | n+1, a0, a1, a2, a3, a4 => f_X3_papersOf_b5 (f_X3_papersOf_L5 n) a0 a1 a2 a3 a4
def f_X3_papersOf (a0 : Nat) (a1 : Int32) (a2 : Int32) : xM Int32 :=
  xbd (xck 3 a0) fun _ =>
  f_X3_papersOf_L5 xFU a0 a1 a2 (0 : Int32) (0 : Int32)
def f_X3_supplier_b64 (a0 : Nat) (a1 : Int32) : xM Int32 :=
  xbd (f_X3_ofSupplier a1 (2 : Int32)) fun v28 =>
  xbd (f_X3_at a0 v28) fun v29 =>
  xrt v29
def f_X3_supplier_b74 (a0 : Nat) (a1 : Int32) : xM Int32 :=
  xbd (f_X3_ofSupplier a1 (3 : Int32)) fun v26 =>
  xbd (f_X3_at a0 v26) fun v27 =>
  xrt v27
def f_X3_supplier_b84 (a0 : Nat) (a1 : Int32) : xM Int32 :=
  xbd (f_X3_ofSupplier a1 (4 : Int32)) fun v24 =>
  xbd (f_X3_at a0 v24) fun v25 =>
  xrt v25
def f_X3_supplier_b94 (a0 : Nat) (a1 : Int32) : xM Int32 :=
  xbd (f_X3_papersOf a0 a1 (0 : Int32)) fun v23 =>
  xrt v23
def f_X3_supplier_b101 (a0 : Nat) (a1 : Int32) : xM Int32 :=
  xbd (f_X3_papersOf a0 a1 (1 : Int32)) fun v22 =>
  xrt v22
def f_X3_supplier_b108 (a0 : Nat) (a1 : Int32) : xM Int32 :=
  xbd (f_X3_ofSupplier a1 (5 : Int32)) fun v20 =>
  xbd (f_X3_at a0 v20) fun v21 =>
  xrt v21
def f_X3_supplier_b118 (a0 : Nat) (a1 : Int32) : xM Int32 :=
  xbd (f_X3_ofSupplier a1 (6 : Int32)) fun v18 =>
  xbd (f_X3_at a0 v18) fun v19 =>
  xrt v19
def f_X3_supplier_b129 (a0 : Nat) (a1 : Int32) : xM Int32 :=
  xbd (f_X3_ofSupplier a1 (7 : Int32)) fun v16 =>
  xbd (f_X3_at a0 v16) fun v17 =>
  xrt v17
def f_X3_supplier (a0 : Nat) (a1 : Int32) (a2 : Int32) : xM Int32 :=
  xbd (xck 3 a0) fun _ =>
  xbd (xpt 3 0 a0 (.int (0 : Int32))) fun _ =>
  xbd (f_X3_isSupplier a0 a1) fun v30 =>
  if v30 = 0 then
    xrt (-1 : Int32)
  else
    if a2 = (0 : Int32) then
      f_X3_supplier_b64 a0 a1
    else
      if a2 = (1 : Int32) then
        f_X3_supplier_b74 a0 a1
      else
        if a2 = (2 : Int32) then
          f_X3_supplier_b84 a0 a1
        else
          if a2 = (3 : Int32) then
            f_X3_supplier_b94 a0 a1
          else
            if a2 = (4 : Int32) then
              f_X3_supplier_b101 a0 a1
            else
              if a2 = (5 : Int32) then
                f_X3_supplier_b108 a0 a1
              else
                if a2 = (6 : Int32) then
                  f_X3_supplier_b118 a0 a1
                else
                  if a2 = (7 : Int32) then
                    f_X3_supplier_b129 a0 a1
                  else
                    xrt (-2 : Int32)
def f_X3_tolerance_b24 (t0 : Nat) (t1 : Int32) (t2 : Int32) : xM UInt64 :=
  xbd (f_X3_ofSupplier t1 t2) fun v4 =>
  xbd (f_X3_real t0 v4) fun v5 =>
  xrt v5
def f_X3_tolerance (a0 : Nat) (a1 : Int32) (a2 : Int32) : xM UInt64 :=
  xbd (xck 3 a0) fun _ =>
  xbd (xpt 3 0 a0 (.int (0 : Int32))) fun _ =>
  xbd (f_X3_isSupplier a0 a1) fun v6 =>
  if v6 = 0 then
    xrt (9221120237041090560 : UInt64)
  else
    if a2 = 0 then
      f_X3_tolerance_b24 a0 a1 (0 : Int32)
    else
      f_X3_tolerance_b24 a0 a1 (1 : Int32)
def f_X0_invoicesFor_b48 (rec13 : Int32 → Int32 → Nat → xM Int32) (t0 : Int32) (t1 : Int32) (a1 : Int32) (a3 : Nat) : xM Int32 :=
  rec13 a1 (t0 + t1) a3
def f_X0_invoicesFor_b13 (rec13 : Int32 → Int32 → Nat → xM Int32) (a1 : Int32) (a2 : Int32) (a3 : Nat) : xM Int32 :=
  xbd (f_J10_hasNext a3) fun v7 =>
  if v7 = 0 then
    xrt a2
  else
    xbd (f_J10_next a3) fun v8 =>
    xbd (xcks [4] v8) fun _ =>
    xbd (xgI 4 2 v8) fun v9 =>
    if v9 = a1 then
      f_X0_invoicesFor_b48 rec13 a2 (1 : Int32) a1 a3
    else
      f_X0_invoicesFor_b48 rec13 a2 (0 : Int32) a1 a3
def f_X0_invoicesFor_L13 : Nat → Int32 → Int32 → Nat → xM Int32
  | 0, _, _, _ => xno
  | n+1, a1, a2, a3 => f_X0_invoicesFor_b13 (f_X0_invoicesFor_L13 n) a1 a2 a3
def f_X0_invoicesFor (a0 : Nat) (a1 : Int32) : xM Int32 :=
  xbd (xck 0 a0) fun _ =>
  xbd (xgN 0 0 a0) fun v10 =>
  xbd (xgN 1 2 v10) fun v11 =>
  xbd (f_X2_iterator v11) fun v12 =>
  f_X0_invoicesFor_L13 xFU a1 (0 : Int32) v12
def f_X0_order_b68 (a3 : Nat) : xM Int32 :=
  xbd (xgI 6 1 a3) fun v18 =>
  xrt v18
def f_X0_order_b75 (a3 : Nat) : xM Int32 :=
  xbd (xgN 6 2 a3) fun v16 =>
  xbd (f_X2_size v16) fun v17 =>
  xrt v17
def f_X0_order_b85 (a3 : Nat) : xM Int32 :=
  xbd (xgI 6 3 a3) fun v15 =>
  xrt v15
def f_X0_order_b92 (a3 : Nat) : xM Int32 :=
  xbd (xgI 6 4 a3) fun v14 =>
  xrt v14
def f_X0_order_b99 (a0 : Nat) (a1 : Int32) : xM Int32 :=
  xbd (f_X0_invoicesFor a0 a1) fun v13 =>
  xrt v13
def f_X0_order (a0 : Nat) (a1 : Int32) (a2 : Int32) : xM Int32 :=
  xbd (xck 0 a0) fun _ =>
  xbd (xgN 0 0 a0) fun v19 =>
  xbd (xgN 1 1 v19) fun v20 =>
  xbd (f_X2_has v20 a1) fun v21 =>
  if v21 = 0 then
    xrt (-1 : Int32)
  else
    xbd (xgN 0 0 a0) fun v22 =>
    xbd (xgN 1 1 v22) fun v23 =>
    xbd (f_X2_get v23 a1) fun v24 =>
    xbd (xcks [6] v24) fun _ =>
    if a2 = (0 : Int32) then
      f_X0_order_b68 v24
    else
      if a2 = (1 : Int32) then
        f_X0_order_b75 v24
      else
        if a2 = (2 : Int32) then
          f_X0_order_b85 v24
        else
          if a2 = (3 : Int32) then
            f_X0_order_b92 v24
          else
            if a2 = (4 : Int32) then
              f_X0_order_b99 a0 a1
            else
              xrt (-2 : Int32)
def f_X3_billsOf_b32 (rec4 : Nat → Int32 → Int32 → Int32 → xM Int32) (t0 : Int32) (t1 : Int32) (a0 : Nat) (a1 : Int32) (a3 : Int32) : xM Int32 :=
  rec4 a0 a1 (t0 + t1) (a3 + (1 : Int32))
def f_X3_billsOf_b4 (rec4 : Nat → Int32 → Int32 → Int32 → xM Int32) (a0 : Nat) (a1 : Int32) (a2 : Int32) (a3 : Int32) : xM Int32 :=
  xbd (f_X3_at a0 (3 : Int32)) fun v4 =>
  if v4 ≤ a3 then
    xrt a2
  else
    xbd (f_X3_ofInvoice a3 (1 : Int32)) fun v5 =>
    xbd (f_X3_at a0 v5) fun v6 =>
    if v6 = a1 then
      f_X3_billsOf_b32 rec4 a2 (1 : Int32) a0 a1 a3
    else
      f_X3_billsOf_b32 rec4 a2 (0 : Int32) a0 a1 a3
def f_X3_billsOf_L4 : Nat → Nat → Int32 → Int32 → Int32 → xM Int32
  | 0, _, _, _, _ => xno
  | n+1, a0, a1, a2, a3 => f_X3_billsOf_b4 (f_X3_billsOf_L4 n) a0 a1 a2 a3
def f_X3_billsOf (a0 : Nat) (a1 : Int32) : xM Int32 :=
  xbd (xck 3 a0) fun _ =>
  f_X3_billsOf_L4 xFU a0 a1 (0 : Int32) (0 : Int32)
def f_X3_order (a0 : Nat) (a1 : Int32) (a2 : Int32) : xM Int32 :=
  xbd (xck 3 a0) fun _ =>
  xbd (xpt 3 0 a0 (.int (0 : Int32))) fun _ =>
  xbd (f_X3_isOrder a0 a1) fun v6 =>
  if v6 = 0 then
    xrt (-1 : Int32)
  else
    xbd (f_X3_in a2 (0 : Int32) (4 : Int32)) fun v7 =>
    if v7 = 0 then
      xrt (-2 : Int32)
    else
      if (4 : Int32) ≤ a2 then
        xbd (f_X3_billsOf a0 a1) fun v8 =>
        xrt v8
      else
        xbd (f_X3_ofOrder a1 a2) fun v9 =>
        xbd (f_X3_at a0 v9) fun v10 =>
        xrt v10
def f_X0_line_b80 (a4 : Nat) : xM Int32 :=
  xbd (xgI 5 1 a4) fun v32 =>
  xrt v32
def f_X0_line_b88 (a4 : Nat) : xM Int32 :=
  xbd (xgI 5 2 a4) fun v31 =>
  xrt v31
def f_X0_line_b96 (a4 : Nat) : xM Int32 :=
  xbd (xgI 5 3 a4) fun v30 =>
  xrt v30
def f_X0_line_b104 (a4 : Nat) : xM Int32 :=
  xbd (xgI 5 4 a4) fun v29 =>
  xrt v29
def f_X0_line_b112 (a4 : Nat) : xM Int32 :=
  xbd (xgI 5 5 a4) fun v28 =>
  xrt v28
def f_X0_line_b120 (a4 : Nat) : xM Int32 :=
  xbd (xgI 5 6 a4) fun v27 =>
  xrt v27
def f_X0_line_b128 (a4 : Nat) : xM Int32 :=
  xbd (xgI 5 7 a4) fun v26 =>
  xrt v26
def f_X0_line_b136 (a4 : Nat) : xM Int32 :=
  xbd (xgI 5 8 a4) fun v25 =>
  xrt v25
def f_X0_line_b144 (a0 : Nat) (a1 : Int32) (a2 : Int32) : xM Int32 :=
  xbd (f_X0_isOpen a0 a1) fun v22 =>
  if v22 = 0 then
    xrt (0 : Int32)
  else
    xbd (f_X0_roomOf a0 a1 a2) fun v23 =>
    xbd (f_J21_max (0 : Int32) v23) fun v24 =>
    xrt v24
def f_X0_line_b169 (a0 : Nat) (a1 : Int32) (a2 : Int32) : xM Int32 :=
  xbd (xgN 0 0 a0) fun v19 =>
  xbd (f_X1_left v19 a1 a2) fun v20 =>
  xbd (f_J21_max (0 : Int32) v20) fun v21 =>
  xrt v21
def f_X0_line (a0 : Nat) (a1 : Int32) (a2 : Int32) (a3 : Int32) : xM Int32 :=
  xbd (xck 0 a0) fun _ =>
  xbd (xgN 0 0 a0) fun v33 =>
  xbd (f_X1_hasLine v33 a1 a2) fun v34 =>
  if v34 = 0 then
    xrt (-1 : Int32)
  else
    xbd (xgN 0 0 a0) fun v35 =>
    xbd (f_X1_line v35 a1 a2) fun v36 =>
    if a3 = (0 : Int32) then
      f_X0_line_b80 v36
    else
      if a3 = (1 : Int32) then
        f_X0_line_b88 v36
      else
        if a3 = (2 : Int32) then
          f_X0_line_b96 v36
        else
          if a3 = (3 : Int32) then
            f_X0_line_b104 v36
          else
            if a3 = (4 : Int32) then
              f_X0_line_b112 v36
            else
              if a3 = (5 : Int32) then
                f_X0_line_b120 v36
              else
                if a3 = (6 : Int32) then
                  f_X0_line_b128 v36
                else
                  if a3 = (7 : Int32) then
                    f_X0_line_b136 v36
                  else
                    if a3 = (8 : Int32) then
                      f_X0_line_b144 a0 a1 a2
                    else
                      if a3 = (9 : Int32) then
                        f_X0_line_b169 a0 a1 a2
                      else
                        xrt (-2 : Int32)
def f_X3_atLeast0 (a0 : Int32) : xM Int32 :=
  if a0 ≤ 0 then
    xrt (0 : Int32)
  else
    xrt a0
def f_X3_line_b107 (t0 : Int32) : xM Int32 :=
  xbd (f_X3_atLeast0 t0) fun v18 =>
  xrt v18
def f_X3_line_b58 (t0 : Int32) (a0 : Nat) (a1 : Int32) (a2 : Int32) (a3 : Int32) : xM Int32 :=
  if (8 : Int32) ≤ a3 then
    if a3 = (8 : Int32) then
      f_X3_line_b107 t0
    else
      xbd (f_X3_billsMost a0 a1 a2) fun v13 =>
      xbd (f_X3_ofLine a1 a2 (5 : Int32)) fun v14 =>
      xbd (f_X3_at a0 v14) fun v15 =>
      f_X3_line_b107 (v13 - v15)
  else
    xbd (f_X3_ofLine a1 a2 a3) fun v16 =>
    xbd (f_X3_at a0 v16) fun v17 =>
    xrt v17
def f_X3_line (a0 : Nat) (a1 : Int32) (a2 : Int32) (a3 : Int32) : xM Int32 :=
  xbd (xck 3 a0) fun _ =>
  xbd (xpt 3 0 a0 (.int (0 : Int32))) fun _ =>
  xbd (f_X3_isLine a0 a1 a2) fun v19 =>
  if v19 = 0 then
    xrt (-1 : Int32)
  else
    xbd (f_X3_in a3 (0 : Int32) (9 : Int32)) fun v20 =>
    if v20 = 0 then
      xrt (-2 : Int32)
    else
      xbd (f_X3_isOpen a0 a1) fun v21 =>
      if v21 = 0 then
        f_X3_line_b58 (0 : Int32) a0 a1 a2 a3
      else
        xbd (f_X3_takesMost a0 a1 a2) fun v22 =>
        xbd (f_X3_ofLine a1 a2 (3 : Int32)) fun v23 =>
        xbd (f_X3_at a0 v23) fun v24 =>
        f_X3_line_b58 (v22 - v24) a0 a1 a2 a3
def f_X0_invoice_b96 (a3 : Nat) : xM Int32 :=
  xbd (xgI 4 1 a3) fun v34 =>
  xrt v34
def f_X0_invoice_b103 (a3 : Nat) : xM Int32 :=
  xbd (xgI 4 2 a3) fun v33 =>
  xrt v33
def f_X0_invoice_b110 (a3 : Nat) : xM Int32 :=
  xbd (xgI 4 3 a3) fun v32 =>
  xrt v32
def f_X0_invoice_b117 (a3 : Nat) : xM Int32 :=
  xbd (xgN 4 4 a3) fun v30 =>
  xbd (xln v30) fun v31 =>
  xrt v31
def f_X0_invoice_b125 (a3 : Nat) : xM Int32 :=
  xbd (xgI 4 5 a3) fun v29 =>
  xrt v29
def f_X0_invoice_b132 (a3 : Nat) : xM Int32 :=
  xbd (xgI 4 6 a3) fun v28 =>
  xrt v28
def f_X0_invoice_b139 (a3 : Nat) : xM Int32 :=
  xbd (f_X4_total a3) fun v27 =>
  xrt v27
def f_X0_invoice_b146 (a3 : Nat) : xM Int32 :=
  xbd (xgI 4 7 a3) fun v26 =>
  xrt v26
def f_X0_invoice_b153 (a3 : Nat) : xM Int32 :=
  xbd (xgI 4 8 a3) fun v25 =>
  xrt v25
def f_X0_invoice_b160 (a3 : Nat) : xM Int32 :=
  xbd (xgI 4 9 a3) fun v24 =>
  xrt v24
def f_X0_invoice_b167 (a3 : Nat) : xM Int32 :=
  xbd (xgI 4 10 a3) fun v23 =>
  xrt v23
def f_X0_invoice_b174 (a0 : Nat) (a3 : Nat) : xM Int32 :=
  xbd (xgN 0 0 a0) fun v21 =>
  xbd (f_X1_against v21 a3) fun v22 =>
  xrt v22
def f_X0_invoice (a0 : Nat) (a1 : Int32) (a2 : Int32) : xM Int32 :=
  xbd (xck 0 a0) fun _ =>
  xbd (xgN 0 0 a0) fun v35 =>
  xbd (xgN 1 2 v35) fun v36 =>
  xbd (f_X2_has v36 a1) fun v37 =>
  if v37 = 0 then
    xrt (-1 : Int32)
  else
    xbd (xgN 0 0 a0) fun v38 =>
    xbd (xgN 1 2 v38) fun v39 =>
    xbd (f_X2_get v39 a1) fun v40 =>
    xbd (xcks [4] v40) fun _ =>
    if a2 = (0 : Int32) then
      f_X0_invoice_b96 v40
    else
      if a2 = (1 : Int32) then
        f_X0_invoice_b103 v40
      else
        if a2 = (2 : Int32) then
          f_X0_invoice_b110 v40
        else
          if a2 = (3 : Int32) then
            f_X0_invoice_b117 v40
          else
            if a2 = (4 : Int32) then
              f_X0_invoice_b125 v40
            else
              if a2 = (5 : Int32) then
                f_X0_invoice_b132 v40
              else
                if a2 = (6 : Int32) then
                  f_X0_invoice_b139 v40
                else
                  if a2 = (7 : Int32) then
                    f_X0_invoice_b146 v40
                  else
                    if a2 = (8 : Int32) then
                      f_X0_invoice_b153 v40
                    else
                      if a2 = (9 : Int32) then
                        f_X0_invoice_b160 v40
                      else
                        if a2 = (10 : Int32) then
                          f_X0_invoice_b167 v40
                        else
                          if a2 = (11 : Int32) then
                            f_X0_invoice_b174 a0 v40
                          else
                            xrt (-2 : Int32)
def f_X3_invoice_b80 (a0 : Nat) (a1 : Int32) (a2 : Int32) : xM Int32 :=
  xbd (f_X3_ofInvoice a1 a2) fun v12 =>
  xbd (f_X3_at a0 v12) fun v13 =>
  xrt v13
def f_X3_invoice_b90 (a0 : Nat) (a1 : Int32) : xM Int32 :=
  xbd (f_X3_total a0 a1) fun v11 =>
  xrt v11
def f_X3_invoice_b96 (a0 : Nat) (a1 : Int32) (a2 : Int32) : xM Int32 :=
  xbd (f_X3_ofInvoice a1 (a2 - (1 : Int32))) fun v9 =>
  xbd (f_X3_at a0 v9) fun v10 =>
  xrt v10
def f_X3_invoice_b108 (a0 : Nat) (a1 : Int32) : xM Int32 :=
  xbd (f_X3_reasons a0 a1) fun v8 =>
  xrt v8
def f_X3_invoice (a0 : Nat) (a1 : Int32) (a2 : Int32) : xM Int32 :=
  xbd (xck 3 a0) fun _ =>
  xbd (xpt 3 0 a0 (.int (0 : Int32))) fun _ =>
  xbd (f_X3_isInvoice a0 a1) fun v14 =>
  if v14 = 0 then
    xrt (-1 : Int32)
  else
    if a2 = (0 : Int32) then
      f_X3_invoice_b80 a0 a1 a2
    else
      if a2 = (1 : Int32) then
        f_X3_invoice_b80 a0 a1 a2
      else
        if a2 = (2 : Int32) then
          f_X3_invoice_b80 a0 a1 a2
        else
          if a2 = (3 : Int32) then
            f_X3_invoice_b80 a0 a1 a2
          else
            if a2 = (4 : Int32) then
              f_X3_invoice_b80 a0 a1 a2
            else
              if a2 = (5 : Int32) then
                f_X3_invoice_b80 a0 a1 a2
              else
                if a2 = (6 : Int32) then
                  f_X3_invoice_b90 a0 a1
                else
                  if a2 = (7 : Int32) then
                    f_X3_invoice_b96 a0 a1 a2
                  else
                    if a2 = (8 : Int32) then
                      f_X3_invoice_b96 a0 a1 a2
                    else
                      if a2 = (9 : Int32) then
                        f_X3_invoice_b96 a0 a1 a2
                      else
                        if a2 = (10 : Int32) then
                          f_X3_invoice_b96 a0 a1 a2
                        else
                          if a2 = (11 : Int32) then
                            f_X3_invoice_b108 a0 a1
                          else
                            xrt (-2 : Int32)
def f_X0_entry (a0 : Nat) (a1 : Int32) (a2 : Int32) (a3 : Int32) : xM Int32 :=
  xbd (xck 0 a0) fun _ =>
  xbd (xgN 0 0 a0) fun v18 =>
  xbd (xgN 1 2 v18) fun v19 =>
  xbd (f_X2_has v19 a1) fun v20 =>
  if v20 = 0 then
    xrt (-1 : Int32)
  else
    xbd (xgN 0 0 a0) fun v21 =>
    xbd (xgN 1 2 v21) fun v22 =>
    xbd (f_X2_get v22 a1) fun v23 =>
    xbd (xcks [4] v23) fun _ =>
    xbd (xgN 4 4 v23) fun v24 =>
    xbd (xln v24) fun v25 =>
    xbd (f_X0_inRange a2 (0 : Int32) (v25 - (1 : Int32))) fun v26 =>
    if v26 = 0 then
      xrt (-1 : Int32)
    else
      xbd (xgN 0 0 a0) fun v27 =>
      xbd (xgN 1 2 v27) fun v28 =>
      xbd (f_X2_get v28 a1) fun v29 =>
      xbd (xcks [4] v29) fun _ =>
      xbd (xgN 4 4 v29) fun v30 =>
      xbd (xldN 4 v30 a2) fun v31 =>
      if a3 = 0 then
        xbd (xgI 9 0 v31) fun v34 =>
        xrt v34
      else
        if a3 = (1 : Int32) then
          xbd (xgI 9 1 v31) fun v33 =>
          xrt v33
        else
          if a3 = (2 : Int32) then
            xbd (xgI 9 2 v31) fun v32 =>
            xrt v32
          else
            xrt (-2 : Int32)
def f_X3_entry (a0 : Nat) (a1 : Int32) (a2 : Int32) (a3 : Int32) : xM Int32 :=
  xbd (xck 3 a0) fun _ =>
  xbd (xpt 3 0 a0 (.int (0 : Int32))) fun _ =>
  xbd (f_X3_isInvoice a0 a1) fun v7 =>
  if v7 = 0 then
    xrt (-1 : Int32)
  else
    xbd (f_X3_ofInvoice a1 (3 : Int32)) fun v8 =>
    xbd (f_X3_at a0 v8) fun v9 =>
    xbd (f_X3_in a2 (0 : Int32) (v9 - (1 : Int32))) fun v10 =>
    if v10 = 0 then
      xrt (-1 : Int32)
    else
      xbd (f_X3_in a3 (0 : Int32) (2 : Int32)) fun v11 =>
      if v11 = 0 then
        xrt (-2 : Int32)
      else
        xbd (f_X3_entryOf a0 a1 a2 a3) fun v12 =>
        xrt v12
def f_X0_wouldMatch (a0 : Nat) (a1 : Int32) (a2 : Int32) (a3 : Int32) (a4 : Int32) : xM Int32 :=
  xbd (xck 0 a0) fun _ =>
  xbd (xgN 0 0 a0) fun v14 =>
  xbd (f_X1_hasLine v14 a1 a2) fun v15 =>
  if v15 = 0 then
    xrt (-1 : Int32)
  else
    xbd (f_X0_areUnits a3) fun v16 =>
    if v16 = 0 then
      xrt (-2 : Int32)
    else
      xbd (f_X0_isPrice a4) fun v17 =>
      if v17 = 0 then
        xrt (-2 : Int32)
      else
        xbd (xgN 0 0 a0) fun v18 =>
        xbd (f_X1_copy v18) fun v19 =>
        xbd (xnw 4 [.int 0, .int 0, .int 0, .int 0, .null, .int 0, .int 0, .int 0, .int 0, .int 0, .int 0, .int 0, .int 0]) fun v20 =>
        xbd (xgN 1 2 v19) fun v21 =>
        xbd (f_X2_size v21) fun v22 =>
        xbd (xgI 1 7 v19) fun v23 =>
        xbd (xna 4 xzR (1 : Int32)) fun v24 =>
        xbd (xnw 9 [.int 0, .int 0, .int 0]) fun v25 =>
        xbd (f_X10_init v25 a2 a3 a4) fun _ =>
        xbd (xstR 4 v24 (0 : Int32) v25) fun _ =>
        xbd (f_X4_init v20 v22 (-5 : Int32) a1 v23 v24) fun _ =>
        xbd (f_X1_against v19 v20) fun v26 =>
        xrt v26
def f_X3_wouldMatch_b92 (t0 : Int32) (t1 : Int32) : xM Int32 :=
  xrt (t0 + t1)
def f_X3_wouldMatch_b65 (t0 : Int32) (t1 : Int32) (a0 : Nat) (a1 : Int32) (a2 : Int32) (a3 : Int32) : xM Int32 :=
  xbd (f_X3_ofLine a1 a2 (5 : Int32)) fun v9 =>
  xbd (f_X3_at a0 v9) fun v10 =>
  xbd (f_X3_isMuch a0 a1 a2 v10 a3) fun v11 =>
  if v11 = 0 then
    f_X3_wouldMatch_b92 (t0 + t1) (0 : Int32)
  else
    f_X3_wouldMatch_b92 (t0 + t1) (16 : Int32)
def f_X3_wouldMatch (a0 : Nat) (a1 : Int32) (a2 : Int32) (a3 : Int32) (a4 : Int32) : xM Int32 :=
  xbd (xck 3 a0) fun _ =>
  xbd (xpt 3 0 a0 (.int (0 : Int32))) fun _ =>
  xbd (f_X3_isLine a0 a1 a2) fun v12 =>
  if v12 = 0 then
    xrt (-1 : Int32)
  else
    xbd (f_X3_in a3 (1 : Int32) (999 : Int32)) fun v13 =>
    if v13 = 0 then
      xrt (-2 : Int32)
    else
      xbd (f_X3_in a4 (1 : Int32) (9999 : Int32)) fun v14 =>
      if v14 = 0 then
        xrt (-2 : Int32)
      else
        xbd (f_X3_reasonsOf a0 a1) fun v15 =>
        xbd (f_X3_isDear a0 a1 a2 a3 a4) fun v16 =>
        if v16 = 0 then
          f_X3_wouldMatch_b65 v15 (0 : Int32) a0 a1 a2 a3
        else
          f_X3_wouldMatch_b65 v15 (8 : Int32) a0 a1 a2 a3
def f_X0_greatestPrice_b39 (rec39 : Nat → Int32 → Int32 → Int32 → Nat → Int32 → xM Int32) (a0 : Nat) (a1 : Int32) (a2 : Int32) (a3 : Int32) (a4 : Nat) (a5 : Int32) : xM Int32 :=
  xbd (xgN 0 0 a0) fun v9 =>
  xbd (f_X1_line v9 a1 a2) fun v10 =>
  xbd (f_X7_isTooDear a4 a5 a3 v10) fun v11 =>
  if v11 = 0 then
    xrt a5
  else
    rec39 a0 a1 a2 a3 a4 (a5 - (1 : Int32))
def f_X0_greatestPrice_L39 : Nat → Nat → Int32 → Int32 → Int32 → Nat → Int32 → xM Int32
  | 0, _, _, _, _, _, _ => xno
  | n+1, a0, a1, a2, a3, a4, a5 => f_X0_greatestPrice_b39 (f_X0_greatestPrice_L39 n) a0 a1 a2 a3 a4 a5
def f_X0_greatestPrice (a0 : Nat) (a1 : Int32) (a2 : Int32) (a3 : Int32) : xM Int32 :=
  xbd (xck 0 a0) fun _ =>
  xbd (xgN 0 0 a0) fun v12 =>
  xbd (f_X1_hasLine v12 a1 a2) fun v13 =>
  if v13 = 0 then
    xrt (-1 : Int32)
  else
    xbd (f_X0_areUnits a3) fun v14 =>
    if v14 = 0 then
      xrt (-2 : Int32)
    else
      xbd (xgN 0 0 a0) fun v15 =>
      xbd (f_X1_supplierOf v15 a1) fun v16 =>
      f_X0_greatestPrice_L39 xFU a0 a1 a2 a3 v16 (9999 : Int32)
def f_X3_greatestPrice_b35 (rec35 : Nat → Int32 → Int32 → Int32 → Int32 → xM Int32) (a0 : Nat) (a1 : Int32) (a2 : Int32) (a3 : Int32) (a4 : Int32) : xM Int32 :=
  xbd (f_X3_isDear a0 a1 a2 a3 a4) fun v4 =>
  if v4 = 0 then
    xrt a4
  else
    rec35 a0 a1 a2 a3 (a4 - (1 : Int32))
def f_X3_greatestPrice_L35 : Nat → Nat → Int32 → Int32 → Int32 → Int32 → xM Int32
  | 0, _, _, _, _, _ => xno
  | n+1, a0, a1, a2, a3, a4 => f_X3_greatestPrice_b35 (f_X3_greatestPrice_L35 n) a0 a1 a2 a3 a4
def f_X3_greatestPrice (a0 : Nat) (a1 : Int32) (a2 : Int32) (a3 : Int32) : xM Int32 :=
  xbd (xck 3 a0) fun _ =>
  xbd (xpt 3 0 a0 (.int (0 : Int32))) fun _ =>
  xbd (f_X3_isLine a0 a1 a2) fun v5 =>
  if v5 = 0 then
    xrt (-1 : Int32)
  else
    xbd (f_X3_in a3 (1 : Int32) (999 : Int32)) fun v6 =>
    if v6 = 0 then
      xrt (-2 : Int32)
    else
      f_X3_greatestPrice_L35 xFU a0 a1 a2 a3 (9999 : Int32)
def f_X1_firstShare_b62 (rec12 : Int32 → Int32 → Nat → xM UInt64) (t0 : Int32) (t1 : Int32) (a2 : Int32) (a3 : Nat) : xM UInt64 :=
  rec12 (t0 + t1) a2 a3
def f_X1_firstShare_b46 (rec12 : Int32 → Int32 → Nat → xM UInt64) (t0 : Int32) (t1 : Int32) (a1 : Int32) (a3 : Nat) (a4 : Nat) : xM UInt64 :=
  xbd (xgI 4 12 a4) fun v10 =>
  if v10 = 0 then
    f_X1_firstShare_b62 rec12 a1 (0 : Int32) (t0 + t1) a3
  else
    f_X1_firstShare_b62 rec12 a1 (1 : Int32) (t0 + t1) a3
def f_X1_firstShare_b67 (a1 : Int32) (a2 : Int32) : xM UInt64 :=
  if a2 = 0 then
    xrt FP.dconst0
  else
    xbd (xdb (FP.ddiv (FP.i2d a1) (FP.i2d a2))) fun _ =>
    xrt (FP.ddiv (FP.i2d a1) (FP.i2d a2))
def f_X1_firstShare_b12 (rec12 : Int32 → Int32 → Nat → xM UInt64) (a1 : Int32) (a2 : Int32) (a3 : Nat) : xM UInt64 :=
  xbd (f_J10_hasNext a3) fun v7 =>
  if v7 = 0 then
    f_X1_firstShare_b67 a1 a2
  else
    xbd (f_J10_next a3) fun v8 =>
    xbd (xcks [4] v8) fun _ =>
    xbd (xgI 4 11 v8) fun v9 =>
    if v9 = 0 then
      f_X1_firstShare_b46 rec12 a2 (0 : Int32) a1 a3 v8
    else
      f_X1_firstShare_b46 rec12 a2 (1 : Int32) a1 a3 v8
def f_X1_firstShare_L12 : Nat → Int32 → Int32 → Nat → xM UInt64
  | 0, _, _, _ => xno
  | n+1, a1, a2, a3 => f_X1_firstShare_b12 (f_X1_firstShare_L12 n) a1 a2 a3
def f_X1_firstShare (a0 : Nat) : xM UInt64 :=
  xbd (xck 1 a0) fun _ =>
  xbd (xgN 1 2 a0) fun v11 =>
  xbd (f_X2_iterator v11) fun v12 =>
  f_X1_firstShare_L12 xFU (0 : Int32) (0 : Int32) v12
def f_X1_open_b125 (rec11 : Int32 → UInt64 → Nat → xM UInt64) (rec43 : Int32 → UInt64 → Nat → Nat → Nat → xM UInt64) (a1 : Int32) (a2 : UInt64) (a4 : Nat) (a5 : Nat) (a6 : Nat) : xM UInt64 :=
  rec43 a1 a2 a4 a5 a6
def f_X1_open_b106 (rec11 : Int32 → UInt64 → Nat → xM UInt64) (rec43 : Int32 → UInt64 → Nat → Nat → Nat → xM UInt64) (t0 : Int32) (a1 : Int32) (a2 : UInt64) (a4 : Nat) (a5 : Nat) (a6 : Nat) (a7 : Nat) : xM UInt64 :=
  if t0 ≤ 0 then
    f_X1_open_b125 rec11 rec43 a1 a2 a4 a5 a6
  else
    xbd (xgI 5 3 a7) fun v26 =>
    xbd (xdb (FP.dadd a2 (FP.i2d (t0 * v26)))) fun _ =>
    f_X1_open_b125 rec11 rec43 a1 (FP.dadd a2 (FP.i2d (t0 * v26))) a4 a5 a6
def f_X1_open_b128 (rec11 : Int32 → UInt64 → Nat → xM UInt64) (a1 : Int32) (a2 : UInt64) (a4 : Nat) : xM UInt64 :=
  rec11 a1 a2 a4
def f_X1_open_b43 (rec11 : Int32 → UInt64 → Nat → xM UInt64) (rec43 : Int32 → UInt64 → Nat → Nat → Nat → xM UInt64) (a1 : Int32) (a2 : UInt64) (a4 : Nat) (a5 : Nat) (a6 : Nat) : xM UInt64 :=
  xbd (f_J10_hasNext a6) fun v19 =>
  if v19 = 0 then
    f_X1_open_b128 rec11 a1 a2 a4
  else
    xbd (f_J10_next a6) fun v20 =>
    xbd (xcks [5] v20) fun _ =>
    if a1 = 0 then
      xbd (xgI 6 3 a5) fun v21 =>
      if v21 = 0 then
        xbd (xgI 5 2 v20) fun v22 =>
        xbd (xgI 5 4 v20) fun v23 =>
        f_X1_open_b106 rec11 rec43 (v22 - v23) a1 a2 a4 a5 a6 v20
      else
        f_X1_open_b106 rec11 rec43 (0 : Int32) a1 a2 a4 a5 a6 v20
    else
      xbd (xgI 5 4 v20) fun v24 =>
      xbd (xgI 5 6 v20) fun v25 =>
      f_X1_open_b106 rec11 rec43 (v24 - v25) a1 a2 a4 a5 a6 v20
def f_X1_open_L43 (rec11 : Int32 → UInt64 → Nat → xM UInt64) : Nat → Int32 → UInt64 → Nat → Nat → Nat → xM UInt64
  | 0, _, _, _, _, _ => xno
  | n+1, a1, a2, a4, a5, a6 => f_X1_open_b43 rec11 (f_X1_open_L43 rec11 n) a1 a2 a4 a5 a6
def f_X1_open_b131 (a2 : UInt64) : xM UInt64 :=
  xrt a2
def f_X1_open_b11 (rec11 : Int32 → UInt64 → Nat → xM UInt64) (a1 : Int32) (a2 : UInt64) (a4 : Nat) : xM UInt64 :=
  xbd (f_J10_hasNext a4) fun v15 =>
  if v15 = 0 then
    f_X1_open_b131 a2
  else
    xbd (f_J10_next a4) fun v16 =>
    xbd (xcks [6] v16) fun _ =>
    xbd (xgN 6 2 v16) fun v17 =>
    xbd (f_X2_iterator v17) fun v18 =>
    f_X1_open_L43 rec11 xFU a1 a2 a4 v16 v18
def f_X1_open_L11 : Nat → Int32 → UInt64 → Nat → xM UInt64
  | 0, _, _, _ => xno
  | n+1, a1, a2, a4 => f_X1_open_b11 (f_X1_open_L11 n) a1 a2 a4
def f_X1_open (a0 : Nat) (a1 : Int32) : xM UInt64 :=
  xbd (xck 1 a0) fun _ =>
  xbd (xgN 1 1 a0) fun v27 =>
  xbd (f_X2_iterator v27) fun v28 =>
  f_X1_open_L11 xFU a1 FP.dconst0 v28
def f_X0_value_b32 (a0 : Nat) : xM UInt64 :=
  xbd (xgN 0 0 a0) fun v17 =>
  xbd (xgD 1 4 v17) fun v18 =>
  xrt v18
def f_X0_value_b42 (a0 : Nat) : xM UInt64 :=
  xbd (xgN 0 0 a0) fun v15 =>
  xbd (f_X1_open v15 (1 : Int32)) fun v16 =>
  xrt v16
def f_X0_value_b53 (a0 : Nat) : xM UInt64 :=
  xbd (xgN 0 0 a0) fun v13 =>
  xbd (f_X1_open v13 (0 : Int32)) fun v14 =>
  xrt v14
def f_X0_value_b64 (a0 : Nat) : xM UInt64 :=
  xbd (xgN 0 0 a0) fun v11 =>
  xbd (f_X1_firstShare v11) fun v12 =>
  xrt v12
def f_X0_value_b74 : xM UInt64 :=
  xbd f_X0_nothing fun v10 =>
  xrt v10
def f_X0_value (a0 : Nat) (a1 : Int32) : xM UInt64 :=
  xbd (xck 0 a0) fun _ =>
  if a1 = (0 : Int32) then
    f_X0_value_b32 a0
  else
    if a1 = (1 : Int32) then
      f_X0_value_b42 a0
    else
      if a1 = (2 : Int32) then
        f_X0_value_b53 a0
      else
        if a1 = (3 : Int32) then
          f_X0_value_b64 a0
        else
          f_X0_value_b74
def f_X3_worth_b100 (rec6 : Nat → Int32 → Int32 → Int32 → UInt64 → Int32 → xM UInt64) (rec19 : Nat → Int32 → Int32 → Int32 → UInt64 → Int32 → Int32 → xM UInt64) (a0 : Nat) (a1 : Int32) (a2 : Int32) (a3 : Int32) (a4 : UInt64) (a6 : Int32) (a7 : Int32) : xM UInt64 :=
  rec19 a0 a1 a2 a3 a4 a6 (a7 + (1 : Int32))
def f_X3_worth_b79 (rec6 : Nat → Int32 → Int32 → Int32 → UInt64 → Int32 → xM UInt64) (rec19 : Nat → Int32 → Int32 → Int32 → UInt64 → Int32 → Int32 → xM UInt64) (a0 : Nat) (a1 : Int32) (a2 : Int32) (a3 : Int32) (a4 : UInt64) (a6 : Int32) (a7 : Int32) (a8 : Int32) : xM UInt64 :=
  xbd (f_X3_ofLine a6 a7 (2 : Int32)) fun v19 =>
  xbd (f_X3_at a0 v19) fun v20 =>
  xbd (xdb (FP.dadd a4 (FP.i2d (a8 * v20)))) fun _ =>
  f_X3_worth_b100 rec6 rec19 a0 a1 a2 a3 (FP.dadd a4 (FP.i2d (a8 * v20))) a6 a7
def f_X3_worth_b106 (rec6 : Nat → Int32 → Int32 → Int32 → UInt64 → Int32 → xM UInt64) (a0 : Nat) (a1 : Int32) (a2 : Int32) (a3 : Int32) (a4 : UInt64) (a6 : Int32) : xM UInt64 :=
  rec6 a0 a1 a2 a3 a4 (a6 + (1 : Int32))
def f_X3_worth_b19 (rec6 : Nat → Int32 → Int32 → Int32 → UInt64 → Int32 → xM UInt64) (rec19 : Nat → Int32 → Int32 → Int32 → UInt64 → Int32 → Int32 → xM UInt64) (a0 : Nat) (a1 : Int32) (a2 : Int32) (a3 : Int32) (a4 : UInt64) (a6 : Int32) (a7 : Int32) : xM UInt64 :=
  xbd (f_X3_ofOrder a6 (1 : Int32)) fun v12 =>
  xbd (f_X3_at a0 v12) fun v13 =>
  if v13 ≤ a7 then
    f_X3_worth_b106 rec6 a0 a1 a2 a3 a4 a6
  else
    xbd (f_X3_ofLine a6 a7 a2) fun v14 =>
    xbd (f_X3_at a0 v14) fun v15 =>
    xbd (f_X3_ofLine a6 a7 a3) fun v16 =>
    xbd (f_X3_at a0 v16) fun v17 =>
    if (v15 - v17) ≤ 0 then
      f_X3_worth_b100 rec6 rec19 a0 a1 a2 a3 a4 a6 a7
    else
      if a1 = 0 then
        f_X3_worth_b79 rec6 rec19 a0 a1 a2 a3 a4 a6 a7 (v15 - v17)
      else
        xbd (f_X3_isOpen a0 a6) fun v18 =>
        if v18 = 0 then
          f_X3_worth_b100 rec6 rec19 a0 a1 a2 a3 a4 a6 a7
        else
          f_X3_worth_b79 rec6 rec19 a0 a1 a2 a3 a4 a6 a7 (v15 - v17)
def f_X3_worth_L19 (rec6 : Nat → Int32 → Int32 → Int32 → UInt64 → Int32 → xM UInt64) : Nat → Nat → Int32 → Int32 → Int32 → UInt64 → Int32 → Int32 → xM UInt64
  | 0, _, _, _, _, _, _, _ => xno
  | n+1, a0, a1, a2, a3, a4, a6, a7 => f_X3_worth_b19 rec6 (f_X3_worth_L19 rec6 n) a0 a1 a2 a3 a4 a6 a7
def f_X3_worth_b112 (a4 : UInt64) : xM UInt64 :=
  xrt a4
def f_X3_worth_b6 (rec6 : Nat → Int32 → Int32 → Int32 → UInt64 → Int32 → xM UInt64) (a0 : Nat) (a1 : Int32) (a2 : Int32) (a3 : Int32) (a4 : UInt64) (a6 : Int32) : xM UInt64 :=
  xbd (f_X3_at a0 (2 : Int32)) fun v11 =>
  if v11 ≤ a6 then
    f_X3_worth_b112 a4
  else
    f_X3_worth_L19 rec6 xFU a0 a1 a2 a3 a4 a6 (0 : Int32)
def f_X3_worth_L6 : Nat → Nat → Int32 → Int32 → Int32 → UInt64 → Int32 → xM UInt64
  | 0, _, _, _, _, _, _ => xno
  | n+1, a0, a1, a2, a3, a4, a6 => f_X3_worth_b6 (f_X3_worth_L6 n) a0 a1 a2 a3 a4 a6
def f_X3_worth (a0 : Nat) (a1 : Int32) (a2 : Int32) (a3 : Int32) : xM UInt64 :=
  xbd (xck 3 a0) fun _ =>
  f_X3_worth_L6 xFU a0 a1 a2 a3 FP.dconst0 (0 : Int32)
def f_X3_value_b36 (a0 : Nat) : xM UInt64 :=
  xbd (f_X3_real a0 (4 : Int32)) fun v12 =>
  xrt v12
def f_X3_value_b42 (a0 : Nat) : xM UInt64 :=
  xbd (f_X3_worth a0 (0 : Int32) (3 : Int32) (5 : Int32)) fun v11 =>
  xrt v11
def f_X3_value_b50 (a0 : Nat) : xM UInt64 :=
  xbd (f_X3_worth a0 (1 : Int32) (1 : Int32) (3 : Int32)) fun v10 =>
  xrt v10
def f_X3_value_b58 (a0 : Nat) : xM UInt64 :=
  xbd (f_X3_at a0 (8 : Int32)) fun v7 =>
  if v7 = 0 then
    xrt FP.dconst0
  else
    xbd (f_X3_at a0 (7 : Int32)) fun v8 =>
    xbd (f_X3_at a0 (8 : Int32)) fun v9 =>
    xbd (xdb (FP.ddiv (FP.i2d v8) (FP.i2d v9))) fun _ =>
    xrt (FP.ddiv (FP.i2d v8) (FP.i2d v9))
def f_X3_value_b87 : xM UInt64 :=
  xrt (9221120237041090560 : UInt64)
def f_X3_value (a0 : Nat) (a1 : Int32) : xM UInt64 :=
  xbd (xck 3 a0) fun _ =>
  xbd (xpt 3 0 a0 (.int (0 : Int32))) fun _ =>
  if a1 = (0 : Int32) then
    f_X3_value_b36 a0
  else
    if a1 = (1 : Int32) then
      f_X3_value_b42 a0
    else
      if a1 = (2 : Int32) then
        f_X3_value_b50 a0
      else
        if a1 = (3 : Int32) then
          f_X3_value_b58 a0
        else
          f_X3_value_b87
def f_X0_takes_b98 (t0 : Nat) (t1 : Int32) (t2 : Nat) : xM Int32 :=
  xbd (xaki t0 t1 t2) fun t =>
  if t = 5 then
    xbd (xstR 5 t0 t1 t2) fun _ =>
    xrt (1 : Int32)
  else if t = 6 then
    xbd (xstR 6 t0 t1 t2) fun _ =>
    xrt (1 : Int32)
  else
    xbd xbump fun _ =>
    xrt (0 : Int32)
def f_X0_takes_b64 (t0 : Nat) (a0 : Nat) (a2 : Int32) (a3 : Int32) : xM Int32 :=
  if a2 = 0 then
    xbd (xgN 0 0 a0) fun v19 =>
    xbd (xgN 1 1 v19) fun v20 =>
    xbd (f_X2_get v20 a3) fun v21 =>
    f_X0_takes_b98 t0 (0 : Int32) v21
  else
    xbd (xgN 0 0 a0) fun v22 =>
    xbd (xgN 1 2 v22) fun v23 =>
    xbd (f_X2_get v23 a3) fun v24 =>
    f_X0_takes_b98 t0 (0 : Int32) v24
def f_X0_takes_b37 (a0 : Nat) (a1 : Int32) (a2 : Int32) (a3 : Int32) : xM Int32 :=
  xbd (f_X0_inRange a1 (0 : Int32) (1 : Int32)) fun v16 =>
  if v16 = 0 then
    xrt (-2 : Int32)
  else
    if a1 = 0 then
      xbd (xna 5 xzR (1 : Int32)) fun v18 =>
      f_X0_takes_b64 v18 a0 a2 a3
    else
      xbd (xna 6 xzR (1 : Int32)) fun v17 =>
      f_X0_takes_b64 v17 a0 a2 a3
def f_X0_takes (a0 : Nat) (a1 : Int32) (a2 : Int32) (a3 : Int32) : xM Int32 :=
  xbd (xck 0 a0) fun _ =>
  if a2 = 0 then
    xbd (xgN 0 0 a0) fun v25 =>
    xbd (xgN 1 1 v25) fun v26 =>
    xbd (f_X2_has v26 a3) fun v27 =>
    if v27 = 0 then
      xrt (-1 : Int32)
    else
      f_X0_takes_b37 a0 a1 a2 a3
  else
    xbd (xgN 0 0 a0) fun v28 =>
    xbd (xgN 1 2 v28) fun v29 =>
    xbd (f_X2_has v29 a3) fun v30 =>
    if v30 = 0 then
      xrt (-1 : Int32)
    else
      f_X0_takes_b37 a0 a1 a2 a3
def f_X3_takes_b54 (t0 : Int32) (a2 : Int32) : xM Int32 :=
  if t0 = a2 then
    xrt (1 : Int32)
  else
    xrt (0 : Int32)
def f_X3_takes_b30 (a1 : Int32) (a2 : Int32) : xM Int32 :=
  xbd (f_X3_in a1 (0 : Int32) (1 : Int32)) fun v4 =>
  if v4 = 0 then
    xrt (-2 : Int32)
  else
    if a1 = (1 : Int32) then
      f_X3_takes_b54 (1 : Int32) a2
    else
      f_X3_takes_b54 (0 : Int32) a2
def f_X3_takes (a0 : Nat) (a1 : Int32) (a2 : Int32) (a3 : Int32) : xM Int32 :=
  xbd (xck 3 a0) fun _ =>
  xbd (xpt 3 0 a0 (.int (0 : Int32))) fun _ =>
  if a2 = 0 then
    xbd (f_X3_isOrder a0 a3) fun v5 =>
    if v5 = 0 then
      xrt (-1 : Int32)
    else
      f_X3_takes_b30 a1 a2
  else
    xbd (f_X3_isInvoice a0 a3) fun v6 =>
    if v6 = 0 then
      xrt (-1 : Int32)
    else
      f_X3_takes_b30 a1 a2
def f_J4_isElementIndex (a0 : Nat) (a1 : Int32) : xM Int32 :=
  xbd (xck 13 a0) fun _ =>
  if a1 < 0 then
    xrtZ (0 : Int32)
  else
    xbd (xgI 13 1 a0) fun v2 =>
    if v2 ≤ a1 then
      xrtZ (0 : Int32)
    else
      xrtZ (1 : Int32)
def f_J4_checkElementIndex (a0 : Nat) (a1 : Int32) : xM Unit :=
  xbd (xck 13 a0) fun _ =>
  xbd (f_J4_isElementIndex a0 a1) fun v2 =>
  if v2 = 0 then
    xno
  else
    xrt ()
def f_J4_get (a0 : Nat) (a1 : Int32) : xM Nat :=
  xbd (xck 13 a0) fun _ =>
  xbd (f_J4_checkElementIndex a0 a1) fun _ =>
  xbd (f_J4_node a0 a1) fun v3 =>
  xbd (xgN 18 0 v3) fun v4 =>
  xrt v4
def f_X9_told_b28 (a0 : Nat) : xM Int32 :=
  xbd (xgI 8 0 a0) fun v8 =>
  xrt v8
def f_X9_told_b35 (a0 : Nat) : xM Int32 :=
  xbd (xgI 8 1 a0) fun v7 =>
  xrt v7
def f_X9_told_b42 (a0 : Nat) : xM Int32 :=
  xbd (xgI 8 2 a0) fun v6 =>
  xrt v6
def f_X9_told_b49 (a0 : Nat) : xM Int32 :=
  xbd (xgI 8 3 a0) fun v5 =>
  xrt v5
def f_X9_told (a0 : Nat) (a1 : Int32) : xM Int32 :=
  xbd (xck 8 a0) fun _ =>
  if a1 = (0 : Int32) then
    f_X9_told_b28 a0
  else
    if a1 = (1 : Int32) then
      f_X9_told_b35 a0
    else
      if a1 = (2 : Int32) then
        f_X9_told_b42 a0
      else
        f_X9_told_b49 a0
def f_X0_event (a0 : Nat) (a1 : Int32) (a2 : Int32) : xM Int32 :=
  xbd (xck 0 a0) fun _ =>
  if a1 < 0 then
    xrt (-2 : Int32)
  else
    xbd (f_X0_inRange a2 (0 : Int32) (3 : Int32)) fun v9 =>
    if v9 = 0 then
      xrt (-2 : Int32)
    else
      xbd (xgN 0 0 a0) fun v10 =>
      xbd (xgN 1 3 v10) fun v11 =>
      xbd (f_J4_size v11) fun v12 =>
      if v12 ≤ a1 then
        xrt (-5 : Int32)
      else
        xbd (xgN 0 0 a0) fun v13 =>
        xbd (xgN 1 3 v13) fun v14 =>
        xbd (f_J4_get v14 a1) fun v15 =>
        xbd (xcks [8] v15) fun _ =>
        xbd (f_X9_told v15 a2) fun v16 =>
        xrt v16
def f_X3_event (a0 : Nat) (a1 : Int32) (a2 : Int32) : xM Int32 :=
  xbd (xck 3 a0) fun _ =>
  xbd (xpt 3 0 a0 (.int (0 : Int32))) fun _ =>
  if a1 < 0 then
    xrt (-2 : Int32)
  else
    xbd (f_X3_in a2 (0 : Int32) (3 : Int32)) fun v4 =>
    if v4 = 0 then
      xrt (-2 : Int32)
    else
      if (10 : Int32) ≤ a1 then
        xrt (-5 : Int32)
      else
        xbd (f_X3_at a0 (10 : Int32)) fun v5 =>
        if v5 ≤ a1 then
          xrt (-5 : Int32)
        else
          xbd (f_X3_at a0 (((1371 : Int32) + ((4 : Int32) * a1)) + a2)) fun v6 =>
          xrt v6
def f_X7_weight (a0 : Nat) : xM Int32 :=
  xbd (xck 7 a0) fun _ =>
  xbd (xgI 7 4 a0) fun v2 =>
  xrt v2
def f_X8_weightOf_7_b9 (rec9 : Int32 → Nat → xM Int32) (a1 : Int32) (a2 : Nat) : xM Int32 :=
  xbd (f_J10_hasNext a2) fun v5 =>
  if v5 = 0 then
    xrt a1
  else
    xbd (f_J10_next a2) fun v6 =>
    xbd (xcks [4, 5, 6, 7] v6) fun _ =>
    xbd (f_X7_weight v6) fun v7 =>
    rec9 (a1 + v7) a2
def f_X8_weightOf_7_L9 : Nat → Int32 → Nat → xM Int32
  | 0, _, _ => xno
  | n+1, a1, a2 => f_X8_weightOf_7_b9 (f_X8_weightOf_7_L9 n) a1 a2
def f_X8_weightOf_7 (a0 : Nat) : xM Int32 :=
  xbd (f_X2_iterator a0) fun v8 =>
  f_X8_weightOf_7_L9 xFU (0 : Int32) v8
def f_X1_sum_b64 (rec10 : Int32 → Int32 → Nat → xM Int32) (t0 : Int32) (t1 : Int32) (a1 : Int32) (a3 : Nat) : xM Int32 :=
  rec10 a1 (t0 + t1) a3
def f_X1_sum_b10 (rec10 : Int32 → Int32 → Nat → xM Int32) (a1 : Int32) (a2 : Int32) (a3 : Nat) : xM Int32 :=
  xbd (f_J10_hasNext a3) fun v8 =>
  if v8 = 0 then
    xrt a2
  else
    xbd (f_J10_next a3) fun v9 =>
    xbd (xcks [7] v9) fun _ =>
    if a1 = (9 : Int32) then
      xbd (xgI 7 5 v9) fun v12 =>
      f_X1_sum_b64 rec10 a2 v12 a1 a3
    else
      if a1 = (12 : Int32) then
        xbd (xgI 7 6 v9) fun v11 =>
        f_X1_sum_b64 rec10 a2 v11 a1 a3
      else
        xbd (xgI 7 7 v9) fun v10 =>
        f_X1_sum_b64 rec10 a2 v10 a1 a3
def f_X1_sum_L10 : Nat → Int32 → Int32 → Nat → xM Int32
  | 0, _, _, _ => xno
  | n+1, a1, a2, a3 => f_X1_sum_b10 (f_X1_sum_L10 n) a1 a2 a3
def f_X1_sum (a0 : Nat) (a1 : Int32) : xM Int32 :=
  xbd (xck 1 a0) fun _ =>
  xbd (xgN 1 0 a0) fun v13 =>
  xbd (f_X2_iterator v13) fun v14 =>
  f_X1_sum_L10 xFU a1 (0 : Int32) v14
def f_X1_invoicesIn_b45 (rec10 : Int32 → Int32 → Nat → xM Int32) (t0 : Int32) (t1 : Int32) (a1 : Int32) (a3 : Nat) : xM Int32 :=
  rec10 a1 (t0 + t1) a3
def f_X1_invoicesIn_b10 (rec10 : Int32 → Int32 → Nat → xM Int32) (a1 : Int32) (a2 : Int32) (a3 : Nat) : xM Int32 :=
  xbd (f_J10_hasNext a3) fun v6 =>
  if v6 = 0 then
    xrt a2
  else
    xbd (f_J10_next a3) fun v7 =>
    xbd (xcks [4] v7) fun _ =>
    xbd (xgI 4 5 v7) fun v8 =>
    if v8 = a1 then
      f_X1_invoicesIn_b45 rec10 a2 (1 : Int32) a1 a3
    else
      f_X1_invoicesIn_b45 rec10 a2 (0 : Int32) a1 a3
def f_X1_invoicesIn_L10 : Nat → Int32 → Int32 → Nat → xM Int32
  | 0, _, _, _ => xno
  | n+1, a1, a2, a3 => f_X1_invoicesIn_b10 (f_X1_invoicesIn_L10 n) a1 a2 a3
def f_X1_invoicesIn (a0 : Nat) (a1 : Int32) : xM Int32 :=
  xbd (xck 1 a0) fun _ =>
  xbd (xgN 1 2 a0) fun v9 =>
  xbd (f_X2_iterator v9) fun v10 =>
  f_X1_invoicesIn_L10 xFU a1 (0 : Int32) v10
def f_X0_count_b88 (a0 : Nat) : xM Int32 :=
  xbd (xgN 0 0 a0) fun v55 =>
  xbd (xgI 1 7 v55) fun v56 =>
  xrt v56
def f_X0_count_b98 (a0 : Nat) : xM Int32 :=
  xbd (xgN 0 0 a0) fun v52 =>
  xbd (xgN 1 0 v52) fun v53 =>
  xbd (f_X2_size v53) fun v54 =>
  xrt v54
def f_X0_count_b111 (a0 : Nat) : xM Int32 :=
  xbd (xgN 0 0 a0) fun v49 =>
  xbd (xgN 1 1 v49) fun v50 =>
  xbd (f_X2_size v50) fun v51 =>
  xrt v51
def f_X0_count_b124 (a0 : Nat) : xM Int32 :=
  xbd (xgN 0 0 a0) fun v46 =>
  xbd (xgN 1 2 v46) fun v47 =>
  xbd (f_X2_size v47) fun v48 =>
  xrt v48
def f_X0_count_b137 (a0 : Nat) (a1 : Int32) : xM Int32 :=
  xbd (xgN 0 0 a0) fun v44 =>
  xbd (f_X1_invoicesIn v44 (a1 - (4 : Int32))) fun v45 =>
  xrt v45
def f_X0_count_b150 (a0 : Nat) (a1 : Int32) : xM Int32 :=
  xbd (xgN 0 0 a0) fun v42 =>
  xbd (f_X1_sum v42 a1) fun v43 =>
  xrt v43
def f_X0_count_b161 (a0 : Nat) : xM Int32 :=
  xbd (xgN 0 0 a0) fun v39 =>
  xbd (xgN 1 0 v39) fun v40 =>
  xbd (f_X8_weightOf_7 v40) fun v41 =>
  xrt v41
def f_X0_count_b174 (a0 : Nat) : xM Int32 :=
  xbd (xgN 0 0 a0) fun v37 =>
  xbd (xgI 1 8 v37) fun v38 =>
  xrt v38
def f_X0_count_b184 (a0 : Nat) : xM Int32 :=
  xbd (xgN 0 0 a0) fun v35 =>
  xbd (xgI 1 5 v35) fun v36 =>
  xrt v36
def f_X0_count_b194 (a0 : Nat) : xM Int32 :=
  xbd (xgN 0 0 a0) fun v33 =>
  xbd (xgI 1 6 v33) fun v34 =>
  xrt v34
def f_X0_count_b204 (a0 : Nat) : xM Int32 :=
  xbd (xgN 0 2 a0) fun v31 =>
  xbd (f_J5_size v31) fun v32 =>
  xrt v32
def f_X0_count_b214 (a0 : Nat) : xM Int32 :=
  xbd (xgN 0 3 a0) fun v29 =>
  xbd (f_J7_length v29) fun v30 =>
  xrt v30
def f_X0_count (a0 : Nat) (a1 : Int32) : xM Int32 :=
  xbd (xck 0 a0) fun _ =>
  if a1 = (0 : Int32) then
    f_X0_count_b88 a0
  else
    if a1 = (1 : Int32) then
      f_X0_count_b98 a0
    else
      if a1 = (2 : Int32) then
        f_X0_count_b111 a0
      else
        if a1 = (3 : Int32) then
          f_X0_count_b124 a0
        else
          if a1 = (4 : Int32) then
            f_X0_count_b137 a0 a1
          else
            if a1 = (5 : Int32) then
              f_X0_count_b137 a0 a1
            else
              if a1 = (6 : Int32) then
                f_X0_count_b137 a0 a1
              else
                if a1 = (7 : Int32) then
                  f_X0_count_b137 a0 a1
                else
                  if a1 = (8 : Int32) then
                    f_X0_count_b137 a0 a1
                  else
                    if a1 = (9 : Int32) then
                      f_X0_count_b150 a0 a1
                    else
                      if a1 = (10 : Int32) then
                        f_X0_count_b161 a0
                      else
                        if a1 = (11 : Int32) then
                          f_X0_count_b174 a0
                        else
                          if a1 = (12 : Int32) then
                            f_X0_count_b150 a0 a1
                          else
                            if a1 = (13 : Int32) then
                              f_X0_count_b150 a0 a1
                            else
                              if a1 = (14 : Int32) then
                                f_X0_count_b184 a0
                              else
                                if a1 = (15 : Int32) then
                                  f_X0_count_b194 a0
                                else
                                  if a1 = (16 : Int32) then
                                    f_X0_count_b204 a0
                                  else
                                    if a1 = (17 : Int32) then
                                      f_X0_count_b214 a0
                                    else
                                      xrt (-2 : Int32)
def f_X3_sumOf_b4 (rec4 : Nat → Int32 → Int32 → Int32 → xM Int32) (a0 : Nat) (a1 : Int32) (a2 : Int32) (a3 : Int32) : xM Int32 :=
  xbd (f_X3_at a0 (1 : Int32)) fun v4 =>
  if v4 ≤ a3 then
    xrt a2
  else
    xbd (f_X3_ofSupplier a3 a1) fun v5 =>
    xbd (f_X3_at a0 v5) fun v6 =>
    rec4 a0 a1 (a2 + v6) (a3 + (1 : Int32))
def f_X3_sumOf_L4 : Nat → Nat → Int32 → Int32 → Int32 → xM Int32
  | 0, _, _, _, _ => xno
  | n+1, a0, a1, a2, a3 => f_X3_sumOf_b4 (f_X3_sumOf_L4 n) a0 a1 a2 a3
def f_X3_sumOf (a0 : Nat) (a1 : Int32) : xM Int32 :=
  xbd (xck 3 a0) fun _ =>
  f_X3_sumOf_L4 xFU a0 a1 (0 : Int32) (0 : Int32)
def f_X3_inState_b32 (rec4 : Nat → Int32 → Int32 → Int32 → xM Int32) (t0 : Int32) (t1 : Int32) (a0 : Nat) (a1 : Int32) (a3 : Int32) : xM Int32 :=
  rec4 a0 a1 (t0 + t1) (a3 + (1 : Int32))
def f_X3_inState_b4 (rec4 : Nat → Int32 → Int32 → Int32 → xM Int32) (a0 : Nat) (a1 : Int32) (a2 : Int32) (a3 : Int32) : xM Int32 :=
  xbd (f_X3_at a0 (3 : Int32)) fun v4 =>
  if v4 ≤ a3 then
    xrt a2
  else
    xbd (f_X3_ofInvoice a3 (4 : Int32)) fun v5 =>
    xbd (f_X3_at a0 v5) fun v6 =>
    if v6 = a1 then
      f_X3_inState_b32 rec4 a2 (1 : Int32) a0 a1 a3
    else
      f_X3_inState_b32 rec4 a2 (0 : Int32) a0 a1 a3
def f_X3_inState_L4 : Nat → Nat → Int32 → Int32 → Int32 → xM Int32
  | 0, _, _, _, _ => xno
  | n+1, a0, a1, a2, a3 => f_X3_inState_b4 (f_X3_inState_L4 n) a0 a1 a2 a3
def f_X3_inState (a0 : Nat) (a1 : Int32) : xM Int32 :=
  xbd (xck 3 a0) fun _ =>
  f_X3_inState_L4 xFU a0 a1 (0 : Int32) (0 : Int32)
def f_X3_count_b92 (a0 : Nat) (a1 : Int32) : xM Int32 :=
  xbd (f_X3_at a0 a1) fun v22 =>
  xrt v22
def f_X3_count_b98 (a0 : Nat) (a1 : Int32) : xM Int32 :=
  xbd (f_X3_inState a0 (a1 - (4 : Int32))) fun v21 =>
  xrt v21
def f_X3_count_b106 (a0 : Nat) : xM Int32 :=
  xbd (f_X3_sumOf a0 (5 : Int32)) fun v20 =>
  xrt v20
def f_X3_count_b112 (a0 : Nat) : xM Int32 :=
  xbd (f_X3_sumOf a0 (3 : Int32)) fun v19 =>
  xrt v19
def f_X3_count_b118 (a0 : Nat) : xM Int32 :=
  xbd (f_X3_at a0 (9 : Int32)) fun v18 =>
  xrt v18
def f_X3_count_b125 (a0 : Nat) : xM Int32 :=
  xbd (f_X3_sumOf a0 (6 : Int32)) fun v17 =>
  xrt v17
def f_X3_count_b132 (a0 : Nat) : xM Int32 :=
  xbd (f_X3_sumOf a0 (7 : Int32)) fun v16 =>
  xrt v16
def f_X3_count_b139 (a0 : Nat) : xM Int32 :=
  xbd (f_X3_at a0 (5 : Int32)) fun v15 =>
  xrt v15
def f_X3_count_b145 (a0 : Nat) : xM Int32 :=
  xbd (f_X3_at a0 (6 : Int32)) fun v14 =>
  xrt v14
def f_X3_count_b152 (a0 : Nat) : xM Int32 :=
  xbd (xgI 3 6 a0) fun v13 =>
  xrt v13
def f_X3_count_b157 (a0 : Nat) : xM Int32 :=
  xbd (xgI 3 8 a0) fun v12 =>
  xrt v12
def f_X3_count (a0 : Nat) (a1 : Int32) : xM Int32 :=
  xbd (xck 3 a0) fun _ =>
  xbd (xpt 3 0 a0 (.int (0 : Int32))) fun _ =>
  if a1 = (0 : Int32) then
    f_X3_count_b92 a0 a1
  else
    if a1 = (1 : Int32) then
      f_X3_count_b92 a0 a1
    else
      if a1 = (2 : Int32) then
        f_X3_count_b92 a0 a1
      else
        if a1 = (3 : Int32) then
          f_X3_count_b92 a0 a1
        else
          if a1 = (4 : Int32) then
            f_X3_count_b98 a0 a1
          else
            if a1 = (5 : Int32) then
              f_X3_count_b98 a0 a1
            else
              if a1 = (6 : Int32) then
                f_X3_count_b98 a0 a1
              else
                if a1 = (7 : Int32) then
                  f_X3_count_b98 a0 a1
                else
                  if a1 = (8 : Int32) then
                    f_X3_count_b98 a0 a1
                  else
                    if a1 = (9 : Int32) then
                      f_X3_count_b106 a0
                    else
                      if a1 = (10 : Int32) then
                        f_X3_count_b112 a0
                      else
                        if a1 = (11 : Int32) then
                          f_X3_count_b118 a0
                        else
                          if a1 = (12 : Int32) then
                            f_X3_count_b125 a0
                          else
                            if a1 = (13 : Int32) then
                              f_X3_count_b132 a0
                            else
                              if a1 = (14 : Int32) then
                                f_X3_count_b139 a0
                              else
                                if a1 = (15 : Int32) then
                                  f_X3_count_b145 a0
                                else
                                  if a1 = (16 : Int32) then
                                    f_X3_count_b152 a0
                                  else
                                    if a1 = (17 : Int32) then
                                      f_X3_count_b157 a0
                                    else
                                      xrt (-2 : Int32)
def f_law_b1529 (L : Nat) (xs : Nat → Int32) (rec18 : Nat → Nat → Int32 → xM Int32) (a1 : Nat) (a2 : Nat) (a3 : Int32) : xM Int32 :=
  rec18 a1 a2 (a3 + (6 : Int32))
def f_law_b196 (L : Nat) (xs : Nat → Int32) (rec18 : Nat → Nat → Int32 → xM Int32) (a1 : Nat) (a2 : Nat) (a3 : Int32) : xM Int32 :=
  xbd (f_X0_addSupplier a1) fun v427 =>
  xbd (f_X3_addSupplier a2) fun v428 =>
  if v427 = v428 then
    f_law_b1529 L xs rec18 a1 a2 a3
  else
    xrtZ (0 : Int32)
def f_law_b270 (L : Nat) (xs : Nat → Int32) (rec18 : Nat → Nat → Int32 → xM Int32) (t0 : Int32) (t1 : Nat) (t2 : Int32) (t3 : Int32) (a1 : Nat) (a2 : Nat) (a3 : Int32) : xM Int32 :=
  xbd (xas (xok (a3 + (3 : Int32)) L)) fun _ =>
  xbd (xas (xok (a3 + (4 : Int32)) L)) fun _ =>
  xbd (f_X3_setTolerance t1 t2 t3 ((((xs (a3 + (3 : Int32)).toNatClampNeg).toInt64) <<< ((32 : Int32).toInt64 &&& 63)) ||| (((xs (a3 + (4 : Int32)).toNatClampNeg).toInt64) &&& (4294967295 : Int64)))) fun v426 =>
  if t0 = v426 then
    f_law_b1529 L xs rec18 a1 a2 a3
  else
    xrtZ (0 : Int32)
def f_law_b228 (L : Nat) (xs : Nat → Int32) (rec18 : Nat → Nat → Int32 → xM Int32) (t0 : Nat) (t1 : Int32) (t2 : Int32) (a1 : Nat) (a2 : Nat) (a3 : Int32) : xM Int32 :=
  xbd (xas (xok (a3 + (3 : Int32)) L)) fun _ =>
  xbd (xas (xok (a3 + (4 : Int32)) L)) fun _ =>
  xbd (f_X0_setTolerance t0 t1 t2 ((((xs (a3 + (3 : Int32)).toNatClampNeg).toInt64) <<< ((32 : Int32).toInt64 &&& 63)) ||| (((xs (a3 + (4 : Int32)).toNatClampNeg).toInt64) &&& (4294967295 : Int64)))) fun v421 =>
  xbd (xas (xok (a3 + (1 : Int32)) L)) fun _ =>
  xbd (xas (xok (a3 + (2 : Int32)) L)) fun _ =>
  if (xs (a3 + (2 : Int32)).toNatClampNeg) = 0 then
    f_law_b270 L xs rec18 v421 a2 (xs (a3 + (1 : Int32)).toNatClampNeg) (0 : Int32) a1 a2 a3
  else
    f_law_b270 L xs rec18 v421 a2 (xs (a3 + (1 : Int32)).toNatClampNeg) (1 : Int32) a1 a2 a3
def f_law_b209 (L : Nat) (xs : Nat → Int32) (rec18 : Nat → Nat → Int32 → xM Int32) (a1 : Nat) (a2 : Nat) (a3 : Int32) : xM Int32 :=
  xbd (xas (xok (a3 + (1 : Int32)) L)) fun _ =>
  xbd (xas (xok (a3 + (2 : Int32)) L)) fun _ =>
  if (xs (a3 + (2 : Int32)).toNatClampNeg) = 0 then
    f_law_b228 L xs rec18 a1 (xs (a3 + (1 : Int32)).toNatClampNeg) (0 : Int32) a1 a2 a3
  else
    f_law_b228 L xs rec18 a1 (xs (a3 + (1 : Int32)).toNatClampNeg) (1 : Int32) a1 a2 a3
def f_law_b298 (L : Nat) (xs : Nat → Int32) (rec18 : Nat → Nat → Int32 → xM Int32) (a1 : Nat) (a2 : Nat) (a3 : Int32) : xM Int32 :=
  xbd (xas (xok (a3 + (1 : Int32)) L)) fun _ =>
  xbd (xas (xok (a3 + (2 : Int32)) L)) fun _ =>
  xbd (f_X0_setTrifle a1 (xs (a3 + (1 : Int32)).toNatClampNeg) (xs (a3 + (2 : Int32)).toNatClampNeg)) fun v413 =>
  xbd (xas (xok (a3 + (1 : Int32)) L)) fun _ =>
  xbd (xas (xok (a3 + (2 : Int32)) L)) fun _ =>
  xbd (f_X3_setTrifle a2 (xs (a3 + (1 : Int32)).toNatClampNeg) (xs (a3 + (2 : Int32)).toNatClampNeg)) fun v416 =>
  if v413 = v416 then
    f_law_b1529 L xs rec18 a1 a2 a3
  else
    xrtZ (0 : Int32)
def f_law_b372 (L : Nat) (xs : Nat → Int32) (rec18 : Nat → Nat → Int32 → xM Int32) (t0 : Int32) (t1 : Nat) (t2 : Int32) (t3 : Int32) (a1 : Nat) (a2 : Nat) (a3 : Int32) : xM Int32 :=
  xbd (f_X3_block t1 t2 t3) fun v410 =>
  if t0 = v410 then
    f_law_b1529 L xs rec18 a1 a2 a3
  else
    xrtZ (0 : Int32)
def f_law_b350 (L : Nat) (xs : Nat → Int32) (rec18 : Nat → Nat → Int32 → xM Int32) (t0 : Nat) (t1 : Int32) (t2 : Int32) (a1 : Nat) (a2 : Nat) (a3 : Int32) : xM Int32 :=
  xbd (f_X0_block t0 t1 t2) fun v407 =>
  xbd (xas (xok (a3 + (1 : Int32)) L)) fun _ =>
  xbd (xas (xok (a3 + (2 : Int32)) L)) fun _ =>
  if (xs (a3 + (2 : Int32)).toNatClampNeg) = 0 then
    f_law_b372 L xs rec18 v407 a2 (xs (a3 + (1 : Int32)).toNatClampNeg) (0 : Int32) a1 a2 a3
  else
    f_law_b372 L xs rec18 v407 a2 (xs (a3 + (1 : Int32)).toNatClampNeg) (1 : Int32) a1 a2 a3
def f_law_b331 (L : Nat) (xs : Nat → Int32) (rec18 : Nat → Nat → Int32 → xM Int32) (a1 : Nat) (a2 : Nat) (a3 : Int32) : xM Int32 :=
  xbd (xas (xok (a3 + (1 : Int32)) L)) fun _ =>
  xbd (xas (xok (a3 + (2 : Int32)) L)) fun _ =>
  if (xs (a3 + (2 : Int32)).toNatClampNeg) = 0 then
    f_law_b350 L xs rec18 a1 (xs (a3 + (1 : Int32)).toNatClampNeg) (0 : Int32) a1 a2 a3
  else
    f_law_b350 L xs rec18 a1 (xs (a3 + (1 : Int32)).toNatClampNeg) (1 : Int32) a1 a2 a3
def f_law_b380 (L : Nat) (xs : Nat → Int32) (rec18 : Nat → Nat → Int32 → xM Int32) (a1 : Nat) (a2 : Nat) (a3 : Int32) : xM Int32 :=
  xbd (xas (xok (a3 + (1 : Int32)) L)) fun _ =>
  xbd (xas (xok (a3 + (2 : Int32)) L)) fun _ =>
  xbd (f_X0_setDiscount a1 ((((xs (a3 + (1 : Int32)).toNatClampNeg).toInt64) <<< ((32 : Int32).toInt64 &&& 63)) ||| (((xs (a3 + (2 : Int32)).toNatClampNeg).toInt64) &&& (4294967295 : Int64)))) fun v401 =>
  xbd (xas (xok (a3 + (1 : Int32)) L)) fun _ =>
  xbd (xas (xok (a3 + (2 : Int32)) L)) fun _ =>
  xbd (f_X3_setDiscount a2 ((((xs (a3 + (1 : Int32)).toNatClampNeg).toInt64) <<< ((32 : Int32).toInt64 &&& 63)) ||| (((xs (a3 + (2 : Int32)).toNatClampNeg).toInt64) &&& (4294967295 : Int64)))) fun v404 =>
  if v401 = v404 then
    f_law_b1529 L xs rec18 a1 a2 a3
  else
    xrtZ (0 : Int32)
def f_law_b433 (L : Nat) (xs : Nat → Int32) (rec18 : Nat → Nat → Int32 → xM Int32) (a1 : Nat) (a2 : Nat) (a3 : Int32) : xM Int32 :=
  xbd (xas (xok (a3 + (1 : Int32)) L)) fun _ =>
  xbd (xas (xok (a3 + (2 : Int32)) L)) fun _ =>
  xbd (f_X0_setTerms a1 (xs (a3 + (1 : Int32)).toNatClampNeg) (xs (a3 + (2 : Int32)).toNatClampNeg)) fun v395 =>
  xbd (xas (xok (a3 + (1 : Int32)) L)) fun _ =>
  xbd (xas (xok (a3 + (2 : Int32)) L)) fun _ =>
  xbd (f_X3_setTerms a2 (xs (a3 + (1 : Int32)).toNatClampNeg) (xs (a3 + (2 : Int32)).toNatClampNeg)) fun v398 =>
  if v395 = v398 then
    f_law_b1529 L xs rec18 a1 a2 a3
  else
    xrtZ (0 : Int32)
def f_law_b466 (L : Nat) (xs : Nat → Int32) (rec18 : Nat → Nat → Int32 → xM Int32) (a1 : Nat) (a2 : Nat) (a3 : Int32) : xM Int32 :=
  xbd (xas (xok (a3 + (1 : Int32)) L)) fun _ =>
  xbd (f_X0_addOrder a1 (xs (a3 + (1 : Int32)).toNatClampNeg)) fun v390 =>
  xbd (xas (xok (a3 + (1 : Int32)) L)) fun _ =>
  xbd (f_X3_addOrder a2 (xs (a3 + (1 : Int32)).toNatClampNeg)) fun v392 =>
  if v390 = v392 then
    f_law_b1529 L xs rec18 a1 a2 a3
  else
    xrtZ (0 : Int32)
def f_law_b489 (L : Nat) (xs : Nat → Int32) (rec18 : Nat → Nat → Int32 → xM Int32) (a1 : Nat) (a2 : Nat) (a3 : Int32) : xM Int32 :=
  xbd (xas (xok (a3 + (1 : Int32)) L)) fun _ =>
  xbd (xas (xok (a3 + (2 : Int32)) L)) fun _ =>
  xbd (xas (xok (a3 + (3 : Int32)) L)) fun _ =>
  xbd (xas (xok (a3 + (4 : Int32)) L)) fun _ =>
  xbd (f_X0_addLine a1 (xs (a3 + (1 : Int32)).toNatClampNeg) (xs (a3 + (2 : Int32)).toNatClampNeg) (xs (a3 + (3 : Int32)).toNatClampNeg) (xs (a3 + (4 : Int32)).toNatClampNeg)) fun v383 =>
  xbd (xas (xok (a3 + (1 : Int32)) L)) fun _ =>
  xbd (xas (xok (a3 + (2 : Int32)) L)) fun _ =>
  xbd (xas (xok (a3 + (3 : Int32)) L)) fun _ =>
  xbd (xas (xok (a3 + (4 : Int32)) L)) fun _ =>
  xbd (f_X3_addLine a2 (xs (a3 + (1 : Int32)).toNatClampNeg) (xs (a3 + (2 : Int32)).toNatClampNeg) (xs (a3 + (3 : Int32)).toNatClampNeg) (xs (a3 + (4 : Int32)).toNatClampNeg)) fun v388 =>
  if v383 = v388 then
    f_law_b1529 L xs rec18 a1 a2 a3
  else
    xrtZ (0 : Int32)
def f_law_b542 (L : Nat) (xs : Nat → Int32) (rec18 : Nat → Nat → Int32 → xM Int32) (a1 : Nat) (a2 : Nat) (a3 : Int32) : xM Int32 :=
  xbd (xas (xok (a3 + (1 : Int32)) L)) fun _ =>
  xbd (xas (xok (a3 + (2 : Int32)) L)) fun _ =>
  xbd (xas (xok (a3 + (3 : Int32)) L)) fun _ =>
  xbd (xas (xok (a3 + (4 : Int32)) L)) fun _ =>
  xbd (f_X0_changeLine a1 (xs (a3 + (1 : Int32)).toNatClampNeg) (xs (a3 + (2 : Int32)).toNatClampNeg) (xs (a3 + (3 : Int32)).toNatClampNeg) (xs (a3 + (4 : Int32)).toNatClampNeg)) fun v373 =>
  xbd (xas (xok (a3 + (1 : Int32)) L)) fun _ =>
  xbd (xas (xok (a3 + (2 : Int32)) L)) fun _ =>
  xbd (xas (xok (a3 + (3 : Int32)) L)) fun _ =>
  xbd (xas (xok (a3 + (4 : Int32)) L)) fun _ =>
  xbd (f_X3_changeLine a2 (xs (a3 + (1 : Int32)).toNatClampNeg) (xs (a3 + (2 : Int32)).toNatClampNeg) (xs (a3 + (3 : Int32)).toNatClampNeg) (xs (a3 + (4 : Int32)).toNatClampNeg)) fun v378 =>
  if v373 = v378 then
    f_law_b1529 L xs rec18 a1 a2 a3
  else
    xrtZ (0 : Int32)
def f_law_b595 (L : Nat) (xs : Nat → Int32) (rec18 : Nat → Nat → Int32 → xM Int32) (a1 : Nat) (a2 : Nat) (a3 : Int32) : xM Int32 :=
  xbd (xas (xok (a3 + (1 : Int32)) L)) fun _ =>
  xbd (f_X0_close a1 (xs (a3 + (1 : Int32)).toNatClampNeg)) fun v366 =>
  xbd (xas (xok (a3 + (1 : Int32)) L)) fun _ =>
  xbd (f_X3_close a2 (xs (a3 + (1 : Int32)).toNatClampNeg)) fun v368 =>
  if v366 = v368 then
    f_law_b1529 L xs rec18 a1 a2 a3
  else
    xrtZ (0 : Int32)
def f_law_b618 (L : Nat) (xs : Nat → Int32) (rec18 : Nat → Nat → Int32 → xM Int32) (a1 : Nat) (a2 : Nat) (a3 : Int32) : xM Int32 :=
  xbd (xas (xok (a3 + (1 : Int32)) L)) fun _ =>
  xbd (f_X0_cancel a1 (xs (a3 + (1 : Int32)).toNatClampNeg)) fun v362 =>
  xbd (xas (xok (a3 + (1 : Int32)) L)) fun _ =>
  xbd (f_X3_cancel a2 (xs (a3 + (1 : Int32)).toNatClampNeg)) fun v364 =>
  if v362 = v364 then
    f_law_b1529 L xs rec18 a1 a2 a3
  else
    xrtZ (0 : Int32)
def f_law_b641 (L : Nat) (xs : Nat → Int32) (rec18 : Nat → Nat → Int32 → xM Int32) (a1 : Nat) (a2 : Nat) (a3 : Int32) : xM Int32 :=
  xbd (xas (xok (a3 + (1 : Int32)) L)) fun _ =>
  xbd (xas (xok (a3 + (2 : Int32)) L)) fun _ =>
  xbd (xas (xok (a3 + (3 : Int32)) L)) fun _ =>
  xbd (xas (xok (a3 + (4 : Int32)) L)) fun _ =>
  xbd (f_X0_receive a1 (xs (a3 + (1 : Int32)).toNatClampNeg) (xs (a3 + (2 : Int32)).toNatClampNeg) (xs (a3 + (3 : Int32)).toNatClampNeg) (xs (a3 + (4 : Int32)).toNatClampNeg)) fun v355 =>
  xbd (xas (xok (a3 + (1 : Int32)) L)) fun _ =>
  xbd (xas (xok (a3 + (2 : Int32)) L)) fun _ =>
  xbd (xas (xok (a3 + (3 : Int32)) L)) fun _ =>
  xbd (xas (xok (a3 + (4 : Int32)) L)) fun _ =>
  xbd (f_X3_receive a2 (xs (a3 + (1 : Int32)).toNatClampNeg) (xs (a3 + (2 : Int32)).toNatClampNeg) (xs (a3 + (3 : Int32)).toNatClampNeg) (xs (a3 + (4 : Int32)).toNatClampNeg)) fun v360 =>
  if v355 = v360 then
    f_law_b1529 L xs rec18 a1 a2 a3
  else
    xrtZ (0 : Int32)
def f_law_b694 (L : Nat) (xs : Nat → Int32) (rec18 : Nat → Nat → Int32 → xM Int32) (a1 : Nat) (a2 : Nat) (a3 : Int32) : xM Int32 :=
  xbd (xas (xok (a3 + (1 : Int32)) L)) fun _ =>
  xbd (xas (xok (a3 + (2 : Int32)) L)) fun _ =>
  xbd (xas (xok (a3 + (3 : Int32)) L)) fun _ =>
  xbd (f_X0_giveBack a1 (xs (a3 + (1 : Int32)).toNatClampNeg) (xs (a3 + (2 : Int32)).toNatClampNeg) (xs (a3 + (3 : Int32)).toNatClampNeg)) fun v346 =>
  xbd (xas (xok (a3 + (1 : Int32)) L)) fun _ =>
  xbd (xas (xok (a3 + (2 : Int32)) L)) fun _ =>
  xbd (xas (xok (a3 + (3 : Int32)) L)) fun _ =>
  xbd (f_X3_giveBack a2 (xs (a3 + (1 : Int32)).toNatClampNeg) (xs (a3 + (2 : Int32)).toNatClampNeg) (xs (a3 + (3 : Int32)).toNatClampNeg)) fun v350 =>
  if v346 = v350 then
    f_law_b1529 L xs rec18 a1 a2 a3
  else
    xrtZ (0 : Int32)
def f_law_b737 (L : Nat) (xs : Nat → Int32) (rec18 : Nat → Nat → Int32 → xM Int32) (a1 : Nat) (a2 : Nat) (a3 : Int32) : xM Int32 :=
  xbd (xas (xok (a3 + (1 : Int32)) L)) fun _ =>
  xbd (xas (xok (a3 + (2 : Int32)) L)) fun _ =>
  xbd (xas (xok (a3 + (3 : Int32)) L)) fun _ =>
  xbd (xas (xok (a3 + (4 : Int32)) L)) fun _ =>
  xbd (xas (xok (a3 + (5 : Int32)) L)) fun _ =>
  xbd (f_X0_bill a1 (xs (a3 + (1 : Int32)).toNatClampNeg) (xs (a3 + (2 : Int32)).toNatClampNeg) (xs (a3 + (3 : Int32)).toNatClampNeg) (xs (a3 + (4 : Int32)).toNatClampNeg) (xs (a3 + (5 : Int32)).toNatClampNeg)) fun v336 =>
  xbd (xas (xok (a3 + (1 : Int32)) L)) fun _ =>
  xbd (xas (xok (a3 + (2 : Int32)) L)) fun _ =>
  xbd (xas (xok (a3 + (3 : Int32)) L)) fun _ =>
  xbd (xas (xok (a3 + (4 : Int32)) L)) fun _ =>
  xbd (xas (xok (a3 + (5 : Int32)) L)) fun _ =>
  xbd (f_X3_bill a2 (xs (a3 + (1 : Int32)).toNatClampNeg) (xs (a3 + (2 : Int32)).toNatClampNeg) (xs (a3 + (3 : Int32)).toNatClampNeg) (xs (a3 + (4 : Int32)).toNatClampNeg) (xs (a3 + (5 : Int32)).toNatClampNeg)) fun v342 =>
  if v336 = v342 then
    f_law_b1529 L xs rec18 a1 a2 a3
  else
    xrtZ (0 : Int32)
def f_law_b800 (L : Nat) (xs : Nat → Int32) (rec18 : Nat → Nat → Int32 → xM Int32) (a1 : Nat) (a2 : Nat) (a3 : Int32) : xM Int32 :=
  xbd (f_X0_readInvoice a1) fun v329 =>
  xbd (f_X3_readInvoice a2) fun v330 =>
  if v329 = v330 then
    f_law_b1529 L xs rec18 a1 a2 a3
  else
    xrtZ (0 : Int32)
def f_law_b813 (L : Nat) (xs : Nat → Int32) (rec18 : Nat → Nat → Int32 → xM Int32) (a1 : Nat) (a2 : Nat) (a3 : Int32) : xM Int32 :=
  xbd (xas (xok (a3 + (1 : Int32)) L)) fun _ =>
  xbd (f_X0_match a1 (xs (a3 + (1 : Int32)).toNatClampNeg)) fun v326 =>
  xbd (xas (xok (a3 + (1 : Int32)) L)) fun _ =>
  xbd (f_X3_match a2 (xs (a3 + (1 : Int32)).toNatClampNeg)) fun v328 =>
  if v326 = v328 then
    f_law_b1529 L xs rec18 a1 a2 a3
  else
    xrtZ (0 : Int32)
def f_law_b836 (L : Nat) (xs : Nat → Int32) (rec18 : Nat → Nat → Int32 → xM Int32) (a1 : Nat) (a2 : Nat) (a3 : Int32) : xM Int32 :=
  xbd (xas (xok (a3 + (1 : Int32)) L)) fun _ =>
  xbd (f_X0_note a1 (xs (a3 + (1 : Int32)).toNatClampNeg)) fun v322 =>
  xbd (xas (xok (a3 + (1 : Int32)) L)) fun _ =>
  xbd (f_X3_note a2 (xs (a3 + (1 : Int32)).toNatClampNeg)) fun v324 =>
  if v322 = v324 then
    f_law_b1529 L xs rec18 a1 a2 a3
  else
    xrtZ (0 : Int32)
def f_law_b859 (L : Nat) (xs : Nat → Int32) (rec18 : Nat → Nat → Int32 → xM Int32) (a1 : Nat) (a2 : Nat) (a3 : Int32) : xM Int32 :=
  xbd (xas (xok (a3 + (1 : Int32)) L)) fun _ =>
  xbd (f_X0_reject a1 (xs (a3 + (1 : Int32)).toNatClampNeg)) fun v318 =>
  xbd (xas (xok (a3 + (1 : Int32)) L)) fun _ =>
  xbd (f_X3_reject a2 (xs (a3 + (1 : Int32)).toNatClampNeg)) fun v320 =>
  if v318 = v320 then
    f_law_b1529 L xs rec18 a1 a2 a3
  else
    xrtZ (0 : Int32)
def f_law_b882 (L : Nat) (xs : Nat → Int32) (rec18 : Nat → Nat → Int32 → xM Int32) (a1 : Nat) (a2 : Nat) (a3 : Int32) : xM Int32 :=
  xbd (xas (xok (a3 + (1 : Int32)) L)) fun _ =>
  xbd (f_X0_pay a1 (xs (a3 + (1 : Int32)).toNatClampNeg)) fun v314 =>
  xbd (xas (xok (a3 + (1 : Int32)) L)) fun _ =>
  xbd (f_X3_pay a2 (xs (a3 + (1 : Int32)).toNatClampNeg)) fun v316 =>
  if v314 = v316 then
    f_law_b1529 L xs rec18 a1 a2 a3
  else
    xrtZ (0 : Int32)
def f_law_b905 (L : Nat) (xs : Nat → Int32) (rec18 : Nat → Nat → Int32 → xM Int32) (a1 : Nat) (a2 : Nat) (a3 : Int32) : xM Int32 :=
  xbd (xas (xok (a3 + (1 : Int32)) L)) fun _ =>
  xbd (f_X0_pass a1 (xs (a3 + (1 : Int32)).toNatClampNeg)) fun v310 =>
  xbd (xas (xok (a3 + (1 : Int32)) L)) fun _ =>
  xbd (f_X3_pass a2 (xs (a3 + (1 : Int32)).toNatClampNeg)) fun v312 =>
  if v310 = v312 then
    f_law_b1529 L xs rec18 a1 a2 a3
  else
    xrtZ (0 : Int32)
def f_law_b928 (L : Nat) (xs : Nat → Int32) (rec18 : Nat → Nat → Int32 → xM Int32) (a1 : Nat) (a2 : Nat) (a3 : Int32) : xM Int32 :=
  xbd (xas (xok (a3 + (1 : Int32)) L)) fun _ =>
  xbd (f_X0_type a1 (((xs (a3 + (1 : Int32)).toNatClampNeg).toUInt32 % 65536).toInt32)) fun v306 =>
  xbd (xas (xok (a3 + (1 : Int32)) L)) fun _ =>
  xbd (f_X3_type a2 (((xs (a3 + (1 : Int32)).toNatClampNeg).toUInt32 % 65536).toInt32)) fun v308 =>
  if v306 = v308 then
    f_law_b1529 L xs rec18 a1 a2 a3
  else
    xrtZ (0 : Int32)
def f_law_b953 (L : Nat) (xs : Nat → Int32) (rec18 : Nat → Nat → Int32 → xM Int32) (a1 : Nat) (a2 : Nat) (a3 : Int32) : xM Int32 :=
  xbd (f_X0_clearText a1) fun v303 =>
  xbd (f_X3_clearText a2) fun v304 =>
  if v303 = v304 then
    f_law_b1529 L xs rec18 a1 a2 a3
  else
    xrtZ (0 : Int32)
def f_law_b966 (L : Nat) (xs : Nat → Int32) (rec18 : Nat → Nat → Int32 → xM Int32) (a1 : Nat) (a2 : Nat) (a3 : Int32) : xM Int32 :=
  xbd (f_X0_undo a1) fun v301 =>
  xbd (f_X3_undo a2) fun v302 =>
  if v301 = v302 then
    f_law_b1529 L xs rec18 a1 a2 a3
  else
    xrtZ (0 : Int32)
def f_law_b979 (L : Nat) (xs : Nat → Int32) (rec18 : Nat → Nat → Int32 → xM Int32) (a1 : Nat) (a2 : Nat) (a3 : Int32) : xM Int32 :=
  xbd (f_X0_keep a1) fun v299 =>
  xbd (f_X3_keep a2) fun v300 =>
  if v299 = v300 then
    f_law_b1529 L xs rec18 a1 a2 a3
  else
    xrtZ (0 : Int32)
def f_law_b992 (L : Nat) (xs : Nat → Int32) (rec18 : Nat → Nat → Int32 → xM Int32) (a1 : Nat) (a2 : Nat) (a3 : Int32) : xM Int32 :=
  xbd (f_X0_restore a1) fun v297 =>
  xbd (f_X3_restore a2) fun v298 =>
  if v297 = v298 then
    f_law_b1529 L xs rec18 a1 a2 a3
  else
    xrtZ (0 : Int32)
def f_law_b1005 (L : Nat) (xs : Nat → Int32) (rec18 : Nat → Nat → Int32 → xM Int32) (a1 : Nat) (a2 : Nat) (a3 : Int32) : xM Int32 :=
  xbd (xas (xok (a3 + (1 : Int32)) L)) fun _ =>
  xbd (xas (xok (a3 + (2 : Int32)) L)) fun _ =>
  xbd (f_X0_supplier a1 (xs (a3 + (1 : Int32)).toNatClampNeg) (xs (a3 + (2 : Int32)).toNatClampNeg)) fun v293 =>
  xbd (xas (xok (a3 + (1 : Int32)) L)) fun _ =>
  xbd (xas (xok (a3 + (2 : Int32)) L)) fun _ =>
  xbd (f_X3_supplier a2 (xs (a3 + (1 : Int32)).toNatClampNeg) (xs (a3 + (2 : Int32)).toNatClampNeg)) fun v296 =>
  if v293 = v296 then
    f_law_b1529 L xs rec18 a1 a2 a3
  else
    xrtZ (0 : Int32)
def f_law_b1112 (L : Nat) (xs : Nat → Int32) (rec18 : Nat → Nat → Int32 → xM Int32) (a1 : Nat) (a2 : Nat) (a3 : Int32) : xM Int32 :=
  f_law_b1529 L xs rec18 a1 a2 a3
def f_law_b1081 (L : Nat) (xs : Nat → Int32) (rec18 : Nat → Nat → Int32 → xM Int32) (t0 : Nat) (t1 : Int32) (t2 : Int32) (a1 : Nat) (a2 : Nat) (a3 : Int32) (a4 : UInt64) : xM Int32 :=
  xbd (f_X3_tolerance t0 t1 t2) fun v290 =>
  if (Op.cmpValue (FP.dcmp a4 v290) .l) = 0 then
    f_law_b1112 L xs rec18 a1 a2 a3
  else
    if (Op.cmpValue (FP.dcmp a4 a4) .l) = 0 then
      xrtZ (0 : Int32)
    else
      if (Op.cmpValue (FP.dcmp v290 v290) .l) = 0 then
        xrtZ (0 : Int32)
      else
        f_law_b1112 L xs rec18 a1 a2 a3
def f_law_b1057 (L : Nat) (xs : Nat → Int32) (rec18 : Nat → Nat → Int32 → xM Int32) (t0 : Nat) (t1 : Int32) (t2 : Int32) (a1 : Nat) (a2 : Nat) (a3 : Int32) : xM Int32 :=
  xbd (f_X0_tolerance t0 t1 t2) fun v287 =>
  xbd (xas (xok (a3 + (1 : Int32)) L)) fun _ =>
  xbd (xas (xok (a3 + (2 : Int32)) L)) fun _ =>
  if (xs (a3 + (2 : Int32)).toNatClampNeg) = 0 then
    f_law_b1081 L xs rec18 a2 (xs (a3 + (1 : Int32)).toNatClampNeg) (0 : Int32) a1 a2 a3 v287
  else
    f_law_b1081 L xs rec18 a2 (xs (a3 + (1 : Int32)).toNatClampNeg) (1 : Int32) a1 a2 a3 v287
def f_law_b1038 (L : Nat) (xs : Nat → Int32) (rec18 : Nat → Nat → Int32 → xM Int32) (a1 : Nat) (a2 : Nat) (a3 : Int32) : xM Int32 :=
  xbd (xas (xok (a3 + (1 : Int32)) L)) fun _ =>
  xbd (xas (xok (a3 + (2 : Int32)) L)) fun _ =>
  if (xs (a3 + (2 : Int32)).toNatClampNeg) = 0 then
    f_law_b1057 L xs rec18 a1 (xs (a3 + (1 : Int32)).toNatClampNeg) (0 : Int32) a1 a2 a3
  else
    f_law_b1057 L xs rec18 a1 (xs (a3 + (1 : Int32)).toNatClampNeg) (1 : Int32) a1 a2 a3
def f_law_b1115 (L : Nat) (xs : Nat → Int32) (rec18 : Nat → Nat → Int32 → xM Int32) (a1 : Nat) (a2 : Nat) (a3 : Int32) : xM Int32 :=
  xbd (xas (xok (a3 + (1 : Int32)) L)) fun _ =>
  xbd (xas (xok (a3 + (2 : Int32)) L)) fun _ =>
  xbd (f_X0_order a1 (xs (a3 + (1 : Int32)).toNatClampNeg) (xs (a3 + (2 : Int32)).toNatClampNeg)) fun v281 =>
  xbd (xas (xok (a3 + (1 : Int32)) L)) fun _ =>
  xbd (xas (xok (a3 + (2 : Int32)) L)) fun _ =>
  xbd (f_X3_order a2 (xs (a3 + (1 : Int32)).toNatClampNeg) (xs (a3 + (2 : Int32)).toNatClampNeg)) fun v284 =>
  if v281 = v284 then
    f_law_b1529 L xs rec18 a1 a2 a3
  else
    xrtZ (0 : Int32)
def f_law_b1148 (L : Nat) (xs : Nat → Int32) (rec18 : Nat → Nat → Int32 → xM Int32) (a1 : Nat) (a2 : Nat) (a3 : Int32) : xM Int32 :=
  xbd (xas (xok (a3 + (1 : Int32)) L)) fun _ =>
  xbd (xas (xok (a3 + (2 : Int32)) L)) fun _ =>
  xbd (xas (xok (a3 + (3 : Int32)) L)) fun _ =>
  xbd (f_X0_line a1 (xs (a3 + (1 : Int32)).toNatClampNeg) (xs (a3 + (2 : Int32)).toNatClampNeg) (xs (a3 + (3 : Int32)).toNatClampNeg)) fun v274 =>
  xbd (xas (xok (a3 + (1 : Int32)) L)) fun _ =>
  xbd (xas (xok (a3 + (2 : Int32)) L)) fun _ =>
  xbd (xas (xok (a3 + (3 : Int32)) L)) fun _ =>
  xbd (f_X3_line a2 (xs (a3 + (1 : Int32)).toNatClampNeg) (xs (a3 + (2 : Int32)).toNatClampNeg) (xs (a3 + (3 : Int32)).toNatClampNeg)) fun v278 =>
  if v274 = v278 then
    f_law_b1529 L xs rec18 a1 a2 a3
  else
    xrtZ (0 : Int32)
def f_law_b1191 (L : Nat) (xs : Nat → Int32) (rec18 : Nat → Nat → Int32 → xM Int32) (a1 : Nat) (a2 : Nat) (a3 : Int32) : xM Int32 :=
  xbd (xas (xok (a3 + (1 : Int32)) L)) fun _ =>
  xbd (xas (xok (a3 + (2 : Int32)) L)) fun _ =>
  xbd (f_X0_invoice a1 (xs (a3 + (1 : Int32)).toNatClampNeg) (xs (a3 + (2 : Int32)).toNatClampNeg)) fun v267 =>
  xbd (xas (xok (a3 + (1 : Int32)) L)) fun _ =>
  xbd (xas (xok (a3 + (2 : Int32)) L)) fun _ =>
  xbd (f_X3_invoice a2 (xs (a3 + (1 : Int32)).toNatClampNeg) (xs (a3 + (2 : Int32)).toNatClampNeg)) fun v270 =>
  if v267 = v270 then
    f_law_b1529 L xs rec18 a1 a2 a3
  else
    xrtZ (0 : Int32)
def f_law_b1224 (L : Nat) (xs : Nat → Int32) (rec18 : Nat → Nat → Int32 → xM Int32) (a1 : Nat) (a2 : Nat) (a3 : Int32) : xM Int32 :=
  xbd (xas (xok (a3 + (1 : Int32)) L)) fun _ =>
  xbd (xas (xok (a3 + (2 : Int32)) L)) fun _ =>
  xbd (xas (xok (a3 + (3 : Int32)) L)) fun _ =>
  xbd (f_X0_entry a1 (xs (a3 + (1 : Int32)).toNatClampNeg) (xs (a3 + (2 : Int32)).toNatClampNeg) (xs (a3 + (3 : Int32)).toNatClampNeg)) fun v260 =>
  xbd (xas (xok (a3 + (1 : Int32)) L)) fun _ =>
  xbd (xas (xok (a3 + (2 : Int32)) L)) fun _ =>
  xbd (xas (xok (a3 + (3 : Int32)) L)) fun _ =>
  xbd (f_X3_entry a2 (xs (a3 + (1 : Int32)).toNatClampNeg) (xs (a3 + (2 : Int32)).toNatClampNeg) (xs (a3 + (3 : Int32)).toNatClampNeg)) fun v264 =>
  if v260 = v264 then
    f_law_b1529 L xs rec18 a1 a2 a3
  else
    xrtZ (0 : Int32)
def f_law_b1267 (L : Nat) (xs : Nat → Int32) (rec18 : Nat → Nat → Int32 → xM Int32) (a1 : Nat) (a2 : Nat) (a3 : Int32) : xM Int32 :=
  xbd (xas (xok (a3 + (1 : Int32)) L)) fun _ =>
  xbd (xas (xok (a3 + (2 : Int32)) L)) fun _ =>
  xbd (xas (xok (a3 + (3 : Int32)) L)) fun _ =>
  xbd (xas (xok (a3 + (4 : Int32)) L)) fun _ =>
  xbd (f_X0_wouldMatch a1 (xs (a3 + (1 : Int32)).toNatClampNeg) (xs (a3 + (2 : Int32)).toNatClampNeg) (xs (a3 + (3 : Int32)).toNatClampNeg) (xs (a3 + (4 : Int32)).toNatClampNeg)) fun v251 =>
  xbd (xas (xok (a3 + (1 : Int32)) L)) fun _ =>
  xbd (xas (xok (a3 + (2 : Int32)) L)) fun _ =>
  xbd (xas (xok (a3 + (3 : Int32)) L)) fun _ =>
  xbd (xas (xok (a3 + (4 : Int32)) L)) fun _ =>
  xbd (f_X3_wouldMatch a2 (xs (a3 + (1 : Int32)).toNatClampNeg) (xs (a3 + (2 : Int32)).toNatClampNeg) (xs (a3 + (3 : Int32)).toNatClampNeg) (xs (a3 + (4 : Int32)).toNatClampNeg)) fun v256 =>
  if v251 = v256 then
    f_law_b1529 L xs rec18 a1 a2 a3
  else
    xrtZ (0 : Int32)
def f_law_b1320 (L : Nat) (xs : Nat → Int32) (rec18 : Nat → Nat → Int32 → xM Int32) (a1 : Nat) (a2 : Nat) (a3 : Int32) : xM Int32 :=
  xbd (xas (xok (a3 + (1 : Int32)) L)) fun _ =>
  xbd (xas (xok (a3 + (2 : Int32)) L)) fun _ =>
  xbd (xas (xok (a3 + (3 : Int32)) L)) fun _ =>
  xbd (f_X0_greatestPrice a1 (xs (a3 + (1 : Int32)).toNatClampNeg) (xs (a3 + (2 : Int32)).toNatClampNeg) (xs (a3 + (3 : Int32)).toNatClampNeg)) fun v242 =>
  xbd (xas (xok (a3 + (1 : Int32)) L)) fun _ =>
  xbd (xas (xok (a3 + (2 : Int32)) L)) fun _ =>
  xbd (xas (xok (a3 + (3 : Int32)) L)) fun _ =>
  xbd (f_X3_greatestPrice a2 (xs (a3 + (1 : Int32)).toNatClampNeg) (xs (a3 + (2 : Int32)).toNatClampNeg) (xs (a3 + (3 : Int32)).toNatClampNeg)) fun v246 =>
  if v242 = v246 then
    f_law_b1529 L xs rec18 a1 a2 a3
  else
    xrtZ (0 : Int32)
def f_law_b1411 (L : Nat) (xs : Nat → Int32) (rec18 : Nat → Nat → Int32 → xM Int32) (a1 : Nat) (a2 : Nat) (a3 : Int32) : xM Int32 :=
  f_law_b1529 L xs rec18 a1 a2 a3
def f_law_b1363 (L : Nat) (xs : Nat → Int32) (rec18 : Nat → Nat → Int32 → xM Int32) (a1 : Nat) (a2 : Nat) (a3 : Int32) : xM Int32 :=
  xbd (xas (xok (a3 + (1 : Int32)) L)) fun _ =>
  xbd (f_X0_value a1 (xs (a3 + (1 : Int32)).toNatClampNeg)) fun v236 =>
  xbd (xas (xok (a3 + (1 : Int32)) L)) fun _ =>
  xbd (f_X3_value a2 (xs (a3 + (1 : Int32)).toNatClampNeg)) fun v238 =>
  if (Op.cmpValue (FP.dcmp v236 v238) .l) = 0 then
    f_law_b1411 L xs rec18 a1 a2 a3
  else
    if (Op.cmpValue (FP.dcmp v236 v236) .l) = 0 then
      xrtZ (0 : Int32)
    else
      if (Op.cmpValue (FP.dcmp v238 v238) .l) = 0 then
        xrtZ (0 : Int32)
      else
        f_law_b1411 L xs rec18 a1 a2 a3
def f_law_b1460 (L : Nat) (xs : Nat → Int32) (rec18 : Nat → Nat → Int32 → xM Int32) (t0 : Int32) (t1 : Nat) (t2 : Int32) (t3 : Int32) (a1 : Nat) (a2 : Nat) (a3 : Int32) : xM Int32 :=
  xbd (xas (xok (a3 + (3 : Int32)) L)) fun _ =>
  xbd (f_X3_takes t1 t2 t3 (xs (a3 + (3 : Int32)).toNatClampNeg)) fun v234 =>
  if t0 = v234 then
    f_law_b1529 L xs rec18 a1 a2 a3
  else
    xrtZ (0 : Int32)
def f_law_b1433 (L : Nat) (xs : Nat → Int32) (rec18 : Nat → Nat → Int32 → xM Int32) (t0 : Nat) (t1 : Int32) (t2 : Int32) (a1 : Nat) (a2 : Nat) (a3 : Int32) : xM Int32 :=
  xbd (xas (xok (a3 + (3 : Int32)) L)) fun _ =>
  xbd (f_X0_takes t0 t1 t2 (xs (a3 + (3 : Int32)).toNatClampNeg)) fun v230 =>
  xbd (xas (xok (a3 + (1 : Int32)) L)) fun _ =>
  xbd (xas (xok (a3 + (2 : Int32)) L)) fun _ =>
  if (xs (a3 + (2 : Int32)).toNatClampNeg) = 0 then
    f_law_b1460 L xs rec18 v230 a2 (xs (a3 + (1 : Int32)).toNatClampNeg) (0 : Int32) a1 a2 a3
  else
    f_law_b1460 L xs rec18 v230 a2 (xs (a3 + (1 : Int32)).toNatClampNeg) (1 : Int32) a1 a2 a3
def f_law_b1414 (L : Nat) (xs : Nat → Int32) (rec18 : Nat → Nat → Int32 → xM Int32) (a1 : Nat) (a2 : Nat) (a3 : Int32) : xM Int32 :=
  xbd (xas (xok (a3 + (1 : Int32)) L)) fun _ =>
  xbd (xas (xok (a3 + (2 : Int32)) L)) fun _ =>
  if (xs (a3 + (2 : Int32)).toNatClampNeg) = 0 then
    f_law_b1433 L xs rec18 a1 (xs (a3 + (1 : Int32)).toNatClampNeg) (0 : Int32) a1 a2 a3
  else
    f_law_b1433 L xs rec18 a1 (xs (a3 + (1 : Int32)).toNatClampNeg) (1 : Int32) a1 a2 a3
def f_law_b1473 (L : Nat) (xs : Nat → Int32) (rec18 : Nat → Nat → Int32 → xM Int32) (a1 : Nat) (a2 : Nat) (a3 : Int32) : xM Int32 :=
  xbd (xas (xok (a3 + (1 : Int32)) L)) fun _ =>
  xbd (xas (xok (a3 + (2 : Int32)) L)) fun _ =>
  xbd (f_X0_event a1 (xs (a3 + (1 : Int32)).toNatClampNeg) (xs (a3 + (2 : Int32)).toNatClampNeg)) fun v223 =>
  xbd (xas (xok (a3 + (1 : Int32)) L)) fun _ =>
  xbd (xas (xok (a3 + (2 : Int32)) L)) fun _ =>
  xbd (f_X3_event a2 (xs (a3 + (1 : Int32)).toNatClampNeg) (xs (a3 + (2 : Int32)).toNatClampNeg)) fun v226 =>
  if v223 = v226 then
    f_law_b1529 L xs rec18 a1 a2 a3
  else
    xrtZ (0 : Int32)
def f_law_b1506 (L : Nat) (xs : Nat → Int32) (rec18 : Nat → Nat → Int32 → xM Int32) (a1 : Nat) (a2 : Nat) (a3 : Int32) : xM Int32 :=
  xbd (xas (xok (a3 + (1 : Int32)) L)) fun _ =>
  xbd (f_X0_count a1 (xs (a3 + (1 : Int32)).toNatClampNeg)) fun v218 =>
  xbd (xas (xok (a3 + (1 : Int32)) L)) fun _ =>
  xbd (f_X3_count a2 (xs (a3 + (1 : Int32)).toNatClampNeg)) fun v220 =>
  if v218 = v220 then
    f_law_b1529 L xs rec18 a1 a2 a3
  else
    xrtZ (0 : Int32)
def f_law_b18 (L : Nat) (xs : Nat → Int32) (rec18 : Nat → Nat → Int32 → xM Int32) (a1 : Nat) (a2 : Nat) (a3 : Int32) : xM Int32 :=
  if ((Int32.ofNat L) - (6 : Int32)) < a3 then
    xrtZ (1 : Int32)
  else
    xbd (xas (xok a3 L)) fun _ =>
    if ((xs a3.toNatClampNeg) &&& (63 : Int32)) = (0 : Int32) then
      f_law_b196 L xs rec18 a1 a2 a3
    else
      if ((xs a3.toNatClampNeg) &&& (63 : Int32)) = (1 : Int32) then
        f_law_b209 L xs rec18 a1 a2 a3
      else
        if ((xs a3.toNatClampNeg) &&& (63 : Int32)) = (2 : Int32) then
          f_law_b298 L xs rec18 a1 a2 a3
        else
          if ((xs a3.toNatClampNeg) &&& (63 : Int32)) = (3 : Int32) then
            f_law_b331 L xs rec18 a1 a2 a3
          else
            if ((xs a3.toNatClampNeg) &&& (63 : Int32)) = (4 : Int32) then
              f_law_b380 L xs rec18 a1 a2 a3
            else
              if ((xs a3.toNatClampNeg) &&& (63 : Int32)) = (5 : Int32) then
                f_law_b433 L xs rec18 a1 a2 a3
              else
                if ((xs a3.toNatClampNeg) &&& (63 : Int32)) = (6 : Int32) then
                  f_law_b466 L xs rec18 a1 a2 a3
                else
                  if ((xs a3.toNatClampNeg) &&& (63 : Int32)) = (7 : Int32) then
                    f_law_b489 L xs rec18 a1 a2 a3
                  else
                    if ((xs a3.toNatClampNeg) &&& (63 : Int32)) = (8 : Int32) then
                      f_law_b542 L xs rec18 a1 a2 a3
                    else
                      if ((xs a3.toNatClampNeg) &&& (63 : Int32)) = (9 : Int32) then
                        f_law_b595 L xs rec18 a1 a2 a3
                      else
                        if ((xs a3.toNatClampNeg) &&& (63 : Int32)) = (10 : Int32) then
                          f_law_b618 L xs rec18 a1 a2 a3
                        else
                          if ((xs a3.toNatClampNeg) &&& (63 : Int32)) = (11 : Int32) then
                            f_law_b641 L xs rec18 a1 a2 a3
                          else
                            if ((xs a3.toNatClampNeg) &&& (63 : Int32)) = (12 : Int32) then
                              f_law_b694 L xs rec18 a1 a2 a3
                            else
                              if ((xs a3.toNatClampNeg) &&& (63 : Int32)) = (13 : Int32) then
                                f_law_b737 L xs rec18 a1 a2 a3
                              else
                                if ((xs a3.toNatClampNeg) &&& (63 : Int32)) = (14 : Int32) then
                                  f_law_b800 L xs rec18 a1 a2 a3
                                else
                                  if ((xs a3.toNatClampNeg) &&& (63 : Int32)) = (15 : Int32) then
                                    f_law_b813 L xs rec18 a1 a2 a3
                                  else
                                    if ((xs a3.toNatClampNeg) &&& (63 : Int32)) = (16 : Int32) then
                                      f_law_b836 L xs rec18 a1 a2 a3
                                    else
                                      if ((xs a3.toNatClampNeg) &&& (63 : Int32)) = (17 : Int32) then
                                        f_law_b859 L xs rec18 a1 a2 a3
                                      else
                                        if ((xs a3.toNatClampNeg) &&& (63 : Int32)) = (18 : Int32) then
                                          f_law_b882 L xs rec18 a1 a2 a3
                                        else
                                          if ((xs a3.toNatClampNeg) &&& (63 : Int32)) = (19 : Int32) then
                                            f_law_b905 L xs rec18 a1 a2 a3
                                          else
                                            if ((xs a3.toNatClampNeg) &&& (63 : Int32)) = (20 : Int32) then
                                              f_law_b928 L xs rec18 a1 a2 a3
                                            else
                                              if ((xs a3.toNatClampNeg) &&& (63 : Int32)) = (21 : Int32) then
                                                f_law_b953 L xs rec18 a1 a2 a3
                                              else
                                                if ((xs a3.toNatClampNeg) &&& (63 : Int32)) = (22 : Int32) then
                                                  f_law_b966 L xs rec18 a1 a2 a3
                                                else
                                                  if ((xs a3.toNatClampNeg) &&& (63 : Int32)) = (23 : Int32) then
                                                    f_law_b979 L xs rec18 a1 a2 a3
                                                  else
                                                    if ((xs a3.toNatClampNeg) &&& (63 : Int32)) = (24 : Int32) then
                                                      f_law_b992 L xs rec18 a1 a2 a3
                                                    else
                                                      if ((xs a3.toNatClampNeg) &&& (63 : Int32)) = (25 : Int32) then
                                                        f_law_b1005 L xs rec18 a1 a2 a3
                                                      else
                                                        if ((xs a3.toNatClampNeg) &&& (63 : Int32)) = (26 : Int32) then
                                                          f_law_b1038 L xs rec18 a1 a2 a3
                                                        else
                                                          if ((xs a3.toNatClampNeg) &&& (63 : Int32)) = (27 : Int32) then
                                                            f_law_b1115 L xs rec18 a1 a2 a3
                                                          else
                                                            if ((xs a3.toNatClampNeg) &&& (63 : Int32)) = (28 : Int32) then
                                                              f_law_b1148 L xs rec18 a1 a2 a3
                                                            else
                                                              if ((xs a3.toNatClampNeg) &&& (63 : Int32)) = (29 : Int32) then
                                                                f_law_b1191 L xs rec18 a1 a2 a3
                                                              else
                                                                if ((xs a3.toNatClampNeg) &&& (63 : Int32)) = (30 : Int32) then
                                                                  f_law_b1224 L xs rec18 a1 a2 a3
                                                                else
                                                                  if ((xs a3.toNatClampNeg) &&& (63 : Int32)) = (31 : Int32) then
                                                                    f_law_b1267 L xs rec18 a1 a2 a3
                                                                  else
                                                                    if ((xs a3.toNatClampNeg) &&& (63 : Int32)) = (32 : Int32) then
                                                                      f_law_b1320 L xs rec18 a1 a2 a3
                                                                    else
                                                                      if ((xs a3.toNatClampNeg) &&& (63 : Int32)) = (33 : Int32) then
                                                                        f_law_b1363 L xs rec18 a1 a2 a3
                                                                      else
                                                                        if ((xs a3.toNatClampNeg) &&& (63 : Int32)) = (34 : Int32) then
                                                                          f_law_b1414 L xs rec18 a1 a2 a3
                                                                        else
                                                                          if ((xs a3.toNatClampNeg) &&& (63 : Int32)) = (35 : Int32) then
                                                                            f_law_b1473 L xs rec18 a1 a2 a3
                                                                          else
                                                                            if ((xs a3.toNatClampNeg) &&& (63 : Int32)) = (36 : Int32) then
                                                                              f_law_b1506 L xs rec18 a1 a2 a3
                                                                            else
                                                                              f_law_b1529 L xs rec18 a1 a2 a3
def f_law_L18 (L : Nat) (xs : Nat → Int32) : Nat → Nat → Nat → Int32 → xM Int32
  | 0, _, _, _ => xno
  | n+1, a1, a2, a3 => f_law_b18 L xs (f_law_L18 L xs n) a1 a2 a3
def f_law (L : Nat) (xs : Nat → Int32) : xM Int32 :=
  xbd (xnw 0 [.null, .null, .null, .null]) fun v431 =>
  xbd (f_X0_init v431) fun _ =>
  xbd (xnw 3 [.int 0, .null, .null, .null, .int 0, .null, .int 0, .null, .int 0, .int 0, .int 0, .null]) fun v432 =>
  xbd (f_X3_init v432) fun _ =>
  f_law_L18 L xs xFU v431 v432 (0 : Int32)
