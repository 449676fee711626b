/-! printed by mk.py/gen.py -/
set_option maxRecDepth 100000
def f_J19_init (p0 : Option Nat) (h : AH) : RS := xnn p0 (xcV (f_J5_init p0 h) (fun h1 => xnA h1 5 17 (fun a2 h3 => xpF h3 p0 12 0 (va_rf a2) (fun h4 => rtV h4))))
def f_J19_inc (p0 : Int32) (p1 : Int32) (h : AH) : RS := if (p0 + 1) < p1 then rtI (p0 + 1) h else rtI 0 h
def f_J19_dec (p0 : Int32) (p1 : Int32) (h : AH) : RS := if 0 ≤ (p0 + (-1)) then rtI (p0 + (-1)) h else rtI (p1 - 1) h
def f_J19_sub (p0 : Int32) (p1 : Int32) (p2 : Int32) (h : AH) : RS := if 0 ≤ (p0 - p1) then rtI (p0 - p1) h else rtI ((p0 - p1) + p2) h
def f_J19_elementAt (p0 : Option Nat) (p1 : Int32) (h : AH) : RS := xlA h p0 p1 (fun v1 => rtA v1 h)
def f_J19_newCapacity (p0 : Option Nat) (p1 : Int32) (p2 : Int32) (h : AH) : RS := xgA h p0 12 0 (fun v1 => xaL h v1 (fun v2 => if ((v2 + p1) - 2147483639) ≤ 0 then if p1 ≤ p2 then if 0 ≤ ((v2 + p2) - 2147483639) then rtI 2147483639 h else rtI (v2 + p2) h else rtI (v2 + p1) h else if 0 ≤ (v2 + p1) then rtI 2147483647 h else none))
noncomputable def f_J19_grow_L145 (k164 : AH → RS) : Nat → Option Nat → Int32 → Int32 → AH → RS
  | 0, _, _, _, _ => none
  | n + 1, x37, x38, x39, h40 => if x39 ≤ x38 then k164  h40 else xsA h40 x37 x38 none (fun h41 => f_J19_grow_L145 k164 n x37 (x38 + 1) x39 h41)
noncomputable def f_J19_grow_J96 (x25 : Option Nat) (x26 : Int32) (x27 : Int32) (x28 : Option Nat)  (h29 : AH) : RS := xgI h29 x25 12 1 (fun v30 => xgI h29 x25 12 1 (fun v31 => xgI h29 x25 12 1 (fun v32 => xcpA h29 x28 v30 x28 (v31 + (x27 - x26)) (x26 - v32) (fun h33 => xgI h33 x25 12 1 (fun v34 => xgI h33 x25 12 1 (fun v35 => xpF h33 x25 12 1 (.int (v35 + (x27 - x26))) (fun h36 => f_J19_grow_L145 (fun h43 => rtV h43) FUEL x28 v34 (v35 + (x27 - x26)) h36)))))))
noncomputable def f_J19_grow_J49 (x15 : Option Nat) (x16 : Int32) (x17 : Int32)  (h18 : AH) : RS := xgA h18 x15 12 0 (fun v19 => xcA (f_J12_copyOf v19 x17 h18) (fun v21 h20 => xpF h20 x15 12 0 (va_rf v21) (fun h22 => xgI h22 x15 12 2 (fun v23 => xgI h22 x15 12 1 (fun v24 => if v23 < v24 then f_J19_grow_J96 x15 x16 x17 v21 h22 else xgI h22 x15 12 2 (fun v44 => xgI h22 x15 12 1 (fun v45 => if ¬ v44 = v45 then rtV h22 else xgI h22 x15 12 1 (fun v46 => xlA h22 v21 v46 (fun v47 => if v47 = none then rtV h22 else f_J19_grow_J96 x15 x16 x17 v21 h22)))))))))
noncomputable def f_J19_grow_J41 (x8 : Option Nat) (x9 : Int32) (x10 : Int32) (x11 : Int32)  (h12 : AH) : RS := xrc h12 x8 12 (xcI (f_J19_newCapacity x8 x9 x11 h12) (fun v14 h13 => f_J19_grow_J49 x8 x10 v14 h13))
noncomputable def f_J19_grow_J21 (x3 : Option Nat) (x4 : Int32) (x5 : Int32) (y6 : Int32) (h7 : AH) : RS := if y6 < x4 then f_J19_grow_J41 x3 x4 x5 y6 h7 else if ((x5 + y6) - 2147483639) ≤ 0 then f_J19_grow_J49 x3 x5 (x5 + y6) h7 else f_J19_grow_J41 x3 x4 x5 y6 h7
noncomputable def f_J19_grow (p0 : Option Nat) (p1 : Int32) (h : AH) : RS := xgA h p0 12 0 (fun v1 => xaL h v1 (fun v2 => if 64 ≤ v2 then f_J19_grow_J21 p0 p1 v2 (v2 >>> ((1 : Int32) &&& 31)) h else f_J19_grow_J21 p0 p1 v2 (v2 + 2) h))
noncomputable def f_J19_addLast (p0 : Option Nat) (p1 : Option Nat) (h : AH) : RS := if ¬ p1 = none then xgA h p0 12 0 (fun v1 => xgI h p0 12 2 (fun v2 => xsA h v1 v2 p1 (fun h3 => xgI h3 p0 12 1 (fun v4 => xgI h3 p0 12 2 (fun v5 => xaL h3 v1 (fun v6 => xcI (f_J19_inc v5 v6 h3) (fun v8 h7 => xpF h7 p0 12 2 (.int v8) (fun h9 => if ¬ v4 = v8 then rtV h9 else xrc h9 p0 12 (xcV (f_J19_grow p0 1 h9) (fun h10 => rtV h10)))))))))) else none
def f_J19_pollFirst (p0 : Option Nat) (h : AH) : RS := xgA h p0 12 0 (fun v1 => xgI h p0 12 1 (fun v2 => xcA (f_J19_elementAt v1 v2 h) (fun v4 h3 => if v4 = none then rtA v4 h3 else xsA h3 v1 v2 none (fun h5 => xaL h5 v1 (fun v6 => xcI (f_J19_inc v2 v6 h5) (fun v8 h7 => xpF h7 p0 12 1 (.int v8) (fun h9 => rtA v4 h9)))))))
def f_J19_pollLast (p0 : Option Nat) (h : AH) : RS := xgA h p0 12 0 (fun v1 => xgI h p0 12 2 (fun v2 => xaL h v1 (fun v3 => xcI (f_J19_dec v2 v3 h) (fun v5 h4 => xcA (f_J19_elementAt v1 v5 h4) (fun v7 h6 => if v7 = none then rtA v7 h6 else xpF h6 p0 12 2 (.int v5) (fun h8 => xsA h8 v1 v5 none (fun h9 => rtA v7 h9)))))))
def f_J19_removeFirst (p0 : Option Nat) (h : AH) : RS := xrc h p0 12 (xcA (f_J19_pollFirst p0 h) (fun v2 h1 => if ¬ v2 = none then rtA v2 h1 else none))
def f_J19_removeLast (p0 : Option Nat) (h : AH) : RS := xrc h p0 12 (xcA (f_J19_pollLast p0 h) (fun v2 h1 => if ¬ v2 = none then rtA v2 h1 else none))
def f_J19_isEmpty (p0 : Option Nat) (h : AH) : RS := xgI h p0 12 1 (fun v1 => xgI h p0 12 2 (fun v2 => if ¬ v1 = v2 then rtZ 0 h else rtZ 1 h))
def f_J19_size (p0 : Option Nat) (h : AH) : RS := xgI h p0 12 2 (fun v1 => xgI h p0 12 1 (fun v2 => xgA h p0 12 0 (fun v3 => xaL h v3 (fun v4 => xcI (f_J19_sub v1 v2 v4 h) (fun v6 h5 => rtI v6 h5)))))
def f_J9_numberOfTrailingZeros_J74 (x10 : Int32) (x11 : Int32)  (h12 : AH) : RS := rtI (x11 + ((x10.toUInt32 >>> ((1 : Int32).toUInt32 &&& Int32.toUInt32 31)).toInt32)) h12
def f_J9_numberOfTrailingZeros_J62 (x7 : Int32) (x8 : Int32)  (h9 : AH) : RS := if x7 ≤ 4 then f_J9_numberOfTrailingZeros_J74 x7 x8 h9 else f_J9_numberOfTrailingZeros_J74 ((x7.toUInt32 >>> ((2 : Int32).toUInt32 &&& Int32.toUInt32 31)).toInt32) (x8 + 2) h9
def f_J9_numberOfTrailingZeros_J49 (x4 : Int32) (x5 : Int32)  (h6 : AH) : RS := if x4 ≤ 16 then f_J9_numberOfTrailingZeros_J62 x4 x5 h6 else f_J9_numberOfTrailingZeros_J62 ((x4.toUInt32 >>> ((4 : Int32).toUInt32 &&& Int32.toUInt32 31)).toInt32) (x5 + 4) h6
def f_J9_numberOfTrailingZeros_J34 (x1 : Int32) (x2 : Int32)  (h3 : AH) : RS := if x1 ≤ 256 then f_J9_numberOfTrailingZeros_J49 x1 x2 h3 else f_J9_numberOfTrailingZeros_J49 ((x1.toUInt32 >>> ((8 : Int32).toUInt32 &&& Int32.toUInt32 31)).toInt32) (x2 + 8) h3
def f_J9_numberOfTrailingZeros (p0 : Int32) (h : AH) : RS := if 0 < ((p0 ^^^ (-1)) &&& (p0 - 1)) then if ((p0 ^^^ (-1)) &&& (p0 - 1)) ≤ 65536 then f_J9_numberOfTrailingZeros_J34 ((p0 ^^^ (-1)) &&& (p0 - 1)) 1 h else f_J9_numberOfTrailingZeros_J34 ((((p0 ^^^ (-1)) &&& (p0 - 1)).toUInt32 >>> ((16 : Int32).toUInt32 &&& Int32.toUInt32 31)).toInt32) (1 + 16) h else rtI (((p0 ^^^ (-1)) &&& (p0 - 1)) &&& 32) h
def f_J26_numberOfTrailingZeros (p0 : Int64) (h : AH) : RS := if ¬ p0.toInt32 = 0 then xcI (f_J9_numberOfTrailingZeros p0.toInt32 h) (fun v2 h1 => rtI v2 h1) else xcI (f_J9_numberOfTrailingZeros (((p0.toUInt64 >>> ((32 : Int32).toInt64.toUInt64 &&& Int64.toUInt64 63)).toInt64).toInt32) h) (fun v4 h3 => rtI (32 + v4) h3)
def f_J26_bitCount (p0 : Int64) (h : AH) : RS := rtI ((((((((((p0 - (((p0.toUInt64 >>> ((1 : Int32).toInt64.toUInt64 &&& Int64.toUInt64 63)).toInt64) &&& 6148914691236517205)) &&& 3689348814741910323) + ((((p0 - (((p0.toUInt64 >>> ((1 : Int32).toInt64.toUInt64 &&& Int64.toUInt64 63)).toInt64) &&& 6148914691236517205)).toUInt64 >>> ((2 : Int32).toInt64.toUInt64 &&& Int64.toUInt64 63)).toInt64) &&& 3689348814741910323)) + (((((p0 - (((p0.toUInt64 >>> ((1 : Int32).toInt64.toUInt64 &&& Int64.toUInt64 63)).toInt64) &&& 6148914691236517205)) &&& 3689348814741910323) + ((((p0 - (((p0.toUInt64 >>> ((1 : Int32).toInt64.toUInt64 &&& Int64.toUInt64 63)).toInt64) &&& 6148914691236517205)).toUInt64 >>> ((2 : Int32).toInt64.toUInt64 &&& Int64.toUInt64 63)).toInt64) &&& 3689348814741910323)).toUInt64 >>> ((4 : Int32).toInt64.toUInt64 &&& Int64.toUInt64 63)).toInt64)) &&& 1085102592571150095) + (((((((p0 - (((p0.toUInt64 >>> ((1 : Int32).toInt64.toUInt64 &&& Int64.toUInt64 63)).toInt64) &&& 6148914691236517205)) &&& 3689348814741910323) + ((((p0 - (((p0.toUInt64 >>> ((1 : Int32).toInt64.toUInt64 &&& Int64.toUInt64 63)).toInt64) &&& 6148914691236517205)).toUInt64 >>> ((2 : Int32).toInt64.toUInt64 &&& Int64.toUInt64 63)).toInt64) &&& 3689348814741910323)) + (((((p0 - (((p0.toUInt64 >>> ((1 : Int32).toInt64.toUInt64 &&& Int64.toUInt64 63)).toInt64) &&& 6148914691236517205)) &&& 3689348814741910323) + ((((p0 - (((p0.toUInt64 >>> ((1 : Int32).toInt64.toUInt64 &&& Int64.toUInt64 63)).toInt64) &&& 6148914691236517205)).toUInt64 >>> ((2 : Int32).toInt64.toUInt64 &&& Int64.toUInt64 63)).toInt64) &&& 3689348814741910323)).toUInt64 >>> ((4 : Int32).toInt64.toUInt64 &&& Int64.toUInt64 63)).toInt64)) &&& 1085102592571150095).toUInt64 >>> ((8 : Int32).toInt64.toUInt64 &&& Int64.toUInt64 63)).toInt64)) + ((((((((p0 - (((p0.toUInt64 >>> ((1 : Int32).toInt64.toUInt64 &&& Int64.toUInt64 63)).toInt64) &&& 6148914691236517205)) &&& 3689348814741910323) + ((((p0 - (((p0.toUInt64 >>> ((1 : Int32).toInt64.toUInt64 &&& Int64.toUInt64 63)).toInt64) &&& 6148914691236517205)).toUInt64 >>> ((2 : Int32).toInt64.toUInt64 &&& Int64.toUInt64 63)).toInt64) &&& 3689348814741910323)) + (((((p0 - (((p0.toUInt64 >>> ((1 : Int32).toInt64.toUInt64 &&& Int64.toUInt64 63)).toInt64) &&& 6148914691236517205)) &&& 3689348814741910323) + ((((p0 - (((p0.toUInt64 >>> ((1 : Int32).toInt64.toUInt64 &&& Int64.toUInt64 63)).toInt64) &&& 6148914691236517205)).toUInt64 >>> ((2 : Int32).toInt64.toUInt64 &&& Int64.toUInt64 63)).toInt64) &&& 3689348814741910323)).toUInt64 >>> ((4 : Int32).toInt64.toUInt64 &&& Int64.toUInt64 63)).toInt64)) &&& 1085102592571150095) + (((((((p0 - (((p0.toUInt64 >>> ((1 : Int32).toInt64.toUInt64 &&& Int64.toUInt64 63)).toInt64) &&& 6148914691236517205)) &&& 3689348814741910323) + ((((p0 - (((p0.toUInt64 >>> ((1 : Int32).toInt64.toUInt64 &&& Int64.toUInt64 63)).toInt64) &&& 6148914691236517205)).toUInt64 >>> ((2 : Int32).toInt64.toUInt64 &&& Int64.toUInt64 63)).toInt64) &&& 3689348814741910323)) + (((((p0 - (((p0.toUInt64 >>> ((1 : Int32).toInt64.toUInt64 &&& Int64.toUInt64 63)).toInt64) &&& 6148914691236517205)) &&& 3689348814741910323) + ((((p0 - (((p0.toUInt64 >>> ((1 : Int32).toInt64.toUInt64 &&& Int64.toUInt64 63)).toInt64) &&& 6148914691236517205)).toUInt64 >>> ((2 : Int32).toInt64.toUInt64 &&& Int64.toUInt64 63)).toInt64) &&& 3689348814741910323)).toUInt64 >>> ((4 : Int32).toInt64.toUInt64 &&& Int64.toUInt64 63)).toInt64)) &&& 1085102592571150095).toUInt64 >>> ((8 : Int32).toInt64.toUInt64 &&& Int64.toUInt64 63)).toInt64)).toUInt64 >>> ((16 : Int32).toInt64.toUInt64 &&& Int64.toUInt64 63)).toInt64)) + (((((((((p0 - (((p0.toUInt64 >>> ((1 : Int32).toInt64.toUInt64 &&& Int64.toUInt64 63)).toInt64) &&& 6148914691236517205)) &&& 3689348814741910323) + ((((p0 - (((p0.toUInt64 >>> ((1 : Int32).toInt64.toUInt64 &&& Int64.toUInt64 63)).toInt64) &&& 6148914691236517205)).toUInt64 >>> ((2 : Int32).toInt64.toUInt64 &&& Int64.toUInt64 63)).toInt64) &&& 3689348814741910323)) + (((((p0 - (((p0.toUInt64 >>> ((1 : Int32).toInt64.toUInt64 &&& Int64.toUInt64 63)).toInt64) &&& 6148914691236517205)) &&& 3689348814741910323) + ((((p0 - (((p0.toUInt64 >>> ((1 : Int32).toInt64.toUInt64 &&& Int64.toUInt64 63)).toInt64) &&& 6148914691236517205)).toUInt64 >>> ((2 : Int32).toInt64.toUInt64 &&& Int64.toUInt64 63)).toInt64) &&& 3689348814741910323)).toUInt64 >>> ((4 : Int32).toInt64.toUInt64 &&& Int64.toUInt64 63)).toInt64)) &&& 1085102592571150095) + (((((((p0 - (((p0.toUInt64 >>> ((1 : Int32).toInt64.toUInt64 &&& Int64.toUInt64 63)).toInt64) &&& 6148914691236517205)) &&& 3689348814741910323) + ((((p0 - (((p0.toUInt64 >>> ((1 : Int32).toInt64.toUInt64 &&& Int64.toUInt64 63)).toInt64) &&& 6148914691236517205)).toUInt64 >>> ((2 : Int32).toInt64.toUInt64 &&& Int64.toUInt64 63)).toInt64) &&& 3689348814741910323)) + (((((p0 - (((p0.toUInt64 >>> ((1 : Int32).toInt64.toUInt64 &&& Int64.toUInt64 63)).toInt64) &&& 6148914691236517205)) &&& 3689348814741910323) + ((((p0 - (((p0.toUInt64 >>> ((1 : Int32).toInt64.toUInt64 &&& Int64.toUInt64 63)).toInt64) &&& 6148914691236517205)).toUInt64 >>> ((2 : Int32).toInt64.toUInt64 &&& Int64.toUInt64 63)).toInt64) &&& 3689348814741910323)).toUInt64 >>> ((4 : Int32).toInt64.toUInt64 &&& Int64.toUInt64 63)).toInt64)) &&& 1085102592571150095).toUInt64 >>> ((8 : Int32).toInt64.toUInt64 &&& Int64.toUInt64 63)).toInt64)) + ((((((((p0 - (((p0.toUInt64 >>> ((1 : Int32).toInt64.toUInt64 &&& Int64.toUInt64 63)).toInt64) &&& 6148914691236517205)) &&& 3689348814741910323) + ((((p0 - (((p0.toUInt64 >>> ((1 : Int32).toInt64.toUInt64 &&& Int64.toUInt64 63)).toInt64) &&& 6148914691236517205)).toUInt64 >>> ((2 : Int32).toInt64.toUInt64 &&& Int64.toUInt64 63)).toInt64) &&& 3689348814741910323)) + (((((p0 - (((p0.toUInt64 >>> ((1 : Int32).toInt64.toUInt64 &&& Int64.toUInt64 63)).toInt64) &&& 6148914691236517205)) &&& 3689348814741910323) + ((((p0 - (((p0.toUInt64 >>> ((1 : Int32).toInt64.toUInt64 &&& Int64.toUInt64 63)).toInt64) &&& 6148914691236517205)).toUInt64 >>> ((2 : Int32).toInt64.toUInt64 &&& Int64.toUInt64 63)).toInt64) &&& 3689348814741910323)).toUInt64 >>> ((4 : Int32).toInt64.toUInt64 &&& Int64.toUInt64 63)).toInt64)) &&& 1085102592571150095) + (((((((p0 - (((p0.toUInt64 >>> ((1 : Int32).toInt64.toUInt64 &&& Int64.toUInt64 63)).toInt64) &&& 6148914691236517205)) &&& 3689348814741910323) + ((((p0 - (((p0.toUInt64 >>> ((1 : Int32).toInt64.toUInt64 &&& Int64.toUInt64 63)).toInt64) &&& 6148914691236517205)).toUInt64 >>> ((2 : Int32).toInt64.toUInt64 &&& Int64.toUInt64 63)).toInt64) &&& 3689348814741910323)) + (((((p0 - (((p0.toUInt64 >>> ((1 : Int32).toInt64.toUInt64 &&& Int64.toUInt64 63)).toInt64) &&& 6148914691236517205)) &&& 3689348814741910323) + ((((p0 - (((p0.toUInt64 >>> ((1 : Int32).toInt64.toUInt64 &&& Int64.toUInt64 63)).toInt64) &&& 6148914691236517205)).toUInt64 >>> ((2 : Int32).toInt64.toUInt64 &&& Int64.toUInt64 63)).toInt64) &&& 3689348814741910323)).toUInt64 >>> ((4 : Int32).toInt64.toUInt64 &&& Int64.toUInt64 63)).toInt64)) &&& 1085102592571150095).toUInt64 >>> ((8 : Int32).toInt64.toUInt64 &&& Int64.toUInt64 63)).toInt64)).toUInt64 >>> ((16 : Int32).toInt64.toUInt64 &&& Int64.toUInt64 63)).toInt64)).toUInt64 >>> ((32 : Int32).toInt64.toUInt64 &&& Int64.toUInt64 63)).toInt64)).toInt32) &&& 127) h
def f_J20_wordIndex (p0 : Int32) (h : AH) : RS := rtI (p0 >>> ((6 : Int32) &&& 31)) h
def f_J20_initWords (p0 : Option Nat) (p1 : Int32) (h : AH) : RS := xcI (f_J20_wordIndex (p1 - 1) h) (fun v2 h1 => xnA h1 3 (v2 + 1) (fun a3 h4 => xpF h4 p0 13 0 (va_rf a3) (fun h5 => rtV h5)))
def f_J20_init (p0 : Option Nat) (h : AH) : RS := xnn p0 (xpF h p0 13 1 (.int 0) (fun h1 => xpZ h1 p0 13 2 0 (fun h2 => xrc h2 p0 13 (xcV (f_J20_initWords p0 64 h2) (fun h3 => xpZ h3 p0 13 2 0 (fun h4 => rtV h4))))))
def f_J20_checkInvariants_J70 (x5 : Option Nat)  (h6 : AH) : RS := xtI h6 3 (fun v7 => if ¬ v7 = 0 then rtV h6 else xgI h6 x5 13 1 (fun v8 => xgA h6 x5 13 0 (fun v9 => xaL h6 v9 (fun v10 => if v8 = v10 then rtV h6 else xgA h6 x5 13 0 (fun v11 => xgI h6 x5 13 1 (fun v12 => xlL h6 v11 v12 (fun v13 => if (lg_cmp v13 (0 : Int64)) = 0 then rtV h6 else none)))))))
def f_J20_checkInvariants_J37 (x2 : Option Nat)  (h3 : AH) : RS := xtI h3 3 (fun v4 => if ¬ v4 = 0 then f_J20_checkInvariants_J70 x2 h3 else xgI h3 x2 13 1 (fun v17 => if v17 < 0 then none else xgI h3 x2 13 1 (fun v18 => xgA h3 x2 13 0 (fun v19 => xaL h3 v19 (fun v20 => if v18 ≤ v20 then f_J20_checkInvariants_J70 x2 h3 else none)))))
def f_J20_checkInvariants (p0 : Option Nat) (h : AH) : RS := xtI h 3 (fun v1 => if ¬ v1 = 0 then f_J20_checkInvariants_J37 p0 h else xgI h p0 13 1 (fun v24 => if v24 = 0 then f_J20_checkInvariants_J37 p0 h else xgA h p0 13 0 (fun v25 => xgI h p0 13 1 (fun v26 => xlL h v25 (v26 - 1) (fun v27 => if ¬ (lg_cmp v27 (0 : Int64)) = 0 then f_J20_checkInvariants_J37 p0 h else none)))))
noncomputable def f_J20_ensureCapacity (p0 : Option Nat) (p1 : Int32) (h : AH) : RS := xgA h p0 13 0 (fun v1 => xaL h v1 (fun v2 => if p1 ≤ v2 then rtV h else xgA h p0 13 0 (fun v3 => xaL h v3 (fun v4 => xgA h p0 13 0 (fun v5 => xcA (f_J12_copyOf_4 v5 (mxI (2 * v4) p1) h) (fun v7 h6 => xpF h6 p0 13 0 (va_rf v7) (fun h8 => xpZ h8 p0 13 2 0 (fun h9 => rtV h9))))))))
noncomputable def f_J20_expandTo (p0 : Option Nat) (p1 : Int32) (h : AH) : RS := xgI h p0 13 1 (fun v1 => if (p1 + 1) ≤ v1 then rtV h else xrc h p0 13 (xcV (f_J20_ensureCapacity p0 (p1 + 1) h) (fun h2 => xpF h2 p0 13 1 (.int (p1 + 1)) (fun h3 => rtV h3))))
noncomputable def f_J20_set (p0 : Option Nat) (p1 : Int32) (h : AH) : RS := if 0 ≤ p1 then xcI (f_J20_wordIndex p1 h) (fun v2 h1 => xrc h1 p0 13 (xcV (f_J20_expandTo p0 v2 h1) (fun h3 => xgA h3 p0 13 0 (fun v4 => xlL h3 v4 v2 (fun v5 => xsL h3 v4 v2 (v5 ||| ((1 : Int64) <<< (p1.toInt64 &&& 63))) (fun h6 => xrc h6 p0 13 (xcV (f_J20_checkInvariants p0 h6) (fun h7 => rtV h7)))))))) else none
def f_J20_get (p0 : Option Nat) (p1 : Int32) (h : AH) : RS := if 0 ≤ p1 then xrc h p0 13 (xcV (f_J20_checkInvariants p0 h) (fun h1 => xcI (f_J20_wordIndex p1 h1) (fun v3 h2 => xgI h2 p0 13 1 (fun v4 => if v4 ≤ v3 then rtZ 0 h2 else xgA h2 p0 13 0 (fun v5 => xlL h2 v5 v3 (fun v6 => if (lg_cmp (v6 &&& ((1 : Int64) <<< (p1.toInt64 &&& 63))) (0 : Int64)) = 0 then rtZ 0 h2 else rtZ 1 h2)))))) else none
def f_J20_nextSetBit_L63 (k90 : AH → RS) : Nat → Option Nat → Int32 → Int64 → AH → RS
  | 0, _, _, _, _ => none
  | n + 1, x7, x8, x9, h10 => if (lg_cmp x9 (0 : Int64)) = 0 then xgI h10 x7 13 1 (fun v11 => if ¬ (x8 + 1) = v11 then xgA h10 x7 13 0 (fun v12 => xlL h10 v12 (x8 + 1) (fun v13 => f_J20_nextSetBit_L63 k90 n x7 (x8 + 1) v13 h10)) else k90  h10) else xcI (f_J26_numberOfTrailingZeros x9 h10) (fun v16 h15 => rtI ((x8 * 64) + v16) h15)
def f_J20_nextSetBit (p0 : Option Nat) (p1 : Int32) (h : AH) : RS := if 0 ≤ p1 then xrc h p0 13 (xcV (f_J20_checkInvariants p0 h) (fun h1 => xcI (f_J20_wordIndex p1 h1) (fun v3 h2 => xgI h2 p0 13 1 (fun v4 => if v3 < v4 then xgA h2 p0 13 0 (fun v5 => xlL h2 v5 v3 (fun v6 => f_J20_nextSetBit_L63 (fun h18 => rtI (-1) h18) FUEL p0 v3 (v6 &&& ((-1 : Int64) <<< (p1.toInt64 &&& 63))) h2)) else rtI (-1) h2)))) else none
def f_J20_cardinality_L4 (k30 : Int32 → AH → RS) : Nat → Option Nat → Int32 → Int32 → AH → RS
  | 0, _, _, _, _ => none
  | n + 1, x1, x2, x3, h4 => xgI h4 x1 13 1 (fun v5 => if v5 ≤ x3 then k30 x2 h4 else xgA h4 x1 13 0 (fun v6 => xlL h4 v6 x3 (fun v7 => xcI (f_J26_bitCount v7 h4) (fun v9 h8 => f_J20_cardinality_L4 k30 n x1 (x2 + v9) (x3 + 1) h8))))
def f_J20_cardinality (p0 : Option Nat) (h : AH) : RS := f_J20_cardinality_L4 (fun x11 h12 => rtI x11 h12) FUEL p0 0 0 h
def f_J20_recalculateWordsInUse_L7 (k31 : Option Nat → Int32 → AH → RS) : Nat → Option Nat → Int32 → AH → RS
  | 0, _, _, _ => none
  | n + 1, x2, x3, h4 => if x3 < 0 then k31 x2 x3 h4 else xgA h4 x2 13 0 (fun v5 => xlL h4 v5 x3 (fun v6 => if (lg_cmp v6 (0 : Int64)) = 0 then f_J20_recalculateWordsInUse_L7 k31 n x2 (x3 + (-1)) h4 else k31 x2 x3 h4))
def f_J20_recalculateWordsInUse_J31 (x12 : Option Nat) (x13 : Int32)  (h14 : AH) : RS := xpF h14 x12 13 1 (.int (x13 + 1)) (fun h15 => rtV h15)
def f_J20_recalculateWordsInUse (p0 : Option Nat) (h : AH) : RS := xgI h p0 13 1 (fun v1 => f_J20_recalculateWordsInUse_L7 (fun x9 x10 h11 => f_J20_recalculateWordsInUse_J31 x9 x10 h11) FUEL p0 (v1 - 1) h)
def f_J20_and_L6 (k37 : Option Nat → Option Nat → AH → RS) : Nat → Option Nat → Option Nat → AH → RS
  | 0, _, _, _ => none
  | n + 1, x1, x2, h3 => xgI h3 x1 13 1 (fun v4 => xgI h3 x2 13 1 (fun v5 => if v4 ≤ v5 then k37 x1 x2 h3 else xgA h3 x1 13 0 (fun v6 => xgI h3 x1 13 1 (fun v7 => xpF h3 x1 13 1 (.int (v7 - 1)) (fun h8 => xsL h8 v6 (v7 - 1) 0 (fun h9 => f_J20_and_L6 k37 n x1 x2 h9))))))
def f_J20_and_L39 (k68 : Option Nat → AH → RS) : Nat → Option Nat → Option Nat → Int32 → AH → RS
  | 0, _, _, _, _ => none
  | n + 1, x14, x15, x16, h17 => xgI h17 x14 13 1 (fun v18 => if v18 ≤ x16 then k68 x14 h17 else xgA h17 x14 13 0 (fun v19 => xlL h17 v19 x16 (fun v20 => xgA h17 x15 13 0 (fun v21 => xlL h17 v21 x16 (fun v22 => xsL h17 v19 x16 (v20 &&& v22) (fun h23 => f_J20_and_L39 k68 n x14 x15 (x16 + 1) h23))))))
def f_J20_and (p0 : Option Nat) (p1 : Option Nat) (h : AH) : RS := if ¬ p0 = p1 then f_J20_and_L6 (fun x11 x12 h13 => f_J20_and_L39 (fun x25 h26 => xrc h26 x25 13 (xcV (f_J20_recalculateWordsInUse x25 h26) (fun h27 => xrc h27 x25 13 (xcV (f_J20_checkInvariants x25 h27) (fun h28 => rtV h28))))) FUEL x11 x12 0 h13) FUEL p0 p1 h else rtV h
def f_J0_init_3 (p0 : Option Nat) (p1 : Option Nat) (p2 : Option Nat) (p3 : Int32) (p4 : Int32) (h : AH) : RS := xnn p0 (xpF h p0 3 0 (va_rf p0) (fun h1 => xtA h1 4 (fun v2 => xpF h1 p0 3 1 (va_rf v2) (fun h3 => xtA h3 5 (fun v4 => xpF h3 p0 3 2 (va_rf v4) (fun h5 => if p4 = 0 then xpF h5 p0 3 1 (va_rf none) (fun h6 => xpF h6 p0 3 3 (va_rf p1) (fun h7 => xpF h7 p0 3 0 (va_rf p2) (fun h8 => if ¬ p3 = 0 then rtV h8 else xpF h8 p0 3 2 (va_rf none) (fun h9 => rtV h9)))) else none))))))
def f_J1_init_3 (p0 : Option Nat) (p1 : Option Nat) (p2 : Option Nat) (p3 : Int32) (p4 : Int32) (h : AH) : RS := xnn p0 (xcV (f_J0_init_3 p0 p1 p2 p3 p4 h) (fun h1 => rtV h1))
def f_X4_init (p0 : Option Nat) (p1 : Int32) (h : AH) : RS := xnn p0 (xcV (f_J1_init_3 p0 none none 0 0 h) (fun h1 => xpF h1 p0 3 6 (.int p1) (fun h2 => rtV h2)))
abbrev FR_J19_init : Nat := 2
abbrev LO_J19_init : Nat := 36
theorem dyJ19_init : DY yJ19_init 0 := ⟨⟨by decide, by decide⟩, by decide +kernel⟩
theorem sm_J19_init {G : GC} {K : SC} (hK : SOK G K RJ19 cJ19_init 1 (none) "<init>" []) (hf : FR_J19_init ≤ (kR K).frames) (hlo : LO_J19_init ≤ (kR K).locals) (p0 : Option Nat) (h : AH) : Sim G K 1 (f_J19_init p0 h) h 0 [(0, va_rf p0)] [] := by
  unfold f_J19_init
  refine s_aload_n hK dJ19_init_0 rfl 0 rfl ?_
  refine s_nn (fun _ eo => ?_)
  refine s_cV hK ho_n (cx_i (As := []) (rest := []) hK dyJ5_init rfl q212 rfl q213 q86 q214 eo (ct_J5_init hK.1 p0 h) (Nat.le_trans (Nat.le_of_ble_eq_true rfl) hf) (Nat.le_trans (Nat.le_of_ble_eq_true rfl) hlo) rk_n (Nat.le_of_ble_eq_true rfl) dJ19_init_1 rfl) (fun h1 => ?_)
  refine s_aload_n hK dJ19_init_4 rfl 0 rfl ?_
  refine s_bipush (v := 17) hK dJ19_init_5 rfl ?_
  refine s_anew hK q216 dJ19_init_7 (fun a2 h3 => ?_)
  refine s_pF hK fcJ19 0 (Nat.le_of_ble_eq_true rfl) (Or.inl q218) (Or.inl rfl) (Or.inl rfl) (nr_r _) (ft_r _) dJ19_init_10 (fun h4 => ?_)
  exact s_vret hK dJ19_init_13
theorem ct_J19_init {G : GC} {l : Launch} (g : GOK G l) (p0 : Option Nat) (h : AH) : CT G l yJ19_init (Cond.code yJ19_init cJ19_init 1 (none)) 2 36 [va_rf p0] (f_J19_init p0 h) h :=
  CT.of g (by decide) (by simp only [ls_a, ls_i, ls_l, ls_n]; decide) (fun K _ hK hf hlo => by simp only [la_a, la_i, la_l, la_n]; exact sm_J19_init hK hf hlo p0 h)
abbrev FR_J19_inc : Nat := 1
abbrev LO_J19_inc : Nat := 16
theorem dyJ19_inc : DY yJ19_inc 2 := ⟨⟨by decide, by decide⟩, by decide +kernel⟩
theorem sm_J19_inc {G : GC} {K : SC} (hK : SOK G K RJ19 cJ19_inc 2 (some (.int)) "inc" []) (hf : FR_J19_inc ≤ (kR K).frames) (hlo : LO_J19_inc ≤ (kR K).locals) (p0 : Int32) (p1 : Int32) (h : AH) : Sim G K 2 (f_J19_inc p0 p1 h) h 0 [(0, .int p0), (1, .int p1)] [] := by
  unfold f_J19_inc
  refine s_iinc (j := 0) (v := 1) (lv' := [(0, .int (p0 + 1)), (1, .int p1)]) hK dJ19_inc_0 rfl rfl (Nat.le_of_ble_eq_true rfl) rfl ?_
  refine s_iload_n hK dJ19_inc_3 rfl 0 rfl ?_
  refine s_iload_n hK dJ19_inc_4 rfl 1 rfl ?_
  refine s_icmp_lt (tgt := 10) hK dJ19_inc_5 (by decide) (fun c1 => ?_) (fun c1 => ?_)
  · refine s_iload_n hK dJ19_inc_10 rfl 0 rfl ?_
    exact s_iret hK dJ19_inc_11
  · refine s_iconst (v := 0) hK dJ19_inc_8 rfl ?_
    refine s_istore_n (lv' := [(0, .int 0), (1, .int p1)]) hK dJ19_inc_9 rfl (Nat.le_of_ble_eq_true rfl) rfl ?_
    refine s_iload_n hK dJ19_inc_10 rfl 0 rfl ?_
    exact s_iret hK dJ19_inc_11
theorem ct_J19_inc {G : GC} {l : Launch} (g : GOK G l) (p0 : Int32) (p1 : Int32) (h : AH) : CT G l yJ19_inc (Cond.code yJ19_inc cJ19_inc 2 (some (.int))) 1 16 [.int p0, .int p1] (f_J19_inc p0 p1 h) h :=
  CT.of g (by decide) (by simp only [ls_a, ls_i, ls_l, ls_n]; decide) (fun K _ hK hf hlo => by simp only [la_a, la_i, la_l, la_n]; exact sm_J19_inc hK hf hlo p0 p1 h)
abbrev FR_J19_dec : Nat := 1
abbrev LO_J19_dec : Nat := 16
theorem dyJ19_dec : DY yJ19_dec 2 := ⟨⟨by decide, by decide⟩, by decide +kernel⟩
theorem sm_J19_dec {G : GC} {K : SC} (hK : SOK G K RJ19 cJ19_dec 2 (some (.int)) "dec" []) (hf : FR_J19_dec ≤ (kR K).frames) (hlo : LO_J19_dec ≤ (kR K).locals) (p0 : Int32) (p1 : Int32) (h : AH) : Sim G K 2 (f_J19_dec p0 p1 h) h 0 [(0, .int p0), (1, .int p1)] [] := by
  unfold f_J19_dec
  refine s_iinc (j := 0) (v := (-1)) (lv' := [(0, .int (p0 + (-1))), (1, .int p1)]) hK dJ19_dec_0 rfl rfl (Nat.le_of_ble_eq_true rfl) rfl ?_
  refine s_iload_n hK dJ19_dec_3 rfl 0 rfl ?_
  refine s_if_ge (tgt := 11) hK dJ19_dec_4 (by decide) (fun c1 => ?_) (fun c1 => ?_)
  · refine s_iload_n hK dJ19_dec_11 rfl 0 rfl ?_
    exact s_iret hK dJ19_dec_12
  · refine s_iload_n hK dJ19_dec_7 rfl 1 rfl ?_
    refine s_iconst (v := 1) hK dJ19_dec_8 rfl ?_
    refine s_isub hK dJ19_dec_9 ?_
    refine s_istore_n (lv' := [(0, .int (p1 - 1)), (1, .int p1)]) hK dJ19_dec_10 rfl (Nat.le_of_ble_eq_true rfl) rfl ?_
    refine s_iload_n hK dJ19_dec_11 rfl 0 rfl ?_
    exact s_iret hK dJ19_dec_12
theorem ct_J19_dec {G : GC} {l : Launch} (g : GOK G l) (p0 : Int32) (p1 : Int32) (h : AH) : CT G l yJ19_dec (Cond.code yJ19_dec cJ19_dec 2 (some (.int))) 1 16 [.int p0, .int p1] (f_J19_dec p0 p1 h) h :=
  CT.of g (by decide) (by simp only [ls_a, ls_i, ls_l, ls_n]; decide) (fun K _ hK hf hlo => by simp only [la_a, la_i, la_l, la_n]; exact sm_J19_dec hK hf hlo p0 p1 h)
abbrev FR_J19_sub : Nat := 1
abbrev LO_J19_sub : Nat := 16
theorem dyJ19_sub : DY yJ19_sub 3 := ⟨⟨by decide, by decide⟩, by decide +kernel⟩
theorem sm_J19_sub {G : GC} {K : SC} (hK : SOK G K RJ19 cJ19_sub 3 (some (.int)) "sub" []) (hf : FR_J19_sub ≤ (kR K).frames) (hlo : LO_J19_sub ≤ (kR K).locals) (p0 : Int32) (p1 : Int32) (p2 : Int32) (h : AH) : Sim G K 3 (f_J19_sub p0 p1 p2 h) h 0 [(0, .int p0), (1, .int p1), (2, .int p2)] [] := by
  unfold f_J19_sub
  refine s_iload_n hK dJ19_sub_0 rfl 0 rfl ?_
  refine s_iload_n hK dJ19_sub_1 rfl 1 rfl ?_
  refine s_isub hK dJ19_sub_2 ?_
  refine s_dup hK dJ19_sub_3 rfl ?_
  refine s_istore_n (lv' := [(0, .int (p0 - p1)), (1, .int p1), (2, .int p2)]) hK dJ19_sub_4 rfl (Nat.le_of_ble_eq_true rfl) rfl ?_
  refine s_if_ge (tgt := 12) hK dJ19_sub_5 (by decide) (fun c1 => ?_) (fun c1 => ?_)
  · refine s_iload_n hK dJ19_sub_12 rfl 0 rfl ?_
    exact s_iret hK dJ19_sub_13
  · refine s_iload_n hK dJ19_sub_8 rfl 0 rfl ?_
    refine s_iload_n hK dJ19_sub_9 rfl 2 rfl ?_
    refine s_iadd hK dJ19_sub_10 ?_
    refine s_istore_n (lv' := [(0, .int ((p0 - p1) + p2)), (1, .int p1), (2, .int p2)]) hK dJ19_sub_11 rfl (Nat.le_of_ble_eq_true rfl) rfl ?_
    refine s_iload_n hK dJ19_sub_12 rfl 0 rfl ?_
    exact s_iret hK dJ19_sub_13
theorem ct_J19_sub {G : GC} {l : Launch} (g : GOK G l) (p0 : Int32) (p1 : Int32) (p2 : Int32) (h : AH) : CT G l yJ19_sub (Cond.code yJ19_sub cJ19_sub 3 (some (.int))) 1 16 [.int p0, .int p1, .int p2] (f_J19_sub p0 p1 p2 h) h :=
  CT.of g (by decide) (by simp only [ls_a, ls_i, ls_l, ls_n]; decide) (fun K _ hK hf hlo => by simp only [la_a, la_i, la_l, la_n]; exact sm_J19_sub hK hf hlo p0 p1 p2 h)
abbrev FR_J19_elementAt : Nat := 1
abbrev LO_J19_elementAt : Nat := 16
theorem dyJ19_elementAt : DY yJ19_elementAt 2 := ⟨⟨by decide, by decide⟩, by decide +kernel⟩
theorem sm_J19_elementAt {G : GC} {K : SC} (hK : SOK G K RJ19 cJ19_elementAt 2 (some (.object "java/lang/Object")) "elementAt" []) (hf : FR_J19_elementAt ≤ (kR K).frames) (hlo : LO_J19_elementAt ≤ (kR K).locals) (p0 : Option Nat) (p1 : Int32) (h : AH) : Sim G K 2 (f_J19_elementAt p0 p1 h) h 0 [(0, va_rf p0), (1, .int p1)] [] := by
  unfold f_J19_elementAt
  refine s_aload_n hK dJ19_elementAt_0 rfl 0 rfl ?_
  refine s_iload_n hK dJ19_elementAt_1 rfl 1 rfl ?_
  refine s_aald hK dJ19_elementAt_2 (fun v1 => ?_)
  exact s_aret hK (Or.inl ⟨_, rfl⟩) dJ19_elementAt_3
theorem ct_J19_elementAt {G : GC} {l : Launch} (g : GOK G l) (p0 : Option Nat) (p1 : Int32) (h : AH) : CT G l yJ19_elementAt (Cond.code yJ19_elementAt cJ19_elementAt 2 (some (.object "java/lang/Object"))) 1 16 [va_rf p0, .int p1] (f_J19_elementAt p0 p1 h) h :=
  CT.of g (by decide) (by simp only [ls_a, ls_i, ls_l, ls_n]; decide) (fun K _ hK hf hlo => by simp only [la_a, la_i, la_l, la_n]; exact sm_J19_elementAt hK hf hlo p0 p1 h)
abbrev FR_J19_newCapacity : Nat := 1
abbrev LO_J19_newCapacity : Nat := 16
theorem dyJ19_newCapacity : DY yJ19_newCapacity 2 := ⟨⟨by decide, by decide⟩, by decide +kernel⟩
theorem sm_J19_newCapacity {G : GC} {K : SC} (hK : SOK G K RJ19 cJ19_newCapacity 5 (some (.int)) "newCapacity" []) (hf : FR_J19_newCapacity ≤ (kR K).frames) (hlo : LO_J19_newCapacity ≤ (kR K).locals) (p0 : Option Nat) (p1 : Int32) (p2 : Int32) (h : AH) : Sim G K 5 (f_J19_newCapacity p0 p1 p2 h) h 0 [(0, va_rf p0), (1, .int p1), (2, .int p2)] [] := by
  unfold f_J19_newCapacity
  refine s_aload_n hK dJ19_newCapacity_0 rfl 0 rfl ?_
  refine s_gA hK fcJ19 0 (Nat.le_of_ble_eq_true rfl) (Or.inl q218) (Or.inl rfl) dJ19_newCapacity_1 (fun v1 => ?_)
  refine s_alen hK dJ19_newCapacity_4 (fun v2 => ?_)
  refine s_istore_n (lv' := [(3, .int v2), (0, va_rf p0), (1, .int p1), (2, .int p2)]) hK dJ19_newCapacity_5 rfl (Nat.le_of_ble_eq_true rfl) rfl ?_
  refine s_iload_n hK dJ19_newCapacity_6 rfl 0 rfl ?_
  refine s_iload_n hK dJ19_newCapacity_7 rfl 2 rfl ?_
  refine s_iadd hK dJ19_newCapacity_8 ?_
  refine s_dup hK dJ19_newCapacity_9 rfl ?_
  refine s_istore (lv' := [(4, .int (v2 + p1)), (3, .int v2), (0, va_rf p0), (1, .int p1), (2, .int p2)]) hK dJ19_newCapacity_10 (Nat.le_of_ble_eq_true rfl) rfl ?_
  refine s_ldc hK q319 dJ19_newCapacity_12 ?_
  refine s_isub hK dJ19_newCapacity_14 ?_
  refine s_if_le (tgt := 36) hK dJ19_newCapacity_15 (by decide) (fun c6 => ?_) (fun c6 => ?_)
  · refine s_iload_n hK dJ19_newCapacity_36 rfl 3 rfl ?_
    refine s_iload_n hK dJ19_newCapacity_37 rfl 4 rfl ?_
    refine s_icmp_le (tgt := 44) hK dJ19_newCapacity_38 (by decide) (fun c4 => ?_) (fun c4 => ?_)
    · refine s_iload_n hK dJ19_newCapacity_44 rfl 1 rfl ?_
      refine s_iload_n hK dJ19_newCapacity_45 rfl 4 rfl ?_
      refine s_iadd hK dJ19_newCapacity_46 ?_
      refine s_ldc hK q319 dJ19_newCapacity_47 ?_
      refine s_isub hK dJ19_newCapacity_49 ?_
      refine s_if_ge (tgt := 59) hK dJ19_newCapacity_50 (by decide) (fun c3 => ?_) (fun c3 => ?_)
      · refine s_ldc hK q319 dJ19_newCapacity_59 ?_
        exact s_iret hK dJ19_newCapacity_61
      · refine s_iload_n hK dJ19_newCapacity_53 rfl 1 rfl ?_
        refine s_iload_n hK dJ19_newCapacity_54 rfl 4 rfl ?_
        refine s_iadd hK dJ19_newCapacity_55 ?_
        refine s_goto (tgt := 61) hK dJ19_newCapacity_56 (by decide) ?_
        exact s_iret hK dJ19_newCapacity_61
    · refine s_iload hK dJ19_newCapacity_41 0 rfl ?_
      exact s_iret hK dJ19_newCapacity_43
  · refine s_iload hK dJ19_newCapacity_18 0 rfl ?_
    refine s_if_ge (tgt := 33) hK dJ19_newCapacity_20 (by decide) (fun c5 => ?_) (fun c5 => ?_)
    · refine s_ldc hK q397 dJ19_newCapacity_33 ?_
      exact s_iret hK dJ19_newCapacity_35
    · exact s_none
theorem ct_J19_newCapacity {G : GC} {l : Launch} (g : GOK G l) (p0 : Option Nat) (p1 : Int32) (p2 : Int32) (h : AH) : CT G l yJ19_newCapacity (Cond.code yJ19_newCapacity cJ19_newCapacity 5 (some (.int))) 1 16 [va_rf p0, .int p1, .int p2] (f_J19_newCapacity p0 p1 p2 h) h :=
  CT.of g (by decide) (by simp only [ls_a, ls_i, ls_l, ls_n]; decide) (fun K _ hK hf hlo => by simp only [la_a, la_i, la_l, la_n]; exact sm_J19_newCapacity hK hf hlo p0 p1 p2 h)
abbrev FR_J19_grow : Nat := 3
abbrev LO_J19_grow : Nat := 164
theorem dyJ19_grow : DY yJ19_grow 1 := ⟨⟨by decide, by decide⟩, by decide +kernel⟩
theorem sm_J19_grow_L145 {G : GC} {K : SC} (hK : SOK G K RJ19 cJ19_grow 9 (none) "grow" []) (hf : FR_J19_grow ≤ (kR K).frames) (hlo : LO_J19_grow ≤ (kR K).locals) {k164 : AH → RS} (hk164 : ∀  (h : AH), Sim G K 9 (k164  h) h 164 [] []) : ∀ (n : Nat) (x37 : Option Nat) (x38 : Int32) (x39 : Int32) (h40 : AH), Sim G K 9 (f_J19_grow_L145 k164 n x37 x38 x39 h40) h40 145 [(5, va_rf x37), (7, .int x38), (8, .int x39)] [] := by
  intro n
  induction n with
  | zero => intro x37 x38 x39 h40; exact s_none
  | succ n ih =>
    intro x37 x38 x39 h40
    rw [f_J19_grow_L145]
    refine s_iload hK dJ19_grow_145 1 rfl ?_
    refine s_iload hK dJ19_grow_147 2 rfl ?_
    refine s_icmp_ge (tgt := 164) hK dJ19_grow_149 (by decide) (fun c42 => ?_) (fun c42 => ?_)
    · refine s_sub [] rfl ?_
      exact hk164  h40
    · refine s_aload hK dJ19_grow_152 0 rfl ?_
      refine s_iload hK dJ19_grow_154 1 rfl ?_
      refine s_null hK dJ19_grow_156 ?_
      refine s_aast hK dJ19_grow_157 (fun h41 => ?_)
      refine s_iinc (j := 1) (v := 1) (lv' := [(7, .int (x38 + 1)), (5, va_rf x37), (8, .int x39)]) hK dJ19_grow_158 rfl rfl (Nat.le_of_ble_eq_true rfl) rfl ?_
      refine s_goto (tgt := 145) hK dJ19_grow_161 (by decide) ?_
      refine s_sub [1, 0, 2] rfl ?_
      exact ih x37 (x38 + 1) x39 h41
theorem sm_J19_grow_J96 {G : GC} {K : SC} (hK : SOK G K RJ19 cJ19_grow 9 (none) "grow" []) (hf : FR_J19_grow ≤ (kR K).frames) (hlo : LO_J19_grow ≤ (kR K).locals) (x25 : Option Nat) (x26 : Int32) (x27 : Int32) (x28 : Option Nat)  (h29 : AH) : Sim G K 9 (f_J19_grow_J96 x25 x26 x27 x28 h29) h29 96 [(0, va_rf x25), (2, .int x26), (3, .int x27), (5, va_rf x28)] [] := by
  unfold f_J19_grow_J96
  refine s_iload_n hK dJ19_grow_96 rfl 2 rfl ?_
  refine s_iload_n hK dJ19_grow_97 rfl 1 rfl ?_
  refine s_isub hK dJ19_grow_98 ?_
  refine s_istore (lv' := [(6, .int (x27 - x26)), (0, va_rf x25), (2, .int x26), (3, .int x27), (5, va_rf x28)]) hK dJ19_grow_99 (Nat.le_of_ble_eq_true rfl) (flA (pre := [(0, va_rf x25), (2, .int x26), (3, .int x27)]) (suf := []) rfl rfl) ?_
  refine s_aload hK dJ19_grow_101 4 rfl ?_
  refine s_aload_n hK dJ19_grow_103 rfl 1 rfl ?_
  refine s_gI hK fcJ19 1 (Nat.le_of_ble_eq_true rfl) (Or.inl q219) (Or.inl rfl) dJ19_grow_104 (fun v30 => ?_)
  refine s_aload hK dJ19_grow_107 4 rfl ?_
  refine s_aload_n hK dJ19_grow_109 rfl 1 rfl ?_
  refine s_gI hK fcJ19 1 (Nat.le_of_ble_eq_true rfl) (Or.inl q219) (Or.inl rfl) dJ19_grow_110 (fun v31 => ?_)
  refine s_iload hK dJ19_grow_113 0 rfl ?_
  refine s_iadd hK dJ19_grow_115 ?_
  refine s_iload_n hK dJ19_grow_116 rfl 2 rfl ?_
  refine s_aload_n hK dJ19_grow_117 rfl 1 rfl ?_
  refine s_gI hK fcJ19 1 (Nat.le_of_ble_eq_true rfl) (Or.inl q219) (Or.inl rfl) dJ19_grow_118 (fun v32 => ?_)
  refine s_isub hK dJ19_grow_121 ?_
  refine s_cpA hK q439 q438 q437 q96 (Nat.le_trans (Nat.le_of_ble_eq_true rfl) hf) rk_n (Nat.le_trans (Nat.le_of_ble_eq_true rfl) hlo) dJ19_grow_122 (fun h33 => ?_)
  refine s_aload_n hK dJ19_grow_125 rfl 1 rfl ?_
  refine s_gI hK fcJ19 1 (Nat.le_of_ble_eq_true rfl) (Or.inl q219) (Or.inl rfl) dJ19_grow_126 (fun v34 => ?_)
  refine s_istore (lv' := [(7, .int v34), (6, .int (x27 - x26)), (0, va_rf x25), (2, .int x26), (3, .int x27), (5, va_rf x28)]) hK dJ19_grow_129 (Nat.le_of_ble_eq_true rfl) rfl ?_
  refine s_aload_n hK dJ19_grow_131 rfl 2 rfl ?_
  refine s_dup hK dJ19_grow_132 (va_cat _) ?_
  refine s_gI hK fcJ19 1 (Nat.le_of_ble_eq_true rfl) (Or.inl q219) (Or.inl rfl) dJ19_grow_133 (fun v35 => ?_)
  refine s_iload hK dJ19_grow_136 1 rfl ?_
  refine s_iadd hK dJ19_grow_138 ?_
  refine s_dup_x1 hK dJ19_grow_139 rfl (va_cat _) ?_
  refine s_pF hK fcJ19 1 (Nat.le_of_ble_eq_true rfl) (Or.inl q219) (Or.inl rfl) (Or.inl rfl) rfl rfl dJ19_grow_140 (fun h36 => ?_)
  refine s_istore (lv' := [(8, .int (v35 + (x27 - x26))), (7, .int v34), (6, .int (x27 - x26)), (0, va_rf x25), (2, .int x26), (3, .int x27), (5, va_rf x28)]) hK dJ19_grow_143 (Nat.le_of_ble_eq_true rfl) rfl ?_
  refine s_sub [6, 1, 0] rfl ?_
  refine sm_J19_grow_L145 hK hf hlo (fun h43 => ?_) FUEL x28 v34 (v35 + (x27 - x26)) h36
  · exact s_vret hK dJ19_grow_164
theorem sm_J19_grow_J49 {G : GC} {K : SC} (hK : SOK G K RJ19 cJ19_grow 9 (none) "grow" []) (hf : FR_J19_grow ≤ (kR K).frames) (hlo : LO_J19_grow ≤ (kR K).locals) (x15 : Option Nat) (x16 : Int32) (x17 : Int32)  (h18 : AH) : Sim G K 9 (f_J19_grow_J49 x15 x16 x17 h18) h18 49 [(0, va_rf x15), (2, .int x16), (3, .int x17)] [] := by
  unfold f_J19_grow_J49
  refine s_aload_n hK dJ19_grow_49 rfl 0 rfl ?_
  refine s_aload_n hK dJ19_grow_50 rfl 0 rfl ?_
  refine s_gA hK fcJ19 0 (Nat.le_of_ble_eq_true rfl) (Or.inl q218) (Or.inl rfl) dJ19_grow_51 (fun v19 => ?_)
  refine s_iload_n hK dJ19_grow_54 rfl 2 rfl ?_
  refine s_cA hK ho_n (cx_s (As := [va_rf v19, .int x17]) (rest := [va_rf x15]) hK dyJ12_copyOf rfl q398 q399 q95 q400 (ct_J12_copyOf hK.1 v19 x17 h18) (Nat.le_trans (Nat.le_of_ble_eq_true rfl) hf) (Nat.le_trans (Nat.le_of_ble_eq_true rfl) hlo) (rk_a rk_n) (Nat.le_of_ble_eq_true rfl) dJ19_grow_55 rfl) (fun v21 h20 => ?_)
  refine s_dup_x1 hK dJ19_grow_58 (va_cat _) (va_cat _) ?_
  refine s_pF hK fcJ19 0 (Nat.le_of_ble_eq_true rfl) (Or.inl q218) (Or.inl rfl) (Or.inl rfl) (nr_r _) (ft_r _) dJ19_grow_59 (fun h22 => ?_)
  refine s_astore (lv' := [(5, va_rf v21), (0, va_rf x15), (2, .int x16), (3, .int x17)]) hK dJ19_grow_62 (Nat.le_of_ble_eq_true rfl) rfl ?_
  refine s_aload_n hK dJ19_grow_64 rfl 1 rfl ?_
  refine s_gI hK fcJ19 2 (Nat.le_of_ble_eq_true rfl) (Or.inl q220) (Or.inl rfl) dJ19_grow_65 (fun v23 => ?_)
  refine s_aload_n hK dJ19_grow_68 rfl 1 rfl ?_
  refine s_gI hK fcJ19 1 (Nat.le_of_ble_eq_true rfl) (Or.inl q219) (Or.inl rfl) dJ19_grow_69 (fun v24 => ?_)
  refine s_icmp_lt (tgt := 96) hK dJ19_grow_72 (by decide) (fun c50 => ?_) (fun c50 => ?_)
  · refine s_sub [1, 2, 3, 0] rfl ?_
    exact sm_J19_grow_J96 hK hf hlo x15 x16 x17 v21 h22
  · refine s_aload_n hK dJ19_grow_75 rfl 1 rfl ?_
    refine s_gI hK fcJ19 2 (Nat.le_of_ble_eq_true rfl) (Or.inl q220) (Or.inl rfl) dJ19_grow_76 (fun v44 => ?_)
    refine s_aload_n hK dJ19_grow_79 rfl 1 rfl ?_
    refine s_gI hK fcJ19 1 (Nat.le_of_ble_eq_true rfl) (Or.inl q219) (Or.inl rfl) dJ19_grow_80 (fun v45 => ?_)
    refine s_icmp_ne (tgt := 164) hK dJ19_grow_83 (by decide) (fun c49 => ?_) (fun c49 => ?_)
    · exact s_vret hK dJ19_grow_164
    · refine s_aload hK dJ19_grow_86 0 rfl ?_
      refine s_aload_n hK dJ19_grow_88 rfl 1 rfl ?_
      refine s_gI hK fcJ19 1 (Nat.le_of_ble_eq_true rfl) (Or.inl q219) (Or.inl rfl) dJ19_grow_89 (fun v46 => ?_)
      refine s_aald hK dJ19_grow_92 (fun v47 => ?_)
      refine s_ifnull (tgt := 164) hK dJ19_grow_93 (by decide) (fun c48 => ?_) (fun c48 => ?_)
      · exact s_vret hK dJ19_grow_164
      · refine s_sub [1, 2, 3, 0] rfl ?_
        exact sm_J19_grow_J96 hK hf hlo x15 x16 x17 v21 h22
theorem sm_J19_grow_J41 {G : GC} {K : SC} (hK : SOK G K RJ19 cJ19_grow 9 (none) "grow" []) (hf : FR_J19_grow ≤ (kR K).frames) (hlo : LO_J19_grow ≤ (kR K).locals) (x8 : Option Nat) (x9 : Int32) (x10 : Int32) (x11 : Int32)  (h12 : AH) : Sim G K 9 (f_J19_grow_J41 x8 x9 x10 x11 h12) h12 41 [(0, va_rf x8), (1, .int x9), (2, .int x10), (4, .int x11)] [] := by
  unfold f_J19_grow_J41
  refine s_aload_n hK dJ19_grow_41 rfl 0 rfl ?_
  refine s_iload_n hK dJ19_grow_42 rfl 1 rfl ?_
  refine s_iload hK dJ19_grow_43 3 rfl ?_
  refine s_rc (fun _ _ eo er => ?_)
  refine s_cI hK ho_n (cx_v (As := [.int x9, .int x11]) (rest := []) hK dyJ19_newCapacity rfl q320 fcJ19.1 q322 qs3 q104 q323 eo er (ct_J19_newCapacity hK.1 x8 x9 x11 h12) (Nat.le_trans (Nat.le_of_ble_eq_true rfl) hf) (Nat.le_trans (Nat.le_of_ble_eq_true rfl) hlo) rk_n (Nat.le_of_ble_eq_true rfl) dJ19_grow_45 rfl) (fun v14 h13 => ?_)
  refine s_istore_n (lv' := [(3, .int v14), (0, va_rf x8), (1, .int x9), (2, .int x10), (4, .int x11)]) hK dJ19_grow_48 rfl (Nat.le_of_ble_eq_true rfl) rfl ?_
  refine s_sub [1, 3, 0] rfl ?_
  exact sm_J19_grow_J49 hK hf hlo x8 x10 v14 h13
theorem sm_J19_grow_J21 {G : GC} {K : SC} (hK : SOK G K RJ19 cJ19_grow 9 (none) "grow" []) (hf : FR_J19_grow ≤ (kR K).frames) (hlo : LO_J19_grow ≤ (kR K).locals) (x3 : Option Nat) (x4 : Int32) (x5 : Int32) (y6 : Int32) (h7 : AH) : Sim G K 9 (f_J19_grow_J21 x3 x4 x5 y6 h7) h7 21 [(0, va_rf x3), (1, .int x4), (2, .int x5)] [.int y6] := by
  unfold f_J19_grow_J21
  refine s_istore (lv' := [(4, .int y6), (0, va_rf x3), (1, .int x4), (2, .int x5)]) hK dJ19_grow_21 (Nat.le_of_ble_eq_true rfl) rfl ?_
  refine s_iload hK dJ19_grow_23 0 rfl ?_
  refine s_iload_n hK dJ19_grow_25 rfl 2 rfl ?_
  refine s_icmp_lt (tgt := 41) hK dJ19_grow_26 (by decide) (fun c52 => ?_) (fun c52 => ?_)
  · refine s_sub [1, 2, 3, 0] rfl ?_
    exact sm_J19_grow_J41 hK hf hlo x3 x4 x5 y6 h7
  · refine s_iload_n hK dJ19_grow_29 rfl 3 rfl ?_
    refine s_iload hK dJ19_grow_30 0 rfl ?_
    refine s_iadd hK dJ19_grow_32 ?_
    refine s_dup hK dJ19_grow_33 rfl ?_
    refine s_istore_n (lv' := [(3, .int (x5 + y6)), (4, .int y6), (0, va_rf x3), (1, .int x4), (2, .int x5)]) hK dJ19_grow_34 rfl (Nat.le_of_ble_eq_true rfl) rfl ?_
    refine s_ldc hK q319 dJ19_grow_35 ?_
    refine s_isub hK dJ19_grow_37 ?_
    refine s_if_le (tgt := 49) hK dJ19_grow_38 (by decide) (fun c51 => ?_) (fun c51 => ?_)
    · refine s_sub [2, 4, 0] rfl ?_
      exact sm_J19_grow_J49 hK hf hlo x3 x5 (x5 + y6) h7
    · refine s_sub [2, 3, 4, 1] rfl ?_
      exact sm_J19_grow_J41 hK hf hlo x3 x4 x5 y6 h7
theorem sm_J19_grow {G : GC} {K : SC} (hK : SOK G K RJ19 cJ19_grow 9 (none) "grow" []) (hf : FR_J19_grow ≤ (kR K).frames) (hlo : LO_J19_grow ≤ (kR K).locals) (p0 : Option Nat) (p1 : Int32) (h : AH) : Sim G K 9 (f_J19_grow p0 p1 h) h 0 [(0, va_rf p0), (1, .int p1)] [] := by
  unfold f_J19_grow
  refine s_aload_n hK dJ19_grow_0 rfl 0 rfl ?_
  refine s_gA hK fcJ19 0 (Nat.le_of_ble_eq_true rfl) (Or.inl q218) (Or.inl rfl) dJ19_grow_1 (fun v1 => ?_)
  refine s_alen hK dJ19_grow_4 (fun v2 => ?_)
  refine s_istore_n (lv' := [(2, .int v2), (0, va_rf p0), (1, .int p1)]) hK dJ19_grow_5 rfl (Nat.le_of_ble_eq_true rfl) rfl ?_
  refine s_iload_n hK dJ19_grow_6 rfl 0 rfl ?_
  refine s_bipush (v := 64) hK dJ19_grow_7 rfl ?_
  refine s_icmp_ge (tgt := 18) hK dJ19_grow_9 (by decide) (fun c53 => ?_) (fun c53 => ?_)
  · refine s_iload_n hK dJ19_grow_18 rfl 0 rfl ?_
    refine s_iconst (v := 1) hK dJ19_grow_19 rfl ?_
    refine s_ishr hK dJ19_grow_20 ?_
    refine s_sub [1, 2, 0] rfl ?_
    exact sm_J19_grow_J21 hK hf hlo p0 p1 v2 (v2 >>> ((1 : Int32) &&& 31)) h
  · refine s_iload_n hK dJ19_grow_12 rfl 0 rfl ?_
    refine s_iconst (v := 2) hK dJ19_grow_13 rfl ?_
    refine s_iadd hK dJ19_grow_14 ?_
    refine s_goto (tgt := 21) hK dJ19_grow_15 (by decide) ?_
    refine s_sub [1, 2, 0] rfl ?_
    exact sm_J19_grow_J21 hK hf hlo p0 p1 v2 (v2 + 2) h
theorem ct_J19_grow {G : GC} {l : Launch} (g : GOK G l) (p0 : Option Nat) (p1 : Int32) (h : AH) : CT G l yJ19_grow (Cond.code yJ19_grow cJ19_grow 9 (none)) 3 164 [va_rf p0, .int p1] (f_J19_grow p0 p1 h) h :=
  CT.of g (by decide) (by simp only [ls_a, ls_i, ls_l, ls_n]; decide) (fun K _ hK hf hlo => by simp only [la_a, la_i, la_l, la_n]; exact sm_J19_grow hK hf hlo p0 p1 h)
abbrev FR_J19_addLast : Nat := 4
abbrev LO_J19_addLast : Nat := 192
theorem dyJ19_addLast : DY yJ19_addLast 1 := ⟨⟨by decide, by decide⟩, by decide +kernel⟩
theorem sm_J19_addLast {G : GC} {K : SC} (hK : SOK G K RJ19 cJ19_addLast 3 (none) "addLast" []) (hf : FR_J19_addLast ≤ (kR K).frames) (hlo : LO_J19_addLast ≤ (kR K).locals) (p0 : Option Nat) (p1 : Option Nat) (h : AH) : Sim G K 3 (f_J19_addLast p0 p1 h) h 0 [(0, va_rf p0), (1, va_rf p1)] [] := by
  unfold f_J19_addLast
  refine s_aload_n hK dJ19_addLast_0 rfl 1 rfl ?_
  refine s_ifnonnull (tgt := 12) hK dJ19_addLast_1 (by decide) (fun c12 => ?_) (fun c12 => ?_)
  · refine s_aload_n hK dJ19_addLast_12 rfl 0 rfl ?_
    refine s_gA hK fcJ19 0 (Nat.le_of_ble_eq_true rfl) (Or.inl q218) (Or.inl rfl) dJ19_addLast_13 (fun v1 => ?_)
    refine s_astore_n (lv' := [(2, va_rf v1), (0, va_rf p0), (1, va_rf p1)]) hK dJ19_addLast_16 rfl (Nat.le_of_ble_eq_true rfl) (flA (pre := [(0, va_rf p0)]) (suf := []) rfl rfl) ?_
    refine s_aload_n hK dJ19_addLast_17 rfl 0 rfl ?_
    refine s_aload_n hK dJ19_addLast_18 rfl 1 rfl ?_
    refine s_gI hK fcJ19 2 (Nat.le_of_ble_eq_true rfl) (Or.inl q220) (Or.inl rfl) dJ19_addLast_19 (fun v2 => ?_)
    refine s_aload_n hK dJ19_addLast_22 rfl 2 rfl ?_
    refine s_aast hK dJ19_addLast_23 (fun h3 => ?_)
    refine s_aload_n hK dJ19_addLast_24 rfl 1 rfl ?_
    refine s_gI hK fcJ19 1 (Nat.le_of_ble_eq_true rfl) (Or.inl q219) (Or.inl rfl) dJ19_addLast_25 (fun v4 => ?_)
    refine s_aload_n hK dJ19_addLast_28 rfl 1 rfl ?_
    refine s_aload_n hK dJ19_addLast_29 rfl 1 rfl ?_
    refine s_gI hK fcJ19 2 (Nat.le_of_ble_eq_true rfl) (Or.inl q220) (Or.inl rfl) dJ19_addLast_30 (fun v5 => ?_)
    refine s_aload_n hK dJ19_addLast_33 rfl 0 rfl ?_
    refine s_alen hK dJ19_addLast_34 (fun v6 => ?_)
    refine s_cI hK ho_n (cx_s (As := [.int v5, .int v6]) (rest := [va_rf p0, .int v4]) hK dyJ19_inc rfl q312 q313 q104 q314 (ct_J19_inc hK.1 v5 v6 h3) (Nat.le_trans (Nat.le_of_ble_eq_true rfl) hf) (Nat.le_trans (Nat.le_of_ble_eq_true rfl) hlo) (rk_a (rk_i rk_n)) (Nat.le_of_ble_eq_true rfl) dJ19_addLast_35 rfl) (fun v8 h7 => ?_)
    refine s_dup_x1 hK dJ19_addLast_38 rfl (va_cat _) ?_
    refine s_pF hK fcJ19 2 (Nat.le_of_ble_eq_true rfl) (Or.inl q220) (Or.inl rfl) (Or.inl rfl) rfl rfl dJ19_addLast_39 (fun h9 => ?_)
    refine s_icmp_ne (tgt := 50) hK dJ19_addLast_42 (by decide) (fun c11 => ?_) (fun c11 => ?_)
    · exact s_vret hK dJ19_addLast_50
    · refine s_aload_n hK dJ19_addLast_45 rfl 1 rfl ?_
      refine s_iconst (v := 1) hK dJ19_addLast_46 rfl ?_
      refine s_rc (fun _ _ eo er => ?_)
      refine s_cV hK ho_n (cx_v (As := [.int 1]) (rest := []) hK dyJ19_grow rfl q315 fcJ19.1 q317 qs2 q104 q318 eo er (ct_J19_grow hK.1 p0 1 h9) (Nat.le_trans (Nat.le_of_ble_eq_true rfl) hf) (Nat.le_trans (Nat.le_of_ble_eq_true rfl) hlo) rk_n (Nat.le_of_ble_eq_true rfl) dJ19_addLast_47 rfl) (fun h10 => ?_)
      exact s_vret hK dJ19_addLast_50
  · exact s_none
theorem ct_J19_addLast {G : GC} {l : Launch} (g : GOK G l) (p0 : Option Nat) (p1 : Option Nat) (h : AH) : CT G l yJ19_addLast (Cond.code yJ19_addLast cJ19_addLast 3 (none)) 4 192 [va_rf p0, va_rf p1] (f_J19_addLast p0 p1 h) h :=
  CT.of g (by decide) (by simp only [ls_a, ls_i, ls_l, ls_n]; decide) (fun K _ hK hf hlo => by simp only [la_a, la_i, la_l, la_n]; exact sm_J19_addLast hK hf hlo p0 p1 h)
abbrev FR_J19_pollFirst : Nat := 2
abbrev LO_J19_pollFirst : Nat := 37
theorem dyJ19_pollFirst : DY yJ19_pollFirst 0 := ⟨⟨by decide, by decide⟩, by decide +kernel⟩
theorem sm_J19_pollFirst {G : GC} {K : SC} (hK : SOK G K RJ19 cJ19_pollFirst 4 (some (.object "java/lang/Object")) "pollFirst" []) (hf : FR_J19_pollFirst ≤ (kR K).frames) (hlo : LO_J19_pollFirst ≤ (kR K).locals) (p0 : Option Nat) (h : AH) : Sim G K 4 (f_J19_pollFirst p0 h) h 0 [(0, va_rf p0)] [] := by
  unfold f_J19_pollFirst
  refine s_aload_n hK dJ19_pollFirst_0 rfl 0 rfl ?_
  refine s_gA hK fcJ19 0 (Nat.le_of_ble_eq_true rfl) (Or.inl q218) (Or.inl rfl) dJ19_pollFirst_1 (fun v1 => ?_)
  refine s_dup hK dJ19_pollFirst_4 (va_cat _) ?_
  refine s_astore_n (lv' := [(1, va_rf v1), (0, va_rf p0)]) hK dJ19_pollFirst_5 rfl (Nat.le_of_ble_eq_true rfl) (flA (pre := []) (suf := []) rfl rfl) ?_
  refine s_aload_n hK dJ19_pollFirst_6 rfl 1 rfl ?_
  refine s_gI hK fcJ19 1 (Nat.le_of_ble_eq_true rfl) (Or.inl q219) (Or.inl rfl) dJ19_pollFirst_7 (fun v2 => ?_)
  refine s_dup hK dJ19_pollFirst_10 rfl ?_
  refine s_istore_n (lv' := [(2, .int v2), (1, va_rf v1), (0, va_rf p0)]) hK dJ19_pollFirst_11 rfl (Nat.le_of_ble_eq_true rfl) (flA (pre := []) (suf := [(0, va_rf p0)]) rfl rfl) ?_
  refine s_cA hK ho_n (cx_s (As := [va_rf v1, .int v2]) (rest := []) hK dyJ19_elementAt rfl q452 q453 q104 q454 (ct_J19_elementAt hK.1 v1 v2 h) (Nat.le_trans (Nat.le_of_ble_eq_true rfl) hf) (Nat.le_trans (Nat.le_of_ble_eq_true rfl) hlo) rk_n (Nat.le_of_ble_eq_true rfl) dJ19_pollFirst_12 rfl) (fun v4 h3 => ?_)
  refine s_astore_n (lv' := [(3, va_rf v4), (2, .int v2), (1, va_rf v1), (0, va_rf p0)]) hK dJ19_pollFirst_15 rfl (Nat.le_of_ble_eq_true rfl) rfl ?_
  refine s_aload_n hK dJ19_pollFirst_16 rfl 0 rfl ?_
  refine s_ifnull (tgt := 34) hK dJ19_pollFirst_17 (by decide) (fun c10 => ?_) (fun c10 => ?_)
  · refine s_aload_n hK dJ19_pollFirst_34 rfl 0 rfl ?_
    exact s_aret hK (Or.inl ⟨_, rfl⟩) dJ19_pollFirst_35
  · refine s_aload_n hK dJ19_pollFirst_20 rfl 2 rfl ?_
    refine s_iload_n hK dJ19_pollFirst_21 rfl 1 rfl ?_
    refine s_null hK dJ19_pollFirst_22 ?_
    refine s_aast hK dJ19_pollFirst_23 (fun h5 => ?_)
    refine s_aload_n hK dJ19_pollFirst_24 rfl 3 rfl ?_
    refine s_iload_n hK dJ19_pollFirst_25 rfl 1 rfl ?_
    refine s_aload_n hK dJ19_pollFirst_26 rfl 2 rfl ?_
    refine s_alen hK dJ19_pollFirst_27 (fun v6 => ?_)
    refine s_cI hK ho_n (cx_s (As := [.int v2, .int v6]) (rest := [va_rf p0]) hK dyJ19_inc rfl q312 q313 q104 q314 (ct_J19_inc hK.1 v2 v6 h5) (Nat.le_trans (Nat.le_of_ble_eq_true rfl) hf) (Nat.le_trans (Nat.le_of_ble_eq_true rfl) hlo) (rk_a rk_n) (Nat.le_of_ble_eq_true rfl) dJ19_pollFirst_28 rfl) (fun v8 h7 => ?_)
    refine s_pF hK fcJ19 1 (Nat.le_of_ble_eq_true rfl) (Or.inl q219) (Or.inl rfl) (Or.inl rfl) rfl rfl dJ19_pollFirst_31 (fun h9 => ?_)
    refine s_aload_n hK dJ19_pollFirst_34 rfl 0 rfl ?_
    exact s_aret hK (Or.inl ⟨_, rfl⟩) dJ19_pollFirst_35
theorem ct_J19_pollFirst {G : GC} {l : Launch} (g : GOK G l) (p0 : Option Nat) (h : AH) : CT G l yJ19_pollFirst (Cond.code yJ19_pollFirst cJ19_pollFirst 4 (some (.object "java/lang/Object"))) 2 37 [va_rf p0] (f_J19_pollFirst p0 h) h :=
  CT.of g (by decide) (by simp only [ls_a, ls_i, ls_l, ls_n]; decide) (fun K _ hK hf hlo => by simp only [la_a, la_i, la_l, la_n]; exact sm_J19_pollFirst hK hf hlo p0 h)
abbrev FR_J19_pollLast : Nat := 2
abbrev LO_J19_pollLast : Nat := 37
theorem dyJ19_pollLast : DY yJ19_pollLast 0 := ⟨⟨by decide, by decide⟩, by decide +kernel⟩
theorem sm_J19_pollLast {G : GC} {K : SC} (hK : SOK G K RJ19 cJ19_pollLast 4 (some (.object "java/lang/Object")) "pollLast" []) (hf : FR_J19_pollLast ≤ (kR K).frames) (hlo : LO_J19_pollLast ≤ (kR K).locals) (p0 : Option Nat) (h : AH) : Sim G K 4 (f_J19_pollLast p0 h) h 0 [(0, va_rf p0)] [] := by
  unfold f_J19_pollLast
  refine s_aload_n hK dJ19_pollLast_0 rfl 0 rfl ?_
  refine s_gA hK fcJ19 0 (Nat.le_of_ble_eq_true rfl) (Or.inl q218) (Or.inl rfl) dJ19_pollLast_1 (fun v1 => ?_)
  refine s_dup hK dJ19_pollLast_4 (va_cat _) ?_
  refine s_astore_n (lv' := [(1, va_rf v1), (0, va_rf p0)]) hK dJ19_pollLast_5 rfl (Nat.le_of_ble_eq_true rfl) (flA (pre := []) (suf := []) rfl rfl) ?_
  refine s_aload_n hK dJ19_pollLast_6 rfl 1 rfl ?_
  refine s_gI hK fcJ19 2 (Nat.le_of_ble_eq_true rfl) (Or.inl q220) (Or.inl rfl) dJ19_pollLast_7 (fun v2 => ?_)
  refine s_aload_n hK dJ19_pollLast_10 rfl 0 rfl ?_
  refine s_alen hK dJ19_pollLast_11 (fun v3 => ?_)
  refine s_cI hK ho_n (cx_s (As := [.int v2, .int v3]) (rest := [va_rf v1]) hK dyJ19_dec rfl q1563 q1564 q104 q1565 (ct_J19_dec hK.1 v2 v3 h) (Nat.le_trans (Nat.le_of_ble_eq_true rfl) hf) (Nat.le_trans (Nat.le_of_ble_eq_true rfl) hlo) (rk_a rk_n) (Nat.le_of_ble_eq_true rfl) dJ19_pollLast_12 rfl) (fun v5 h4 => ?_)
  refine s_dup hK dJ19_pollLast_15 rfl ?_
  refine s_istore_n (lv' := [(2, .int v5), (1, va_rf v1), (0, va_rf p0)]) hK dJ19_pollLast_16 rfl (Nat.le_of_ble_eq_true rfl) (flA (pre := []) (suf := [(0, va_rf p0)]) rfl rfl) ?_
  refine s_cA hK ho_n (cx_s (As := [va_rf v1, .int v5]) (rest := []) hK dyJ19_elementAt rfl q452 q453 q104 q454 (ct_J19_elementAt hK.1 v1 v5 h4) (Nat.le_trans (Nat.le_of_ble_eq_true rfl) hf) (Nat.le_trans (Nat.le_of_ble_eq_true rfl) hlo) rk_n (Nat.le_of_ble_eq_true rfl) dJ19_pollLast_17 rfl) (fun v7 h6 => ?_)
  refine s_astore_n (lv' := [(3, va_rf v7), (2, .int v5), (1, va_rf v1), (0, va_rf p0)]) hK dJ19_pollLast_20 rfl (Nat.le_of_ble_eq_true rfl) rfl ?_
  refine s_aload_n hK dJ19_pollLast_21 rfl 0 rfl ?_
  refine s_ifnull (tgt := 34) hK dJ19_pollLast_22 (by decide) (fun c10 => ?_) (fun c10 => ?_)
  · refine s_aload_n hK dJ19_pollLast_34 rfl 0 rfl ?_
    exact s_aret hK (Or.inl ⟨_, rfl⟩) dJ19_pollLast_35
  · refine s_aload_n hK dJ19_pollLast_25 rfl 2 rfl ?_
    refine s_aload_n hK dJ19_pollLast_26 rfl 3 rfl ?_
    refine s_iload_n hK dJ19_pollLast_27 rfl 1 rfl ?_
    refine s_dup_x1 hK dJ19_pollLast_28 rfl (va_cat _) ?_
    refine s_pF hK fcJ19 2 (Nat.le_of_ble_eq_true rfl) (Or.inl q220) (Or.inl rfl) (Or.inl rfl) rfl rfl dJ19_pollLast_29 (fun h8 => ?_)
    refine s_null hK dJ19_pollLast_32 ?_
    refine s_aast hK dJ19_pollLast_33 (fun h9 => ?_)
    refine s_aload_n hK dJ19_pollLast_34 rfl 0 rfl ?_
    exact s_aret hK (Or.inl ⟨_, rfl⟩) dJ19_pollLast_35
theorem ct_J19_pollLast {G : GC} {l : Launch} (g : GOK G l) (p0 : Option Nat) (h : AH) : CT G l yJ19_pollLast (Cond.code yJ19_pollLast cJ19_pollLast 4 (some (.object "java/lang/Object"))) 2 37 [va_rf p0] (f_J19_pollLast p0 h) h :=
  CT.of g (by decide) (by simp only [ls_a, ls_i, ls_l, ls_n]; decide) (fun K _ hK hf hlo => by simp only [la_a, la_i, la_l, la_n]; exact sm_J19_pollLast hK hf hlo p0 h)
abbrev FR_J19_removeFirst : Nat := 3
abbrev LO_J19_removeFirst : Nat := 60
theorem dyJ19_removeFirst : DY yJ19_removeFirst 0 := ⟨⟨by decide, by decide⟩, by decide +kernel⟩
theorem sm_J19_removeFirst {G : GC} {K : SC} (hK : SOK G K RJ19 cJ19_removeFirst 2 (some (.object "java/lang/Object")) "removeFirst" []) (hf : FR_J19_removeFirst ≤ (kR K).frames) (hlo : LO_J19_removeFirst ≤ (kR K).locals) (p0 : Option Nat) (h : AH) : Sim G K 2 (f_J19_removeFirst p0 h) h 0 [(0, va_rf p0)] [] := by
  unfold f_J19_removeFirst
  refine s_aload_n hK dJ19_removeFirst_0 rfl 0 rfl ?_
  refine s_rc (fun _ _ eo er => ?_)
  refine s_cA hK ho_n (cx_v (As := []) (rest := []) hK dyJ19_pollFirst rfl q448 fcJ19.1 q449 q450 q104 q451 eo er (ct_J19_pollFirst hK.1 p0 h) (Nat.le_trans (Nat.le_of_ble_eq_true rfl) hf) (Nat.le_trans (Nat.le_of_ble_eq_true rfl) hlo) rk_n (Nat.le_of_ble_eq_true rfl) dJ19_removeFirst_1 rfl) (fun v2 h1 => ?_)
  refine s_astore_n (lv' := [(1, va_rf v2), (0, va_rf p0)]) hK dJ19_removeFirst_4 rfl (Nat.le_of_ble_eq_true rfl) (flA (pre := []) (suf := []) rfl rfl) ?_
  refine s_aload_n hK dJ19_removeFirst_5 rfl 0 rfl ?_
  refine s_ifnonnull (tgt := 17) hK dJ19_removeFirst_6 (by decide) (fun c3 => ?_) (fun c3 => ?_)
  · refine s_aload_n hK dJ19_removeFirst_17 rfl 0 rfl ?_
    exact s_aret hK (Or.inl ⟨_, rfl⟩) dJ19_removeFirst_18
  · exact s_none
theorem ct_J19_removeFirst {G : GC} {l : Launch} (g : GOK G l) (p0 : Option Nat) (h : AH) : CT G l yJ19_removeFirst (Cond.code yJ19_removeFirst cJ19_removeFirst 2 (some (.object "java/lang/Object"))) 3 60 [va_rf p0] (f_J19_removeFirst p0 h) h :=
  CT.of g (by decide) (by simp only [ls_a, ls_i, ls_l, ls_n]; decide) (fun K _ hK hf hlo => by simp only [la_a, la_i, la_l, la_n]; exact sm_J19_removeFirst hK hf hlo p0 h)
abbrev FR_J19_removeLast : Nat := 3
abbrev LO_J19_removeLast : Nat := 60
theorem dyJ19_removeLast : DY yJ19_removeLast 0 := ⟨⟨by decide, by decide⟩, by decide +kernel⟩
theorem sm_J19_removeLast {G : GC} {K : SC} (hK : SOK G K RJ19 cJ19_removeLast 2 (some (.object "java/lang/Object")) "removeLast" []) (hf : FR_J19_removeLast ≤ (kR K).frames) (hlo : LO_J19_removeLast ≤ (kR K).locals) (p0 : Option Nat) (h : AH) : Sim G K 2 (f_J19_removeLast p0 h) h 0 [(0, va_rf p0)] [] := by
  unfold f_J19_removeLast
  refine s_aload_n hK dJ19_removeLast_0 rfl 0 rfl ?_
  refine s_rc (fun _ _ eo er => ?_)
  refine s_cA hK ho_n (cx_v (As := []) (rest := []) hK dyJ19_pollLast rfl q1559 fcJ19.1 q1560 q1561 q104 q1562 eo er (ct_J19_pollLast hK.1 p0 h) (Nat.le_trans (Nat.le_of_ble_eq_true rfl) hf) (Nat.le_trans (Nat.le_of_ble_eq_true rfl) hlo) rk_n (Nat.le_of_ble_eq_true rfl) dJ19_removeLast_1 rfl) (fun v2 h1 => ?_)
  refine s_astore_n (lv' := [(1, va_rf v2), (0, va_rf p0)]) hK dJ19_removeLast_4 rfl (Nat.le_of_ble_eq_true rfl) (flA (pre := []) (suf := []) rfl rfl) ?_
  refine s_aload_n hK dJ19_removeLast_5 rfl 0 rfl ?_
  refine s_ifnonnull (tgt := 17) hK dJ19_removeLast_6 (by decide) (fun c3 => ?_) (fun c3 => ?_)
  · refine s_aload_n hK dJ19_removeLast_17 rfl 0 rfl ?_
    exact s_aret hK (Or.inl ⟨_, rfl⟩) dJ19_removeLast_18
  · exact s_none
theorem ct_J19_removeLast {G : GC} {l : Launch} (g : GOK G l) (p0 : Option Nat) (h : AH) : CT G l yJ19_removeLast (Cond.code yJ19_removeLast cJ19_removeLast 2 (some (.object "java/lang/Object"))) 3 60 [va_rf p0] (f_J19_removeLast p0 h) h :=
  CT.of g (by decide) (by simp only [ls_a, ls_i, ls_l, ls_n]; decide) (fun K _ hK hf hlo => by simp only [la_a, la_i, la_l, la_n]; exact sm_J19_removeLast hK hf hlo p0 h)
abbrev FR_J19_isEmpty : Nat := 1
abbrev LO_J19_isEmpty : Nat := 16
theorem dyJ19_isEmpty : DY yJ19_isEmpty 0 := ⟨⟨by decide, by decide⟩, by decide +kernel⟩
theorem sm_J19_isEmpty {G : GC} {K : SC} (hK : SOK G K RJ19 cJ19_isEmpty 1 (some (.boolean)) "isEmpty" []) (hf : FR_J19_isEmpty ≤ (kR K).frames) (hlo : LO_J19_isEmpty ≤ (kR K).locals) (p0 : Option Nat) (h : AH) : Sim G K 1 (f_J19_isEmpty p0 h) h 0 [(0, va_rf p0)] [] := by
  unfold f_J19_isEmpty
  refine s_aload_n hK dJ19_isEmpty_0 rfl 0 rfl ?_
  refine s_gI hK fcJ19 1 (Nat.le_of_ble_eq_true rfl) (Or.inl q219) (Or.inl rfl) dJ19_isEmpty_1 (fun v1 => ?_)
  refine s_aload_n hK dJ19_isEmpty_4 rfl 0 rfl ?_
  refine s_gI hK fcJ19 2 (Nat.le_of_ble_eq_true rfl) (Or.inl q220) (Or.inl rfl) dJ19_isEmpty_5 (fun v2 => ?_)
  refine s_icmp_ne (tgt := 15) hK dJ19_isEmpty_8 (by decide) (fun c3 => ?_) (fun c3 => ?_)
  · refine s_iconst (v := 0) hK dJ19_isEmpty_15 rfl ?_
    exact s_zret hK dJ19_isEmpty_16
  · refine s_iconst (v := 1) hK dJ19_isEmpty_11 rfl ?_
    refine s_goto (tgt := 16) hK dJ19_isEmpty_12 (by decide) ?_
    exact s_zret hK dJ19_isEmpty_16
theorem ct_J19_isEmpty {G : GC} {l : Launch} (g : GOK G l) (p0 : Option Nat) (h : AH) : CT G l yJ19_isEmpty (Cond.code yJ19_isEmpty cJ19_isEmpty 1 (some (.boolean))) 1 16 [va_rf p0] (f_J19_isEmpty p0 h) h :=
  CT.of g (by decide) (by simp only [ls_a, ls_i, ls_l, ls_n]; decide) (fun K _ hK hf hlo => by simp only [la_a, la_i, la_l, la_n]; exact sm_J19_isEmpty hK hf hlo p0 h)
abbrev FR_J19_size : Nat := 2
abbrev LO_J19_size : Nat := 38
theorem dyJ19_size : DY yJ19_size 0 := ⟨⟨by decide, by decide⟩, by decide +kernel⟩
theorem sm_J19_size {G : GC} {K : SC} (hK : SOK G K RJ19 cJ19_size 1 (some (.int)) "size" []) (hf : FR_J19_size ≤ (kR K).frames) (hlo : LO_J19_size ≤ (kR K).locals) (p0 : Option Nat) (h : AH) : Sim G K 1 (f_J19_size p0 h) h 0 [(0, va_rf p0)] [] := by
  unfold f_J19_size
  refine s_aload_n hK dJ19_size_0 rfl 0 rfl ?_
  refine s_gI hK fcJ19 2 (Nat.le_of_ble_eq_true rfl) (Or.inl q220) (Or.inl rfl) dJ19_size_1 (fun v1 => ?_)
  refine s_aload_n hK dJ19_size_4 rfl 0 rfl ?_
  refine s_gI hK fcJ19 1 (Nat.le_of_ble_eq_true rfl) (Or.inl q219) (Or.inl rfl) dJ19_size_5 (fun v2 => ?_)
  refine s_aload_n hK dJ19_size_8 rfl 0 rfl ?_
  refine s_gA hK fcJ19 0 (Nat.le_of_ble_eq_true rfl) (Or.inl q218) (Or.inl rfl) dJ19_size_9 (fun v3 => ?_)
  refine s_alen hK dJ19_size_12 (fun v4 => ?_)
  refine s_cI hK ho_n (cx_s (As := [.int v1, .int v2, .int v4]) (rest := []) hK dyJ19_sub rfl q1549 q1550 q104 q1551 (ct_J19_sub hK.1 v1 v2 v4 h) (Nat.le_trans (Nat.le_of_ble_eq_true rfl) hf) (Nat.le_trans (Nat.le_of_ble_eq_true rfl) hlo) rk_n (Nat.le_of_ble_eq_true rfl) dJ19_size_13 rfl) (fun v6 h5 => ?_)
  exact s_iret hK dJ19_size_16
theorem ct_J19_size {G : GC} {l : Launch} (g : GOK G l) (p0 : Option Nat) (h : AH) : CT G l yJ19_size (Cond.code yJ19_size cJ19_size 1 (some (.int))) 2 38 [va_rf p0] (f_J19_size p0 h) h :=
  CT.of g (by decide) (by simp only [ls_a, ls_i, ls_l, ls_n]; decide) (fun K _ hK hf hlo => by simp only [la_a, la_i, la_l, la_n]; exact sm_J19_size hK hf hlo p0 h)
abbrev FR_J9_numberOfTrailingZeros : Nat := 1
abbrev LO_J9_numberOfTrailingZeros : Nat := 16
theorem dyJ9_numberOfTrailingZeros : DY yJ9_numberOfTrailingZeros 1 := ⟨⟨by decide, by decide⟩, by decide +kernel⟩
theorem sm_J9_numberOfTrailingZeros_J74 {G : GC} {K : SC} (hK : SOK G K RJ9 cJ9_numberOfTrailingZeros 2 (some (.int)) "numberOfTrailingZeros" []) (hf : FR_J9_numberOfTrailingZeros ≤ (kR K).frames) (hlo : LO_J9_numberOfTrailingZeros ≤ (kR K).locals) (x10 : Int32) (x11 : Int32)  (h12 : AH) : Sim G K 2 (f_J9_numberOfTrailingZeros_J74 x10 x11 h12) h12 74 [(0, .int x10), (1, .int x11)] [] := by
  unfold f_J9_numberOfTrailingZeros_J74
  refine s_iload_n hK dJ9_numberOfTrailingZeros_74 rfl 1 rfl ?_
  refine s_iload_n hK dJ9_numberOfTrailingZeros_75 rfl 0 rfl ?_
  refine s_iconst (v := 1) hK dJ9_numberOfTrailingZeros_76 rfl ?_
  refine s_iushr hK dJ9_numberOfTrailingZeros_77 ?_
  refine s_iadd hK dJ9_numberOfTrailingZeros_78 ?_
  exact s_iret hK dJ9_numberOfTrailingZeros_79
theorem sm_J9_numberOfTrailingZeros_J62 {G : GC} {K : SC} (hK : SOK G K RJ9 cJ9_numberOfTrailingZeros 2 (some (.int)) "numberOfTrailingZeros" []) (hf : FR_J9_numberOfTrailingZeros ≤ (kR K).frames) (hlo : LO_J9_numberOfTrailingZeros ≤ (kR K).locals) (x7 : Int32) (x8 : Int32)  (h9 : AH) : Sim G K 2 (f_J9_numberOfTrailingZeros_J62 x7 x8 h9) h9 62 [(0, .int x7), (1, .int x8)] [] := by
  unfold f_J9_numberOfTrailingZeros_J62
  refine s_iload_n hK dJ9_numberOfTrailingZeros_62 rfl 0 rfl ?_
  refine s_iconst (v := 4) hK dJ9_numberOfTrailingZeros_63 rfl ?_
  refine s_icmp_le (tgt := 74) hK dJ9_numberOfTrailingZeros_64 (by decide) (fun c13 => ?_) (fun c13 => ?_)
  · exact sm_J9_numberOfTrailingZeros_J74 hK hf hlo x7 x8 h9
  · refine s_iinc (j := 1) (v := 2) (lv' := [(1, .int (x8 + 2)), (0, .int x7)]) hK dJ9_numberOfTrailingZeros_67 rfl rfl (Nat.le_of_ble_eq_true rfl) rfl ?_
    refine s_iload_n hK dJ9_numberOfTrailingZeros_70 rfl 1 rfl ?_
    refine s_iconst (v := 2) hK dJ9_numberOfTrailingZeros_71 rfl ?_
    refine s_iushr hK dJ9_numberOfTrailingZeros_72 ?_
    refine s_istore_n (lv' := [(0, .int ((x7.toUInt32 >>> ((2 : Int32).toUInt32 &&& Int32.toUInt32 31)).toInt32)), (1, .int (x8 + 2))]) hK dJ9_numberOfTrailingZeros_73 rfl (Nat.le_of_ble_eq_true rfl) rfl ?_
    exact sm_J9_numberOfTrailingZeros_J74 hK hf hlo ((x7.toUInt32 >>> ((2 : Int32).toUInt32 &&& Int32.toUInt32 31)).toInt32) (x8 + 2) h9
theorem sm_J9_numberOfTrailingZeros_J49 {G : GC} {K : SC} (hK : SOK G K RJ9 cJ9_numberOfTrailingZeros 2 (some (.int)) "numberOfTrailingZeros" []) (hf : FR_J9_numberOfTrailingZeros ≤ (kR K).frames) (hlo : LO_J9_numberOfTrailingZeros ≤ (kR K).locals) (x4 : Int32) (x5 : Int32)  (h6 : AH) : Sim G K 2 (f_J9_numberOfTrailingZeros_J49 x4 x5 h6) h6 49 [(0, .int x4), (1, .int x5)] [] := by
  unfold f_J9_numberOfTrailingZeros_J49
  refine s_iload_n hK dJ9_numberOfTrailingZeros_49 rfl 0 rfl ?_
  refine s_bipush (v := 16) hK dJ9_numberOfTrailingZeros_50 rfl ?_
  refine s_icmp_le (tgt := 62) hK dJ9_numberOfTrailingZeros_52 (by decide) (fun c14 => ?_) (fun c14 => ?_)
  · exact sm_J9_numberOfTrailingZeros_J62 hK hf hlo x4 x5 h6
  · refine s_iinc (j := 1) (v := 4) (lv' := [(1, .int (x5 + 4)), (0, .int x4)]) hK dJ9_numberOfTrailingZeros_55 rfl rfl (Nat.le_of_ble_eq_true rfl) rfl ?_
    refine s_iload_n hK dJ9_numberOfTrailingZeros_58 rfl 1 rfl ?_
    refine s_iconst (v := 4) hK dJ9_numberOfTrailingZeros_59 rfl ?_
    refine s_iushr hK dJ9_numberOfTrailingZeros_60 ?_
    refine s_istore_n (lv' := [(0, .int ((x4.toUInt32 >>> ((4 : Int32).toUInt32 &&& Int32.toUInt32 31)).toInt32)), (1, .int (x5 + 4))]) hK dJ9_numberOfTrailingZeros_61 rfl (Nat.le_of_ble_eq_true rfl) rfl ?_
    exact sm_J9_numberOfTrailingZeros_J62 hK hf hlo ((x4.toUInt32 >>> ((4 : Int32).toUInt32 &&& Int32.toUInt32 31)).toInt32) (x5 + 4) h6
theorem sm_J9_numberOfTrailingZeros_J34 {G : GC} {K : SC} (hK : SOK G K RJ9 cJ9_numberOfTrailingZeros 2 (some (.int)) "numberOfTrailingZeros" []) (hf : FR_J9_numberOfTrailingZeros ≤ (kR K).frames) (hlo : LO_J9_numberOfTrailingZeros ≤ (kR K).locals) (x1 : Int32) (x2 : Int32)  (h3 : AH) : Sim G K 2 (f_J9_numberOfTrailingZeros_J34 x1 x2 h3) h3 34 [(0, .int x1), (1, .int x2)] [] := by
  unfold f_J9_numberOfTrailingZeros_J34
  refine s_iload_n hK dJ9_numberOfTrailingZeros_34 rfl 0 rfl ?_
  refine s_sipush (v := 256) hK dJ9_numberOfTrailingZeros_35 rfl ?_
  refine s_icmp_le (tgt := 49) hK dJ9_numberOfTrailingZeros_38 (by decide) (fun c15 => ?_) (fun c15 => ?_)
  · exact sm_J9_numberOfTrailingZeros_J49 hK hf hlo x1 x2 h3
  · refine s_iinc (j := 1) (v := 8) (lv' := [(1, .int (x2 + 8)), (0, .int x1)]) hK dJ9_numberOfTrailingZeros_41 rfl rfl (Nat.le_of_ble_eq_true rfl) rfl ?_
    refine s_iload_n hK dJ9_numberOfTrailingZeros_44 rfl 1 rfl ?_
    refine s_bipush (v := 8) hK dJ9_numberOfTrailingZeros_45 rfl ?_
    refine s_iushr hK dJ9_numberOfTrailingZeros_47 ?_
    refine s_istore_n (lv' := [(0, .int ((x1.toUInt32 >>> ((8 : Int32).toUInt32 &&& Int32.toUInt32 31)).toInt32)), (1, .int (x2 + 8))]) hK dJ9_numberOfTrailingZeros_48 rfl (Nat.le_of_ble_eq_true rfl) rfl ?_
    exact sm_J9_numberOfTrailingZeros_J49 hK hf hlo ((x1.toUInt32 >>> ((8 : Int32).toUInt32 &&& Int32.toUInt32 31)).toInt32) (x2 + 8) h3
theorem sm_J9_numberOfTrailingZeros {G : GC} {K : SC} (hK : SOK G K RJ9 cJ9_numberOfTrailingZeros 2 (some (.int)) "numberOfTrailingZeros" []) (hf : FR_J9_numberOfTrailingZeros ≤ (kR K).frames) (hlo : LO_J9_numberOfTrailingZeros ≤ (kR K).locals) (p0 : Int32) (h : AH) : Sim G K 2 (f_J9_numberOfTrailingZeros p0 h) h 0 [(0, .int p0)] [] := by
  unfold f_J9_numberOfTrailingZeros
  refine s_iload_n hK dJ9_numberOfTrailingZeros_0 rfl 0 rfl ?_
  refine s_iconst (v := (-1)) hK dJ9_numberOfTrailingZeros_1 rfl ?_
  refine s_ixor hK dJ9_numberOfTrailingZeros_2 ?_
  refine s_iload_n hK dJ9_numberOfTrailingZeros_3 rfl 0 rfl ?_
  refine s_iconst (v := 1) hK dJ9_numberOfTrailingZeros_4 rfl ?_
  refine s_isub hK dJ9_numberOfTrailingZeros_5 ?_
  refine s_iand hK dJ9_numberOfTrailingZeros_6 ?_
  refine s_istore_n (lv' := [(0, .int ((p0 ^^^ (-1)) &&& (p0 - 1)))]) hK dJ9_numberOfTrailingZeros_7 rfl (Nat.le_of_ble_eq_true rfl) rfl ?_
  refine s_iload_n hK dJ9_numberOfTrailingZeros_8 rfl 0 rfl ?_
  refine s_if_gt (tgt := 17) hK dJ9_numberOfTrailingZeros_9 (by decide) (fun c17 => ?_) (fun c17 => ?_)
  · refine s_iconst (v := 1) hK dJ9_numberOfTrailingZeros_17 rfl ?_
    refine s_istore_n (lv' := [(1, .int 1), (0, .int ((p0 ^^^ (-1)) &&& (p0 - 1)))]) hK dJ9_numberOfTrailingZeros_18 rfl (Nat.le_of_ble_eq_true rfl) rfl ?_
    refine s_iload_n hK dJ9_numberOfTrailingZeros_19 rfl 1 rfl ?_
    refine s_ldcw hK q1042 dJ9_numberOfTrailingZeros_20 ?_
    refine s_icmp_le (tgt := 34) hK dJ9_numberOfTrailingZeros_23 (by decide) (fun c16 => ?_) (fun c16 => ?_)
    · refine s_sub [1, 0] rfl ?_
      exact sm_J9_numberOfTrailingZeros_J34 hK hf hlo ((p0 ^^^ (-1)) &&& (p0 - 1)) 1 h
    · refine s_iinc (j := 0) (v := 16) (lv' := [(1, .int (1 + 16)), (0, .int ((p0 ^^^ (-1)) &&& (p0 - 1)))]) hK dJ9_numberOfTrailingZeros_26 rfl rfl (Nat.le_of_ble_eq_true rfl) rfl ?_
      refine s_iload_n hK dJ9_numberOfTrailingZeros_29 rfl 1 rfl ?_
      refine s_bipush (v := 16) hK dJ9_numberOfTrailingZeros_30 rfl ?_
      refine s_iushr hK dJ9_numberOfTrailingZeros_32 ?_
      refine s_istore_n (lv' := [(0, .int ((((p0 ^^^ (-1)) &&& (p0 - 1)).toUInt32 >>> ((16 : Int32).toUInt32 &&& Int32.toUInt32 31)).toInt32)), (1, .int (1 + 16))]) hK dJ9_numberOfTrailingZeros_33 rfl (Nat.le_of_ble_eq_true rfl) rfl ?_
      exact sm_J9_numberOfTrailingZeros_J34 hK hf hlo ((((p0 ^^^ (-1)) &&& (p0 - 1)).toUInt32 >>> ((16 : Int32).toUInt32 &&& Int32.toUInt32 31)).toInt32) (1 + 16) h
  · refine s_iload_n hK dJ9_numberOfTrailingZeros_12 rfl 0 rfl ?_
    refine s_bipush (v := 32) hK dJ9_numberOfTrailingZeros_13 rfl ?_
    refine s_iand hK dJ9_numberOfTrailingZeros_15 ?_
    exact s_iret hK dJ9_numberOfTrailingZeros_16
theorem ct_J9_numberOfTrailingZeros {G : GC} {l : Launch} (g : GOK G l) (p0 : Int32) (h : AH) : CT G l yJ9_numberOfTrailingZeros (Cond.code yJ9_numberOfTrailingZeros cJ9_numberOfTrailingZeros 2 (some (.int))) 1 16 [.int p0] (f_J9_numberOfTrailingZeros p0 h) h :=
  CT.of g (by decide) (by simp only [ls_a, ls_i, ls_l, ls_n]; decide) (fun K _ hK hf hlo => by simp only [la_a, la_i, la_l, la_n]; exact sm_J9_numberOfTrailingZeros hK hf hlo p0 h)
abbrev FR_J26_numberOfTrailingZeros : Nat := 2
abbrev LO_J26_numberOfTrailingZeros : Nat := 37
theorem dyJ26_numberOfTrailingZeros : DY yJ26_numberOfTrailingZeros 1 := ⟨⟨by decide, by decide⟩, by decide +kernel⟩
theorem sm_J26_numberOfTrailingZeros {G : GC} {K : SC} (hK : SOK G K RJ26 cJ26_numberOfTrailingZeros 3 (some (.int)) "numberOfTrailingZeros" []) (hf : FR_J26_numberOfTrailingZeros ≤ (kR K).frames) (hlo : LO_J26_numberOfTrailingZeros ≤ (kR K).locals) (p0 : Int64) (h : AH) : Sim G K 3 (f_J26_numberOfTrailingZeros p0 h) h 0 [(0, .long p0)] [] := by
  unfold f_J26_numberOfTrailingZeros
  refine s_lload_n hK dJ26_numberOfTrailingZeros_0 rfl 0 rfl ?_
  refine s_l2i hK dJ26_numberOfTrailingZeros_1 ?_
  refine s_istore_n (lv' := [(2, .int p0.toInt32), (0, .long p0)]) hK dJ26_numberOfTrailingZeros_2 rfl (Nat.le_of_ble_eq_true rfl) rfl ?_
  refine s_iload_n hK dJ26_numberOfTrailingZeros_3 rfl 0 rfl ?_
  refine s_if_ne (tgt := 21) hK dJ26_numberOfTrailingZeros_4 (by decide) (fun c5 => ?_) (fun c5 => ?_)
  · refine s_iload_n hK dJ26_numberOfTrailingZeros_21 rfl 0 rfl ?_
    refine s_cI hK ho_n (cx_s (As := [.int p0.toInt32]) (rest := []) hK dyJ9_numberOfTrailingZeros rfl q1039 q1040 q91 q1041 (ct_J9_numberOfTrailingZeros hK.1 p0.toInt32 h) (Nat.le_trans (Nat.le_of_ble_eq_true rfl) hf) (Nat.le_trans (Nat.le_of_ble_eq_true rfl) hlo) rk_n (Nat.le_of_ble_eq_true rfl) dJ26_numberOfTrailingZeros_22 rfl) (fun v2 h1 => ?_)
    exact s_iret hK dJ26_numberOfTrailingZeros_25
  · refine s_bipush (v := 32) hK dJ26_numberOfTrailingZeros_7 rfl ?_
    refine s_lload_n hK dJ26_numberOfTrailingZeros_9 rfl 1 rfl ?_
    refine s_bipush (v := 32) hK dJ26_numberOfTrailingZeros_10 rfl ?_
    refine s_lushr hK dJ26_numberOfTrailingZeros_12 ?_
    refine s_l2i hK dJ26_numberOfTrailingZeros_13 ?_
    refine s_cI hK ho_n (cx_s (As := [.int (((p0.toUInt64 >>> ((32 : Int32).toInt64.toUInt64 &&& Int64.toUInt64 63)).toInt64).toInt32)]) (rest := [.int 32]) hK dyJ9_numberOfTrailingZeros rfl q1039 q1040 q91 q1041 (ct_J9_numberOfTrailingZeros hK.1 (((p0.toUInt64 >>> ((32 : Int32).toInt64.toUInt64 &&& Int64.toUInt64 63)).toInt64).toInt32) h) (Nat.le_trans (Nat.le_of_ble_eq_true rfl) hf) (Nat.le_trans (Nat.le_of_ble_eq_true rfl) hlo) (rk_i rk_n) (Nat.le_of_ble_eq_true rfl) dJ26_numberOfTrailingZeros_14 rfl) (fun v4 h3 => ?_)
    refine s_iadd hK dJ26_numberOfTrailingZeros_17 ?_
    refine s_goto (tgt := 25) hK dJ26_numberOfTrailingZeros_18 (by decide) ?_
    exact s_iret hK dJ26_numberOfTrailingZeros_25
theorem ct_J26_numberOfTrailingZeros {G : GC} {l : Launch} (g : GOK G l) (p0 : Int64) (h : AH) : CT G l yJ26_numberOfTrailingZeros (Cond.code yJ26_numberOfTrailingZeros cJ26_numberOfTrailingZeros 3 (some (.int))) 2 37 [.long p0] (f_J26_numberOfTrailingZeros p0 h) h :=
  CT.of g (by decide) (by simp only [ls_a, ls_i, ls_l, ls_n]; decide) (fun K _ hK hf hlo => by simp only [la_a, la_i, la_l, la_n]; exact sm_J26_numberOfTrailingZeros hK hf hlo p0 h)
abbrev FR_J26_bitCount : Nat := 1
abbrev LO_J26_bitCount : Nat := 16
theorem dyJ26_bitCount : DY yJ26_bitCount 1 := ⟨⟨by decide, by decide⟩, by decide +kernel⟩
theorem sm_J26_bitCount {G : GC} {K : SC} (hK : SOK G K RJ26 cJ26_bitCount 2 (some (.int)) "bitCount" []) (hf : FR_J26_bitCount ≤ (kR K).frames) (hlo : LO_J26_bitCount ≤ (kR K).locals) (p0 : Int64) (h : AH) : Sim G K 2 (f_J26_bitCount p0 h) h 0 [(0, .long p0)] [] := by
  unfold f_J26_bitCount
  refine s_lload_n hK dJ26_bitCount_0 rfl 0 rfl ?_
  refine s_lload_n hK dJ26_bitCount_1 rfl 0 rfl ?_
  refine s_iconst (v := 1) hK dJ26_bitCount_2 rfl ?_
  refine s_lushr hK dJ26_bitCount_3 ?_
  refine s_ldc2 hK q1128 dJ26_bitCount_4 ?_
  refine s_land hK dJ26_bitCount_7 ?_
  refine s_lsub hK dJ26_bitCount_8 ?_
  refine s_lstore_n (lv' := [(0, .long (p0 - (((p0.toUInt64 >>> ((1 : Int32).toInt64.toUInt64 &&& Int64.toUInt64 63)).toInt64) &&& 6148914691236517205)))]) hK dJ26_bitCount_9 rfl (Nat.le_of_ble_eq_true rfl) rfl ?_
  refine s_lload_n hK dJ26_bitCount_10 rfl 0 rfl ?_
  refine s_ldc2 hK q1129 dJ26_bitCount_11 ?_
  refine s_land hK dJ26_bitCount_14 ?_
  refine s_lload_n hK dJ26_bitCount_15 rfl 0 rfl ?_
  refine s_iconst (v := 2) hK dJ26_bitCount_16 rfl ?_
  refine s_lushr hK dJ26_bitCount_17 ?_
  refine s_ldc2 hK q1129 dJ26_bitCount_18 ?_
  refine s_land hK dJ26_bitCount_21 ?_
  refine s_ladd hK dJ26_bitCount_22 ?_
  refine s_lstore_n (lv' := [(0, .long (((p0 - (((p0.toUInt64 >>> ((1 : Int32).toInt64.toUInt64 &&& Int64.toUInt64 63)).toInt64) &&& 6148914691236517205)) &&& 3689348814741910323) + ((((p0 - (((p0.toUInt64 >>> ((1 : Int32).toInt64.toUInt64 &&& Int64.toUInt64 63)).toInt64) &&& 6148914691236517205)).toUInt64 >>> ((2 : Int32).toInt64.toUInt64 &&& Int64.toUInt64 63)).toInt64) &&& 3689348814741910323)))]) hK dJ26_bitCount_23 rfl (Nat.le_of_ble_eq_true rfl) rfl ?_
  refine s_lload_n hK dJ26_bitCount_24 rfl 0 rfl ?_
  refine s_lload_n hK dJ26_bitCount_25 rfl 0 rfl ?_
  refine s_iconst (v := 4) hK dJ26_bitCount_26 rfl ?_
  refine s_lushr hK dJ26_bitCount_27 ?_
  refine s_ladd hK dJ26_bitCount_28 ?_
  refine s_ldc2 hK q1130 dJ26_bitCount_29 ?_
  refine s_land hK dJ26_bitCount_32 ?_
  refine s_lstore_n (lv' := [(0, .long (((((p0 - (((p0.toUInt64 >>> ((1 : Int32).toInt64.toUInt64 &&& Int64.toUInt64 63)).toInt64) &&& 6148914691236517205)) &&& 3689348814741910323) + ((((p0 - (((p0.toUInt64 >>> ((1 : Int32).toInt64.toUInt64 &&& Int64.toUInt64 63)).toInt64) &&& 6148914691236517205)).toUInt64 >>> ((2 : Int32).toInt64.toUInt64 &&& Int64.toUInt64 63)).toInt64) &&& 3689348814741910323)) + (((((p0 - (((p0.toUInt64 >>> ((1 : Int32).toInt64.toUInt64 &&& Int64.toUInt64 63)).toInt64) &&& 6148914691236517205)) &&& 3689348814741910323) + ((((p0 - (((p0.toUInt64 >>> ((1 : Int32).toInt64.toUInt64 &&& Int64.toUInt64 63)).toInt64) &&& 6148914691236517205)).toUInt64 >>> ((2 : Int32).toInt64.toUInt64 &&& Int64.toUInt64 63)).toInt64) &&& 3689348814741910323)).toUInt64 >>> ((4 : Int32).toInt64.toUInt64 &&& Int64.toUInt64 63)).toInt64)) &&& 1085102592571150095))]) hK dJ26_bitCount_33 rfl (Nat.le_of_ble_eq_true rfl) rfl ?_
  refine s_lload_n hK dJ26_bitCount_34 rfl 0 rfl ?_
  refine s_lload_n hK dJ26_bitCount_35 rfl 0 rfl ?_
  refine s_bipush (v := 8) hK dJ26_bitCount_36 rfl ?_
  refine s_lushr hK dJ26_bitCount_38 ?_
  refine s_ladd hK dJ26_bitCount_39 ?_
  refine s_lstore_n (lv' := [(0, .long ((((((p0 - (((p0.toUInt64 >>> ((1 : Int32).toInt64.toUInt64 &&& Int64.toUInt64 63)).toInt64) &&& 6148914691236517205)) &&& 3689348814741910323) + ((((p0 - (((p0.toUInt64 >>> ((1 : Int32).toInt64.toUInt64 &&& Int64.toUInt64 63)).toInt64) &&& 6148914691236517205)).toUInt64 >>> ((2 : Int32).toInt64.toUInt64 &&& Int64.toUInt64 63)).toInt64) &&& 3689348814741910323)) + (((((p0 - (((p0.toUInt64 >>> ((1 : Int32).toInt64.toUInt64 &&& Int64.toUInt64 63)).toInt64) &&& 6148914691236517205)) &&& 3689348814741910323) + ((((p0 - (((p0.toUInt64 >>> ((1 : Int32).toInt64.toUInt64 &&& Int64.toUInt64 63)).toInt64) &&& 6148914691236517205)).toUInt64 >>> ((2 : Int32).toInt64.toUInt64 &&& Int64.toUInt64 63)).toInt64) &&& 3689348814741910323)).toUInt64 >>> ((4 : Int32).toInt64.toUInt64 &&& Int64.toUInt64 63)).toInt64)) &&& 1085102592571150095) + (((((((p0 - (((p0.toUInt64 >>> ((1 : Int32).toInt64.toUInt64 &&& Int64.toUInt64 63)).toInt64) &&& 6148914691236517205)) &&& 3689348814741910323) + ((((p0 - (((p0.toUInt64 >>> ((1 : Int32).toInt64.toUInt64 &&& Int64.toUInt64 63)).toInt64) &&& 6148914691236517205)).toUInt64 >>> ((2 : Int32).toInt64.toUInt64 &&& Int64.toUInt64 63)).toInt64) &&& 3689348814741910323)) + (((((p0 - (((p0.toUInt64 >>> ((1 : Int32).toInt64.toUInt64 &&& Int64.toUInt64 63)).toInt64) &&& 6148914691236517205)) &&& 3689348814741910323) + ((((p0 - (((p0.toUInt64 >>> ((1 : Int32).toInt64.toUInt64 &&& Int64.toUInt64 63)).toInt64) &&& 6148914691236517205)).toUInt64 >>> ((2 : Int32).toInt64.toUInt64 &&& Int64.toUInt64 63)).toInt64) &&& 3689348814741910323)).toUInt64 >>> ((4 : Int32).toInt64.toUInt64 &&& Int64.toUInt64 63)).toInt64)) &&& 1085102592571150095).toUInt64 >>> ((8 : Int32).toInt64.toUInt64 &&& Int64.toUInt64 63)).toInt64)))]) hK dJ26_bitCount_40 rfl (Nat.le_of_ble_eq_true rfl) rfl ?_
  refine s_lload_n hK dJ26_bitCount_41 rfl 0 rfl ?_
  refine s_lload_n hK dJ26_bitCount_42 rfl 0 rfl ?_
  refine s_bipush (v := 16) hK dJ26_bitCount_43 rfl ?_
  refine s_lushr hK dJ26_bitCount_45 ?_
  refine s_ladd hK dJ26_bitCount_46 ?_
  refine s_lstore_n (lv' := [(0, .long (((((((p0 - (((p0.toUInt64 >>> ((1 : Int32).toInt64.toUInt64 &&& Int64.toUInt64 63)).toInt64) &&& 6148914691236517205)) &&& 3689348814741910323) + ((((p0 - (((p0.toUInt64 >>> ((1 : Int32).toInt64.toUInt64 &&& Int64.toUInt64 63)).toInt64) &&& 6148914691236517205)).toUInt64 >>> ((2 : Int32).toInt64.toUInt64 &&& Int64.toUInt64 63)).toInt64) &&& 3689348814741910323)) + (((((p0 - (((p0.toUInt64 >>> ((1 : Int32).toInt64.toUInt64 &&& Int64.toUInt64 63)).toInt64) &&& 6148914691236517205)) &&& 3689348814741910323) + ((((p0 - (((p0.toUInt64 >>> ((1 : Int32).toInt64.toUInt64 &&& Int64.toUInt64 63)).toInt64) &&& 6148914691236517205)).toUInt64 >>> ((2 : Int32).toInt64.toUInt64 &&& Int64.toUInt64 63)).toInt64) &&& 3689348814741910323)).toUInt64 >>> ((4 : Int32).toInt64.toUInt64 &&& Int64.toUInt64 63)).toInt64)) &&& 1085102592571150095) + (((((((p0 - (((p0.toUInt64 >>> ((1 : Int32).toInt64.toUInt64 &&& Int64.toUInt64 63)).toInt64) &&& 6148914691236517205)) &&& 3689348814741910323) + ((((p0 - (((p0.toUInt64 >>> ((1 : Int32).toInt64.toUInt64 &&& Int64.toUInt64 63)).toInt64) &&& 6148914691236517205)).toUInt64 >>> ((2 : Int32).toInt64.toUInt64 &&& Int64.toUInt64 63)).toInt64) &&& 3689348814741910323)) + (((((p0 - (((p0.toUInt64 >>> ((1 : Int32).toInt64.toUInt64 &&& Int64.toUInt64 63)).toInt64) &&& 6148914691236517205)) &&& 3689348814741910323) + ((((p0 - (((p0.toUInt64 >>> ((1 : Int32).toInt64.toUInt64 &&& Int64.toUInt64 63)).toInt64) &&& 6148914691236517205)).toUInt64 >>> ((2 : Int32).toInt64.toUInt64 &&& Int64.toUInt64 63)).toInt64) &&& 3689348814741910323)).toUInt64 >>> ((4 : Int32).toInt64.toUInt64 &&& Int64.toUInt64 63)).toInt64)) &&& 1085102592571150095).toUInt64 >>> ((8 : Int32).toInt64.toUInt64 &&& Int64.toUInt64 63)).toInt64)) + ((((((((p0 - (((p0.toUInt64 >>> ((1 : Int32).toInt64.toUInt64 &&& Int64.toUInt64 63)).toInt64) &&& 6148914691236517205)) &&& 3689348814741910323) + ((((p0 - (((p0.toUInt64 >>> ((1 : Int32).toInt64.toUInt64 &&& Int64.toUInt64 63)).toInt64) &&& 6148914691236517205)).toUInt64 >>> ((2 : Int32).toInt64.toUInt64 &&& Int64.toUInt64 63)).toInt64) &&& 3689348814741910323)) + (((((p0 - (((p0.toUInt64 >>> ((1 : Int32).toInt64.toUInt64 &&& Int64.toUInt64 63)).toInt64) &&& 6148914691236517205)) &&& 3689348814741910323) + ((((p0 - (((p0.toUInt64 >>> ((1 : Int32).toInt64.toUInt64 &&& Int64.toUInt64 63)).toInt64) &&& 6148914691236517205)).toUInt64 >>> ((2 : Int32).toInt64.toUInt64 &&& Int64.toUInt64 63)).toInt64) &&& 3689348814741910323)).toUInt64 >>> ((4 : Int32).toInt64.toUInt64 &&& Int64.toUInt64 63)).toInt64)) &&& 1085102592571150095) + (((((((p0 - (((p0.toUInt64 >>> ((1 : Int32).toInt64.toUInt64 &&& Int64.toUInt64 63)).toInt64) &&& 6148914691236517205)) &&& 3689348814741910323) + ((((p0 - (((p0.toUInt64 >>> ((1 : Int32).toInt64.toUInt64 &&& Int64.toUInt64 63)).toInt64) &&& 6148914691236517205)).toUInt64 >>> ((2 : Int32).toInt64.toUInt64 &&& Int64.toUInt64 63)).toInt64) &&& 3689348814741910323)) + (((((p0 - (((p0.toUInt64 >>> ((1 : Int32).toInt64.toUInt64 &&& Int64.toUInt64 63)).toInt64) &&& 6148914691236517205)) &&& 3689348814741910323) + ((((p0 - (((p0.toUInt64 >>> ((1 : Int32).toInt64.toUInt64 &&& Int64.toUInt64 63)).toInt64) &&& 6148914691236517205)).toUInt64 >>> ((2 : Int32).toInt64.toUInt64 &&& Int64.toUInt64 63)).toInt64) &&& 3689348814741910323)).toUInt64 >>> ((4 : Int32).toInt64.toUInt64 &&& Int64.toUInt64 63)).toInt64)) &&& 1085102592571150095).toUInt64 >>> ((8 : Int32).toInt64.toUInt64 &&& Int64.toUInt64 63)).toInt64)).toUInt64 >>> ((16 : Int32).toInt64.toUInt64 &&& Int64.toUInt64 63)).toInt64)))]) hK dJ26_bitCount_47 rfl (Nat.le_of_ble_eq_true rfl) rfl ?_
  refine s_lload_n hK dJ26_bitCount_48 rfl 0 rfl ?_
  refine s_lload_n hK dJ26_bitCount_49 rfl 0 rfl ?_
  refine s_bipush (v := 32) hK dJ26_bitCount_50 rfl ?_
  refine s_lushr hK dJ26_bitCount_52 ?_
  refine s_ladd hK dJ26_bitCount_53 ?_
  refine s_lstore_n (lv' := [(0, .long ((((((((p0 - (((p0.toUInt64 >>> ((1 : Int32).toInt64.toUInt64 &&& Int64.toUInt64 63)).toInt64) &&& 6148914691236517205)) &&& 3689348814741910323) + ((((p0 - (((p0.toUInt64 >>> ((1 : Int32).toInt64.toUInt64 &&& Int64.toUInt64 63)).toInt64) &&& 6148914691236517205)).toUInt64 >>> ((2 : Int32).toInt64.toUInt64 &&& Int64.toUInt64 63)).toInt64) &&& 3689348814741910323)) + (((((p0 - (((p0.toUInt64 >>> ((1 : Int32).toInt64.toUInt64 &&& Int64.toUInt64 63)).toInt64) &&& 6148914691236517205)) &&& 3689348814741910323) + ((((p0 - (((p0.toUInt64 >>> ((1 : Int32).toInt64.toUInt64 &&& Int64.toUInt64 63)).toInt64) &&& 6148914691236517205)).toUInt64 >>> ((2 : Int32).toInt64.toUInt64 &&& Int64.toUInt64 63)).toInt64) &&& 3689348814741910323)).toUInt64 >>> ((4 : Int32).toInt64.toUInt64 &&& Int64.toUInt64 63)).toInt64)) &&& 1085102592571150095) + (((((((p0 - (((p0.toUInt64 >>> ((1 : Int32).toInt64.toUInt64 &&& Int64.toUInt64 63)).toInt64) &&& 6148914691236517205)) &&& 3689348814741910323) + ((((p0 - (((p0.toUInt64 >>> ((1 : Int32).toInt64.toUInt64 &&& Int64.toUInt64 63)).toInt64) &&& 6148914691236517205)).toUInt64 >>> ((2 : Int32).toInt64.toUInt64 &&& Int64.toUInt64 63)).toInt64) &&& 3689348814741910323)) + (((((p0 - (((p0.toUInt64 >>> ((1 : Int32).toInt64.toUInt64 &&& Int64.toUInt64 63)).toInt64) &&& 6148914691236517205)) &&& 3689348814741910323) + ((((p0 - (((p0.toUInt64 >>> ((1 : Int32).toInt64.toUInt64 &&& Int64.toUInt64 63)).toInt64) &&& 6148914691236517205)).toUInt64 >>> ((2 : Int32).toInt64.toUInt64 &&& Int64.toUInt64 63)).toInt64) &&& 3689348814741910323)).toUInt64 >>> ((4 : Int32).toInt64.toUInt64 &&& Int64.toUInt64 63)).toInt64)) &&& 1085102592571150095).toUInt64 >>> ((8 : Int32).toInt64.toUInt64 &&& Int64.toUInt64 63)).toInt64)) + ((((((((p0 - (((p0.toUInt64 >>> ((1 : Int32).toInt64.toUInt64 &&& Int64.toUInt64 63)).toInt64) &&& 6148914691236517205)) &&& 3689348814741910323) + ((((p0 - (((p0.toUInt64 >>> ((1 : Int32).toInt64.toUInt64 &&& Int64.toUInt64 63)).toInt64) &&& 6148914691236517205)).toUInt64 >>> ((2 : Int32).toInt64.toUInt64 &&& Int64.toUInt64 63)).toInt64) &&& 3689348814741910323)) + (((((p0 - (((p0.toUInt64 >>> ((1 : Int32).toInt64.toUInt64 &&& Int64.toUInt64 63)).toInt64) &&& 6148914691236517205)) &&& 3689348814741910323) + ((((p0 - (((p0.toUInt64 >>> ((1 : Int32).toInt64.toUInt64 &&& Int64.toUInt64 63)).toInt64) &&& 6148914691236517205)).toUInt64 >>> ((2 : Int32).toInt64.toUInt64 &&& Int64.toUInt64 63)).toInt64) &&& 3689348814741910323)).toUInt64 >>> ((4 : Int32).toInt64.toUInt64 &&& Int64.toUInt64 63)).toInt64)) &&& 1085102592571150095) + (((((((p0 - (((p0.toUInt64 >>> ((1 : Int32).toInt64.toUInt64 &&& Int64.toUInt64 63)).toInt64) &&& 6148914691236517205)) &&& 3689348814741910323) + ((((p0 - (((p0.toUInt64 >>> ((1 : Int32).toInt64.toUInt64 &&& Int64.toUInt64 63)).toInt64) &&& 6148914691236517205)).toUInt64 >>> ((2 : Int32).toInt64.toUInt64 &&& Int64.toUInt64 63)).toInt64) &&& 3689348814741910323)) + (((((p0 - (((p0.toUInt64 >>> ((1 : Int32).toInt64.toUInt64 &&& Int64.toUInt64 63)).toInt64) &&& 6148914691236517205)) &&& 3689348814741910323) + ((((p0 - (((p0.toUInt64 >>> ((1 : Int32).toInt64.toUInt64 &&& Int64.toUInt64 63)).toInt64) &&& 6148914691236517205)).toUInt64 >>> ((2 : Int32).toInt64.toUInt64 &&& Int64.toUInt64 63)).toInt64) &&& 3689348814741910323)).toUInt64 >>> ((4 : Int32).toInt64.toUInt64 &&& Int64.toUInt64 63)).toInt64)) &&& 1085102592571150095).toUInt64 >>> ((8 : Int32).toInt64.toUInt64 &&& Int64.toUInt64 63)).toInt64)).toUInt64 >>> ((16 : Int32).toInt64.toUInt64 &&& Int64.toUInt64 63)).toInt64)) + (((((((((p0 - (((p0.toUInt64 >>> ((1 : Int32).toInt64.toUInt64 &&& Int64.toUInt64 63)).toInt64) &&& 6148914691236517205)) &&& 3689348814741910323) + ((((p0 - (((p0.toUInt64 >>> ((1 : Int32).toInt64.toUInt64 &&& Int64.toUInt64 63)).toInt64) &&& 6148914691236517205)).toUInt64 >>> ((2 : Int32).toInt64.toUInt64 &&& Int64.toUInt64 63)).toInt64) &&& 3689348814741910323)) + (((((p0 - (((p0.toUInt64 >>> ((1 : Int32).toInt64.toUInt64 &&& Int64.toUInt64 63)).toInt64) &&& 6148914691236517205)) &&& 3689348814741910323) + ((((p0 - (((p0.toUInt64 >>> ((1 : Int32).toInt64.toUInt64 &&& Int64.toUInt64 63)).toInt64) &&& 6148914691236517205)).toUInt64 >>> ((2 : Int32).toInt64.toUInt64 &&& Int64.toUInt64 63)).toInt64) &&& 3689348814741910323)).toUInt64 >>> ((4 : Int32).toInt64.toUInt64 &&& Int64.toUInt64 63)).toInt64)) &&& 1085102592571150095) + (((((((p0 - (((p0.toUInt64 >>> ((1 : Int32).toInt64.toUInt64 &&& Int64.toUInt64 63)).toInt64) &&& 6148914691236517205)) &&& 3689348814741910323) + ((((p0 - (((p0.toUInt64 >>> ((1 : Int32).toInt64.toUInt64 &&& Int64.toUInt64 63)).toInt64) &&& 6148914691236517205)).toUInt64 >>> ((2 : Int32).toInt64.toUInt64 &&& Int64.toUInt64 63)).toInt64) &&& 3689348814741910323)) + (((((p0 - (((p0.toUInt64 >>> ((1 : Int32).toInt64.toUInt64 &&& Int64.toUInt64 63)).toInt64) &&& 6148914691236517205)) &&& 3689348814741910323) + ((((p0 - (((p0.toUInt64 >>> ((1 : Int32).toInt64.toUInt64 &&& Int64.toUInt64 63)).toInt64) &&& 6148914691236517205)).toUInt64 >>> ((2 : Int32).toInt64.toUInt64 &&& Int64.toUInt64 63)).toInt64) &&& 3689348814741910323)).toUInt64 >>> ((4 : Int32).toInt64.toUInt64 &&& Int64.toUInt64 63)).toInt64)) &&& 1085102592571150095).toUInt64 >>> ((8 : Int32).toInt64.toUInt64 &&& Int64.toUInt64 63)).toInt64)) + ((((((((p0 - (((p0.toUInt64 >>> ((1 : Int32).toInt64.toUInt64 &&& Int64.toUInt64 63)).toInt64) &&& 6148914691236517205)) &&& 3689348814741910323) + ((((p0 - (((p0.toUInt64 >>> ((1 : Int32).toInt64.toUInt64 &&& Int64.toUInt64 63)).toInt64) &&& 6148914691236517205)).toUInt64 >>> ((2 : Int32).toInt64.toUInt64 &&& Int64.toUInt64 63)).toInt64) &&& 3689348814741910323)) + (((((p0 - (((p0.toUInt64 >>> ((1 : Int32).toInt64.toUInt64 &&& Int64.toUInt64 63)).toInt64) &&& 6148914691236517205)) &&& 3689348814741910323) + ((((p0 - (((p0.toUInt64 >>> ((1 : Int32).toInt64.toUInt64 &&& Int64.toUInt64 63)).toInt64) &&& 6148914691236517205)).toUInt64 >>> ((2 : Int32).toInt64.toUInt64 &&& Int64.toUInt64 63)).toInt64) &&& 3689348814741910323)).toUInt64 >>> ((4 : Int32).toInt64.toUInt64 &&& Int64.toUInt64 63)).toInt64)) &&& 1085102592571150095) + (((((((p0 - (((p0.toUInt64 >>> ((1 : Int32).toInt64.toUInt64 &&& Int64.toUInt64 63)).toInt64) &&& 6148914691236517205)) &&& 3689348814741910323) + ((((p0 - (((p0.toUInt64 >>> ((1 : Int32).toInt64.toUInt64 &&& Int64.toUInt64 63)).toInt64) &&& 6148914691236517205)).toUInt64 >>> ((2 : Int32).toInt64.toUInt64 &&& Int64.toUInt64 63)).toInt64) &&& 3689348814741910323)) + (((((p0 - (((p0.toUInt64 >>> ((1 : Int32).toInt64.toUInt64 &&& Int64.toUInt64 63)).toInt64) &&& 6148914691236517205)) &&& 3689348814741910323) + ((((p0 - (((p0.toUInt64 >>> ((1 : Int32).toInt64.toUInt64 &&& Int64.toUInt64 63)).toInt64) &&& 6148914691236517205)).toUInt64 >>> ((2 : Int32).toInt64.toUInt64 &&& Int64.toUInt64 63)).toInt64) &&& 3689348814741910323)).toUInt64 >>> ((4 : Int32).toInt64.toUInt64 &&& Int64.toUInt64 63)).toInt64)) &&& 1085102592571150095).toUInt64 >>> ((8 : Int32).toInt64.toUInt64 &&& Int64.toUInt64 63)).toInt64)).toUInt64 >>> ((16 : Int32).toInt64.toUInt64 &&& Int64.toUInt64 63)).toInt64)).toUInt64 >>> ((32 : Int32).toInt64.toUInt64 &&& Int64.toUInt64 63)).toInt64)))]) hK dJ26_bitCount_54 rfl (Nat.le_of_ble_eq_true rfl) rfl ?_
  refine s_lload_n hK dJ26_bitCount_55 rfl 0 rfl ?_
  refine s_l2i hK dJ26_bitCount_56 ?_
  refine s_bipush (v := 127) hK dJ26_bitCount_57 rfl ?_
  refine s_iand hK dJ26_bitCount_59 ?_
  exact s_iret hK dJ26_bitCount_60
theorem ct_J26_bitCount {G : GC} {l : Launch} (g : GOK G l) (p0 : Int64) (h : AH) : CT G l yJ26_bitCount (Cond.code yJ26_bitCount cJ26_bitCount 2 (some (.int))) 1 16 [.long p0] (f_J26_bitCount p0 h) h :=
  CT.of g (by decide) (by simp only [ls_a, ls_i, ls_l, ls_n]; decide) (fun K _ hK hf hlo => by simp only [la_a, la_i, la_l, la_n]; exact sm_J26_bitCount hK hf hlo p0 h)
abbrev FR_J20_wordIndex : Nat := 1
abbrev LO_J20_wordIndex : Nat := 16
theorem dyJ20_wordIndex : DY yJ20_wordIndex 1 := ⟨⟨by decide, by decide⟩, by decide +kernel⟩
theorem sm_J20_wordIndex {G : GC} {K : SC} (hK : SOK G K RJ20 cJ20_wordIndex 1 (some (.int)) "wordIndex" []) (hf : FR_J20_wordIndex ≤ (kR K).frames) (hlo : LO_J20_wordIndex ≤ (kR K).locals) (p0 : Int32) (h : AH) : Sim G K 1 (f_J20_wordIndex p0 h) h 0 [(0, .int p0)] [] := by
  unfold f_J20_wordIndex
  refine s_iload_n hK dJ20_wordIndex_0 rfl 0 rfl ?_
  refine s_bipush (v := 6) hK dJ20_wordIndex_1 rfl ?_
  refine s_ishr hK dJ20_wordIndex_3 ?_
  exact s_iret hK dJ20_wordIndex_4
theorem ct_J20_wordIndex {G : GC} {l : Launch} (g : GOK G l) (p0 : Int32) (h : AH) : CT G l yJ20_wordIndex (Cond.code yJ20_wordIndex cJ20_wordIndex 1 (some (.int))) 1 16 [.int p0] (f_J20_wordIndex p0 h) h :=
  CT.of g (by decide) (by simp only [ls_a, ls_i, ls_l, ls_n]; decide) (fun K _ hK hf hlo => by simp only [la_a, la_i, la_l, la_n]; exact sm_J20_wordIndex hK hf hlo p0 h)
abbrev FR_J20_initWords : Nat := 2
abbrev LO_J20_initWords : Nat := 36
theorem dyJ20_initWords : DY yJ20_initWords 1 := ⟨⟨by decide, by decide⟩, by decide +kernel⟩
theorem sm_J20_initWords {G : GC} {K : SC} (hK : SOK G K RJ20 cJ20_initWords 2 (none) "initWords" []) (hf : FR_J20_initWords ≤ (kR K).frames) (hlo : LO_J20_initWords ≤ (kR K).locals) (p0 : Option Nat) (p1 : Int32) (h : AH) : Sim G K 2 (f_J20_initWords p0 p1 h) h 0 [(0, va_rf p0), (1, .int p1)] [] := by
  unfold f_J20_initWords
  refine s_aload_n hK dJ20_initWords_0 rfl 0 rfl ?_
  refine s_iload_n hK dJ20_initWords_1 rfl 1 rfl ?_
  refine s_iconst (v := 1) hK dJ20_initWords_2 rfl ?_
  refine s_isub hK dJ20_initWords_3 ?_
  refine s_cI hK ho_n (cx_s (As := [.int (p1 - 1)]) (rest := [va_rf p0]) hK dyJ20_wordIndex rfl q273 q274 q106 q275 (ct_J20_wordIndex hK.1 (p1 - 1) h) (Nat.le_trans (Nat.le_of_ble_eq_true rfl) hf) (Nat.le_trans (Nat.le_of_ble_eq_true rfl) hlo) (rk_a rk_n) (Nat.le_of_ble_eq_true rfl) dJ20_initWords_4 rfl) (fun v2 h1 => ?_)
  refine s_iconst (v := 1) hK dJ20_initWords_7 rfl ?_
  refine s_iadd hK dJ20_initWords_8 ?_
  refine s_newJ hK dJ20_initWords_9 (fun a3 h4 => ?_)
  refine s_pF hK fcJ20 0 (Nat.le_of_ble_eq_true rfl) (Or.inl q276) (Or.inl rfl) (Or.inl rfl) (nr_r _) (ft_r _) dJ20_initWords_11 (fun h5 => ?_)
  exact s_vret hK dJ20_initWords_14
theorem ct_J20_initWords {G : GC} {l : Launch} (g : GOK G l) (p0 : Option Nat) (p1 : Int32) (h : AH) : CT G l yJ20_initWords (Cond.code yJ20_initWords cJ20_initWords 2 (none)) 2 36 [va_rf p0, .int p1] (f_J20_initWords p0 p1 h) h :=
  CT.of g (by decide) (by simp only [ls_a, ls_i, ls_l, ls_n]; decide) (fun K _ hK hf hlo => by simp only [la_a, la_i, la_l, la_n]; exact sm_J20_initWords hK hf hlo p0 p1 h)
abbrev FR_J20_init : Nat := 3
abbrev LO_J20_init : Nat := 57
theorem dyJ20_init : DY yJ20_init 0 := ⟨⟨by decide, by decide⟩, by decide +kernel⟩
theorem sm_J20_init {G : GC} {K : SC} (hK : SOK G K RJ20 cJ20_init 1 (none) "<init>" []) (hf : FR_J20_init ≤ (kR K).frames) (hlo : LO_J20_init ≤ (kR K).locals) (p0 : Option Nat) (h : AH) : Sim G K 1 (f_J20_init p0 h) h 0 [(0, va_rf p0)] [] := by
  unfold f_J20_init
  refine s_aload_n hK dJ20_init_0 rfl 0 rfl ?_
  refine s_oinit hK q268 q124 q125 dJ20_init_1 (Nat.le_trans (Nat.le_of_ble_eq_true rfl) hf) rk_n (Nat.le_trans (Nat.le_of_ble_eq_true rfl) hlo) ?_
  refine s_aload_n hK dJ20_init_4 rfl 0 rfl ?_
  refine s_iconst (v := 0) hK dJ20_init_5 rfl ?_
  refine s_pF hK fcJ20 1 (Nat.le_of_ble_eq_true rfl) (Or.inl q277) (Or.inl rfl) (Or.inl rfl) rfl rfl dJ20_init_6 (fun h1 => ?_)
  refine s_aload_n hK dJ20_init_9 rfl 0 rfl ?_
  refine s_iconst (v := 0) hK dJ20_init_10 rfl ?_
  refine s_pZ hK fcJ20 2 (Nat.le_of_ble_eq_true rfl) (Or.inl q278) (Or.inl rfl) (Or.inl rfl) rfl dJ20_init_11 (fun h2 => ?_)
  refine s_aload_n hK dJ20_init_14 rfl 0 rfl ?_
  refine s_bipush (v := 64) hK dJ20_init_15 rfl ?_
  refine s_rc (fun _ _ eo er => ?_)
  refine s_cV hK ho_n (cx_v (As := [.int 64]) (rest := []) hK dyJ20_initWords rfl q269 fcJ20.1 q271 qs1 q106 q272 eo er (ct_J20_initWords hK.1 p0 64 h2) (Nat.le_trans (Nat.le_of_ble_eq_true rfl) hf) (Nat.le_trans (Nat.le_of_ble_eq_true rfl) hlo) rk_n (Nat.le_of_ble_eq_true rfl) dJ20_init_17 rfl) (fun h3 => ?_)
  refine s_aload_n hK dJ20_init_20 rfl 0 rfl ?_
  refine s_iconst (v := 0) hK dJ20_init_21 rfl ?_
  refine s_pZ hK fcJ20 2 (Nat.le_of_ble_eq_true rfl) (Or.inl q278) (Or.inl rfl) (Or.inl rfl) rfl dJ20_init_22 (fun h4 => ?_)
  exact s_vret hK dJ20_init_25
theorem ct_J20_init {G : GC} {l : Launch} (g : GOK G l) (p0 : Option Nat) (h : AH) : CT G l yJ20_init (Cond.code yJ20_init cJ20_init 1 (none)) 3 57 [va_rf p0] (f_J20_init p0 h) h :=
  CT.of g (by decide) (by simp only [ls_a, ls_i, ls_l, ls_n]; decide) (fun K _ hK hf hlo => by simp only [la_a, la_i, la_l, la_n]; exact sm_J20_init hK hf hlo p0 h)
abbrev FR_J20_checkInvariants : Nat := 1
abbrev LO_J20_checkInvariants : Nat := 16
theorem dyJ20_checkInvariants : DY yJ20_checkInvariants 0 := ⟨⟨by decide, by decide⟩, by decide +kernel⟩
theorem sm_J20_checkInvariants_J70 {G : GC} {K : SC} (hK : SOK G K RJ20 cJ20_checkInvariants 1 (none) "checkInvariants" []) (hf : FR_J20_checkInvariants ≤ (kR K).frames) (hlo : LO_J20_checkInvariants ≤ (kR K).locals) (x5 : Option Nat)  (h6 : AH) : Sim G K 1 (f_J20_checkInvariants_J70 x5 h6) h6 70 [(0, va_rf x5)] [] := by
  unfold f_J20_checkInvariants_J70
  refine s_getsI hK 3 rfl q764 (Or.inl rfl) dJ20_checkInvariants_70 (fun v7 => ?_)
  refine s_if_ne (tgt := 110) hK dJ20_checkInvariants_73 (by decide) (fun c16 => ?_) (fun c16 => ?_)
  · exact s_vret hK dJ20_checkInvariants_110
  · refine s_aload_n hK dJ20_checkInvariants_76 rfl 0 rfl ?_
    refine s_gI hK fcJ20 1 (Nat.le_of_ble_eq_true rfl) (Or.inl q277) (Or.inl rfl) dJ20_checkInvariants_77 (fun v8 => ?_)
    refine s_aload_n hK dJ20_checkInvariants_80 rfl 0 rfl ?_
    refine s_gA hK fcJ20 0 (Nat.le_of_ble_eq_true rfl) (Or.inl q276) (Or.inl rfl) dJ20_checkInvariants_81 (fun v9 => ?_)
    refine s_alen hK dJ20_checkInvariants_84 (fun v10 => ?_)
    refine s_icmp_eq (tgt := 110) hK dJ20_checkInvariants_85 (by decide) (fun c15 => ?_) (fun c15 => ?_)
    · exact s_vret hK dJ20_checkInvariants_110
    · refine s_aload_n hK dJ20_checkInvariants_88 rfl 0 rfl ?_
      refine s_gA hK fcJ20 0 (Nat.le_of_ble_eq_true rfl) (Or.inl q276) (Or.inl rfl) dJ20_checkInvariants_89 (fun v11 => ?_)
      refine s_aload_n hK dJ20_checkInvariants_92 rfl 0 rfl ?_
      refine s_gI hK fcJ20 1 (Nat.le_of_ble_eq_true rfl) (Or.inl q277) (Or.inl rfl) dJ20_checkInvariants_93 (fun v12 => ?_)
      refine s_lald hK dJ20_checkInvariants_96 (fun v13 => ?_)
      refine s_lconst (v := 0) hK dJ20_checkInvariants_97 rfl ?_
      refine s_lcmp hK dJ20_checkInvariants_98 ?_
      refine s_if_eq (tgt := 110) hK dJ20_checkInvariants_99 (by decide) (fun c14 => ?_) (fun c14 => ?_)
      · exact s_vret hK dJ20_checkInvariants_110
      · exact s_none
theorem sm_J20_checkInvariants_J37 {G : GC} {K : SC} (hK : SOK G K RJ20 cJ20_checkInvariants 1 (none) "checkInvariants" []) (hf : FR_J20_checkInvariants ≤ (kR K).frames) (hlo : LO_J20_checkInvariants ≤ (kR K).locals) (x2 : Option Nat)  (h3 : AH) : Sim G K 1 (f_J20_checkInvariants_J37 x2 h3) h3 37 [(0, va_rf x2)] [] := by
  unfold f_J20_checkInvariants_J37
  refine s_getsI hK 3 rfl q764 (Or.inl rfl) dJ20_checkInvariants_37 (fun v4 => ?_)
  refine s_if_ne (tgt := 70) hK dJ20_checkInvariants_40 (by decide) (fun c23 => ?_) (fun c23 => ?_)
  · exact sm_J20_checkInvariants_J70 hK hf hlo x2 h3
  · refine s_aload_n hK dJ20_checkInvariants_43 rfl 0 rfl ?_
    refine s_gI hK fcJ20 1 (Nat.le_of_ble_eq_true rfl) (Or.inl q277) (Or.inl rfl) dJ20_checkInvariants_44 (fun v17 => ?_)
    refine s_if_lt (tgt := 62) hK dJ20_checkInvariants_47 (by decide) (fun c22 => ?_) (fun c22 => ?_)
    · exact s_none
    · refine s_aload_n hK dJ20_checkInvariants_50 rfl 0 rfl ?_
      refine s_gI hK fcJ20 1 (Nat.le_of_ble_eq_true rfl) (Or.inl q277) (Or.inl rfl) dJ20_checkInvariants_51 (fun v18 => ?_)
      refine s_aload_n hK dJ20_checkInvariants_54 rfl 0 rfl ?_
      refine s_gA hK fcJ20 0 (Nat.le_of_ble_eq_true rfl) (Or.inl q276) (Or.inl rfl) dJ20_checkInvariants_55 (fun v19 => ?_)
      refine s_alen hK dJ20_checkInvariants_58 (fun v20 => ?_)
      refine s_icmp_le (tgt := 70) hK dJ20_checkInvariants_59 (by decide) (fun c21 => ?_) (fun c21 => ?_)
      · exact sm_J20_checkInvariants_J70 hK hf hlo x2 h3
      · exact s_none
theorem sm_J20_checkInvariants {G : GC} {K : SC} (hK : SOK G K RJ20 cJ20_checkInvariants 1 (none) "checkInvariants" []) (hf : FR_J20_checkInvariants ≤ (kR K).frames) (hlo : LO_J20_checkInvariants ≤ (kR K).locals) (p0 : Option Nat) (h : AH) : Sim G K 1 (f_J20_checkInvariants p0 h) h 0 [(0, va_rf p0)] [] := by
  unfold f_J20_checkInvariants
  refine s_getsI hK 3 rfl q764 (Or.inl rfl) dJ20_checkInvariants_0 (fun v1 => ?_)
  refine s_if_ne (tgt := 37) hK dJ20_checkInvariants_3 (by decide) (fun c30 => ?_) (fun c30 => ?_)
  · exact sm_J20_checkInvariants_J37 hK hf hlo p0 h
  · refine s_aload_n hK dJ20_checkInvariants_6 rfl 0 rfl ?_
    refine s_gI hK fcJ20 1 (Nat.le_of_ble_eq_true rfl) (Or.inl q277) (Or.inl rfl) dJ20_checkInvariants_7 (fun v24 => ?_)
    refine s_if_eq (tgt := 37) hK dJ20_checkInvariants_10 (by decide) (fun c29 => ?_) (fun c29 => ?_)
    · exact sm_J20_checkInvariants_J37 hK hf hlo p0 h
    · refine s_aload_n hK dJ20_checkInvariants_13 rfl 0 rfl ?_
      refine s_gA hK fcJ20 0 (Nat.le_of_ble_eq_true rfl) (Or.inl q276) (Or.inl rfl) dJ20_checkInvariants_14 (fun v25 => ?_)
      refine s_aload_n hK dJ20_checkInvariants_17 rfl 0 rfl ?_
      refine s_gI hK fcJ20 1 (Nat.le_of_ble_eq_true rfl) (Or.inl q277) (Or.inl rfl) dJ20_checkInvariants_18 (fun v26 => ?_)
      refine s_iconst (v := 1) hK dJ20_checkInvariants_21 rfl ?_
      refine s_isub hK dJ20_checkInvariants_22 ?_
      refine s_lald hK dJ20_checkInvariants_23 (fun v27 => ?_)
      refine s_lconst (v := 0) hK dJ20_checkInvariants_24 rfl ?_
      refine s_lcmp hK dJ20_checkInvariants_25 ?_
      refine s_if_ne (tgt := 37) hK dJ20_checkInvariants_26 (by decide) (fun c28 => ?_) (fun c28 => ?_)
      · exact sm_J20_checkInvariants_J37 hK hf hlo p0 h
      · exact s_none
theorem ct_J20_checkInvariants {G : GC} {l : Launch} (g : GOK G l) (p0 : Option Nat) (h : AH) : CT G l yJ20_checkInvariants (Cond.code yJ20_checkInvariants cJ20_checkInvariants 1 (none)) 1 16 [va_rf p0] (f_J20_checkInvariants p0 h) h :=
  CT.of g (by decide) (by simp only [ls_a, ls_i, ls_l, ls_n]; decide) (fun K _ hK hf hlo => by simp only [la_a, la_i, la_l, la_n]; exact sm_J20_checkInvariants hK hf hlo p0 h)
abbrev FR_J20_ensureCapacity : Nat := 2
abbrev LO_J20_ensureCapacity : Nat := 142
theorem dyJ20_ensureCapacity : DY yJ20_ensureCapacity 1 := ⟨⟨by decide, by decide⟩, by decide +kernel⟩
theorem sm_J20_ensureCapacity {G : GC} {K : SC} (hK : SOK G K RJ20 cJ20_ensureCapacity 3 (none) "ensureCapacity" []) (hf : FR_J20_ensureCapacity ≤ (kR K).frames) (hlo : LO_J20_ensureCapacity ≤ (kR K).locals) (p0 : Option Nat) (p1 : Int32) (h : AH) : Sim G K 3 (f_J20_ensureCapacity p0 p1 h) h 0 [(0, va_rf p0), (1, .int p1)] [] := by
  unfold f_J20_ensureCapacity
  refine s_aload_n hK dJ20_ensureCapacity_0 rfl 0 rfl ?_
  refine s_gA hK fcJ20 0 (Nat.le_of_ble_eq_true rfl) (Or.inl q276) (Or.inl rfl) dJ20_ensureCapacity_1 (fun v1 => ?_)
  refine s_alen hK dJ20_ensureCapacity_4 (fun v2 => ?_)
  refine s_iload_n hK dJ20_ensureCapacity_5 rfl 1 rfl ?_
  refine s_icmp_ge (tgt := 38) hK dJ20_ensureCapacity_6 (by decide) (fun c10 => ?_) (fun c10 => ?_)
  · exact s_vret hK dJ20_ensureCapacity_38
  · refine s_iconst (v := 2) hK dJ20_ensureCapacity_9 rfl ?_
    refine s_aload_n hK dJ20_ensureCapacity_10 rfl 0 rfl ?_
    refine s_gA hK fcJ20 0 (Nat.le_of_ble_eq_true rfl) (Or.inl q276) (Or.inl rfl) dJ20_ensureCapacity_11 (fun v3 => ?_)
    refine s_alen hK dJ20_ensureCapacity_14 (fun v4 => ?_)
    refine s_imul hK dJ20_ensureCapacity_15 ?_
    refine s_iload_n hK dJ20_ensureCapacity_16 rfl 1 rfl ?_
    refine s_mmax hK q887 q557 q94 q558 (Nat.le_trans (Nat.le_of_ble_eq_true rfl) hf) rk_n (Nat.le_trans (Nat.le_of_ble_eq_true rfl) hlo) dJ20_ensureCapacity_17 ?_
    refine s_istore_n (lv' := [(2, .int (mxI (2 * v4) p1)), (0, va_rf p0), (1, .int p1)]) hK dJ20_ensureCapacity_20 rfl (Nat.le_of_ble_eq_true rfl) rfl ?_
    refine s_aload_n hK dJ20_ensureCapacity_21 rfl 1 rfl ?_
    refine s_aload_n hK dJ20_ensureCapacity_22 rfl 1 rfl ?_
    refine s_gA hK fcJ20 0 (Nat.le_of_ble_eq_true rfl) (Or.inl q276) (Or.inl rfl) dJ20_ensureCapacity_23 (fun v5 => ?_)
    refine s_iload_n hK dJ20_ensureCapacity_26 rfl 0 rfl ?_
    refine s_cA hK ho_n (cx_s (As := [va_rf v5, .int (mxI (2 * v4) p1)]) (rest := [va_rf p0]) hK dyJ12_copyOf_4 rfl q888 q889 q95 q890 (ct_J12_copyOf_4 hK.1 v5 (mxI (2 * v4) p1) h) (Nat.le_trans (Nat.le_of_ble_eq_true rfl) hf) (Nat.le_trans (Nat.le_of_ble_eq_true rfl) hlo) (rk_a rk_n) (Nat.le_of_ble_eq_true rfl) dJ20_ensureCapacity_27 rfl) (fun v7 h6 => ?_)
    refine s_pF hK fcJ20 0 (Nat.le_of_ble_eq_true rfl) (Or.inl q276) (Or.inl rfl) (Or.inl rfl) (nr_r _) (ft_r _) dJ20_ensureCapacity_30 (fun h8 => ?_)
    refine s_aload_n hK dJ20_ensureCapacity_33 rfl 1 rfl ?_
    refine s_iconst (v := 0) hK dJ20_ensureCapacity_34 rfl ?_
    refine s_pZ hK fcJ20 2 (Nat.le_of_ble_eq_true rfl) (Or.inl q278) (Or.inl rfl) (Or.inl rfl) rfl dJ20_ensureCapacity_35 (fun h9 => ?_)
    exact s_vret hK dJ20_ensureCapacity_38
theorem ct_J20_ensureCapacity {G : GC} {l : Launch} (g : GOK G l) (p0 : Option Nat) (p1 : Int32) (h : AH) : CT G l yJ20_ensureCapacity (Cond.code yJ20_ensureCapacity cJ20_ensureCapacity 3 (none)) 2 142 [va_rf p0, .int p1] (f_J20_ensureCapacity p0 p1 h) h :=
  CT.of g (by decide) (by simp only [ls_a, ls_i, ls_l, ls_n]; decide) (fun K _ hK hf hlo => by simp only [la_a, la_i, la_l, la_n]; exact sm_J20_ensureCapacity hK hf hlo p0 p1 h)
abbrev FR_J20_expandTo : Nat := 3
abbrev LO_J20_expandTo : Nat := 164
theorem dyJ20_expandTo : DY yJ20_expandTo 1 := ⟨⟨by decide, by decide⟩, by decide +kernel⟩
theorem sm_J20_expandTo {G : GC} {K : SC} (hK : SOK G K RJ20 cJ20_expandTo 3 (none) "expandTo" []) (hf : FR_J20_expandTo ≤ (kR K).frames) (hlo : LO_J20_expandTo ≤ (kR K).locals) (p0 : Option Nat) (p1 : Int32) (h : AH) : Sim G K 3 (f_J20_expandTo p0 p1 h) h 0 [(0, va_rf p0), (1, .int p1)] [] := by
  unfold f_J20_expandTo
  refine s_iload_n hK dJ20_expandTo_0 rfl 1 rfl ?_
  refine s_iconst (v := 1) hK dJ20_expandTo_1 rfl ?_
  refine s_iadd hK dJ20_expandTo_2 ?_
  refine s_istore_n (lv' := [(2, .int (p1 + 1)), (0, va_rf p0), (1, .int p1)]) hK dJ20_expandTo_3 rfl (Nat.le_of_ble_eq_true rfl) rfl ?_
  refine s_aload_n hK dJ20_expandTo_4 rfl 1 rfl ?_
  refine s_gI hK fcJ20 1 (Nat.le_of_ble_eq_true rfl) (Or.inl q277) (Or.inl rfl) dJ20_expandTo_5 (fun v1 => ?_)
  refine s_iload_n hK dJ20_expandTo_8 rfl 0 rfl ?_
  refine s_icmp_ge (tgt := 22) hK dJ20_expandTo_9 (by decide) (fun c4 => ?_) (fun c4 => ?_)
  · exact s_vret hK dJ20_expandTo_22
  · refine s_aload_n hK dJ20_expandTo_12 rfl 1 rfl ?_
    refine s_iload_n hK dJ20_expandTo_13 rfl 0 rfl ?_
    refine s_rc (fun _ _ eo er => ?_)
    refine s_cV hK ho_n (cx_v (As := [.int (p1 + 1)]) (rest := []) hK dyJ20_ensureCapacity rfl q883 fcJ20.1 q885 qs12 q106 q886 eo er (ct_J20_ensureCapacity hK.1 p0 (p1 + 1) h) (Nat.le_trans (Nat.le_of_ble_eq_true rfl) hf) (Nat.le_trans (Nat.le_of_ble_eq_true rfl) hlo) rk_n (Nat.le_of_ble_eq_true rfl) dJ20_expandTo_14 rfl) (fun h2 => ?_)
    refine s_aload_n hK dJ20_expandTo_17 rfl 1 rfl ?_
    refine s_iload_n hK dJ20_expandTo_18 rfl 0 rfl ?_
    refine s_pF hK fcJ20 1 (Nat.le_of_ble_eq_true rfl) (Or.inl q277) (Or.inl rfl) (Or.inl rfl) rfl rfl dJ20_expandTo_19 (fun h3 => ?_)
    exact s_vret hK dJ20_expandTo_22
theorem ct_J20_expandTo {G : GC} {l : Launch} (g : GOK G l) (p0 : Option Nat) (p1 : Int32) (h : AH) : CT G l yJ20_expandTo (Cond.code yJ20_expandTo cJ20_expandTo 3 (none)) 3 164 [va_rf p0, .int p1] (f_J20_expandTo p0 p1 h) h :=
  CT.of g (by decide) (by simp only [ls_a, ls_i, ls_l, ls_n]; decide) (fun K _ hK hf hlo => by simp only [la_a, la_i, la_l, la_n]; exact sm_J20_expandTo hK hf hlo p0 p1 h)
abbrev FR_J20_set : Nat := 4
abbrev LO_J20_set : Nat := 186
theorem dyJ20_set : DY yJ20_set 1 := ⟨⟨by decide, by decide⟩, by decide +kernel⟩
theorem sm_J20_set {G : GC} {K : SC} (hK : SOK G K RJ20 cJ20_set 3 (none) "set" []) (hf : FR_J20_set ≤ (kR K).frames) (hlo : LO_J20_set ≤ (kR K).locals) (p0 : Option Nat) (p1 : Int32) (h : AH) : Sim G K 3 (f_J20_set p0 p1 h) h 0 [(0, va_rf p0), (1, .int p1)] [] := by
  unfold f_J20_set
  refine s_iload_n hK dJ20_set_0 rfl 1 rfl ?_
  refine s_if_ge (tgt := 31) hK dJ20_set_1 (by decide) (fun c8 => ?_) (fun c8 => ?_)
  · refine s_iload_n hK dJ20_set_31 rfl 1 rfl ?_
    refine s_cI hK ho_n (cx_s (As := [.int p1]) (rest := []) hK dyJ20_wordIndex rfl q273 q274 q106 q275 (ct_J20_wordIndex hK.1 p1 h) (Nat.le_trans (Nat.le_of_ble_eq_true rfl) hf) (Nat.le_trans (Nat.le_of_ble_eq_true rfl) hlo) rk_n (Nat.le_of_ble_eq_true rfl) dJ20_set_32 rfl) (fun v2 h1 => ?_)
    refine s_istore_n (lv' := [(2, .int v2), (0, va_rf p0), (1, .int p1)]) hK dJ20_set_35 rfl (Nat.le_of_ble_eq_true rfl) rfl ?_
    refine s_aload_n hK dJ20_set_36 rfl 1 rfl ?_
    refine s_iload_n hK dJ20_set_37 rfl 0 rfl ?_
    refine s_rc (fun _ _ eo er => ?_)
    refine s_cV hK ho_n (cx_v (As := [.int v2]) (rest := []) hK dyJ20_expandTo rfl q879 fcJ20.1 q881 qs11 q106 q882 eo er (ct_J20_expandTo hK.1 p0 v2 h1) (Nat.le_trans (Nat.le_of_ble_eq_true rfl) hf) (Nat.le_trans (Nat.le_of_ble_eq_true rfl) hlo) rk_n (Nat.le_of_ble_eq_true rfl) dJ20_set_38 rfl) (fun h3 => ?_)
    refine s_aload_n hK dJ20_set_41 rfl 1 rfl ?_
    refine s_gA hK fcJ20 0 (Nat.le_of_ble_eq_true rfl) (Or.inl q276) (Or.inl rfl) dJ20_set_42 (fun v4 => ?_)
    refine s_iload_n hK dJ20_set_45 rfl 0 rfl ?_
    refine s_dup2 hK dJ20_set_46 rfl (va_cat _) ?_
    refine s_lald hK dJ20_set_47 (fun v5 => ?_)
    refine s_lconst (v := 1) hK dJ20_set_48 rfl ?_
    refine s_iload_n hK dJ20_set_49 rfl 2 rfl ?_
    refine s_lshl hK dJ20_set_50 ?_
    refine s_lor hK dJ20_set_51 ?_
    refine s_last hK dJ20_set_52 (fun h6 => ?_)
    refine s_aload_n hK dJ20_set_53 rfl 1 rfl ?_
    refine s_rc (fun _ _ eo er => ?_)
    refine s_cV hK ho_n (cx_v (As := []) (rest := []) hK dyJ20_checkInvariants rfl q760 fcJ20.1 q762 qs6 q106 q763 eo er (ct_J20_checkInvariants hK.1 p0 h6) (Nat.le_trans (Nat.le_of_ble_eq_true rfl) hf) (Nat.le_trans (Nat.le_of_ble_eq_true rfl) hlo) rk_n (Nat.le_of_ble_eq_true rfl) dJ20_set_54 rfl) (fun h7 => ?_)
    exact s_vret hK dJ20_set_57
  · exact s_none
theorem ct_J20_set {G : GC} {l : Launch} (g : GOK G l) (p0 : Option Nat) (p1 : Int32) (h : AH) : CT G l yJ20_set (Cond.code yJ20_set cJ20_set 3 (none)) 4 186 [va_rf p0, .int p1] (f_J20_set p0 p1 h) h :=
  CT.of g (by decide) (by simp only [ls_a, ls_i, ls_l, ls_n]; decide) (fun K _ hK hf hlo => by simp only [la_a, la_i, la_l, la_n]; exact sm_J20_set hK hf hlo p0 p1 h)
abbrev FR_J20_get : Nat := 2
abbrev LO_J20_get : Nat := 36
theorem dyJ20_get : DY yJ20_get 1 := ⟨⟨by decide, by decide⟩, by decide +kernel⟩
theorem sm_J20_get {G : GC} {K : SC} (hK : SOK G K RJ20 cJ20_get 3 (some (.boolean)) "get" []) (hf : FR_J20_get ≤ (kR K).frames) (hlo : LO_J20_get ≤ (kR K).locals) (p0 : Option Nat) (p1 : Int32) (h : AH) : Sim G K 3 (f_J20_get p0 p1 h) h 0 [(0, va_rf p0), (1, .int p1)] [] := by
  unfold f_J20_get
  refine s_iload_n hK dJ20_get_0 rfl 1 rfl ?_
  refine s_if_ge (tgt := 31) hK dJ20_get_1 (by decide) (fun c9 => ?_) (fun c9 => ?_)
  · refine s_aload_n hK dJ20_get_31 rfl 0 rfl ?_
    refine s_rc (fun _ _ eo er => ?_)
    refine s_cV hK ho_n (cx_v (As := []) (rest := []) hK dyJ20_checkInvariants rfl q760 fcJ20.1 q762 qs6 q106 q763 eo er (ct_J20_checkInvariants hK.1 p0 h) (Nat.le_trans (Nat.le_of_ble_eq_true rfl) hf) (Nat.le_trans (Nat.le_of_ble_eq_true rfl) hlo) rk_n (Nat.le_of_ble_eq_true rfl) dJ20_get_32 rfl) (fun h1 => ?_)
    refine s_iload_n hK dJ20_get_35 rfl 1 rfl ?_
    refine s_cI hK ho_n (cx_s (As := [.int p1]) (rest := []) hK dyJ20_wordIndex rfl q273 q274 q106 q275 (ct_J20_wordIndex hK.1 p1 h1) (Nat.le_trans (Nat.le_of_ble_eq_true rfl) hf) (Nat.le_trans (Nat.le_of_ble_eq_true rfl) hlo) rk_n (Nat.le_of_ble_eq_true rfl) dJ20_get_36 rfl) (fun v3 h2 => ?_)
    refine s_istore_n (lv' := [(2, .int v3), (0, va_rf p0), (1, .int p1)]) hK dJ20_get_39 rfl (Nat.le_of_ble_eq_true rfl) rfl ?_
    refine s_iload_n hK dJ20_get_40 rfl 0 rfl ?_
    refine s_aload_n hK dJ20_get_41 rfl 1 rfl ?_
    refine s_gI hK fcJ20 1 (Nat.le_of_ble_eq_true rfl) (Or.inl q277) (Or.inl rfl) dJ20_get_42 (fun v4 => ?_)
    refine s_icmp_ge (tgt := 67) hK dJ20_get_45 (by decide) (fun c8 => ?_) (fun c8 => ?_)
    · refine s_iconst (v := 0) hK dJ20_get_67 rfl ?_
      exact s_zret hK dJ20_get_68
    · refine s_aload_n hK dJ20_get_48 rfl 1 rfl ?_
      refine s_gA hK fcJ20 0 (Nat.le_of_ble_eq_true rfl) (Or.inl q276) (Or.inl rfl) dJ20_get_49 (fun v5 => ?_)
      refine s_iload_n hK dJ20_get_52 rfl 0 rfl ?_
      refine s_lald hK dJ20_get_53 (fun v6 => ?_)
      refine s_lconst (v := 1) hK dJ20_get_54 rfl ?_
      refine s_iload_n hK dJ20_get_55 rfl 2 rfl ?_
      refine s_lshl hK dJ20_get_56 ?_
      refine s_land hK dJ20_get_57 ?_
      refine s_lconst (v := 0) hK dJ20_get_58 rfl ?_
      refine s_lcmp hK dJ20_get_59 ?_
      refine s_if_eq (tgt := 67) hK dJ20_get_60 (by decide) (fun c7 => ?_) (fun c7 => ?_)
      · refine s_iconst (v := 0) hK dJ20_get_67 rfl ?_
        exact s_zret hK dJ20_get_68
      · refine s_iconst (v := 1) hK dJ20_get_63 rfl ?_
        refine s_goto (tgt := 68) hK dJ20_get_64 (by decide) ?_
        exact s_zret hK dJ20_get_68
  · exact s_none
theorem ct_J20_get {G : GC} {l : Launch} (g : GOK G l) (p0 : Option Nat) (p1 : Int32) (h : AH) : CT G l yJ20_get (Cond.code yJ20_get cJ20_get 3 (some (.boolean))) 2 36 [va_rf p0, .int p1] (f_J20_get p0 p1 h) h :=
  CT.of g (by decide) (by simp only [ls_a, ls_i, ls_l, ls_n]; decide) (fun K _ hK hf hlo => by simp only [la_a, la_i, la_l, la_n]; exact sm_J20_get hK hf hlo p0 p1 h)
abbrev FR_J20_nextSetBit : Nat := 3
abbrev LO_J20_nextSetBit : Nat := 59
theorem dyJ20_nextSetBit : DY yJ20_nextSetBit 1 := ⟨⟨by decide, by decide⟩, by decide +kernel⟩
theorem sm_J20_nextSetBit_L63 {G : GC} {K : SC} (hK : SOK G K RJ20 cJ20_nextSetBit 5 (some (.int)) "nextSetBit" []) (hf : FR_J20_nextSetBit ≤ (kR K).frames) (hlo : LO_J20_nextSetBit ≤ (kR K).locals) {k90 : AH → RS} (hk90 : ∀  (h : AH), Sim G K 5 (k90  h) h 90 [] []) : ∀ (n : Nat) (x7 : Option Nat) (x8 : Int32) (x9 : Int64) (h10 : AH), Sim G K 5 (f_J20_nextSetBit_L63 k90 n x7 x8 x9 h10) h10 63 [(0, va_rf x7), (2, .int x8), (3, .long x9)] [] := by
  intro n
  induction n with
  | zero => intro x7 x8 x9 h10; exact s_none
  | succ n ih =>
    intro x7 x8 x9 h10
    rw [f_J20_nextSetBit_L63]
    refine s_lload_n hK dJ20_nextSetBit_63 rfl 2 rfl ?_
    refine s_lconst (v := 0) hK dJ20_nextSetBit_64 rfl ?_
    refine s_lcmp hK dJ20_nextSetBit_65 ?_
    refine s_if_eq (tgt := 79) hK dJ20_nextSetBit_66 (by decide) (fun c17 => ?_) (fun c17 => ?_)
    · refine s_iinc (j := 1) (v := 1) (lv' := [(2, .int (x8 + 1)), (0, va_rf x7), (3, .long x9)]) hK dJ20_nextSetBit_79 rfl rfl (Nat.le_of_ble_eq_true rfl) rfl ?_
      refine s_iload_n hK dJ20_nextSetBit_82 rfl 0 rfl ?_
      refine s_aload_n hK dJ20_nextSetBit_83 rfl 1 rfl ?_
      refine s_gI hK fcJ20 1 (Nat.le_of_ble_eq_true rfl) (Or.inl q277) (Or.inl rfl) dJ20_nextSetBit_84 (fun v11 => ?_)
      refine s_icmp_ne (tgt := 92) hK dJ20_nextSetBit_87 (by decide) (fun c14 => ?_) (fun c14 => ?_)
      · refine s_aload_n hK dJ20_nextSetBit_92 rfl 1 rfl ?_
        refine s_gA hK fcJ20 0 (Nat.le_of_ble_eq_true rfl) (Or.inl q276) (Or.inl rfl) dJ20_nextSetBit_93 (fun v12 => ?_)
        refine s_iload_n hK dJ20_nextSetBit_96 rfl 0 rfl ?_
        refine s_lald hK dJ20_nextSetBit_97 (fun v13 => ?_)
        refine s_lstore_n (lv' := [(3, .long v13), (2, .int (x8 + 1)), (0, va_rf x7)]) hK dJ20_nextSetBit_98 rfl (Nat.le_of_ble_eq_true rfl) rfl ?_
        refine s_goto (tgt := 63) hK dJ20_nextSetBit_99 (by decide) ?_
        refine s_sub [2, 1, 0] rfl ?_
        exact ih x7 (x8 + 1) v13 h10
      · refine s_sub [] rfl ?_
        exact hk90  h10
    · refine s_iload_n hK dJ20_nextSetBit_69 rfl 1 rfl ?_
      refine s_bipush (v := 64) hK dJ20_nextSetBit_70 rfl ?_
      refine s_imul hK dJ20_nextSetBit_72 ?_
      refine s_lload_n hK dJ20_nextSetBit_73 rfl 2 rfl ?_
      refine s_cI hK ho_n (cx_s (As := [.long x9]) (rest := [.int (x8 * 64)]) hK dyJ26_numberOfTrailingZeros rfl q1036 q1037 q114 q1038 (ct_J26_numberOfTrailingZeros hK.1 x9 h10) (Nat.le_trans (Nat.le_of_ble_eq_true rfl) hf) (Nat.le_trans (Nat.le_of_ble_eq_true rfl) hlo) (rk_i rk_n) (Nat.le_of_ble_eq_true rfl) dJ20_nextSetBit_74 rfl) (fun v16 h15 => ?_)
      refine s_iadd hK dJ20_nextSetBit_77 ?_
      exact s_iret hK dJ20_nextSetBit_78
theorem sm_J20_nextSetBit {G : GC} {K : SC} (hK : SOK G K RJ20 cJ20_nextSetBit 5 (some (.int)) "nextSetBit" []) (hf : FR_J20_nextSetBit ≤ (kR K).frames) (hlo : LO_J20_nextSetBit ≤ (kR K).locals) (p0 : Option Nat) (p1 : Int32) (h : AH) : Sim G K 5 (f_J20_nextSetBit p0 p1 h) h 0 [(0, va_rf p0), (1, .int p1)] [] := by
  unfold f_J20_nextSetBit
  refine s_iload_n hK dJ20_nextSetBit_0 rfl 1 rfl ?_
  refine s_if_ge (tgt := 31) hK dJ20_nextSetBit_1 (by decide) (fun c20 => ?_) (fun c20 => ?_)
  · refine s_aload_n hK dJ20_nextSetBit_31 rfl 0 rfl ?_
    refine s_rc (fun _ _ eo er => ?_)
    refine s_cV hK ho_n (cx_v (As := []) (rest := []) hK dyJ20_checkInvariants rfl q760 fcJ20.1 q762 qs6 q106 q763 eo er (ct_J20_checkInvariants hK.1 p0 h) (Nat.le_trans (Nat.le_of_ble_eq_true rfl) hf) (Nat.le_trans (Nat.le_of_ble_eq_true rfl) hlo) rk_n (Nat.le_of_ble_eq_true rfl) dJ20_nextSetBit_32 rfl) (fun h1 => ?_)
    refine s_iload_n hK dJ20_nextSetBit_35 rfl 1 rfl ?_
    refine s_cI hK ho_n (cx_s (As := [.int p1]) (rest := []) hK dyJ20_wordIndex rfl q273 q274 q106 q275 (ct_J20_wordIndex hK.1 p1 h1) (Nat.le_trans (Nat.le_of_ble_eq_true rfl) hf) (Nat.le_trans (Nat.le_of_ble_eq_true rfl) hlo) rk_n (Nat.le_of_ble_eq_true rfl) dJ20_nextSetBit_36 rfl) (fun v3 h2 => ?_)
    refine s_istore_n (lv' := [(2, .int v3), (0, va_rf p0), (1, .int p1)]) hK dJ20_nextSetBit_39 rfl (Nat.le_of_ble_eq_true rfl) rfl ?_
    refine s_iload_n hK dJ20_nextSetBit_40 rfl 0 rfl ?_
    refine s_aload_n hK dJ20_nextSetBit_41 rfl 1 rfl ?_
    refine s_gI hK fcJ20 1 (Nat.le_of_ble_eq_true rfl) (Or.inl q277) (Or.inl rfl) dJ20_nextSetBit_42 (fun v4 => ?_)
    refine s_icmp_lt (tgt := 50) hK dJ20_nextSetBit_45 (by decide) (fun c19 => ?_) (fun c19 => ?_)
    · refine s_aload_n hK dJ20_nextSetBit_50 rfl 1 rfl ?_
      refine s_gA hK fcJ20 0 (Nat.le_of_ble_eq_true rfl) (Or.inl q276) (Or.inl rfl) dJ20_nextSetBit_51 (fun v5 => ?_)
      refine s_iload_n hK dJ20_nextSetBit_54 rfl 0 rfl ?_
      refine s_lald hK dJ20_nextSetBit_55 (fun v6 => ?_)
      refine s_ldc2 hK q1035 dJ20_nextSetBit_56 ?_
      refine s_iload_n hK dJ20_nextSetBit_59 rfl 2 rfl ?_
      refine s_lshl hK dJ20_nextSetBit_60 ?_
      refine s_land hK dJ20_nextSetBit_61 ?_
      refine s_lstore_n (lv' := [(3, .long (v6 &&& ((-1 : Int64) <<< (p1.toInt64 &&& 63)))), (2, .int v3), (0, va_rf p0), (1, .int p1)]) hK dJ20_nextSetBit_62 rfl (Nat.le_of_ble_eq_true rfl) rfl ?_
      refine s_sub [2, 1, 0] rfl ?_
      refine sm_J20_nextSetBit_L63 hK hf hlo (fun h18 => ?_) FUEL p0 v3 (v6 &&& ((-1 : Int64) <<< (p1.toInt64 &&& 63))) h2
      · refine s_iconst (v := (-1)) hK dJ20_nextSetBit_90 rfl ?_
        exact s_iret hK dJ20_nextSetBit_91
    · refine s_iconst (v := (-1)) hK dJ20_nextSetBit_48 rfl ?_
      exact s_iret hK dJ20_nextSetBit_49
  · exact s_none
theorem ct_J20_nextSetBit {G : GC} {l : Launch} (g : GOK G l) (p0 : Option Nat) (p1 : Int32) (h : AH) : CT G l yJ20_nextSetBit (Cond.code yJ20_nextSetBit cJ20_nextSetBit 5 (some (.int))) 3 59 [va_rf p0, .int p1] (f_J20_nextSetBit p0 p1 h) h :=
  CT.of g (by decide) (by simp only [ls_a, ls_i, ls_l, ls_n]; decide) (fun K _ hK hf hlo => by simp only [la_a, la_i, la_l, la_n]; exact sm_J20_nextSetBit hK hf hlo p0 p1 h)
abbrev FR_J20_cardinality : Nat := 2
abbrev LO_J20_cardinality : Nat := 37
theorem dyJ20_cardinality : DY yJ20_cardinality 0 := ⟨⟨by decide, by decide⟩, by decide +kernel⟩
theorem sm_J20_cardinality_L4 {G : GC} {K : SC} (hK : SOK G K RJ20 cJ20_cardinality 3 (some (.int)) "cardinality" []) (hf : FR_J20_cardinality ≤ (kR K).frames) (hlo : LO_J20_cardinality ≤ (kR K).locals) {k30 : Int32 → AH → RS} (hk30 : ∀ (y0 : Int32) (h : AH), Sim G K 3 (k30 y0 h) h 30 [(1, .int y0)] []) : ∀ (n : Nat) (x1 : Option Nat) (x2 : Int32) (x3 : Int32) (h4 : AH), Sim G K 3 (f_J20_cardinality_L4 k30 n x1 x2 x3 h4) h4 4 [(0, va_rf x1), (1, .int x2), (2, .int x3)] [] := by
  intro n
  induction n with
  | zero => intro x1 x2 x3 h4; exact s_none
  | succ n ih =>
    intro x1 x2 x3 h4
    rw [f_J20_cardinality_L4]
    refine s_iload_n hK dJ20_cardinality_4 rfl 2 rfl ?_
    refine s_aload_n hK dJ20_cardinality_5 rfl 0 rfl ?_
    refine s_gI hK fcJ20 1 (Nat.le_of_ble_eq_true rfl) (Or.inl q277) (Or.inl rfl) dJ20_cardinality_6 (fun v5 => ?_)
    refine s_icmp_ge (tgt := 30) hK dJ20_cardinality_9 (by decide) (fun c10 => ?_) (fun c10 => ?_)
    · refine s_sub [1] rfl ?_
      exact hk30 x2 h4
    · refine s_iload_n hK dJ20_cardinality_12 rfl 1 rfl ?_
      refine s_aload_n hK dJ20_cardinality_13 rfl 0 rfl ?_
      refine s_gA hK fcJ20 0 (Nat.le_of_ble_eq_true rfl) (Or.inl q276) (Or.inl rfl) dJ20_cardinality_14 (fun v6 => ?_)
      refine s_iload_n hK dJ20_cardinality_17 rfl 2 rfl ?_
      refine s_lald hK dJ20_cardinality_18 (fun v7 => ?_)
      refine s_cI hK ho_n (cx_s (As := [.long v7]) (rest := [.int x2]) hK dyJ26_bitCount rfl q1125 q1126 q114 q1127 (ct_J26_bitCount hK.1 v7 h4) (Nat.le_trans (Nat.le_of_ble_eq_true rfl) hf) (Nat.le_trans (Nat.le_of_ble_eq_true rfl) hlo) (rk_i rk_n) (Nat.le_of_ble_eq_true rfl) dJ20_cardinality_19 rfl) (fun v9 h8 => ?_)
      refine s_iadd hK dJ20_cardinality_22 ?_
      refine s_istore_n (lv' := [(1, .int (x2 + v9)), (0, va_rf x1), (2, .int x3)]) hK dJ20_cardinality_23 rfl (Nat.le_of_ble_eq_true rfl) (flA (pre := []) (suf := [(1, .int x2), (2, .int x3)]) rfl rfl) ?_
      refine s_iinc (j := 2) (v := 1) (lv' := [(2, .int (x3 + 1)), (1, .int (x2 + v9)), (0, va_rf x1)]) hK dJ20_cardinality_24 rfl rfl (Nat.le_of_ble_eq_true rfl) rfl ?_
      refine s_goto (tgt := 4) hK dJ20_cardinality_27 (by decide) ?_
      refine s_sub [2, 1, 0] rfl ?_
      exact ih x1 (x2 + v9) (x3 + 1) h8
theorem sm_J20_cardinality {G : GC} {K : SC} (hK : SOK G K RJ20 cJ20_cardinality 3 (some (.int)) "cardinality" []) (hf : FR_J20_cardinality ≤ (kR K).frames) (hlo : LO_J20_cardinality ≤ (kR K).locals) (p0 : Option Nat) (h : AH) : Sim G K 3 (f_J20_cardinality p0 h) h 0 [(0, va_rf p0)] [] := by
  unfold f_J20_cardinality
  refine s_iconst (v := 0) hK dJ20_cardinality_0 rfl ?_
  refine s_istore_n (lv' := [(1, .int 0), (0, va_rf p0)]) hK dJ20_cardinality_1 rfl (Nat.le_of_ble_eq_true rfl) (flA (pre := []) (suf := []) rfl rfl) ?_
  refine s_iconst (v := 0) hK dJ20_cardinality_2 rfl ?_
  refine s_istore_n (lv' := [(2, .int 0), (1, .int 0), (0, va_rf p0)]) hK dJ20_cardinality_3 rfl (Nat.le_of_ble_eq_true rfl) rfl ?_
  refine s_sub [2, 1, 0] rfl ?_
  refine sm_J20_cardinality_L4 hK hf hlo (fun x11 h12 => ?_) FUEL p0 0 0 h
  · refine s_iload_n hK dJ20_cardinality_30 rfl 0 rfl ?_
    exact s_iret hK dJ20_cardinality_31
theorem ct_J20_cardinality {G : GC} {l : Launch} (g : GOK G l) (p0 : Option Nat) (h : AH) : CT G l yJ20_cardinality (Cond.code yJ20_cardinality cJ20_cardinality 3 (some (.int))) 2 37 [va_rf p0] (f_J20_cardinality p0 h) h :=
  CT.of g (by decide) (by simp only [ls_a, ls_i, ls_l, ls_n]; decide) (fun K _ hK hf hlo => by simp only [la_a, la_i, la_l, la_n]; exact sm_J20_cardinality hK hf hlo p0 h)
abbrev FR_J20_recalculateWordsInUse : Nat := 1
abbrev LO_J20_recalculateWordsInUse : Nat := 16
theorem dyJ20_recalculateWordsInUse : DY yJ20_recalculateWordsInUse 0 := ⟨⟨by decide, by decide⟩, by decide +kernel⟩
theorem sm_J20_recalculateWordsInUse_L7 {G : GC} {K : SC} (hK : SOK G K RJ20 cJ20_recalculateWordsInUse 2 (none) "recalculateWordsInUse" []) (hf : FR_J20_recalculateWordsInUse ≤ (kR K).frames) (hlo : LO_J20_recalculateWordsInUse ≤ (kR K).locals) {k31 : Option Nat → Int32 → AH → RS} (hk31 : ∀ (y0 : Option Nat) (y1 : Int32) (h : AH), Sim G K 2 (k31 y0 y1 h) h 31 [(0, va_rf y0), (1, .int y1)] []) : ∀ (n : Nat) (x2 : Option Nat) (x3 : Int32) (h4 : AH), Sim G K 2 (f_J20_recalculateWordsInUse_L7 k31 n x2 x3 h4) h4 7 [(0, va_rf x2), (1, .int x3)] [] := by
  intro n
  induction n with
  | zero => intro x2 x3 h4; exact s_none
  | succ n ih =>
    intro x2 x3 h4
    rw [f_J20_recalculateWordsInUse_L7]
    refine s_iload_n hK dJ20_recalculateWordsInUse_7 rfl 1 rfl ?_
    refine s_if_lt (tgt := 31) hK dJ20_recalculateWordsInUse_8 (by decide) (fun c8 => ?_) (fun c8 => ?_)
    · exact hk31 x2 x3 h4
    · refine s_aload_n hK dJ20_recalculateWordsInUse_11 rfl 0 rfl ?_
      refine s_gA hK fcJ20 0 (Nat.le_of_ble_eq_true rfl) (Or.inl q276) (Or.inl rfl) dJ20_recalculateWordsInUse_12 (fun v5 => ?_)
      refine s_iload_n hK dJ20_recalculateWordsInUse_15 rfl 1 rfl ?_
      refine s_lald hK dJ20_recalculateWordsInUse_16 (fun v6 => ?_)
      refine s_lconst (v := 0) hK dJ20_recalculateWordsInUse_17 rfl ?_
      refine s_lcmp hK dJ20_recalculateWordsInUse_18 ?_
      refine s_if_eq (tgt := 25) hK dJ20_recalculateWordsInUse_19 (by decide) (fun c7 => ?_) (fun c7 => ?_)
      · refine s_iinc (j := 1) (v := (-1)) (lv' := [(1, .int (x3 + (-1))), (0, va_rf x2)]) hK dJ20_recalculateWordsInUse_25 rfl rfl (Nat.le_of_ble_eq_true rfl) (flA (pre := []) (suf := [(1, .int x3)]) rfl rfl) ?_
        refine s_goto (tgt := 7) hK dJ20_recalculateWordsInUse_28 (by decide) ?_
        refine s_sub [1, 0] rfl ?_
        exact ih x2 (x3 + (-1)) h4
      · refine s_goto (tgt := 31) hK dJ20_recalculateWordsInUse_22 (by decide) ?_
        exact hk31 x2 x3 h4
theorem sm_J20_recalculateWordsInUse_J31 {G : GC} {K : SC} (hK : SOK G K RJ20 cJ20_recalculateWordsInUse 2 (none) "recalculateWordsInUse" []) (hf : FR_J20_recalculateWordsInUse ≤ (kR K).frames) (hlo : LO_J20_recalculateWordsInUse ≤ (kR K).locals) (x12 : Option Nat) (x13 : Int32)  (h14 : AH) : Sim G K 2 (f_J20_recalculateWordsInUse_J31 x12 x13 h14) h14 31 [(0, va_rf x12), (1, .int x13)] [] := by
  unfold f_J20_recalculateWordsInUse_J31
  refine s_aload_n hK dJ20_recalculateWordsInUse_31 rfl 0 rfl ?_
  refine s_iload_n hK dJ20_recalculateWordsInUse_32 rfl 1 rfl ?_
  refine s_iconst (v := 1) hK dJ20_recalculateWordsInUse_33 rfl ?_
  refine s_iadd hK dJ20_recalculateWordsInUse_34 ?_
  refine s_pF hK fcJ20 1 (Nat.le_of_ble_eq_true rfl) (Or.inl q277) (Or.inl rfl) (Or.inl rfl) rfl rfl dJ20_recalculateWordsInUse_35 (fun h15 => ?_)
  exact s_vret hK dJ20_recalculateWordsInUse_38
theorem sm_J20_recalculateWordsInUse {G : GC} {K : SC} (hK : SOK G K RJ20 cJ20_recalculateWordsInUse 2 (none) "recalculateWordsInUse" []) (hf : FR_J20_recalculateWordsInUse ≤ (kR K).frames) (hlo : LO_J20_recalculateWordsInUse ≤ (kR K).locals) (p0 : Option Nat) (h : AH) : Sim G K 2 (f_J20_recalculateWordsInUse p0 h) h 0 [(0, va_rf p0)] [] := by
  unfold f_J20_recalculateWordsInUse
  refine s_aload_n hK dJ20_recalculateWordsInUse_0 rfl 0 rfl ?_
  refine s_gI hK fcJ20 1 (Nat.le_of_ble_eq_true rfl) (Or.inl q277) (Or.inl rfl) dJ20_recalculateWordsInUse_1 (fun v1 => ?_)
  refine s_iconst (v := 1) hK dJ20_recalculateWordsInUse_4 rfl ?_
  refine s_isub hK dJ20_recalculateWordsInUse_5 ?_
  refine s_istore_n (lv' := [(1, .int (v1 - 1)), (0, va_rf p0)]) hK dJ20_recalculateWordsInUse_6 rfl (Nat.le_of_ble_eq_true rfl) (flA (pre := []) (suf := []) rfl rfl) ?_
  refine s_sub [1, 0] rfl ?_
  refine sm_J20_recalculateWordsInUse_L7 hK hf hlo (fun x9 x10 h11 => ?_) FUEL p0 (v1 - 1) h
  · exact sm_J20_recalculateWordsInUse_J31 hK hf hlo x9 x10 h11
theorem ct_J20_recalculateWordsInUse {G : GC} {l : Launch} (g : GOK G l) (p0 : Option Nat) (h : AH) : CT G l yJ20_recalculateWordsInUse (Cond.code yJ20_recalculateWordsInUse cJ20_recalculateWordsInUse 2 (none)) 1 16 [va_rf p0] (f_J20_recalculateWordsInUse p0 h) h :=
  CT.of g (by decide) (by simp only [ls_a, ls_i, ls_l, ls_n]; decide) (fun K _ hK hf hlo => by simp only [la_a, la_i, la_l, la_n]; exact sm_J20_recalculateWordsInUse hK hf hlo p0 h)
abbrev FR_J20_and : Nat := 2
abbrev LO_J20_and : Nat := 37
theorem dyJ20_and : DY yJ20_and 1 := ⟨⟨by decide, by decide⟩, by decide +kernel⟩
theorem sm_J20_and_L6 {G : GC} {K : SC} (hK : SOK G K RJ20 cJ20_and 3 (none) "and" []) (hf : FR_J20_and ≤ (kR K).frames) (hlo : LO_J20_and ≤ (kR K).locals) {k37 : Option Nat → Option Nat → AH → RS} (hk37 : ∀ (y0 : Option Nat) (y1 : Option Nat) (h : AH), Sim G K 3 (k37 y0 y1 h) h 37 [(0, va_rf y0), (1, va_rf y1)] []) : ∀ (n : Nat) (x1 : Option Nat) (x2 : Option Nat) (h3 : AH), Sim G K 3 (f_J20_and_L6 k37 n x1 x2 h3) h3 6 [(0, va_rf x1), (1, va_rf x2)] [] := by
  intro n
  induction n with
  | zero => intro x1 x2 h3; exact s_none
  | succ n ih =>
    intro x1 x2 h3
    rw [f_J20_and_L6]
    refine s_aload_n hK dJ20_and_6 rfl 0 rfl ?_
    refine s_gI hK fcJ20 1 (Nat.le_of_ble_eq_true rfl) (Or.inl q277) (Or.inl rfl) dJ20_and_7 (fun v4 => ?_)
    refine s_aload_n hK dJ20_and_10 rfl 1 rfl ?_
    refine s_gI hK fcJ20 1 (Nat.le_of_ble_eq_true rfl) (Or.inl q277) (Or.inl rfl) dJ20_and_11 (fun v5 => ?_)
    refine s_icmp_le (tgt := 37) hK dJ20_and_14 (by decide) (fun c10 => ?_) (fun c10 => ?_)
    · exact hk37 x1 x2 h3
    · refine s_aload_n hK dJ20_and_17 rfl 0 rfl ?_
      refine s_gA hK fcJ20 0 (Nat.le_of_ble_eq_true rfl) (Or.inl q276) (Or.inl rfl) dJ20_and_18 (fun v6 => ?_)
      refine s_aload_n hK dJ20_and_21 rfl 0 rfl ?_
      refine s_dup hK dJ20_and_22 (va_cat _) ?_
      refine s_gI hK fcJ20 1 (Nat.le_of_ble_eq_true rfl) (Or.inl q277) (Or.inl rfl) dJ20_and_23 (fun v7 => ?_)
      refine s_iconst (v := 1) hK dJ20_and_26 rfl ?_
      refine s_isub hK dJ20_and_27 ?_
      refine s_dup_x1 hK dJ20_and_28 rfl (va_cat _) ?_
      refine s_pF hK fcJ20 1 (Nat.le_of_ble_eq_true rfl) (Or.inl q277) (Or.inl rfl) (Or.inl rfl) rfl rfl dJ20_and_29 (fun h8 => ?_)
      refine s_lconst (v := 0) hK dJ20_and_32 rfl ?_
      refine s_last hK dJ20_and_33 (fun h9 => ?_)
      refine s_goto (tgt := 6) hK dJ20_and_34 (by decide) ?_
      exact ih x1 x2 h9
theorem sm_J20_and_L39 {G : GC} {K : SC} (hK : SOK G K RJ20 cJ20_and 3 (none) "and" []) (hf : FR_J20_and ≤ (kR K).frames) (hlo : LO_J20_and ≤ (kR K).locals) {k68 : Option Nat → AH → RS} (hk68 : ∀ (y0 : Option Nat) (h : AH), Sim G K 3 (k68 y0 h) h 68 [(0, va_rf y0)] []) : ∀ (n : Nat) (x14 : Option Nat) (x15 : Option Nat) (x16 : Int32) (h17 : AH), Sim G K 3 (f_J20_and_L39 k68 n x14 x15 x16 h17) h17 39 [(0, va_rf x14), (1, va_rf x15), (2, .int x16)] [] := by
  intro n
  induction n with
  | zero => intro x14 x15 x16 h17; exact s_none
  | succ n ih =>
    intro x14 x15 x16 h17
    rw [f_J20_and_L39]
    refine s_iload_n hK dJ20_and_39 rfl 2 rfl ?_
    refine s_aload_n hK dJ20_and_40 rfl 0 rfl ?_
    refine s_gI hK fcJ20 1 (Nat.le_of_ble_eq_true rfl) (Or.inl q277) (Or.inl rfl) dJ20_and_41 (fun v18 => ?_)
    refine s_icmp_ge (tgt := 68) hK dJ20_and_44 (by decide) (fun c24 => ?_) (fun c24 => ?_)
    · refine s_sub [0] rfl ?_
      exact hk68 x14 h17
    · refine s_aload_n hK dJ20_and_47 rfl 0 rfl ?_
      refine s_gA hK fcJ20 0 (Nat.le_of_ble_eq_true rfl) (Or.inl q276) (Or.inl rfl) dJ20_and_48 (fun v19 => ?_)
      refine s_iload_n hK dJ20_and_51 rfl 2 rfl ?_
      refine s_dup2 hK dJ20_and_52 rfl (va_cat _) ?_
      refine s_lald hK dJ20_and_53 (fun v20 => ?_)
      refine s_aload_n hK dJ20_and_54 rfl 1 rfl ?_
      refine s_gA hK fcJ20 0 (Nat.le_of_ble_eq_true rfl) (Or.inl q276) (Or.inl rfl) dJ20_and_55 (fun v21 => ?_)
      refine s_iload_n hK dJ20_and_58 rfl 2 rfl ?_
      refine s_lald hK dJ20_and_59 (fun v22 => ?_)
      refine s_land hK dJ20_and_60 ?_
      refine s_last hK dJ20_and_61 (fun h23 => ?_)
      refine s_iinc (j := 2) (v := 1) (lv' := [(2, .int (x16 + 1)), (0, va_rf x14), (1, va_rf x15)]) hK dJ20_and_62 rfl rfl (Nat.le_of_ble_eq_true rfl) (flA (pre := [(0, va_rf x14)]) (suf := [(2, .int x16)]) rfl rfl) ?_
      refine s_goto (tgt := 39) hK dJ20_and_65 (by decide) ?_
      refine s_sub [1, 2, 0] rfl ?_
      exact ih x14 x15 (x16 + 1) h23
theorem sm_J20_and {G : GC} {K : SC} (hK : SOK G K RJ20 cJ20_and 3 (none) "and" []) (hf : FR_J20_and ≤ (kR K).frames) (hlo : LO_J20_and ≤ (kR K).locals) (p0 : Option Nat) (p1 : Option Nat) (h : AH) : Sim G K 3 (f_J20_and p0 p1 h) h 0 [(0, va_rf p0), (1, va_rf p1)] [] := by
  unfold f_J20_and
  refine s_aload_n hK dJ20_and_0 rfl 0 rfl ?_
  refine s_aload_n hK dJ20_and_1 rfl 1 rfl ?_
  refine s_acmp_ne (tgt := 6) hK dJ20_and_2 (by decide) (fun c29 => ?_) (fun c29 => ?_)
  · refine sm_J20_and_L6 hK hf hlo (fun x11 x12 h13 => ?_) FUEL p0 p1 h
    · refine s_iconst (v := 0) hK dJ20_and_37 rfl ?_
      refine s_istore_n (lv' := [(2, .int 0), (0, va_rf x11), (1, va_rf x12)]) hK dJ20_and_38 rfl (Nat.le_of_ble_eq_true rfl) (flA (pre := [(0, va_rf x11)]) (suf := []) rfl rfl) ?_
      refine s_sub [1, 2, 0] rfl ?_
      refine sm_J20_and_L39 hK hf hlo (fun x25 h26 => ?_) FUEL x11 x12 0 h13
      · refine s_aload_n hK dJ20_and_68 rfl 0 rfl ?_
        refine s_rc (fun _ _ eo er => ?_)
        refine s_cV hK ho_n (cx_v (As := []) (rest := []) hK dyJ20_recalculateWordsInUse rfl q1064 fcJ20.1 q1066 qs22 q106 q1067 eo er (ct_J20_recalculateWordsInUse hK.1 x25 h26) (Nat.le_trans (Nat.le_of_ble_eq_true rfl) hf) (Nat.le_trans (Nat.le_of_ble_eq_true rfl) hlo) rk_n (Nat.le_of_ble_eq_true rfl) dJ20_and_69 rfl) (fun h27 => ?_)
        refine s_aload_n hK dJ20_and_72 rfl 0 rfl ?_
        refine s_rc (fun _ _ eo er => ?_)
        refine s_cV hK ho_n (cx_v (As := []) (rest := []) hK dyJ20_checkInvariants rfl q760 fcJ20.1 q762 qs6 q106 q763 eo er (ct_J20_checkInvariants hK.1 x25 h27) (Nat.le_trans (Nat.le_of_ble_eq_true rfl) hf) (Nat.le_trans (Nat.le_of_ble_eq_true rfl) hlo) rk_n (Nat.le_of_ble_eq_true rfl) dJ20_and_73 rfl) (fun h28 => ?_)
        exact s_vret hK dJ20_and_76
  · exact s_vret hK dJ20_and_5
theorem ct_J20_and {G : GC} {l : Launch} (g : GOK G l) (p0 : Option Nat) (p1 : Option Nat) (h : AH) : CT G l yJ20_and (Cond.code yJ20_and cJ20_and 3 (none)) 2 37 [va_rf p0, va_rf p1] (f_J20_and p0 p1 h) h :=
  CT.of g (by decide) (by simp only [ls_a, ls_i, ls_l, ls_n]; decide) (fun K _ hK hf hlo => by simp only [la_a, la_i, la_l, la_n]; exact sm_J20_and hK hf hlo p0 p1 h)
abbrev FR_J0_init_3 : Nat := 1
abbrev LO_J0_init_3 : Nat := 16
theorem dyJ0_init_3 : DY yJ0_init_3 4 := ⟨⟨by decide, by decide⟩, by decide +kernel⟩
theorem sm_J0_init_3 {G : GC} {K : SC} (hK : SOK G K RJ0 cJ0_init_3 5 (none) "<init>" []) (hf : FR_J0_init_3 ≤ (kR K).frames) (hlo : LO_J0_init_3 ≤ (kR K).locals) (p0 : Option Nat) (p1 : Option Nat) (p2 : Option Nat) (p3 : Int32) (p4 : Int32) (h : AH) : Sim G K 5 (f_J0_init_3 p0 p1 p2 p3 p4 h) h 0 [(0, va_rf p0), (1, va_rf p1), (2, va_rf p2), (3, .int p3), (4, .int p4)] [] := by
  unfold f_J0_init_3
  refine s_aload_n hK dJ0_init_3_0 rfl 0 rfl ?_
  refine s_oinit hK q349 q124 q125 dJ0_init_3_1 (Nat.le_trans (Nat.le_of_ble_eq_true rfl) hf) rk_n (Nat.le_trans (Nat.le_of_ble_eq_true rfl) hlo) ?_
  refine s_aload_n hK dJ0_init_3_4 rfl 0 rfl ?_
  refine s_aload_n hK dJ0_init_3_5 rfl 0 rfl ?_
  refine s_pF hK fcX4 0 (Nat.le_of_ble_eq_true rfl) (Or.inl q385) (Or.inl rfl) (Or.inl rfl) (nr_o _) (ft_o _) dJ0_init_3_6 (fun h1 => ?_)
  refine s_aload_n hK dJ0_init_3_9 rfl 0 rfl ?_
  refine s_getsA hK 4 rfl q350 (Or.inl rfl) dJ0_init_3_10 (fun v2 => ?_)
  refine s_pF hK fcX4 1 (Nat.le_of_ble_eq_true rfl) (Or.inl q386) (Or.inl rfl) (Or.inl rfl) (nr_r _) (ft_r _) dJ0_init_3_13 (fun h3 => ?_)
  refine s_aload_n hK dJ0_init_3_16 rfl 0 rfl ?_
  refine s_getsA hK 5 rfl q352 (Or.inl rfl) dJ0_init_3_17 (fun v4 => ?_)
  refine s_pF hK fcX4 2 (Nat.le_of_ble_eq_true rfl) (Or.inl q387) (Or.inl rfl) (Or.inl rfl) (nr_o _) (ft_o _) dJ0_init_3_20 (fun h5 => ?_)
  refine s_iload hK dJ0_init_3_23 4 rfl ?_
  refine s_if_eq (tgt := 36) hK dJ0_init_3_25 (by decide) (fun c11 => ?_) (fun c11 => ?_)
  · refine s_aload_n hK dJ0_init_3_36 rfl 0 rfl ?_
    refine s_null hK dJ0_init_3_37 ?_
    refine s_pF hK fcX4 1 (Nat.le_of_ble_eq_true rfl) (Or.inl q386) (Or.inl rfl) (Or.inl rfl) (nr_r _) (ft_r _) dJ0_init_3_38 (fun h6 => ?_)
    refine s_aload_n hK dJ0_init_3_41 rfl 0 rfl ?_
    refine s_aload_n hK dJ0_init_3_42 rfl 1 rfl ?_
    refine s_pF hK fcX4 3 (Nat.le_of_ble_eq_true rfl) (Or.inl q384) (Or.inl rfl) (Or.inl rfl) (nr_o _) (ft_o _) dJ0_init_3_43 (fun h7 => ?_)
    refine s_aload_n hK dJ0_init_3_46 rfl 0 rfl ?_
    refine s_aload_n hK dJ0_init_3_47 rfl 2 rfl ?_
    refine s_pF hK fcX4 0 (Nat.le_of_ble_eq_true rfl) (Or.inl q385) (Or.inl rfl) (Or.inl rfl) (nr_o _) (ft_o _) dJ0_init_3_48 (fun h8 => ?_)
    refine s_iload_n hK dJ0_init_3_51 rfl 3 rfl ?_
    refine s_if_ne (tgt := 60) hK dJ0_init_3_52 (by decide) (fun c10 => ?_) (fun c10 => ?_)
    · exact s_vret hK dJ0_init_3_60
    · refine s_aload_n hK dJ0_init_3_55 rfl 0 rfl ?_
      refine s_null hK dJ0_init_3_56 ?_
      refine s_pF hK fcX4 2 (Nat.le_of_ble_eq_true rfl) (Or.inl q387) (Or.inl rfl) (Or.inl rfl) (nr_o _) (ft_o _) dJ0_init_3_57 (fun h9 => ?_)
      exact s_vret hK dJ0_init_3_60
  · refine s_aload_n hK dJ0_init_3_28 rfl 0 rfl ?_
    exact s_none
theorem ct_J0_init_3 {G : GC} {l : Launch} (g : GOK G l) (p0 : Option Nat) (p1 : Option Nat) (p2 : Option Nat) (p3 : Int32) (p4 : Int32) (h : AH) : CT G l yJ0_init_3 (Cond.code yJ0_init_3 cJ0_init_3 5 (none)) 1 16 [va_rf p0, va_rf p1, va_rf p2, .int p3, .int p4] (f_J0_init_3 p0 p1 p2 p3 p4 h) h :=
  CT.of g (by decide) (by simp only [ls_a, ls_i, ls_l, ls_n]; decide) (fun K _ hK hf hlo => by simp only [la_a, la_i, la_l, la_n]; exact sm_J0_init_3 hK hf hlo p0 p1 p2 p3 p4 h)
abbrev FR_J1_init_3 : Nat := 2
abbrev LO_J1_init_3 : Nat := 40
theorem dyJ1_init_3 : DY yJ1_init_3 4 := ⟨⟨by decide, by decide⟩, by decide +kernel⟩
theorem sm_J1_init_3 {G : GC} {K : SC} (hK : SOK G K RJ1 cJ1_init_3 5 (none) "<init>" []) (hf : FR_J1_init_3 ≤ (kR K).frames) (hlo : LO_J1_init_3 ≤ (kR K).locals) (p0 : Option Nat) (p1 : Option Nat) (p2 : Option Nat) (p3 : Int32) (p4 : Int32) (h : AH) : Sim G K 5 (f_J1_init_3 p0 p1 p2 p3 p4 h) h 0 [(0, va_rf p0), (1, va_rf p1), (2, va_rf p2), (3, .int p3), (4, .int p4)] [] := by
  unfold f_J1_init_3
  refine s_aload_n hK dJ1_init_3_0 rfl 0 rfl ?_
  refine s_aload_n hK dJ1_init_3_1 rfl 1 rfl ?_
  refine s_aload_n hK dJ1_init_3_2 rfl 2 rfl ?_
  refine s_iload_n hK dJ1_init_3_3 rfl 3 rfl ?_
  refine s_iload hK dJ1_init_3_4 4 rfl ?_
  refine s_nn (fun _ eo => ?_)
  refine s_cV hK ho_n (cx_i (As := [va_rf p1, va_rf p2, .int p3, .int p4]) (rest := []) hK dyJ0_init_3 rfl q1193 rfl q1194 q81 q1195 eo (ct_J0_init_3 hK.1 p0 p1 p2 p3 p4 h) (Nat.le_trans (Nat.le_of_ble_eq_true rfl) hf) (Nat.le_trans (Nat.le_of_ble_eq_true rfl) hlo) rk_n (Nat.le_of_ble_eq_true rfl) dJ1_init_3_6 rfl) (fun h1 => ?_)
  exact s_vret hK dJ1_init_3_9
theorem ct_J1_init_3 {G : GC} {l : Launch} (g : GOK G l) (p0 : Option Nat) (p1 : Option Nat) (p2 : Option Nat) (p3 : Int32) (p4 : Int32) (h : AH) : CT G l yJ1_init_3 (Cond.code yJ1_init_3 cJ1_init_3 5 (none)) 2 40 [va_rf p0, va_rf p1, va_rf p2, .int p3, .int p4] (f_J1_init_3 p0 p1 p2 p3 p4 h) h :=
  CT.of g (by decide) (by simp only [ls_a, ls_i, ls_l, ls_n]; decide) (fun K _ hK hf hlo => by simp only [la_a, la_i, la_l, la_n]; exact sm_J1_init_3 hK hf hlo p0 p1 p2 p3 p4 h)
abbrev FR_X4_init : Nat := 3
abbrev LO_X4_init : Nat := 64
theorem dyX4_init : DY yX4_init 1 := ⟨⟨by decide, by decide⟩, by decide +kernel⟩
theorem sm_X4_init {G : GC} {K : SC} (hK : SOK G K RX4 cX4_init 2 (none) "<init>" []) (hf : FR_X4_init ≤ (kR K).frames) (hlo : LO_X4_init ≤ (kR K).locals) (p0 : Option Nat) (p1 : Int32) (h : AH) : Sim G K 2 (f_X4_init p0 p1 h) h 0 [(0, va_rf p0), (1, .int p1)] [] := by
  unfold f_X4_init
  refine s_aload_n hK dX4_init_0 rfl 0 rfl ?_
  refine s_null hK dX4_init_1 ?_
  refine s_null hK dX4_init_2 ?_
  refine s_iconst (v := 0) hK dX4_init_3 rfl ?_
  refine s_iconst (v := 0) hK dX4_init_4 rfl ?_
  refine s_nn (fun _ eo => ?_)
  refine s_cV hK ho_n (cx_i (As := [va_rf none, va_rf none, .int 0, .int 0]) (rest := []) hK dyJ1_init_3 rfl q1190 rfl q1191 q82 q1192 eo (ct_J1_init_3 hK.1 p0 none none 0 0 h) (Nat.le_trans (Nat.le_of_ble_eq_true rfl) hf) (Nat.le_trans (Nat.le_of_ble_eq_true rfl) hlo) rk_n (Nat.le_of_ble_eq_true rfl) dX4_init_5 rfl) (fun h1 => ?_)
  refine s_aload_n hK dX4_init_8 rfl 0 rfl ?_
  refine s_iload_n hK dX4_init_9 rfl 1 rfl ?_
  refine s_pF hK fcX4 6 (Nat.le_of_ble_eq_true rfl) (Or.inl q1196) (Or.inl rfl) (Or.inr ⟨rfl, rfl, rfl, q1196⟩) rfl rfl dX4_init_10 (fun h2 => ?_)
  exact s_vret hK dX4_init_13
theorem ct_X4_init {G : GC} {l : Launch} (g : GOK G l) (p0 : Option Nat) (p1 : Int32) (h : AH) : CT G l yX4_init (Cond.code yX4_init cX4_init 2 (none)) 3 64 [va_rf p0, .int p1] (f_X4_init p0 p1 h) h :=
  CT.of g (by decide) (by simp only [ls_a, ls_i, ls_l, ls_n]; decide) (fun K _ hK hf hlo => by simp only [la_a, la_i, la_l, la_n]; exact sm_X4_init hK hf hlo p0 p1 h)
