/-! printed by mk.py/gen.py -/
set_option maxRecDepth 100000
def f_X3_init (p0 : Option Nat) (h : AH) : RS := xnn p0 (xnA h 0 96 (fun a1 h2 => xpF h2 p0 2 1 (va_rf a1) (fun h3 => xnA h3 0 96 (fun a4 h5 => xpF h5 p0 2 2 (va_rf a4) (fun h6 => xnA h6 0 4 (fun a7 h8 => xpF h8 p0 2 3 (va_rf a7) (fun h9 => xnA h9 0 4 (fun a10 h11 => xpF h11 p0 2 4 (va_rf a10) (fun h12 => xpF h12 p0 2 7 (.int 4) (fun h13 => xnA h13 0 60 (fun a14 h15 => xpF h15 p0 2 12 (va_rf a14) (fun h16 => xpF h16 p0 2 14 (.int (-1)) (fun h17 => xnA h17 0 96 (fun a18 h19 => xpF h19 p0 2 16 (va_rf a18) (fun h20 => xnA h20 0 96 (fun a21 h22 => xpF h22 p0 2 17 (va_rf a21) (fun h23 => xnA h23 0 96 (fun a24 h25 => xpF h25 p0 2 18 (va_rf a24) (fun h26 => xnA h26 0 96 (fun a27 h28 => xpF h28 p0 2 19 (va_rf a27) (fun h29 => xnA h29 1 96 (fun a30 h31 => xpF h31 p0 2 20 (va_rf a30) (fun h32 => xnA h32 1 256 (fun a33 h34 => xpF h34 p0 2 21 (va_rf a33) (fun h35 => xnA h35 0 1024 (fun a36 h37 => xpF h37 p0 2 22 (va_rf a36) (fun h38 => xnA h38 0 96 (fun a39 h40 => xpF h40 p0 2 30 (va_rf a39) (fun h41 => xnA h41 0 48 (fun a42 h43 => xpF h43 p0 2 31 (va_rf a42) (fun h44 => xnA h44 0 48 (fun a45 h46 => xpF h46 p0 2 32 (va_rf a45) (fun h47 => xnA h47 0 48 (fun a48 h49 => xpF h49 p0 2 33 (va_rf a48) (fun h50 => xnA h50 0 48 (fun a51 h52 => xpF h52 p0 2 34 (va_rf a51) (fun h53 => xnA h53 0 768 (fun a54 h55 => xpF h55 p0 2 35 (va_rf a54) (fun h56 => xnA h56 0 96 (fun a57 h58 => xpF h58 p0 2 36 (va_rf a57) (fun h59 => xnA h59 0 96 (fun a60 h61 => xpF h61 p0 2 37 (va_rf a60) (fun h62 => xnA h62 0 96 (fun a63 h64 => xpF h64 p0 2 38 (va_rf a63) (fun h65 => xnA h65 0 96 (fun a66 h67 => xpF h67 p0 2 40 (va_rf a66) (fun h68 => xnA h68 0 4 (fun a69 h70 => xpF h70 p0 2 41 (va_rf a69) (fun h71 => xnA h71 0 8 (fun a72 h73 => xpF h73 p0 2 42 (va_rf a72) (fun h74 => xnA h74 1 96 (fun a75 h76 => xpF h76 p0 2 45 (va_rf a75) (fun h77 => xnA h77 0 96 (fun a78 h79 => xpF h79 p0 2 46 (va_rf a78) (fun h80 => rtV h80)))))))))))))))))))))))))))))))))))))))))))))))))))))))
def f_X3_thrown (p0 : Option Nat) (h : AH) : RS := xgI h p0 2 0 (fun v1 => rtI v1 h)
def f_X3_in (p0 : Int32) (p1 : Int32) (p2 : Int32) (h : AH) : RS := if p0 < p1 then rtZ 0 h else if p2 < p0 then rtZ 0 h else rtZ 1 h
def f_X3_fails (p0 : Option Nat) (p1 : Int32) (h : AH) : RS := xpF h p0 2 0 (.int p1) (fun h1 => rtI 0 h1)
def f_X3_appendCharacter (p0 : Option Nat) (p1 : Int32) (h : AH) : RS := xpF h p0 2 0 (.int 0) (fun h1 => xcI (f_X3_in p1 33 126 h1) (fun v3 h2 => if ¬ v3 = 0 then xgI h2 p0 2 13 (fun v4 => if ¬ v4 = 60 then xgA h2 p0 2 12 (fun v5 => xgI h2 p0 2 13 (fun v6 => xsI h2 v5 0 v6 p1 (fun h7 => xgI h7 p0 2 13 (fun v8 => xpF h7 p0 2 13 (.int (v8 + 1)) (fun h9 => xgI h9 p0 2 13 (fun v10 => rtI v10 h9)))))) else xrc h2 p0 2 (xcI (f_X3_fails p0 2 h2) (fun v12 h11 => rtI v12 h11))) else xrc h2 p0 2 (xcI (f_X3_fails p0 1 h2) (fun v15 h14 => rtI v15 h14))))
def f_X3_digitOf (p0 : Int32) (h : AH) : RS := xcI (f_X3_in p0 48 57 h) (fun v2 h1 => if v2 = 0 then xcI (f_X3_in p0 97 102 h1) (fun v4 h3 => if v4 = 0 then rtI (-1) h3 else rtI ((p0 - 97) + 10) h3) else rtI (p0 - 48) h1)
def f_X3_changes (p0 : Option Nat) (p1 : Int32) (h : AH) : RS := xpZ h p0 2 15 0 (fun h1 => xgI h1 p0 2 39 (fun v2 => if v2 = 0 then xpZ h1 p0 2 39 0 (fun h3 => rtV h3) else if ¬ p1 = 0 then xpZ h1 p0 2 39 0 (fun h4 => rtV h4) else xpZ h1 p0 2 39 1 (fun h5 => rtV h5)))
def f_X3_addBytes_L7 (k33 : Option Nat → Int32 → AH → RS) : Nat → Option Nat → Int32 → AH → RS
  | 0, _, _, _ => none
  | n + 1, x2, x3, h4 => xgI h4 x2 2 13 (fun v5 => if v5 ≤ x3 then k33 x2 x3 h4 else xgA h4 x2 2 12 (fun v6 => xlI h4 v6 0 x3 (fun v7 => xcI (f_X3_digitOf v7 h4) (fun v9 h8 => if v9 < 0 then k33 x2 x3 h8 else f_X3_addBytes_L7 k33 n x2 (x3 + 1) h8))))
def f_X3_addBytes_L111 (k161 : Option Nat → Int32 → AH → RS) : Nat → Option Nat → Int32 → Int32 → AH → RS
  | 0, _, _, _, _ => none
  | n + 1, x32, x33, x34, h35 => if x33 ≤ x34 then k161 x32 x33 h35 else xgA h35 x32 2 1 (fun v36 => xgI h35 x32 2 5 (fun v37 => xgA h35 x32 2 12 (fun v38 => xlI h35 v38 0 (2 * x34) (fun v39 => xcI (f_X3_digitOf v39 h35) (fun v41 h40 => xgA h40 x32 2 12 (fun v42 => xlI h40 v42 0 ((2 * x34) + 1) (fun v43 => xcI (f_X3_digitOf v43 h40) (fun v45 h44 => xsI h44 v36 0 (v37 + x34) ((16 * v41) + v45) (fun h46 => f_X3_addBytes_L111 k161 n x32 x33 (x34 + 1) h46)))))))))
def f_X3_addBytes_J64 (x23 : Option Nat) (y24 : Int32) (y25 : Option Nat) (h26 : AH) : RS := xpF h26 y25 2 14 (.int y24) (fun h27 => xgI h27 x23 2 13 (fun v28 => xpF h27 x23 2 13 (.int 0) (fun h29 => xgI h29 x23 2 14 (fun v30 => if v30 < 0 then xgI h29 x23 2 5 (fun v31 => if (v31 + (v28 / 2)) ≤ 96 then f_X3_addBytes_L111 (fun x48 x49 h50 => xgI h50 x48 2 5 (fun v51 => xpF h50 x48 2 5 (.int (v51 + x49)) (fun h52 => xrc h52 x48 2 (xcV (f_X3_changes x48 1 h52) (fun h53 => xgI h53 x48 2 5 (fun v54 => rtI v54 h53)))))) FUEL x23 (v28 / 2) 0 h29 else xrc h29 x23 2 (xcI (f_X3_fails x23 2 h29) (fun v56 h55 => rtI v56 h55))) else xrc h29 x23 2 (xcI (f_X3_fails x23 1 h29) (fun v59 h58 => rtI v59 h58))))))
def f_X3_addBytes_J59 (x19 : Option Nat) (x20 : Int32) (y21 : Option Nat) (h22 : AH) : RS := f_X3_addBytes_J64 x19 x20 y21 h22
def f_X3_addBytes_J33 (x15 : Option Nat) (x16 : Int32)  (h17 : AH) : RS := xgI h17 x15 2 13 (fun v18 => if x16 < v18 then f_X3_addBytes_J59 x15 x16 x15 h17 else xgI h17 x15 2 13 (fun v61 => if (v61 - v61 / 2 * 2) = 1 then f_X3_addBytes_J59 x15 x16 x15 h17 else xgI h17 x15 2 13 (fun v62 => if ¬ v62 = 0 then f_X3_addBytes_J64 x15 (-1) x15 h17 else f_X3_addBytes_J59 x15 x16 x15 h17)))
def f_X3_addBytes (p0 : Option Nat) (h : AH) : RS := xpF h p0 2 0 (.int 0) (fun h1 => f_X3_addBytes_L7 (fun x12 x13 h14 => f_X3_addBytes_J33 x12 x13 h14) FUEL p0 0 h1)
def f_X3_faultPosition (p0 : Option Nat) (h : AH) : RS := xpF h p0 2 0 (.int 0) (fun h1 => xgI h1 p0 2 14 (fun v2 => rtI v2 h1))
def f_X3_isAddress (p0 : Option Nat) (p1 : Int32) (h : AH) : RS := xgI h p0 2 5 (fun v1 => xcI (f_X3_in p1 0 (v1 - 1) h) (fun v3 h2 => rtZ v3 h2))
def f_X3_setByte (p0 : Option Nat) (p1 : Int32) (p2 : Int32) (h : AH) : RS := xpF h p0 2 0 (.int 0) (fun h1 => xrc h1 p0 2 (xcI (f_X3_isAddress p0 p1 h1) (fun v3 h2 => if ¬ v3 = 0 then xcI (f_X3_in p2 0 255 h2) (fun v5 h4 => if ¬ v5 = 0 then xgA h4 p0 2 1 (fun v6 => xlI h4 v6 0 p1 (fun v7 => xgA h4 p0 2 1 (fun v8 => xsI h4 v8 0 p1 p2 (fun h9 => xrc h9 p0 2 (xcV (f_X3_changes p0 1 h9) (fun h10 => rtI v7 h10)))))) else xrc h4 p0 2 (xcI (f_X3_fails p0 2 h4) (fun v12 h11 => rtI v12 h11))) else xrc h2 p0 2 (xcI (f_X3_fails p0 1 h2) (fun v15 h14 => rtI v15 h14)))))
def f_X3_byteAt (p0 : Option Nat) (p1 : Int32) (h : AH) : RS := xpF h p0 2 0 (.int 0) (fun h1 => xrc h1 p0 2 (xcI (f_X3_isAddress p0 p1 h1) (fun v3 h2 => if v3 = 0 then xrc h2 p0 2 (xcI (f_X3_fails p0 1 h2) (fun v5 h4 => rtI v5 h4)) else xgA h2 p0 2 1 (fun v6 => xlI h2 v6 0 p1 (fun v7 => rtI v7 h2)))))
def f_X3_clear (p0 : Option Nat) (h : AH) : RS := xpF h p0 2 0 (.int 0) (fun h1 => xgI h1 p0 2 5 (fun v2 => xpF h1 p0 2 5 (.int 0) (fun h3 => xpF h3 p0 2 6 (.int 0) (fun h4 => xrc h4 p0 2 (xcV (f_X3_changes p0 1 h4) (fun h5 => rtI v2 h5))))))
def f_X3_size (p0 : Option Nat) (h : AH) : RS := xpF h p0 2 0 (.int 0) (fun h1 => xgI h1 p0 2 5 (fun v2 => rtI v2 h1))
def f_X3_isEntry_J31 (rc : Option Nat → Int32 → Int32 → Int32 → AH → RS) (k38 : Int32 → AH → RS) (x11 : Option Nat) (x12 : Int32) (x13 : Int32) (y14 : Int32) (h15 : AH) : RS := rc x11 x12 y14 (x13 + 1) h15
def f_X3_isEntry_J26 (rc : Option Nat → Int32 → Int32 → Int32 → AH → RS) (k38 : Int32 → AH → RS) (x7 : Option Nat) (x8 : Int32) (x9 : Int32)  (h10 : AH) : RS := f_X3_isEntry_J31 rc k38 x7 x8 x9 1 h10
def f_X3_isEntry_L4 (k38 : Int32 → AH → RS) : Nat → Option Nat → Int32 → Int32 → Int32 → AH → RS
  | 0, _, _, _, _, _ => none
  | n + 1, x1, x2, x3, x4, h5 => xgI h5 x1 2 6 (fun v6 => if v6 ≤ x4 then k38 x3 h5 else if ¬ x3 = 0 then f_X3_isEntry_J26 (f_X3_isEntry_L4 k38 n) k38 x1 x2 x4 h5 else xgA h5 x1 2 3 (fun v16 => xlI h5 v16 0 x4 (fun v17 => if ¬ v17 = x2 then f_X3_isEntry_J31 (f_X3_isEntry_L4 k38 n) k38 x1 x2 x4 0 h5 else f_X3_isEntry_J26 (f_X3_isEntry_L4 k38 n) k38 x1 x2 x4 h5)))
def f_X3_isEntry (p0 : Option Nat) (p1 : Int32) (h : AH) : RS := f_X3_isEntry_L4 (fun x21 h22 => rtZ x21 h22) FUEL p0 p1 0 0 h
def f_X3_addEntry_J35 (x5 : Option Nat)  (h6 : AH) : RS := xrc h6 x5 2 (xcI (f_X3_fails x5 2 h6) (fun v8 h7 => rtI v8 h7))
def f_X3_addEntry (p0 : Option Nat) (p1 : Int32) (h : AH) : RS := xpF h p0 2 0 (.int 0) (fun h1 => xrc h1 p0 2 (xcI (f_X3_isAddress p0 p1 h1) (fun v3 h2 => if ¬ v3 = 0 then xgI h2 p0 2 6 (fun v4 => if v4 = 4 then f_X3_addEntry_J35 p0 h2 else xrc h2 p0 2 (xcI (f_X3_isEntry p0 p1 h2) (fun v10 h9 => if v10 = 0 then xgA h9 p0 2 3 (fun v11 => xgI h9 p0 2 6 (fun v12 => xsI h9 v11 0 v12 p1 (fun h13 => xgI h13 p0 2 6 (fun v14 => xpF h13 p0 2 6 (.int (v14 + 1)) (fun h15 => xrc h15 p0 2 (xcV (f_X3_changes p0 0 h15) (fun h16 => xgI h16 p0 2 6 (fun v17 => rtI (v17 - 1) h16)))))))) else f_X3_addEntry_J35 p0 h9))) else xrc h2 p0 2 (xcI (f_X3_fails p0 1 h2) (fun v21 h20 => rtI v21 h20)))))
def f_X3_removeEntry_L34 (k64 : Option Nat → Int32 → AH → RS) : Nat → Option Nat → Int32 → Int32 → AH → RS
  | 0, _, _, _, _ => none
  | n + 1, x7, x8, x9, h10 => xgI h10 x7 2 6 (fun v11 => if (v11 - 1) ≤ x9 then k64 x7 x8 h10 else xgA h10 x7 2 3 (fun v12 => xgA h10 x7 2 3 (fun v13 => xlI h10 v13 0 (x9 + 1) (fun v14 => xsI h10 v12 0 x9 v14 (fun h15 => f_X3_removeEntry_L34 k64 n x7 x8 (x9 + 1) h15)))))
def f_X3_removeEntry (p0 : Option Nat) (p1 : Int32) (h : AH) : RS := xpF h p0 2 0 (.int 0) (fun h1 => xgI h1 p0 2 6 (fun v2 => xcI (f_X3_in p1 0 (v2 - 1) h1) (fun v4 h3 => if ¬ v4 = 0 then xgA h3 p0 2 3 (fun v5 => xlI h3 v5 0 p1 (fun v6 => f_X3_removeEntry_L34 (fun x17 x18 h19 => xgI h19 x17 2 6 (fun v20 => xpF h19 x17 2 6 (.int (v20 - 1)) (fun h21 => xrc h21 x17 2 (xcV (f_X3_changes x17 0 h21) (fun h22 => rtI x18 h22))))) FUEL p0 v6 p1 h3)) else xrc h3 p0 2 (xcI (f_X3_fails p0 1 h3) (fun v24 h23 => rtI v24 h23)))))
def f_X3_entryCount (p0 : Option Nat) (h : AH) : RS := xpF h p0 2 0 (.int 0) (fun h1 => xgI h1 p0 2 6 (fun v2 => rtI v2 h1))
def f_X3_setThreshold (p0 : Option Nat) (p1 : Int32) (h : AH) : RS := xpF h p0 2 0 (.int 0) (fun h1 => xcI (f_X3_in p1 1 30 h1) (fun v3 h2 => if ¬ v3 = 0 then xgI h2 p0 2 7 (fun v4 => xpF h2 p0 2 7 (.int p1) (fun h5 => xrc h5 p0 2 (xcV (f_X3_changes p0 0 h5) (fun h6 => rtI v4 h6)))) else xrc h2 p0 2 (xcI (f_X3_fails p0 1 h2) (fun v8 h7 => rtI v8 h7))))
def f_X3_sort (p0 : Option Nat) (p1 : Int32) (h : AH) : RS := xgA h p0 2 1 (fun v1 => xlI h v1 0 p1 (fun v2 => rtI (v2 >>> ((4 : Int32) &&& 31)) h))
def f_X3_lengthOf (p0 : Int32) (h : AH) : RS := if p0 = 0 then rtI 1 h else if p0 = 2 then rtI 1 h else if p0 = 8 then rtI 1 h else if p0 = 11 then rtI 1 h else if ¬ p0 = 13 then rtI 2 h else rtI 1 h
def f_X3_hasGoal (p0 : Option Nat) (p1 : Int32) (h : AH) : RS := xrc h p0 2 (xcI (f_X3_sort p0 p1 h) (fun v2 h1 => xcI (f_X3_in v2 4 7 h1) (fun v4 h3 => rtZ v4 h3)))
def f_X3_operand (p0 : Option Nat) (p1 : Int32) (h : AH) : RS := xgA h p0 2 1 (fun v1 => xlI h v1 0 (p1 + 1) (fun v2 => rtI v2 h))
def f_X3_goal (p0 : Option Nat) (p1 : Int32) (h : AH) : RS := xrc h p0 2 (xcI (f_X3_operand p0 p1 h) (fun v2 h1 => if 128 ≤ v2 then xrc h1 p0 2 (xcI (f_X3_operand p0 p1 h1) (fun v4 h3 => rtI ((p1 + 2) + (v4 - 256)) h3)) else xrc h1 p0 2 (xcI (f_X3_operand p0 p1 h1) (fun v6 h5 => rtI ((p1 + 2) + v6) h5))))
def f_X3_isSound (p0 : Option Nat) (p1 : Int32) (h : AH) : RS := xrc h p0 2 (xcI (f_X3_isAddress p0 p1 h) (fun v2 h1 => if v2 = 0 then rtZ 0 h1 else xrc h1 p0 2 (xcI (f_X3_sort p0 p1 h1) (fun v4 h3 => if 13 < v4 then rtZ 0 h3 else xrc h3 p0 2 (xcI (f_X3_sort p0 p1 h3) (fun v6 h5 => xcI (f_X3_lengthOf v6 h5) (fun v8 h7 => xgI h7 p0 2 5 (fun v9 => if (p1 + v8) ≤ v9 then xrc h7 p0 2 (xcI (f_X3_hasGoal p0 p1 h7) (fun v11 h10 => if v11 = 0 then rtZ 1 h10 else xrc h10 p0 2 (xcI (f_X3_goal p0 p1 h10) (fun v13 h12 => xrc h12 p0 2 (xcI (f_X3_isAddress p0 v13 h12) (fun v15 h14 => if v15 = 0 then rtZ 0 h14 else rtZ 1 h14)))))) else rtZ 0 h7))))))))
def f_X3_isValid_J14 (x3 : Option Nat) (x4 : Int32) (y5 : Int32) (y6 : Option Nat) (h7 : AH) : RS := xpF h7 y6 2 0 (.int y5) (fun h8 => xgI h8 x3 2 0 (fun v9 => if ¬ v9 = 0 then rtZ 0 h8 else xrc h8 x3 2 (xcI (f_X3_isSound x3 x4 h8) (fun v11 h10 => if v11 = 0 then rtZ 0 h10 else rtZ 1 h10))))
def f_X3_isValid (p0 : Option Nat) (p1 : Int32) (h : AH) : RS := xrc h p0 2 (xcI (f_X3_isAddress p0 p1 h) (fun v2 h1 => if v2 = 0 then f_X3_isValid_J14 p0 p1 1 p0 h1 else f_X3_isValid_J14 p0 p1 0 p0 h1))
def f_X3_first (p0 : Option Nat) (p1 : Int32) (h : AH) : RS := xgA h p0 2 1 (fun v1 => xlI h v1 0 p1 (fun v2 => rtI ((v2 >>> ((2 : Int32) &&& 31)) &&& 3) h))
def f_X3_decode (p0 : Option Nat) (p1 : Int32) (p2 : Int32) (h : AH) : RS := xpF h p0 2 0 (.int 0) (fun h1 => xrc h1 p0 2 (xcI (f_X3_isAddress p0 p1 h1) (fun v3 h2 => if ¬ v3 = 0 then xcI (f_X3_in p2 0 5 h2) (fun v5 h4 => if ¬ v5 = 0 then xrc h4 p0 2 (xcI (f_X3_isSound p0 p1 h4) (fun v7 h6 => if ¬ v7 = 0 then if p2 = 0 then xrc h6 p0 2 (xcI (f_X3_sort p0 p1 h6) (fun v14 h13 => rtI v14 h13)) else if p2 = 1 then xrc h6 p0 2 (xcI (f_X3_sort p0 p1 h6) (fun v16 h15 => xcI (f_X3_lengthOf v16 h15) (fun v18 h17 => rtI v18 h17))) else if p2 = 2 then xrc h6 p0 2 (xcI (f_X3_first p0 p1 h6) (fun v20 h19 => rtI v20 h19)) else if p2 = 3 then xgA h6 p0 2 1 (fun v21 => xlI h6 v21 0 p1 (fun v22 => rtI (v22 &&& 3) h6)) else if p2 = 4 then xrc h6 p0 2 (xcI (f_X3_sort p0 p1 h6) (fun v24 h23 => xcI (f_X3_lengthOf v24 h23) (fun v26 h25 => if ¬ v26 = 2 then xrc h25 p0 2 (xcI (f_X3_fails p0 3 h25) (fun v28 h27 => rtI v28 h27)) else xrc h25 p0 2 (xcI (f_X3_operand p0 p1 h25) (fun v30 h29 => rtI v30 h29))))) else xrc h6 p0 2 (xcI (f_X3_hasGoal p0 p1 h6) (fun v33 h32 => if v33 = 0 then xrc h32 p0 2 (xcI (f_X3_fails p0 3 h32) (fun v35 h34 => rtI v35 h34)) else xrc h32 p0 2 (xcI (f_X3_goal p0 p1 h32) (fun v37 h36 => rtI v37 h36)))) else xrc h6 p0 2 (xcI (f_X3_fails p0 3 h6) (fun v40 h39 => rtI v40 h39)))) else xrc h4 p0 2 (xcI (f_X3_fails p0 2 h4) (fun v43 h42 => rtI v43 h42))) else xrc h2 p0 2 (xcI (f_X3_fails p0 1 h2) (fun v46 h45 => rtI v46 h45)))))
def f_X3_adds (p0 : Option Nat) (p1 : Int32) (h : AH) : RS := xgA h p0 2 22 (fun v1 => xgI h p0 2 23 (fun v2 => xsI h v1 0 v2 p1 (fun h3 => xgI h3 p0 2 23 (fun v4 => xpF h3 p0 2 23 (.int (v4 + 1)) (fun h5 => rtV h5)))))
def f_X3_isBadAt_J19 (x4 : Option Nat) (x5 : Int32) (y6 : Int32) (y7 : Int32) (y8 : Option Nat) (h9 : AH) : RS := xpF h9 y8 2 26 (.int (y7 + y6)) (fun h10 => xgA h10 x4 2 21 (fun v11 => xsI h10 v11 1 x5 1 (fun h12 => rtV h12)))
def f_X3_isBadAt (p0 : Option Nat) (p1 : Int32) (h : AH) : RS := xgI h p0 2 26 (fun v1 => xgA h p0 2 21 (fun v2 => xlI h v2 1 p1 (fun v3 => if v3 = 0 then f_X3_isBadAt_J19 p0 p1 1 v1 p0 h else f_X3_isBadAt_J19 p0 p1 0 v1 p0 h)))
def f_X3_isFree_J45 (rc : Option Nat → Int32 → Int32 → Int32 → AH → RS) (k52 : Int32 → AH → RS) (x14 : Option Nat) (x15 : Int32) (x16 : Int32) (y17 : Int32) (h18 : AH) : RS := rc x14 x15 y17 (x16 + 1) h18
def f_X3_isFree_J44 (rc : Option Nat → Int32 → Int32 → Int32 → AH → RS) (k52 : Int32 → AH → RS) (x10 : Option Nat) (x11 : Int32) (x12 : Int32)  (h13 : AH) : RS := f_X3_isFree_J45 rc k52 x10 x11 x12 0 h13
def f_X3_isFree_L4 (k52 : Int32 → AH → RS) : Nat → Option Nat → Int32 → Int32 → Int32 → AH → RS
  | 0, _, _, _, _, _ => none
  | n + 1, x1, x2, x3, x4, h5 => xrc h5 x1 2 (xcI (f_X3_sort x1 x2 h5) (fun v7 h6 => xcI (f_X3_lengthOf v7 h6) (fun v9 h8 => if (x2 + v9) ≤ x4 then k52 x3 h8 else if x3 = 0 then f_X3_isFree_J44 (f_X3_isFree_L4 k52 n) k52 x1 x2 x4 h8 else xgA h8 x1 2 17 (fun v19 => xlI h8 v19 0 x4 (fun v20 => if 0 ≤ v20 then f_X3_isFree_J44 (f_X3_isFree_L4 k52 n) k52 x1 x2 x4 h8 else xgA h8 x1 2 20 (fun v21 => xlI h8 v21 1 x4 (fun v22 => if ¬ v22 = 0 then f_X3_isFree_J44 (f_X3_isFree_L4 k52 n) k52 x1 x2 x4 h8 else f_X3_isFree_J45 (f_X3_isFree_L4 k52 n) k52 x1 x2 x4 1 h8)))))))
def f_X3_isFree (p0 : Option Nat) (p1 : Int32) (h : AH) : RS := f_X3_isFree_L4 (fun x27 h28 => rtZ x27 h28) FUEL p0 p1 1 p1 h
def f_X3_conflictAt_L2 (k27 : Option Nat → Int32 → AH → RS) : Nat → Option Nat → Int32 → Int32 → AH → RS
  | 0, _, _, _, _ => none
  | n + 1, x1, x2, x3, h4 => xgI h4 x1 2 25 (fun v5 => if v5 ≤ x3 then k27 x1 x2 h4 else xgA h4 x1 2 30 (fun v6 => xlI h4 v6 0 x3 (fun v7 => if ¬ v7 = x2 then f_X3_conflictAt_L2 k27 n x1 x2 (x3 + 1) h4 else rtV h4)))
def f_X3_conflictAt (p0 : Option Nat) (p1 : Int32) (h : AH) : RS := f_X3_conflictAt_L2 (fun x10 x11 h12 => xgA h12 x10 2 30 (fun v13 => xgI h12 x10 2 25 (fun v14 => xsI h12 v13 0 v14 x11 (fun h15 => xgI h15 x10 2 25 (fun v16 => xpF h15 x10 2 25 (.int (v16 + 1)) (fun h17 => rtV h17)))))) FUEL p0 p1 0 h
def f_X3_endsFlow (p0 : Option Nat) (p1 : Int32) (h : AH) : RS := xrc h p0 2 (xcI (f_X3_sort p0 p1 h) (fun v2 h1 => if v2 = 4 then rtZ 1 h1 else xrc h1 p0 2 (xcI (f_X3_sort p0 p1 h1) (fun v4 h3 => if v4 = 8 then rtZ 1 h3 else xrc h3 p0 2 (xcI (f_X3_sort p0 p1 h3) (fun v6 h5 => if v6 = 9 then rtZ 1 h5 else xrc h5 p0 2 (xcI (f_X3_sort p0 p1 h5) (fun v8 h7 => if ¬ v8 = 13 then rtZ 0 h7 else rtZ 1 h7))))))))
def f_X3_ahead_J16 (x1 : Option Nat) (x2 : Int32) (y3 : Int32) (h4 : AH) : RS := if y3 < 0 then rtI (-1) h4 else xgA h4 x1 2 16 (fun v5 => xlI h4 v5 0 y3 (fun v6 => if ¬ (y3 + v6) = x2 then rtI (-1) h4 else xrc h4 x1 2 (xcI (f_X3_endsFlow x1 y3 h4) (fun v8 h7 => if ¬ v8 = 0 then rtI (-1) h7 else rtI y3 h7))))
def f_X3_ahead (p0 : Option Nat) (p1 : Int32) (h : AH) : RS := if p1 ≤ 0 then f_X3_ahead_J16 p0 p1 (-1) h else xgA h p0 2 17 (fun v12 => xlI h v12 0 (p1 - 1) (fun v13 => f_X3_ahead_J16 p0 p1 v13 h))
def f_X3_sets_J34 (x3 : Option Nat) (x4 : Int32) (x5 : Int32)  (h6 : AH) : RS := xrc h6 x3 2 (xcI (f_X3_first x3 x4 h6) (fun v8 h7 => if ¬ v8 = x5 then rtZ 0 h7 else rtZ 1 h7))
def f_X3_sets (p0 : Option Nat) (p1 : Int32) (p2 : Int32) (h : AH) : RS := xrc h p0 2 (xcI (f_X3_sort p0 p1 h) (fun v2 h1 => if v2 = 1 then f_X3_sets_J34 p0 p1 p2 h1 else if v2 = 2 then f_X3_sets_J34 p0 p1 p2 h1 else if v2 = 10 then f_X3_sets_J34 p0 p1 p2 h1 else if v2 = 11 then f_X3_sets_J34 p0 p1 p2 h1 else if ¬ v2 = 12 then rtZ 0 h1 else f_X3_sets_J34 p0 p1 p2 h1))
def f_X3_boundOf_J145 (rc : Option Nat → Int32 → Int32 → Int32 → AH → RS) (k162 : AH → RS) (x27 : Option Nat) (x28 : Int32) (x29 : Int32) (x30 : Int32)  (h31 : AH) : RS := xrc h31 x27 2 (xcI (f_X3_sets x27 x29 x28 h31) (fun v33 h32 => if v33 = 0 then rc x27 x28 x29 (x30 + 1) h32 else rtI (-1) h32))
def f_X3_boundOf_J96 (rc : Option Nat → Int32 → Int32 → Int32 → AH → RS) (k162 : AH → RS) (x20 : Option Nat) (x21 : Int32) (x22 : Int32) (x23 : Int32)  (h24 : AH) : RS := xrc h24 x20 2 (xcI (f_X3_sort x20 x22 h24) (fun v26 h25 => if ¬ v26 = 6 then f_X3_boundOf_J145 rc k162 x20 x21 x22 x23 h25 else xrc h25 x20 2 (xcI (f_X3_ahead x20 x22 h25) (fun v36 h35 => if v36 < 0 then f_X3_boundOf_J145 rc k162 x20 x21 x22 x23 h35 else xrc h35 x20 2 (xcI (f_X3_sort x20 v36 h35) (fun v38 h37 => if ¬ v38 = 3 then f_X3_boundOf_J145 rc k162 x20 x21 x22 x23 h37 else xrc h37 x20 2 (xcI (f_X3_first x20 v36 h37) (fun v40 h39 => if ¬ v40 = x21 then f_X3_boundOf_J145 rc k162 x20 x21 x22 x23 h39 else xrc h39 x20 2 (xcI (f_X3_operand x20 v36 h39) (fun v42 h41 => rtI v42 h41))))))))))
def f_X3_boundOf_J62 (rc : Option Nat → Int32 → Int32 → Int32 → AH → RS) (k162 : AH → RS) (x13 : Option Nat) (x14 : Int32) (x15 : Int32) (x16 : Int32)  (h17 : AH) : RS := xrc h17 x13 2 (xcI (f_X3_sort x13 x15 h17) (fun v19 h18 => if ¬ v19 = 1 then f_X3_boundOf_J96 rc k162 x13 x14 x15 x16 h18 else xrc h18 x13 2 (xcI (f_X3_first x13 x15 h18) (fun v48 h47 => if ¬ v48 = x14 then f_X3_boundOf_J96 rc k162 x13 x14 x15 x16 h47 else xrc h47 x13 2 (xcI (f_X3_operand x13 x15 h47) (fun v50 h49 => xpF h49 x13 2 43 (.int v50) (fun h51 => xgI h51 x13 2 43 (fun v52 => rtI (v52 + 1) h51))))))))
def f_X3_boundOf_L16 (k162 : AH → RS) : Nat → Option Nat → Int32 → Int32 → Int32 → AH → RS
  | 0, _, _, _, _, _ => none
  | n + 1, x4, x5, x6, x7, h8 => if 6 ≤ x7 then k162  h8 else xrc h8 x4 2 (xcI (f_X3_ahead x4 x6 h8) (fun v10 h9 => if 0 ≤ v10 then xrc h9 x4 2 (xcI (f_X3_sort x4 v10 h9) (fun v12 h11 => if ¬ v12 = 12 then f_X3_boundOf_J62 (f_X3_boundOf_L16 k162 n) k162 x4 x5 v10 x7 h11 else xrc h11 x4 2 (xcI (f_X3_first x4 v10 h11) (fun v56 h55 => if ¬ v56 = x5 then f_X3_boundOf_J62 (f_X3_boundOf_L16 k162 n) k162 x4 x5 v10 x7 h55 else xrc h55 x4 2 (xcI (f_X3_operand x4 v10 h55) (fun v58 h57 => rtI (v58 + 1) h57)))))) else rtI (-1) h9))
def f_X3_boundOf (p0 : Option Nat) (p1 : Int32) (h : AH) : RS := xrc h p0 2 (xcI (f_X3_first p0 p1 h) (fun v2 h1 => xpF h1 p0 2 43 (.int (-1)) (fun h3 => f_X3_boundOf_L16 (fun h63 => rtI (-1) h63) FUEL p0 v2 p1 0 h3)))
def f_X3_entersTable (p0 : Option Nat) (p1 : Int32) (h : AH) : RS := xrc h p0 2 (xcI (f_X3_isAddress p0 p1 h) (fun v2 h1 => if v2 = 0 then rtV h1 else xgA h1 p0 2 17 (fun v3 => xlI h1 v3 0 p1 (fun v4 => if v4 < 0 then xgA h1 p0 2 35 (fun v5 => xgI h1 p0 2 27 (fun v6 => xgA h1 p0 2 34 (fun v7 => xgI h1 p0 2 27 (fun v8 => xlI h1 v7 0 v8 (fun v9 => xsI h1 v5 0 ((16 * v6) + v9) p1 (fun h10 => xgA h10 p0 2 34 (fun v11 => xgI h10 p0 2 27 (fun v12 => xlI h10 v11 0 v12 (fun v13 => xsI h10 v11 0 v12 (v13 + 1) (fun h14 => rtV h14)))))))))) else rtV h1))))
def f_X3_tabulates_L156 (k184 : Option Nat → AH → RS) : Nat → Option Nat → Int32 → Int32 → AH → RS
  | 0, _, _, _, _ => none
  | n + 1, x25, x26, x27, h28 => xgA h28 x25 2 33 (fun v29 => xgI h28 x25 2 27 (fun v30 => xlI h28 v29 0 v30 (fun v31 => if v31 ≤ x27 then k184 x25 h28 else xrc h28 x25 2 (xcV (f_X3_entersTable x25 (x26 + x27) h28) (fun h32 => f_X3_tabulates_L156 k184 n x25 x26 (x27 + 1) h32)))))
def f_X3_tabulates_L187 (k243 : Option Nat → AH → RS) : Nat → Option Nat → Int32 → AH → RS
  | 0, _, _, _ => none
  | n + 1, x38, x39, h40 => xgA h40 x38 2 34 (fun v41 => xgI h40 x38 2 27 (fun v42 => xlI h40 v41 0 v42 (fun v43 => if v43 ≤ x39 then k243 x38 h40 else xgA h40 x38 2 35 (fun v44 => xgI h40 x38 2 27 (fun v45 => xlI h40 v44 0 ((16 * v45) + x39) (fun v46 => xgA h40 x38 2 20 (fun v47 => xsI h40 v47 1 v46 1 (fun h48 => xgA h48 x38 2 1 (fun v49 => xlI h48 v49 0 v46 (fun v50 => xrc h48 x38 2 (xcV (f_X3_adds x38 v50 h48) (fun h51 => f_X3_tabulates_L187 k243 n x38 (x39 + 1) h51))))))))))))
def f_X3_tabulates_J184 (x36 : Option Nat)  (h37 : AH) : RS := f_X3_tabulates_L187 (fun x53 h54 => xgI h54 x53 2 27 (fun v55 => xpF h54 x53 2 27 (.int (v55 + 1)) (fun h56 => rtV h56))) FUEL x36 0 h37
def f_X3_tabulates_L70 (k130 : Option Nat → AH → RS) : Nat → Option Nat → Int32 → Int32 → AH → RS
  | 0, _, _, _, _ => none
  | n + 1, x60, x61, x62, h63 => if 8 ≤ x62 then k130 x60 h63 else xrc h63 x60 2 (xcI (f_X3_isAddress x60 (x61 + x62) h63) (fun v65 h64 => if v65 = 0 then k130 x60 h64 else xgA h64 x60 2 17 (fun v66 => xlI h64 v66 0 (x61 + x62) (fun v67 => if 0 ≤ v67 then k130 x60 h64 else xgA h64 x60 2 1 (fun v68 => xlI h64 v68 0 (x61 + x62) (fun v69 => xrc h64 x60 2 (xcI (f_X3_isSound x60 v69 h64) (fun v71 h70 => if v71 = 0 then k130 x60 h70 else xrc h70 x60 2 (xcV (f_X3_entersTable x60 (x61 + x62) h70) (fun h72 => f_X3_tabulates_L70 k130 n x60 x61 (x62 + 1) h72))))))))))
def f_X3_tabulates_J130 (x79 : Option Nat)  (h80 : AH) : RS := f_X3_tabulates_J184 x79 h80
def f_X3_tabulates_J52 (x13 : Option Nat) (x14 : Int32) (x15 : Int32) (y16 : Int32) (y17 : Int32) (y18 : Option Nat) (h19 : AH) : RS := xsI h19 y18 0 y17 y16 (fun h20 => xgA h20 x13 2 34 (fun v21 => xgI h20 x13 2 27 (fun v22 => xsI h20 v21 0 v22 0 (fun h23 => if 0 ≤ x15 then xgI h23 x13 2 43 (fun v24 => if v24 < 0 then f_X3_tabulates_L156 (fun x34 h35 => f_X3_tabulates_J184 x34 h35) FUEL x13 x14 0 h23 else xgI h23 x13 2 43 (fun v57 => xrc h23 x13 2 (xcV (f_X3_entersTable x13 (x14 + v57) h23) (fun h58 => f_X3_tabulates_J184 x13 h58)))) else f_X3_tabulates_L70 (fun x77 h78 => f_X3_tabulates_J130 x77 h78) FUEL x13 x14 0 h23))))
def f_X3_tabulates (p0 : Option Nat) (p1 : Int32) (h : AH) : RS := xrc h p0 2 (xcI (f_X3_operand p0 p1 h) (fun v2 h1 => xrc h1 p0 2 (xcI (f_X3_boundOf p0 p1 h1) (fun v4 h3 => xgA h3 p0 2 31 (fun v5 => xgI h3 p0 2 27 (fun v6 => xsI h3 v5 0 v6 p1 (fun h7 => xgA h7 p0 2 32 (fun v8 => xgI h7 p0 2 27 (fun v9 => xsI h7 v8 0 v9 v2 (fun h10 => xgA h10 p0 2 33 (fun v11 => xgI h10 p0 2 27 (fun v12 => if v4 ≤ 16 then f_X3_tabulates_J52 p0 v2 v4 v4 v12 v11 h10 else f_X3_tabulates_J52 p0 v2 v4 16 v12 v11 h10))))))))))))
def f_X3_accepts_L18 (k38 : Option Nat → Int32 → AH → RS) : Nat → Option Nat → Int32 → Int32 → Int32 → AH → RS
  | 0, _, _, _, _, _ => none
  | n + 1, x7, x8, x9, x10, h11 => if (x8 + x9) ≤ x10 then k38 x7 x8 h11 else xgA h11 x7 2 17 (fun v12 => xsI h11 v12 0 x10 x8 (fun h13 => f_X3_accepts_L18 k38 n x7 x8 x9 (x10 + 1) h13))
def f_X3_accepts_J65 (x22 : Option Nat) (x23 : Int32)  (h24 : AH) : RS := xrc h24 x22 2 (xcI (f_X3_sort x22 x23 h24) (fun v26 h25 => if ¬ v26 = 9 then rtV h25 else xrc h25 x22 2 (xcV (f_X3_tabulates x22 x23 h25) (fun h27 => rtV h27))))
def f_X3_accepts (p0 : Option Nat) (p1 : Int32) (h : AH) : RS := xrc h p0 2 (xcI (f_X3_sort p0 p1 h) (fun v2 h1 => xcI (f_X3_lengthOf v2 h1) (fun v4 h3 => xgA h3 p0 2 16 (fun v5 => xsI h3 v5 0 p1 v4 (fun h6 => f_X3_accepts_L18 (fun x15 x16 h17 => xgI h17 x15 2 24 (fun v18 => xpF h17 x15 2 24 (.int (v18 + 1)) (fun h19 => xrc h19 x15 2 (xcI (f_X3_hasGoal x15 x16 h19) (fun v21 h20 => if v21 = 0 then f_X3_accepts_J65 x15 x16 h20 else xrc h20 x15 2 (xcI (f_X3_goal x15 x16 h20) (fun v30 h29 => xrc h29 x15 2 (xcV (f_X3_adds x15 v30 h29) (fun h31 => f_X3_accepts_J65 x15 x16 h31))))))))) FUEL p0 p1 v4 p1 h6)))))
def f_X3_follows_J78 (rc : Option Nat → Int32 → Int32 → AH → RS) (k91 : AH → RS) (x18 : Option Nat) (x19 : Int32) (y20 : Int32) (h21 : AH) : RS := xgA h21 x18 2 16 (fun v22 => xlI h21 v22 0 x19 (fun v23 => rc x18 (x19 + v23) y20 h21))
def f_X3_follows_J28 (rc : Option Nat → Int32 → Int32 → AH → RS) (k91 : AH → RS) (x7 : Option Nat) (x8 : Int32) (x9 : Int32)  (h10 : AH) : RS := xrc h10 x7 2 (xcI (f_X3_isSound x7 x8 h10) (fun v12 h11 => if ¬ v12 = 0 then xrc h11 x7 2 (xcI (f_X3_isFree x7 x8 h11) (fun v14 h13 => if ¬ v14 = 0 then xrc h13 x7 2 (xcV (f_X3_accepts x7 x8 h13) (fun h15 => xrc h15 x7 2 (xcI (f_X3_endsFlow x7 x8 h15) (fun v17 h16 => if ¬ v17 = 0 then f_X3_follows_J78 rc k91 x7 x8 0 h16 else f_X3_follows_J78 rc k91 x7 x8 1 h16)))) else xrc h13 x7 2 (xcV (f_X3_conflictAt x7 x8 h13) (fun h25 => rc x7 x8 x9 h25)))) else xrc h11 x7 2 (xcV (f_X3_isBadAt x7 x8 h11) (fun h27 => rc x7 x8 x9 h27))))
def f_X3_follows_L4 (k91 : AH → RS) : Nat → Option Nat → Int32 → Int32 → AH → RS
  | 0, _, _, _, _ => none
  | n + 1, x1, x2, x3, h4 => if x3 = 0 then k91  h4 else xrc h4 x1 2 (xcI (f_X3_isAddress x1 x2 h4) (fun v6 h5 => if v6 = 0 then f_X3_follows_J28 (f_X3_follows_L4 k91 n) k91 x1 x2 0 h5 else xgA h5 x1 2 16 (fun v29 => xlI h5 v29 0 x2 (fun v30 => if v30 ≤ 0 then f_X3_follows_J28 (f_X3_follows_L4 k91 n) k91 x1 x2 0 h5 else rtV h5))))
def f_X3_follows (p0 : Option Nat) (p1 : Int32) (h : AH) : RS := f_X3_follows_L4 (fun h34 => rtV h34) FUEL p0 p1 1 h
def f_X3_isUsed (p0 : Option Nat) (p1 : Int32) (h : AH) : RS := xgA h p0 2 17 (fun v1 => xlI h v1 0 p1 (fun v2 => if 0 ≤ v2 then rtZ 1 h else xgA h p0 2 20 (fun v3 => xlI h v3 1 p1 (fun v4 => if v4 = 0 then rtZ 0 h else rtZ 1 h))))
def f_X3_isInGap (p0 : Option Nat) (p1 : Int32) (p2 : Int32) (h : AH) : RS := xrc h p0 2 (xcI (f_X3_isSound p0 p1 h) (fun v2 h1 => if v2 = 0 then rtZ 0 h1 else xrc h1 p0 2 (xcI (f_X3_sort p0 p1 h1) (fun v4 h3 => xcI (f_X3_lengthOf v4 h3) (fun v6 h5 => if p2 < (p1 + v6) then rtZ 0 h5 else rtZ 1 h5)))))
def f_X3_isTestBegin_J28 (rc : Option Nat → Int32 → Int32 → Int32 → Int32 → AH → RS) (k47 : Int32 → AH → RS) (x12 : Option Nat) (x13 : Int32) (x14 : Int32) (x15 : Int32) (y16 : Int32) (h17 : AH) : RS := xrc h17 x12 2 (xcI (f_X3_sort x12 x15 h17) (fun v19 h18 => xcI (f_X3_lengthOf v19 h18) (fun v21 h20 => rc x12 x13 x14 y16 (x15 + v21) h20)))
def f_X3_isTestBegin_J23 (rc : Option Nat → Int32 → Int32 → Int32 → Int32 → AH → RS) (k47 : Int32 → AH → RS) (x7 : Option Nat) (x8 : Int32) (x9 : Int32) (x10 : Int32)  (h11 : AH) : RS := f_X3_isTestBegin_J28 rc k47 x7 x8 x9 x10 1 h11
def f_X3_isTestBegin_L6 (k47 : Int32 → AH → RS) : Nat → Option Nat → Int32 → Int32 → Int32 → Int32 → AH → RS
  | 0, _, _, _, _, _, _ => none
  | n + 1, x1, x2, x3, x4, x5, h6 => if x2 < x5 then k47 x4 h6 else if ¬ x4 = 0 then f_X3_isTestBegin_J23 (f_X3_isTestBegin_L6 k47 n) k47 x1 x2 x3 x5 h6 else if ¬ x5 = x3 then f_X3_isTestBegin_J28 (f_X3_isTestBegin_L6 k47 n) k47 x1 x2 x3 x5 0 h6 else f_X3_isTestBegin_J23 (f_X3_isTestBegin_L6 k47 n) k47 x1 x2 x3 x5 h6
def f_X3_isTestBegin (p0 : Option Nat) (p1 : Int32) (p2 : Int32) (p3 : Int32) (h : AH) : RS := f_X3_isTestBegin_L6 (fun x25 h26 => rtZ x25 h26) FUEL p0 p2 p3 0 p1 h
abbrev FR_X3_init : Nat := 1
abbrev LO_X3_init : Nat := 16
theorem dyX3_init : DY yX3_init 0 := ⟨⟨by decide, by decide⟩, by decide +kernel⟩
theorem sm_X3_init {G : GC} {K : SC} (hK : SOK G K RX3 cX3_init 1 (none) "<init>" []) (hf : FR_X3_init ≤ (kR K).frames) (hlo : LO_X3_init ≤ (kR K).locals) (p0 : Option Nat) (h : AH) : Sim G K 1 (f_X3_init p0 h) h 0 [(0, va_rf p0)] [] := by
  unfold f_X3_init
  refine s_aload_n hK dX3_init_0 rfl 0 rfl ?_
  refine s_oinit hK q1683 q124 q125 dX3_init_1 (Nat.le_trans (Nat.le_of_ble_eq_true rfl) hf) rk_n (Nat.le_trans (Nat.le_of_ble_eq_true rfl) hlo) ?_
  refine s_aload_n hK dX3_init_4 rfl 0 rfl ?_
  refine s_bipush (v := 96) hK dX3_init_5 rfl ?_
  refine s_newI hK dX3_init_7 (fun a1 h2 => ?_)
  refine s_pF hK fcX3 1 (Nat.le_of_ble_eq_true rfl) (Or.inl q1685) (Or.inl rfl) (Or.inr ⟨rfl, rfl, rfl, q1685⟩) (nr_r _) (ft_r _) dX3_init_9 (fun h3 => ?_)
  refine s_aload_n hK dX3_init_12 rfl 0 rfl ?_
  refine s_bipush (v := 96) hK dX3_init_13 rfl ?_
  refine s_newI hK dX3_init_15 (fun a4 h5 => ?_)
  refine s_pF hK fcX3 2 (Nat.le_of_ble_eq_true rfl) (Or.inl q1686) (Or.inl rfl) (Or.inr ⟨rfl, rfl, rfl, q1686⟩) (nr_r _) (ft_r _) dX3_init_17 (fun h6 => ?_)
  refine s_aload_n hK dX3_init_20 rfl 0 rfl ?_
  refine s_iconst (v := 4) hK dX3_init_21 rfl ?_
  refine s_newI hK dX3_init_22 (fun a7 h8 => ?_)
  refine s_pF hK fcX3 3 (Nat.le_of_ble_eq_true rfl) (Or.inl q1687) (Or.inl rfl) (Or.inr ⟨rfl, rfl, rfl, q1687⟩) (nr_r _) (ft_r _) dX3_init_24 (fun h9 => ?_)
  refine s_aload_n hK dX3_init_27 rfl 0 rfl ?_
  refine s_iconst (v := 4) hK dX3_init_28 rfl ?_
  refine s_newI hK dX3_init_29 (fun a10 h11 => ?_)
  refine s_pF hK fcX3 4 (Nat.le_of_ble_eq_true rfl) (Or.inl q1688) (Or.inl rfl) (Or.inr ⟨rfl, rfl, rfl, q1688⟩) (nr_r _) (ft_r _) dX3_init_31 (fun h12 => ?_)
  refine s_aload_n hK dX3_init_34 rfl 0 rfl ?_
  refine s_iconst (v := 4) hK dX3_init_35 rfl ?_
  refine s_pF hK fcX3 7 (Nat.le_of_ble_eq_true rfl) (Or.inl q1691) (Or.inl rfl) (Or.inl rfl) rfl rfl dX3_init_36 (fun h13 => ?_)
  refine s_aload_n hK dX3_init_39 rfl 0 rfl ?_
  refine s_bipush (v := 60) hK dX3_init_40 rfl ?_
  refine s_newI hK dX3_init_42 (fun a14 h15 => ?_)
  refine s_pF hK fcX3 12 (Nat.le_of_ble_eq_true rfl) (Or.inl q1696) (Or.inl rfl) (Or.inr ⟨rfl, rfl, rfl, q1696⟩) (nr_r _) (ft_r _) dX3_init_44 (fun h16 => ?_)
  refine s_aload_n hK dX3_init_47 rfl 0 rfl ?_
  refine s_iconst (v := (-1)) hK dX3_init_48 rfl ?_
  refine s_pF hK fcX3 14 (Nat.le_of_ble_eq_true rfl) (Or.inl q1698) (Or.inl rfl) (Or.inl rfl) rfl rfl dX3_init_49 (fun h17 => ?_)
  refine s_aload_n hK dX3_init_52 rfl 0 rfl ?_
  refine s_bipush (v := 96) hK dX3_init_53 rfl ?_
  refine s_newI hK dX3_init_55 (fun a18 h19 => ?_)
  refine s_pF hK fcX3 16 (Nat.le_of_ble_eq_true rfl) (Or.inl q1700) (Or.inl rfl) (Or.inr ⟨rfl, rfl, rfl, q1700⟩) (nr_r _) (ft_r _) dX3_init_57 (fun h20 => ?_)
  refine s_aload_n hK dX3_init_60 rfl 0 rfl ?_
  refine s_bipush (v := 96) hK dX3_init_61 rfl ?_
  refine s_newI hK dX3_init_63 (fun a21 h22 => ?_)
  refine s_pF hK fcX3 17 (Nat.le_of_ble_eq_true rfl) (Or.inl q1701) (Or.inl rfl) (Or.inr ⟨rfl, rfl, rfl, q1701⟩) (nr_r _) (ft_r _) dX3_init_65 (fun h23 => ?_)
  refine s_aload_n hK dX3_init_68 rfl 0 rfl ?_
  refine s_bipush (v := 96) hK dX3_init_69 rfl ?_
  refine s_newI hK dX3_init_71 (fun a24 h25 => ?_)
  refine s_pF hK fcX3 18 (Nat.le_of_ble_eq_true rfl) (Or.inl q1702) (Or.inl rfl) (Or.inr ⟨rfl, rfl, rfl, q1702⟩) (nr_r _) (ft_r _) dX3_init_73 (fun h26 => ?_)
  refine s_aload_n hK dX3_init_76 rfl 0 rfl ?_
  refine s_bipush (v := 96) hK dX3_init_77 rfl ?_
  refine s_newI hK dX3_init_79 (fun a27 h28 => ?_)
  refine s_pF hK fcX3 19 (Nat.le_of_ble_eq_true rfl) (Or.inl q1703) (Or.inl rfl) (Or.inr ⟨rfl, rfl, rfl, q1703⟩) (nr_r _) (ft_r _) dX3_init_81 (fun h29 => ?_)
  refine s_aload_n hK dX3_init_84 rfl 0 rfl ?_
  refine s_bipush (v := 96) hK dX3_init_85 rfl ?_
  refine s_newZ hK dX3_init_87 (fun a30 h31 => ?_)
  refine s_pF hK fcX3 20 (Nat.le_of_ble_eq_true rfl) (Or.inl q1704) (Or.inl rfl) (Or.inr ⟨rfl, rfl, rfl, q1704⟩) (nr_r _) (ft_r _) dX3_init_89 (fun h32 => ?_)
  refine s_aload_n hK dX3_init_92 rfl 0 rfl ?_
  refine s_sipush (v := 256) hK dX3_init_93 rfl ?_
  refine s_newZ hK dX3_init_96 (fun a33 h34 => ?_)
  refine s_pF hK fcX3 21 (Nat.le_of_ble_eq_true rfl) (Or.inl q1705) (Or.inl rfl) (Or.inr ⟨rfl, rfl, rfl, q1705⟩) (nr_r _) (ft_r _) dX3_init_98 (fun h35 => ?_)
  refine s_aload_n hK dX3_init_101 rfl 0 rfl ?_
  refine s_sipush (v := 1024) hK dX3_init_102 rfl ?_
  refine s_newI hK dX3_init_105 (fun a36 h37 => ?_)
  refine s_pF hK fcX3 22 (Nat.le_of_ble_eq_true rfl) (Or.inl q1706) (Or.inl rfl) (Or.inr ⟨rfl, rfl, rfl, q1706⟩) (nr_r _) (ft_r _) dX3_init_107 (fun h38 => ?_)
  refine s_aload_n hK dX3_init_110 rfl 0 rfl ?_
  refine s_bipush (v := 96) hK dX3_init_111 rfl ?_
  refine s_newI hK dX3_init_113 (fun a39 h40 => ?_)
  refine s_pF hK fcX3 30 (Nat.le_of_ble_eq_true rfl) (Or.inl q1714) (Or.inl rfl) (Or.inr ⟨rfl, rfl, rfl, q1714⟩) (nr_r _) (ft_r _) dX3_init_115 (fun h41 => ?_)
  refine s_aload_n hK dX3_init_118 rfl 0 rfl ?_
  refine s_bipush (v := 48) hK dX3_init_119 rfl ?_
  refine s_newI hK dX3_init_121 (fun a42 h43 => ?_)
  refine s_pF hK fcX3 31 (Nat.le_of_ble_eq_true rfl) (Or.inl q1715) (Or.inl rfl) (Or.inr ⟨rfl, rfl, rfl, q1715⟩) (nr_r _) (ft_r _) dX3_init_123 (fun h44 => ?_)
  refine s_aload_n hK dX3_init_126 rfl 0 rfl ?_
  refine s_bipush (v := 48) hK dX3_init_127 rfl ?_
  refine s_newI hK dX3_init_129 (fun a45 h46 => ?_)
  refine s_pF hK fcX3 32 (Nat.le_of_ble_eq_true rfl) (Or.inl q1716) (Or.inl rfl) (Or.inr ⟨rfl, rfl, rfl, q1716⟩) (nr_r _) (ft_r _) dX3_init_131 (fun h47 => ?_)
  refine s_aload_n hK dX3_init_134 rfl 0 rfl ?_
  refine s_bipush (v := 48) hK dX3_init_135 rfl ?_
  refine s_newI hK dX3_init_137 (fun a48 h49 => ?_)
  refine s_pF hK fcX3 33 (Nat.le_of_ble_eq_true rfl) (Or.inl q1717) (Or.inl rfl) (Or.inr ⟨rfl, rfl, rfl, q1717⟩) (nr_r _) (ft_r _) dX3_init_139 (fun h50 => ?_)
  refine s_aload_n hK dX3_init_142 rfl 0 rfl ?_
  refine s_bipush (v := 48) hK dX3_init_143 rfl ?_
  refine s_newI hK dX3_init_145 (fun a51 h52 => ?_)
  refine s_pF hK fcX3 34 (Nat.le_of_ble_eq_true rfl) (Or.inl q1718) (Or.inl rfl) (Or.inr ⟨rfl, rfl, rfl, q1718⟩) (nr_r _) (ft_r _) dX3_init_147 (fun h53 => ?_)
  refine s_aload_n hK dX3_init_150 rfl 0 rfl ?_
  refine s_sipush (v := 768) hK dX3_init_151 rfl ?_
  refine s_newI hK dX3_init_154 (fun a54 h55 => ?_)
  refine s_pF hK fcX3 35 (Nat.le_of_ble_eq_true rfl) (Or.inl q1719) (Or.inl rfl) (Or.inr ⟨rfl, rfl, rfl, q1719⟩) (nr_r _) (ft_r _) dX3_init_156 (fun h56 => ?_)
  refine s_aload_n hK dX3_init_159 rfl 0 rfl ?_
  refine s_bipush (v := 96) hK dX3_init_160 rfl ?_
  refine s_newI hK dX3_init_162 (fun a57 h58 => ?_)
  refine s_pF hK fcX3 36 (Nat.le_of_ble_eq_true rfl) (Or.inl q1720) (Or.inl rfl) (Or.inr ⟨rfl, rfl, rfl, q1720⟩) (nr_r _) (ft_r _) dX3_init_164 (fun h59 => ?_)
  refine s_aload_n hK dX3_init_167 rfl 0 rfl ?_
  refine s_bipush (v := 96) hK dX3_init_168 rfl ?_
  refine s_newI hK dX3_init_170 (fun a60 h61 => ?_)
  refine s_pF hK fcX3 37 (Nat.le_of_ble_eq_true rfl) (Or.inl q1721) (Or.inl rfl) (Or.inr ⟨rfl, rfl, rfl, q1721⟩) (nr_r _) (ft_r _) dX3_init_172 (fun h62 => ?_)
  refine s_aload_n hK dX3_init_175 rfl 0 rfl ?_
  refine s_bipush (v := 96) hK dX3_init_176 rfl ?_
  refine s_newI hK dX3_init_178 (fun a63 h64 => ?_)
  refine s_pF hK fcX3 38 (Nat.le_of_ble_eq_true rfl) (Or.inl q1722) (Or.inl rfl) (Or.inr ⟨rfl, rfl, rfl, q1722⟩) (nr_r _) (ft_r _) dX3_init_180 (fun h65 => ?_)
  refine s_aload_n hK dX3_init_183 rfl 0 rfl ?_
  refine s_bipush (v := 96) hK dX3_init_184 rfl ?_
  refine s_newI hK dX3_init_186 (fun a66 h67 => ?_)
  refine s_pF hK fcX3 40 (Nat.le_of_ble_eq_true rfl) (Or.inl q1724) (Or.inl rfl) (Or.inr ⟨rfl, rfl, rfl, q1724⟩) (nr_r _) (ft_r _) dX3_init_188 (fun h68 => ?_)
  refine s_aload_n hK dX3_init_191 rfl 0 rfl ?_
  refine s_iconst (v := 4) hK dX3_init_192 rfl ?_
  refine s_newI hK dX3_init_193 (fun a69 h70 => ?_)
  refine s_pF hK fcX3 41 (Nat.le_of_ble_eq_true rfl) (Or.inl q1725) (Or.inl rfl) (Or.inr ⟨rfl, rfl, rfl, q1725⟩) (nr_r _) (ft_r _) dX3_init_195 (fun h71 => ?_)
  refine s_aload_n hK dX3_init_198 rfl 0 rfl ?_
  refine s_bipush (v := 8) hK dX3_init_199 rfl ?_
  refine s_newI hK dX3_init_201 (fun a72 h73 => ?_)
  refine s_pF hK fcX3 42 (Nat.le_of_ble_eq_true rfl) (Or.inl q1726) (Or.inl rfl) (Or.inr ⟨rfl, rfl, rfl, q1726⟩) (nr_r _) (ft_r _) dX3_init_203 (fun h74 => ?_)
  refine s_aload_n hK dX3_init_206 rfl 0 rfl ?_
  refine s_bipush (v := 96) hK dX3_init_207 rfl ?_
  refine s_newZ hK dX3_init_209 (fun a75 h76 => ?_)
  refine s_pF hK fcX3 45 (Nat.le_of_ble_eq_true rfl) (Or.inl q1729) (Or.inl rfl) (Or.inr ⟨rfl, rfl, rfl, q1729⟩) (nr_r _) (ft_r _) dX3_init_211 (fun h77 => ?_)
  refine s_aload_n hK dX3_init_214 rfl 0 rfl ?_
  refine s_bipush (v := 96) hK dX3_init_215 rfl ?_
  refine s_newI hK dX3_init_217 (fun a78 h79 => ?_)
  refine s_pF hK fcX3 46 (Nat.le_of_ble_eq_true rfl) (Or.inl q1730) (Or.inl rfl) (Or.inr ⟨rfl, rfl, rfl, q1730⟩) (nr_r _) (ft_r _) dX3_init_219 (fun h80 => ?_)
  exact s_vret hK dX3_init_222
theorem ct_X3_init {G : GC} {l : Launch} (g : GOK G l) (p0 : Option Nat) (h : AH) : CT G l yX3_init (Cond.code yX3_init cX3_init 1 (none)) 1 16 [va_rf p0] (f_X3_init p0 h) h :=
  CT.of g (by decide) (by simp only [ls_a, ls_i, ls_l, ls_n]; decide) (fun K _ hK hf hlo => by simp only [la_a, la_i, la_l, la_n]; exact sm_X3_init hK hf hlo p0 h)
abbrev FR_X3_thrown : Nat := 1
abbrev LO_X3_thrown : Nat := 16
theorem dyX3_thrown : DY yX3_thrown 0 := ⟨⟨by decide, by decide⟩, by decide +kernel⟩
theorem sm_X3_thrown {G : GC} {K : SC} (hK : SOK G K RX3 cX3_thrown 1 (some (.int)) "thrown" []) (hf : FR_X3_thrown ≤ (kR K).frames) (hlo : LO_X3_thrown ≤ (kR K).locals) (p0 : Option Nat) (h : AH) : Sim G K 1 (f_X3_thrown p0 h) h 0 [(0, va_rf p0)] [] := by
  unfold f_X3_thrown
  refine s_aload_n hK dX3_thrown_0 rfl 0 rfl ?_
  refine s_gI hK fcX3 0 (Nat.le_of_ble_eq_true rfl) (Or.inl q1684) (Or.inl rfl) dX3_thrown_1 (fun v1 => ?_)
  exact s_iret hK dX3_thrown_4
theorem ct_X3_thrown {G : GC} {l : Launch} (g : GOK G l) (p0 : Option Nat) (h : AH) : CT G l yX3_thrown (Cond.code yX3_thrown cX3_thrown 1 (some (.int))) 1 16 [va_rf p0] (f_X3_thrown p0 h) h :=
  CT.of g (by decide) (by simp only [ls_a, ls_i, ls_l, ls_n]; decide) (fun K _ hK hf hlo => by simp only [la_a, la_i, la_l, la_n]; exact sm_X3_thrown hK hf hlo p0 h)
abbrev FR_X3_in : Nat := 1
abbrev LO_X3_in : Nat := 16
theorem dyX3_in : DY yX3_in 3 := ⟨⟨by decide, by decide⟩, by decide +kernel⟩
theorem sm_X3_in {G : GC} {K : SC} (hK : SOK G K RX3 cX3_in 3 (some (.boolean)) "in" []) (hf : FR_X3_in ≤ (kR K).frames) (hlo : LO_X3_in ≤ (kR K).locals) (p0 : Int32) (p1 : Int32) (p2 : Int32) (h : AH) : Sim G K 3 (f_X3_in p0 p1 p2 h) h 0 [(0, .int p0), (1, .int p1), (2, .int p2)] [] := by
  unfold f_X3_in
  refine s_iload_n hK dX3_in_0 rfl 0 rfl ?_
  refine s_iload_n hK dX3_in_1 rfl 1 rfl ?_
  refine s_icmp_lt (tgt := 14) hK dX3_in_2 (by decide) (fun c2 => ?_) (fun c2 => ?_)
  · refine s_iconst (v := 0) hK dX3_in_14 rfl ?_
    exact s_zret hK dX3_in_15
  · refine s_iload_n hK dX3_in_5 rfl 0 rfl ?_
    refine s_iload_n hK dX3_in_6 rfl 2 rfl ?_
    refine s_icmp_gt (tgt := 14) hK dX3_in_7 (by decide) (fun c1 => ?_) (fun c1 => ?_)
    · refine s_iconst (v := 0) hK dX3_in_14 rfl ?_
      exact s_zret hK dX3_in_15
    · refine s_iconst (v := 1) hK dX3_in_10 rfl ?_
      refine s_goto (tgt := 15) hK dX3_in_11 (by decide) ?_
      exact s_zret hK dX3_in_15
theorem ct_X3_in {G : GC} {l : Launch} (g : GOK G l) (p0 : Int32) (p1 : Int32) (p2 : Int32) (h : AH) : CT G l yX3_in (Cond.code yX3_in cX3_in 3 (some (.boolean))) 1 16 [.int p0, .int p1, .int p2] (f_X3_in p0 p1 p2 h) h :=
  CT.of g (by decide) (by simp only [ls_a, ls_i, ls_l, ls_n]; decide) (fun K _ hK hf hlo => by simp only [la_a, la_i, la_l, la_n]; exact sm_X3_in hK hf hlo p0 p1 p2 h)
abbrev FR_X3_fails : Nat := 1
abbrev LO_X3_fails : Nat := 16
theorem dyX3_fails : DY yX3_fails 1 := ⟨⟨by decide, by decide⟩, by decide +kernel⟩
theorem sm_X3_fails {G : GC} {K : SC} (hK : SOK G K RX3 cX3_fails 2 (some (.int)) "fails" []) (hf : FR_X3_fails ≤ (kR K).frames) (hlo : LO_X3_fails ≤ (kR K).locals) (p0 : Option Nat) (p1 : Int32) (h : AH) : Sim G K 2 (f_X3_fails p0 p1 h) h 0 [(0, va_rf p0), (1, .int p1)] [] := by
  unfold f_X3_fails
  refine s_aload_n hK dX3_fails_0 rfl 0 rfl ?_
  refine s_iload_n hK dX3_fails_1 rfl 1 rfl ?_
  refine s_pF hK fcX3 0 (Nat.le_of_ble_eq_true rfl) (Or.inl q1684) (Or.inl rfl) (Or.inl rfl) rfl rfl dX3_fails_2 (fun h1 => ?_)
  refine s_iconst (v := 0) hK dX3_fails_5 rfl ?_
  exact s_iret hK dX3_fails_6
theorem ct_X3_fails {G : GC} {l : Launch} (g : GOK G l) (p0 : Option Nat) (p1 : Int32) (h : AH) : CT G l yX3_fails (Cond.code yX3_fails cX3_fails 2 (some (.int))) 1 16 [va_rf p0, .int p1] (f_X3_fails p0 p1 h) h :=
  CT.of g (by decide) (by simp only [ls_a, ls_i, ls_l, ls_n]; decide) (fun K _ hK hf hlo => by simp only [la_a, la_i, la_l, la_n]; exact sm_X3_fails hK hf hlo p0 p1 h)
abbrev FR_X3_appendCharacter : Nat := 2
abbrev LO_X3_appendCharacter : Nat := 38
theorem dyX3_appendCharacter : DY yX3_appendCharacter 1 := ⟨⟨by decide, by decide⟩, by decide +kernel⟩
theorem sm_X3_appendCharacter {G : GC} {K : SC} (hK : SOK G K RX3 cX3_appendCharacter 2 (some (.int)) "appendCharacter" []) (hf : FR_X3_appendCharacter ≤ (kR K).frames) (hlo : LO_X3_appendCharacter ≤ (kR K).locals) (p0 : Option Nat) (p1 : Int32) (h : AH) : Sim G K 2 (f_X3_appendCharacter p0 p1 h) h 0 [(0, va_rf p0), (1, .int p1)] [] := by
  unfold f_X3_appendCharacter
  refine s_aload_n hK dX3_appendCharacter_0 rfl 0 rfl ?_
  refine s_iconst (v := 0) hK dX3_appendCharacter_1 rfl ?_
  refine s_pF hK fcX3 0 (Nat.le_of_ble_eq_true rfl) (Or.inl q1684) (Or.inl rfl) (Or.inl rfl) rfl rfl dX3_appendCharacter_2 (fun h1 => ?_)
  refine s_iload_n hK dX3_appendCharacter_5 rfl 1 rfl ?_
  refine s_bipush (v := 33) hK dX3_appendCharacter_6 rfl ?_
  refine s_bipush (v := 126) hK dX3_appendCharacter_8 rfl ?_
  refine s_cI hK ho_n (cx_s (As := [.int p1, .int 33, .int 126]) (rest := []) hK dyX3_in rfl q1844 q1845 q80 q1846 (ct_X3_in hK.1 p1 33 126 h1) (Nat.le_trans (Nat.le_of_ble_eq_true rfl) hf) (Nat.le_trans (Nat.le_of_ble_eq_true rfl) hlo) rk_n (Nat.le_of_ble_eq_true rfl) dX3_appendCharacter_10 rfl) (fun v3 h2 => ?_)
  refine s_if_ne (tgt := 22) hK dX3_appendCharacter_13 (by decide) (fun c16 => ?_) (fun c16 => ?_)
  · refine s_aload_n hK dX3_appendCharacter_22 rfl 0 rfl ?_
    refine s_gI hK fcX3 13 (Nat.le_of_ble_eq_true rfl) (Or.inl q1697) (Or.inl rfl) dX3_appendCharacter_23 (fun v4 => ?_)
    refine s_bipush (v := 60) hK dX3_appendCharacter_26 rfl ?_
    refine s_icmp_ne (tgt := 37) hK dX3_appendCharacter_28 (by decide) (fun c13 => ?_) (fun c13 => ?_)
    · refine s_aload_n hK dX3_appendCharacter_37 rfl 0 rfl ?_
      refine s_gA hK fcX3 12 (Nat.le_of_ble_eq_true rfl) (Or.inl q1696) (Or.inl rfl) dX3_appendCharacter_38 (fun v5 => ?_)
      refine s_aload_n hK dX3_appendCharacter_41 rfl 0 rfl ?_
      refine s_gI hK fcX3 13 (Nat.le_of_ble_eq_true rfl) (Or.inl q1697) (Or.inl rfl) dX3_appendCharacter_42 (fun v6 => ?_)
      refine s_iload_n hK dX3_appendCharacter_45 rfl 1 rfl ?_
      refine s_iast hK dX3_appendCharacter_46 (fun h7 => ?_)
      refine s_aload_n hK dX3_appendCharacter_47 rfl 0 rfl ?_
      refine s_dup hK dX3_appendCharacter_48 (va_cat _) ?_
      refine s_gI hK fcX3 13 (Nat.le_of_ble_eq_true rfl) (Or.inl q1697) (Or.inl rfl) dX3_appendCharacter_49 (fun v8 => ?_)
      refine s_iconst (v := 1) hK dX3_appendCharacter_52 rfl ?_
      refine s_iadd hK dX3_appendCharacter_53 ?_
      refine s_pF hK fcX3 13 (Nat.le_of_ble_eq_true rfl) (Or.inl q1697) (Or.inl rfl) (Or.inl rfl) rfl rfl dX3_appendCharacter_54 (fun h9 => ?_)
      refine s_aload_n hK dX3_appendCharacter_57 rfl 0 rfl ?_
      refine s_gI hK fcX3 13 (Nat.le_of_ble_eq_true rfl) (Or.inl q1697) (Or.inl rfl) dX3_appendCharacter_58 (fun v10 => ?_)
      exact s_iret hK dX3_appendCharacter_61
    · refine s_aload_n hK dX3_appendCharacter_31 rfl 0 rfl ?_
      refine s_iconst (v := 2) hK dX3_appendCharacter_32 rfl ?_
      refine s_rc (fun _ _ eo er => ?_)
      refine s_cI hK ho_n (cx_v (As := [.int 2]) (rest := []) hK dyX3_fails rfl q1847 fcX3.1 q1849 qs34 q80 q1850 eo er (ct_X3_fails hK.1 p0 2 h2) (Nat.le_trans (Nat.le_of_ble_eq_true rfl) hf) (Nat.le_trans (Nat.le_of_ble_eq_true rfl) hlo) rk_n (Nat.le_of_ble_eq_true rfl) dX3_appendCharacter_33 rfl) (fun v12 h11 => ?_)
      exact s_iret hK dX3_appendCharacter_36
  · refine s_aload_n hK dX3_appendCharacter_16 rfl 0 rfl ?_
    refine s_iconst (v := 1) hK dX3_appendCharacter_17 rfl ?_
    refine s_rc (fun _ _ eo er => ?_)
    refine s_cI hK ho_n (cx_v (As := [.int 1]) (rest := []) hK dyX3_fails rfl q1847 fcX3.1 q1849 qs34 q80 q1850 eo er (ct_X3_fails hK.1 p0 1 h2) (Nat.le_trans (Nat.le_of_ble_eq_true rfl) hf) (Nat.le_trans (Nat.le_of_ble_eq_true rfl) hlo) rk_n (Nat.le_of_ble_eq_true rfl) dX3_appendCharacter_18 rfl) (fun v15 h14 => ?_)
    exact s_iret hK dX3_appendCharacter_21
theorem ct_X3_appendCharacter {G : GC} {l : Launch} (g : GOK G l) (p0 : Option Nat) (p1 : Int32) (h : AH) : CT G l yX3_appendCharacter (Cond.code yX3_appendCharacter cX3_appendCharacter 2 (some (.int))) 2 38 [va_rf p0, .int p1] (f_X3_appendCharacter p0 p1 h) h :=
  CT.of g (by decide) (by simp only [ls_a, ls_i, ls_l, ls_n]; decide) (fun K _ hK hf hlo => by simp only [la_a, la_i, la_l, la_n]; exact sm_X3_appendCharacter hK hf hlo p0 p1 h)
abbrev FR_X3_digitOf : Nat := 2
abbrev LO_X3_digitOf : Nat := 38
theorem dyX3_digitOf : DY yX3_digitOf 1 := ⟨⟨by decide, by decide⟩, by decide +kernel⟩
theorem sm_X3_digitOf {G : GC} {K : SC} (hK : SOK G K RX3 cX3_digitOf 1 (some (.int)) "digitOf" []) (hf : FR_X3_digitOf ≤ (kR K).frames) (hlo : LO_X3_digitOf ≤ (kR K).locals) (p0 : Int32) (h : AH) : Sim G K 1 (f_X3_digitOf p0 h) h 0 [(0, .int p0)] [] := by
  unfold f_X3_digitOf
  refine s_iload_n hK dX3_digitOf_0 rfl 0 rfl ?_
  refine s_bipush (v := 48) hK dX3_digitOf_1 rfl ?_
  refine s_bipush (v := 57) hK dX3_digitOf_3 rfl ?_
  refine s_cI hK ho_n (cx_s (As := [.int p0, .int 48, .int 57]) (rest := []) hK dyX3_in rfl q1844 q1845 q80 q1846 (ct_X3_in hK.1 p0 48 57 h) (Nat.le_trans (Nat.le_of_ble_eq_true rfl) hf) (Nat.le_trans (Nat.le_of_ble_eq_true rfl) hlo) rk_n (Nat.le_of_ble_eq_true rfl) dX3_digitOf_5 rfl) (fun v2 h1 => ?_)
  refine s_if_eq (tgt := 18) hK dX3_digitOf_8 (by decide) (fun c6 => ?_) (fun c6 => ?_)
  · refine s_iload_n hK dX3_digitOf_18 rfl 0 rfl ?_
    refine s_bipush (v := 97) hK dX3_digitOf_19 rfl ?_
    refine s_bipush (v := 102) hK dX3_digitOf_21 rfl ?_
    refine s_cI hK ho_n (cx_s (As := [.int p0, .int 97, .int 102]) (rest := []) hK dyX3_in rfl q1844 q1845 q80 q1846 (ct_X3_in hK.1 p0 97 102 h1) (Nat.le_trans (Nat.le_of_ble_eq_true rfl) hf) (Nat.le_trans (Nat.le_of_ble_eq_true rfl) hlo) rk_n (Nat.le_of_ble_eq_true rfl) dX3_digitOf_23 rfl) (fun v4 h3 => ?_)
    refine s_if_eq (tgt := 39) hK dX3_digitOf_26 (by decide) (fun c5 => ?_) (fun c5 => ?_)
    · refine s_iconst (v := (-1)) hK dX3_digitOf_39 rfl ?_
      exact s_iret hK dX3_digitOf_40
    · refine s_iload_n hK dX3_digitOf_29 rfl 0 rfl ?_
      refine s_bipush (v := 97) hK dX3_digitOf_30 rfl ?_
      refine s_isub hK dX3_digitOf_32 ?_
      refine s_bipush (v := 10) hK dX3_digitOf_33 rfl ?_
      refine s_iadd hK dX3_digitOf_35 ?_
      refine s_goto (tgt := 40) hK dX3_digitOf_36 (by decide) ?_
      exact s_iret hK dX3_digitOf_40
  · refine s_iload_n hK dX3_digitOf_11 rfl 0 rfl ?_
    refine s_bipush (v := 48) hK dX3_digitOf_12 rfl ?_
    refine s_isub hK dX3_digitOf_14 ?_
    refine s_goto (tgt := 40) hK dX3_digitOf_15 (by decide) ?_
    exact s_iret hK dX3_digitOf_40
theorem ct_X3_digitOf {G : GC} {l : Launch} (g : GOK G l) (p0 : Int32) (h : AH) : CT G l yX3_digitOf (Cond.code yX3_digitOf cX3_digitOf 1 (some (.int))) 2 38 [.int p0] (f_X3_digitOf p0 h) h :=
  CT.of g (by decide) (by simp only [ls_a, ls_i, ls_l, ls_n]; decide) (fun K _ hK hf hlo => by simp only [la_a, la_i, la_l, la_n]; exact sm_X3_digitOf hK hf hlo p0 h)
abbrev FR_X3_changes : Nat := 1
abbrev LO_X3_changes : Nat := 16
theorem dyX3_changes : DY yX3_changes 1 := ⟨⟨by decide, by decide⟩, by decide +kernel⟩
theorem sm_X3_changes {G : GC} {K : SC} (hK : SOK G K RX3 cX3_changes 2 (none) "changes" []) (hf : FR_X3_changes ≤ (kR K).frames) (hlo : LO_X3_changes ≤ (kR K).locals) (p0 : Option Nat) (p1 : Int32) (h : AH) : Sim G K 2 (f_X3_changes p0 p1 h) h 0 [(0, va_rf p0), (1, .int p1)] [] := by
  unfold f_X3_changes
  refine s_aload_n hK dX3_changes_0 rfl 0 rfl ?_
  refine s_iconst (v := 0) hK dX3_changes_1 rfl ?_
  refine s_pZ hK fcX3 15 (Nat.le_of_ble_eq_true rfl) (Or.inl q1699) (Or.inl rfl) (Or.inl rfl) rfl dX3_changes_2 (fun h1 => ?_)
  refine s_aload_n hK dX3_changes_5 rfl 0 rfl ?_
  refine s_aload_n hK dX3_changes_6 rfl 0 rfl ?_
  refine s_gI hK fcX3 39 (Nat.le_of_ble_eq_true rfl) (Or.inl q1723) (Or.inl rfl) dX3_changes_7 (fun v2 => ?_)
  refine s_if_eq (tgt := 21) hK dX3_changes_10 (by decide) (fun c7 => ?_) (fun c7 => ?_)
  · refine s_iconst (v := 0) hK dX3_changes_21 rfl ?_
    refine s_pZ hK fcX3 39 (Nat.le_of_ble_eq_true rfl) (Or.inl q1723) (Or.inl rfl) (Or.inl rfl) rfl dX3_changes_22 (fun h3 => ?_)
    exact s_vret hK dX3_changes_25
  · refine s_iload_n hK dX3_changes_13 rfl 1 rfl ?_
    refine s_if_ne (tgt := 21) hK dX3_changes_14 (by decide) (fun c6 => ?_) (fun c6 => ?_)
    · refine s_iconst (v := 0) hK dX3_changes_21 rfl ?_
      refine s_pZ hK fcX3 39 (Nat.le_of_ble_eq_true rfl) (Or.inl q1723) (Or.inl rfl) (Or.inl rfl) rfl dX3_changes_22 (fun h4 => ?_)
      exact s_vret hK dX3_changes_25
    · refine s_iconst (v := 1) hK dX3_changes_17 rfl ?_
      refine s_goto (tgt := 22) hK dX3_changes_18 (by decide) ?_
      refine s_pZ hK fcX3 39 (Nat.le_of_ble_eq_true rfl) (Or.inl q1723) (Or.inl rfl) (Or.inl rfl) rfl dX3_changes_22 (fun h5 => ?_)
      exact s_vret hK dX3_changes_25
theorem ct_X3_changes {G : GC} {l : Launch} (g : GOK G l) (p0 : Option Nat) (p1 : Int32) (h : AH) : CT G l yX3_changes (Cond.code yX3_changes cX3_changes 2 (none)) 1 16 [va_rf p0, .int p1] (f_X3_changes p0 p1 h) h :=
  CT.of g (by decide) (by simp only [ls_a, ls_i, ls_l, ls_n]; decide) (fun K _ hK hf hlo => by simp only [la_a, la_i, la_l, la_n]; exact sm_X3_changes hK hf hlo p0 p1 h)
abbrev FR_X3_addBytes : Nat := 3
abbrev LO_X3_addBytes : Nat := 58
theorem dyX3_addBytes : DY yX3_addBytes 0 := ⟨⟨by decide, by decide⟩, by decide +kernel⟩
theorem sm_X3_addBytes_L7 {G : GC} {K : SC} (hK : SOK G K RX3 cX3_addBytes 4 (some (.int)) "addBytes" []) (hf : FR_X3_addBytes ≤ (kR K).frames) (hlo : LO_X3_addBytes ≤ (kR K).locals) {k33 : Option Nat → Int32 → AH → RS} (hk33 : ∀ (y0 : Option Nat) (y1 : Int32) (h : AH), Sim G K 4 (k33 y0 y1 h) h 33 [(0, va_rf y0), (1, .int y1)] []) : ∀ (n : Nat) (x2 : Option Nat) (x3 : Int32) (h4 : AH), Sim G K 4 (f_X3_addBytes_L7 k33 n x2 x3 h4) h4 7 [(0, va_rf x2), (1, .int x3)] [] := by
  intro n
  induction n with
  | zero => intro x2 x3 h4; exact s_none
  | succ n ih =>
    intro x2 x3 h4
    rw [f_X3_addBytes_L7]
    refine s_iload_n hK dX3_addBytes_7 rfl 1 rfl ?_
    refine s_aload_n hK dX3_addBytes_8 rfl 0 rfl ?_
    refine s_gI hK fcX3 13 (Nat.le_of_ble_eq_true rfl) (Or.inl q1697) (Or.inl rfl) dX3_addBytes_9 (fun v5 => ?_)
    refine s_icmp_ge (tgt := 33) hK dX3_addBytes_12 (by decide) (fun c11 => ?_) (fun c11 => ?_)
    · exact hk33 x2 x3 h4
    · refine s_aload_n hK dX3_addBytes_15 rfl 0 rfl ?_
      refine s_gA hK fcX3 12 (Nat.le_of_ble_eq_true rfl) (Or.inl q1696) (Or.inl rfl) dX3_addBytes_16 (fun v6 => ?_)
      refine s_iload_n hK dX3_addBytes_19 rfl 1 rfl ?_
      refine s_iald hK dX3_addBytes_20 (fun v7 => ?_)
      refine s_cI hK ho_n (cx_s (As := [.int v7]) (rest := []) hK dyX3_digitOf rfl q1855 q1856 q80 q1857 (ct_X3_digitOf hK.1 v7 h4) (Nat.le_trans (Nat.le_of_ble_eq_true rfl) hf) (Nat.le_trans (Nat.le_of_ble_eq_true rfl) hlo) rk_n (Nat.le_of_ble_eq_true rfl) dX3_addBytes_21 rfl) (fun v9 h8 => ?_)
      refine s_if_lt (tgt := 33) hK dX3_addBytes_24 (by decide) (fun c10 => ?_) (fun c10 => ?_)
      · exact hk33 x2 x3 h8
      · refine s_iinc (j := 1) (v := 1) (lv' := [(1, .int (x3 + 1)), (0, va_rf x2)]) hK dX3_addBytes_27 rfl rfl (Nat.le_of_ble_eq_true rfl) (flA (pre := []) (suf := [(1, .int x3)]) rfl rfl) ?_
        refine s_goto (tgt := 7) hK dX3_addBytes_30 (by decide) ?_
        refine s_sub [1, 0] rfl ?_
        exact ih x2 (x3 + 1) h8
theorem sm_X3_addBytes_L111 {G : GC} {K : SC} (hK : SOK G K RX3 cX3_addBytes 4 (some (.int)) "addBytes" []) (hf : FR_X3_addBytes ≤ (kR K).frames) (hlo : LO_X3_addBytes ≤ (kR K).locals) {k161 : Option Nat → Int32 → AH → RS} (hk161 : ∀ (y0 : Option Nat) (y1 : Int32) (h : AH), Sim G K 4 (k161 y0 y1 h) h 161 [(0, va_rf y0), (2, .int y1)] []) : ∀ (n : Nat) (x32 : Option Nat) (x33 : Int32) (x34 : Int32) (h35 : AH), Sim G K 4 (f_X3_addBytes_L111 k161 n x32 x33 x34 h35) h35 111 [(0, va_rf x32), (2, .int x33), (3, .int x34)] [] := by
  intro n
  induction n with
  | zero => intro x32 x33 x34 h35; exact s_none
  | succ n ih =>
    intro x32 x33 x34 h35
    rw [f_X3_addBytes_L111]
    refine s_iload_n hK dX3_addBytes_111 rfl 2 rfl ?_
    refine s_iload_n hK dX3_addBytes_112 rfl 1 rfl ?_
    refine s_icmp_ge (tgt := 161) hK dX3_addBytes_113 (by decide) (fun c47 => ?_) (fun c47 => ?_)
    · refine s_sub [0, 1] rfl ?_
      exact hk161 x32 x33 h35
    · refine s_aload_n hK dX3_addBytes_116 rfl 0 rfl ?_
      refine s_gA hK fcX3 1 (Nat.le_of_ble_eq_true rfl) (Or.inl q1685) (Or.inl rfl) dX3_addBytes_117 (fun v36 => ?_)
      refine s_aload_n hK dX3_addBytes_120 rfl 0 rfl ?_
      refine s_gI hK fcX3 5 (Nat.le_of_ble_eq_true rfl) (Or.inl q1689) (Or.inl rfl) dX3_addBytes_121 (fun v37 => ?_)
      refine s_iload_n hK dX3_addBytes_124 rfl 2 rfl ?_
      refine s_iadd hK dX3_addBytes_125 ?_
      refine s_bipush (v := 16) hK dX3_addBytes_126 rfl ?_
      refine s_aload_n hK dX3_addBytes_128 rfl 0 rfl ?_
      refine s_gA hK fcX3 12 (Nat.le_of_ble_eq_true rfl) (Or.inl q1696) (Or.inl rfl) dX3_addBytes_129 (fun v38 => ?_)
      refine s_iconst (v := 2) hK dX3_addBytes_132 rfl ?_
      refine s_iload_n hK dX3_addBytes_133 rfl 2 rfl ?_
      refine s_imul hK dX3_addBytes_134 ?_
      refine s_iald hK dX3_addBytes_135 (fun v39 => ?_)
      refine s_cI hK ho_n (cx_s (As := [.int v39]) (rest := [.int 16, .int (v37 + x34), va_rf v36]) hK dyX3_digitOf rfl q1855 q1856 q80 q1857 (ct_X3_digitOf hK.1 v39 h35) (Nat.le_trans (Nat.le_of_ble_eq_true rfl) hf) (Nat.le_trans (Nat.le_of_ble_eq_true rfl) hlo) (rk_i (rk_i (rk_a rk_n))) (Nat.le_of_ble_eq_true rfl) dX3_addBytes_136 rfl) (fun v41 h40 => ?_)
      refine s_imul hK dX3_addBytes_139 ?_
      refine s_aload_n hK dX3_addBytes_140 rfl 0 rfl ?_
      refine s_gA hK fcX3 12 (Nat.le_of_ble_eq_true rfl) (Or.inl q1696) (Or.inl rfl) dX3_addBytes_141 (fun v42 => ?_)
      refine s_iconst (v := 2) hK dX3_addBytes_144 rfl ?_
      refine s_iload_n hK dX3_addBytes_145 rfl 2 rfl ?_
      refine s_imul hK dX3_addBytes_146 ?_
      refine s_iconst (v := 1) hK dX3_addBytes_147 rfl ?_
      refine s_iadd hK dX3_addBytes_148 ?_
      refine s_iald hK dX3_addBytes_149 (fun v43 => ?_)
      refine s_cI hK ho_n (cx_s (As := [.int v43]) (rest := [.int (16 * v41), .int (v37 + x34), va_rf v36]) hK dyX3_digitOf rfl q1855 q1856 q80 q1857 (ct_X3_digitOf hK.1 v43 h40) (Nat.le_trans (Nat.le_of_ble_eq_true rfl) hf) (Nat.le_trans (Nat.le_of_ble_eq_true rfl) hlo) (rk_i (rk_i (rk_a rk_n))) (Nat.le_of_ble_eq_true rfl) dX3_addBytes_150 rfl) (fun v45 h44 => ?_)
      refine s_iadd hK dX3_addBytes_153 ?_
      refine s_iast hK dX3_addBytes_154 (fun h46 => ?_)
      refine s_iinc (j := 2) (v := 1) (lv' := [(3, .int (x34 + 1)), (0, va_rf x32), (2, .int x33)]) hK dX3_addBytes_155 rfl rfl (Nat.le_of_ble_eq_true rfl) rfl ?_
      refine s_goto (tgt := 111) hK dX3_addBytes_158 (by decide) ?_
      refine s_sub [1, 2, 0] rfl ?_
      exact ih x32 x33 (x34 + 1) h46
theorem sm_X3_addBytes_J64 {G : GC} {K : SC} (hK : SOK G K RX3 cX3_addBytes 4 (some (.int)) "addBytes" []) (hf : FR_X3_addBytes ≤ (kR K).frames) (hlo : LO_X3_addBytes ≤ (kR K).locals) (x23 : Option Nat) (y24 : Int32) (y25 : Option Nat) (h26 : AH) : Sim G K 4 (f_X3_addBytes_J64 x23 y24 y25 h26) h26 64 [(0, va_rf x23)] [.int y24, va_rf y25] := by
  unfold f_X3_addBytes_J64
  refine s_pF hK fcX3 14 (Nat.le_of_ble_eq_true rfl) (Or.inl q1698) (Or.inl rfl) (Or.inl rfl) rfl rfl dX3_addBytes_64 (fun h27 => ?_)
  refine s_aload_n hK dX3_addBytes_67 rfl 0 rfl ?_
  refine s_gI hK fcX3 13 (Nat.le_of_ble_eq_true rfl) (Or.inl q1697) (Or.inl rfl) dX3_addBytes_68 (fun v28 => ?_)
  refine s_iconst (v := 2) hK dX3_addBytes_71 rfl ?_
  refine s_idiv hK dX3_addBytes_72 (by decide) ?_
  refine s_istore_n (lv' := [(2, .int (v28 / 2)), (0, va_rf x23)]) hK dX3_addBytes_73 rfl (Nat.le_of_ble_eq_true rfl) rfl ?_
  refine s_aload_n hK dX3_addBytes_74 rfl 1 rfl ?_
  refine s_iconst (v := 0) hK dX3_addBytes_75 rfl ?_
  refine s_pF hK fcX3 13 (Nat.le_of_ble_eq_true rfl) (Or.inl q1697) (Or.inl rfl) (Or.inl rfl) rfl rfl dX3_addBytes_76 (fun h29 => ?_)
  refine s_aload_n hK dX3_addBytes_79 rfl 1 rfl ?_
  refine s_gI hK fcX3 14 (Nat.le_of_ble_eq_true rfl) (Or.inl q1698) (Or.inl rfl) dX3_addBytes_80 (fun v30 => ?_)
  refine s_if_lt (tgt := 92) hK dX3_addBytes_83 (by decide) (fun c60 => ?_) (fun c60 => ?_)
  · refine s_aload_n hK dX3_addBytes_92 rfl 1 rfl ?_
    refine s_gI hK fcX3 5 (Nat.le_of_ble_eq_true rfl) (Or.inl q1689) (Or.inl rfl) dX3_addBytes_93 (fun v31 => ?_)
    refine s_iload_n hK dX3_addBytes_96 rfl 0 rfl ?_
    refine s_iadd hK dX3_addBytes_97 ?_
    refine s_bipush (v := 96) hK dX3_addBytes_98 rfl ?_
    refine s_icmp_le (tgt := 109) hK dX3_addBytes_100 (by decide) (fun c57 => ?_) (fun c57 => ?_)
    · refine s_iconst (v := 0) hK dX3_addBytes_109 rfl ?_
      refine s_istore_n (lv' := [(3, .int 0), (2, .int (v28 / 2)), (0, va_rf x23)]) hK dX3_addBytes_110 rfl (Nat.le_of_ble_eq_true rfl) rfl ?_
      refine s_sub [2, 1, 0] rfl ?_
      refine sm_X3_addBytes_L111 hK hf hlo (fun x48 x49 h50 => ?_) FUEL x23 (v28 / 2) 0 h29
      · refine s_aload_n hK dX3_addBytes_161 rfl 0 rfl ?_
        refine s_dup hK dX3_addBytes_162 (va_cat _) ?_
        refine s_gI hK fcX3 5 (Nat.le_of_ble_eq_true rfl) (Or.inl q1689) (Or.inl rfl) dX3_addBytes_163 (fun v51 => ?_)
        refine s_iload_n hK dX3_addBytes_166 rfl 1 rfl ?_
        refine s_iadd hK dX3_addBytes_167 ?_
        refine s_pF hK fcX3 5 (Nat.le_of_ble_eq_true rfl) (Or.inl q1689) (Or.inl rfl) (Or.inl rfl) rfl rfl dX3_addBytes_168 (fun h52 => ?_)
        refine s_aload_n hK dX3_addBytes_171 rfl 0 rfl ?_
        refine s_iconst (v := 1) hK dX3_addBytes_172 rfl ?_
        refine s_rc (fun _ _ eo er => ?_)
        refine s_cV hK ho_n (cx_v (As := [.int 1]) (rest := []) hK dyX3_changes rfl q1858 fcX3.1 q1860 qs35 q80 q1861 eo er (ct_X3_changes hK.1 x48 1 h52) (Nat.le_trans (Nat.le_of_ble_eq_true rfl) hf) (Nat.le_trans (Nat.le_of_ble_eq_true rfl) hlo) rk_n (Nat.le_of_ble_eq_true rfl) dX3_addBytes_173 rfl) (fun h53 => ?_)
        refine s_aload_n hK dX3_addBytes_176 rfl 0 rfl ?_
        refine s_gI hK fcX3 5 (Nat.le_of_ble_eq_true rfl) (Or.inl q1689) (Or.inl rfl) dX3_addBytes_177 (fun v54 => ?_)
        exact s_iret hK dX3_addBytes_180
    · refine s_aload_n hK dX3_addBytes_103 rfl 1 rfl ?_
      refine s_iconst (v := 2) hK dX3_addBytes_104 rfl ?_
      refine s_rc (fun _ _ eo er => ?_)
      refine s_cI hK ho_n (cx_v (As := [.int 2]) (rest := []) hK dyX3_fails rfl q1847 fcX3.1 q1849 qs34 q80 q1850 eo er (ct_X3_fails hK.1 x23 2 h29) (Nat.le_trans (Nat.le_of_ble_eq_true rfl) hf) (Nat.le_trans (Nat.le_of_ble_eq_true rfl) hlo) rk_n (Nat.le_of_ble_eq_true rfl) dX3_addBytes_105 rfl) (fun v56 h55 => ?_)
      exact s_iret hK dX3_addBytes_108
  · refine s_aload_n hK dX3_addBytes_86 rfl 1 rfl ?_
    refine s_iconst (v := 1) hK dX3_addBytes_87 rfl ?_
    refine s_rc (fun _ _ eo er => ?_)
    refine s_cI hK ho_n (cx_v (As := [.int 1]) (rest := []) hK dyX3_fails rfl q1847 fcX3.1 q1849 qs34 q80 q1850 eo er (ct_X3_fails hK.1 x23 1 h29) (Nat.le_trans (Nat.le_of_ble_eq_true rfl) hf) (Nat.le_trans (Nat.le_of_ble_eq_true rfl) hlo) rk_n (Nat.le_of_ble_eq_true rfl) dX3_addBytes_88 rfl) (fun v59 h58 => ?_)
    exact s_iret hK dX3_addBytes_91
theorem sm_X3_addBytes_J59 {G : GC} {K : SC} (hK : SOK G K RX3 cX3_addBytes 4 (some (.int)) "addBytes" []) (hf : FR_X3_addBytes ≤ (kR K).frames) (hlo : LO_X3_addBytes ≤ (kR K).locals) (x19 : Option Nat) (x20 : Int32) (y21 : Option Nat) (h22 : AH) : Sim G K 4 (f_X3_addBytes_J59 x19 x20 y21 h22) h22 59 [(0, va_rf x19), (1, .int x20)] [va_rf y21] := by
  unfold f_X3_addBytes_J59
  refine s_iload_n hK dX3_addBytes_59 rfl 1 rfl ?_
  refine s_goto (tgt := 64) hK dX3_addBytes_60 (by decide) ?_
  refine s_sub [0] rfl ?_
  exact sm_X3_addBytes_J64 hK hf hlo x19 x20 y21 h22
theorem sm_X3_addBytes_J33 {G : GC} {K : SC} (hK : SOK G K RX3 cX3_addBytes 4 (some (.int)) "addBytes" []) (hf : FR_X3_addBytes ≤ (kR K).frames) (hlo : LO_X3_addBytes ≤ (kR K).locals) (x15 : Option Nat) (x16 : Int32)  (h17 : AH) : Sim G K 4 (f_X3_addBytes_J33 x15 x16 h17) h17 33 [(0, va_rf x15), (1, .int x16)] [] := by
  unfold f_X3_addBytes_J33
  refine s_aload_n hK dX3_addBytes_33 rfl 0 rfl ?_
  refine s_iload_n hK dX3_addBytes_34 rfl 1 rfl ?_
  refine s_aload_n hK dX3_addBytes_35 rfl 0 rfl ?_
  refine s_gI hK fcX3 13 (Nat.le_of_ble_eq_true rfl) (Or.inl q1697) (Or.inl rfl) dX3_addBytes_36 (fun v18 => ?_)
  refine s_icmp_lt (tgt := 59) hK dX3_addBytes_39 (by decide) (fun c65 => ?_) (fun c65 => ?_)
  · exact sm_X3_addBytes_J59 hK hf hlo x15 x16 x15 h17
  · refine s_aload_n hK dX3_addBytes_42 rfl 0 rfl ?_
    refine s_gI hK fcX3 13 (Nat.le_of_ble_eq_true rfl) (Or.inl q1697) (Or.inl rfl) dX3_addBytes_43 (fun v61 => ?_)
    refine s_iconst (v := 2) hK dX3_addBytes_46 rfl ?_
    refine s_irem hK dX3_addBytes_47 (by decide) ?_
    refine s_iconst (v := 1) hK dX3_addBytes_48 rfl ?_
    refine s_icmp_eq (tgt := 59) hK dX3_addBytes_49 (by decide) (fun c64 => ?_) (fun c64 => ?_)
    · exact sm_X3_addBytes_J59 hK hf hlo x15 x16 x15 h17
    · refine s_aload_n hK dX3_addBytes_52 rfl 0 rfl ?_
      refine s_gI hK fcX3 13 (Nat.le_of_ble_eq_true rfl) (Or.inl q1697) (Or.inl rfl) dX3_addBytes_53 (fun v62 => ?_)
      refine s_if_ne (tgt := 63) hK dX3_addBytes_56 (by decide) (fun c63 => ?_) (fun c63 => ?_)
      · refine s_iconst (v := (-1)) hK dX3_addBytes_63 rfl ?_
        refine s_sub [0] rfl ?_
        exact sm_X3_addBytes_J64 hK hf hlo x15 (-1) x15 h17
      · exact sm_X3_addBytes_J59 hK hf hlo x15 x16 x15 h17
theorem sm_X3_addBytes {G : GC} {K : SC} (hK : SOK G K RX3 cX3_addBytes 4 (some (.int)) "addBytes" []) (hf : FR_X3_addBytes ≤ (kR K).frames) (hlo : LO_X3_addBytes ≤ (kR K).locals) (p0 : Option Nat) (h : AH) : Sim G K 4 (f_X3_addBytes p0 h) h 0 [(0, va_rf p0)] [] := by
  unfold f_X3_addBytes
  refine s_aload_n hK dX3_addBytes_0 rfl 0 rfl ?_
  refine s_iconst (v := 0) hK dX3_addBytes_1 rfl ?_
  refine s_pF hK fcX3 0 (Nat.le_of_ble_eq_true rfl) (Or.inl q1684) (Or.inl rfl) (Or.inl rfl) rfl rfl dX3_addBytes_2 (fun h1 => ?_)
  refine s_iconst (v := 0) hK dX3_addBytes_5 rfl ?_
  refine s_istore_n (lv' := [(1, .int 0), (0, va_rf p0)]) hK dX3_addBytes_6 rfl (Nat.le_of_ble_eq_true rfl) (flA (pre := []) (suf := []) rfl rfl) ?_
  refine s_sub [1, 0] rfl ?_
  refine sm_X3_addBytes_L7 hK hf hlo (fun x12 x13 h14 => ?_) FUEL p0 0 h1
  · exact sm_X3_addBytes_J33 hK hf hlo x12 x13 h14
theorem ct_X3_addBytes {G : GC} {l : Launch} (g : GOK G l) (p0 : Option Nat) (h : AH) : CT G l yX3_addBytes (Cond.code yX3_addBytes cX3_addBytes 4 (some (.int))) 3 58 [va_rf p0] (f_X3_addBytes p0 h) h :=
  CT.of g (by decide) (by simp only [ls_a, ls_i, ls_l, ls_n]; decide) (fun K _ hK hf hlo => by simp only [la_a, la_i, la_l, la_n]; exact sm_X3_addBytes hK hf hlo p0 h)
abbrev FR_X3_faultPosition : Nat := 1
abbrev LO_X3_faultPosition : Nat := 16
theorem dyX3_faultPosition : DY yX3_faultPosition 0 := ⟨⟨by decide, by decide⟩, by decide +kernel⟩
theorem sm_X3_faultPosition {G : GC} {K : SC} (hK : SOK G K RX3 cX3_faultPosition 1 (some (.int)) "faultPosition" []) (hf : FR_X3_faultPosition ≤ (kR K).frames) (hlo : LO_X3_faultPosition ≤ (kR K).locals) (p0 : Option Nat) (h : AH) : Sim G K 1 (f_X3_faultPosition p0 h) h 0 [(0, va_rf p0)] [] := by
  unfold f_X3_faultPosition
  refine s_aload_n hK dX3_faultPosition_0 rfl 0 rfl ?_
  refine s_iconst (v := 0) hK dX3_faultPosition_1 rfl ?_
  refine s_pF hK fcX3 0 (Nat.le_of_ble_eq_true rfl) (Or.inl q1684) (Or.inl rfl) (Or.inl rfl) rfl rfl dX3_faultPosition_2 (fun h1 => ?_)
  refine s_aload_n hK dX3_faultPosition_5 rfl 0 rfl ?_
  refine s_gI hK fcX3 14 (Nat.le_of_ble_eq_true rfl) (Or.inl q1698) (Or.inl rfl) dX3_faultPosition_6 (fun v2 => ?_)
  exact s_iret hK dX3_faultPosition_9
theorem ct_X3_faultPosition {G : GC} {l : Launch} (g : GOK G l) (p0 : Option Nat) (h : AH) : CT G l yX3_faultPosition (Cond.code yX3_faultPosition cX3_faultPosition 1 (some (.int))) 1 16 [va_rf p0] (f_X3_faultPosition p0 h) h :=
  CT.of g (by decide) (by simp only [ls_a, ls_i, ls_l, ls_n]; decide) (fun K _ hK hf hlo => by simp only [la_a, la_i, la_l, la_n]; exact sm_X3_faultPosition hK hf hlo p0 h)
abbrev FR_X3_isAddress : Nat := 2
abbrev LO_X3_isAddress : Nat := 38
theorem dyX3_isAddress : DY yX3_isAddress 1 := ⟨⟨by decide, by decide⟩, by decide +kernel⟩
theorem sm_X3_isAddress {G : GC} {K : SC} (hK : SOK G K RX3 cX3_isAddress 2 (some (.boolean)) "isAddress" []) (hf : FR_X3_isAddress ≤ (kR K).frames) (hlo : LO_X3_isAddress ≤ (kR K).locals) (p0 : Option Nat) (p1 : Int32) (h : AH) : Sim G K 2 (f_X3_isAddress p0 p1 h) h 0 [(0, va_rf p0), (1, .int p1)] [] := by
  unfold f_X3_isAddress
  refine s_iload_n hK dX3_isAddress_0 rfl 1 rfl ?_
  refine s_iconst (v := 0) hK dX3_isAddress_1 rfl ?_
  refine s_aload_n hK dX3_isAddress_2 rfl 0 rfl ?_
  refine s_gI hK fcX3 5 (Nat.le_of_ble_eq_true rfl) (Or.inl q1689) (Or.inl rfl) dX3_isAddress_3 (fun v1 => ?_)
  refine s_iconst (v := 1) hK dX3_isAddress_6 rfl ?_
  refine s_isub hK dX3_isAddress_7 ?_
  refine s_cI hK ho_n (cx_s (As := [.int p1, .int 0, .int (v1 - 1)]) (rest := []) hK dyX3_in rfl q1844 q1845 q80 q1846 (ct_X3_in hK.1 p1 0 (v1 - 1) h) (Nat.le_trans (Nat.le_of_ble_eq_true rfl) hf) (Nat.le_trans (Nat.le_of_ble_eq_true rfl) hlo) rk_n (Nat.le_of_ble_eq_true rfl) dX3_isAddress_8 rfl) (fun v3 h2 => ?_)
  exact s_zret hK dX3_isAddress_11
theorem ct_X3_isAddress {G : GC} {l : Launch} (g : GOK G l) (p0 : Option Nat) (p1 : Int32) (h : AH) : CT G l yX3_isAddress (Cond.code yX3_isAddress cX3_isAddress 2 (some (.boolean))) 2 38 [va_rf p0, .int p1] (f_X3_isAddress p0 p1 h) h :=
  CT.of g (by decide) (by simp only [ls_a, ls_i, ls_l, ls_n]; decide) (fun K _ hK hf hlo => by simp only [la_a, la_i, la_l, la_n]; exact sm_X3_isAddress hK hf hlo p0 p1 h)
abbrev FR_X3_setByte : Nat := 3
abbrev LO_X3_setByte : Nat := 59
theorem dyX3_setByte : DY yX3_setByte 2 := ⟨⟨by decide, by decide⟩, by decide +kernel⟩
theorem sm_X3_setByte {G : GC} {K : SC} (hK : SOK G K RX3 cX3_setByte 4 (some (.int)) "setByte" []) (hf : FR_X3_setByte ≤ (kR K).frames) (hlo : LO_X3_setByte ≤ (kR K).locals) (p0 : Option Nat) (p1 : Int32) (p2 : Int32) (h : AH) : Sim G K 4 (f_X3_setByte p0 p1 p2 h) h 0 [(0, va_rf p0), (1, .int p1), (2, .int p2)] [] := by
  unfold f_X3_setByte
  refine s_aload_n hK dX3_setByte_0 rfl 0 rfl ?_
  refine s_iconst (v := 0) hK dX3_setByte_1 rfl ?_
  refine s_pF hK fcX3 0 (Nat.le_of_ble_eq_true rfl) (Or.inl q1684) (Or.inl rfl) (Or.inl rfl) rfl rfl dX3_setByte_2 (fun h1 => ?_)
  refine s_aload_n hK dX3_setByte_5 rfl 0 rfl ?_
  refine s_iload_n hK dX3_setByte_6 rfl 1 rfl ?_
  refine s_rc (fun _ _ eo er => ?_)
  refine s_cI hK ho_n (cx_v (As := [.int p1]) (rest := []) hK dyX3_isAddress rfl q1870 fcX3.1 q1872 qs36 q80 q1873 eo er (ct_X3_isAddress hK.1 p0 p1 h1) (Nat.le_trans (Nat.le_of_ble_eq_true rfl) hf) (Nat.le_trans (Nat.le_of_ble_eq_true rfl) hlo) rk_n (Nat.le_of_ble_eq_true rfl) dX3_setByte_7 rfl) (fun v3 h2 => ?_)
  refine s_if_ne (tgt := 19) hK dX3_setByte_10 (by decide) (fun c16 => ?_) (fun c16 => ?_)
  · refine s_iload_n hK dX3_setByte_19 rfl 2 rfl ?_
    refine s_iconst (v := 0) hK dX3_setByte_20 rfl ?_
    refine s_sipush (v := 255) hK dX3_setByte_21 rfl ?_
    refine s_cI hK ho_n (cx_s (As := [.int p2, .int 0, .int 255]) (rest := []) hK dyX3_in rfl q1844 q1845 q80 q1846 (ct_X3_in hK.1 p2 0 255 h2) (Nat.le_trans (Nat.le_of_ble_eq_true rfl) hf) (Nat.le_trans (Nat.le_of_ble_eq_true rfl) hlo) rk_n (Nat.le_of_ble_eq_true rfl) dX3_setByte_24 rfl) (fun v5 h4 => ?_)
    refine s_if_ne (tgt := 36) hK dX3_setByte_27 (by decide) (fun c13 => ?_) (fun c13 => ?_)
    · refine s_aload_n hK dX3_setByte_36 rfl 0 rfl ?_
      refine s_gA hK fcX3 1 (Nat.le_of_ble_eq_true rfl) (Or.inl q1685) (Or.inl rfl) dX3_setByte_37 (fun v6 => ?_)
      refine s_iload_n hK dX3_setByte_40 rfl 1 rfl ?_
      refine s_iald hK dX3_setByte_41 (fun v7 => ?_)
      refine s_istore_n (lv' := [(3, .int v7), (0, va_rf p0), (1, .int p1), (2, .int p2)]) hK dX3_setByte_42 rfl (Nat.le_of_ble_eq_true rfl) rfl ?_
      refine s_aload_n hK dX3_setByte_43 rfl 1 rfl ?_
      refine s_gA hK fcX3 1 (Nat.le_of_ble_eq_true rfl) (Or.inl q1685) (Or.inl rfl) dX3_setByte_44 (fun v8 => ?_)
      refine s_iload_n hK dX3_setByte_47 rfl 2 rfl ?_
      refine s_iload_n hK dX3_setByte_48 rfl 3 rfl ?_
      refine s_iast hK dX3_setByte_49 (fun h9 => ?_)
      refine s_aload_n hK dX3_setByte_50 rfl 1 rfl ?_
      refine s_iconst (v := 1) hK dX3_setByte_51 rfl ?_
      refine s_rc (fun _ _ eo er => ?_)
      refine s_cV hK ho_n (cx_v (As := [.int 1]) (rest := []) hK dyX3_changes rfl q1858 fcX3.1 q1860 qs35 q80 q1861 eo er (ct_X3_changes hK.1 p0 1 h9) (Nat.le_trans (Nat.le_of_ble_eq_true rfl) hf) (Nat.le_trans (Nat.le_of_ble_eq_true rfl) hlo) rk_n (Nat.le_of_ble_eq_true rfl) dX3_setByte_52 rfl) (fun h10 => ?_)
      refine s_iload_n hK dX3_setByte_55 rfl 0 rfl ?_
      exact s_iret hK dX3_setByte_56
    · refine s_aload_n hK dX3_setByte_30 rfl 0 rfl ?_
      refine s_iconst (v := 2) hK dX3_setByte_31 rfl ?_
      refine s_rc (fun _ _ eo er => ?_)
      refine s_cI hK ho_n (cx_v (As := [.int 2]) (rest := []) hK dyX3_fails rfl q1847 fcX3.1 q1849 qs34 q80 q1850 eo er (ct_X3_fails hK.1 p0 2 h4) (Nat.le_trans (Nat.le_of_ble_eq_true rfl) hf) (Nat.le_trans (Nat.le_of_ble_eq_true rfl) hlo) rk_n (Nat.le_of_ble_eq_true rfl) dX3_setByte_32 rfl) (fun v12 h11 => ?_)
      exact s_iret hK dX3_setByte_35
  · refine s_aload_n hK dX3_setByte_13 rfl 0 rfl ?_
    refine s_iconst (v := 1) hK dX3_setByte_14 rfl ?_
    refine s_rc (fun _ _ eo er => ?_)
    refine s_cI hK ho_n (cx_v (As := [.int 1]) (rest := []) hK dyX3_fails rfl q1847 fcX3.1 q1849 qs34 q80 q1850 eo er (ct_X3_fails hK.1 p0 1 h2) (Nat.le_trans (Nat.le_of_ble_eq_true rfl) hf) (Nat.le_trans (Nat.le_of_ble_eq_true rfl) hlo) rk_n (Nat.le_of_ble_eq_true rfl) dX3_setByte_15 rfl) (fun v15 h14 => ?_)
    exact s_iret hK dX3_setByte_18
theorem ct_X3_setByte {G : GC} {l : Launch} (g : GOK G l) (p0 : Option Nat) (p1 : Int32) (p2 : Int32) (h : AH) : CT G l yX3_setByte (Cond.code yX3_setByte cX3_setByte 4 (some (.int))) 3 59 [va_rf p0, .int p1, .int p2] (f_X3_setByte p0 p1 p2 h) h :=
  CT.of g (by decide) (by simp only [ls_a, ls_i, ls_l, ls_n]; decide) (fun K _ hK hf hlo => by simp only [la_a, la_i, la_l, la_n]; exact sm_X3_setByte hK hf hlo p0 p1 p2 h)
abbrev FR_X3_byteAt : Nat := 3
abbrev LO_X3_byteAt : Nat := 59
theorem dyX3_byteAt : DY yX3_byteAt 1 := ⟨⟨by decide, by decide⟩, by decide +kernel⟩
theorem sm_X3_byteAt {G : GC} {K : SC} (hK : SOK G K RX3 cX3_byteAt 2 (some (.int)) "byteAt" []) (hf : FR_X3_byteAt ≤ (kR K).frames) (hlo : LO_X3_byteAt ≤ (kR K).locals) (p0 : Option Nat) (p1 : Int32) (h : AH) : Sim G K 2 (f_X3_byteAt p0 p1 h) h 0 [(0, va_rf p0), (1, .int p1)] [] := by
  unfold f_X3_byteAt
  refine s_aload_n hK dX3_byteAt_0 rfl 0 rfl ?_
  refine s_iconst (v := 0) hK dX3_byteAt_1 rfl ?_
  refine s_pF hK fcX3 0 (Nat.le_of_ble_eq_true rfl) (Or.inl q1684) (Or.inl rfl) (Or.inl rfl) rfl rfl dX3_byteAt_2 (fun h1 => ?_)
  refine s_aload_n hK dX3_byteAt_5 rfl 0 rfl ?_
  refine s_iload_n hK dX3_byteAt_6 rfl 1 rfl ?_
  refine s_rc (fun _ _ eo er => ?_)
  refine s_cI hK ho_n (cx_v (As := [.int p1]) (rest := []) hK dyX3_isAddress rfl q1870 fcX3.1 q1872 qs36 q80 q1873 eo er (ct_X3_isAddress hK.1 p0 p1 h1) (Nat.le_trans (Nat.le_of_ble_eq_true rfl) hf) (Nat.le_trans (Nat.le_of_ble_eq_true rfl) hlo) rk_n (Nat.le_of_ble_eq_true rfl) dX3_byteAt_7 rfl) (fun v3 h2 => ?_)
  refine s_if_eq (tgt := 22) hK dX3_byteAt_10 (by decide) (fun c8 => ?_) (fun c8 => ?_)
  · refine s_aload_n hK dX3_byteAt_22 rfl 0 rfl ?_
    refine s_iconst (v := 1) hK dX3_byteAt_23 rfl ?_
    refine s_rc (fun _ _ eo er => ?_)
    refine s_cI hK ho_n (cx_v (As := [.int 1]) (rest := []) hK dyX3_fails rfl q1847 fcX3.1 q1849 qs34 q80 q1850 eo er (ct_X3_fails hK.1 p0 1 h2) (Nat.le_trans (Nat.le_of_ble_eq_true rfl) hf) (Nat.le_trans (Nat.le_of_ble_eq_true rfl) hlo) rk_n (Nat.le_of_ble_eq_true rfl) dX3_byteAt_24 rfl) (fun v5 h4 => ?_)
    exact s_iret hK dX3_byteAt_27
  · refine s_aload_n hK dX3_byteAt_13 rfl 0 rfl ?_
    refine s_gA hK fcX3 1 (Nat.le_of_ble_eq_true rfl) (Or.inl q1685) (Or.inl rfl) dX3_byteAt_14 (fun v6 => ?_)
    refine s_iload_n hK dX3_byteAt_17 rfl 1 rfl ?_
    refine s_iald hK dX3_byteAt_18 (fun v7 => ?_)
    refine s_goto (tgt := 27) hK dX3_byteAt_19 (by decide) ?_
    exact s_iret hK dX3_byteAt_27
theorem ct_X3_byteAt {G : GC} {l : Launch} (g : GOK G l) (p0 : Option Nat) (p1 : Int32) (h : AH) : CT G l yX3_byteAt (Cond.code yX3_byteAt cX3_byteAt 2 (some (.int))) 3 59 [va_rf p0, .int p1] (f_X3_byteAt p0 p1 h) h :=
  CT.of g (by decide) (by simp only [ls_a, ls_i, ls_l, ls_n]; decide) (fun K _ hK hf hlo => by simp only [la_a, la_i, la_l, la_n]; exact sm_X3_byteAt hK hf hlo p0 p1 h)
abbrev FR_X3_clear : Nat := 2
abbrev LO_X3_clear : Nat := 37
theorem dyX3_clear : DY yX3_clear 0 := ⟨⟨by decide, by decide⟩, by decide +kernel⟩
theorem sm_X3_clear {G : GC} {K : SC} (hK : SOK G K RX3 cX3_clear 2 (some (.int)) "clear" []) (hf : FR_X3_clear ≤ (kR K).frames) (hlo : LO_X3_clear ≤ (kR K).locals) (p0 : Option Nat) (h : AH) : Sim G K 2 (f_X3_clear p0 h) h 0 [(0, va_rf p0)] [] := by
  unfold f_X3_clear
  refine s_aload_n hK dX3_clear_0 rfl 0 rfl ?_
  refine s_iconst (v := 0) hK dX3_clear_1 rfl ?_
  refine s_pF hK fcX3 0 (Nat.le_of_ble_eq_true rfl) (Or.inl q1684) (Or.inl rfl) (Or.inl rfl) rfl rfl dX3_clear_2 (fun h1 => ?_)
  refine s_aload_n hK dX3_clear_5 rfl 0 rfl ?_
  refine s_gI hK fcX3 5 (Nat.le_of_ble_eq_true rfl) (Or.inl q1689) (Or.inl rfl) dX3_clear_6 (fun v2 => ?_)
  refine s_istore_n (lv' := [(1, .int v2), (0, va_rf p0)]) hK dX3_clear_9 rfl (Nat.le_of_ble_eq_true rfl) (flA (pre := []) (suf := []) rfl rfl) ?_
  refine s_aload_n hK dX3_clear_10 rfl 1 rfl ?_
  refine s_iconst (v := 0) hK dX3_clear_11 rfl ?_
  refine s_pF hK fcX3 5 (Nat.le_of_ble_eq_true rfl) (Or.inl q1689) (Or.inl rfl) (Or.inl rfl) rfl rfl dX3_clear_12 (fun h3 => ?_)
  refine s_aload_n hK dX3_clear_15 rfl 1 rfl ?_
  refine s_iconst (v := 0) hK dX3_clear_16 rfl ?_
  refine s_pF hK fcX3 6 (Nat.le_of_ble_eq_true rfl) (Or.inl q1690) (Or.inl rfl) (Or.inl rfl) rfl rfl dX3_clear_17 (fun h4 => ?_)
  refine s_aload_n hK dX3_clear_20 rfl 1 rfl ?_
  refine s_iconst (v := 1) hK dX3_clear_21 rfl ?_
  refine s_rc (fun _ _ eo er => ?_)
  refine s_cV hK ho_n (cx_v (As := [.int 1]) (rest := []) hK dyX3_changes rfl q1858 fcX3.1 q1860 qs35 q80 q1861 eo er (ct_X3_changes hK.1 p0 1 h4) (Nat.le_trans (Nat.le_of_ble_eq_true rfl) hf) (Nat.le_trans (Nat.le_of_ble_eq_true rfl) hlo) rk_n (Nat.le_of_ble_eq_true rfl) dX3_clear_22 rfl) (fun h5 => ?_)
  refine s_iload_n hK dX3_clear_25 rfl 0 rfl ?_
  exact s_iret hK dX3_clear_26
theorem ct_X3_clear {G : GC} {l : Launch} (g : GOK G l) (p0 : Option Nat) (h : AH) : CT G l yX3_clear (Cond.code yX3_clear cX3_clear 2 (some (.int))) 2 37 [va_rf p0] (f_X3_clear p0 h) h :=
  CT.of g (by decide) (by simp only [ls_a, ls_i, ls_l, ls_n]; decide) (fun K _ hK hf hlo => by simp only [la_a, la_i, la_l, la_n]; exact sm_X3_clear hK hf hlo p0 h)
abbrev FR_X3_size : Nat := 1
abbrev LO_X3_size : Nat := 16
theorem dyX3_size : DY yX3_size 0 := ⟨⟨by decide, by decide⟩, by decide +kernel⟩
theorem sm_X3_size {G : GC} {K : SC} (hK : SOK G K RX3 cX3_size 1 (some (.int)) "size" []) (hf : FR_X3_size ≤ (kR K).frames) (hlo : LO_X3_size ≤ (kR K).locals) (p0 : Option Nat) (h : AH) : Sim G K 1 (f_X3_size p0 h) h 0 [(0, va_rf p0)] [] := by
  unfold f_X3_size
  refine s_aload_n hK dX3_size_0 rfl 0 rfl ?_
  refine s_iconst (v := 0) hK dX3_size_1 rfl ?_
  refine s_pF hK fcX3 0 (Nat.le_of_ble_eq_true rfl) (Or.inl q1684) (Or.inl rfl) (Or.inl rfl) rfl rfl dX3_size_2 (fun h1 => ?_)
  refine s_aload_n hK dX3_size_5 rfl 0 rfl ?_
  refine s_gI hK fcX3 5 (Nat.le_of_ble_eq_true rfl) (Or.inl q1689) (Or.inl rfl) dX3_size_6 (fun v2 => ?_)
  exact s_iret hK dX3_size_9
theorem ct_X3_size {G : GC} {l : Launch} (g : GOK G l) (p0 : Option Nat) (h : AH) : CT G l yX3_size (Cond.code yX3_size cX3_size 1 (some (.int))) 1 16 [va_rf p0] (f_X3_size p0 h) h :=
  CT.of g (by decide) (by simp only [ls_a, ls_i, ls_l, ls_n]; decide) (fun K _ hK hf hlo => by simp only [la_a, la_i, la_l, la_n]; exact sm_X3_size hK hf hlo p0 h)
abbrev FR_X3_isEntry : Nat := 1
abbrev LO_X3_isEntry : Nat := 16
theorem dyX3_isEntry : DY yX3_isEntry 1 := ⟨⟨by decide, by decide⟩, by decide +kernel⟩
theorem sm_X3_isEntry_J31 {G : GC} {K : SC} (hK : SOK G K RX3 cX3_isEntry 4 (some (.boolean)) "isEntry" []) (hf : FR_X3_isEntry ≤ (kR K).frames) (hlo : LO_X3_isEntry ≤ (kR K).locals) {rc : Option Nat → Int32 → Int32 → Int32 → AH → RS} (hrc : ∀ (y0 : Option Nat) (y1 : Int32) (y2 : Int32) (y3 : Int32) (h : AH), Sim G K 4 (rc y0 y1 y2 y3 h) h 4 [(0, va_rf y0), (1, .int y1), (2, .int y2), (3, .int y3)] []) {k38 : Int32 → AH → RS} (hk38 : ∀ (y0 : Int32) (h : AH), Sim G K 4 (k38 y0 h) h 38 [(2, .int y0)] []) (x11 : Option Nat) (x12 : Int32) (x13 : Int32) (y14 : Int32) (h15 : AH) : Sim G K 4 (f_X3_isEntry_J31 rc k38 x11 x12 x13 y14 h15) h15 31 [(0, va_rf x11), (1, .int x12), (3, .int x13)] [.int y14] := by
  unfold f_X3_isEntry_J31
  refine s_istore_n (lv' := [(2, .int y14), (0, va_rf x11), (1, .int x12), (3, .int x13)]) hK dX3_isEntry_31 rfl (Nat.le_of_ble_eq_true rfl) rfl ?_
  refine s_iinc (j := 3) (v := 1) (lv' := [(3, .int (x13 + 1)), (2, .int y14), (0, va_rf x11), (1, .int x12)]) hK dX3_isEntry_32 rfl rfl (Nat.le_of_ble_eq_true rfl) rfl ?_
  refine s_goto (tgt := 4) hK dX3_isEntry_35 (by decide) ?_
  refine s_sub [2, 3, 1, 0] rfl ?_
  exact hrc x11 x12 y14 (x13 + 1) h15
theorem sm_X3_isEntry_J26 {G : GC} {K : SC} (hK : SOK G K RX3 cX3_isEntry 4 (some (.boolean)) "isEntry" []) (hf : FR_X3_isEntry ≤ (kR K).frames) (hlo : LO_X3_isEntry ≤ (kR K).locals) {rc : Option Nat → Int32 → Int32 → Int32 → AH → RS} (hrc : ∀ (y0 : Option Nat) (y1 : Int32) (y2 : Int32) (y3 : Int32) (h : AH), Sim G K 4 (rc y0 y1 y2 y3 h) h 4 [(0, va_rf y0), (1, .int y1), (2, .int y2), (3, .int y3)] []) {k38 : Int32 → AH → RS} (hk38 : ∀ (y0 : Int32) (h : AH), Sim G K 4 (k38 y0 h) h 38 [(2, .int y0)] []) (x7 : Option Nat) (x8 : Int32) (x9 : Int32)  (h10 : AH) : Sim G K 4 (f_X3_isEntry_J26 rc k38 x7 x8 x9 h10) h10 26 [(0, va_rf x7), (1, .int x8), (3, .int x9)] [] := by
  unfold f_X3_isEntry_J26
  refine s_iconst (v := 1) hK dX3_isEntry_26 rfl ?_
  refine s_goto (tgt := 31) hK dX3_isEntry_27 (by decide) ?_
  exact sm_X3_isEntry_J31 hK hf hlo hrc hk38 x7 x8 x9 1 h10
theorem sm_X3_isEntry_L4 {G : GC} {K : SC} (hK : SOK G K RX3 cX3_isEntry 4 (some (.boolean)) "isEntry" []) (hf : FR_X3_isEntry ≤ (kR K).frames) (hlo : LO_X3_isEntry ≤ (kR K).locals) {k38 : Int32 → AH → RS} (hk38 : ∀ (y0 : Int32) (h : AH), Sim G K 4 (k38 y0 h) h 38 [(2, .int y0)] []) : ∀ (n : Nat) (x1 : Option Nat) (x2 : Int32) (x3 : Int32) (x4 : Int32) (h5 : AH), Sim G K 4 (f_X3_isEntry_L4 k38 n x1 x2 x3 x4 h5) h5 4 [(0, va_rf x1), (1, .int x2), (2, .int x3), (3, .int x4)] [] := by
  intro n
  induction n with
  | zero => intro x1 x2 x3 x4 h5; exact s_none
  | succ n ih =>
    intro x1 x2 x3 x4 h5
    rw [f_X3_isEntry_L4]
    refine s_iload_n hK dX3_isEntry_4 rfl 3 rfl ?_
    refine s_aload_n hK dX3_isEntry_5 rfl 0 rfl ?_
    refine s_gI hK fcX3 6 (Nat.le_of_ble_eq_true rfl) (Or.inl q1690) (Or.inl rfl) dX3_isEntry_6 (fun v6 => ?_)
    refine s_icmp_ge (tgt := 38) hK dX3_isEntry_9 (by decide) (fun c20 => ?_) (fun c20 => ?_)
    · refine s_sub [2] rfl ?_
      exact hk38 x3 h5
    · refine s_iload_n hK dX3_isEntry_12 rfl 2 rfl ?_
      refine s_if_ne (tgt := 26) hK dX3_isEntry_13 (by decide) (fun c19 => ?_) (fun c19 => ?_)
      · refine s_sub [0, 1, 3] rfl ?_
        exact sm_X3_isEntry_J26 hK hf hlo ih hk38 x1 x2 x4 h5
      · refine s_aload_n hK dX3_isEntry_16 rfl 0 rfl ?_
        refine s_gA hK fcX3 3 (Nat.le_of_ble_eq_true rfl) (Or.inl q1687) (Or.inl rfl) dX3_isEntry_17 (fun v16 => ?_)
        refine s_iload_n hK dX3_isEntry_20 rfl 3 rfl ?_
        refine s_iald hK dX3_isEntry_21 (fun v17 => ?_)
        refine s_iload_n hK dX3_isEntry_22 rfl 1 rfl ?_
        refine s_icmp_ne (tgt := 30) hK dX3_isEntry_23 (by decide) (fun c18 => ?_) (fun c18 => ?_)
        · refine s_iconst (v := 0) hK dX3_isEntry_30 rfl ?_
          refine s_sub [0, 1, 3] rfl ?_
          exact sm_X3_isEntry_J31 hK hf hlo ih hk38 x1 x2 x4 0 h5
        · refine s_sub [0, 1, 3] rfl ?_
          exact sm_X3_isEntry_J26 hK hf hlo ih hk38 x1 x2 x4 h5
theorem sm_X3_isEntry {G : GC} {K : SC} (hK : SOK G K RX3 cX3_isEntry 4 (some (.boolean)) "isEntry" []) (hf : FR_X3_isEntry ≤ (kR K).frames) (hlo : LO_X3_isEntry ≤ (kR K).locals) (p0 : Option Nat) (p1 : Int32) (h : AH) : Sim G K 4 (f_X3_isEntry p0 p1 h) h 0 [(0, va_rf p0), (1, .int p1)] [] := by
  unfold f_X3_isEntry
  refine s_iconst (v := 0) hK dX3_isEntry_0 rfl ?_
  refine s_istore_n (lv' := [(2, .int 0), (0, va_rf p0), (1, .int p1)]) hK dX3_isEntry_1 rfl (Nat.le_of_ble_eq_true rfl) rfl ?_
  refine s_iconst (v := 0) hK dX3_isEntry_2 rfl ?_
  refine s_istore_n (lv' := [(3, .int 0), (2, .int 0), (0, va_rf p0), (1, .int p1)]) hK dX3_isEntry_3 rfl (Nat.le_of_ble_eq_true rfl) rfl ?_
  refine s_sub [2, 3, 1, 0] rfl ?_
  refine sm_X3_isEntry_L4 hK hf hlo (fun x21 h22 => ?_) FUEL p0 p1 0 0 h
  · refine s_iload_n hK dX3_isEntry_38 rfl 0 rfl ?_
    exact s_zret hK dX3_isEntry_39
theorem ct_X3_isEntry {G : GC} {l : Launch} (g : GOK G l) (p0 : Option Nat) (p1 : Int32) (h : AH) : CT G l yX3_isEntry (Cond.code yX3_isEntry cX3_isEntry 4 (some (.boolean))) 1 16 [va_rf p0, .int p1] (f_X3_isEntry p0 p1 h) h :=
  CT.of g (by decide) (by simp only [ls_a, ls_i, ls_l, ls_n]; decide) (fun K _ hK hf hlo => by simp only [la_a, la_i, la_l, la_n]; exact sm_X3_isEntry hK hf hlo p0 p1 h)
abbrev FR_X3_addEntry : Nat := 3
abbrev LO_X3_addEntry : Nat := 59
theorem dyX3_addEntry : DY yX3_addEntry 1 := ⟨⟨by decide, by decide⟩, by decide +kernel⟩
theorem sm_X3_addEntry_J35 {G : GC} {K : SC} (hK : SOK G K RX3 cX3_addEntry 2 (some (.int)) "addEntry" []) (hf : FR_X3_addEntry ≤ (kR K).frames) (hlo : LO_X3_addEntry ≤ (kR K).locals) (x5 : Option Nat)  (h6 : AH) : Sim G K 2 (f_X3_addEntry_J35 x5 h6) h6 35 [(0, va_rf x5)] [] := by
  unfold f_X3_addEntry_J35
  refine s_aload_n hK dX3_addEntry_35 rfl 0 rfl ?_
  refine s_iconst (v := 2) hK dX3_addEntry_36 rfl ?_
  refine s_rc (fun _ _ eo er => ?_)
  refine s_cI hK ho_n (cx_v (As := [.int 2]) (rest := []) hK dyX3_fails rfl q1847 fcX3.1 q1849 qs34 q80 q1850 eo er (ct_X3_fails hK.1 x5 2 h6) (Nat.le_trans (Nat.le_of_ble_eq_true rfl) hf) (Nat.le_trans (Nat.le_of_ble_eq_true rfl) hlo) rk_n (Nat.le_of_ble_eq_true rfl) dX3_addEntry_37 rfl) (fun v8 h7 => ?_)
  exact s_iret hK dX3_addEntry_40
theorem sm_X3_addEntry {G : GC} {K : SC} (hK : SOK G K RX3 cX3_addEntry 2 (some (.int)) "addEntry" []) (hf : FR_X3_addEntry ≤ (kR K).frames) (hlo : LO_X3_addEntry ≤ (kR K).locals) (p0 : Option Nat) (p1 : Int32) (h : AH) : Sim G K 2 (f_X3_addEntry p0 p1 h) h 0 [(0, va_rf p0), (1, .int p1)] [] := by
  unfold f_X3_addEntry
  refine s_aload_n hK dX3_addEntry_0 rfl 0 rfl ?_
  refine s_iconst (v := 0) hK dX3_addEntry_1 rfl ?_
  refine s_pF hK fcX3 0 (Nat.le_of_ble_eq_true rfl) (Or.inl q1684) (Or.inl rfl) (Or.inl rfl) rfl rfl dX3_addEntry_2 (fun h1 => ?_)
  refine s_aload_n hK dX3_addEntry_5 rfl 0 rfl ?_
  refine s_iload_n hK dX3_addEntry_6 rfl 1 rfl ?_
  refine s_rc (fun _ _ eo er => ?_)
  refine s_cI hK ho_n (cx_v (As := [.int p1]) (rest := []) hK dyX3_isAddress rfl q1870 fcX3.1 q1872 qs36 q80 q1873 eo er (ct_X3_isAddress hK.1 p0 p1 h1) (Nat.le_trans (Nat.le_of_ble_eq_true rfl) hf) (Nat.le_trans (Nat.le_of_ble_eq_true rfl) hlo) rk_n (Nat.le_of_ble_eq_true rfl) dX3_addEntry_7 rfl) (fun v3 h2 => ?_)
  refine s_if_ne (tgt := 19) hK dX3_addEntry_10 (by decide) (fun c22 => ?_) (fun c22 => ?_)
  · refine s_aload_n hK dX3_addEntry_19 rfl 0 rfl ?_
    refine s_gI hK fcX3 6 (Nat.le_of_ble_eq_true rfl) (Or.inl q1690) (Or.inl rfl) dX3_addEntry_20 (fun v4 => ?_)
    refine s_iconst (v := 4) hK dX3_addEntry_23 rfl ?_
    refine s_icmp_eq (tgt := 35) hK dX3_addEntry_24 (by decide) (fun c19 => ?_) (fun c19 => ?_)
    · refine s_sub [0] rfl ?_
      exact sm_X3_addEntry_J35 hK hf hlo p0 h2
    · refine s_aload_n hK dX3_addEntry_27 rfl 0 rfl ?_
      refine s_iload_n hK dX3_addEntry_28 rfl 1 rfl ?_
      refine s_rc (fun _ _ eo er => ?_)
      refine s_cI hK ho_n (cx_v (As := [.int p1]) (rest := []) hK dyX3_isEntry rfl q1890 fcX3.1 q1892 qs37 q80 q1893 eo er (ct_X3_isEntry hK.1 p0 p1 h2) (Nat.le_trans (Nat.le_of_ble_eq_true rfl) hf) (Nat.le_trans (Nat.le_of_ble_eq_true rfl) hlo) rk_n (Nat.le_of_ble_eq_true rfl) dX3_addEntry_29 rfl) (fun v10 h9 => ?_)
      refine s_if_eq (tgt := 41) hK dX3_addEntry_32 (by decide) (fun c18 => ?_) (fun c18 => ?_)
      · refine s_aload_n hK dX3_addEntry_41 rfl 0 rfl ?_
        refine s_gA hK fcX3 3 (Nat.le_of_ble_eq_true rfl) (Or.inl q1687) (Or.inl rfl) dX3_addEntry_42 (fun v11 => ?_)
        refine s_aload_n hK dX3_addEntry_45 rfl 0 rfl ?_
        refine s_gI hK fcX3 6 (Nat.le_of_ble_eq_true rfl) (Or.inl q1690) (Or.inl rfl) dX3_addEntry_46 (fun v12 => ?_)
        refine s_iload_n hK dX3_addEntry_49 rfl 1 rfl ?_
        refine s_iast hK dX3_addEntry_50 (fun h13 => ?_)
        refine s_aload_n hK dX3_addEntry_51 rfl 0 rfl ?_
        refine s_dup hK dX3_addEntry_52 (va_cat _) ?_
        refine s_gI hK fcX3 6 (Nat.le_of_ble_eq_true rfl) (Or.inl q1690) (Or.inl rfl) dX3_addEntry_53 (fun v14 => ?_)
        refine s_iconst (v := 1) hK dX3_addEntry_56 rfl ?_
        refine s_iadd hK dX3_addEntry_57 ?_
        refine s_pF hK fcX3 6 (Nat.le_of_ble_eq_true rfl) (Or.inl q1690) (Or.inl rfl) (Or.inl rfl) rfl rfl dX3_addEntry_58 (fun h15 => ?_)
        refine s_aload_n hK dX3_addEntry_61 rfl 0 rfl ?_
        refine s_iconst (v := 0) hK dX3_addEntry_62 rfl ?_
        refine s_rc (fun _ _ eo er => ?_)
        refine s_cV hK ho_n (cx_v (As := [.int 0]) (rest := []) hK dyX3_changes rfl q1858 fcX3.1 q1860 qs35 q80 q1861 eo er (ct_X3_changes hK.1 p0 0 h15) (Nat.le_trans (Nat.le_of_ble_eq_true rfl) hf) (Nat.le_trans (Nat.le_of_ble_eq_true rfl) hlo) rk_n (Nat.le_of_ble_eq_true rfl) dX3_addEntry_63 rfl) (fun h16 => ?_)
        refine s_aload_n hK dX3_addEntry_66 rfl 0 rfl ?_
        refine s_gI hK fcX3 6 (Nat.le_of_ble_eq_true rfl) (Or.inl q1690) (Or.inl rfl) dX3_addEntry_67 (fun v17 => ?_)
        refine s_iconst (v := 1) hK dX3_addEntry_70 rfl ?_
        refine s_isub hK dX3_addEntry_71 ?_
        exact s_iret hK dX3_addEntry_72
      · refine s_sub [0] rfl ?_
        exact sm_X3_addEntry_J35 hK hf hlo p0 h9
  · refine s_aload_n hK dX3_addEntry_13 rfl 0 rfl ?_
    refine s_iconst (v := 1) hK dX3_addEntry_14 rfl ?_
    refine s_rc (fun _ _ eo er => ?_)
    refine s_cI hK ho_n (cx_v (As := [.int 1]) (rest := []) hK dyX3_fails rfl q1847 fcX3.1 q1849 qs34 q80 q1850 eo er (ct_X3_fails hK.1 p0 1 h2) (Nat.le_trans (Nat.le_of_ble_eq_true rfl) hf) (Nat.le_trans (Nat.le_of_ble_eq_true rfl) hlo) rk_n (Nat.le_of_ble_eq_true rfl) dX3_addEntry_15 rfl) (fun v21 h20 => ?_)
    exact s_iret hK dX3_addEntry_18
theorem ct_X3_addEntry {G : GC} {l : Launch} (g : GOK G l) (p0 : Option Nat) (p1 : Int32) (h : AH) : CT G l yX3_addEntry (Cond.code yX3_addEntry cX3_addEntry 2 (some (.int))) 3 59 [va_rf p0, .int p1] (f_X3_addEntry p0 p1 h) h :=
  CT.of g (by decide) (by simp only [ls_a, ls_i, ls_l, ls_n]; decide) (fun K _ hK hf hlo => by simp only [la_a, la_i, la_l, la_n]; exact sm_X3_addEntry hK hf hlo p0 p1 h)
abbrev FR_X3_removeEntry : Nat := 2
abbrev LO_X3_removeEntry : Nat := 38
theorem dyX3_removeEntry : DY yX3_removeEntry 1 := ⟨⟨by decide, by decide⟩, by decide +kernel⟩
theorem sm_X3_removeEntry_L34 {G : GC} {K : SC} (hK : SOK G K RX3 cX3_removeEntry 4 (some (.int)) "removeEntry" []) (hf : FR_X3_removeEntry ≤ (kR K).frames) (hlo : LO_X3_removeEntry ≤ (kR K).locals) {k64 : Option Nat → Int32 → AH → RS} (hk64 : ∀ (y0 : Option Nat) (y1 : Int32) (h : AH), Sim G K 4 (k64 y0 y1 h) h 64 [(0, va_rf y0), (2, .int y1)] []) : ∀ (n : Nat) (x7 : Option Nat) (x8 : Int32) (x9 : Int32) (h10 : AH), Sim G K 4 (f_X3_removeEntry_L34 k64 n x7 x8 x9 h10) h10 34 [(0, va_rf x7), (2, .int x8), (3, .int x9)] [] := by
  intro n
  induction n with
  | zero => intro x7 x8 x9 h10; exact s_none
  | succ n ih =>
    intro x7 x8 x9 h10
    rw [f_X3_removeEntry_L34]
    refine s_iload_n hK dX3_removeEntry_34 rfl 2 rfl ?_
    refine s_aload_n hK dX3_removeEntry_35 rfl 0 rfl ?_
    refine s_gI hK fcX3 6 (Nat.le_of_ble_eq_true rfl) (Or.inl q1690) (Or.inl rfl) dX3_removeEntry_36 (fun v11 => ?_)
    refine s_iconst (v := 1) hK dX3_removeEntry_39 rfl ?_
    refine s_isub hK dX3_removeEntry_40 ?_
    refine s_icmp_ge (tgt := 64) hK dX3_removeEntry_41 (by decide) (fun c16 => ?_) (fun c16 => ?_)
    · refine s_sub [0, 1] rfl ?_
      exact hk64 x7 x8 h10
    · refine s_aload_n hK dX3_removeEntry_44 rfl 0 rfl ?_
      refine s_gA hK fcX3 3 (Nat.le_of_ble_eq_true rfl) (Or.inl q1687) (Or.inl rfl) dX3_removeEntry_45 (fun v12 => ?_)
      refine s_iload_n hK dX3_removeEntry_48 rfl 2 rfl ?_
      refine s_aload_n hK dX3_removeEntry_49 rfl 0 rfl ?_
      refine s_gA hK fcX3 3 (Nat.le_of_ble_eq_true rfl) (Or.inl q1687) (Or.inl rfl) dX3_removeEntry_50 (fun v13 => ?_)
      refine s_iload_n hK dX3_removeEntry_53 rfl 2 rfl ?_
      refine s_iconst (v := 1) hK dX3_removeEntry_54 rfl ?_
      refine s_iadd hK dX3_removeEntry_55 ?_
      refine s_iald hK dX3_removeEntry_56 (fun v14 => ?_)
      refine s_iast hK dX3_removeEntry_57 (fun h15 => ?_)
      refine s_iinc (j := 2) (v := 1) (lv' := [(3, .int (x9 + 1)), (0, va_rf x7), (2, .int x8)]) hK dX3_removeEntry_58 rfl rfl (Nat.le_of_ble_eq_true rfl) rfl ?_
      refine s_goto (tgt := 34) hK dX3_removeEntry_61 (by decide) ?_
      refine s_sub [1, 2, 0] rfl ?_
      exact ih x7 x8 (x9 + 1) h15
theorem sm_X3_removeEntry {G : GC} {K : SC} (hK : SOK G K RX3 cX3_removeEntry 4 (some (.int)) "removeEntry" []) (hf : FR_X3_removeEntry ≤ (kR K).frames) (hlo : LO_X3_removeEntry ≤ (kR K).locals) (p0 : Option Nat) (p1 : Int32) (h : AH) : Sim G K 4 (f_X3_removeEntry p0 p1 h) h 0 [(0, va_rf p0), (1, .int p1)] [] := by
  unfold f_X3_removeEntry
  refine s_aload_n hK dX3_removeEntry_0 rfl 0 rfl ?_
  refine s_iconst (v := 0) hK dX3_removeEntry_1 rfl ?_
  refine s_pF hK fcX3 0 (Nat.le_of_ble_eq_true rfl) (Or.inl q1684) (Or.inl rfl) (Or.inl rfl) rfl rfl dX3_removeEntry_2 (fun h1 => ?_)
  refine s_iload_n hK dX3_removeEntry_5 rfl 1 rfl ?_
  refine s_iconst (v := 0) hK dX3_removeEntry_6 rfl ?_
  refine s_aload_n hK dX3_removeEntry_7 rfl 0 rfl ?_
  refine s_gI hK fcX3 6 (Nat.le_of_ble_eq_true rfl) (Or.inl q1690) (Or.inl rfl) dX3_removeEntry_8 (fun v2 => ?_)
  refine s_iconst (v := 1) hK dX3_removeEntry_11 rfl ?_
  refine s_isub hK dX3_removeEntry_12 ?_
  refine s_cI hK ho_n (cx_s (As := [.int p1, .int 0, .int (v2 - 1)]) (rest := []) hK dyX3_in rfl q1844 q1845 q80 q1846 (ct_X3_in hK.1 p1 0 (v2 - 1) h1) (Nat.le_trans (Nat.le_of_ble_eq_true rfl) hf) (Nat.le_trans (Nat.le_of_ble_eq_true rfl) hlo) rk_n (Nat.le_of_ble_eq_true rfl) dX3_removeEntry_13 rfl) (fun v4 h3 => ?_)
  refine s_if_ne (tgt := 25) hK dX3_removeEntry_16 (by decide) (fun c25 => ?_) (fun c25 => ?_)
  · refine s_aload_n hK dX3_removeEntry_25 rfl 0 rfl ?_
    refine s_gA hK fcX3 3 (Nat.le_of_ble_eq_true rfl) (Or.inl q1687) (Or.inl rfl) dX3_removeEntry_26 (fun v5 => ?_)
    refine s_iload_n hK dX3_removeEntry_29 rfl 1 rfl ?_
    refine s_iald hK dX3_removeEntry_30 (fun v6 => ?_)
    refine s_istore_n (lv' := [(2, .int v6), (0, va_rf p0), (1, .int p1)]) hK dX3_removeEntry_31 rfl (Nat.le_of_ble_eq_true rfl) rfl ?_
    refine s_iload_n hK dX3_removeEntry_32 rfl 2 rfl ?_
    refine s_istore_n (lv' := [(3, .int p1), (2, .int v6), (0, va_rf p0), (1, .int p1)]) hK dX3_removeEntry_33 rfl (Nat.le_of_ble_eq_true rfl) rfl ?_
    refine s_sub [2, 1, 0] rfl ?_
    refine sm_X3_removeEntry_L34 hK hf hlo (fun x17 x18 h19 => ?_) FUEL p0 v6 p1 h3
    · refine s_aload_n hK dX3_removeEntry_64 rfl 0 rfl ?_
      refine s_dup hK dX3_removeEntry_65 (va_cat _) ?_
      refine s_gI hK fcX3 6 (Nat.le_of_ble_eq_true rfl) (Or.inl q1690) (Or.inl rfl) dX3_removeEntry_66 (fun v20 => ?_)
      refine s_iconst (v := 1) hK dX3_removeEntry_69 rfl ?_
      refine s_isub hK dX3_removeEntry_70 ?_
      refine s_pF hK fcX3 6 (Nat.le_of_ble_eq_true rfl) (Or.inl q1690) (Or.inl rfl) (Or.inl rfl) rfl rfl dX3_removeEntry_71 (fun h21 => ?_)
      refine s_aload_n hK dX3_removeEntry_74 rfl 0 rfl ?_
      refine s_iconst (v := 0) hK dX3_removeEntry_75 rfl ?_
      refine s_rc (fun _ _ eo er => ?_)
      refine s_cV hK ho_n (cx_v (As := [.int 0]) (rest := []) hK dyX3_changes rfl q1858 fcX3.1 q1860 qs35 q80 q1861 eo er (ct_X3_changes hK.1 x17 0 h21) (Nat.le_trans (Nat.le_of_ble_eq_true rfl) hf) (Nat.le_trans (Nat.le_of_ble_eq_true rfl) hlo) rk_n (Nat.le_of_ble_eq_true rfl) dX3_removeEntry_76 rfl) (fun h22 => ?_)
      refine s_iload_n hK dX3_removeEntry_79 rfl 1 rfl ?_
      exact s_iret hK dX3_removeEntry_80
  · refine s_aload_n hK dX3_removeEntry_19 rfl 0 rfl ?_
    refine s_iconst (v := 1) hK dX3_removeEntry_20 rfl ?_
    refine s_rc (fun _ _ eo er => ?_)
    refine s_cI hK ho_n (cx_v (As := [.int 1]) (rest := []) hK dyX3_fails rfl q1847 fcX3.1 q1849 qs34 q80 q1850 eo er (ct_X3_fails hK.1 p0 1 h3) (Nat.le_trans (Nat.le_of_ble_eq_true rfl) hf) (Nat.le_trans (Nat.le_of_ble_eq_true rfl) hlo) rk_n (Nat.le_of_ble_eq_true rfl) dX3_removeEntry_21 rfl) (fun v24 h23 => ?_)
    exact s_iret hK dX3_removeEntry_24
theorem ct_X3_removeEntry {G : GC} {l : Launch} (g : GOK G l) (p0 : Option Nat) (p1 : Int32) (h : AH) : CT G l yX3_removeEntry (Cond.code yX3_removeEntry cX3_removeEntry 4 (some (.int))) 2 38 [va_rf p0, .int p1] (f_X3_removeEntry p0 p1 h) h :=
  CT.of g (by decide) (by simp only [ls_a, ls_i, ls_l, ls_n]; decide) (fun K _ hK hf hlo => by simp only [la_a, la_i, la_l, la_n]; exact sm_X3_removeEntry hK hf hlo p0 p1 h)
abbrev FR_X3_entryCount : Nat := 1
abbrev LO_X3_entryCount : Nat := 16
theorem dyX3_entryCount : DY yX3_entryCount 0 := ⟨⟨by decide, by decide⟩, by decide +kernel⟩
theorem sm_X3_entryCount {G : GC} {K : SC} (hK : SOK G K RX3 cX3_entryCount 1 (some (.int)) "entryCount" []) (hf : FR_X3_entryCount ≤ (kR K).frames) (hlo : LO_X3_entryCount ≤ (kR K).locals) (p0 : Option Nat) (h : AH) : Sim G K 1 (f_X3_entryCount p0 h) h 0 [(0, va_rf p0)] [] := by
  unfold f_X3_entryCount
  refine s_aload_n hK dX3_entryCount_0 rfl 0 rfl ?_
  refine s_iconst (v := 0) hK dX3_entryCount_1 rfl ?_
  refine s_pF hK fcX3 0 (Nat.le_of_ble_eq_true rfl) (Or.inl q1684) (Or.inl rfl) (Or.inl rfl) rfl rfl dX3_entryCount_2 (fun h1 => ?_)
  refine s_aload_n hK dX3_entryCount_5 rfl 0 rfl ?_
  refine s_gI hK fcX3 6 (Nat.le_of_ble_eq_true rfl) (Or.inl q1690) (Or.inl rfl) dX3_entryCount_6 (fun v2 => ?_)
  exact s_iret hK dX3_entryCount_9
theorem ct_X3_entryCount {G : GC} {l : Launch} (g : GOK G l) (p0 : Option Nat) (h : AH) : CT G l yX3_entryCount (Cond.code yX3_entryCount cX3_entryCount 1 (some (.int))) 1 16 [va_rf p0] (f_X3_entryCount p0 h) h :=
  CT.of g (by decide) (by simp only [ls_a, ls_i, ls_l, ls_n]; decide) (fun K _ hK hf hlo => by simp only [la_a, la_i, la_l, la_n]; exact sm_X3_entryCount hK hf hlo p0 h)
abbrev FR_X3_setThreshold : Nat := 2
abbrev LO_X3_setThreshold : Nat := 38
theorem dyX3_setThreshold : DY yX3_setThreshold 1 := ⟨⟨by decide, by decide⟩, by decide +kernel⟩
theorem sm_X3_setThreshold {G : GC} {K : SC} (hK : SOK G K RX3 cX3_setThreshold 3 (some (.int)) "setThreshold" []) (hf : FR_X3_setThreshold ≤ (kR K).frames) (hlo : LO_X3_setThreshold ≤ (kR K).locals) (p0 : Option Nat) (p1 : Int32) (h : AH) : Sim G K 3 (f_X3_setThreshold p0 p1 h) h 0 [(0, va_rf p0), (1, .int p1)] [] := by
  unfold f_X3_setThreshold
  refine s_aload_n hK dX3_setThreshold_0 rfl 0 rfl ?_
  refine s_iconst (v := 0) hK dX3_setThreshold_1 rfl ?_
  refine s_pF hK fcX3 0 (Nat.le_of_ble_eq_true rfl) (Or.inl q1684) (Or.inl rfl) (Or.inl rfl) rfl rfl dX3_setThreshold_2 (fun h1 => ?_)
  refine s_iload_n hK dX3_setThreshold_5 rfl 1 rfl ?_
  refine s_iconst (v := 1) hK dX3_setThreshold_6 rfl ?_
  refine s_bipush (v := 30) hK dX3_setThreshold_7 rfl ?_
  refine s_cI hK ho_n (cx_s (As := [.int p1, .int 1, .int 30]) (rest := []) hK dyX3_in rfl q1844 q1845 q80 q1846 (ct_X3_in hK.1 p1 1 30 h1) (Nat.le_trans (Nat.le_of_ble_eq_true rfl) hf) (Nat.le_trans (Nat.le_of_ble_eq_true rfl) hlo) rk_n (Nat.le_of_ble_eq_true rfl) dX3_setThreshold_9 rfl) (fun v3 h2 => ?_)
  refine s_if_ne (tgt := 21) hK dX3_setThreshold_12 (by decide) (fun c9 => ?_) (fun c9 => ?_)
  · refine s_aload_n hK dX3_setThreshold_21 rfl 0 rfl ?_
    refine s_gI hK fcX3 7 (Nat.le_of_ble_eq_true rfl) (Or.inl q1691) (Or.inl rfl) dX3_setThreshold_22 (fun v4 => ?_)
    refine s_istore_n (lv' := [(2, .int v4), (0, va_rf p0), (1, .int p1)]) hK dX3_setThreshold_25 rfl (Nat.le_of_ble_eq_true rfl) rfl ?_
    refine s_aload_n hK dX3_setThreshold_26 rfl 1 rfl ?_
    refine s_iload_n hK dX3_setThreshold_27 rfl 2 rfl ?_
    refine s_pF hK fcX3 7 (Nat.le_of_ble_eq_true rfl) (Or.inl q1691) (Or.inl rfl) (Or.inl rfl) rfl rfl dX3_setThreshold_28 (fun h5 => ?_)
    refine s_aload_n hK dX3_setThreshold_31 rfl 1 rfl ?_
    refine s_iconst (v := 0) hK dX3_setThreshold_32 rfl ?_
    refine s_rc (fun _ _ eo er => ?_)
    refine s_cV hK ho_n (cx_v (As := [.int 0]) (rest := []) hK dyX3_changes rfl q1858 fcX3.1 q1860 qs35 q80 q1861 eo er (ct_X3_changes hK.1 p0 0 h5) (Nat.le_trans (Nat.le_of_ble_eq_true rfl) hf) (Nat.le_trans (Nat.le_of_ble_eq_true rfl) hlo) rk_n (Nat.le_of_ble_eq_true rfl) dX3_setThreshold_33 rfl) (fun h6 => ?_)
    refine s_iload_n hK dX3_setThreshold_36 rfl 0 rfl ?_
    exact s_iret hK dX3_setThreshold_37
  · refine s_aload_n hK dX3_setThreshold_15 rfl 0 rfl ?_
    refine s_iconst (v := 1) hK dX3_setThreshold_16 rfl ?_
    refine s_rc (fun _ _ eo er => ?_)
    refine s_cI hK ho_n (cx_v (As := [.int 1]) (rest := []) hK dyX3_fails rfl q1847 fcX3.1 q1849 qs34 q80 q1850 eo er (ct_X3_fails hK.1 p0 1 h2) (Nat.le_trans (Nat.le_of_ble_eq_true rfl) hf) (Nat.le_trans (Nat.le_of_ble_eq_true rfl) hlo) rk_n (Nat.le_of_ble_eq_true rfl) dX3_setThreshold_17 rfl) (fun v8 h7 => ?_)
    exact s_iret hK dX3_setThreshold_20
theorem ct_X3_setThreshold {G : GC} {l : Launch} (g : GOK G l) (p0 : Option Nat) (p1 : Int32) (h : AH) : CT G l yX3_setThreshold (Cond.code yX3_setThreshold cX3_setThreshold 3 (some (.int))) 2 38 [va_rf p0, .int p1] (f_X3_setThreshold p0 p1 h) h :=
  CT.of g (by decide) (by simp only [ls_a, ls_i, ls_l, ls_n]; decide) (fun K _ hK hf hlo => by simp only [la_a, la_i, la_l, la_n]; exact sm_X3_setThreshold hK hf hlo p0 p1 h)
abbrev FR_X3_sort : Nat := 1
abbrev LO_X3_sort : Nat := 16
theorem dyX3_sort : DY yX3_sort 1 := ⟨⟨by decide, by decide⟩, by decide +kernel⟩
theorem sm_X3_sort {G : GC} {K : SC} (hK : SOK G K RX3 cX3_sort 2 (some (.int)) "sort" []) (hf : FR_X3_sort ≤ (kR K).frames) (hlo : LO_X3_sort ≤ (kR K).locals) (p0 : Option Nat) (p1 : Int32) (h : AH) : Sim G K 2 (f_X3_sort p0 p1 h) h 0 [(0, va_rf p0), (1, .int p1)] [] := by
  unfold f_X3_sort
  refine s_aload_n hK dX3_sort_0 rfl 0 rfl ?_
  refine s_gA hK fcX3 1 (Nat.le_of_ble_eq_true rfl) (Or.inl q1685) (Or.inl rfl) dX3_sort_1 (fun v1 => ?_)
  refine s_iload_n hK dX3_sort_4 rfl 1 rfl ?_
  refine s_iald hK dX3_sort_5 (fun v2 => ?_)
  refine s_iconst (v := 4) hK dX3_sort_6 rfl ?_
  refine s_ishr hK dX3_sort_7 ?_
  exact s_iret hK dX3_sort_8
theorem ct_X3_sort {G : GC} {l : Launch} (g : GOK G l) (p0 : Option Nat) (p1 : Int32) (h : AH) : CT G l yX3_sort (Cond.code yX3_sort cX3_sort 2 (some (.int))) 1 16 [va_rf p0, .int p1] (f_X3_sort p0 p1 h) h :=
  CT.of g (by decide) (by simp only [ls_a, ls_i, ls_l, ls_n]; decide) (fun K _ hK hf hlo => by simp only [la_a, la_i, la_l, la_n]; exact sm_X3_sort hK hf hlo p0 p1 h)
abbrev FR_X3_lengthOf : Nat := 1
abbrev LO_X3_lengthOf : Nat := 16
theorem dyX3_lengthOf : DY yX3_lengthOf 1 := ⟨⟨by decide, by decide⟩, by decide +kernel⟩
theorem sm_X3_lengthOf {G : GC} {K : SC} (hK : SOK G K RX3 cX3_lengthOf 1 (some (.int)) "lengthOf" []) (hf : FR_X3_lengthOf ≤ (kR K).frames) (hlo : LO_X3_lengthOf ≤ (kR K).locals) (p0 : Int32) (h : AH) : Sim G K 1 (f_X3_lengthOf p0 h) h 0 [(0, .int p0)] [] := by
  unfold f_X3_lengthOf
  refine s_iload_n hK dX3_lengthOf_0 rfl 0 rfl ?_
  refine s_if_eq (tgt := 27) hK dX3_lengthOf_1 (by decide) (fun c5 => ?_) (fun c5 => ?_)
  · refine s_iconst (v := 1) hK dX3_lengthOf_27 rfl ?_
    refine s_goto (tgt := 32) hK dX3_lengthOf_28 (by decide) ?_
    exact s_iret hK dX3_lengthOf_32
  · refine s_iload_n hK dX3_lengthOf_4 rfl 0 rfl ?_
    refine s_iconst (v := 2) hK dX3_lengthOf_5 rfl ?_
    refine s_icmp_eq (tgt := 27) hK dX3_lengthOf_6 (by decide) (fun c4 => ?_) (fun c4 => ?_)
    · refine s_iconst (v := 1) hK dX3_lengthOf_27 rfl ?_
      refine s_goto (tgt := 32) hK dX3_lengthOf_28 (by decide) ?_
      exact s_iret hK dX3_lengthOf_32
    · refine s_iload_n hK dX3_lengthOf_9 rfl 0 rfl ?_
      refine s_bipush (v := 8) hK dX3_lengthOf_10 rfl ?_
      refine s_icmp_eq (tgt := 27) hK dX3_lengthOf_12 (by decide) (fun c3 => ?_) (fun c3 => ?_)
      · refine s_iconst (v := 1) hK dX3_lengthOf_27 rfl ?_
        refine s_goto (tgt := 32) hK dX3_lengthOf_28 (by decide) ?_
        exact s_iret hK dX3_lengthOf_32
      · refine s_iload_n hK dX3_lengthOf_15 rfl 0 rfl ?_
        refine s_bipush (v := 11) hK dX3_lengthOf_16 rfl ?_
        refine s_icmp_eq (tgt := 27) hK dX3_lengthOf_18 (by decide) (fun c2 => ?_) (fun c2 => ?_)
        · refine s_iconst (v := 1) hK dX3_lengthOf_27 rfl ?_
          refine s_goto (tgt := 32) hK dX3_lengthOf_28 (by decide) ?_
          exact s_iret hK dX3_lengthOf_32
        · refine s_iload_n hK dX3_lengthOf_21 rfl 0 rfl ?_
          refine s_bipush (v := 13) hK dX3_lengthOf_22 rfl ?_
          refine s_icmp_ne (tgt := 31) hK dX3_lengthOf_24 (by decide) (fun c1 => ?_) (fun c1 => ?_)
          · refine s_iconst (v := 2) hK dX3_lengthOf_31 rfl ?_
            exact s_iret hK dX3_lengthOf_32
          · refine s_iconst (v := 1) hK dX3_lengthOf_27 rfl ?_
            refine s_goto (tgt := 32) hK dX3_lengthOf_28 (by decide) ?_
            exact s_iret hK dX3_lengthOf_32
theorem ct_X3_lengthOf {G : GC} {l : Launch} (g : GOK G l) (p0 : Int32) (h : AH) : CT G l yX3_lengthOf (Cond.code yX3_lengthOf cX3_lengthOf 1 (some (.int))) 1 16 [.int p0] (f_X3_lengthOf p0 h) h :=
  CT.of g (by decide) (by simp only [ls_a, ls_i, ls_l, ls_n]; decide) (fun K _ hK hf hlo => by simp only [la_a, la_i, la_l, la_n]; exact sm_X3_lengthOf hK hf hlo p0 h)
abbrev FR_X3_hasGoal : Nat := 2
abbrev LO_X3_hasGoal : Nat := 38
theorem dyX3_hasGoal : DY yX3_hasGoal 1 := ⟨⟨by decide, by decide⟩, by decide +kernel⟩
theorem sm_X3_hasGoal {G : GC} {K : SC} (hK : SOK G K RX3 cX3_hasGoal 2 (some (.boolean)) "hasGoal" []) (hf : FR_X3_hasGoal ≤ (kR K).frames) (hlo : LO_X3_hasGoal ≤ (kR K).locals) (p0 : Option Nat) (p1 : Int32) (h : AH) : Sim G K 2 (f_X3_hasGoal p0 p1 h) h 0 [(0, va_rf p0), (1, .int p1)] [] := by
  unfold f_X3_hasGoal
  refine s_aload_n hK dX3_hasGoal_0 rfl 0 rfl ?_
  refine s_iload_n hK dX3_hasGoal_1 rfl 1 rfl ?_
  refine s_rc (fun _ _ eo er => ?_)
  refine s_cI hK ho_n (cx_v (As := [.int p1]) (rest := []) hK dyX3_sort rfl q1914 fcX3.1 q1916 qs39 q80 q1917 eo er (ct_X3_sort hK.1 p0 p1 h) (Nat.le_trans (Nat.le_of_ble_eq_true rfl) hf) (Nat.le_trans (Nat.le_of_ble_eq_true rfl) hlo) rk_n (Nat.le_of_ble_eq_true rfl) dX3_hasGoal_2 rfl) (fun v2 h1 => ?_)
  refine s_iconst (v := 4) hK dX3_hasGoal_5 rfl ?_
  refine s_bipush (v := 7) hK dX3_hasGoal_6 rfl ?_
  refine s_cI hK ho_n (cx_s (As := [.int v2, .int 4, .int 7]) (rest := []) hK dyX3_in rfl q1844 q1845 q80 q1846 (ct_X3_in hK.1 v2 4 7 h1) (Nat.le_trans (Nat.le_of_ble_eq_true rfl) hf) (Nat.le_trans (Nat.le_of_ble_eq_true rfl) hlo) rk_n (Nat.le_of_ble_eq_true rfl) dX3_hasGoal_8 rfl) (fun v4 h3 => ?_)
  exact s_zret hK dX3_hasGoal_11
theorem ct_X3_hasGoal {G : GC} {l : Launch} (g : GOK G l) (p0 : Option Nat) (p1 : Int32) (h : AH) : CT G l yX3_hasGoal (Cond.code yX3_hasGoal cX3_hasGoal 2 (some (.boolean))) 2 38 [va_rf p0, .int p1] (f_X3_hasGoal p0 p1 h) h :=
  CT.of g (by decide) (by simp only [ls_a, ls_i, ls_l, ls_n]; decide) (fun K _ hK hf hlo => by simp only [la_a, la_i, la_l, la_n]; exact sm_X3_hasGoal hK hf hlo p0 p1 h)
abbrev FR_X3_operand : Nat := 1
abbrev LO_X3_operand : Nat := 16
theorem dyX3_operand : DY yX3_operand 1 := ⟨⟨by decide, by decide⟩, by decide +kernel⟩
theorem sm_X3_operand {G : GC} {K : SC} (hK : SOK G K RX3 cX3_operand 2 (some (.int)) "operand" []) (hf : FR_X3_operand ≤ (kR K).frames) (hlo : LO_X3_operand ≤ (kR K).locals) (p0 : Option Nat) (p1 : Int32) (h : AH) : Sim G K 2 (f_X3_operand p0 p1 h) h 0 [(0, va_rf p0), (1, .int p1)] [] := by
  unfold f_X3_operand
  refine s_aload_n hK dX3_operand_0 rfl 0 rfl ?_
  refine s_gA hK fcX3 1 (Nat.le_of_ble_eq_true rfl) (Or.inl q1685) (Or.inl rfl) dX3_operand_1 (fun v1 => ?_)
  refine s_iload_n hK dX3_operand_4 rfl 1 rfl ?_
  refine s_iconst (v := 1) hK dX3_operand_5 rfl ?_
  refine s_iadd hK dX3_operand_6 ?_
  refine s_iald hK dX3_operand_7 (fun v2 => ?_)
  exact s_iret hK dX3_operand_8
theorem ct_X3_operand {G : GC} {l : Launch} (g : GOK G l) (p0 : Option Nat) (p1 : Int32) (h : AH) : CT G l yX3_operand (Cond.code yX3_operand cX3_operand 2 (some (.int))) 1 16 [va_rf p0, .int p1] (f_X3_operand p0 p1 h) h :=
  CT.of g (by decide) (by simp only [ls_a, ls_i, ls_l, ls_n]; decide) (fun K _ hK hf hlo => by simp only [la_a, la_i, la_l, la_n]; exact sm_X3_operand hK hf hlo p0 p1 h)
abbrev FR_X3_goal : Nat := 2
abbrev LO_X3_goal : Nat := 37
theorem dyX3_goal : DY yX3_goal 1 := ⟨⟨by decide, by decide⟩, by decide +kernel⟩
theorem sm_X3_goal {G : GC} {K : SC} (hK : SOK G K RX3 cX3_goal 2 (some (.int)) "goal" []) (hf : FR_X3_goal ≤ (kR K).frames) (hlo : LO_X3_goal ≤ (kR K).locals) (p0 : Option Nat) (p1 : Int32) (h : AH) : Sim G K 2 (f_X3_goal p0 p1 h) h 0 [(0, va_rf p0), (1, .int p1)] [] := by
  unfold f_X3_goal
  refine s_iload_n hK dX3_goal_0 rfl 1 rfl ?_
  refine s_iconst (v := 2) hK dX3_goal_1 rfl ?_
  refine s_iadd hK dX3_goal_2 ?_
  refine s_aload_n hK dX3_goal_3 rfl 0 rfl ?_
  refine s_iload_n hK dX3_goal_4 rfl 1 rfl ?_
  refine s_rc (fun _ _ eo er => ?_)
  refine s_cI hK ho_n (cx_v (As := [.int p1]) (rest := [.int (p1 + 2)]) hK dyX3_operand rfl q1929 fcX3.1 q1931 qs42 q80 q1932 eo er (ct_X3_operand hK.1 p0 p1 h) (Nat.le_trans (Nat.le_of_ble_eq_true rfl) hf) (Nat.le_trans (Nat.le_of_ble_eq_true rfl) hlo) (rk_i rk_n) (Nat.le_of_ble_eq_true rfl) dX3_goal_5 rfl) (fun v2 h1 => ?_)
  refine s_sipush (v := 128) hK dX3_goal_8 rfl ?_
  refine s_icmp_ge (tgt := 22) hK dX3_goal_11 (by decide) (fun c7 => ?_) (fun c7 => ?_)
  · refine s_aload_n hK dX3_goal_22 rfl 0 rfl ?_
    refine s_iload_n hK dX3_goal_23 rfl 1 rfl ?_
    refine s_rc (fun _ _ eo er => ?_)
    refine s_cI hK ho_n (cx_v (As := [.int p1]) (rest := [.int (p1 + 2)]) hK dyX3_operand rfl q1929 fcX3.1 q1931 qs42 q80 q1932 eo er (ct_X3_operand hK.1 p0 p1 h1) (Nat.le_trans (Nat.le_of_ble_eq_true rfl) hf) (Nat.le_trans (Nat.le_of_ble_eq_true rfl) hlo) (rk_i rk_n) (Nat.le_of_ble_eq_true rfl) dX3_goal_24 rfl) (fun v4 h3 => ?_)
    refine s_sipush (v := 256) hK dX3_goal_27 rfl ?_
    refine s_isub hK dX3_goal_30 ?_
    refine s_iadd hK dX3_goal_31 ?_
    exact s_iret hK dX3_goal_32
  · refine s_aload_n hK dX3_goal_14 rfl 0 rfl ?_
    refine s_iload_n hK dX3_goal_15 rfl 1 rfl ?_
    refine s_rc (fun _ _ eo er => ?_)
    refine s_cI hK ho_n (cx_v (As := [.int p1]) (rest := [.int (p1 + 2)]) hK dyX3_operand rfl q1929 fcX3.1 q1931 qs42 q80 q1932 eo er (ct_X3_operand hK.1 p0 p1 h1) (Nat.le_trans (Nat.le_of_ble_eq_true rfl) hf) (Nat.le_trans (Nat.le_of_ble_eq_true rfl) hlo) (rk_i rk_n) (Nat.le_of_ble_eq_true rfl) dX3_goal_16 rfl) (fun v6 h5 => ?_)
    refine s_goto (tgt := 31) hK dX3_goal_19 (by decide) ?_
    refine s_iadd hK dX3_goal_31 ?_
    exact s_iret hK dX3_goal_32
theorem ct_X3_goal {G : GC} {l : Launch} (g : GOK G l) (p0 : Option Nat) (p1 : Int32) (h : AH) : CT G l yX3_goal (Cond.code yX3_goal cX3_goal 2 (some (.int))) 2 37 [va_rf p0, .int p1] (f_X3_goal p0 p1 h) h :=
  CT.of g (by decide) (by simp only [ls_a, ls_i, ls_l, ls_n]; decide) (fun K _ hK hf hlo => by simp only [la_a, la_i, la_l, la_n]; exact sm_X3_goal hK hf hlo p0 p1 h)
abbrev FR_X3_isSound : Nat := 3
abbrev LO_X3_isSound : Nat := 59
theorem dyX3_isSound : DY yX3_isSound 1 := ⟨⟨by decide, by decide⟩, by decide +kernel⟩
theorem sm_X3_isSound {G : GC} {K : SC} (hK : SOK G K RX3 cX3_isSound 2 (some (.boolean)) "isSound" []) (hf : FR_X3_isSound ≤ (kR K).frames) (hlo : LO_X3_isSound ≤ (kR K).locals) (p0 : Option Nat) (p1 : Int32) (h : AH) : Sim G K 2 (f_X3_isSound p0 p1 h) h 0 [(0, va_rf p0), (1, .int p1)] [] := by
  unfold f_X3_isSound
  refine s_aload_n hK dX3_isSound_0 rfl 0 rfl ?_
  refine s_iload_n hK dX3_isSound_1 rfl 1 rfl ?_
  refine s_rc (fun _ _ eo er => ?_)
  refine s_cI hK ho_n (cx_v (As := [.int p1]) (rest := []) hK dyX3_isAddress rfl q1870 fcX3.1 q1872 qs36 q80 q1873 eo er (ct_X3_isAddress hK.1 p0 p1 h) (Nat.le_trans (Nat.le_of_ble_eq_true rfl) hf) (Nat.le_trans (Nat.le_of_ble_eq_true rfl) hlo) rk_n (Nat.le_of_ble_eq_true rfl) dX3_isSound_2 rfl) (fun v2 h1 => ?_)
  refine s_if_eq (tgt := 35) hK dX3_isSound_5 (by decide) (fun c20 => ?_) (fun c20 => ?_)
  · refine s_iconst (v := 0) hK dX3_isSound_35 rfl ?_
    exact s_zret hK dX3_isSound_36
  · refine s_aload_n hK dX3_isSound_8 rfl 0 rfl ?_
    refine s_iload_n hK dX3_isSound_9 rfl 1 rfl ?_
    refine s_rc (fun _ _ eo er => ?_)
    refine s_cI hK ho_n (cx_v (As := [.int p1]) (rest := []) hK dyX3_sort rfl q1914 fcX3.1 q1916 qs39 q80 q1917 eo er (ct_X3_sort hK.1 p0 p1 h1) (Nat.le_trans (Nat.le_of_ble_eq_true rfl) hf) (Nat.le_trans (Nat.le_of_ble_eq_true rfl) hlo) rk_n (Nat.le_of_ble_eq_true rfl) dX3_isSound_10 rfl) (fun v4 h3 => ?_)
    refine s_bipush (v := 13) hK dX3_isSound_13 rfl ?_
    refine s_icmp_gt (tgt := 35) hK dX3_isSound_15 (by decide) (fun c19 => ?_) (fun c19 => ?_)
    · refine s_iconst (v := 0) hK dX3_isSound_35 rfl ?_
      exact s_zret hK dX3_isSound_36
    · refine s_iload_n hK dX3_isSound_18 rfl 1 rfl ?_
      refine s_aload_n hK dX3_isSound_19 rfl 0 rfl ?_
      refine s_iload_n hK dX3_isSound_20 rfl 1 rfl ?_
      refine s_rc (fun _ _ eo er => ?_)
      refine s_cI hK ho_n (cx_v (As := [.int p1]) (rest := [.int p1]) hK dyX3_sort rfl q1914 fcX3.1 q1916 qs39 q80 q1917 eo er (ct_X3_sort hK.1 p0 p1 h3) (Nat.le_trans (Nat.le_of_ble_eq_true rfl) hf) (Nat.le_trans (Nat.le_of_ble_eq_true rfl) hlo) (rk_i rk_n) (Nat.le_of_ble_eq_true rfl) dX3_isSound_21 rfl) (fun v6 h5 => ?_)
      refine s_cI hK ho_n (cx_s (As := [.int v6]) (rest := [.int p1]) hK dyX3_lengthOf rfl q1918 q1919 q80 q1920 (ct_X3_lengthOf hK.1 v6 h5) (Nat.le_trans (Nat.le_of_ble_eq_true rfl) hf) (Nat.le_trans (Nat.le_of_ble_eq_true rfl) hlo) (rk_i rk_n) (Nat.le_of_ble_eq_true rfl) dX3_isSound_24 rfl) (fun v8 h7 => ?_)
      refine s_iadd hK dX3_isSound_27 ?_
      refine s_aload_n hK dX3_isSound_28 rfl 0 rfl ?_
      refine s_gI hK fcX3 5 (Nat.le_of_ble_eq_true rfl) (Or.inl q1689) (Or.inl rfl) dX3_isSound_29 (fun v9 => ?_)
      refine s_icmp_le (tgt := 37) hK dX3_isSound_32 (by decide) (fun c18 => ?_) (fun c18 => ?_)
      · refine s_aload_n hK dX3_isSound_37 rfl 0 rfl ?_
        refine s_iload_n hK dX3_isSound_38 rfl 1 rfl ?_
        refine s_rc (fun _ _ eo er => ?_)
        refine s_cI hK ho_n (cx_v (As := [.int p1]) (rest := []) hK dyX3_hasGoal rfl q1921 fcX3.1 q1923 qs40 q80 q1924 eo er (ct_X3_hasGoal hK.1 p0 p1 h7) (Nat.le_trans (Nat.le_of_ble_eq_true rfl) hf) (Nat.le_trans (Nat.le_of_ble_eq_true rfl) hlo) rk_n (Nat.le_of_ble_eq_true rfl) dX3_isSound_39 rfl) (fun v11 h10 => ?_)
        refine s_if_eq (tgt := 57) hK dX3_isSound_42 (by decide) (fun c17 => ?_) (fun c17 => ?_)
        · refine s_iconst (v := 1) hK dX3_isSound_57 rfl ?_
          refine s_goto (tgt := 62) hK dX3_isSound_58 (by decide) ?_
          exact s_zret hK dX3_isSound_62
        · refine s_aload_n hK dX3_isSound_45 rfl 0 rfl ?_
          refine s_aload_n hK dX3_isSound_46 rfl 0 rfl ?_
          refine s_iload_n hK dX3_isSound_47 rfl 1 rfl ?_
          refine s_rc (fun _ _ eo er => ?_)
          refine s_cI hK ho_n (cx_v (As := [.int p1]) (rest := [va_rf p0]) hK dyX3_goal rfl q1925 fcX3.1 q1927 qs41 q80 q1928 eo er (ct_X3_goal hK.1 p0 p1 h10) (Nat.le_trans (Nat.le_of_ble_eq_true rfl) hf) (Nat.le_trans (Nat.le_of_ble_eq_true rfl) hlo) (rk_a rk_n) (Nat.le_of_ble_eq_true rfl) dX3_isSound_48 rfl) (fun v13 h12 => ?_)
          refine s_rc (fun _ _ eo er => ?_)
          refine s_cI hK ho_n (cx_v (As := [.int v13]) (rest := []) hK dyX3_isAddress rfl q1870 fcX3.1 q1872 qs36 q80 q1873 eo er (ct_X3_isAddress hK.1 p0 v13 h12) (Nat.le_trans (Nat.le_of_ble_eq_true rfl) hf) (Nat.le_trans (Nat.le_of_ble_eq_true rfl) hlo) rk_n (Nat.le_of_ble_eq_true rfl) dX3_isSound_51 rfl) (fun v15 h14 => ?_)
          refine s_if_eq (tgt := 61) hK dX3_isSound_54 (by decide) (fun c16 => ?_) (fun c16 => ?_)
          · refine s_iconst (v := 0) hK dX3_isSound_61 rfl ?_
            exact s_zret hK dX3_isSound_62
          · refine s_iconst (v := 1) hK dX3_isSound_57 rfl ?_
            refine s_goto (tgt := 62) hK dX3_isSound_58 (by decide) ?_
            exact s_zret hK dX3_isSound_62
      · refine s_iconst (v := 0) hK dX3_isSound_35 rfl ?_
        exact s_zret hK dX3_isSound_36
theorem ct_X3_isSound {G : GC} {l : Launch} (g : GOK G l) (p0 : Option Nat) (p1 : Int32) (h : AH) : CT G l yX3_isSound (Cond.code yX3_isSound cX3_isSound 2 (some (.boolean))) 3 59 [va_rf p0, .int p1] (f_X3_isSound p0 p1 h) h :=
  CT.of g (by decide) (by simp only [ls_a, ls_i, ls_l, ls_n]; decide) (fun K _ hK hf hlo => by simp only [la_a, la_i, la_l, la_n]; exact sm_X3_isSound hK hf hlo p0 p1 h)
abbrev FR_X3_isValid : Nat := 4
abbrev LO_X3_isValid : Nat := 80
theorem dyX3_isValid : DY yX3_isValid 1 := ⟨⟨by decide, by decide⟩, by decide +kernel⟩
theorem sm_X3_isValid_J14 {G : GC} {K : SC} (hK : SOK G K RX3 cX3_isValid 2 (some (.boolean)) "isValid" []) (hf : FR_X3_isValid ≤ (kR K).frames) (hlo : LO_X3_isValid ≤ (kR K).locals) (x3 : Option Nat) (x4 : Int32) (y5 : Int32) (y6 : Option Nat) (h7 : AH) : Sim G K 2 (f_X3_isValid_J14 x3 x4 y5 y6 h7) h7 14 [(0, va_rf x3), (1, .int x4)] [.int y5, va_rf y6] := by
  unfold f_X3_isValid_J14
  refine s_pF hK fcX3 0 (Nat.le_of_ble_eq_true rfl) (Or.inl q1684) (Or.inl rfl) (Or.inl rfl) rfl rfl dX3_isValid_14 (fun h8 => ?_)
  refine s_aload_n hK dX3_isValid_17 rfl 0 rfl ?_
  refine s_gI hK fcX3 0 (Nat.le_of_ble_eq_true rfl) (Or.inl q1684) (Or.inl rfl) dX3_isValid_18 (fun v9 => ?_)
  refine s_if_ne (tgt := 36) hK dX3_isValid_21 (by decide) (fun c13 => ?_) (fun c13 => ?_)
  · refine s_iconst (v := 0) hK dX3_isValid_36 rfl ?_
    exact s_zret hK dX3_isValid_37
  · refine s_aload_n hK dX3_isValid_24 rfl 0 rfl ?_
    refine s_iload_n hK dX3_isValid_25 rfl 1 rfl ?_
    refine s_rc (fun _ _ eo er => ?_)
    refine s_cI hK ho_n (cx_v (As := [.int x4]) (rest := []) hK dyX3_isSound rfl q1910 fcX3.1 q1912 qs38 q80 q1913 eo er (ct_X3_isSound hK.1 x3 x4 h8) (Nat.le_trans (Nat.le_of_ble_eq_true rfl) hf) (Nat.le_trans (Nat.le_of_ble_eq_true rfl) hlo) rk_n (Nat.le_of_ble_eq_true rfl) dX3_isValid_26 rfl) (fun v11 h10 => ?_)
    refine s_if_eq (tgt := 36) hK dX3_isValid_29 (by decide) (fun c12 => ?_) (fun c12 => ?_)
    · refine s_iconst (v := 0) hK dX3_isValid_36 rfl ?_
      exact s_zret hK dX3_isValid_37
    · refine s_iconst (v := 1) hK dX3_isValid_32 rfl ?_
      refine s_goto (tgt := 37) hK dX3_isValid_33 (by decide) ?_
      exact s_zret hK dX3_isValid_37
theorem sm_X3_isValid {G : GC} {K : SC} (hK : SOK G K RX3 cX3_isValid 2 (some (.boolean)) "isValid" []) (hf : FR_X3_isValid ≤ (kR K).frames) (hlo : LO_X3_isValid ≤ (kR K).locals) (p0 : Option Nat) (p1 : Int32) (h : AH) : Sim G K 2 (f_X3_isValid p0 p1 h) h 0 [(0, va_rf p0), (1, .int p1)] [] := by
  unfold f_X3_isValid
  refine s_aload_n hK dX3_isValid_0 rfl 0 rfl ?_
  refine s_aload_n hK dX3_isValid_1 rfl 0 rfl ?_
  refine s_iload_n hK dX3_isValid_2 rfl 1 rfl ?_
  refine s_rc (fun _ _ eo er => ?_)
  refine s_cI hK ho_n (cx_v (As := [.int p1]) (rest := [va_rf p0]) hK dyX3_isAddress rfl q1870 fcX3.1 q1872 qs36 q80 q1873 eo er (ct_X3_isAddress hK.1 p0 p1 h) (Nat.le_trans (Nat.le_of_ble_eq_true rfl) hf) (Nat.le_trans (Nat.le_of_ble_eq_true rfl) hlo) (rk_a rk_n) (Nat.le_of_ble_eq_true rfl) dX3_isValid_3 rfl) (fun v2 h1 => ?_)
  refine s_if_eq (tgt := 13) hK dX3_isValid_6 (by decide) (fun c14 => ?_) (fun c14 => ?_)
  · refine s_iconst (v := 1) hK dX3_isValid_13 rfl ?_
    exact sm_X3_isValid_J14 hK hf hlo p0 p1 1 p0 h1
  · refine s_iconst (v := 0) hK dX3_isValid_9 rfl ?_
    refine s_goto (tgt := 14) hK dX3_isValid_10 (by decide) ?_
    exact sm_X3_isValid_J14 hK hf hlo p0 p1 0 p0 h1
theorem ct_X3_isValid {G : GC} {l : Launch} (g : GOK G l) (p0 : Option Nat) (p1 : Int32) (h : AH) : CT G l yX3_isValid (Cond.code yX3_isValid cX3_isValid 2 (some (.boolean))) 4 80 [va_rf p0, .int p1] (f_X3_isValid p0 p1 h) h :=
  CT.of g (by decide) (by simp only [ls_a, ls_i, ls_l, ls_n]; decide) (fun K _ hK hf hlo => by simp only [la_a, la_i, la_l, la_n]; exact sm_X3_isValid hK hf hlo p0 p1 h)
abbrev FR_X3_first : Nat := 1
abbrev LO_X3_first : Nat := 16
theorem dyX3_first : DY yX3_first 1 := ⟨⟨by decide, by decide⟩, by decide +kernel⟩
theorem sm_X3_first {G : GC} {K : SC} (hK : SOK G K RX3 cX3_first 2 (some (.int)) "first" []) (hf : FR_X3_first ≤ (kR K).frames) (hlo : LO_X3_first ≤ (kR K).locals) (p0 : Option Nat) (p1 : Int32) (h : AH) : Sim G K 2 (f_X3_first p0 p1 h) h 0 [(0, va_rf p0), (1, .int p1)] [] := by
  unfold f_X3_first
  refine s_aload_n hK dX3_first_0 rfl 0 rfl ?_
  refine s_gA hK fcX3 1 (Nat.le_of_ble_eq_true rfl) (Or.inl q1685) (Or.inl rfl) dX3_first_1 (fun v1 => ?_)
  refine s_iload_n hK dX3_first_4 rfl 1 rfl ?_
  refine s_iald hK dX3_first_5 (fun v2 => ?_)
  refine s_iconst (v := 2) hK dX3_first_6 rfl ?_
  refine s_ishr hK dX3_first_7 ?_
  refine s_iconst (v := 3) hK dX3_first_8 rfl ?_
  refine s_iand hK dX3_first_9 ?_
  exact s_iret hK dX3_first_10
theorem ct_X3_first {G : GC} {l : Launch} (g : GOK G l) (p0 : Option Nat) (p1 : Int32) (h : AH) : CT G l yX3_first (Cond.code yX3_first cX3_first 2 (some (.int))) 1 16 [va_rf p0, .int p1] (f_X3_first p0 p1 h) h :=
  CT.of g (by decide) (by simp only [ls_a, ls_i, ls_l, ls_n]; decide) (fun K _ hK hf hlo => by simp only [la_a, la_i, la_l, la_n]; exact sm_X3_first hK hf hlo p0 p1 h)
abbrev FR_X3_decode : Nat := 4
abbrev LO_X3_decode : Nat := 80
theorem dyX3_decode : DY yX3_decode 2 := ⟨⟨by decide, by decide⟩, by decide +kernel⟩
theorem sm_X3_decode {G : GC} {K : SC} (hK : SOK G K RX3 cX3_decode 3 (some (.int)) "decode" []) (hf : FR_X3_decode ≤ (kR K).frames) (hlo : LO_X3_decode ≤ (kR K).locals) (p0 : Option Nat) (p1 : Int32) (p2 : Int32) (h : AH) : Sim G K 3 (f_X3_decode p0 p1 p2 h) h 0 [(0, va_rf p0), (1, .int p1), (2, .int p2)] [] := by
  unfold f_X3_decode
  refine s_aload_n hK dX3_decode_0 rfl 0 rfl ?_
  refine s_iconst (v := 0) hK dX3_decode_1 rfl ?_
  refine s_pF hK fcX3 0 (Nat.le_of_ble_eq_true rfl) (Or.inl q1684) (Or.inl rfl) (Or.inl rfl) rfl rfl dX3_decode_2 (fun h1 => ?_)
  refine s_aload_n hK dX3_decode_5 rfl 0 rfl ?_
  refine s_iload_n hK dX3_decode_6 rfl 1 rfl ?_
  refine s_rc (fun _ _ eo er => ?_)
  refine s_cI hK ho_n (cx_v (As := [.int p1]) (rest := []) hK dyX3_isAddress rfl q1870 fcX3.1 q1872 qs36 q80 q1873 eo er (ct_X3_isAddress hK.1 p0 p1 h1) (Nat.le_trans (Nat.le_of_ble_eq_true rfl) hf) (Nat.le_trans (Nat.le_of_ble_eq_true rfl) hlo) rk_n (Nat.le_of_ble_eq_true rfl) dX3_decode_7 rfl) (fun v3 h2 => ?_)
  refine s_if_ne (tgt := 19) hK dX3_decode_10 (by decide) (fun c47 => ?_) (fun c47 => ?_)
  · refine s_iload_n hK dX3_decode_19 rfl 2 rfl ?_
    refine s_iconst (v := 0) hK dX3_decode_20 rfl ?_
    refine s_iconst (v := 5) hK dX3_decode_21 rfl ?_
    refine s_cI hK ho_n (cx_s (As := [.int p2, .int 0, .int 5]) (rest := []) hK dyX3_in rfl q1844 q1845 q80 q1846 (ct_X3_in hK.1 p2 0 5 h2) (Nat.le_trans (Nat.le_of_ble_eq_true rfl) hf) (Nat.le_trans (Nat.le_of_ble_eq_true rfl) hlo) rk_n (Nat.le_of_ble_eq_true rfl) dX3_decode_22 rfl) (fun v5 h4 => ?_)
    refine s_if_ne (tgt := 34) hK dX3_decode_25 (by decide) (fun c44 => ?_) (fun c44 => ?_)
    · refine s_aload_n hK dX3_decode_34 rfl 0 rfl ?_
      refine s_iload_n hK dX3_decode_35 rfl 1 rfl ?_
      refine s_rc (fun _ _ eo er => ?_)
      refine s_cI hK ho_n (cx_v (As := [.int p1]) (rest := []) hK dyX3_isSound rfl q1910 fcX3.1 q1912 qs38 q80 q1913 eo er (ct_X3_isSound hK.1 p0 p1 h4) (Nat.le_trans (Nat.le_of_ble_eq_true rfl) hf) (Nat.le_trans (Nat.le_of_ble_eq_true rfl) hlo) rk_n (Nat.le_of_ble_eq_true rfl) dX3_decode_36 rfl) (fun v7 h6 => ?_)
      refine s_if_ne (tgt := 48) hK dX3_decode_39 (by decide) (fun c41 => ?_) (fun c41 => ?_)
      · refine s_iload_n hK dX3_decode_48 rfl 2 rfl ?_
        refine s_ite (fun e8 => ?_) (fun e8 => ?_)
        · refine s_tabIn (tgt := 84) hK dX3_decode_49 0 e8 (by decide) (by decide) rfl (by decide) ?_
          refine s_aload_n hK dX3_decode_84 rfl 0 rfl ?_
          refine s_iload_n hK dX3_decode_85 rfl 1 rfl ?_
          refine s_rc (fun _ _ eo er => ?_)
          refine s_cI hK ho_n (cx_v (As := [.int p1]) (rest := []) hK dyX3_sort rfl q1914 fcX3.1 q1916 qs39 q80 q1917 eo er (ct_X3_sort hK.1 p0 p1 h6) (Nat.le_trans (Nat.le_of_ble_eq_true rfl) hf) (Nat.le_trans (Nat.le_of_ble_eq_true rfl) hlo) rk_n (Nat.le_of_ble_eq_true rfl) dX3_decode_86 rfl) (fun v14 h13 => ?_)
          exact s_iret hK dX3_decode_89
        refine s_ite (fun e9 => ?_) (fun e9 => ?_)
        · refine s_tabIn (tgt := 90) hK dX3_decode_49 1 e9 (by decide) (by decide) rfl (by decide) ?_
          refine s_aload_n hK dX3_decode_90 rfl 0 rfl ?_
          refine s_iload_n hK dX3_decode_91 rfl 1 rfl ?_
          refine s_rc (fun _ _ eo er => ?_)
          refine s_cI hK ho_n (cx_v (As := [.int p1]) (rest := []) hK dyX3_sort rfl q1914 fcX3.1 q1916 qs39 q80 q1917 eo er (ct_X3_sort hK.1 p0 p1 h6) (Nat.le_trans (Nat.le_of_ble_eq_true rfl) hf) (Nat.le_trans (Nat.le_of_ble_eq_true rfl) hlo) rk_n (Nat.le_of_ble_eq_true rfl) dX3_decode_92 rfl) (fun v16 h15 => ?_)
          refine s_cI hK ho_n (cx_s (As := [.int v16]) (rest := []) hK dyX3_lengthOf rfl q1918 q1919 q80 q1920 (ct_X3_lengthOf hK.1 v16 h15) (Nat.le_trans (Nat.le_of_ble_eq_true rfl) hf) (Nat.le_trans (Nat.le_of_ble_eq_true rfl) hlo) rk_n (Nat.le_of_ble_eq_true rfl) dX3_decode_95 rfl) (fun v18 h17 => ?_)
          exact s_iret hK dX3_decode_98
        refine s_ite (fun e10 => ?_) (fun e10 => ?_)
        · refine s_tabIn (tgt := 99) hK dX3_decode_49 2 e10 (by decide) (by decide) rfl (by decide) ?_
          refine s_aload_n hK dX3_decode_99 rfl 0 rfl ?_
          refine s_iload_n hK dX3_decode_100 rfl 1 rfl ?_
          refine s_rc (fun _ _ eo er => ?_)
          refine s_cI hK ho_n (cx_v (As := [.int p1]) (rest := []) hK dyX3_first rfl q1937 fcX3.1 q1939 qs43 q80 q1940 eo er (ct_X3_first hK.1 p0 p1 h6) (Nat.le_trans (Nat.le_of_ble_eq_true rfl) hf) (Nat.le_trans (Nat.le_of_ble_eq_true rfl) hlo) rk_n (Nat.le_of_ble_eq_true rfl) dX3_decode_101 rfl) (fun v20 h19 => ?_)
          exact s_iret hK dX3_decode_104
        refine s_ite (fun e11 => ?_) (fun e11 => ?_)
        · refine s_tabIn (tgt := 105) hK dX3_decode_49 3 e11 (by decide) (by decide) rfl (by decide) ?_
          refine s_aload_n hK dX3_decode_105 rfl 0 rfl ?_
          refine s_gA hK fcX3 1 (Nat.le_of_ble_eq_true rfl) (Or.inl q1685) (Or.inl rfl) dX3_decode_106 (fun v21 => ?_)
          refine s_iload_n hK dX3_decode_109 rfl 1 rfl ?_
          refine s_iald hK dX3_decode_110 (fun v22 => ?_)
          refine s_iconst (v := 3) hK dX3_decode_111 rfl ?_
          refine s_iand hK dX3_decode_112 ?_
          exact s_iret hK dX3_decode_113
        refine s_ite (fun e12 => ?_) (fun e12 => ?_)
        · refine s_tabIn (tgt := 114) hK dX3_decode_49 4 e12 (by decide) (by decide) rfl (by decide) ?_
          refine s_aload_n hK dX3_decode_114 rfl 0 rfl ?_
          refine s_iload_n hK dX3_decode_115 rfl 1 rfl ?_
          refine s_rc (fun _ _ eo er => ?_)
          refine s_cI hK ho_n (cx_v (As := [.int p1]) (rest := []) hK dyX3_sort rfl q1914 fcX3.1 q1916 qs39 q80 q1917 eo er (ct_X3_sort hK.1 p0 p1 h6) (Nat.le_trans (Nat.le_of_ble_eq_true rfl) hf) (Nat.le_trans (Nat.le_of_ble_eq_true rfl) hlo) rk_n (Nat.le_of_ble_eq_true rfl) dX3_decode_116 rfl) (fun v24 h23 => ?_)
          refine s_cI hK ho_n (cx_s (As := [.int v24]) (rest := []) hK dyX3_lengthOf rfl q1918 q1919 q80 q1920 (ct_X3_lengthOf hK.1 v24 h23) (Nat.le_trans (Nat.le_of_ble_eq_true rfl) hf) (Nat.le_trans (Nat.le_of_ble_eq_true rfl) hlo) rk_n (Nat.le_of_ble_eq_true rfl) dX3_decode_119 rfl) (fun v26 h25 => ?_)
          refine s_iconst (v := 2) hK dX3_decode_122 rfl ?_
          refine s_icmp_ne (tgt := 134) hK dX3_decode_123 (by decide) (fun c31 => ?_) (fun c31 => ?_)
          · refine s_aload_n hK dX3_decode_134 rfl 0 rfl ?_
            refine s_iconst (v := 3) hK dX3_decode_135 rfl ?_
            refine s_rc (fun _ _ eo er => ?_)
            refine s_cI hK ho_n (cx_v (As := [.int 3]) (rest := []) hK dyX3_fails rfl q1847 fcX3.1 q1849 qs34 q80 q1850 eo er (ct_X3_fails hK.1 p0 3 h25) (Nat.le_trans (Nat.le_of_ble_eq_true rfl) hf) (Nat.le_trans (Nat.le_of_ble_eq_true rfl) hlo) rk_n (Nat.le_of_ble_eq_true rfl) dX3_decode_136 rfl) (fun v28 h27 => ?_)
            exact s_iret hK dX3_decode_139
          · refine s_aload_n hK dX3_decode_126 rfl 0 rfl ?_
            refine s_iload_n hK dX3_decode_127 rfl 1 rfl ?_
            refine s_rc (fun _ _ eo er => ?_)
            refine s_cI hK ho_n (cx_v (As := [.int p1]) (rest := []) hK dyX3_operand rfl q1929 fcX3.1 q1931 qs42 q80 q1932 eo er (ct_X3_operand hK.1 p0 p1 h25) (Nat.le_trans (Nat.le_of_ble_eq_true rfl) hf) (Nat.le_trans (Nat.le_of_ble_eq_true rfl) hlo) rk_n (Nat.le_of_ble_eq_true rfl) dX3_decode_128 rfl) (fun v30 h29 => ?_)
            refine s_goto (tgt := 139) hK dX3_decode_131 (by decide) ?_
            exact s_iret hK dX3_decode_139
        refine s_tabOut (tgt := 140) hK dX3_decode_49 (tsw_out [0, 1, 2, 3, 4] (List.forall_mem_cons.mpr ⟨e8, (List.forall_mem_cons.mpr ⟨e9, (List.forall_mem_cons.mpr ⟨e10, (List.forall_mem_cons.mpr ⟨e11, (List.forall_mem_cons.mpr ⟨e12, (fun _ hz => nomatch hz)⟩)⟩)⟩)⟩)⟩) (by decide)) (by decide) ?_
        refine s_aload_n hK dX3_decode_140 rfl 0 rfl ?_
        refine s_iload_n hK dX3_decode_141 rfl 1 rfl ?_
        refine s_rc (fun _ _ eo er => ?_)
        refine s_cI hK ho_n (cx_v (As := [.int p1]) (rest := []) hK dyX3_hasGoal rfl q1921 fcX3.1 q1923 qs40 q80 q1924 eo er (ct_X3_hasGoal hK.1 p0 p1 h6) (Nat.le_trans (Nat.le_of_ble_eq_true rfl) hf) (Nat.le_trans (Nat.le_of_ble_eq_true rfl) hlo) rk_n (Nat.le_of_ble_eq_true rfl) dX3_decode_142 rfl) (fun v33 h32 => ?_)
        refine s_if_eq (tgt := 156) hK dX3_decode_145 (by decide) (fun c38 => ?_) (fun c38 => ?_)
        · refine s_aload_n hK dX3_decode_156 rfl 0 rfl ?_
          refine s_iconst (v := 3) hK dX3_decode_157 rfl ?_
          refine s_rc (fun _ _ eo er => ?_)
          refine s_cI hK ho_n (cx_v (As := [.int 3]) (rest := []) hK dyX3_fails rfl q1847 fcX3.1 q1849 qs34 q80 q1850 eo er (ct_X3_fails hK.1 p0 3 h32) (Nat.le_trans (Nat.le_of_ble_eq_true rfl) hf) (Nat.le_trans (Nat.le_of_ble_eq_true rfl) hlo) rk_n (Nat.le_of_ble_eq_true rfl) dX3_decode_158 rfl) (fun v35 h34 => ?_)
          exact s_iret hK dX3_decode_161
        · refine s_aload_n hK dX3_decode_148 rfl 0 rfl ?_
          refine s_iload_n hK dX3_decode_149 rfl 1 rfl ?_
          refine s_rc (fun _ _ eo er => ?_)
          refine s_cI hK ho_n (cx_v (As := [.int p1]) (rest := []) hK dyX3_goal rfl q1925 fcX3.1 q1927 qs41 q80 q1928 eo er (ct_X3_goal hK.1 p0 p1 h32) (Nat.le_trans (Nat.le_of_ble_eq_true rfl) hf) (Nat.le_trans (Nat.le_of_ble_eq_true rfl) hlo) rk_n (Nat.le_of_ble_eq_true rfl) dX3_decode_150 rfl) (fun v37 h36 => ?_)
          refine s_goto (tgt := 161) hK dX3_decode_153 (by decide) ?_
          exact s_iret hK dX3_decode_161
      · refine s_aload_n hK dX3_decode_42 rfl 0 rfl ?_
        refine s_iconst (v := 3) hK dX3_decode_43 rfl ?_
        refine s_rc (fun _ _ eo er => ?_)
        refine s_cI hK ho_n (cx_v (As := [.int 3]) (rest := []) hK dyX3_fails rfl q1847 fcX3.1 q1849 qs34 q80 q1850 eo er (ct_X3_fails hK.1 p0 3 h6) (Nat.le_trans (Nat.le_of_ble_eq_true rfl) hf) (Nat.le_trans (Nat.le_of_ble_eq_true rfl) hlo) rk_n (Nat.le_of_ble_eq_true rfl) dX3_decode_44 rfl) (fun v40 h39 => ?_)
        exact s_iret hK dX3_decode_47
    · refine s_aload_n hK dX3_decode_28 rfl 0 rfl ?_
      refine s_iconst (v := 2) hK dX3_decode_29 rfl ?_
      refine s_rc (fun _ _ eo er => ?_)
      refine s_cI hK ho_n (cx_v (As := [.int 2]) (rest := []) hK dyX3_fails rfl q1847 fcX3.1 q1849 qs34 q80 q1850 eo er (ct_X3_fails hK.1 p0 2 h4) (Nat.le_trans (Nat.le_of_ble_eq_true rfl) hf) (Nat.le_trans (Nat.le_of_ble_eq_true rfl) hlo) rk_n (Nat.le_of_ble_eq_true rfl) dX3_decode_30 rfl) (fun v43 h42 => ?_)
      exact s_iret hK dX3_decode_33
  · refine s_aload_n hK dX3_decode_13 rfl 0 rfl ?_
    refine s_iconst (v := 1) hK dX3_decode_14 rfl ?_
    refine s_rc (fun _ _ eo er => ?_)
    refine s_cI hK ho_n (cx_v (As := [.int 1]) (rest := []) hK dyX3_fails rfl q1847 fcX3.1 q1849 qs34 q80 q1850 eo er (ct_X3_fails hK.1 p0 1 h2) (Nat.le_trans (Nat.le_of_ble_eq_true rfl) hf) (Nat.le_trans (Nat.le_of_ble_eq_true rfl) hlo) rk_n (Nat.le_of_ble_eq_true rfl) dX3_decode_15 rfl) (fun v46 h45 => ?_)
    exact s_iret hK dX3_decode_18
theorem ct_X3_decode {G : GC} {l : Launch} (g : GOK G l) (p0 : Option Nat) (p1 : Int32) (p2 : Int32) (h : AH) : CT G l yX3_decode (Cond.code yX3_decode cX3_decode 3 (some (.int))) 4 80 [va_rf p0, .int p1, .int p2] (f_X3_decode p0 p1 p2 h) h :=
  CT.of g (by decide) (by simp only [ls_a, ls_i, ls_l, ls_n]; decide) (fun K _ hK hf hlo => by simp only [la_a, la_i, la_l, la_n]; exact sm_X3_decode hK hf hlo p0 p1 p2 h)
abbrev FR_X3_adds : Nat := 1
abbrev LO_X3_adds : Nat := 16
theorem dyX3_adds : DY yX3_adds 1 := ⟨⟨by decide, by decide⟩, by decide +kernel⟩
theorem sm_X3_adds {G : GC} {K : SC} (hK : SOK G K RX3 cX3_adds 2 (none) "adds" []) (hf : FR_X3_adds ≤ (kR K).frames) (hlo : LO_X3_adds ≤ (kR K).locals) (p0 : Option Nat) (p1 : Int32) (h : AH) : Sim G K 2 (f_X3_adds p0 p1 h) h 0 [(0, va_rf p0), (1, .int p1)] [] := by
  unfold f_X3_adds
  refine s_aload_n hK dX3_adds_0 rfl 0 rfl ?_
  refine s_gA hK fcX3 22 (Nat.le_of_ble_eq_true rfl) (Or.inl q1706) (Or.inl rfl) dX3_adds_1 (fun v1 => ?_)
  refine s_aload_n hK dX3_adds_4 rfl 0 rfl ?_
  refine s_gI hK fcX3 23 (Nat.le_of_ble_eq_true rfl) (Or.inl q1707) (Or.inl rfl) dX3_adds_5 (fun v2 => ?_)
  refine s_iload_n hK dX3_adds_8 rfl 1 rfl ?_
  refine s_iast hK dX3_adds_9 (fun h3 => ?_)
  refine s_aload_n hK dX3_adds_10 rfl 0 rfl ?_
  refine s_dup hK dX3_adds_11 (va_cat _) ?_
  refine s_gI hK fcX3 23 (Nat.le_of_ble_eq_true rfl) (Or.inl q1707) (Or.inl rfl) dX3_adds_12 (fun v4 => ?_)
  refine s_iconst (v := 1) hK dX3_adds_15 rfl ?_
  refine s_iadd hK dX3_adds_16 ?_
  refine s_pF hK fcX3 23 (Nat.le_of_ble_eq_true rfl) (Or.inl q1707) (Or.inl rfl) (Or.inl rfl) rfl rfl dX3_adds_17 (fun h5 => ?_)
  exact s_vret hK dX3_adds_20
theorem ct_X3_adds {G : GC} {l : Launch} (g : GOK G l) (p0 : Option Nat) (p1 : Int32) (h : AH) : CT G l yX3_adds (Cond.code yX3_adds cX3_adds 2 (none)) 1 16 [va_rf p0, .int p1] (f_X3_adds p0 p1 h) h :=
  CT.of g (by decide) (by simp only [ls_a, ls_i, ls_l, ls_n]; decide) (fun K _ hK hf hlo => by simp only [la_a, la_i, la_l, la_n]; exact sm_X3_adds hK hf hlo p0 p1 h)
abbrev FR_X3_isBadAt : Nat := 1
abbrev LO_X3_isBadAt : Nat := 16
theorem dyX3_isBadAt : DY yX3_isBadAt 1 := ⟨⟨by decide, by decide⟩, by decide +kernel⟩
theorem sm_X3_isBadAt_J19 {G : GC} {K : SC} (hK : SOK G K RX3 cX3_isBadAt 2 (none) "isBadAt" []) (hf : FR_X3_isBadAt ≤ (kR K).frames) (hlo : LO_X3_isBadAt ≤ (kR K).locals) (x4 : Option Nat) (x5 : Int32) (y6 : Int32) (y7 : Int32) (y8 : Option Nat) (h9 : AH) : Sim G K 2 (f_X3_isBadAt_J19 x4 x5 y6 y7 y8 h9) h9 19 [(0, va_rf x4), (1, .int x5)] [.int y6, .int y7, va_rf y8] := by
  unfold f_X3_isBadAt_J19
  refine s_iadd hK dX3_isBadAt_19 ?_
  refine s_pF hK fcX3 26 (Nat.le_of_ble_eq_true rfl) (Or.inl q1710) (Or.inl rfl) (Or.inl rfl) rfl rfl dX3_isBadAt_20 (fun h10 => ?_)
  refine s_aload_n hK dX3_isBadAt_23 rfl 0 rfl ?_
  refine s_gA hK fcX3 21 (Nat.le_of_ble_eq_true rfl) (Or.inl q1705) (Or.inl rfl) dX3_isBadAt_24 (fun v11 => ?_)
  refine s_iload_n hK dX3_isBadAt_27 rfl 1 rfl ?_
  refine s_iconst (v := 1) hK dX3_isBadAt_28 rfl ?_
  refine s_zast hK dX3_isBadAt_29 (fun h12 => ?_)
  exact s_vret hK dX3_isBadAt_30
theorem sm_X3_isBadAt {G : GC} {K : SC} (hK : SOK G K RX3 cX3_isBadAt 2 (none) "isBadAt" []) (hf : FR_X3_isBadAt ≤ (kR K).frames) (hlo : LO_X3_isBadAt ≤ (kR K).locals) (p0 : Option Nat) (p1 : Int32) (h : AH) : Sim G K 2 (f_X3_isBadAt p0 p1 h) h 0 [(0, va_rf p0), (1, .int p1)] [] := by
  unfold f_X3_isBadAt
  refine s_aload_n hK dX3_isBadAt_0 rfl 0 rfl ?_
  refine s_dup hK dX3_isBadAt_1 (va_cat _) ?_
  refine s_gI hK fcX3 26 (Nat.le_of_ble_eq_true rfl) (Or.inl q1710) (Or.inl rfl) dX3_isBadAt_2 (fun v1 => ?_)
  refine s_aload_n hK dX3_isBadAt_5 rfl 0 rfl ?_
  refine s_gA hK fcX3 21 (Nat.le_of_ble_eq_true rfl) (Or.inl q1705) (Or.inl rfl) dX3_isBadAt_6 (fun v2 => ?_)
  refine s_iload_n hK dX3_isBadAt_9 rfl 1 rfl ?_
  refine s_zald hK dX3_isBadAt_10 (fun v3 => ?_)
  refine s_if_eq (tgt := 18) hK dX3_isBadAt_11 (by decide) (fun c13 => ?_) (fun c13 => ?_)
  · refine s_iconst (v := 1) hK dX3_isBadAt_18 rfl ?_
    exact sm_X3_isBadAt_J19 hK hf hlo p0 p1 1 v1 p0 h
  · refine s_iconst (v := 0) hK dX3_isBadAt_14 rfl ?_
    refine s_goto (tgt := 19) hK dX3_isBadAt_15 (by decide) ?_
    exact sm_X3_isBadAt_J19 hK hf hlo p0 p1 0 v1 p0 h
theorem ct_X3_isBadAt {G : GC} {l : Launch} (g : GOK G l) (p0 : Option Nat) (p1 : Int32) (h : AH) : CT G l yX3_isBadAt (Cond.code yX3_isBadAt cX3_isBadAt 2 (none)) 1 16 [va_rf p0, .int p1] (f_X3_isBadAt p0 p1 h) h :=
  CT.of g (by decide) (by simp only [ls_a, ls_i, ls_l, ls_n]; decide) (fun K _ hK hf hlo => by simp only [la_a, la_i, la_l, la_n]; exact sm_X3_isBadAt hK hf hlo p0 p1 h)
abbrev FR_X3_isFree : Nat := 2
abbrev LO_X3_isFree : Nat := 37
theorem dyX3_isFree : DY yX3_isFree 1 := ⟨⟨by decide, by decide⟩, by decide +kernel⟩
theorem sm_X3_isFree_J45 {G : GC} {K : SC} (hK : SOK G K RX3 cX3_isFree 4 (some (.boolean)) "isFree" []) (hf : FR_X3_isFree ≤ (kR K).frames) (hlo : LO_X3_isFree ≤ (kR K).locals) {rc : Option Nat → Int32 → Int32 → Int32 → AH → RS} (hrc : ∀ (y0 : Option Nat) (y1 : Int32) (y2 : Int32) (y3 : Int32) (h : AH), Sim G K 4 (rc y0 y1 y2 y3 h) h 4 [(0, va_rf y0), (1, .int y1), (2, .int y2), (3, .int y3)] []) {k52 : Int32 → AH → RS} (hk52 : ∀ (y0 : Int32) (h : AH), Sim G K 4 (k52 y0 h) h 52 [(2, .int y0)] []) (x14 : Option Nat) (x15 : Int32) (x16 : Int32) (y17 : Int32) (h18 : AH) : Sim G K 4 (f_X3_isFree_J45 rc k52 x14 x15 x16 y17 h18) h18 45 [(0, va_rf x14), (1, .int x15), (3, .int x16)] [.int y17] := by
  unfold f_X3_isFree_J45
  refine s_istore_n (lv' := [(2, .int y17), (0, va_rf x14), (1, .int x15), (3, .int x16)]) hK dX3_isFree_45 rfl (Nat.le_of_ble_eq_true rfl) rfl ?_
  refine s_iinc (j := 3) (v := 1) (lv' := [(3, .int (x16 + 1)), (2, .int y17), (0, va_rf x14), (1, .int x15)]) hK dX3_isFree_46 rfl rfl (Nat.le_of_ble_eq_true rfl) rfl ?_
  refine s_goto (tgt := 4) hK dX3_isFree_49 (by decide) ?_
  refine s_sub [2, 3, 1, 0] rfl ?_
  exact hrc x14 x15 y17 (x16 + 1) h18
theorem sm_X3_isFree_J44 {G : GC} {K : SC} (hK : SOK G K RX3 cX3_isFree 4 (some (.boolean)) "isFree" []) (hf : FR_X3_isFree ≤ (kR K).frames) (hlo : LO_X3_isFree ≤ (kR K).locals) {rc : Option Nat → Int32 → Int32 → Int32 → AH → RS} (hrc : ∀ (y0 : Option Nat) (y1 : Int32) (y2 : Int32) (y3 : Int32) (h : AH), Sim G K 4 (rc y0 y1 y2 y3 h) h 4 [(0, va_rf y0), (1, .int y1), (2, .int y2), (3, .int y3)] []) {k52 : Int32 → AH → RS} (hk52 : ∀ (y0 : Int32) (h : AH), Sim G K 4 (k52 y0 h) h 52 [(2, .int y0)] []) (x10 : Option Nat) (x11 : Int32) (x12 : Int32)  (h13 : AH) : Sim G K 4 (f_X3_isFree_J44 rc k52 x10 x11 x12 h13) h13 44 [(0, va_rf x10), (1, .int x11), (3, .int x12)] [] := by
  unfold f_X3_isFree_J44
  refine s_iconst (v := 0) hK dX3_isFree_44 rfl ?_
  exact sm_X3_isFree_J45 hK hf hlo hrc hk52 x10 x11 x12 0 h13
theorem sm_X3_isFree_L4 {G : GC} {K : SC} (hK : SOK G K RX3 cX3_isFree 4 (some (.boolean)) "isFree" []) (hf : FR_X3_isFree ≤ (kR K).frames) (hlo : LO_X3_isFree ≤ (kR K).locals) {k52 : Int32 → AH → RS} (hk52 : ∀ (y0 : Int32) (h : AH), Sim G K 4 (k52 y0 h) h 52 [(2, .int y0)] []) : ∀ (n : Nat) (x1 : Option Nat) (x2 : Int32) (x3 : Int32) (x4 : Int32) (h5 : AH), Sim G K 4 (f_X3_isFree_L4 k52 n x1 x2 x3 x4 h5) h5 4 [(0, va_rf x1), (1, .int x2), (2, .int x3), (3, .int x4)] [] := by
  intro n
  induction n with
  | zero => intro x1 x2 x3 x4 h5; exact s_none
  | succ n ih =>
    intro x1 x2 x3 x4 h5
    rw [f_X3_isFree_L4]
    refine s_iload_n hK dX3_isFree_4 rfl 3 rfl ?_
    refine s_iload_n hK dX3_isFree_5 rfl 1 rfl ?_
    refine s_aload_n hK dX3_isFree_6 rfl 0 rfl ?_
    refine s_iload_n hK dX3_isFree_7 rfl 1 rfl ?_
    refine s_rc (fun _ _ eo er => ?_)
    refine s_cI hK ho_n (cx_v (As := [.int x2]) (rest := [.int x2, .int x4]) hK dyX3_sort rfl q1914 fcX3.1 q1916 qs39 q80 q1917 eo er (ct_X3_sort hK.1 x1 x2 h5) (Nat.le_trans (Nat.le_of_ble_eq_true rfl) hf) (Nat.le_trans (Nat.le_of_ble_eq_true rfl) hlo) (rk_i (rk_i rk_n)) (Nat.le_of_ble_eq_true rfl) dX3_isFree_8 rfl) (fun v7 h6 => ?_)
    refine s_cI hK ho_n (cx_s (As := [.int v7]) (rest := [.int x2, .int x4]) hK dyX3_lengthOf rfl q1918 q1919 q80 q1920 (ct_X3_lengthOf hK.1 v7 h6) (Nat.le_trans (Nat.le_of_ble_eq_true rfl) hf) (Nat.le_trans (Nat.le_of_ble_eq_true rfl) hlo) (rk_i (rk_i rk_n)) (Nat.le_of_ble_eq_true rfl) dX3_isFree_11 rfl) (fun v9 h8 => ?_)
    refine s_iadd hK dX3_isFree_14 ?_
    refine s_icmp_ge (tgt := 52) hK dX3_isFree_15 (by decide) (fun c26 => ?_) (fun c26 => ?_)
    · refine s_sub [2] rfl ?_
      exact hk52 x3 h8
    · refine s_iload_n hK dX3_isFree_18 rfl 2 rfl ?_
      refine s_if_eq (tgt := 44) hK dX3_isFree_19 (by decide) (fun c25 => ?_) (fun c25 => ?_)
      · refine s_sub [0, 1, 3] rfl ?_
        exact sm_X3_isFree_J44 hK hf hlo ih hk52 x1 x2 x4 h8
      · refine s_aload_n hK dX3_isFree_22 rfl 0 rfl ?_
        refine s_gA hK fcX3 17 (Nat.le_of_ble_eq_true rfl) (Or.inl q1701) (Or.inl rfl) dX3_isFree_23 (fun v19 => ?_)
        refine s_iload_n hK dX3_isFree_26 rfl 3 rfl ?_
        refine s_iald hK dX3_isFree_27 (fun v20 => ?_)
        refine s_if_ge (tgt := 44) hK dX3_isFree_28 (by decide) (fun c24 => ?_) (fun c24 => ?_)
        · refine s_sub [0, 1, 3] rfl ?_
          exact sm_X3_isFree_J44 hK hf hlo ih hk52 x1 x2 x4 h8
        · refine s_aload_n hK dX3_isFree_31 rfl 0 rfl ?_
          refine s_gA hK fcX3 20 (Nat.le_of_ble_eq_true rfl) (Or.inl q1704) (Or.inl rfl) dX3_isFree_32 (fun v21 => ?_)
          refine s_iload_n hK dX3_isFree_35 rfl 3 rfl ?_
          refine s_zald hK dX3_isFree_36 (fun v22 => ?_)
          refine s_if_ne (tgt := 44) hK dX3_isFree_37 (by decide) (fun c23 => ?_) (fun c23 => ?_)
          · refine s_sub [0, 1, 3] rfl ?_
            exact sm_X3_isFree_J44 hK hf hlo ih hk52 x1 x2 x4 h8
          · refine s_iconst (v := 1) hK dX3_isFree_40 rfl ?_
            refine s_goto (tgt := 45) hK dX3_isFree_41 (by decide) ?_
            refine s_sub [0, 1, 3] rfl ?_
            exact sm_X3_isFree_J45 hK hf hlo ih hk52 x1 x2 x4 1 h8
theorem sm_X3_isFree {G : GC} {K : SC} (hK : SOK G K RX3 cX3_isFree 4 (some (.boolean)) "isFree" []) (hf : FR_X3_isFree ≤ (kR K).frames) (hlo : LO_X3_isFree ≤ (kR K).locals) (p0 : Option Nat) (p1 : Int32) (h : AH) : Sim G K 4 (f_X3_isFree p0 p1 h) h 0 [(0, va_rf p0), (1, .int p1)] [] := by
  unfold f_X3_isFree
  refine s_iconst (v := 1) hK dX3_isFree_0 rfl ?_
  refine s_istore_n (lv' := [(2, .int 1), (0, va_rf p0), (1, .int p1)]) hK dX3_isFree_1 rfl (Nat.le_of_ble_eq_true rfl) rfl ?_
  refine s_iload_n hK dX3_isFree_2 rfl 2 rfl ?_
  refine s_istore_n (lv' := [(3, .int p1), (2, .int 1), (0, va_rf p0), (1, .int p1)]) hK dX3_isFree_3 rfl (Nat.le_of_ble_eq_true rfl) rfl ?_
  refine s_sub [2, 3, 1, 0] rfl ?_
  refine sm_X3_isFree_L4 hK hf hlo (fun x27 h28 => ?_) FUEL p0 p1 1 p1 h
  · refine s_iload_n hK dX3_isFree_52 rfl 0 rfl ?_
    exact s_zret hK dX3_isFree_53
theorem ct_X3_isFree {G : GC} {l : Launch} (g : GOK G l) (p0 : Option Nat) (p1 : Int32) (h : AH) : CT G l yX3_isFree (Cond.code yX3_isFree cX3_isFree 4 (some (.boolean))) 2 37 [va_rf p0, .int p1] (f_X3_isFree p0 p1 h) h :=
  CT.of g (by decide) (by simp only [ls_a, ls_i, ls_l, ls_n]; decide) (fun K _ hK hf hlo => by simp only [la_a, la_i, la_l, la_n]; exact sm_X3_isFree hK hf hlo p0 p1 h)
abbrev FR_X3_conflictAt : Nat := 1
abbrev LO_X3_conflictAt : Nat := 16
theorem dyX3_conflictAt : DY yX3_conflictAt 1 := ⟨⟨by decide, by decide⟩, by decide +kernel⟩
theorem sm_X3_conflictAt_L2 {G : GC} {K : SC} (hK : SOK G K RX3 cX3_conflictAt 3 (none) "conflictAt" []) (hf : FR_X3_conflictAt ≤ (kR K).frames) (hlo : LO_X3_conflictAt ≤ (kR K).locals) {k27 : Option Nat → Int32 → AH → RS} (hk27 : ∀ (y0 : Option Nat) (y1 : Int32) (h : AH), Sim G K 3 (k27 y0 y1 h) h 27 [(0, va_rf y0), (1, .int y1)] []) : ∀ (n : Nat) (x1 : Option Nat) (x2 : Int32) (x3 : Int32) (h4 : AH), Sim G K 3 (f_X3_conflictAt_L2 k27 n x1 x2 x3 h4) h4 2 [(0, va_rf x1), (1, .int x2), (2, .int x3)] [] := by
  intro n
  induction n with
  | zero => intro x1 x2 x3 h4; exact s_none
  | succ n ih =>
    intro x1 x2 x3 h4
    rw [f_X3_conflictAt_L2]
    refine s_iload_n hK dX3_conflictAt_2 rfl 2 rfl ?_
    refine s_aload_n hK dX3_conflictAt_3 rfl 0 rfl ?_
    refine s_gI hK fcX3 25 (Nat.le_of_ble_eq_true rfl) (Or.inl q1709) (Or.inl rfl) dX3_conflictAt_4 (fun v5 => ?_)
    refine s_icmp_ge (tgt := 27) hK dX3_conflictAt_7 (by decide) (fun c9 => ?_) (fun c9 => ?_)
    · refine s_sub [0, 1] rfl ?_
      exact hk27 x1 x2 h4
    · refine s_aload_n hK dX3_conflictAt_10 rfl 0 rfl ?_
      refine s_gA hK fcX3 30 (Nat.le_of_ble_eq_true rfl) (Or.inl q1714) (Or.inl rfl) dX3_conflictAt_11 (fun v6 => ?_)
      refine s_iload_n hK dX3_conflictAt_14 rfl 2 rfl ?_
      refine s_iald hK dX3_conflictAt_15 (fun v7 => ?_)
      refine s_iload_n hK dX3_conflictAt_16 rfl 1 rfl ?_
      refine s_icmp_ne (tgt := 21) hK dX3_conflictAt_17 (by decide) (fun c8 => ?_) (fun c8 => ?_)
      · refine s_iinc (j := 2) (v := 1) (lv' := [(2, .int (x3 + 1)), (0, va_rf x1), (1, .int x2)]) hK dX3_conflictAt_21 rfl rfl (Nat.le_of_ble_eq_true rfl) rfl ?_
        refine s_goto (tgt := 2) hK dX3_conflictAt_24 (by decide) ?_
        refine s_sub [1, 2, 0] rfl ?_
        exact ih x1 x2 (x3 + 1) h4
      · exact s_vret hK dX3_conflictAt_20
theorem sm_X3_conflictAt {G : GC} {K : SC} (hK : SOK G K RX3 cX3_conflictAt 3 (none) "conflictAt" []) (hf : FR_X3_conflictAt ≤ (kR K).frames) (hlo : LO_X3_conflictAt ≤ (kR K).locals) (p0 : Option Nat) (p1 : Int32) (h : AH) : Sim G K 3 (f_X3_conflictAt p0 p1 h) h 0 [(0, va_rf p0), (1, .int p1)] [] := by
  unfold f_X3_conflictAt
  refine s_iconst (v := 0) hK dX3_conflictAt_0 rfl ?_
  refine s_istore_n (lv' := [(2, .int 0), (0, va_rf p0), (1, .int p1)]) hK dX3_conflictAt_1 rfl (Nat.le_of_ble_eq_true rfl) rfl ?_
  refine s_sub [1, 2, 0] rfl ?_
  refine sm_X3_conflictAt_L2 hK hf hlo (fun x10 x11 h12 => ?_) FUEL p0 p1 0 h
  · refine s_aload_n hK dX3_conflictAt_27 rfl 0 rfl ?_
    refine s_gA hK fcX3 30 (Nat.le_of_ble_eq_true rfl) (Or.inl q1714) (Or.inl rfl) dX3_conflictAt_28 (fun v13 => ?_)
    refine s_aload_n hK dX3_conflictAt_31 rfl 0 rfl ?_
    refine s_gI hK fcX3 25 (Nat.le_of_ble_eq_true rfl) (Or.inl q1709) (Or.inl rfl) dX3_conflictAt_32 (fun v14 => ?_)
    refine s_iload_n hK dX3_conflictAt_35 rfl 1 rfl ?_
    refine s_iast hK dX3_conflictAt_36 (fun h15 => ?_)
    refine s_aload_n hK dX3_conflictAt_37 rfl 0 rfl ?_
    refine s_dup hK dX3_conflictAt_38 (va_cat _) ?_
    refine s_gI hK fcX3 25 (Nat.le_of_ble_eq_true rfl) (Or.inl q1709) (Or.inl rfl) dX3_conflictAt_39 (fun v16 => ?_)
    refine s_iconst (v := 1) hK dX3_conflictAt_42 rfl ?_
    refine s_iadd hK dX3_conflictAt_43 ?_
    refine s_pF hK fcX3 25 (Nat.le_of_ble_eq_true rfl) (Or.inl q1709) (Or.inl rfl) (Or.inl rfl) rfl rfl dX3_conflictAt_44 (fun h17 => ?_)
    exact s_vret hK dX3_conflictAt_47
theorem ct_X3_conflictAt {G : GC} {l : Launch} (g : GOK G l) (p0 : Option Nat) (p1 : Int32) (h : AH) : CT G l yX3_conflictAt (Cond.code yX3_conflictAt cX3_conflictAt 3 (none)) 1 16 [va_rf p0, .int p1] (f_X3_conflictAt p0 p1 h) h :=
  CT.of g (by decide) (by simp only [ls_a, ls_i, ls_l, ls_n]; decide) (fun K _ hK hf hlo => by simp only [la_a, la_i, la_l, la_n]; exact sm_X3_conflictAt hK hf hlo p0 p1 h)
abbrev FR_X3_endsFlow : Nat := 2
abbrev LO_X3_endsFlow : Nat := 37
theorem dyX3_endsFlow : DY yX3_endsFlow 1 := ⟨⟨by decide, by decide⟩, by decide +kernel⟩
theorem sm_X3_endsFlow {G : GC} {K : SC} (hK : SOK G K RX3 cX3_endsFlow 2 (some (.boolean)) "endsFlow" []) (hf : FR_X3_endsFlow ≤ (kR K).frames) (hlo : LO_X3_endsFlow ≤ (kR K).locals) (p0 : Option Nat) (p1 : Int32) (h : AH) : Sim G K 2 (f_X3_endsFlow p0 p1 h) h 0 [(0, va_rf p0), (1, .int p1)] [] := by
  unfold f_X3_endsFlow
  refine s_aload_n hK dX3_endsFlow_0 rfl 0 rfl ?_
  refine s_iload_n hK dX3_endsFlow_1 rfl 1 rfl ?_
  refine s_rc (fun _ _ eo er => ?_)
  refine s_cI hK ho_n (cx_v (As := [.int p1]) (rest := []) hK dyX3_sort rfl q1914 fcX3.1 q1916 qs39 q80 q1917 eo er (ct_X3_sort hK.1 p0 p1 h) (Nat.le_trans (Nat.le_of_ble_eq_true rfl) hf) (Nat.le_trans (Nat.le_of_ble_eq_true rfl) hlo) rk_n (Nat.le_of_ble_eq_true rfl) dX3_endsFlow_2 rfl) (fun v2 h1 => ?_)
  refine s_iconst (v := 4) hK dX3_endsFlow_5 rfl ?_
  refine s_icmp_eq (tgt := 39) hK dX3_endsFlow_6 (by decide) (fun c12 => ?_) (fun c12 => ?_)
  · refine s_iconst (v := 1) hK dX3_endsFlow_39 rfl ?_
    refine s_goto (tgt := 44) hK dX3_endsFlow_40 (by decide) ?_
    exact s_zret hK dX3_endsFlow_44
  · refine s_aload_n hK dX3_endsFlow_9 rfl 0 rfl ?_
    refine s_iload_n hK dX3_endsFlow_10 rfl 1 rfl ?_
    refine s_rc (fun _ _ eo er => ?_)
    refine s_cI hK ho_n (cx_v (As := [.int p1]) (rest := []) hK dyX3_sort rfl q1914 fcX3.1 q1916 qs39 q80 q1917 eo er (ct_X3_sort hK.1 p0 p1 h1) (Nat.le_trans (Nat.le_of_ble_eq_true rfl) hf) (Nat.le_trans (Nat.le_of_ble_eq_true rfl) hlo) rk_n (Nat.le_of_ble_eq_true rfl) dX3_endsFlow_11 rfl) (fun v4 h3 => ?_)
    refine s_bipush (v := 8) hK dX3_endsFlow_14 rfl ?_
    refine s_icmp_eq (tgt := 39) hK dX3_endsFlow_16 (by decide) (fun c11 => ?_) (fun c11 => ?_)
    · refine s_iconst (v := 1) hK dX3_endsFlow_39 rfl ?_
      refine s_goto (tgt := 44) hK dX3_endsFlow_40 (by decide) ?_
      exact s_zret hK dX3_endsFlow_44
    · refine s_aload_n hK dX3_endsFlow_19 rfl 0 rfl ?_
      refine s_iload_n hK dX3_endsFlow_20 rfl 1 rfl ?_
      refine s_rc (fun _ _ eo er => ?_)
      refine s_cI hK ho_n (cx_v (As := [.int p1]) (rest := []) hK dyX3_sort rfl q1914 fcX3.1 q1916 qs39 q80 q1917 eo er (ct_X3_sort hK.1 p0 p1 h3) (Nat.le_trans (Nat.le_of_ble_eq_true rfl) hf) (Nat.le_trans (Nat.le_of_ble_eq_true rfl) hlo) rk_n (Nat.le_of_ble_eq_true rfl) dX3_endsFlow_21 rfl) (fun v6 h5 => ?_)
      refine s_bipush (v := 9) hK dX3_endsFlow_24 rfl ?_
      refine s_icmp_eq (tgt := 39) hK dX3_endsFlow_26 (by decide) (fun c10 => ?_) (fun c10 => ?_)
      · refine s_iconst (v := 1) hK dX3_endsFlow_39 rfl ?_
        refine s_goto (tgt := 44) hK dX3_endsFlow_40 (by decide) ?_
        exact s_zret hK dX3_endsFlow_44
      · refine s_aload_n hK dX3_endsFlow_29 rfl 0 rfl ?_
        refine s_iload_n hK dX3_endsFlow_30 rfl 1 rfl ?_
        refine s_rc (fun _ _ eo er => ?_)
        refine s_cI hK ho_n (cx_v (As := [.int p1]) (rest := []) hK dyX3_sort rfl q1914 fcX3.1 q1916 qs39 q80 q1917 eo er (ct_X3_sort hK.1 p0 p1 h5) (Nat.le_trans (Nat.le_of_ble_eq_true rfl) hf) (Nat.le_trans (Nat.le_of_ble_eq_true rfl) hlo) rk_n (Nat.le_of_ble_eq_true rfl) dX3_endsFlow_31 rfl) (fun v8 h7 => ?_)
        refine s_bipush (v := 13) hK dX3_endsFlow_34 rfl ?_
        refine s_icmp_ne (tgt := 43) hK dX3_endsFlow_36 (by decide) (fun c9 => ?_) (fun c9 => ?_)
        · refine s_iconst (v := 0) hK dX3_endsFlow_43 rfl ?_
          exact s_zret hK dX3_endsFlow_44
        · refine s_iconst (v := 1) hK dX3_endsFlow_39 rfl ?_
          refine s_goto (tgt := 44) hK dX3_endsFlow_40 (by decide) ?_
          exact s_zret hK dX3_endsFlow_44
theorem ct_X3_endsFlow {G : GC} {l : Launch} (g : GOK G l) (p0 : Option Nat) (p1 : Int32) (h : AH) : CT G l yX3_endsFlow (Cond.code yX3_endsFlow cX3_endsFlow 2 (some (.boolean))) 2 37 [va_rf p0, .int p1] (f_X3_endsFlow p0 p1 h) h :=
  CT.of g (by decide) (by simp only [ls_a, ls_i, ls_l, ls_n]; decide) (fun K _ hK hf hlo => by simp only [la_a, la_i, la_l, la_n]; exact sm_X3_endsFlow hK hf hlo p0 p1 h)
abbrev FR_X3_ahead : Nat := 3
abbrev LO_X3_ahead : Nat := 58
theorem dyX3_ahead : DY yX3_ahead 1 := ⟨⟨by decide, by decide⟩, by decide +kernel⟩
theorem sm_X3_ahead_J16 {G : GC} {K : SC} (hK : SOK G K RX3 cX3_ahead 3 (some (.int)) "ahead" []) (hf : FR_X3_ahead ≤ (kR K).frames) (hlo : LO_X3_ahead ≤ (kR K).locals) (x1 : Option Nat) (x2 : Int32) (y3 : Int32) (h4 : AH) : Sim G K 3 (f_X3_ahead_J16 x1 x2 y3 h4) h4 16 [(0, va_rf x1), (1, .int x2)] [.int y3] := by
  unfold f_X3_ahead_J16
  refine s_istore_n (lv' := [(2, .int y3), (0, va_rf x1), (1, .int x2)]) hK dX3_ahead_16 rfl (Nat.le_of_ble_eq_true rfl) rfl ?_
  refine s_iload_n hK dX3_ahead_17 rfl 0 rfl ?_
  refine s_if_lt (tgt := 45) hK dX3_ahead_18 (by decide) (fun c11 => ?_) (fun c11 => ?_)
  · refine s_iconst (v := (-1)) hK dX3_ahead_45 rfl ?_
    exact s_iret hK dX3_ahead_46
  · refine s_iload_n hK dX3_ahead_21 rfl 0 rfl ?_
    refine s_aload_n hK dX3_ahead_22 rfl 1 rfl ?_
    refine s_gA hK fcX3 16 (Nat.le_of_ble_eq_true rfl) (Or.inl q1700) (Or.inl rfl) dX3_ahead_23 (fun v5 => ?_)
    refine s_iload_n hK dX3_ahead_26 rfl 0 rfl ?_
    refine s_iald hK dX3_ahead_27 (fun v6 => ?_)
    refine s_iadd hK dX3_ahead_28 ?_
    refine s_iload_n hK dX3_ahead_29 rfl 2 rfl ?_
    refine s_icmp_ne (tgt := 45) hK dX3_ahead_30 (by decide) (fun c10 => ?_) (fun c10 => ?_)
    · refine s_iconst (v := (-1)) hK dX3_ahead_45 rfl ?_
      exact s_iret hK dX3_ahead_46
    · refine s_aload_n hK dX3_ahead_33 rfl 1 rfl ?_
      refine s_iload_n hK dX3_ahead_34 rfl 0 rfl ?_
      refine s_rc (fun _ _ eo er => ?_)
      refine s_cI hK ho_n (cx_v (As := [.int y3]) (rest := []) hK dyX3_endsFlow rfl q1981 fcX3.1 q1983 qs53 q80 q1984 eo er (ct_X3_endsFlow hK.1 x1 y3 h4) (Nat.le_trans (Nat.le_of_ble_eq_true rfl) hf) (Nat.le_trans (Nat.le_of_ble_eq_true rfl) hlo) rk_n (Nat.le_of_ble_eq_true rfl) dX3_ahead_35 rfl) (fun v8 h7 => ?_)
      refine s_if_ne (tgt := 45) hK dX3_ahead_38 (by decide) (fun c9 => ?_) (fun c9 => ?_)
      · refine s_iconst (v := (-1)) hK dX3_ahead_45 rfl ?_
        exact s_iret hK dX3_ahead_46
      · refine s_iload_n hK dX3_ahead_41 rfl 0 rfl ?_
        refine s_goto (tgt := 46) hK dX3_ahead_42 (by decide) ?_
        exact s_iret hK dX3_ahead_46
theorem sm_X3_ahead {G : GC} {K : SC} (hK : SOK G K RX3 cX3_ahead 3 (some (.int)) "ahead" []) (hf : FR_X3_ahead ≤ (kR K).frames) (hlo : LO_X3_ahead ≤ (kR K).locals) (p0 : Option Nat) (p1 : Int32) (h : AH) : Sim G K 3 (f_X3_ahead p0 p1 h) h 0 [(0, va_rf p0), (1, .int p1)] [] := by
  unfold f_X3_ahead
  refine s_iload_n hK dX3_ahead_0 rfl 1 rfl ?_
  refine s_if_le (tgt := 15) hK dX3_ahead_1 (by decide) (fun c14 => ?_) (fun c14 => ?_)
  · refine s_iconst (v := (-1)) hK dX3_ahead_15 rfl ?_
    exact sm_X3_ahead_J16 hK hf hlo p0 p1 (-1) h
  · refine s_aload_n hK dX3_ahead_4 rfl 0 rfl ?_
    refine s_gA hK fcX3 17 (Nat.le_of_ble_eq_true rfl) (Or.inl q1701) (Or.inl rfl) dX3_ahead_5 (fun v12 => ?_)
    refine s_iload_n hK dX3_ahead_8 rfl 1 rfl ?_
    refine s_iconst (v := 1) hK dX3_ahead_9 rfl ?_
    refine s_isub hK dX3_ahead_10 ?_
    refine s_iald hK dX3_ahead_11 (fun v13 => ?_)
    refine s_goto (tgt := 16) hK dX3_ahead_12 (by decide) ?_
    exact sm_X3_ahead_J16 hK hf hlo p0 p1 v13 h
theorem ct_X3_ahead {G : GC} {l : Launch} (g : GOK G l) (p0 : Option Nat) (p1 : Int32) (h : AH) : CT G l yX3_ahead (Cond.code yX3_ahead cX3_ahead 3 (some (.int))) 3 58 [va_rf p0, .int p1] (f_X3_ahead p0 p1 h) h :=
  CT.of g (by decide) (by simp only [ls_a, ls_i, ls_l, ls_n]; decide) (fun K _ hK hf hlo => by simp only [la_a, la_i, la_l, la_n]; exact sm_X3_ahead hK hf hlo p0 p1 h)
abbrev FR_X3_sets : Nat := 2
abbrev LO_X3_sets : Nat := 37
theorem dyX3_sets : DY yX3_sets 2 := ⟨⟨by decide, by decide⟩, by decide +kernel⟩
theorem sm_X3_sets_J34 {G : GC} {K : SC} (hK : SOK G K RX3 cX3_sets 4 (some (.boolean)) "sets" []) (hf : FR_X3_sets ≤ (kR K).frames) (hlo : LO_X3_sets ≤ (kR K).locals) (x3 : Option Nat) (x4 : Int32) (x5 : Int32)  (h6 : AH) : Sim G K 4 (f_X3_sets_J34 x3 x4 x5 h6) h6 34 [(0, va_rf x3), (1, .int x4), (2, .int x5)] [] := by
  unfold f_X3_sets_J34
  refine s_aload_n hK dX3_sets_34 rfl 0 rfl ?_
  refine s_iload_n hK dX3_sets_35 rfl 1 rfl ?_
  refine s_rc (fun _ _ eo er => ?_)
  refine s_cI hK ho_n (cx_v (As := [.int x4]) (rest := []) hK dyX3_first rfl q1937 fcX3.1 q1939 qs43 q80 q1940 eo er (ct_X3_first hK.1 x3 x4 h6) (Nat.le_trans (Nat.le_of_ble_eq_true rfl) hf) (Nat.le_trans (Nat.le_of_ble_eq_true rfl) hlo) rk_n (Nat.le_of_ble_eq_true rfl) dX3_sets_36 rfl) (fun v8 h7 => ?_)
  refine s_iload_n hK dX3_sets_39 rfl 2 rfl ?_
  refine s_icmp_ne (tgt := 47) hK dX3_sets_40 (by decide) (fun c9 => ?_) (fun c9 => ?_)
  · refine s_iconst (v := 0) hK dX3_sets_47 rfl ?_
    exact s_zret hK dX3_sets_48
  · refine s_iconst (v := 1) hK dX3_sets_43 rfl ?_
    refine s_goto (tgt := 48) hK dX3_sets_44 (by decide) ?_
    exact s_zret hK dX3_sets_48
theorem sm_X3_sets {G : GC} {K : SC} (hK : SOK G K RX3 cX3_sets 4 (some (.boolean)) "sets" []) (hf : FR_X3_sets ≤ (kR K).frames) (hlo : LO_X3_sets ≤ (kR K).locals) (p0 : Option Nat) (p1 : Int32) (p2 : Int32) (h : AH) : Sim G K 4 (f_X3_sets p0 p1 p2 h) h 0 [(0, va_rf p0), (1, .int p1), (2, .int p2)] [] := by
  unfold f_X3_sets
  refine s_aload_n hK dX3_sets_0 rfl 0 rfl ?_
  refine s_iload_n hK dX3_sets_1 rfl 1 rfl ?_
  refine s_rc (fun _ _ eo er => ?_)
  refine s_cI hK ho_n (cx_v (As := [.int p1]) (rest := []) hK dyX3_sort rfl q1914 fcX3.1 q1916 qs39 q80 q1917 eo er (ct_X3_sort hK.1 p0 p1 h) (Nat.le_trans (Nat.le_of_ble_eq_true rfl) hf) (Nat.le_trans (Nat.le_of_ble_eq_true rfl) hlo) rk_n (Nat.le_of_ble_eq_true rfl) dX3_sets_2 rfl) (fun v2 h1 => ?_)
  refine s_istore_n (lv' := [(3, .int v2), (0, va_rf p0), (1, .int p1), (2, .int p2)]) hK dX3_sets_5 rfl (Nat.le_of_ble_eq_true rfl) rfl ?_
  refine s_iload_n hK dX3_sets_6 rfl 0 rfl ?_
  refine s_iconst (v := 1) hK dX3_sets_7 rfl ?_
  refine s_icmp_eq (tgt := 34) hK dX3_sets_8 (by decide) (fun c14 => ?_) (fun c14 => ?_)
  · refine s_sub [1, 2, 3] rfl ?_
    exact sm_X3_sets_J34 hK hf hlo p0 p1 p2 h1
  · refine s_iload_n hK dX3_sets_11 rfl 0 rfl ?_
    refine s_iconst (v := 2) hK dX3_sets_12 rfl ?_
    refine s_icmp_eq (tgt := 34) hK dX3_sets_13 (by decide) (fun c13 => ?_) (fun c13 => ?_)
    · refine s_sub [1, 2, 3] rfl ?_
      exact sm_X3_sets_J34 hK hf hlo p0 p1 p2 h1
    · refine s_iload_n hK dX3_sets_16 rfl 0 rfl ?_
      refine s_bipush (v := 10) hK dX3_sets_17 rfl ?_
      refine s_icmp_eq (tgt := 34) hK dX3_sets_19 (by decide) (fun c12 => ?_) (fun c12 => ?_)
      · refine s_sub [1, 2, 3] rfl ?_
        exact sm_X3_sets_J34 hK hf hlo p0 p1 p2 h1
      · refine s_iload_n hK dX3_sets_22 rfl 0 rfl ?_
        refine s_bipush (v := 11) hK dX3_sets_23 rfl ?_
        refine s_icmp_eq (tgt := 34) hK dX3_sets_25 (by decide) (fun c11 => ?_) (fun c11 => ?_)
        · refine s_sub [1, 2, 3] rfl ?_
          exact sm_X3_sets_J34 hK hf hlo p0 p1 p2 h1
        · refine s_iload_n hK dX3_sets_28 rfl 0 rfl ?_
          refine s_bipush (v := 12) hK dX3_sets_29 rfl ?_
          refine s_icmp_ne (tgt := 47) hK dX3_sets_31 (by decide) (fun c10 => ?_) (fun c10 => ?_)
          · refine s_iconst (v := 0) hK dX3_sets_47 rfl ?_
            exact s_zret hK dX3_sets_48
          · refine s_sub [1, 2, 3] rfl ?_
            exact sm_X3_sets_J34 hK hf hlo p0 p1 p2 h1
theorem ct_X3_sets {G : GC} {l : Launch} (g : GOK G l) (p0 : Option Nat) (p1 : Int32) (p2 : Int32) (h : AH) : CT G l yX3_sets (Cond.code yX3_sets cX3_sets 4 (some (.boolean))) 2 37 [va_rf p0, .int p1, .int p2] (f_X3_sets p0 p1 p2 h) h :=
  CT.of g (by decide) (by simp only [ls_a, ls_i, ls_l, ls_n]; decide) (fun K _ hK hf hlo => by simp only [la_a, la_i, la_l, la_n]; exact sm_X3_sets hK hf hlo p0 p1 p2 h)
abbrev FR_X3_boundOf : Nat := 4
abbrev LO_X3_boundOf : Nat := 80
theorem dyX3_boundOf : DY yX3_boundOf 1 := ⟨⟨by decide, by decide⟩, by decide +kernel⟩
theorem sm_X3_boundOf_J145 {G : GC} {K : SC} (hK : SOK G K RX3 cX3_boundOf 6 (some (.int)) "boundOf" []) (hf : FR_X3_boundOf ≤ (kR K).frames) (hlo : LO_X3_boundOf ≤ (kR K).locals) {rc : Option Nat → Int32 → Int32 → Int32 → AH → RS} (hrc : ∀ (y0 : Option Nat) (y1 : Int32) (y2 : Int32) (y3 : Int32) (h : AH), Sim G K 6 (rc y0 y1 y2 y3 h) h 16 [(0, va_rf y0), (2, .int y1), (3, .int y2), (4, .int y3)] []) {k162 : AH → RS} (hk162 : ∀  (h : AH), Sim G K 6 (k162  h) h 162 [] []) (x27 : Option Nat) (x28 : Int32) (x29 : Int32) (x30 : Int32)  (h31 : AH) : Sim G K 6 (f_X3_boundOf_J145 rc k162 x27 x28 x29 x30 h31) h31 145 [(0, va_rf x27), (2, .int x28), (3, .int x29), (4, .int x30)] [] := by
  unfold f_X3_boundOf_J145
  refine s_aload_n hK dX3_boundOf_145 rfl 0 rfl ?_
  refine s_iload_n hK dX3_boundOf_146 rfl 2 rfl ?_
  refine s_iload_n hK dX3_boundOf_147 rfl 1 rfl ?_
  refine s_rc (fun _ _ eo er => ?_)
  refine s_cI hK ho_n (cx_v (As := [.int x29, .int x28]) (rest := []) hK dyX3_sets rfl q1985 fcX3.1 q1987 qs54 q80 q1988 eo er (ct_X3_sets hK.1 x27 x29 x28 h31) (Nat.le_trans (Nat.le_of_ble_eq_true rfl) hf) (Nat.le_trans (Nat.le_of_ble_eq_true rfl) hlo) rk_n (Nat.le_of_ble_eq_true rfl) dX3_boundOf_148 rfl) (fun v33 h32 => ?_)
  refine s_if_eq (tgt := 156) hK dX3_boundOf_151 (by decide) (fun c34 => ?_) (fun c34 => ?_)
  · refine s_iinc (j := 3) (v := 1) (lv' := [(4, .int (x30 + 1)), (0, va_rf x27), (2, .int x28), (3, .int x29)]) hK dX3_boundOf_156 rfl rfl (Nat.le_of_ble_eq_true rfl) rfl ?_
    refine s_goto (tgt := 16) hK dX3_boundOf_159 (by decide) ?_
    refine s_sub [1, 2, 3, 0] rfl ?_
    exact hrc x27 x28 x29 (x30 + 1) h32
  · refine s_iconst (v := (-1)) hK dX3_boundOf_154 rfl ?_
    exact s_iret hK dX3_boundOf_155
theorem sm_X3_boundOf_J96 {G : GC} {K : SC} (hK : SOK G K RX3 cX3_boundOf 6 (some (.int)) "boundOf" []) (hf : FR_X3_boundOf ≤ (kR K).frames) (hlo : LO_X3_boundOf ≤ (kR K).locals) {rc : Option Nat → Int32 → Int32 → Int32 → AH → RS} (hrc : ∀ (y0 : Option Nat) (y1 : Int32) (y2 : Int32) (y3 : Int32) (h : AH), Sim G K 6 (rc y0 y1 y2 y3 h) h 16 [(0, va_rf y0), (2, .int y1), (3, .int y2), (4, .int y3)] []) {k162 : AH → RS} (hk162 : ∀  (h : AH), Sim G K 6 (k162  h) h 162 [] []) (x20 : Option Nat) (x21 : Int32) (x22 : Int32) (x23 : Int32)  (h24 : AH) : Sim G K 6 (f_X3_boundOf_J96 rc k162 x20 x21 x22 x23 h24) h24 96 [(0, va_rf x20), (2, .int x21), (3, .int x22), (4, .int x23)] [] := by
  unfold f_X3_boundOf_J96
  refine s_aload_n hK dX3_boundOf_96 rfl 0 rfl ?_
  refine s_iload_n hK dX3_boundOf_97 rfl 2 rfl ?_
  refine s_rc (fun _ _ eo er => ?_)
  refine s_cI hK ho_n (cx_v (As := [.int x22]) (rest := []) hK dyX3_sort rfl q1914 fcX3.1 q1916 qs39 q80 q1917 eo er (ct_X3_sort hK.1 x20 x22 h24) (Nat.le_trans (Nat.le_of_ble_eq_true rfl) hf) (Nat.le_trans (Nat.le_of_ble_eq_true rfl) hlo) rk_n (Nat.le_of_ble_eq_true rfl) dX3_boundOf_98 rfl) (fun v26 h25 => ?_)
  refine s_bipush (v := 6) hK dX3_boundOf_101 rfl ?_
  refine s_icmp_ne (tgt := 145) hK dX3_boundOf_103 (by decide) (fun c46 => ?_) (fun c46 => ?_)
  · exact sm_X3_boundOf_J145 hK hf hlo hrc hk162 x20 x21 x22 x23 h25
  · refine s_aload_n hK dX3_boundOf_106 rfl 0 rfl ?_
    refine s_iload_n hK dX3_boundOf_107 rfl 2 rfl ?_
    refine s_rc (fun _ _ eo er => ?_)
    refine s_cI hK ho_n (cx_v (As := [.int x22]) (rest := []) hK dyX3_ahead rfl q1977 fcX3.1 q1979 qs52 q80 q1980 eo er (ct_X3_ahead hK.1 x20 x22 h25) (Nat.le_trans (Nat.le_of_ble_eq_true rfl) hf) (Nat.le_trans (Nat.le_of_ble_eq_true rfl) hlo) rk_n (Nat.le_of_ble_eq_true rfl) dX3_boundOf_108 rfl) (fun v36 h35 => ?_)
    refine s_istore (lv' := [(5, .int v36), (0, va_rf x20), (2, .int x21), (3, .int x22), (4, .int x23)]) hK dX3_boundOf_111 (Nat.le_of_ble_eq_true rfl) rfl ?_
    refine s_iload hK dX3_boundOf_113 0 rfl ?_
    refine s_if_lt (tgt := 145) hK dX3_boundOf_115 (by decide) (fun c45 => ?_) (fun c45 => ?_)
    · refine s_sub [1, 2, 3, 4] rfl ?_
      exact sm_X3_boundOf_J145 hK hf hlo hrc hk162 x20 x21 x22 x23 h35
    · refine s_aload_n hK dX3_boundOf_118 rfl 1 rfl ?_
      refine s_iload hK dX3_boundOf_119 0 rfl ?_
      refine s_rc (fun _ _ eo er => ?_)
      refine s_cI hK ho_n (cx_v (As := [.int v36]) (rest := []) hK dyX3_sort rfl q1914 fcX3.1 q1916 qs39 q80 q1917 eo er (ct_X3_sort hK.1 x20 v36 h35) (Nat.le_trans (Nat.le_of_ble_eq_true rfl) hf) (Nat.le_trans (Nat.le_of_ble_eq_true rfl) hlo) rk_n (Nat.le_of_ble_eq_true rfl) dX3_boundOf_121 rfl) (fun v38 h37 => ?_)
      refine s_iconst (v := 3) hK dX3_boundOf_124 rfl ?_
      refine s_icmp_ne (tgt := 145) hK dX3_boundOf_125 (by decide) (fun c44 => ?_) (fun c44 => ?_)
      · refine s_sub [1, 2, 3, 4] rfl ?_
        exact sm_X3_boundOf_J145 hK hf hlo hrc hk162 x20 x21 x22 x23 h37
      · refine s_aload_n hK dX3_boundOf_128 rfl 1 rfl ?_
        refine s_iload hK dX3_boundOf_129 0 rfl ?_
        refine s_rc (fun _ _ eo er => ?_)
        refine s_cI hK ho_n (cx_v (As := [.int v36]) (rest := []) hK dyX3_first rfl q1937 fcX3.1 q1939 qs43 q80 q1940 eo er (ct_X3_first hK.1 x20 v36 h37) (Nat.le_trans (Nat.le_of_ble_eq_true rfl) hf) (Nat.le_trans (Nat.le_of_ble_eq_true rfl) hlo) rk_n (Nat.le_of_ble_eq_true rfl) dX3_boundOf_131 rfl) (fun v40 h39 => ?_)
        refine s_iload_n hK dX3_boundOf_134 rfl 2 rfl ?_
        refine s_icmp_ne (tgt := 145) hK dX3_boundOf_135 (by decide) (fun c43 => ?_) (fun c43 => ?_)
        · refine s_sub [1, 2, 3, 4] rfl ?_
          exact sm_X3_boundOf_J145 hK hf hlo hrc hk162 x20 x21 x22 x23 h39
        · refine s_aload_n hK dX3_boundOf_138 rfl 1 rfl ?_
          refine s_iload hK dX3_boundOf_139 0 rfl ?_
          refine s_rc (fun _ _ eo er => ?_)
          refine s_cI hK ho_n (cx_v (As := [.int v36]) (rest := []) hK dyX3_operand rfl q1929 fcX3.1 q1931 qs42 q80 q1932 eo er (ct_X3_operand hK.1 x20 v36 h39) (Nat.le_trans (Nat.le_of_ble_eq_true rfl) hf) (Nat.le_trans (Nat.le_of_ble_eq_true rfl) hlo) rk_n (Nat.le_of_ble_eq_true rfl) dX3_boundOf_141 rfl) (fun v42 h41 => ?_)
          exact s_iret hK dX3_boundOf_144
theorem sm_X3_boundOf_J62 {G : GC} {K : SC} (hK : SOK G K RX3 cX3_boundOf 6 (some (.int)) "boundOf" []) (hf : FR_X3_boundOf ≤ (kR K).frames) (hlo : LO_X3_boundOf ≤ (kR K).locals) {rc : Option Nat → Int32 → Int32 → Int32 → AH → RS} (hrc : ∀ (y0 : Option Nat) (y1 : Int32) (y2 : Int32) (y3 : Int32) (h : AH), Sim G K 6 (rc y0 y1 y2 y3 h) h 16 [(0, va_rf y0), (2, .int y1), (3, .int y2), (4, .int y3)] []) {k162 : AH → RS} (hk162 : ∀  (h : AH), Sim G K 6 (k162  h) h 162 [] []) (x13 : Option Nat) (x14 : Int32) (x15 : Int32) (x16 : Int32)  (h17 : AH) : Sim G K 6 (f_X3_boundOf_J62 rc k162 x13 x14 x15 x16 h17) h17 62 [(0, va_rf x13), (2, .int x14), (3, .int x15), (4, .int x16)] [] := by
  unfold f_X3_boundOf_J62
  refine s_aload_n hK dX3_boundOf_62 rfl 0 rfl ?_
  refine s_iload_n hK dX3_boundOf_63 rfl 2 rfl ?_
  refine s_rc (fun _ _ eo er => ?_)
  refine s_cI hK ho_n (cx_v (As := [.int x15]) (rest := []) hK dyX3_sort rfl q1914 fcX3.1 q1916 qs39 q80 q1917 eo er (ct_X3_sort hK.1 x13 x15 h17) (Nat.le_trans (Nat.le_of_ble_eq_true rfl) hf) (Nat.le_trans (Nat.le_of_ble_eq_true rfl) hlo) rk_n (Nat.le_of_ble_eq_true rfl) dX3_boundOf_64 rfl) (fun v19 h18 => ?_)
  refine s_iconst (v := 1) hK dX3_boundOf_67 rfl ?_
  refine s_icmp_ne (tgt := 96) hK dX3_boundOf_68 (by decide) (fun c54 => ?_) (fun c54 => ?_)
  · exact sm_X3_boundOf_J96 hK hf hlo hrc hk162 x13 x14 x15 x16 h18
  · refine s_aload_n hK dX3_boundOf_71 rfl 0 rfl ?_
    refine s_iload_n hK dX3_boundOf_72 rfl 2 rfl ?_
    refine s_rc (fun _ _ eo er => ?_)
    refine s_cI hK ho_n (cx_v (As := [.int x15]) (rest := []) hK dyX3_first rfl q1937 fcX3.1 q1939 qs43 q80 q1940 eo er (ct_X3_first hK.1 x13 x15 h18) (Nat.le_trans (Nat.le_of_ble_eq_true rfl) hf) (Nat.le_trans (Nat.le_of_ble_eq_true rfl) hlo) rk_n (Nat.le_of_ble_eq_true rfl) dX3_boundOf_73 rfl) (fun v48 h47 => ?_)
    refine s_iload_n hK dX3_boundOf_76 rfl 1 rfl ?_
    refine s_icmp_ne (tgt := 96) hK dX3_boundOf_77 (by decide) (fun c53 => ?_) (fun c53 => ?_)
    · exact sm_X3_boundOf_J96 hK hf hlo hrc hk162 x13 x14 x15 x16 h47
    · refine s_aload_n hK dX3_boundOf_80 rfl 0 rfl ?_
      refine s_aload_n hK dX3_boundOf_81 rfl 0 rfl ?_
      refine s_iload_n hK dX3_boundOf_82 rfl 2 rfl ?_
      refine s_rc (fun _ _ eo er => ?_)
      refine s_cI hK ho_n (cx_v (As := [.int x15]) (rest := [va_rf x13]) hK dyX3_operand rfl q1929 fcX3.1 q1931 qs42 q80 q1932 eo er (ct_X3_operand hK.1 x13 x15 h47) (Nat.le_trans (Nat.le_of_ble_eq_true rfl) hf) (Nat.le_trans (Nat.le_of_ble_eq_true rfl) hlo) (rk_a rk_n) (Nat.le_of_ble_eq_true rfl) dX3_boundOf_83 rfl) (fun v50 h49 => ?_)
      refine s_pF hK fcX3 43 (Nat.le_of_ble_eq_true rfl) (Or.inl q1727) (Or.inl rfl) (Or.inl rfl) rfl rfl dX3_boundOf_86 (fun h51 => ?_)
      refine s_aload_n hK dX3_boundOf_89 rfl 0 rfl ?_
      refine s_gI hK fcX3 43 (Nat.le_of_ble_eq_true rfl) (Or.inl q1727) (Or.inl rfl) dX3_boundOf_90 (fun v52 => ?_)
      refine s_iconst (v := 1) hK dX3_boundOf_93 rfl ?_
      refine s_iadd hK dX3_boundOf_94 ?_
      exact s_iret hK dX3_boundOf_95
theorem sm_X3_boundOf_L16 {G : GC} {K : SC} (hK : SOK G K RX3 cX3_boundOf 6 (some (.int)) "boundOf" []) (hf : FR_X3_boundOf ≤ (kR K).frames) (hlo : LO_X3_boundOf ≤ (kR K).locals) {k162 : AH → RS} (hk162 : ∀  (h : AH), Sim G K 6 (k162  h) h 162 [] []) : ∀ (n : Nat) (x4 : Option Nat) (x5 : Int32) (x6 : Int32) (x7 : Int32) (h8 : AH), Sim G K 6 (f_X3_boundOf_L16 k162 n x4 x5 x6 x7 h8) h8 16 [(0, va_rf x4), (2, .int x5), (3, .int x6), (4, .int x7)] [] := by
  intro n
  induction n with
  | zero => intro x4 x5 x6 x7 h8; exact s_none
  | succ n ih =>
    intro x4 x5 x6 x7 h8
    rw [f_X3_boundOf_L16]
    refine s_iload hK dX3_boundOf_16 3 rfl ?_
    refine s_bipush (v := 6) hK dX3_boundOf_18 rfl ?_
    refine s_icmp_ge (tgt := 162) hK dX3_boundOf_20 (by decide) (fun c62 => ?_) (fun c62 => ?_)
    · refine s_sub [] rfl ?_
      exact hk162  h8
    · refine s_aload_n hK dX3_boundOf_23 rfl 0 rfl ?_
      refine s_iload_n hK dX3_boundOf_24 rfl 2 rfl ?_
      refine s_rc (fun _ _ eo er => ?_)
      refine s_cI hK ho_n (cx_v (As := [.int x6]) (rest := []) hK dyX3_ahead rfl q1977 fcX3.1 q1979 qs52 q80 q1980 eo er (ct_X3_ahead hK.1 x4 x6 h8) (Nat.le_trans (Nat.le_of_ble_eq_true rfl) hf) (Nat.le_trans (Nat.le_of_ble_eq_true rfl) hlo) rk_n (Nat.le_of_ble_eq_true rfl) dX3_boundOf_25 rfl) (fun v10 h9 => ?_)
      refine s_istore_n (lv' := [(3, .int v10), (0, va_rf x4), (2, .int x5), (4, .int x7)]) hK dX3_boundOf_28 rfl (Nat.le_of_ble_eq_true rfl) rfl ?_
      refine s_iload_n hK dX3_boundOf_29 rfl 0 rfl ?_
      refine s_if_ge (tgt := 35) hK dX3_boundOf_30 (by decide) (fun c61 => ?_) (fun c61 => ?_)
      · refine s_aload_n hK dX3_boundOf_35 rfl 1 rfl ?_
        refine s_iload_n hK dX3_boundOf_36 rfl 0 rfl ?_
        refine s_rc (fun _ _ eo er => ?_)
        refine s_cI hK ho_n (cx_v (As := [.int v10]) (rest := []) hK dyX3_sort rfl q1914 fcX3.1 q1916 qs39 q80 q1917 eo er (ct_X3_sort hK.1 x4 v10 h9) (Nat.le_trans (Nat.le_of_ble_eq_true rfl) hf) (Nat.le_trans (Nat.le_of_ble_eq_true rfl) hlo) rk_n (Nat.le_of_ble_eq_true rfl) dX3_boundOf_37 rfl) (fun v12 h11 => ?_)
        refine s_bipush (v := 12) hK dX3_boundOf_40 rfl ?_
        refine s_icmp_ne (tgt := 62) hK dX3_boundOf_42 (by decide) (fun c60 => ?_) (fun c60 => ?_)
        · refine s_sub [1, 2, 0, 3] rfl ?_
          exact sm_X3_boundOf_J62 hK hf hlo ih hk162 x4 x5 v10 x7 h11
        · refine s_aload_n hK dX3_boundOf_45 rfl 1 rfl ?_
          refine s_iload_n hK dX3_boundOf_46 rfl 0 rfl ?_
          refine s_rc (fun _ _ eo er => ?_)
          refine s_cI hK ho_n (cx_v (As := [.int v10]) (rest := []) hK dyX3_first rfl q1937 fcX3.1 q1939 qs43 q80 q1940 eo er (ct_X3_first hK.1 x4 v10 h11) (Nat.le_trans (Nat.le_of_ble_eq_true rfl) hf) (Nat.le_trans (Nat.le_of_ble_eq_true rfl) hlo) rk_n (Nat.le_of_ble_eq_true rfl) dX3_boundOf_47 rfl) (fun v56 h55 => ?_)
          refine s_iload_n hK dX3_boundOf_50 rfl 2 rfl ?_
          refine s_icmp_ne (tgt := 62) hK dX3_boundOf_51 (by decide) (fun c59 => ?_) (fun c59 => ?_)
          · refine s_sub [1, 2, 0, 3] rfl ?_
            exact sm_X3_boundOf_J62 hK hf hlo ih hk162 x4 x5 v10 x7 h55
          · refine s_aload_n hK dX3_boundOf_54 rfl 1 rfl ?_
            refine s_iload_n hK dX3_boundOf_55 rfl 0 rfl ?_
            refine s_rc (fun _ _ eo er => ?_)
            refine s_cI hK ho_n (cx_v (As := [.int v10]) (rest := []) hK dyX3_operand rfl q1929 fcX3.1 q1931 qs42 q80 q1932 eo er (ct_X3_operand hK.1 x4 v10 h55) (Nat.le_trans (Nat.le_of_ble_eq_true rfl) hf) (Nat.le_trans (Nat.le_of_ble_eq_true rfl) hlo) rk_n (Nat.le_of_ble_eq_true rfl) dX3_boundOf_56 rfl) (fun v58 h57 => ?_)
            refine s_iconst (v := 1) hK dX3_boundOf_59 rfl ?_
            refine s_iadd hK dX3_boundOf_60 ?_
            exact s_iret hK dX3_boundOf_61
      · refine s_iconst (v := (-1)) hK dX3_boundOf_33 rfl ?_
        exact s_iret hK dX3_boundOf_34
theorem sm_X3_boundOf {G : GC} {K : SC} (hK : SOK G K RX3 cX3_boundOf 6 (some (.int)) "boundOf" []) (hf : FR_X3_boundOf ≤ (kR K).frames) (hlo : LO_X3_boundOf ≤ (kR K).locals) (p0 : Option Nat) (p1 : Int32) (h : AH) : Sim G K 6 (f_X3_boundOf p0 p1 h) h 0 [(0, va_rf p0), (1, .int p1)] [] := by
  unfold f_X3_boundOf
  refine s_aload_n hK dX3_boundOf_0 rfl 0 rfl ?_
  refine s_iload_n hK dX3_boundOf_1 rfl 1 rfl ?_
  refine s_rc (fun _ _ eo er => ?_)
  refine s_cI hK ho_n (cx_v (As := [.int p1]) (rest := []) hK dyX3_first rfl q1937 fcX3.1 q1939 qs43 q80 q1940 eo er (ct_X3_first hK.1 p0 p1 h) (Nat.le_trans (Nat.le_of_ble_eq_true rfl) hf) (Nat.le_trans (Nat.le_of_ble_eq_true rfl) hlo) rk_n (Nat.le_of_ble_eq_true rfl) dX3_boundOf_2 rfl) (fun v2 h1 => ?_)
  refine s_istore_n (lv' := [(2, .int v2), (0, va_rf p0), (1, .int p1)]) hK dX3_boundOf_5 rfl (Nat.le_of_ble_eq_true rfl) rfl ?_
  refine s_iload_n hK dX3_boundOf_6 rfl 2 rfl ?_
  refine s_istore_n (lv' := [(3, .int p1), (2, .int v2), (0, va_rf p0), (1, .int p1)]) hK dX3_boundOf_7 rfl (Nat.le_of_ble_eq_true rfl) rfl ?_
  refine s_aload_n hK dX3_boundOf_8 rfl 2 rfl ?_
  refine s_iconst (v := (-1)) hK dX3_boundOf_9 rfl ?_
  refine s_pF hK fcX3 43 (Nat.le_of_ble_eq_true rfl) (Or.inl q1727) (Or.inl rfl) (Or.inl rfl) rfl rfl dX3_boundOf_10 (fun h3 => ?_)
  refine s_iconst (v := 0) hK dX3_boundOf_13 rfl ?_
  refine s_istore (lv' := [(4, .int 0), (3, .int p1), (2, .int v2), (0, va_rf p0), (1, .int p1)]) hK dX3_boundOf_14 (Nat.le_of_ble_eq_true rfl) rfl ?_
  refine s_sub [3, 2, 1, 0] rfl ?_
  refine sm_X3_boundOf_L16 hK hf hlo (fun h63 => ?_) FUEL p0 v2 p1 0 h3
  · refine s_iconst (v := (-1)) hK dX3_boundOf_162 rfl ?_
    exact s_iret hK dX3_boundOf_163
theorem ct_X3_boundOf {G : GC} {l : Launch} (g : GOK G l) (p0 : Option Nat) (p1 : Int32) (h : AH) : CT G l yX3_boundOf (Cond.code yX3_boundOf cX3_boundOf 6 (some (.int))) 4 80 [va_rf p0, .int p1] (f_X3_boundOf p0 p1 h) h :=
  CT.of g (by decide) (by simp only [ls_a, ls_i, ls_l, ls_n]; decide) (fun K _ hK hf hlo => by simp only [la_a, la_i, la_l, la_n]; exact sm_X3_boundOf hK hf hlo p0 p1 h)
abbrev FR_X3_entersTable : Nat := 3
abbrev LO_X3_entersTable : Nat := 59
theorem dyX3_entersTable : DY yX3_entersTable 1 := ⟨⟨by decide, by decide⟩, by decide +kernel⟩
theorem sm_X3_entersTable {G : GC} {K : SC} (hK : SOK G K RX3 cX3_entersTable 2 (none) "entersTable" []) (hf : FR_X3_entersTable ≤ (kR K).frames) (hlo : LO_X3_entersTable ≤ (kR K).locals) (p0 : Option Nat) (p1 : Int32) (h : AH) : Sim G K 2 (f_X3_entersTable p0 p1 h) h 0 [(0, va_rf p0), (1, .int p1)] [] := by
  unfold f_X3_entersTable
  refine s_aload_n hK dX3_entersTable_0 rfl 0 rfl ?_
  refine s_iload_n hK dX3_entersTable_1 rfl 1 rfl ?_
  refine s_rc (fun _ _ eo er => ?_)
  refine s_cI hK ho_n (cx_v (As := [.int p1]) (rest := []) hK dyX3_isAddress rfl q1870 fcX3.1 q1872 qs36 q80 q1873 eo er (ct_X3_isAddress hK.1 p0 p1 h) (Nat.le_trans (Nat.le_of_ble_eq_true rfl) hf) (Nat.le_trans (Nat.le_of_ble_eq_true rfl) hlo) rk_n (Nat.le_of_ble_eq_true rfl) dX3_entersTable_2 rfl) (fun v2 h1 => ?_)
  refine s_if_eq (tgt := 17) hK dX3_entersTable_5 (by decide) (fun c16 => ?_) (fun c16 => ?_)
  · exact s_vret hK dX3_entersTable_17
  · refine s_aload_n hK dX3_entersTable_8 rfl 0 rfl ?_
    refine s_gA hK fcX3 17 (Nat.le_of_ble_eq_true rfl) (Or.inl q1701) (Or.inl rfl) dX3_entersTable_9 (fun v3 => ?_)
    refine s_iload_n hK dX3_entersTable_12 rfl 1 rfl ?_
    refine s_iald hK dX3_entersTable_13 (fun v4 => ?_)
    refine s_if_lt (tgt := 18) hK dX3_entersTable_14 (by decide) (fun c15 => ?_) (fun c15 => ?_)
    · refine s_aload_n hK dX3_entersTable_18 rfl 0 rfl ?_
      refine s_gA hK fcX3 35 (Nat.le_of_ble_eq_true rfl) (Or.inl q1719) (Or.inl rfl) dX3_entersTable_19 (fun v5 => ?_)
      refine s_bipush (v := 16) hK dX3_entersTable_22 rfl ?_
      refine s_aload_n hK dX3_entersTable_24 rfl 0 rfl ?_
      refine s_gI hK fcX3 27 (Nat.le_of_ble_eq_true rfl) (Or.inl q1711) (Or.inl rfl) dX3_entersTable_25 (fun v6 => ?_)
      refine s_imul hK dX3_entersTable_28 ?_
      refine s_aload_n hK dX3_entersTable_29 rfl 0 rfl ?_
      refine s_gA hK fcX3 34 (Nat.le_of_ble_eq_true rfl) (Or.inl q1718) (Or.inl rfl) dX3_entersTable_30 (fun v7 => ?_)
      refine s_aload_n hK dX3_entersTable_33 rfl 0 rfl ?_
      refine s_gI hK fcX3 27 (Nat.le_of_ble_eq_true rfl) (Or.inl q1711) (Or.inl rfl) dX3_entersTable_34 (fun v8 => ?_)
      refine s_iald hK dX3_entersTable_37 (fun v9 => ?_)
      refine s_iadd hK dX3_entersTable_38 ?_
      refine s_iload_n hK dX3_entersTable_39 rfl 1 rfl ?_
      refine s_iast hK dX3_entersTable_40 (fun h10 => ?_)
      refine s_aload_n hK dX3_entersTable_41 rfl 0 rfl ?_
      refine s_gA hK fcX3 34 (Nat.le_of_ble_eq_true rfl) (Or.inl q1718) (Or.inl rfl) dX3_entersTable_42 (fun v11 => ?_)
      refine s_aload_n hK dX3_entersTable_45 rfl 0 rfl ?_
      refine s_gI hK fcX3 27 (Nat.le_of_ble_eq_true rfl) (Or.inl q1711) (Or.inl rfl) dX3_entersTable_46 (fun v12 => ?_)
      refine s_dup2 hK dX3_entersTable_49 rfl (va_cat _) ?_
      refine s_iald hK dX3_entersTable_50 (fun v13 => ?_)
      refine s_iconst (v := 1) hK dX3_entersTable_51 rfl ?_
      refine s_iadd hK dX3_entersTable_52 ?_
      refine s_iast hK dX3_entersTable_53 (fun h14 => ?_)
      exact s_vret hK dX3_entersTable_54
    · exact s_vret hK dX3_entersTable_17
theorem ct_X3_entersTable {G : GC} {l : Launch} (g : GOK G l) (p0 : Option Nat) (p1 : Int32) (h : AH) : CT G l yX3_entersTable (Cond.code yX3_entersTable cX3_entersTable 2 (none)) 3 59 [va_rf p0, .int p1] (f_X3_entersTable p0 p1 h) h :=
  CT.of g (by decide) (by simp only [ls_a, ls_i, ls_l, ls_n]; decide) (fun K _ hK hf hlo => by simp only [la_a, la_i, la_l, la_n]; exact sm_X3_entersTable hK hf hlo p0 p1 h)
abbrev FR_X3_tabulates : Nat := 5
abbrev LO_X3_tabulates : Nat := 105
theorem dyX3_tabulates : DY yX3_tabulates 1 := ⟨⟨by decide, by decide⟩, by decide +kernel⟩
theorem sm_X3_tabulates_L156 {G : GC} {K : SC} (hK : SOK G K RX3 cX3_tabulates 6 (none) "tabulates" []) (hf : FR_X3_tabulates ≤ (kR K).frames) (hlo : LO_X3_tabulates ≤ (kR K).locals) {k184 : Option Nat → AH → RS} (hk184 : ∀ (y0 : Option Nat) (h : AH), Sim G K 6 (k184 y0 h) h 184 [(0, va_rf y0)] []) : ∀ (n : Nat) (x25 : Option Nat) (x26 : Int32) (x27 : Int32) (h28 : AH), Sim G K 6 (f_X3_tabulates_L156 k184 n x25 x26 x27 h28) h28 156 [(0, va_rf x25), (2, .int x26), (4, .int x27)] [] := by
  intro n
  induction n with
  | zero => intro x25 x26 x27 h28; exact s_none
  | succ n ih =>
    intro x25 x26 x27 h28
    rw [f_X3_tabulates_L156]
    refine s_iload hK dX3_tabulates_156 2 rfl ?_
    refine s_aload_n hK dX3_tabulates_158 rfl 0 rfl ?_
    refine s_gA hK fcX3 33 (Nat.le_of_ble_eq_true rfl) (Or.inl q1717) (Or.inl rfl) dX3_tabulates_159 (fun v29 => ?_)
    refine s_aload_n hK dX3_tabulates_162 rfl 0 rfl ?_
    refine s_gI hK fcX3 27 (Nat.le_of_ble_eq_true rfl) (Or.inl q1711) (Or.inl rfl) dX3_tabulates_163 (fun v30 => ?_)
    refine s_iald hK dX3_tabulates_166 (fun v31 => ?_)
    refine s_icmp_ge (tgt := 184) hK dX3_tabulates_167 (by decide) (fun c33 => ?_) (fun c33 => ?_)
    · refine s_sub [0] rfl ?_
      exact hk184 x25 h28
    · refine s_aload_n hK dX3_tabulates_170 rfl 0 rfl ?_
      refine s_iload_n hK dX3_tabulates_171 rfl 1 rfl ?_
      refine s_iload hK dX3_tabulates_172 2 rfl ?_
      refine s_iadd hK dX3_tabulates_174 ?_
      refine s_rc (fun _ _ eo er => ?_)
      refine s_cV hK ho_n (cx_v (As := [.int (x26 + x27)]) (rest := []) hK dyX3_entersTable rfl q1989 fcX3.1 q1991 qs55 q80 q1992 eo er (ct_X3_entersTable hK.1 x25 (x26 + x27) h28) (Nat.le_trans (Nat.le_of_ble_eq_true rfl) hf) (Nat.le_trans (Nat.le_of_ble_eq_true rfl) hlo) rk_n (Nat.le_of_ble_eq_true rfl) dX3_tabulates_175 rfl) (fun h32 => ?_)
      refine s_iinc (j := 2) (v := 1) (lv' := [(4, .int (x27 + 1)), (0, va_rf x25), (2, .int x26)]) hK dX3_tabulates_178 rfl rfl (Nat.le_of_ble_eq_true rfl) rfl ?_
      refine s_goto (tgt := 156) hK dX3_tabulates_181 (by decide) ?_
      refine s_sub [1, 2, 0] rfl ?_
      exact ih x25 x26 (x27 + 1) h32
theorem sm_X3_tabulates_L187 {G : GC} {K : SC} (hK : SOK G K RX3 cX3_tabulates 6 (none) "tabulates" []) (hf : FR_X3_tabulates ≤ (kR K).frames) (hlo : LO_X3_tabulates ≤ (kR K).locals) {k243 : Option Nat → AH → RS} (hk243 : ∀ (y0 : Option Nat) (h : AH), Sim G K 6 (k243 y0 h) h 243 [(0, va_rf y0)] []) : ∀ (n : Nat) (x38 : Option Nat) (x39 : Int32) (h40 : AH), Sim G K 6 (f_X3_tabulates_L187 k243 n x38 x39 h40) h40 187 [(0, va_rf x38), (4, .int x39)] [] := by
  intro n
  induction n with
  | zero => intro x38 x39 h40; exact s_none
  | succ n ih =>
    intro x38 x39 h40
    rw [f_X3_tabulates_L187]
    refine s_iload hK dX3_tabulates_187 1 rfl ?_
    refine s_aload_n hK dX3_tabulates_189 rfl 0 rfl ?_
    refine s_gA hK fcX3 34 (Nat.le_of_ble_eq_true rfl) (Or.inl q1718) (Or.inl rfl) dX3_tabulates_190 (fun v41 => ?_)
    refine s_aload_n hK dX3_tabulates_193 rfl 0 rfl ?_
    refine s_gI hK fcX3 27 (Nat.le_of_ble_eq_true rfl) (Or.inl q1711) (Or.inl rfl) dX3_tabulates_194 (fun v42 => ?_)
    refine s_iald hK dX3_tabulates_197 (fun v43 => ?_)
    refine s_icmp_ge (tgt := 243) hK dX3_tabulates_198 (by decide) (fun c52 => ?_) (fun c52 => ?_)
    · refine s_sub [0] rfl ?_
      exact hk243 x38 h40
    · refine s_aload_n hK dX3_tabulates_201 rfl 0 rfl ?_
      refine s_gA hK fcX3 35 (Nat.le_of_ble_eq_true rfl) (Or.inl q1719) (Or.inl rfl) dX3_tabulates_202 (fun v44 => ?_)
      refine s_bipush (v := 16) hK dX3_tabulates_205 rfl ?_
      refine s_aload_n hK dX3_tabulates_207 rfl 0 rfl ?_
      refine s_gI hK fcX3 27 (Nat.le_of_ble_eq_true rfl) (Or.inl q1711) (Or.inl rfl) dX3_tabulates_208 (fun v45 => ?_)
      refine s_imul hK dX3_tabulates_211 ?_
      refine s_iload hK dX3_tabulates_212 1 rfl ?_
      refine s_iadd hK dX3_tabulates_214 ?_
      refine s_iald hK dX3_tabulates_215 (fun v46 => ?_)
      refine s_istore (lv' := [(5, .int v46), (0, va_rf x38), (4, .int x39)]) hK dX3_tabulates_216 (Nat.le_of_ble_eq_true rfl) rfl ?_
      refine s_aload_n hK dX3_tabulates_218 rfl 1 rfl ?_
      refine s_gA hK fcX3 20 (Nat.le_of_ble_eq_true rfl) (Or.inl q1704) (Or.inl rfl) dX3_tabulates_219 (fun v47 => ?_)
      refine s_iload hK dX3_tabulates_222 0 rfl ?_
      refine s_iconst (v := 1) hK dX3_tabulates_224 rfl ?_
      refine s_zast hK dX3_tabulates_225 (fun h48 => ?_)
      refine s_aload_n hK dX3_tabulates_226 rfl 1 rfl ?_
      refine s_aload_n hK dX3_tabulates_227 rfl 1 rfl ?_
      refine s_gA hK fcX3 1 (Nat.le_of_ble_eq_true rfl) (Or.inl q1685) (Or.inl rfl) dX3_tabulates_228 (fun v49 => ?_)
      refine s_iload hK dX3_tabulates_231 0 rfl ?_
      refine s_iald hK dX3_tabulates_233 (fun v50 => ?_)
      refine s_rc (fun _ _ eo er => ?_)
      refine s_cV hK ho_n (cx_v (As := [.int v50]) (rest := []) hK dyX3_adds rfl q1945 fcX3.1 q1947 qs44 q80 q1948 eo er (ct_X3_adds hK.1 x38 v50 h48) (Nat.le_trans (Nat.le_of_ble_eq_true rfl) hf) (Nat.le_trans (Nat.le_of_ble_eq_true rfl) hlo) rk_n (Nat.le_of_ble_eq_true rfl) dX3_tabulates_234 rfl) (fun h51 => ?_)
      refine s_iinc (j := 2) (v := 1) (lv' := [(4, .int (x39 + 1)), (5, .int v46), (0, va_rf x38)]) hK dX3_tabulates_237 rfl rfl (Nat.le_of_ble_eq_true rfl) rfl ?_
      refine s_goto (tgt := 187) hK dX3_tabulates_240 (by decide) ?_
      refine s_sub [2, 0] rfl ?_
      exact ih x38 (x39 + 1) h51
theorem sm_X3_tabulates_J184 {G : GC} {K : SC} (hK : SOK G K RX3 cX3_tabulates 6 (none) "tabulates" []) (hf : FR_X3_tabulates ≤ (kR K).frames) (hlo : LO_X3_tabulates ≤ (kR K).locals) (x36 : Option Nat)  (h37 : AH) : Sim G K 6 (f_X3_tabulates_J184 x36 h37) h37 184 [(0, va_rf x36)] [] := by
  unfold f_X3_tabulates_J184
  refine s_iconst (v := 0) hK dX3_tabulates_184 rfl ?_
  refine s_istore (lv' := [(4, .int 0), (0, va_rf x36)]) hK dX3_tabulates_185 (Nat.le_of_ble_eq_true rfl) rfl ?_
  refine s_sub [1, 0] rfl ?_
  refine sm_X3_tabulates_L187 hK hf hlo (fun x53 h54 => ?_) FUEL x36 0 h37
  · refine s_aload_n hK dX3_tabulates_243 rfl 0 rfl ?_
    refine s_dup hK dX3_tabulates_244 (va_cat _) ?_
    refine s_gI hK fcX3 27 (Nat.le_of_ble_eq_true rfl) (Or.inl q1711) (Or.inl rfl) dX3_tabulates_245 (fun v55 => ?_)
    refine s_iconst (v := 1) hK dX3_tabulates_248 rfl ?_
    refine s_iadd hK dX3_tabulates_249 ?_
    refine s_pF hK fcX3 27 (Nat.le_of_ble_eq_true rfl) (Or.inl q1711) (Or.inl rfl) (Or.inl rfl) rfl rfl dX3_tabulates_250 (fun h56 => ?_)
    exact s_vret hK dX3_tabulates_253
theorem sm_X3_tabulates_L70 {G : GC} {K : SC} (hK : SOK G K RX3 cX3_tabulates 6 (none) "tabulates" []) (hf : FR_X3_tabulates ≤ (kR K).frames) (hlo : LO_X3_tabulates ≤ (kR K).locals) {k130 : Option Nat → AH → RS} (hk130 : ∀ (y0 : Option Nat) (h : AH), Sim G K 6 (k130 y0 h) h 130 [(0, va_rf y0)] []) : ∀ (n : Nat) (x60 : Option Nat) (x61 : Int32) (x62 : Int32) (h63 : AH), Sim G K 6 (f_X3_tabulates_L70 k130 n x60 x61 x62 h63) h63 70 [(0, va_rf x60), (2, .int x61), (4, .int x62)] [] := by
  intro n
  induction n with
  | zero => intro x60 x61 x62 h63; exact s_none
  | succ n ih =>
    intro x60 x61 x62 h63
    rw [f_X3_tabulates_L70]
    refine s_iload hK dX3_tabulates_70 2 rfl ?_
    refine s_bipush (v := 8) hK dX3_tabulates_72 rfl ?_
    refine s_icmp_ge (tgt := 130) hK dX3_tabulates_74 (by decide) (fun c76 => ?_) (fun c76 => ?_)
    · refine s_sub [0] rfl ?_
      exact hk130 x60 h63
    · refine s_aload_n hK dX3_tabulates_77 rfl 0 rfl ?_
      refine s_iload_n hK dX3_tabulates_78 rfl 1 rfl ?_
      refine s_iload hK dX3_tabulates_79 2 rfl ?_
      refine s_iadd hK dX3_tabulates_81 ?_
      refine s_rc (fun _ _ eo er => ?_)
      refine s_cI hK ho_n (cx_v (As := [.int (x61 + x62)]) (rest := []) hK dyX3_isAddress rfl q1870 fcX3.1 q1872 qs36 q80 q1873 eo er (ct_X3_isAddress hK.1 x60 (x61 + x62) h63) (Nat.le_trans (Nat.le_of_ble_eq_true rfl) hf) (Nat.le_trans (Nat.le_of_ble_eq_true rfl) hlo) rk_n (Nat.le_of_ble_eq_true rfl) dX3_tabulates_82 rfl) (fun v65 h64 => ?_)
      refine s_if_eq (tgt := 130) hK dX3_tabulates_85 (by decide) (fun c75 => ?_) (fun c75 => ?_)
      · refine s_sub [0] rfl ?_
        exact hk130 x60 h64
      · refine s_aload_n hK dX3_tabulates_88 rfl 0 rfl ?_
        refine s_gA hK fcX3 17 (Nat.le_of_ble_eq_true rfl) (Or.inl q1701) (Or.inl rfl) dX3_tabulates_89 (fun v66 => ?_)
        refine s_iload_n hK dX3_tabulates_92 rfl 1 rfl ?_
        refine s_iload hK dX3_tabulates_93 2 rfl ?_
        refine s_iadd hK dX3_tabulates_95 ?_
        refine s_iald hK dX3_tabulates_96 (fun v67 => ?_)
        refine s_if_ge (tgt := 130) hK dX3_tabulates_97 (by decide) (fun c74 => ?_) (fun c74 => ?_)
        · refine s_sub [0] rfl ?_
          exact hk130 x60 h64
        · refine s_aload_n hK dX3_tabulates_100 rfl 0 rfl ?_
          refine s_aload_n hK dX3_tabulates_101 rfl 0 rfl ?_
          refine s_gA hK fcX3 1 (Nat.le_of_ble_eq_true rfl) (Or.inl q1685) (Or.inl rfl) dX3_tabulates_102 (fun v68 => ?_)
          refine s_iload_n hK dX3_tabulates_105 rfl 1 rfl ?_
          refine s_iload hK dX3_tabulates_106 2 rfl ?_
          refine s_iadd hK dX3_tabulates_108 ?_
          refine s_iald hK dX3_tabulates_109 (fun v69 => ?_)
          refine s_rc (fun _ _ eo er => ?_)
          refine s_cI hK ho_n (cx_v (As := [.int v69]) (rest := []) hK dyX3_isSound rfl q1910 fcX3.1 q1912 qs38 q80 q1913 eo er (ct_X3_isSound hK.1 x60 v69 h64) (Nat.le_trans (Nat.le_of_ble_eq_true rfl) hf) (Nat.le_trans (Nat.le_of_ble_eq_true rfl) hlo) rk_n (Nat.le_of_ble_eq_true rfl) dX3_tabulates_110 rfl) (fun v71 h70 => ?_)
          refine s_if_eq (tgt := 130) hK dX3_tabulates_113 (by decide) (fun c73 => ?_) (fun c73 => ?_)
          · refine s_sub [0] rfl ?_
            exact hk130 x60 h70
          · refine s_aload_n hK dX3_tabulates_116 rfl 0 rfl ?_
            refine s_iload_n hK dX3_tabulates_117 rfl 1 rfl ?_
            refine s_iload hK dX3_tabulates_118 2 rfl ?_
            refine s_iadd hK dX3_tabulates_120 ?_
            refine s_rc (fun _ _ eo er => ?_)
            refine s_cV hK ho_n (cx_v (As := [.int (x61 + x62)]) (rest := []) hK dyX3_entersTable rfl q1989 fcX3.1 q1991 qs55 q80 q1992 eo er (ct_X3_entersTable hK.1 x60 (x61 + x62) h70) (Nat.le_trans (Nat.le_of_ble_eq_true rfl) hf) (Nat.le_trans (Nat.le_of_ble_eq_true rfl) hlo) rk_n (Nat.le_of_ble_eq_true rfl) dX3_tabulates_121 rfl) (fun h72 => ?_)
            refine s_iinc (j := 2) (v := 1) (lv' := [(4, .int (x62 + 1)), (0, va_rf x60), (2, .int x61)]) hK dX3_tabulates_124 rfl rfl (Nat.le_of_ble_eq_true rfl) rfl ?_
            refine s_goto (tgt := 70) hK dX3_tabulates_127 (by decide) ?_
            refine s_sub [1, 2, 0] rfl ?_
            exact ih x60 x61 (x62 + 1) h72
theorem sm_X3_tabulates_J130 {G : GC} {K : SC} (hK : SOK G K RX3 cX3_tabulates 6 (none) "tabulates" []) (hf : FR_X3_tabulates ≤ (kR K).frames) (hlo : LO_X3_tabulates ≤ (kR K).locals) (x79 : Option Nat)  (h80 : AH) : Sim G K 6 (f_X3_tabulates_J130 x79 h80) h80 130 [(0, va_rf x79)] [] := by
  unfold f_X3_tabulates_J130
  refine s_goto (tgt := 184) hK dX3_tabulates_130 (by decide) ?_
  exact sm_X3_tabulates_J184 hK hf hlo x79 h80
theorem sm_X3_tabulates_J52 {G : GC} {K : SC} (hK : SOK G K RX3 cX3_tabulates 6 (none) "tabulates" []) (hf : FR_X3_tabulates ≤ (kR K).frames) (hlo : LO_X3_tabulates ≤ (kR K).locals) (x13 : Option Nat) (x14 : Int32) (x15 : Int32) (y16 : Int32) (y17 : Int32) (y18 : Option Nat) (h19 : AH) : Sim G K 6 (f_X3_tabulates_J52 x13 x14 x15 y16 y17 y18 h19) h19 52 [(0, va_rf x13), (2, .int x14), (3, .int x15)] [.int y16, .int y17, va_rf y18] := by
  unfold f_X3_tabulates_J52
  refine s_iast hK dX3_tabulates_52 (fun h20 => ?_)
  refine s_aload_n hK dX3_tabulates_53 rfl 0 rfl ?_
  refine s_gA hK fcX3 34 (Nat.le_of_ble_eq_true rfl) (Or.inl q1718) (Or.inl rfl) dX3_tabulates_54 (fun v21 => ?_)
  refine s_aload_n hK dX3_tabulates_57 rfl 0 rfl ?_
  refine s_gI hK fcX3 27 (Nat.le_of_ble_eq_true rfl) (Or.inl q1711) (Or.inl rfl) dX3_tabulates_58 (fun v22 => ?_)
  refine s_iconst (v := 0) hK dX3_tabulates_61 rfl ?_
  refine s_iast hK dX3_tabulates_62 (fun h23 => ?_)
  refine s_iload_n hK dX3_tabulates_63 rfl 2 rfl ?_
  refine s_if_ge (tgt := 133) hK dX3_tabulates_64 (by decide) (fun c81 => ?_) (fun c81 => ?_)
  · refine s_aload_n hK dX3_tabulates_133 rfl 0 rfl ?_
    refine s_gI hK fcX3 43 (Nat.le_of_ble_eq_true rfl) (Or.inl q1727) (Or.inl rfl) dX3_tabulates_134 (fun v24 => ?_)
    refine s_if_lt (tgt := 153) hK dX3_tabulates_137 (by decide) (fun c59 => ?_) (fun c59 => ?_)
    · refine s_iconst (v := 0) hK dX3_tabulates_153 rfl ?_
      refine s_istore (lv' := [(4, .int 0), (0, va_rf x13), (2, .int x14), (3, .int x15)]) hK dX3_tabulates_154 (Nat.le_of_ble_eq_true rfl) rfl ?_
      refine s_sub [1, 2, 0] rfl ?_
      refine sm_X3_tabulates_L156 hK hf hlo (fun x34 h35 => ?_) FUEL x13 x14 0 h23
      · exact sm_X3_tabulates_J184 hK hf hlo x34 h35
    · refine s_aload_n hK dX3_tabulates_140 rfl 0 rfl ?_
      refine s_iload_n hK dX3_tabulates_141 rfl 1 rfl ?_
      refine s_aload_n hK dX3_tabulates_142 rfl 0 rfl ?_
      refine s_gI hK fcX3 43 (Nat.le_of_ble_eq_true rfl) (Or.inl q1727) (Or.inl rfl) dX3_tabulates_143 (fun v57 => ?_)
      refine s_iadd hK dX3_tabulates_146 ?_
      refine s_rc (fun _ _ eo er => ?_)
      refine s_cV hK ho_n (cx_v (As := [.int (x14 + v57)]) (rest := []) hK dyX3_entersTable rfl q1989 fcX3.1 q1991 qs55 q80 q1992 eo er (ct_X3_entersTable hK.1 x13 (x14 + v57) h23) (Nat.le_trans (Nat.le_of_ble_eq_true rfl) hf) (Nat.le_trans (Nat.le_of_ble_eq_true rfl) hlo) rk_n (Nat.le_of_ble_eq_true rfl) dX3_tabulates_147 rfl) (fun h58 => ?_)
      refine s_goto (tgt := 184) hK dX3_tabulates_150 (by decide) ?_
      refine s_sub [0] rfl ?_
      exact sm_X3_tabulates_J184 hK hf hlo x13 h58
  · refine s_iconst (v := 0) hK dX3_tabulates_67 rfl ?_
    refine s_istore (lv' := [(4, .int 0), (0, va_rf x13), (2, .int x14), (3, .int x15)]) hK dX3_tabulates_68 (Nat.le_of_ble_eq_true rfl) rfl ?_
    refine s_sub [1, 2, 0] rfl ?_
    refine sm_X3_tabulates_L70 hK hf hlo (fun x77 h78 => ?_) FUEL x13 x14 0 h23
    · exact sm_X3_tabulates_J130 hK hf hlo x77 h78
theorem sm_X3_tabulates {G : GC} {K : SC} (hK : SOK G K RX3 cX3_tabulates 6 (none) "tabulates" []) (hf : FR_X3_tabulates ≤ (kR K).frames) (hlo : LO_X3_tabulates ≤ (kR K).locals) (p0 : Option Nat) (p1 : Int32) (h : AH) : Sim G K 6 (f_X3_tabulates p0 p1 h) h 0 [(0, va_rf p0), (1, .int p1)] [] := by
  unfold f_X3_tabulates
  refine s_aload_n hK dX3_tabulates_0 rfl 0 rfl ?_
  refine s_iload_n hK dX3_tabulates_1 rfl 1 rfl ?_
  refine s_rc (fun _ _ eo er => ?_)
  refine s_cI hK ho_n (cx_v (As := [.int p1]) (rest := []) hK dyX3_operand rfl q1929 fcX3.1 q1931 qs42 q80 q1932 eo er (ct_X3_operand hK.1 p0 p1 h) (Nat.le_trans (Nat.le_of_ble_eq_true rfl) hf) (Nat.le_trans (Nat.le_of_ble_eq_true rfl) hlo) rk_n (Nat.le_of_ble_eq_true rfl) dX3_tabulates_2 rfl) (fun v2 h1 => ?_)
  refine s_istore_n (lv' := [(2, .int v2), (0, va_rf p0), (1, .int p1)]) hK dX3_tabulates_5 rfl (Nat.le_of_ble_eq_true rfl) rfl ?_
  refine s_aload_n hK dX3_tabulates_6 rfl 1 rfl ?_
  refine s_iload_n hK dX3_tabulates_7 rfl 2 rfl ?_
  refine s_rc (fun _ _ eo er => ?_)
  refine s_cI hK ho_n (cx_v (As := [.int p1]) (rest := []) hK dyX3_boundOf rfl q1973 fcX3.1 q1975 qs51 q80 q1976 eo er (ct_X3_boundOf hK.1 p0 p1 h1) (Nat.le_trans (Nat.le_of_ble_eq_true rfl) hf) (Nat.le_trans (Nat.le_of_ble_eq_true rfl) hlo) rk_n (Nat.le_of_ble_eq_true rfl) dX3_tabulates_8 rfl) (fun v4 h3 => ?_)
  refine s_istore_n (lv' := [(3, .int v4), (2, .int v2), (0, va_rf p0), (1, .int p1)]) hK dX3_tabulates_11 rfl (Nat.le_of_ble_eq_true rfl) rfl ?_
  refine s_aload_n hK dX3_tabulates_12 rfl 2 rfl ?_
  refine s_gA hK fcX3 31 (Nat.le_of_ble_eq_true rfl) (Or.inl q1715) (Or.inl rfl) dX3_tabulates_13 (fun v5 => ?_)
  refine s_aload_n hK dX3_tabulates_16 rfl 2 rfl ?_
  refine s_gI hK fcX3 27 (Nat.le_of_ble_eq_true rfl) (Or.inl q1711) (Or.inl rfl) dX3_tabulates_17 (fun v6 => ?_)
  refine s_iload_n hK dX3_tabulates_20 rfl 3 rfl ?_
  refine s_iast hK dX3_tabulates_21 (fun h7 => ?_)
  refine s_aload_n hK dX3_tabulates_22 rfl 2 rfl ?_
  refine s_gA hK fcX3 32 (Nat.le_of_ble_eq_true rfl) (Or.inl q1716) (Or.inl rfl) dX3_tabulates_23 (fun v8 => ?_)
  refine s_aload_n hK dX3_tabulates_26 rfl 2 rfl ?_
  refine s_gI hK fcX3 27 (Nat.le_of_ble_eq_true rfl) (Or.inl q1711) (Or.inl rfl) dX3_tabulates_27 (fun v9 => ?_)
  refine s_iload_n hK dX3_tabulates_30 rfl 1 rfl ?_
  refine s_iast hK dX3_tabulates_31 (fun h10 => ?_)
  refine s_aload_n hK dX3_tabulates_32 rfl 2 rfl ?_
  refine s_gA hK fcX3 33 (Nat.le_of_ble_eq_true rfl) (Or.inl q1717) (Or.inl rfl) dX3_tabulates_33 (fun v11 => ?_)
  refine s_aload_n hK dX3_tabulates_36 rfl 2 rfl ?_
  refine s_gI hK fcX3 27 (Nat.le_of_ble_eq_true rfl) (Or.inl q1711) (Or.inl rfl) dX3_tabulates_37 (fun v12 => ?_)
  refine s_iload_n hK dX3_tabulates_40 rfl 0 rfl ?_
  refine s_bipush (v := 16) hK dX3_tabulates_41 rfl ?_
  refine s_icmp_le (tgt := 51) hK dX3_tabulates_43 (by decide) (fun c82 => ?_) (fun c82 => ?_)
  · refine s_iload_n hK dX3_tabulates_51 rfl 0 rfl ?_
    refine s_sub [2, 1, 0] rfl ?_
    exact sm_X3_tabulates_J52 hK hf hlo p0 v2 v4 v4 v12 v11 h10
  · refine s_bipush (v := 16) hK dX3_tabulates_46 rfl ?_
    refine s_goto (tgt := 52) hK dX3_tabulates_48 (by decide) ?_
    refine s_sub [2, 1, 0] rfl ?_
    exact sm_X3_tabulates_J52 hK hf hlo p0 v2 v4 16 v12 v11 h10
theorem ct_X3_tabulates {G : GC} {l : Launch} (g : GOK G l) (p0 : Option Nat) (p1 : Int32) (h : AH) : CT G l yX3_tabulates (Cond.code yX3_tabulates cX3_tabulates 6 (none)) 5 105 [va_rf p0, .int p1] (f_X3_tabulates p0 p1 h) h :=
  CT.of g (by decide) (by simp only [ls_a, ls_i, ls_l, ls_n]; decide) (fun K _ hK hf hlo => by simp only [la_a, la_i, la_l, la_n]; exact sm_X3_tabulates hK hf hlo p0 p1 h)
abbrev FR_X3_accepts : Nat := 6
abbrev LO_X3_accepts : Nat := 130
theorem dyX3_accepts : DY yX3_accepts 1 := ⟨⟨by decide, by decide⟩, by decide +kernel⟩
theorem sm_X3_accepts_L18 {G : GC} {K : SC} (hK : SOK G K RX3 cX3_accepts 4 (none) "accepts" []) (hf : FR_X3_accepts ≤ (kR K).frames) (hlo : LO_X3_accepts ≤ (kR K).locals) {k38 : Option Nat → Int32 → AH → RS} (hk38 : ∀ (y0 : Option Nat) (y1 : Int32) (h : AH), Sim G K 4 (k38 y0 y1 h) h 38 [(0, va_rf y0), (1, .int y1)] []) : ∀ (n : Nat) (x7 : Option Nat) (x8 : Int32) (x9 : Int32) (x10 : Int32) (h11 : AH), Sim G K 4 (f_X3_accepts_L18 k38 n x7 x8 x9 x10 h11) h11 18 [(0, va_rf x7), (1, .int x8), (2, .int x9), (3, .int x10)] [] := by
  intro n
  induction n with
  | zero => intro x7 x8 x9 x10 h11; exact s_none
  | succ n ih =>
    intro x7 x8 x9 x10 h11
    rw [f_X3_accepts_L18]
    refine s_iload_n hK dX3_accepts_18 rfl 3 rfl ?_
    refine s_iload_n hK dX3_accepts_19 rfl 1 rfl ?_
    refine s_iload_n hK dX3_accepts_20 rfl 2 rfl ?_
    refine s_iadd hK dX3_accepts_21 ?_
    refine s_icmp_ge (tgt := 38) hK dX3_accepts_22 (by decide) (fun c14 => ?_) (fun c14 => ?_)
    · refine s_sub [0, 1] rfl ?_
      exact hk38 x7 x8 h11
    · refine s_aload_n hK dX3_accepts_25 rfl 0 rfl ?_
      refine s_gA hK fcX3 17 (Nat.le_of_ble_eq_true rfl) (Or.inl q1701) (Or.inl rfl) dX3_accepts_26 (fun v12 => ?_)
      refine s_iload_n hK dX3_accepts_29 rfl 3 rfl ?_
      refine s_iload_n hK dX3_accepts_30 rfl 1 rfl ?_
      refine s_iast hK dX3_accepts_31 (fun h13 => ?_)
      refine s_iinc (j := 3) (v := 1) (lv' := [(3, .int (x10 + 1)), (0, va_rf x7), (1, .int x8), (2, .int x9)]) hK dX3_accepts_32 rfl rfl (Nat.le_of_ble_eq_true rfl) rfl ?_
      refine s_goto (tgt := 18) hK dX3_accepts_35 (by decide) ?_
      refine s_sub [1, 2, 3, 0] rfl ?_
      exact ih x7 x8 x9 (x10 + 1) h13
theorem sm_X3_accepts_J65 {G : GC} {K : SC} (hK : SOK G K RX3 cX3_accepts 4 (none) "accepts" []) (hf : FR_X3_accepts ≤ (kR K).frames) (hlo : LO_X3_accepts ≤ (kR K).locals) (x22 : Option Nat) (x23 : Int32)  (h24 : AH) : Sim G K 4 (f_X3_accepts_J65 x22 x23 h24) h24 65 [(0, va_rf x22), (1, .int x23)] [] := by
  unfold f_X3_accepts_J65
  refine s_aload_n hK dX3_accepts_65 rfl 0 rfl ?_
  refine s_iload_n hK dX3_accepts_66 rfl 1 rfl ?_
  refine s_rc (fun _ _ eo er => ?_)
  refine s_cI hK ho_n (cx_v (As := [.int x23]) (rest := []) hK dyX3_sort rfl q1914 fcX3.1 q1916 qs39 q80 q1917 eo er (ct_X3_sort hK.1 x22 x23 h24) (Nat.le_trans (Nat.le_of_ble_eq_true rfl) hf) (Nat.le_trans (Nat.le_of_ble_eq_true rfl) hlo) rk_n (Nat.le_of_ble_eq_true rfl) dX3_accepts_67 rfl) (fun v26 h25 => ?_)
  refine s_bipush (v := 9) hK dX3_accepts_70 rfl ?_
  refine s_icmp_ne (tgt := 80) hK dX3_accepts_72 (by decide) (fun c28 => ?_) (fun c28 => ?_)
  · exact s_vret hK dX3_accepts_80
  · refine s_aload_n hK dX3_accepts_75 rfl 0 rfl ?_
    refine s_iload_n hK dX3_accepts_76 rfl 1 rfl ?_
    refine s_rc (fun _ _ eo er => ?_)
    refine s_cV hK ho_n (cx_v (As := [.int x23]) (rest := []) hK dyX3_tabulates rfl q1969 fcX3.1 q1971 qs50 q80 q1972 eo er (ct_X3_tabulates hK.1 x22 x23 h25) (Nat.le_trans (Nat.le_of_ble_eq_true rfl) hf) (Nat.le_trans (Nat.le_of_ble_eq_true rfl) hlo) rk_n (Nat.le_of_ble_eq_true rfl) dX3_accepts_77 rfl) (fun h27 => ?_)
    exact s_vret hK dX3_accepts_80
theorem sm_X3_accepts {G : GC} {K : SC} (hK : SOK G K RX3 cX3_accepts 4 (none) "accepts" []) (hf : FR_X3_accepts ≤ (kR K).frames) (hlo : LO_X3_accepts ≤ (kR K).locals) (p0 : Option Nat) (p1 : Int32) (h : AH) : Sim G K 4 (f_X3_accepts p0 p1 h) h 0 [(0, va_rf p0), (1, .int p1)] [] := by
  unfold f_X3_accepts
  refine s_aload_n hK dX3_accepts_0 rfl 0 rfl ?_
  refine s_iload_n hK dX3_accepts_1 rfl 1 rfl ?_
  refine s_rc (fun _ _ eo er => ?_)
  refine s_cI hK ho_n (cx_v (As := [.int p1]) (rest := []) hK dyX3_sort rfl q1914 fcX3.1 q1916 qs39 q80 q1917 eo er (ct_X3_sort hK.1 p0 p1 h) (Nat.le_trans (Nat.le_of_ble_eq_true rfl) hf) (Nat.le_trans (Nat.le_of_ble_eq_true rfl) hlo) rk_n (Nat.le_of_ble_eq_true rfl) dX3_accepts_2 rfl) (fun v2 h1 => ?_)
  refine s_cI hK ho_n (cx_s (As := [.int v2]) (rest := []) hK dyX3_lengthOf rfl q1918 q1919 q80 q1920 (ct_X3_lengthOf hK.1 v2 h1) (Nat.le_trans (Nat.le_of_ble_eq_true rfl) hf) (Nat.le_trans (Nat.le_of_ble_eq_true rfl) hlo) rk_n (Nat.le_of_ble_eq_true rfl) dX3_accepts_5 rfl) (fun v4 h3 => ?_)
  refine s_istore_n (lv' := [(2, .int v4), (0, va_rf p0), (1, .int p1)]) hK dX3_accepts_8 rfl (Nat.le_of_ble_eq_true rfl) rfl ?_
  refine s_aload_n hK dX3_accepts_9 rfl 1 rfl ?_
  refine s_gA hK fcX3 16 (Nat.le_of_ble_eq_true rfl) (Or.inl q1700) (Or.inl rfl) dX3_accepts_10 (fun v5 => ?_)
  refine s_iload_n hK dX3_accepts_13 rfl 2 rfl ?_
  refine s_iload_n hK dX3_accepts_14 rfl 0 rfl ?_
  refine s_iast hK dX3_accepts_15 (fun h6 => ?_)
  refine s_iload_n hK dX3_accepts_16 rfl 2 rfl ?_
  refine s_istore_n (lv' := [(3, .int p1), (2, .int v4), (0, va_rf p0), (1, .int p1)]) hK dX3_accepts_17 rfl (Nat.le_of_ble_eq_true rfl) rfl ?_
  refine s_sub [2, 3, 1, 0] rfl ?_
  refine sm_X3_accepts_L18 hK hf hlo (fun x15 x16 h17 => ?_) FUEL p0 p1 v4 p1 h6
  · refine s_aload_n hK dX3_accepts_38 rfl 0 rfl ?_
    refine s_dup hK dX3_accepts_39 (va_cat _) ?_
    refine s_gI hK fcX3 24 (Nat.le_of_ble_eq_true rfl) (Or.inl q1708) (Or.inl rfl) dX3_accepts_40 (fun v18 => ?_)
    refine s_iconst (v := 1) hK dX3_accepts_43 rfl ?_
    refine s_iadd hK dX3_accepts_44 ?_
    refine s_pF hK fcX3 24 (Nat.le_of_ble_eq_true rfl) (Or.inl q1708) (Or.inl rfl) (Or.inl rfl) rfl rfl dX3_accepts_45 (fun h19 => ?_)
    refine s_aload_n hK dX3_accepts_48 rfl 0 rfl ?_
    refine s_iload_n hK dX3_accepts_49 rfl 1 rfl ?_
    refine s_rc (fun _ _ eo er => ?_)
    refine s_cI hK ho_n (cx_v (As := [.int x16]) (rest := []) hK dyX3_hasGoal rfl q1921 fcX3.1 q1923 qs40 q80 q1924 eo er (ct_X3_hasGoal hK.1 x15 x16 h19) (Nat.le_trans (Nat.le_of_ble_eq_true rfl) hf) (Nat.le_trans (Nat.le_of_ble_eq_true rfl) hlo) rk_n (Nat.le_of_ble_eq_true rfl) dX3_accepts_50 rfl) (fun v21 h20 => ?_)
    refine s_if_eq (tgt := 65) hK dX3_accepts_53 (by decide) (fun c32 => ?_) (fun c32 => ?_)
    · exact sm_X3_accepts_J65 hK hf hlo x15 x16 h20
    · refine s_aload_n hK dX3_accepts_56 rfl 0 rfl ?_
      refine s_aload_n hK dX3_accepts_57 rfl 0 rfl ?_
      refine s_iload_n hK dX3_accepts_58 rfl 1 rfl ?_
      refine s_rc (fun _ _ eo er => ?_)
      refine s_cI hK ho_n (cx_v (As := [.int x16]) (rest := [va_rf x15]) hK dyX3_goal rfl q1925 fcX3.1 q1927 qs41 q80 q1928 eo er (ct_X3_goal hK.1 x15 x16 h20) (Nat.le_trans (Nat.le_of_ble_eq_true rfl) hf) (Nat.le_trans (Nat.le_of_ble_eq_true rfl) hlo) (rk_a rk_n) (Nat.le_of_ble_eq_true rfl) dX3_accepts_59 rfl) (fun v30 h29 => ?_)
      refine s_rc (fun _ _ eo er => ?_)
      refine s_cV hK ho_n (cx_v (As := [.int v30]) (rest := []) hK dyX3_adds rfl q1945 fcX3.1 q1947 qs44 q80 q1948 eo er (ct_X3_adds hK.1 x15 v30 h29) (Nat.le_trans (Nat.le_of_ble_eq_true rfl) hf) (Nat.le_trans (Nat.le_of_ble_eq_true rfl) hlo) rk_n (Nat.le_of_ble_eq_true rfl) dX3_accepts_62 rfl) (fun h31 => ?_)
      exact sm_X3_accepts_J65 hK hf hlo x15 x16 h31
theorem ct_X3_accepts {G : GC} {l : Launch} (g : GOK G l) (p0 : Option Nat) (p1 : Int32) (h : AH) : CT G l yX3_accepts (Cond.code yX3_accepts cX3_accepts 4 (none)) 6 130 [va_rf p0, .int p1] (f_X3_accepts p0 p1 h) h :=
  CT.of g (by decide) (by simp only [ls_a, ls_i, ls_l, ls_n]; decide) (fun K _ hK hf hlo => by simp only [la_a, la_i, la_l, la_n]; exact sm_X3_accepts hK hf hlo p0 p1 h)
abbrev FR_X3_follows : Nat := 7
abbrev LO_X3_follows : Nat := 153
theorem dyX3_follows : DY yX3_follows 1 := ⟨⟨by decide, by decide⟩, by decide +kernel⟩
theorem sm_X3_follows_J78 {G : GC} {K : SC} (hK : SOK G K RX3 cX3_follows 4 (none) "follows" []) (hf : FR_X3_follows ≤ (kR K).frames) (hlo : LO_X3_follows ≤ (kR K).locals) {rc : Option Nat → Int32 → Int32 → AH → RS} (hrc : ∀ (y0 : Option Nat) (y1 : Int32) (y2 : Int32) (h : AH), Sim G K 4 (rc y0 y1 y2 h) h 4 [(0, va_rf y0), (2, .int y1), (3, .int y2)] []) {k91 : AH → RS} (hk91 : ∀  (h : AH), Sim G K 4 (k91  h) h 91 [] []) (x18 : Option Nat) (x19 : Int32) (y20 : Int32) (h21 : AH) : Sim G K 4 (f_X3_follows_J78 rc k91 x18 x19 y20 h21) h21 78 [(0, va_rf x18), (2, .int x19)] [.int y20] := by
  unfold f_X3_follows_J78
  refine s_istore_n (lv' := [(3, .int y20), (0, va_rf x18), (2, .int x19)]) hK dX3_follows_78 rfl (Nat.le_of_ble_eq_true rfl) rfl ?_
  refine s_iload_n hK dX3_follows_79 rfl 2 rfl ?_
  refine s_aload_n hK dX3_follows_80 rfl 1 rfl ?_
  refine s_gA hK fcX3 16 (Nat.le_of_ble_eq_true rfl) (Or.inl q1700) (Or.inl rfl) dX3_follows_81 (fun v22 => ?_)
  refine s_iload_n hK dX3_follows_84 rfl 2 rfl ?_
  refine s_iald hK dX3_follows_85 (fun v23 => ?_)
  refine s_iadd hK dX3_follows_86 ?_
  refine s_istore_n (lv' := [(2, .int (x19 + v23)), (3, .int y20), (0, va_rf x18)]) hK dX3_follows_87 rfl (Nat.le_of_ble_eq_true rfl) rfl ?_
  refine s_goto (tgt := 4) hK dX3_follows_88 (by decide) ?_
  refine s_sub [2, 0, 1] rfl ?_
  exact hrc x18 (x19 + v23) y20 h21
theorem sm_X3_follows_J28 {G : GC} {K : SC} (hK : SOK G K RX3 cX3_follows 4 (none) "follows" []) (hf : FR_X3_follows ≤ (kR K).frames) (hlo : LO_X3_follows ≤ (kR K).locals) {rc : Option Nat → Int32 → Int32 → AH → RS} (hrc : ∀ (y0 : Option Nat) (y1 : Int32) (y2 : Int32) (h : AH), Sim G K 4 (rc y0 y1 y2 h) h 4 [(0, va_rf y0), (2, .int y1), (3, .int y2)] []) {k91 : AH → RS} (hk91 : ∀  (h : AH), Sim G K 4 (k91  h) h 91 [] []) (x7 : Option Nat) (x8 : Int32) (x9 : Int32)  (h10 : AH) : Sim G K 4 (f_X3_follows_J28 rc k91 x7 x8 x9 h10) h10 28 [(0, va_rf x7), (2, .int x8), (3, .int x9)] [] := by
  unfold f_X3_follows_J28
  refine s_aload_n hK dX3_follows_28 rfl 0 rfl ?_
  refine s_iload_n hK dX3_follows_29 rfl 1 rfl ?_
  refine s_rc (fun _ _ eo er => ?_)
  refine s_cI hK ho_n (cx_v (As := [.int x8]) (rest := []) hK dyX3_isSound rfl q1910 fcX3.1 q1912 qs38 q80 q1913 eo er (ct_X3_isSound hK.1 x7 x8 h10) (Nat.le_trans (Nat.le_of_ble_eq_true rfl) hf) (Nat.le_trans (Nat.le_of_ble_eq_true rfl) hlo) rk_n (Nat.le_of_ble_eq_true rfl) dX3_follows_30 rfl) (fun v12 h11 => ?_)
  refine s_if_ne (tgt := 44) hK dX3_follows_33 (by decide) (fun c28 => ?_) (fun c28 => ?_)
  · refine s_aload_n hK dX3_follows_44 rfl 0 rfl ?_
    refine s_iload_n hK dX3_follows_45 rfl 1 rfl ?_
    refine s_rc (fun _ _ eo er => ?_)
    refine s_cI hK ho_n (cx_v (As := [.int x8]) (rest := []) hK dyX3_isFree rfl q1957 fcX3.1 q1959 qs47 q80 q1960 eo er (ct_X3_isFree hK.1 x7 x8 h11) (Nat.le_trans (Nat.le_of_ble_eq_true rfl) hf) (Nat.le_trans (Nat.le_of_ble_eq_true rfl) hlo) rk_n (Nat.le_of_ble_eq_true rfl) dX3_follows_46 rfl) (fun v14 h13 => ?_)
    refine s_if_ne (tgt := 60) hK dX3_follows_49 (by decide) (fun c26 => ?_) (fun c26 => ?_)
    · refine s_aload_n hK dX3_follows_60 rfl 0 rfl ?_
      refine s_iload_n hK dX3_follows_61 rfl 1 rfl ?_
      refine s_rc (fun _ _ eo er => ?_)
      refine s_cV hK ho_n (cx_v (As := [.int x8]) (rest := []) hK dyX3_accepts rfl q1965 fcX3.1 q1967 qs49 q80 q1968 eo er (ct_X3_accepts hK.1 x7 x8 h13) (Nat.le_trans (Nat.le_of_ble_eq_true rfl) hf) (Nat.le_trans (Nat.le_of_ble_eq_true rfl) hlo) rk_n (Nat.le_of_ble_eq_true rfl) dX3_follows_62 rfl) (fun h15 => ?_)
      refine s_aload_n hK dX3_follows_65 rfl 0 rfl ?_
      refine s_iload_n hK dX3_follows_66 rfl 1 rfl ?_
      refine s_rc (fun _ _ eo er => ?_)
      refine s_cI hK ho_n (cx_v (As := [.int x8]) (rest := []) hK dyX3_endsFlow rfl q1981 fcX3.1 q1983 qs53 q80 q1984 eo er (ct_X3_endsFlow hK.1 x7 x8 h15) (Nat.le_trans (Nat.le_of_ble_eq_true rfl) hf) (Nat.le_trans (Nat.le_of_ble_eq_true rfl) hlo) rk_n (Nat.le_of_ble_eq_true rfl) dX3_follows_67 rfl) (fun v17 h16 => ?_)
      refine s_if_ne (tgt := 77) hK dX3_follows_70 (by decide) (fun c24 => ?_) (fun c24 => ?_)
      · refine s_iconst (v := 0) hK dX3_follows_77 rfl ?_
        refine s_sub [0, 1] rfl ?_
        exact sm_X3_follows_J78 hK hf hlo hrc hk91 x7 x8 0 h16
      · refine s_iconst (v := 1) hK dX3_follows_73 rfl ?_
        refine s_goto (tgt := 78) hK dX3_follows_74 (by decide) ?_
        refine s_sub [0, 1] rfl ?_
        exact sm_X3_follows_J78 hK hf hlo hrc hk91 x7 x8 1 h16
    · refine s_aload_n hK dX3_follows_52 rfl 0 rfl ?_
      refine s_iload_n hK dX3_follows_53 rfl 1 rfl ?_
      refine s_rc (fun _ _ eo er => ?_)
      refine s_cV hK ho_n (cx_v (As := [.int x8]) (rest := []) hK dyX3_conflictAt rfl q1961 fcX3.1 q1963 qs48 q80 q1964 eo er (ct_X3_conflictAt hK.1 x7 x8 h13) (Nat.le_trans (Nat.le_of_ble_eq_true rfl) hf) (Nat.le_trans (Nat.le_of_ble_eq_true rfl) hlo) rk_n (Nat.le_of_ble_eq_true rfl) dX3_follows_54 rfl) (fun h25 => ?_)
      refine s_goto (tgt := 4) hK dX3_follows_57 (by decide) ?_
      exact hrc x7 x8 x9 h25
  · refine s_aload_n hK dX3_follows_36 rfl 0 rfl ?_
    refine s_iload_n hK dX3_follows_37 rfl 1 rfl ?_
    refine s_rc (fun _ _ eo er => ?_)
    refine s_cV hK ho_n (cx_v (As := [.int x8]) (rest := []) hK dyX3_isBadAt rfl q1953 fcX3.1 q1955 qs46 q80 q1956 eo er (ct_X3_isBadAt hK.1 x7 x8 h11) (Nat.le_trans (Nat.le_of_ble_eq_true rfl) hf) (Nat.le_trans (Nat.le_of_ble_eq_true rfl) hlo) rk_n (Nat.le_of_ble_eq_true rfl) dX3_follows_38 rfl) (fun h27 => ?_)
    refine s_goto (tgt := 4) hK dX3_follows_41 (by decide) ?_
    exact hrc x7 x8 x9 h27
theorem sm_X3_follows_L4 {G : GC} {K : SC} (hK : SOK G K RX3 cX3_follows 4 (none) "follows" []) (hf : FR_X3_follows ≤ (kR K).frames) (hlo : LO_X3_follows ≤ (kR K).locals) {k91 : AH → RS} (hk91 : ∀  (h : AH), Sim G K 4 (k91  h) h 91 [] []) : ∀ (n : Nat) (x1 : Option Nat) (x2 : Int32) (x3 : Int32) (h4 : AH), Sim G K 4 (f_X3_follows_L4 k91 n x1 x2 x3 h4) h4 4 [(0, va_rf x1), (2, .int x2), (3, .int x3)] [] := by
  intro n
  induction n with
  | zero => intro x1 x2 x3 h4; exact s_none
  | succ n ih =>
    intro x1 x2 x3 h4
    rw [f_X3_follows_L4]
    refine s_iload_n hK dX3_follows_4 rfl 2 rfl ?_
    refine s_if_eq (tgt := 91) hK dX3_follows_5 (by decide) (fun c33 => ?_) (fun c33 => ?_)
    · refine s_sub [] rfl ?_
      exact hk91  h4
    · refine s_iconst (v := 0) hK dX3_follows_8 rfl ?_
      refine s_istore_n (lv' := [(3, .int 0), (0, va_rf x1), (2, .int x2)]) hK dX3_follows_9 rfl (Nat.le_of_ble_eq_true rfl) rfl ?_
      refine s_aload_n hK dX3_follows_10 rfl 1 rfl ?_
      refine s_iload_n hK dX3_follows_11 rfl 2 rfl ?_
      refine s_rc (fun _ _ eo er => ?_)
      refine s_cI hK ho_n (cx_v (As := [.int x2]) (rest := []) hK dyX3_isAddress rfl q1870 fcX3.1 q1872 qs36 q80 q1873 eo er (ct_X3_isAddress hK.1 x1 x2 h4) (Nat.le_trans (Nat.le_of_ble_eq_true rfl) hf) (Nat.le_trans (Nat.le_of_ble_eq_true rfl) hlo) rk_n (Nat.le_of_ble_eq_true rfl) dX3_follows_12 rfl) (fun v6 h5 => ?_)
      refine s_if_eq (tgt := 28) hK dX3_follows_15 (by decide) (fun c32 => ?_) (fun c32 => ?_)
      · refine s_sub [1, 2, 0] rfl ?_
        exact sm_X3_follows_J28 hK hf hlo ih hk91 x1 x2 0 h5
      · refine s_aload_n hK dX3_follows_18 rfl 1 rfl ?_
        refine s_gA hK fcX3 16 (Nat.le_of_ble_eq_true rfl) (Or.inl q1700) (Or.inl rfl) dX3_follows_19 (fun v29 => ?_)
        refine s_iload_n hK dX3_follows_22 rfl 2 rfl ?_
        refine s_iald hK dX3_follows_23 (fun v30 => ?_)
        refine s_if_le (tgt := 28) hK dX3_follows_24 (by decide) (fun c31 => ?_) (fun c31 => ?_)
        · refine s_sub [1, 2, 0] rfl ?_
          exact sm_X3_follows_J28 hK hf hlo ih hk91 x1 x2 0 h5
        · exact s_vret hK dX3_follows_27
theorem sm_X3_follows {G : GC} {K : SC} (hK : SOK G K RX3 cX3_follows 4 (none) "follows" []) (hf : FR_X3_follows ≤ (kR K).frames) (hlo : LO_X3_follows ≤ (kR K).locals) (p0 : Option Nat) (p1 : Int32) (h : AH) : Sim G K 4 (f_X3_follows p0 p1 h) h 0 [(0, va_rf p0), (1, .int p1)] [] := by
  unfold f_X3_follows
  refine s_iload_n hK dX3_follows_0 rfl 1 rfl ?_
  refine s_istore_n (lv' := [(2, .int p1), (0, va_rf p0), (1, .int p1)]) hK dX3_follows_1 rfl (Nat.le_of_ble_eq_true rfl) rfl ?_
  refine s_iconst (v := 1) hK dX3_follows_2 rfl ?_
  refine s_istore_n (lv' := [(3, .int 1), (2, .int p1), (0, va_rf p0), (1, .int p1)]) hK dX3_follows_3 rfl (Nat.le_of_ble_eq_true rfl) rfl ?_
  refine s_sub [2, 1, 0] rfl ?_
  refine sm_X3_follows_L4 hK hf hlo (fun h34 => ?_) FUEL p0 p1 1 h
  · exact s_vret hK dX3_follows_91
theorem ct_X3_follows {G : GC} {l : Launch} (g : GOK G l) (p0 : Option Nat) (p1 : Int32) (h : AH) : CT G l yX3_follows (Cond.code yX3_follows cX3_follows 4 (none)) 7 153 [va_rf p0, .int p1] (f_X3_follows p0 p1 h) h :=
  CT.of g (by decide) (by simp only [ls_a, ls_i, ls_l, ls_n]; decide) (fun K _ hK hf hlo => by simp only [la_a, la_i, la_l, la_n]; exact sm_X3_follows hK hf hlo p0 p1 h)
abbrev FR_X3_isUsed : Nat := 1
abbrev LO_X3_isUsed : Nat := 16
theorem dyX3_isUsed : DY yX3_isUsed 1 := ⟨⟨by decide, by decide⟩, by decide +kernel⟩
theorem sm_X3_isUsed {G : GC} {K : SC} (hK : SOK G K RX3 cX3_isUsed 2 (some (.boolean)) "isUsed" []) (hf : FR_X3_isUsed ≤ (kR K).frames) (hlo : LO_X3_isUsed ≤ (kR K).locals) (p0 : Option Nat) (p1 : Int32) (h : AH) : Sim G K 2 (f_X3_isUsed p0 p1 h) h 0 [(0, va_rf p0), (1, .int p1)] [] := by
  unfold f_X3_isUsed
  refine s_aload_n hK dX3_isUsed_0 rfl 0 rfl ?_
  refine s_gA hK fcX3 17 (Nat.le_of_ble_eq_true rfl) (Or.inl q1701) (Or.inl rfl) dX3_isUsed_1 (fun v1 => ?_)
  refine s_iload_n hK dX3_isUsed_4 rfl 1 rfl ?_
  refine s_iald hK dX3_isUsed_5 (fun v2 => ?_)
  refine s_if_ge (tgt := 18) hK dX3_isUsed_6 (by decide) (fun c6 => ?_) (fun c6 => ?_)
  · refine s_iconst (v := 1) hK dX3_isUsed_18 rfl ?_
    refine s_goto (tgt := 23) hK dX3_isUsed_19 (by decide) ?_
    exact s_zret hK dX3_isUsed_23
  · refine s_aload_n hK dX3_isUsed_9 rfl 0 rfl ?_
    refine s_gA hK fcX3 20 (Nat.le_of_ble_eq_true rfl) (Or.inl q1704) (Or.inl rfl) dX3_isUsed_10 (fun v3 => ?_)
    refine s_iload_n hK dX3_isUsed_13 rfl 1 rfl ?_
    refine s_zald hK dX3_isUsed_14 (fun v4 => ?_)
    refine s_if_eq (tgt := 22) hK dX3_isUsed_15 (by decide) (fun c5 => ?_) (fun c5 => ?_)
    · refine s_iconst (v := 0) hK dX3_isUsed_22 rfl ?_
      exact s_zret hK dX3_isUsed_23
    · refine s_iconst (v := 1) hK dX3_isUsed_18 rfl ?_
      refine s_goto (tgt := 23) hK dX3_isUsed_19 (by decide) ?_
      exact s_zret hK dX3_isUsed_23
theorem ct_X3_isUsed {G : GC} {l : Launch} (g : GOK G l) (p0 : Option Nat) (p1 : Int32) (h : AH) : CT G l yX3_isUsed (Cond.code yX3_isUsed cX3_isUsed 2 (some (.boolean))) 1 16 [va_rf p0, .int p1] (f_X3_isUsed p0 p1 h) h :=
  CT.of g (by decide) (by simp only [ls_a, ls_i, ls_l, ls_n]; decide) (fun K _ hK hf hlo => by simp only [la_a, la_i, la_l, la_n]; exact sm_X3_isUsed hK hf hlo p0 p1 h)
abbrev FR_X3_isInGap : Nat := 4
abbrev LO_X3_isInGap : Nat := 80
theorem dyX3_isInGap : DY yX3_isInGap 2 := ⟨⟨by decide, by decide⟩, by decide +kernel⟩
theorem sm_X3_isInGap {G : GC} {K : SC} (hK : SOK G K RX3 cX3_isInGap 3 (some (.boolean)) "isInGap" []) (hf : FR_X3_isInGap ≤ (kR K).frames) (hlo : LO_X3_isInGap ≤ (kR K).locals) (p0 : Option Nat) (p1 : Int32) (p2 : Int32) (h : AH) : Sim G K 3 (f_X3_isInGap p0 p1 p2 h) h 0 [(0, va_rf p0), (1, .int p1), (2, .int p2)] [] := by
  unfold f_X3_isInGap
  refine s_aload_n hK dX3_isInGap_0 rfl 0 rfl ?_
  refine s_iload_n hK dX3_isInGap_1 rfl 1 rfl ?_
  refine s_rc (fun _ _ eo er => ?_)
  refine s_cI hK ho_n (cx_v (As := [.int p1]) (rest := []) hK dyX3_isSound rfl q1910 fcX3.1 q1912 qs38 q80 q1913 eo er (ct_X3_isSound hK.1 p0 p1 h) (Nat.le_trans (Nat.le_of_ble_eq_true rfl) hf) (Nat.le_trans (Nat.le_of_ble_eq_true rfl) hlo) rk_n (Nat.le_of_ble_eq_true rfl) dX3_isInGap_2 rfl) (fun v2 h1 => ?_)
  refine s_if_eq (tgt := 26) hK dX3_isInGap_5 (by decide) (fun c8 => ?_) (fun c8 => ?_)
  · refine s_iconst (v := 0) hK dX3_isInGap_26 rfl ?_
    exact s_zret hK dX3_isInGap_27
  · refine s_iload_n hK dX3_isInGap_8 rfl 1 rfl ?_
    refine s_aload_n hK dX3_isInGap_9 rfl 0 rfl ?_
    refine s_iload_n hK dX3_isInGap_10 rfl 1 rfl ?_
    refine s_rc (fun _ _ eo er => ?_)
    refine s_cI hK ho_n (cx_v (As := [.int p1]) (rest := [.int p1]) hK dyX3_sort rfl q1914 fcX3.1 q1916 qs39 q80 q1917 eo er (ct_X3_sort hK.1 p0 p1 h1) (Nat.le_trans (Nat.le_of_ble_eq_true rfl) hf) (Nat.le_trans (Nat.le_of_ble_eq_true rfl) hlo) (rk_i rk_n) (Nat.le_of_ble_eq_true rfl) dX3_isInGap_11 rfl) (fun v4 h3 => ?_)
    refine s_cI hK ho_n (cx_s (As := [.int v4]) (rest := [.int p1]) hK dyX3_lengthOf rfl q1918 q1919 q80 q1920 (ct_X3_lengthOf hK.1 v4 h3) (Nat.le_trans (Nat.le_of_ble_eq_true rfl) hf) (Nat.le_trans (Nat.le_of_ble_eq_true rfl) hlo) (rk_i rk_n) (Nat.le_of_ble_eq_true rfl) dX3_isInGap_14 rfl) (fun v6 h5 => ?_)
    refine s_iadd hK dX3_isInGap_17 ?_
    refine s_iload_n hK dX3_isInGap_18 rfl 2 rfl ?_
    refine s_icmp_gt (tgt := 26) hK dX3_isInGap_19 (by decide) (fun c7 => ?_) (fun c7 => ?_)
    · refine s_iconst (v := 0) hK dX3_isInGap_26 rfl ?_
      exact s_zret hK dX3_isInGap_27
    · refine s_iconst (v := 1) hK dX3_isInGap_22 rfl ?_
      refine s_goto (tgt := 27) hK dX3_isInGap_23 (by decide) ?_
      exact s_zret hK dX3_isInGap_27
theorem ct_X3_isInGap {G : GC} {l : Launch} (g : GOK G l) (p0 : Option Nat) (p1 : Int32) (p2 : Int32) (h : AH) : CT G l yX3_isInGap (Cond.code yX3_isInGap cX3_isInGap 3 (some (.boolean))) 4 80 [va_rf p0, .int p1, .int p2] (f_X3_isInGap p0 p1 p2 h) h :=
  CT.of g (by decide) (by simp only [ls_a, ls_i, ls_l, ls_n]; decide) (fun K _ hK hf hlo => by simp only [la_a, la_i, la_l, la_n]; exact sm_X3_isInGap hK hf hlo p0 p1 p2 h)
abbrev FR_X3_isTestBegin : Nat := 2
abbrev LO_X3_isTestBegin : Nat := 37
theorem dyX3_isTestBegin : DY yX3_isTestBegin 3 := ⟨⟨by decide, by decide⟩, by decide +kernel⟩
theorem sm_X3_isTestBegin_J28 {G : GC} {K : SC} (hK : SOK G K RX3 cX3_isTestBegin 6 (some (.boolean)) "isTestBegin" []) (hf : FR_X3_isTestBegin ≤ (kR K).frames) (hlo : LO_X3_isTestBegin ≤ (kR K).locals) {rc : Option Nat → Int32 → Int32 → Int32 → Int32 → AH → RS} (hrc : ∀ (y0 : Option Nat) (y1 : Int32) (y2 : Int32) (y3 : Int32) (y4 : Int32) (h : AH), Sim G K 6 (rc y0 y1 y2 y3 y4 h) h 6 [(0, va_rf y0), (2, .int y1), (3, .int y2), (4, .int y3), (5, .int y4)] []) {k47 : Int32 → AH → RS} (hk47 : ∀ (y0 : Int32) (h : AH), Sim G K 6 (k47 y0 h) h 47 [(4, .int y0)] []) (x12 : Option Nat) (x13 : Int32) (x14 : Int32) (x15 : Int32) (y16 : Int32) (h17 : AH) : Sim G K 6 (f_X3_isTestBegin_J28 rc k47 x12 x13 x14 x15 y16 h17) h17 28 [(0, va_rf x12), (2, .int x13), (3, .int x14), (5, .int x15)] [.int y16] := by
  unfold f_X3_isTestBegin_J28
  refine s_istore (lv' := [(4, .int y16), (0, va_rf x12), (2, .int x13), (3, .int x14), (5, .int x15)]) hK dX3_isTestBegin_28 (Nat.le_of_ble_eq_true rfl) rfl ?_
  refine s_iload hK dX3_isTestBegin_30 4 rfl ?_
  refine s_aload_n hK dX3_isTestBegin_32 rfl 1 rfl ?_
  refine s_iload hK dX3_isTestBegin_33 4 rfl ?_
  refine s_rc (fun _ _ eo er => ?_)
  refine s_cI hK ho_n (cx_v (As := [.int x15]) (rest := [.int x15]) hK dyX3_sort rfl q1914 fcX3.1 q1916 qs39 q80 q1917 eo er (ct_X3_sort hK.1 x12 x15 h17) (Nat.le_trans (Nat.le_of_ble_eq_true rfl) hf) (Nat.le_trans (Nat.le_of_ble_eq_true rfl) hlo) (rk_i rk_n) (Nat.le_of_ble_eq_true rfl) dX3_isTestBegin_35 rfl) (fun v19 h18 => ?_)
  refine s_cI hK ho_n (cx_s (As := [.int v19]) (rest := [.int x15]) hK dyX3_lengthOf rfl q1918 q1919 q80 q1920 (ct_X3_lengthOf hK.1 v19 h18) (Nat.le_trans (Nat.le_of_ble_eq_true rfl) hf) (Nat.le_trans (Nat.le_of_ble_eq_true rfl) hlo) (rk_i rk_n) (Nat.le_of_ble_eq_true rfl) dX3_isTestBegin_38 rfl) (fun v21 h20 => ?_)
  refine s_iadd hK dX3_isTestBegin_41 ?_
  refine s_istore (lv' := [(5, .int (x15 + v21)), (4, .int y16), (0, va_rf x12), (2, .int x13), (3, .int x14)]) hK dX3_isTestBegin_42 (Nat.le_of_ble_eq_true rfl) rfl ?_
  refine s_goto (tgt := 6) hK dX3_isTestBegin_44 (by decide) ?_
  refine s_sub [2, 3, 4, 1, 0] rfl ?_
  exact hrc x12 x13 x14 y16 (x15 + v21) h20
theorem sm_X3_isTestBegin_J23 {G : GC} {K : SC} (hK : SOK G K RX3 cX3_isTestBegin 6 (some (.boolean)) "isTestBegin" []) (hf : FR_X3_isTestBegin ≤ (kR K).frames) (hlo : LO_X3_isTestBegin ≤ (kR K).locals) {rc : Option Nat → Int32 → Int32 → Int32 → Int32 → AH → RS} (hrc : ∀ (y0 : Option Nat) (y1 : Int32) (y2 : Int32) (y3 : Int32) (y4 : Int32) (h : AH), Sim G K 6 (rc y0 y1 y2 y3 y4 h) h 6 [(0, va_rf y0), (2, .int y1), (3, .int y2), (4, .int y3), (5, .int y4)] []) {k47 : Int32 → AH → RS} (hk47 : ∀ (y0 : Int32) (h : AH), Sim G K 6 (k47 y0 h) h 47 [(4, .int y0)] []) (x7 : Option Nat) (x8 : Int32) (x9 : Int32) (x10 : Int32)  (h11 : AH) : Sim G K 6 (f_X3_isTestBegin_J23 rc k47 x7 x8 x9 x10 h11) h11 23 [(0, va_rf x7), (2, .int x8), (3, .int x9), (5, .int x10)] [] := by
  unfold f_X3_isTestBegin_J23
  refine s_iconst (v := 1) hK dX3_isTestBegin_23 rfl ?_
  refine s_goto (tgt := 28) hK dX3_isTestBegin_24 (by decide) ?_
  exact sm_X3_isTestBegin_J28 hK hf hlo hrc hk47 x7 x8 x9 x10 1 h11
theorem sm_X3_isTestBegin_L6 {G : GC} {K : SC} (hK : SOK G K RX3 cX3_isTestBegin 6 (some (.boolean)) "isTestBegin" []) (hf : FR_X3_isTestBegin ≤ (kR K).frames) (hlo : LO_X3_isTestBegin ≤ (kR K).locals) {k47 : Int32 → AH → RS} (hk47 : ∀ (y0 : Int32) (h : AH), Sim G K 6 (k47 y0 h) h 47 [(4, .int y0)] []) : ∀ (n : Nat) (x1 : Option Nat) (x2 : Int32) (x3 : Int32) (x4 : Int32) (x5 : Int32) (h6 : AH), Sim G K 6 (f_X3_isTestBegin_L6 k47 n x1 x2 x3 x4 x5 h6) h6 6 [(0, va_rf x1), (2, .int x2), (3, .int x3), (4, .int x4), (5, .int x5)] [] := by
  intro n
  induction n with
  | zero => intro x1 x2 x3 x4 x5 h6; exact s_none
  | succ n ih =>
    intro x1 x2 x3 x4 x5 h6
    rw [f_X3_isTestBegin_L6]
    refine s_iload hK dX3_isTestBegin_6 4 rfl ?_
    refine s_iload_n hK dX3_isTestBegin_8 rfl 1 rfl ?_
    refine s_icmp_gt (tgt := 47) hK dX3_isTestBegin_9 (by decide) (fun c24 => ?_) (fun c24 => ?_)
    · refine s_sub [3] rfl ?_
      exact hk47 x4 h6
    · refine s_iload hK dX3_isTestBegin_12 3 rfl ?_
      refine s_if_ne (tgt := 23) hK dX3_isTestBegin_14 (by decide) (fun c23 => ?_) (fun c23 => ?_)
      · refine s_sub [0, 1, 2, 4] rfl ?_
        exact sm_X3_isTestBegin_J23 hK hf hlo ih hk47 x1 x2 x3 x5 h6
      · refine s_iload hK dX3_isTestBegin_17 4 rfl ?_
        refine s_iload_n hK dX3_isTestBegin_19 rfl 2 rfl ?_
        refine s_icmp_ne (tgt := 27) hK dX3_isTestBegin_20 (by decide) (fun c22 => ?_) (fun c22 => ?_)
        · refine s_iconst (v := 0) hK dX3_isTestBegin_27 rfl ?_
          refine s_sub [0, 1, 2, 4] rfl ?_
          exact sm_X3_isTestBegin_J28 hK hf hlo ih hk47 x1 x2 x3 x5 0 h6
        · refine s_sub [0, 1, 2, 4] rfl ?_
          exact sm_X3_isTestBegin_J23 hK hf hlo ih hk47 x1 x2 x3 x5 h6
theorem sm_X3_isTestBegin {G : GC} {K : SC} (hK : SOK G K RX3 cX3_isTestBegin 6 (some (.boolean)) "isTestBegin" []) (hf : FR_X3_isTestBegin ≤ (kR K).frames) (hlo : LO_X3_isTestBegin ≤ (kR K).locals) (p0 : Option Nat) (p1 : Int32) (p2 : Int32) (p3 : Int32) (h : AH) : Sim G K 6 (f_X3_isTestBegin p0 p1 p2 p3 h) h 0 [(0, va_rf p0), (1, .int p1), (2, .int p2), (3, .int p3)] [] := by
  unfold f_X3_isTestBegin
  refine s_iconst (v := 0) hK dX3_isTestBegin_0 rfl ?_
  refine s_istore (lv' := [(4, .int 0), (0, va_rf p0), (1, .int p1), (2, .int p2), (3, .int p3)]) hK dX3_isTestBegin_1 (Nat.le_of_ble_eq_true rfl) rfl ?_
  refine s_iload_n hK dX3_isTestBegin_3 rfl 2 rfl ?_
  refine s_istore (lv' := [(5, .int p1), (4, .int 0), (0, va_rf p0), (1, .int p1), (2, .int p2), (3, .int p3)]) hK dX3_isTestBegin_4 (Nat.le_of_ble_eq_true rfl) rfl ?_
  refine s_sub [2, 4, 5, 1, 0] rfl ?_
  refine sm_X3_isTestBegin_L6 hK hf hlo (fun x25 h26 => ?_) FUEL p0 p2 p3 0 p1 h
  · refine s_iload hK dX3_isTestBegin_47 0 rfl ?_
    exact s_zret hK dX3_isTestBegin_49
theorem ct_X3_isTestBegin {G : GC} {l : Launch} (g : GOK G l) (p0 : Option Nat) (p1 : Int32) (p2 : Int32) (p3 : Int32) (h : AH) : CT G l yX3_isTestBegin (Cond.code yX3_isTestBegin cX3_isTestBegin 6 (some (.boolean))) 2 37 [va_rf p0, .int p1, .int p2, .int p3] (f_X3_isTestBegin p0 p1 p2 p3 h) h :=
  CT.of g (by decide) (by simp only [ls_a, ls_i, ls_l, ls_n]; decide) (fun K _ hK hf hlo => by simp only [la_a, la_i, la_l, la_n]; exact sm_X3_isTestBegin hK hf hlo p0 p1 p2 p3 h)
