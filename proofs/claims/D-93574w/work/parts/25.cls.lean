/-! printed by mk.py/gen.py -/
set_option maxRecDepth 100000
def f_X1_init (p0 : Option Nat) (h : AH) : RS := xnn p0 (xnO h 1 3 fsX2 (fun a1 h2 => xnA h2 0 0 (fun a3 h4 => xnA h4 0 0 (fun a5 h6 => xnn a1 (xcV (f_X2_init a1 a3 a5 4 h6) (fun h7 => xpF h7 p0 0 0 (va_rf a1) (fun h8 => xnA h8 2 60 (fun a9 h10 => xpF h10 p0 0 4 (va_rf a9) (fun h11 => xpF h11 p0 0 6 (.int (-1)) (fun h12 => rtV h12))))))))))
def f_X1_faultPosition (p0 : Option Nat) (h : AH) : RS := xgI h p0 0 6 (fun v1 => rtI v1 h)
def f_X1_set (p0 : Option Nat) (p1 : Option Nat) (p2 : Int32) (h : AH) : RS := xpF h p0 0 0 (va_rf p1) (fun h1 => xpF h1 p0 0 2 (va_rf none) (fun h2 => if p2 = 0 then xgA h2 p0 0 3 (fun v3 => xpF h2 p0 0 3 (va_rf v3) (fun h4 => rtV h4)) else xpF h2 p0 0 3 (va_rf none) (fun h5 => rtV h5)))
noncomputable def f_X1_clear (p0 : Option Nat) (h : AH) : RS := xgA h p0 0 0 (fun v1 => xrc h v1 1 (xcI (f_X2_size v1 h) (fun v3 h2 => xnO h2 1 3 fsX2 (fun a4 h5 => xnA h5 0 0 (fun a6 h7 => xnA h7 0 0 (fun a8 h9 => xgA h9 p0 0 0 (fun v10 => xgI h9 v10 1 2 (fun v11 => xnn a4 (xcV (f_X2_init a4 a6 a8 v11 h9) (fun h12 => xrc h12 p0 0 (xcV (f_X1_set p0 a4 1 h12) (fun h13 => rtI v3 h13))))))))))))
def f_X1_size (p0 : Option Nat) (h : AH) : RS := xgA h p0 0 0 (fun v1 => xrc h v1 1 (xcI (f_X2_size v1 h) (fun v3 h2 => rtI v3 h2)))
def f_X1_entryCount (p0 : Option Nat) (h : AH) : RS := xgA h p0 0 0 (fun v1 => xgA h v1 1 1 (fun v2 => xaL h v2 (fun v3 => rtI v3 h)))
noncomputable def f_X1_recover (p0 : Option Nat) (h : AH) : RS := xnO h 4 9 fsX5 (fun a1 h2 => xgA h2 p0 0 0 (fun v3 => xnn a1 (xcV (f_X5_init a1 v3 h2) (fun h4 => xpF h4 p0 0 2 (va_rf a1) (fun h5 => xgA h5 p0 0 2 (fun v6 => xgA h5 v6 4 8 (fun v7 => xrc h5 v7 13 (xcI (f_J20_cardinality v7 h5) (fun v9 h8 => rtI v9 h8)))))))))
def f_X1_save (p0 : Option Nat) (h : AH) : RS := xgA h p0 0 0 (fun v1 => xpF h p0 0 1 (va_rf v1) (fun h2 => rtV h2))
def f_X1_appendCharacter_J25 (x5 : Option Nat) (x6 : Int32) (y7 : Int32) (h8 : AH) : RS := xcV (f_X1_requireState y7 h8) (fun h9 => xgA h9 x5 0 4 (fun v10 => xgI h9 x5 0 5 (fun v11 => xsI h9 v10 2 v11 ((x6.toUInt32 % 65536).toInt32) (fun h12 => xgI h12 x5 0 5 (fun v13 => xpF h12 x5 0 5 (.int (v13 + 1)) (fun h14 => xgI h14 x5 0 5 (fun v15 => rtI v15 h14)))))))
def f_X1_appendCharacter (p0 : Option Nat) (p1 : Int32) (h : AH) : RS := xcI (f_X1_isBetween p1 33 126 h) (fun v2 h1 => xcV (f_X1_requireArgument v2 h1) (fun h3 => xgI h3 p0 0 5 (fun v4 => if 60 ≤ v4 then f_X1_appendCharacter_J25 p0 p1 0 h3 else f_X1_appendCharacter_J25 p0 p1 1 h3)))
def f_X1_digitAt_J19 (x2 : Int32) (y3 : Int32) (h4 : AH) : RS := xcI (f_X1_isBetween y3 48 57 h4) (fun v6 h5 => if v6 = 0 then xcI (f_X1_isBetween y3 97 102 h5) (fun v8 h7 => if v8 = 0 then xnO h7 3 7 fsX4 (fun a9 h10 => xnn a9 (xcV (f_X4_init a9 x2 h10) (fun h11 => xat h11 a9 3 (fun q12 => some (.inr ("CodeRecovery$FaultException", q12), h11))))) else rtI ((y3 - 97) + 10) h7) else rtI (y3 - 48) h5)
def f_X1_digitAt (p0 : Option Nat) (p1 : Int32) (h : AH) : RS := xgI h p0 0 5 (fun v1 => if v1 ≤ p1 then f_X1_digitAt_J19 p1 32 h else xgA h p0 0 4 (fun v15 => xlI h v15 2 p1 (fun v16 => f_X1_digitAt_J19 p1 v16 h)))
noncomputable def f_X1_readBytes_J22 (rc : Option Nat → Option Nat → Int32 → AH → RS) (k52 : Option Nat → AH → RS) (x9 : Option Nat) (x10 : Option Nat) (x11 : Int32)  (h12 : AH) : RS := xrc h12 x9 0 (xcI (f_X1_digitAt x9 x11 h12) (fun v14 h13 => xrc h13 x9 0 (xcI (f_X1_digitAt x9 (x11 + 1) h13) (fun v16 h15 => xcA (f_J9_valueOf ((16 * v14) + v16) h15) (fun v18 h17 => xrc h17 x10 10 (xcI (f_J7_add x10 v18 h17) (fun v20 h19 => rc x9 x10 (x11 + 2) h19)))))))
noncomputable def f_X1_readBytes_L10 (k52 : Option Nat → AH → RS) : Nat → Option Nat → Option Nat → Int32 → AH → RS
  | 0, _, _, _, _ => none
  | n + 1, x4, x5, x6, h7 => xgI h7 x4 0 5 (fun v8 => if x6 < v8 then f_X1_readBytes_J22 (f_X1_readBytes_L10 k52 n) k52 x4 x5 x6 h7 else if ¬ x6 = 0 then k52 x5 h7 else f_X1_readBytes_J22 (f_X1_readBytes_L10 k52 n) k52 x4 x5 x6 h7)
noncomputable def f_X1_readBytes_L61 (k87 : Option Nat → AH → RS) : Nat → Option Nat → Option Nat → Int32 → AH → RS
  | 0, _, _, _, _ => none
  | n + 1, x29, x30, x31, h32 => xaL h32 x30 (fun v33 => if v33 ≤ x31 then k87 x30 h32 else xrc h32 x29 10 (xcA (f_J7_get x29 x31 h32) (fun v35 h34 => xck h34 v35 [11] (xrc h34 v35 11 (xcI (f_J9_intValue v35 h34) (fun v37 h36 => xsI h36 x30 0 x31 v37 (fun h38 => f_X1_readBytes_L61 k87 n x29 x30 (x31 + 1) h38)))))))
noncomputable def f_X1_readBytes (p0 : Option Nat) (h : AH) : RS := xnO h 10 3 fsJ7 (fun a1 h2 => xnn a1 (xcV (f_J7_init a1 h2) (fun h3 => f_X1_readBytes_L10 (fun x23 h24 => xrc h24 x23 10 (xcI (f_J7_size x23 h24) (fun v26 h25 => xnA h25 0 v26 (fun a27 h28 => f_X1_readBytes_L61 (fun x40 h41 => rtA x40 h41) FUEL x23 a27 0 h28)))) FUEL p0 a1 0 h3)))
noncomputable def f_X1_addBytes_J63 (x9 : Option Nat) (x10 : Option Nat) (y11 : Int32) (h12 : AH) : RS := xcV (f_X1_requireState y11 h12) (fun h13 => xgA h13 x9 0 0 (fun v14 => xrc h13 v14 1 (xcI (f_X2_size v14 h13) (fun v16 h15 => xaL h15 x10 (fun v17 => xnA h15 0 (v16 + v17) (fun a18 h19 => xgA h19 x9 0 0 (fun v20 => xgA h19 v20 1 0 (fun v21 => xgA h19 x9 0 0 (fun v22 => xrc h19 v22 1 (xcI (f_X2_size v22 h19) (fun v24 h23 => xcpI h23 v21 0 a18 0 v24 (fun h25 => xgA h25 x9 0 0 (fun v26 => xrc h25 v26 1 (xcI (f_X2_size v26 h25) (fun v28 h27 => xaL h27 x10 (fun v29 => xcpI h27 x10 0 a18 v28 v29 (fun h30 => xnO h30 1 3 fsX2 (fun a31 h32 => xgA h32 x9 0 0 (fun v33 => xgA h32 v33 1 1 (fun v34 => xgA h32 x9 0 0 (fun v35 => xgI h32 v35 1 2 (fun v36 => xnn a31 (xcV (f_X2_init a31 a18 v34 v36 h32) (fun h37 => xrc h37 x9 0 (xcV (f_X1_set x9 a31 1 h37) (fun h38 => xaL h38 a18 (fun v39 => rtI v39 h38)))))))))))))))))))))))))))
noncomputable def f_X1_addBytes (p0 : Option Nat) (h : AH) : RS := xrc h p0 0 (xcAX (f_X1_readBytes p0 h) (fun v2 h1 => xpF h1 p0 0 6 (.int (-1)) (fun h3 => xpF h3 p0 0 5 (.int 0) (fun h4 => xgA h4 p0 0 0 (fun v5 => xrc h4 v5 1 (xcI (f_X2_size v5 h4) (fun v7 h6 => xaL h6 v2 (fun v8 => if 96 < (v7 + v8) then f_X1_addBytes_J63 p0 v2 0 h6 else f_X1_addBytes_J63 p0 v2 1 h6))))))) (fun E41 q42 h43 => if E41 = "CodeRecovery$FaultException" then xgI h43 (some q42) 3 6 (fun v44 => xpF h43 p0 0 6 (.int v44) (fun h45 => xmk h45 14 (fun a46 h47 => xat h47 a46 14 (fun q48 => xpF h47 p0 0 5 (.int 0) (fun h49 => xat h49 (some q48) 14 (fun q50 => some (.inr ("java/lang/IllegalArgumentException", q50), h49))))))) else none))
def f_X1_requireAddress (p0 : Option Nat) (p1 : Int32) (h : AH) : RS := xgA h p0 0 0 (fun v1 => xrc h v1 1 (xcI (f_X2_contains v1 p1 h) (fun v3 h2 => xcV (f_X1_requireIndex v3 h2) (fun h4 => rtV h4))))
def f_X1_setByte (p0 : Option Nat) (p1 : Int32) (p2 : Int32) (h : AH) : RS := xrc h p0 0 (xcV (f_X1_requireAddress p0 p1 h) (fun h1 => xcI (f_X1_isBetween p2 0 255 h1) (fun v3 h2 => xcV (f_X1_requireArgument v3 h2) (fun h4 => xgA h4 p0 0 0 (fun v5 => xgA h4 v5 1 0 (fun v6 => xclI h4 v6 (fun a7 h8 => xckA h8 a7 0 (xlI h8 a7 0 p1 (fun v9 => xsI h8 a7 0 p1 p2 (fun h10 => xnO h10 1 3 fsX2 (fun a11 h12 => xgA h12 p0 0 0 (fun v13 => xgA h12 v13 1 1 (fun v14 => xgA h12 p0 0 0 (fun v15 => xgI h12 v15 1 2 (fun v16 => xnn a11 (xcV (f_X2_init a11 a7 v14 v16 h12) (fun h17 => xrc h17 p0 0 (xcV (f_X1_set p0 a11 1 h17) (fun h18 => rtI v9 h18)))))))))))))))))))
def f_X1_byteAt (p0 : Option Nat) (p1 : Int32) (h : AH) : RS := xrc h p0 0 (xcV (f_X1_requireAddress p0 p1 h) (fun h1 => xgA h1 p0 0 0 (fun v2 => xgA h1 v2 1 0 (fun v3 => xlI h1 v3 0 p1 (fun v4 => rtI v4 h1)))))
noncomputable def f_X1_addEntry_J33 (x8 : Option Nat) (x9 : Int32) (y10 : Int32) (h11 : AH) : RS := xcV (f_X1_requireState y10 h11) (fun h12 => xgA h12 x8 0 0 (fun v13 => xgA h12 v13 1 1 (fun v14 => xaL h12 v14 (fun v15 => xnA h12 0 (v15 + 1) (fun a16 h17 => xgA h17 x8 0 0 (fun v18 => xgA h17 v18 1 1 (fun v19 => xgA h17 x8 0 0 (fun v20 => xgA h17 v20 1 1 (fun v21 => xaL h17 v21 (fun v22 => xcpI h17 v19 0 a16 0 v22 (fun h23 => xgA h23 x8 0 0 (fun v24 => xgA h23 v24 1 1 (fun v25 => xaL h23 v25 (fun v26 => xsI h23 a16 0 v26 x9 (fun h27 => xnO h27 1 3 fsX2 (fun a28 h29 => xgA h29 x8 0 0 (fun v30 => xgA h29 v30 1 0 (fun v31 => xgA h29 x8 0 0 (fun v32 => xgI h29 v32 1 2 (fun v33 => xnn a28 (xcV (f_X2_init a28 v31 a16 v33 h29) (fun h34 => xrc h34 x8 0 (xcV (f_X1_set x8 a28 0 h34) (fun h35 => xaL h35 a16 (fun v36 => rtI (v36 - 1) h35)))))))))))))))))))))))))
noncomputable def f_X1_addEntry_J32 (x5 : Option Nat) (x6 : Int32)  (h7 : AH) : RS := f_X1_addEntry_J33 x5 x6 0 h7
noncomputable def f_X1_addEntry (p0 : Option Nat) (p1 : Int32) (h : AH) : RS := xrc h p0 0 (xcV (f_X1_requireAddress p0 p1 h) (fun h1 => xgA h1 p0 0 0 (fun v2 => xgA h1 v2 1 1 (fun v3 => xaL h1 v3 (fun v4 => if 4 ≤ v4 then f_X1_addEntry_J32 p0 p1 h1 else xgA h1 p0 0 0 (fun v37 => xrc h1 v37 1 (xcI (f_X2_isEntry v37 p1 h1) (fun v39 h38 => if ¬ v39 = 0 then f_X1_addEntry_J32 p0 p1 h38 else f_X1_addEntry_J33 p0 p1 1 h38))))))))
noncomputable def f_X1_removeEntry (p0 : Option Nat) (p1 : Int32) (h : AH) : RS := xgA h p0 0 0 (fun v1 => xgA h v1 1 1 (fun v2 => xaL h v2 (fun v3 => xcI (f_X1_isBetween p1 0 (v3 - 1) h) (fun v5 h4 => xcV (f_X1_requireIndex v5 h4) (fun h6 => xgA h6 p0 0 0 (fun v7 => xgA h6 v7 1 1 (fun v8 => xlI h6 v8 0 p1 (fun v9 => xgA h6 p0 0 0 (fun v10 => xgA h6 v10 1 1 (fun v11 => xaL h6 v11 (fun v12 => xnA h6 0 (v12 - 1) (fun a13 h14 => xgA h14 p0 0 0 (fun v15 => xgA h14 v15 1 1 (fun v16 => xcpI h14 v16 0 a13 0 p1 (fun h17 => xgA h17 p0 0 0 (fun v18 => xgA h17 v18 1 1 (fun v19 => xaL h17 a13 (fun v20 => xcpI h17 v19 (p1 + 1) a13 p1 (v20 - p1) (fun h21 => xnO h21 1 3 fsX2 (fun a22 h23 => xgA h23 p0 0 0 (fun v24 => xgA h23 v24 1 0 (fun v25 => xgA h23 p0 0 0 (fun v26 => xgI h23 v26 1 2 (fun v27 => xnn a22 (xcV (f_X2_init a22 v25 a13 v27 h23) (fun h28 => xrc h28 p0 0 (xcV (f_X1_set p0 a22 0 h28) (fun h29 => rtI v9 h29))))))))))))))))))))))))))))
def f_X1_setThreshold (p0 : Option Nat) (p1 : Int32) (h : AH) : RS := xcI (f_X1_isBetween p1 1 30 h) (fun v2 h1 => xcV (f_X1_requireArgument v2 h1) (fun h3 => xgA h3 p0 0 0 (fun v4 => xgI h3 v4 1 2 (fun v5 => xnO h3 1 3 fsX2 (fun a6 h7 => xgA h7 p0 0 0 (fun v8 => xgA h7 v8 1 0 (fun v9 => xgA h7 p0 0 0 (fun v10 => xgA h7 v10 1 1 (fun v11 => xnn a6 (xcV (f_X2_init a6 v9 v11 p1 h7) (fun h12 => xrc h12 p0 0 (xcV (f_X1_set p0 a6 0 h12) (fun h13 => rtI v5 h13)))))))))))))
def f_X1_isValid (p0 : Option Nat) (p1 : Int32) (h : AH) : RS := xrc h p0 0 (xcV (f_X1_requireAddress p0 p1 h) (fun h1 => xgA h1 p0 0 0 (fun v2 => xrc h1 v2 1 (xcI (f_X2_isValid v2 p1 h1) (fun v4 h3 => rtZ v4 h3)))))
def f_X1_decode (p0 : Option Nat) (p1 : Int32) (p2 : Int32) (h : AH) : RS := xrc h p0 0 (xcV (f_X1_requireAddress p0 p1 h) (fun h1 => xcI (f_X1_isBetween p2 0 5 h1) (fun v3 h2 => xcV (f_X1_requireArgument v3 h2) (fun h4 => xgA h4 p0 0 0 (fun v5 => xrc h4 v5 1 (xcI (f_X2_isValid v5 p1 h4) (fun v7 h6 => xcV (f_X1_requireSupport v7 h6) (fun h8 => if p2 = 0 then xgA h8 p0 0 0 (fun v14 => xrc h8 v14 1 (xcI (f_X2_kind v14 p1 h8) (fun v16 h15 => rtI v16 h15))) else if p2 = 1 then xgA h8 p0 0 0 (fun v17 => xrc h8 v17 1 (xcI (f_X2_length v17 p1 h8) (fun v19 h18 => rtI v19 h18))) else if p2 = 2 then xgA h8 p0 0 0 (fun v20 => xrc h8 v20 1 (xcI (f_X2_first v20 p1 h8) (fun v22 h21 => rtI v22 h21))) else if p2 = 3 then xgA h8 p0 0 0 (fun v23 => xrc h8 v23 1 (xcI (f_X2_second v23 p1 h8) (fun v25 h24 => rtI v25 h24))) else if p2 = 4 then xgA h8 p0 0 0 (fun v26 => xrc h8 v26 1 (xcI (f_X2_hasOperand v26 p1 h8) (fun v28 h27 => xcV (f_X1_requireSupport v28 h27) (fun h29 => xgA h29 p0 0 0 (fun v30 => xrc h29 v30 1 (xcI (f_X2_operand v30 p1 h29) (fun v32 h31 => rtI v32 h31))))))) else xgA h8 p0 0 0 (fun v33 => xrc h8 v33 1 (xcI (f_X2_hasTarget v33 p1 h8) (fun v35 h34 => xcV (f_X1_requireSupport v35 h34) (fun h36 => xgA h36 p0 0 0 (fun v37 => xrc h36 v37 1 (xcI (f_X2_target v37 p1 h36) (fun v39 h38 => rtI v39 h38)))))))))))))))
def f_X1_recovered_J12 (x2 : Option Nat) (y3 : Int32) (h4 : AH) : RS := xcV (f_X1_requireState y3 h4) (fun h5 => xgA h5 x2 0 2 (fun v6 => rtA v6 h5))
def f_X1_recovered (p0 : Option Nat) (h : AH) : RS := xgA h p0 0 2 (fun v1 => if v1 = none then f_X1_recovered_J12 p0 0 h else f_X1_recovered_J12 p0 1 h)
def f_X1_accepted (p0 : Option Nat) (h : AH) : RS := xrc h p0 0 (xcA (f_X1_recovered p0 h) (fun v2 h1 => xgA h1 v2 4 8 (fun v3 => xrc h1 v3 13 (xcI (f_J20_cardinality v3 h1) (fun v5 h4 => rtI v5 h4)))))
def f_X1_acceptedAt_L31 (k51 : Int32 → AH → RS) : Nat → Int32 → Option Nat → Int32 → Int32 → AH → RS
  | 0, _, _, _, _, _ => none
  | n + 1, x11, x12, x13, x14, h15 => if x11 ≤ x14 then k51 x13 h15 else xrc h15 x12 13 (xcI (f_J20_nextSetBit x12 (x13 + 1) h15) (fun v17 h16 => f_X1_acceptedAt_L31 k51 n x11 x12 v17 (x14 + 1) h16))
def f_X1_acceptedAt (p0 : Option Nat) (p1 : Int32) (h : AH) : RS := xrc h p0 0 (xcA (f_X1_recovered p0 h) (fun v2 h1 => xgA h1 v2 4 8 (fun v3 => xrc h1 v3 13 (xcI (f_J20_cardinality v3 h1) (fun v5 h4 => xcI (f_X1_isBetween p1 0 (v5 - 1) h4) (fun v7 h6 => xcV (f_X1_requireIndex v7 h6) (fun h8 => xrc h8 v3 13 (xcI (f_J20_nextSetBit v3 0 h8) (fun v10 h9 => f_X1_acceptedAt_L31 (fun x19 h20 => rtI x19 h20) FUEL p1 v3 v10 0 h9)))))))))
def f_X1_use (p0 : Option Nat) (p1 : Int32) (h : AH) : RS := xrc h p0 0 (xcA (f_X1_recovered p0 h) (fun v2 h1 => xrc h1 p0 0 (xcV (f_X1_requireAddress p0 p1 h1) (fun h3 => xgA h3 v2 4 1 (fun v4 => xlI h3 v4 0 p1 (fun v5 => rtI v5 h3))))))
def f_X1_conflictCount (p0 : Option Nat) (h : AH) : RS := xrc h p0 0 (xcA (f_X1_recovered p0 h) (fun v2 h1 => xgA h1 v2 4 3 (fun v3 => xrc h1 v3 5 (xcI (f_X6_size v3 h1) (fun v5 h4 => rtI v5 h4)))))
def f_X1_conflict (p0 : Option Nat) (p1 : Int32) (h : AH) : RS := xrc h p0 0 (xcA (f_X1_recovered p0 h) (fun v2 h1 => xgA h1 v2 4 3 (fun v3 => xrc h1 v3 5 (xcA (f_X6_get v3 p1 h1) (fun v5 h4 => xck h4 v5 [11] (xrc h4 v5 11 (xcI (f_J9_intValue v5 h4) (fun v7 h6 => rtI v7 h6))))))))
def f_X1_badTargets (p0 : Option Nat) (h : AH) : RS := xrc h p0 0 (xcA (f_X1_recovered p0 h) (fun v2 h1 => xgA h1 v2 4 4 (fun v3 => xrc h1 v3 5 (xcI (f_X6_size v3 h1) (fun v5 h4 => rtI v5 h4)))))
def f_X1_tableCount (p0 : Option Nat) (h : AH) : RS := xrc h p0 0 (xcA (f_X1_recovered p0 h) (fun v2 h1 => xgA h1 v2 4 5 (fun v3 => xrc h1 v3 10 (xcI (f_J7_size v3 h1) (fun v5 h4 => rtI v5 h4)))))
def f_X1_table (p0 : Option Nat) (p1 : Int32) (p2 : Int32) (h : AH) : RS := xrc h p0 0 (xcA (f_X1_recovered p0 h) (fun v2 h1 => xgA h1 v2 4 5 (fun v3 => xcI (f_X1_partOf v3 p1 p2 3 h1) (fun v5 h4 => rtI v5 h4))))
def f_X1_requireTable (p0 : Option Nat) (p1 : Int32) (h : AH) : RS := xrc h p0 0 (xcA (f_X1_recovered p0 h) (fun v2 h1 => xgA h1 v2 4 5 (fun v3 => xrc h1 v3 10 (xcI (f_J7_size v3 h1) (fun v5 h4 => xcI (f_X1_isBetween p1 0 (v5 - 1) h4) (fun v7 h6 => xcV (f_X1_requireIndex v7 h6) (fun h8 => xrc h8 v3 10 (xcA (f_J7_get v3 p1 h8) (fun v10 h9 => xck h9 v10 [6] (rtA v10 h9))))))))))
def f_X1_tableEntry (p0 : Option Nat) (p1 : Int32) (p2 : Int32) (h : AH) : RS := xrc h p0 0 (xcA (f_X1_requireTable p0 p1 h) (fun v2 h1 => xgA h1 v2 6 4 (fun v3 => xrc h1 v3 10 (xcI (f_J7_size v3 h1) (fun v5 h4 => xcI (f_X1_isBetween p2 0 (v5 - 1) h4) (fun v7 h6 => xcV (f_X1_requireIndex v7 h6) (fun h8 => xgA h8 v2 6 4 (fun v9 => xrc h8 v9 10 (xcA (f_J7_get v9 p2 h8) (fun v11 h10 => xck h10 v11 [11] (xrc h10 v11 11 (xcI (f_J9_intValue v11 h10) (fun v13 h12 => rtI v13 h12)))))))))))))
def f_X1_isComplete_L11 (k54 : Int32 → AH → RS) : Nat → Option Nat → Option Nat → Int32 → Int32 → AH → RS
  | 0, _, _, _, _, _ => none
  | n + 1, x3, x4, x5, x6, h7 => xgA h7 x4 6 4 (fun v8 => xrc h7 v8 10 (xcI (f_J7_size v8 h7) (fun v10 h9 => if v10 ≤ x6 then k54 x5 h9 else xgA h9 x3 0 2 (fun v11 => xgA h9 x4 6 4 (fun v12 => xrc h9 v12 10 (xcA (f_J7_get v12 x6 h9) (fun v14 h13 => xck h13 v14 [11] (xrc h13 v14 11 (xcI (f_J9_intValue v14 h13) (fun v16 h15 => xrc h15 v11 4 (xcI (f_X5_isAccepted v11 v16 h15) (fun v18 h17 => f_X1_isComplete_L11 k54 n x3 x4 (x5 &&& v18) (x6 + 1) h17))))))))))))
def f_X1_isComplete (p0 : Option Nat) (p1 : Int32) (h : AH) : RS := xrc h p0 0 (xcA (f_X1_requireTable p0 p1 h) (fun v2 h1 => f_X1_isComplete_L11 (fun x20 h21 => rtZ x20 h21) FUEL p0 v2 1 0 h1))
def f_X1_gapCount (p0 : Option Nat) (h : AH) : RS := xrc h p0 0 (xcA (f_X1_recovered p0 h) (fun v2 h1 => xgA h1 v2 4 6 (fun v3 => xrc h1 v3 10 (xcI (f_J7_size v3 h1) (fun v5 h4 => rtI v5 h4)))))
def f_X1_gap (p0 : Option Nat) (p1 : Int32) (p2 : Int32) (h : AH) : RS := xrc h p0 0 (xcA (f_X1_recovered p0 h) (fun v2 h1 => xgA h1 v2 4 6 (fun v3 => xcI (f_X1_partOf v3 p1 p2 2 h1) (fun v5 h4 => rtI v5 h4))))
def f_X1_speculative (p0 : Option Nat) (h : AH) : RS := xrc h p0 0 (xcA (f_X1_recovered p0 h) (fun v2 h1 => xrc h1 v2 4 (xcI (f_X5_countSpeculative v2 h1) (fun v4 h3 => rtI v4 h3))))
def f_X1_blockCount (p0 : Option Nat) (h : AH) : RS := xrc h p0 0 (xcA (f_X1_recovered p0 h) (fun v2 h1 => xgA h1 v2 4 7 (fun v3 => xrc h1 v3 10 (xcI (f_J7_size v3 h1) (fun v5 h4 => rtI v5 h4)))))
def f_X1_block (p0 : Option Nat) (p1 : Int32) (p2 : Int32) (h : AH) : RS := xrc h p0 0 (xcA (f_X1_recovered p0 h) (fun v2 h1 => xgA h1 v2 4 7 (fun v3 => xcI (f_X1_partOf v3 p1 p2 2 h1) (fun v5 h4 => rtI v5 h4))))
noncomputable def f_X1_functionCount (p0 : Option Nat) (h : AH) : RS := xrc h p0 0 (xcA (f_X1_recovered p0 h) (fun v2 h1 => xrc h1 v2 4 (xcA (f_X5_findHeads v2 h1) (fun v4 h3 => xrc h3 v4 13 (xcI (f_J20_cardinality v4 h3) (fun v6 h5 => rtI v6 h5))))))
noncomputable def f_X1_functionSize (p0 : Option Nat) (p1 : Int32) (h : AH) : RS := xrc h p0 0 (xcA (f_X1_recovered p0 h) (fun v2 h1 => xrc h1 p0 0 (xcV (f_X1_requireAddress p0 p1 h1) (fun h3 => xrc h3 v2 4 (xcA (f_X5_findHeads v2 h3) (fun v5 h4 => xrc h4 v5 13 (xcI (f_J20_get v5 p1 h4) (fun v7 h6 => if ¬ v7 = 0 then xrc h6 v2 4 (xcI (f_X5_countReached v2 p1 h6) (fun v9 h8 => rtI v9 h8)) else xmk h6 18 (fun a10 h11 => xat h11 a10 18 (fun q12 => some (.inr ("java/util/NoSuchElementException", q12), h11)))))))))))
noncomputable def f_X1_run (p0 : Option Nat) (p1 : Int32) (h : AH) : RS := xrc h p0 0 (xcV (f_X1_requireAddress p0 p1 h) (fun h1 => xnO h1 9 6 fsX10 (fun a2 h3 => xgA h3 p0 0 0 (fun v4 => xnn a2 (xcV (f_X10_init a2 v4 p1 h3) (fun h5 => xpF h5 p0 0 3 (va_rf a2) (fun h6 => xgA h6 p0 0 3 (fun v7 => xgI h6 v7 9 5 (fun v8 => rtI v8 h6)))))))))
def f_X1_latestRun_J12 (x2 : Option Nat) (y3 : Int32) (h4 : AH) : RS := xcV (f_X1_requireState y3 h4) (fun h5 => xgA h5 x2 0 3 (fun v6 => rtA v6 h5))
def f_X1_latestRun (p0 : Option Nat) (h : AH) : RS := xgA h p0 0 3 (fun v1 => if v1 = none then f_X1_latestRun_J12 p0 0 h else f_X1_latestRun_J12 p0 1 h)
def f_X1_executedAt (p0 : Option Nat) (p1 : Int32) (h : AH) : RS := xrc h p0 0 (xcA (f_X1_latestRun p0 h) (fun v2 h1 => xrc h1 p0 0 (xcV (f_X1_requireAddress p0 p1 h1) (fun h3 => xgA h3 v2 9 2 (fun v4 => xlI h3 v4 0 p1 (fun v5 => rtI v5 h3))))))
def f_X1_unrecovered_J50 (rc : Option Nat → Option Nat → Int32 → Int32 → AH → RS) (k58 : Int32 → AH → RS) (x19 : Option Nat) (x20 : Option Nat) (x21 : Int32) (y22 : Int32) (y23 : Int32) (h24 : AH) : RS := rc x19 x20 (y23 + y22) (x21 + 1) h24
def f_X1_unrecovered_J49 (rc : Option Nat → Option Nat → Int32 → Int32 → AH → RS) (k58 : Int32 → AH → RS) (x14 : Option Nat) (x15 : Option Nat) (x16 : Int32) (y17 : Int32) (h18 : AH) : RS := f_X1_unrecovered_J50 rc k58 x14 x15 x16 0 y17 h18
def f_X1_unrecovered_L15 (k58 : Int32 → AH → RS) : Nat → Option Nat → Option Nat → Int32 → Int32 → AH → RS
  | 0, _, _, _, _, _ => none
  | n + 1, x5, x6, x7, x8, h9 => xgA h9 x6 9 2 (fun v10 => xaL h9 v10 (fun v11 => if v11 ≤ x8 then k58 x7 h9 else xgA h9 x6 9 2 (fun v12 => xlI h9 v12 0 x8 (fun v13 => if v13 ≤ 0 then f_X1_unrecovered_J49 (f_X1_unrecovered_L15 k58 n) k58 x5 x6 x8 x7 h9 else xrc h9 x5 4 (xcI (f_X5_isAccepted x5 x8 h9) (fun v26 h25 => if ¬ v26 = 0 then f_X1_unrecovered_J49 (f_X1_unrecovered_L15 k58 n) k58 x5 x6 x8 x7 h25 else f_X1_unrecovered_J50 (f_X1_unrecovered_L15 k58 n) k58 x5 x6 x8 1 x7 h25))))))
def f_X1_unrecovered (p0 : Option Nat) (h : AH) : RS := xrc h p0 0 (xcA (f_X1_recovered p0 h) (fun v2 h1 => xrc h1 p0 0 (xcA (f_X1_latestRun p0 h1) (fun v4 h3 => f_X1_unrecovered_L15 (fun x30 h31 => rtI x30 h31) FUEL v2 v4 0 0 h3))))
def f_X1_register (p0 : Option Nat) (p1 : Int32) (h : AH) : RS := xrc h p0 0 (xcA (f_X1_latestRun p0 h) (fun v2 h1 => xcI (f_X1_isBetween p1 0 3 h1) (fun v4 h3 => xcV (f_X1_requireIndex v4 h3) (fun h5 => xgA h5 v2 9 1 (fun v6 => xlI h5 v6 0 p1 (fun v7 => rtI v7 h5))))))
def f_X1_coverage (p0 : Option Nat) (h : AH) : RS := xrc h p0 0 (xcA (f_X1_recovered p0 h) (fun v2 h1 => xgA h1 p0 0 0 (fun v3 => xrc h1 v3 1 (xcI (f_X2_size v3 h1) (fun v5 h4 => xcV (f_X1_requireDivisor v5 h4) (fun h6 => xrc h6 v2 4 (xcI (f_X5_countBytes v2 h6) (fun v8 h7 => xgA h7 p0 0 0 (fun v9 => xrc h7 v9 1 (xcI (f_X2_size v9 h7) (fun v11 h10 => xdd (FP.i2d v8) (FP.i2d v11) (fun v12 => rtD v12 h10))))))))))))
def f_X1_averageBlock (p0 : Option Nat) (h : AH) : RS := xrc h p0 0 (xcA (f_X1_recovered p0 h) (fun v2 h1 => xgA h1 v2 4 7 (fun v3 => xrc h1 v3 10 (xcI (f_J7_size v3 h1) (fun v5 h4 => xcV (f_X1_requireDivisor v5 h4) (fun h6 => xrc h6 v2 4 (xcI (f_X5_countInBlocks v2 h6) (fun v8 h7 => xgA h7 v2 4 7 (fun v9 => xrc h7 v9 10 (xcI (f_J7_size v9 h7) (fun v11 h10 => xfd (FP.i2f v8) (FP.i2f v11) (fun v12 => rtF v12 h10))))))))))))
def f_X1_restore_J12 (x2 : Option Nat) (y3 : Int32) (h4 : AH) : RS := xcV (f_X1_requireState y3 h4) (fun h5 => xgA h5 x2 0 1 (fun v6 => xrc h5 x2 0 (xcV (f_X1_set x2 v6 1 h5) (fun h7 => rtV h7))))
def f_X1_restore (p0 : Option Nat) (h : AH) : RS := xgA h p0 0 1 (fun v1 => if v1 = none then f_X1_restore_J12 p0 0 h else f_X1_restore_J12 p0 1 h)
abbrev FR_X1_init : Nat := 2
abbrev LO_X1_init : Nat := 39
theorem dyX1_init : DY yX1_init 0 := ⟨⟨by decide, by decide⟩, by decide +kernel⟩
theorem sm_X1_init {G : GC} {K : SC} (hK : SOK G K RX1 cX1_init 1 (none) "<init>" []) (hf : FR_X1_init ≤ (kR K).frames) (hlo : LO_X1_init ≤ (kR K).locals) (p0 : Option Nat) (h : AH) : Sim G K 1 (f_X1_init p0 h) h 0 [(0, va_rf p0)] [] := by
  unfold f_X1_init
  refine s_aload_n hK dX1_init_0 rfl 0 rfl ?_
  refine s_oinit hK q123 q124 q125 dX1_init_1 (Nat.le_trans (Nat.le_of_ble_eq_true rfl) hf) rk_n (Nat.le_trans (Nat.le_of_ble_eq_true rfl) hlo) ?_
  refine s_aload_n hK dX1_init_4 rfl 0 rfl ?_
  refine s_new hK fcX2 q126 q127 q79 fsX2_ok dX1_init_5 (fun a1 h2 => ?_)
  refine s_dup hK dX1_init_8 (va_cat _) ?_
  refine s_iconst (v := 0) hK dX1_init_9 rfl ?_
  refine s_newI hK dX1_init_10 (fun a3 h4 => ?_)
  refine s_iconst (v := 0) hK dX1_init_12 rfl ?_
  refine s_newI hK dX1_init_13 (fun a5 h6 => ?_)
  refine s_iconst (v := 4) hK dX1_init_15 rfl ?_
  refine s_nn (fun _ eo => ?_)
  refine s_cV hK ho_n (cx_i (As := [va_rf a3, va_rf a5, .int 4]) (rest := [va_rf a1, va_rf p0]) hK dyX2_init rfl q128 rfl q129 q79 q130 eo (ct_X2_init hK.1 a1 a3 a5 4 h6) (Nat.le_trans (Nat.le_of_ble_eq_true rfl) hf) (Nat.le_trans (Nat.le_of_ble_eq_true rfl) hlo) (rk_a (rk_a rk_n)) (Nat.le_of_ble_eq_true rfl) dX1_init_16 rfl) (fun h7 => ?_)
  refine s_pF hK fcX1 0 (Nat.le_of_ble_eq_true rfl) (Or.inl q150) (Or.inl rfl) (Or.inl rfl) (nr_o _) (ft_o _) dX1_init_19 (fun h8 => ?_)
  refine s_aload_n hK dX1_init_22 rfl 0 rfl ?_
  refine s_bipush (v := 60) hK dX1_init_23 rfl ?_
  refine s_newC hK dX1_init_25 (fun a9 h10 => ?_)
  refine s_pF hK fcX1 4 (Nat.le_of_ble_eq_true rfl) (Or.inl q154) (Or.inl rfl) (Or.inr ⟨rfl, rfl, rfl, q154⟩) (nr_r _) (ft_r _) dX1_init_27 (fun h11 => ?_)
  refine s_aload_n hK dX1_init_30 rfl 0 rfl ?_
  refine s_iconst (v := (-1)) hK dX1_init_31 rfl ?_
  refine s_pF hK fcX1 6 (Nat.le_of_ble_eq_true rfl) (Or.inl q156) (Or.inl rfl) (Or.inl rfl) rfl rfl dX1_init_32 (fun h12 => ?_)
  exact s_vret hK dX1_init_35
theorem ct_X1_init {G : GC} {l : Launch} (g : GOK G l) (p0 : Option Nat) (h : AH) : CT G l yX1_init (Cond.code yX1_init cX1_init 1 (none)) 2 39 [va_rf p0] (f_X1_init p0 h) h :=
  CT.of g (by decide) (by simp only [ls_a, ls_i, ls_l, ls_n]; decide) (fun K _ hK hf hlo => by simp only [la_a, la_i, la_l, la_n]; exact sm_X1_init hK hf hlo p0 h)
abbrev FR_X1_faultPosition : Nat := 1
abbrev LO_X1_faultPosition : Nat := 16
theorem dyX1_faultPosition : DY yX1_faultPosition 0 := ⟨⟨by decide, by decide⟩, by decide +kernel⟩
theorem sm_X1_faultPosition {G : GC} {K : SC} (hK : SOK G K RX1 cX1_faultPosition 1 (some (.int)) "faultPosition" []) (hf : FR_X1_faultPosition ≤ (kR K).frames) (hlo : LO_X1_faultPosition ≤ (kR K).locals) (p0 : Option Nat) (h : AH) : Sim G K 1 (f_X1_faultPosition p0 h) h 0 [(0, va_rf p0)] [] := by
  unfold f_X1_faultPosition
  refine s_aload_n hK dX1_faultPosition_0 rfl 0 rfl ?_
  refine s_gI hK fcX1 6 (Nat.le_of_ble_eq_true rfl) (Or.inl q156) (Or.inl rfl) dX1_faultPosition_1 (fun v1 => ?_)
  exact s_iret hK dX1_faultPosition_4
theorem ct_X1_faultPosition {G : GC} {l : Launch} (g : GOK G l) (p0 : Option Nat) (h : AH) : CT G l yX1_faultPosition (Cond.code yX1_faultPosition cX1_faultPosition 1 (some (.int))) 1 16 [va_rf p0] (f_X1_faultPosition p0 h) h :=
  CT.of g (by decide) (by simp only [ls_a, ls_i, ls_l, ls_n]; decide) (fun K _ hK hf hlo => by simp only [la_a, la_i, la_l, la_n]; exact sm_X1_faultPosition hK hf hlo p0 h)
abbrev FR_X1_set : Nat := 1
abbrev LO_X1_set : Nat := 16
theorem dyX1_set : DY yX1_set 2 := ⟨⟨by decide, by decide⟩, by decide +kernel⟩
theorem sm_X1_set {G : GC} {K : SC} (hK : SOK G K RX1 cX1_set 3 (none) "set" []) (hf : FR_X1_set ≤ (kR K).frames) (hlo : LO_X1_set ≤ (kR K).locals) (p0 : Option Nat) (p1 : Option Nat) (p2 : Int32) (h : AH) : Sim G K 3 (f_X1_set p0 p1 p2 h) h 0 [(0, va_rf p0), (1, va_rf p1), (2, .int p2)] [] := by
  unfold f_X1_set
  refine s_aload_n hK dX1_set_0 rfl 0 rfl ?_
  refine s_aload_n hK dX1_set_1 rfl 1 rfl ?_
  refine s_pF hK fcX1 0 (Nat.le_of_ble_eq_true rfl) (Or.inl q150) (Or.inl rfl) (Or.inl rfl) (nr_o _) (ft_o _) dX1_set_2 (fun h1 => ?_)
  refine s_aload_n hK dX1_set_5 rfl 0 rfl ?_
  refine s_null hK dX1_set_6 ?_
  refine s_pF hK fcX1 2 (Nat.le_of_ble_eq_true rfl) (Or.inl q152) (Or.inl rfl) (Or.inl rfl) (nr_o _) (ft_o _) dX1_set_7 (fun h2 => ?_)
  refine s_aload_n hK dX1_set_10 rfl 0 rfl ?_
  refine s_iload_n hK dX1_set_11 rfl 2 rfl ?_
  refine s_if_eq (tgt := 19) hK dX1_set_12 (by decide) (fun c6 => ?_) (fun c6 => ?_)
  · refine s_aload_n hK dX1_set_19 rfl 0 rfl ?_
    refine s_gA hK fcX1 3 (Nat.le_of_ble_eq_true rfl) (Or.inl q153) (Or.inl rfl) dX1_set_20 (fun v3 => ?_)
    refine s_pF hK fcX1 3 (Nat.le_of_ble_eq_true rfl) (Or.inl q153) (Or.inl rfl) (Or.inl rfl) (nr_o _) (ft_o _) dX1_set_23 (fun h4 => ?_)
    exact s_vret hK dX1_set_26
  · refine s_null hK dX1_set_15 ?_
    refine s_goto (tgt := 23) hK dX1_set_16 (by decide) ?_
    refine s_pF hK fcX1 3 (Nat.le_of_ble_eq_true rfl) (Or.inl q153) (Or.inl rfl) (Or.inl rfl) (nr_o _) (ft_o _) dX1_set_23 (fun h5 => ?_)
    exact s_vret hK dX1_set_26
theorem ct_X1_set {G : GC} {l : Launch} (g : GOK G l) (p0 : Option Nat) (p1 : Option Nat) (p2 : Int32) (h : AH) : CT G l yX1_set (Cond.code yX1_set cX1_set 3 (none)) 1 16 [va_rf p0, va_rf p1, .int p2] (f_X1_set p0 p1 p2 h) h :=
  CT.of g (by decide) (by simp only [ls_a, ls_i, ls_l, ls_n]; decide) (fun K _ hK hf hlo => by simp only [la_a, la_i, la_l, la_n]; exact sm_X1_set hK hf hlo p0 p1 p2 h)
abbrev FR_X1_clear : Nat := 2
abbrev LO_X1_clear : Nat := 39
theorem dyX1_clear : DY yX1_clear 0 := ⟨⟨by decide, by decide⟩, by decide +kernel⟩
theorem sm_X1_clear {G : GC} {K : SC} (hK : SOK G K RX1 cX1_clear 2 (some (.int)) "clear" []) (hf : FR_X1_clear ≤ (kR K).frames) (hlo : LO_X1_clear ≤ (kR K).locals) (p0 : Option Nat) (h : AH) : Sim G K 2 (f_X1_clear p0 h) h 0 [(0, va_rf p0)] [] := by
  unfold f_X1_clear
  refine s_aload_n hK dX1_clear_0 rfl 0 rfl ?_
  refine s_gA hK fcX1 0 (Nat.le_of_ble_eq_true rfl) (Or.inl q150) (Or.inl rfl) dX1_clear_1 (fun v1 => ?_)
  refine s_rc (fun _ _ eo er => ?_)
  refine s_cI hK ho_n (cx_v (As := []) (rest := []) hK dyX2_size rfl q181 fcX2.1 q182 q183 q79 q184 eo er (ct_X2_size hK.1 v1 h) (Nat.le_trans (Nat.le_of_ble_eq_true rfl) hf) (Nat.le_trans (Nat.le_of_ble_eq_true rfl) hlo) rk_n (Nat.le_of_ble_eq_true rfl) dX1_clear_4 rfl) (fun v3 h2 => ?_)
  refine s_istore_n (lv' := [(1, .int v3), (0, va_rf p0)]) hK dX1_clear_7 rfl (Nat.le_of_ble_eq_true rfl) (flA (pre := []) (suf := []) rfl rfl) ?_
  refine s_aload_n hK dX1_clear_8 rfl 1 rfl ?_
  refine s_new hK fcX2 q126 q127 q79 fsX2_ok dX1_clear_9 (fun a4 h5 => ?_)
  refine s_dup hK dX1_clear_12 (va_cat _) ?_
  refine s_iconst (v := 0) hK dX1_clear_13 rfl ?_
  refine s_newI hK dX1_clear_14 (fun a6 h7 => ?_)
  refine s_iconst (v := 0) hK dX1_clear_16 rfl ?_
  refine s_newI hK dX1_clear_17 (fun a8 h9 => ?_)
  refine s_aload_n hK dX1_clear_19 rfl 1 rfl ?_
  refine s_gA hK fcX1 0 (Nat.le_of_ble_eq_true rfl) (Or.inl q150) (Or.inl rfl) dX1_clear_20 (fun v10 => ?_)
  refine s_gI hK fcX2 2 (Nat.le_of_ble_eq_true rfl) (Or.inr ⟨_, q141⟩) (Or.inl rfl) dX1_clear_23 (fun v11 => ?_)
  refine s_nn (fun _ eo => ?_)
  refine s_cV hK ho_n (cx_i (As := [va_rf a6, va_rf a8, .int v11]) (rest := [va_rf a4, va_rf p0]) hK dyX2_init rfl q128 rfl q129 q79 q130 eo (ct_X2_init hK.1 a4 a6 a8 v11 h9) (Nat.le_trans (Nat.le_of_ble_eq_true rfl) hf) (Nat.le_trans (Nat.le_of_ble_eq_true rfl) hlo) (rk_a (rk_a rk_n)) (Nat.le_of_ble_eq_true rfl) dX1_clear_26 rfl) (fun h12 => ?_)
  refine s_iconst (v := 1) hK dX1_clear_29 rfl ?_
  refine s_rc (fun _ _ eo er => ?_)
  refine s_cV hK ho_n (cx_v (As := [va_rf a4, .int 1]) (rest := []) hK dyX1_set rfl q185 fcX1.1 q187 qs0 q78 q188 eo er (ct_X1_set hK.1 p0 a4 1 h12) (Nat.le_trans (Nat.le_of_ble_eq_true rfl) hf) (Nat.le_trans (Nat.le_of_ble_eq_true rfl) hlo) rk_n (Nat.le_of_ble_eq_true rfl) dX1_clear_30 rfl) (fun h13 => ?_)
  refine s_iload_n hK dX1_clear_33 rfl 0 rfl ?_
  exact s_iret hK dX1_clear_34
theorem ct_X1_clear {G : GC} {l : Launch} (g : GOK G l) (p0 : Option Nat) (h : AH) : CT G l yX1_clear (Cond.code yX1_clear cX1_clear 2 (some (.int))) 2 39 [va_rf p0] (f_X1_clear p0 h) h :=
  CT.of g (by decide) (by simp only [ls_a, ls_i, ls_l, ls_n]; decide) (fun K _ hK hf hlo => by simp only [la_a, la_i, la_l, la_n]; exact sm_X1_clear hK hf hlo p0 h)
abbrev FR_X1_size : Nat := 2
abbrev LO_X1_size : Nat := 36
theorem dyX1_size : DY yX1_size 0 := ⟨⟨by decide, by decide⟩, by decide +kernel⟩
theorem sm_X1_size {G : GC} {K : SC} (hK : SOK G K RX1 cX1_size 1 (some (.int)) "size" []) (hf : FR_X1_size ≤ (kR K).frames) (hlo : LO_X1_size ≤ (kR K).locals) (p0 : Option Nat) (h : AH) : Sim G K 1 (f_X1_size p0 h) h 0 [(0, va_rf p0)] [] := by
  unfold f_X1_size
  refine s_aload_n hK dX1_size_0 rfl 0 rfl ?_
  refine s_gA hK fcX1 0 (Nat.le_of_ble_eq_true rfl) (Or.inl q150) (Or.inl rfl) dX1_size_1 (fun v1 => ?_)
  refine s_rc (fun _ _ eo er => ?_)
  refine s_cI hK ho_n (cx_v (As := []) (rest := []) hK dyX2_size rfl q181 fcX2.1 q182 q183 q79 q184 eo er (ct_X2_size hK.1 v1 h) (Nat.le_trans (Nat.le_of_ble_eq_true rfl) hf) (Nat.le_trans (Nat.le_of_ble_eq_true rfl) hlo) rk_n (Nat.le_of_ble_eq_true rfl) dX1_size_4 rfl) (fun v3 h2 => ?_)
  exact s_iret hK dX1_size_7
theorem ct_X1_size {G : GC} {l : Launch} (g : GOK G l) (p0 : Option Nat) (h : AH) : CT G l yX1_size (Cond.code yX1_size cX1_size 1 (some (.int))) 2 36 [va_rf p0] (f_X1_size p0 h) h :=
  CT.of g (by decide) (by simp only [ls_a, ls_i, ls_l, ls_n]; decide) (fun K _ hK hf hlo => by simp only [la_a, la_i, la_l, la_n]; exact sm_X1_size hK hf hlo p0 h)
abbrev FR_X1_entryCount : Nat := 1
abbrev LO_X1_entryCount : Nat := 16
theorem dyX1_entryCount : DY yX1_entryCount 0 := ⟨⟨by decide, by decide⟩, by decide +kernel⟩
theorem sm_X1_entryCount {G : GC} {K : SC} (hK : SOK G K RX1 cX1_entryCount 1 (some (.int)) "entryCount" []) (hf : FR_X1_entryCount ≤ (kR K).frames) (hlo : LO_X1_entryCount ≤ (kR K).locals) (p0 : Option Nat) (h : AH) : Sim G K 1 (f_X1_entryCount p0 h) h 0 [(0, va_rf p0)] [] := by
  unfold f_X1_entryCount
  refine s_aload_n hK dX1_entryCount_0 rfl 0 rfl ?_
  refine s_gA hK fcX1 0 (Nat.le_of_ble_eq_true rfl) (Or.inl q150) (Or.inl rfl) dX1_entryCount_1 (fun v1 => ?_)
  refine s_gA hK fcX2 1 (Nat.le_of_ble_eq_true rfl) (Or.inr ⟨_, q138⟩) (Or.inl rfl) dX1_entryCount_4 (fun v2 => ?_)
  refine s_alen hK dX1_entryCount_7 (fun v3 => ?_)
  exact s_iret hK dX1_entryCount_8
theorem ct_X1_entryCount {G : GC} {l : Launch} (g : GOK G l) (p0 : Option Nat) (h : AH) : CT G l yX1_entryCount (Cond.code yX1_entryCount cX1_entryCount 1 (some (.int))) 1 16 [va_rf p0] (f_X1_entryCount p0 h) h :=
  CT.of g (by decide) (by simp only [ls_a, ls_i, ls_l, ls_n]; decide) (fun K _ hK hf hlo => by simp only [la_a, la_i, la_l, la_n]; exact sm_X1_entryCount hK hf hlo p0 h)
abbrev FR_X1_recover : Nat := 12
abbrev LO_X1_recover : Nat := 372
theorem dyX1_recover : DY yX1_recover 0 := ⟨⟨by decide, by decide⟩, by decide +kernel⟩
theorem sm_X1_recover {G : GC} {K : SC} (hK : SOK G K RX1 cX1_recover 1 (some (.int)) "recover" []) (hf : FR_X1_recover ≤ (kR K).frames) (hlo : LO_X1_recover ≤ (kR K).locals) (p0 : Option Nat) (h : AH) : Sim G K 1 (f_X1_recover p0 h) h 0 [(0, va_rf p0)] [] := by
  unfold f_X1_recover
  refine s_aload_n hK dX1_recover_0 rfl 0 rfl ?_
  refine s_new hK fcX5 q201 q202 q103 fsX5_ok dX1_recover_1 (fun a1 h2 => ?_)
  refine s_dup hK dX1_recover_4 (va_cat _) ?_
  refine s_aload_n hK dX1_recover_5 rfl 0 rfl ?_
  refine s_gA hK fcX1 0 (Nat.le_of_ble_eq_true rfl) (Or.inl q150) (Or.inl rfl) dX1_recover_6 (fun v3 => ?_)
  refine s_nn (fun _ eo => ?_)
  refine s_cV hK ho_n (cx_i (As := [va_rf v3]) (rest := [va_rf a1, va_rf p0]) hK dyX5_init rfl q203 rfl q204 q103 q205 eo (ct_X5_init hK.1 a1 v3 h2) (Nat.le_trans (Nat.le_of_ble_eq_true rfl) hf) (Nat.le_trans (Nat.le_of_ble_eq_true rfl) hlo) (rk_a (rk_a rk_n)) (Nat.le_of_ble_eq_true rfl) dX1_recover_9 rfl) (fun h4 => ?_)
  refine s_pF hK fcX1 2 (Nat.le_of_ble_eq_true rfl) (Or.inl q152) (Or.inl rfl) (Or.inl rfl) (nr_o _) (ft_o _) dX1_recover_12 (fun h5 => ?_)
  refine s_aload_n hK dX1_recover_15 rfl 0 rfl ?_
  refine s_gA hK fcX1 2 (Nat.le_of_ble_eq_true rfl) (Or.inl q152) (Or.inl rfl) dX1_recover_16 (fun v6 => ?_)
  refine s_gA hK fcX5 8 (Nat.le_of_ble_eq_true rfl) (Or.inr ⟨_, q1101⟩) (Or.inl rfl) dX1_recover_19 (fun v7 => ?_)
  refine s_rc (fun _ _ eo er => ?_)
  refine s_cI hK ho_n (cx_v (As := []) (rest := []) hK dyJ20_cardinality rfl q1121 fcJ20.1 q1122 q1123 q106 q1124 eo er (ct_J20_cardinality hK.1 v7 h5) (Nat.le_trans (Nat.le_of_ble_eq_true rfl) hf) (Nat.le_trans (Nat.le_of_ble_eq_true rfl) hlo) rk_n (Nat.le_of_ble_eq_true rfl) dX1_recover_22 rfl) (fun v9 h8 => ?_)
  exact s_iret hK dX1_recover_25
theorem ct_X1_recover {G : GC} {l : Launch} (g : GOK G l) (p0 : Option Nat) (h : AH) : CT G l yX1_recover (Cond.code yX1_recover cX1_recover 1 (some (.int))) 12 372 [va_rf p0] (f_X1_recover p0 h) h :=
  CT.of g (by decide) (by simp only [ls_a, ls_i, ls_l, ls_n]; decide) (fun K _ hK hf hlo => by simp only [la_a, la_i, la_l, la_n]; exact sm_X1_recover hK hf hlo p0 h)
abbrev FR_X1_save : Nat := 1
abbrev LO_X1_save : Nat := 16
theorem dyX1_save : DY yX1_save 0 := ⟨⟨by decide, by decide⟩, by decide +kernel⟩
theorem sm_X1_save {G : GC} {K : SC} (hK : SOK G K RX1 cX1_save 1 (none) "save" []) (hf : FR_X1_save ≤ (kR K).frames) (hlo : LO_X1_save ≤ (kR K).locals) (p0 : Option Nat) (h : AH) : Sim G K 1 (f_X1_save p0 h) h 0 [(0, va_rf p0)] [] := by
  unfold f_X1_save
  refine s_aload_n hK dX1_save_0 rfl 0 rfl ?_
  refine s_aload_n hK dX1_save_1 rfl 0 rfl ?_
  refine s_gA hK fcX1 0 (Nat.le_of_ble_eq_true rfl) (Or.inl q150) (Or.inl rfl) dX1_save_2 (fun v1 => ?_)
  refine s_pF hK fcX1 1 (Nat.le_of_ble_eq_true rfl) (Or.inl q151) (Or.inl rfl) (Or.inl rfl) (nr_o _) (ft_o _) dX1_save_5 (fun h2 => ?_)
  exact s_vret hK dX1_save_8
theorem ct_X1_save {G : GC} {l : Launch} (g : GOK G l) (p0 : Option Nat) (h : AH) : CT G l yX1_save (Cond.code yX1_save cX1_save 1 (none)) 1 16 [va_rf p0] (f_X1_save p0 h) h :=
  CT.of g (by decide) (by simp only [ls_a, ls_i, ls_l, ls_n]; decide) (fun K _ hK hf hlo => by simp only [la_a, la_i, la_l, la_n]; exact sm_X1_save hK hf hlo p0 h)
abbrev FR_X1_appendCharacter : Nat := 7
abbrev LO_X1_appendCharacter : Nat := 101
theorem dyX1_appendCharacter : DY yX1_appendCharacter 1 := ⟨⟨by decide, by decide⟩, by decide +kernel⟩
theorem sm_X1_appendCharacter_J25 {G : GC} {K : SC} (hK : SOK G K RX1 cX1_appendCharacter 2 (some (.int)) "appendCharacter" []) (hf : FR_X1_appendCharacter ≤ (kR K).frames) (hlo : LO_X1_appendCharacter ≤ (kR K).locals) (x5 : Option Nat) (x6 : Int32) (y7 : Int32) (h8 : AH) : Sim G K 2 (f_X1_appendCharacter_J25 x5 x6 y7 h8) h8 25 [(0, va_rf x5), (1, .int x6)] [.int y7] := by
  unfold f_X1_appendCharacter_J25
  refine s_cV hK ho_n (cx_s (As := [.int y7]) (rest := []) hK dyX1_requireState rfl q1153 q1154 q78 q1155 (ct_X1_requireState hK.1 y7 h8) (Nat.le_trans (Nat.le_of_ble_eq_true rfl) hf) (Nat.le_trans (Nat.le_of_ble_eq_true rfl) hlo) rk_n (Nat.le_of_ble_eq_true rfl) dX1_appendCharacter_25 rfl) (fun h9 => ?_)
  refine s_aload_n hK dX1_appendCharacter_28 rfl 0 rfl ?_
  refine s_gA hK fcX1 4 (Nat.le_of_ble_eq_true rfl) (Or.inl q154) (Or.inl rfl) dX1_appendCharacter_29 (fun v10 => ?_)
  refine s_aload_n hK dX1_appendCharacter_32 rfl 0 rfl ?_
  refine s_gI hK fcX1 5 (Nat.le_of_ble_eq_true rfl) (Or.inl q155) (Or.inl rfl) dX1_appendCharacter_33 (fun v11 => ?_)
  refine s_iload_n hK dX1_appendCharacter_36 rfl 1 rfl ?_
  refine s_i2c hK dX1_appendCharacter_37 ?_
  refine s_cast hK dX1_appendCharacter_38 (fun h12 => ?_)
  refine s_aload_n hK dX1_appendCharacter_39 rfl 0 rfl ?_
  refine s_dup hK dX1_appendCharacter_40 (va_cat _) ?_
  refine s_gI hK fcX1 5 (Nat.le_of_ble_eq_true rfl) (Or.inl q155) (Or.inl rfl) dX1_appendCharacter_41 (fun v13 => ?_)
  refine s_iconst (v := 1) hK dX1_appendCharacter_44 rfl ?_
  refine s_iadd hK dX1_appendCharacter_45 ?_
  refine s_pF hK fcX1 5 (Nat.le_of_ble_eq_true rfl) (Or.inl q155) (Or.inl rfl) (Or.inl rfl) rfl rfl dX1_appendCharacter_46 (fun h14 => ?_)
  refine s_aload_n hK dX1_appendCharacter_49 rfl 0 rfl ?_
  refine s_gI hK fcX1 5 (Nat.le_of_ble_eq_true rfl) (Or.inl q155) (Or.inl rfl) dX1_appendCharacter_50 (fun v15 => ?_)
  exact s_iret hK dX1_appendCharacter_53
theorem sm_X1_appendCharacter {G : GC} {K : SC} (hK : SOK G K RX1 cX1_appendCharacter 2 (some (.int)) "appendCharacter" []) (hf : FR_X1_appendCharacter ≤ (kR K).frames) (hlo : LO_X1_appendCharacter ≤ (kR K).locals) (p0 : Option Nat) (p1 : Int32) (h : AH) : Sim G K 2 (f_X1_appendCharacter p0 p1 h) h 0 [(0, va_rf p0), (1, .int p1)] [] := by
  unfold f_X1_appendCharacter
  refine s_iload_n hK dX1_appendCharacter_0 rfl 1 rfl ?_
  refine s_bipush (v := 33) hK dX1_appendCharacter_1 rfl ?_
  refine s_bipush (v := 126) hK dX1_appendCharacter_3 rfl ?_
  refine s_cI hK ho_n (cx_s (As := [.int p1, .int 33, .int 126]) (rest := []) hK dyX1_isBetween rfl q1144 q775 q78 q776 (ct_X1_isBetween hK.1 p1 33 126 h) (Nat.le_trans (Nat.le_of_ble_eq_true rfl) hf) (Nat.le_trans (Nat.le_of_ble_eq_true rfl) hlo) rk_n (Nat.le_of_ble_eq_true rfl) dX1_appendCharacter_5 rfl) (fun v2 h1 => ?_)
  refine s_cV hK ho_n (cx_s (As := [.int v2]) (rest := []) hK dyX1_requireArgument rfl q1145 q1146 q78 q1147 (ct_X1_requireArgument hK.1 v2 h1) (Nat.le_trans (Nat.le_of_ble_eq_true rfl) hf) (Nat.le_trans (Nat.le_of_ble_eq_true rfl) hlo) rk_n (Nat.le_of_ble_eq_true rfl) dX1_appendCharacter_8 rfl) (fun h3 => ?_)
  refine s_aload_n hK dX1_appendCharacter_11 rfl 0 rfl ?_
  refine s_gI hK fcX1 5 (Nat.le_of_ble_eq_true rfl) (Or.inl q155) (Or.inl rfl) dX1_appendCharacter_12 (fun v4 => ?_)
  refine s_bipush (v := 60) hK dX1_appendCharacter_15 rfl ?_
  refine s_icmp_ge (tgt := 24) hK dX1_appendCharacter_17 (by decide) (fun c16 => ?_) (fun c16 => ?_)
  · refine s_iconst (v := 0) hK dX1_appendCharacter_24 rfl ?_
    exact sm_X1_appendCharacter_J25 hK hf hlo p0 p1 0 h3
  · refine s_iconst (v := 1) hK dX1_appendCharacter_20 rfl ?_
    refine s_goto (tgt := 25) hK dX1_appendCharacter_21 (by decide) ?_
    exact sm_X1_appendCharacter_J25 hK hf hlo p0 p1 1 h3
theorem ct_X1_appendCharacter {G : GC} {l : Launch} (g : GOK G l) (p0 : Option Nat) (p1 : Int32) (h : AH) : CT G l yX1_appendCharacter (Cond.code yX1_appendCharacter cX1_appendCharacter 2 (some (.int))) 7 101 [va_rf p0, .int p1] (f_X1_appendCharacter p0 p1 h) h :=
  CT.of g (by decide) (by simp only [ls_a, ls_i, ls_l, ls_n]; decide) (fun K _ hK hf hlo => by simp only [la_a, la_i, la_l, la_n]; exact sm_X1_appendCharacter hK hf hlo p0 p1 h)
abbrev FR_X1_digitAt : Nat := 4
abbrev LO_X1_digitAt : Nat := 85
theorem dyX1_digitAt : DY yX1_digitAt 1 := ⟨⟨by decide, by decide⟩, by decide +kernel⟩
theorem sm_X1_digitAt_J19 {G : GC} {K : SC} (hK : SOK G K RX1 cX1_digitAt 3 (some (.int)) "digitAt" []) (hf : FR_X1_digitAt ≤ (kR K).frames) (hlo : LO_X1_digitAt ≤ (kR K).locals) (x2 : Int32) (y3 : Int32) (h4 : AH) : Sim G K 3 (f_X1_digitAt_J19 x2 y3 h4) h4 19 [(1, .int x2)] [.int y3] := by
  unfold f_X1_digitAt_J19
  refine s_istore_n (lv' := [(2, .int y3), (1, .int x2)]) hK dX1_digitAt_19 rfl (Nat.le_of_ble_eq_true rfl) rfl ?_
  refine s_iload_n hK dX1_digitAt_20 rfl 0 rfl ?_
  refine s_bipush (v := 48) hK dX1_digitAt_21 rfl ?_
  refine s_bipush (v := 57) hK dX1_digitAt_23 rfl ?_
  refine s_cI hK ho_n (cx_s (As := [.int y3, .int 48, .int 57]) (rest := []) hK dyX1_isBetween rfl q1144 q775 q78 q776 (ct_X1_isBetween hK.1 y3 48 57 h4) (Nat.le_trans (Nat.le_of_ble_eq_true rfl) hf) (Nat.le_trans (Nat.le_of_ble_eq_true rfl) hlo) rk_n (Nat.le_of_ble_eq_true rfl) dX1_digitAt_25 rfl) (fun v6 h5 => ?_)
  refine s_if_eq (tgt := 36) hK dX1_digitAt_28 (by decide) (fun c14 => ?_) (fun c14 => ?_)
  · refine s_iload_n hK dX1_digitAt_36 rfl 0 rfl ?_
    refine s_bipush (v := 97) hK dX1_digitAt_37 rfl ?_
    refine s_bipush (v := 102) hK dX1_digitAt_39 rfl ?_
    refine s_cI hK ho_n (cx_s (As := [.int y3, .int 97, .int 102]) (rest := []) hK dyX1_isBetween rfl q1144 q775 q78 q776 (ct_X1_isBetween hK.1 y3 97 102 h5) (Nat.le_trans (Nat.le_of_ble_eq_true rfl) hf) (Nat.le_trans (Nat.le_of_ble_eq_true rfl) hlo) rk_n (Nat.le_of_ble_eq_true rfl) dX1_digitAt_41 rfl) (fun v8 h7 => ?_)
    refine s_if_eq (tgt := 55) hK dX1_digitAt_44 (by decide) (fun c13 => ?_) (fun c13 => ?_)
    · refine s_new hK fcX4 q1168 q1179 q89 fsX4_ok dX1_digitAt_55 (fun a9 h10 => ?_)
      refine s_dup hK dX1_digitAt_58 (va_cat _) ?_
      refine s_iload_n hK dX1_digitAt_59 rfl 1 rfl ?_
      refine s_nn (fun _ eo => ?_)
      refine s_cV hK ho_n (cx_i (As := [.int x2]) (rest := [va_rf a9]) hK dyX4_init rfl q1187 rfl q1188 q89 q1189 eo (ct_X4_init hK.1 a9 x2 h10) (Nat.le_trans (Nat.le_of_ble_eq_true rfl) hf) (Nat.le_trans (Nat.le_of_ble_eq_true rfl) hlo) (rk_a rk_n) (Nat.le_of_ble_eq_true rfl) dX1_digitAt_60 rfl) (fun h11 => ?_)
      refine s_athrow hK (ci := 3) (rc := (RX4, TX4, 7)) rfl dX1_digitAt_63 (fun q12 => ?_)
      exact st_out hK ho_n
    · refine s_iload_n hK dX1_digitAt_47 rfl 0 rfl ?_
      refine s_bipush (v := 97) hK dX1_digitAt_48 rfl ?_
      refine s_isub hK dX1_digitAt_50 ?_
      refine s_bipush (v := 10) hK dX1_digitAt_51 rfl ?_
      refine s_iadd hK dX1_digitAt_53 ?_
      exact s_iret hK dX1_digitAt_54
  · refine s_iload_n hK dX1_digitAt_31 rfl 0 rfl ?_
    refine s_bipush (v := 48) hK dX1_digitAt_32 rfl ?_
    refine s_isub hK dX1_digitAt_34 ?_
    exact s_iret hK dX1_digitAt_35
theorem sm_X1_digitAt {G : GC} {K : SC} (hK : SOK G K RX1 cX1_digitAt 3 (some (.int)) "digitAt" []) (hf : FR_X1_digitAt ≤ (kR K).frames) (hlo : LO_X1_digitAt ≤ (kR K).locals) (p0 : Option Nat) (p1 : Int32) (h : AH) : Sim G K 3 (f_X1_digitAt p0 p1 h) h 0 [(0, va_rf p0), (1, .int p1)] [] := by
  unfold f_X1_digitAt
  refine s_iload_n hK dX1_digitAt_0 rfl 1 rfl ?_
  refine s_aload_n hK dX1_digitAt_1 rfl 0 rfl ?_
  refine s_gI hK fcX1 5 (Nat.le_of_ble_eq_true rfl) (Or.inl q155) (Or.inl rfl) dX1_digitAt_2 (fun v1 => ?_)
  refine s_icmp_ge (tgt := 17) hK dX1_digitAt_5 (by decide) (fun c17 => ?_) (fun c17 => ?_)
  · refine s_bipush (v := 32) hK dX1_digitAt_17 rfl ?_
    refine s_sub [1] rfl ?_
    exact sm_X1_digitAt_J19 hK hf hlo p1 32 h
  · refine s_aload_n hK dX1_digitAt_8 rfl 0 rfl ?_
    refine s_gA hK fcX1 4 (Nat.le_of_ble_eq_true rfl) (Or.inl q154) (Or.inl rfl) dX1_digitAt_9 (fun v15 => ?_)
    refine s_iload_n hK dX1_digitAt_12 rfl 1 rfl ?_
    refine s_cald hK dX1_digitAt_13 (fun v16 => ?_)
    refine s_goto (tgt := 19) hK dX1_digitAt_14 (by decide) ?_
    refine s_sub [1] rfl ?_
    exact sm_X1_digitAt_J19 hK hf hlo p1 v16 h
theorem ct_X1_digitAt {G : GC} {l : Launch} (g : GOK G l) (p0 : Option Nat) (p1 : Int32) (h : AH) : CT G l yX1_digitAt (Cond.code yX1_digitAt cX1_digitAt 3 (some (.int))) 4 85 [va_rf p0, .int p1] (f_X1_digitAt p0 p1 h) h :=
  CT.of g (by decide) (by simp only [ls_a, ls_i, ls_l, ls_n]; decide) (fun K _ hK hf hlo => by simp only [la_a, la_i, la_l, la_n]; exact sm_X1_digitAt hK hf hlo p0 p1 h)
abbrev FR_X1_readBytes : Nat := 7
abbrev LO_X1_readBytes : Nat := 251
theorem dyX1_readBytes : DY yX1_readBytes 0 := ⟨⟨by decide, by decide⟩, by decide +kernel⟩
theorem sm_X1_readBytes_J22 {G : GC} {K : SC} (hK : SOK G K RX1 cX1_readBytes 4 (some (.array .int)) "readBytes" []) (hf : FR_X1_readBytes ≤ (kR K).frames) (hlo : LO_X1_readBytes ≤ (kR K).locals) {rc : Option Nat → Option Nat → Int32 → AH → RS} (hrc : ∀ (y0 : Option Nat) (y1 : Option Nat) (y2 : Int32) (h : AH), Sim G K 4 (rc y0 y1 y2 h) h 10 [(0, va_rf y0), (1, va_rf y1), (2, .int y2)] []) {k52 : Option Nat → AH → RS} (hk52 : ∀ (y0 : Option Nat) (h : AH), Sim G K 4 (k52 y0 h) h 52 [(1, va_rf y0)] []) (x9 : Option Nat) (x10 : Option Nat) (x11 : Int32)  (h12 : AH) : Sim G K 4 (f_X1_readBytes_J22 rc k52 x9 x10 x11 h12) h12 22 [(0, va_rf x9), (1, va_rf x10), (2, .int x11)] [] := by
  unfold f_X1_readBytes_J22
  refine s_aload_n hK dX1_readBytes_22 rfl 1 rfl ?_
  refine s_bipush (v := 16) hK dX1_readBytes_23 rfl ?_
  refine s_aload_n hK dX1_readBytes_25 rfl 0 rfl ?_
  refine s_iload_n hK dX1_readBytes_26 rfl 2 rfl ?_
  refine s_rc (fun _ _ eo er => ?_)
  refine s_cI hK ho_n (cx_v (As := [.int x11]) (rest := [.int 16, va_rf x10]) hK dyX1_digitAt rfl q1175 fcX1.1 q1177 qs24 q78 q1178 eo er (ct_X1_digitAt hK.1 x9 x11 h12) (Nat.le_trans (Nat.le_of_ble_eq_true rfl) hf) (Nat.le_trans (Nat.le_of_ble_eq_true rfl) hlo) (rk_i (rk_a rk_n)) (Nat.le_of_ble_eq_true rfl) dX1_readBytes_27 rfl) (fun v14 h13 => ?_)
  refine s_imul hK dX1_readBytes_30 ?_
  refine s_aload_n hK dX1_readBytes_31 rfl 0 rfl ?_
  refine s_iload_n hK dX1_readBytes_32 rfl 2 rfl ?_
  refine s_iconst (v := 1) hK dX1_readBytes_33 rfl ?_
  refine s_iadd hK dX1_readBytes_34 ?_
  refine s_rc (fun _ _ eo er => ?_)
  refine s_cI hK ho_n (cx_v (As := [.int (x11 + 1)]) (rest := [.int (16 * v14), va_rf x10]) hK dyX1_digitAt rfl q1175 fcX1.1 q1177 qs24 q78 q1178 eo er (ct_X1_digitAt hK.1 x9 (x11 + 1) h13) (Nat.le_trans (Nat.le_of_ble_eq_true rfl) hf) (Nat.le_trans (Nat.le_of_ble_eq_true rfl) hlo) (rk_i (rk_a rk_n)) (Nat.le_of_ble_eq_true rfl) dX1_readBytes_35 rfl) (fun v16 h15 => ?_)
  refine s_iadd hK dX1_readBytes_38 ?_
  refine s_cA hK ho_n (cx_s (As := [.int ((16 * v14) + v16)]) (rest := [va_rf x10]) hK dyJ9_valueOf rfl q1202 q289 q91 q290 (ct_J9_valueOf hK.1 ((16 * v14) + v16) h15) (Nat.le_trans (Nat.le_of_ble_eq_true rfl) hf) (Nat.le_trans (Nat.le_of_ble_eq_true rfl) hlo) (rk_a rk_n) (Nat.le_of_ble_eq_true rfl) dX1_readBytes_39 rfl) (fun v18 h17 => ?_)
  refine s_rc (fun _ _ eo er => ?_)
  refine s_cI hK ho_n (cx_v (As := [va_rf v18]) (rest := []) hK dyJ7_add rfl q1203 fcJ7.1 q851 q852 q88 q853 eo er (ct_J7_add hK.1 x10 v18 h17) (Nat.le_trans (Nat.le_of_ble_eq_true rfl) hf) (Nat.le_trans (Nat.le_of_ble_eq_true rfl) hlo) rk_n (Nat.le_of_ble_eq_true rfl) dX1_readBytes_42 rfl) (fun v20 h19 => ?_)
  refine s_pop hK dX1_readBytes_45 rfl ?_
  refine s_iinc (j := 2) (v := 2) (lv' := [(2, .int (x11 + 2)), (0, va_rf x9), (1, va_rf x10)]) hK dX1_readBytes_46 rfl rfl (Nat.le_of_ble_eq_true rfl) (flA (pre := [(0, va_rf x9)]) (suf := [(2, .int x11)]) rfl rfl) ?_
  refine s_goto (tgt := 10) hK dX1_readBytes_49 (by decide) ?_
  refine s_sub [1, 2, 0] rfl ?_
  exact hrc x9 x10 (x11 + 2) h19
theorem sm_X1_readBytes_L10 {G : GC} {K : SC} (hK : SOK G K RX1 cX1_readBytes 4 (some (.array .int)) "readBytes" []) (hf : FR_X1_readBytes ≤ (kR K).frames) (hlo : LO_X1_readBytes ≤ (kR K).locals) {k52 : Option Nat → AH → RS} (hk52 : ∀ (y0 : Option Nat) (h : AH), Sim G K 4 (k52 y0 h) h 52 [(1, va_rf y0)] []) : ∀ (n : Nat) (x4 : Option Nat) (x5 : Option Nat) (x6 : Int32) (h7 : AH), Sim G K 4 (f_X1_readBytes_L10 k52 n x4 x5 x6 h7) h7 10 [(0, va_rf x4), (1, va_rf x5), (2, .int x6)] [] := by
  intro n
  induction n with
  | zero => intro x4 x5 x6 h7; exact s_none
  | succ n ih =>
    intro x4 x5 x6 h7
    rw [f_X1_readBytes_L10]
    refine s_iload_n hK dX1_readBytes_10 rfl 2 rfl ?_
    refine s_aload_n hK dX1_readBytes_11 rfl 0 rfl ?_
    refine s_gI hK fcX1 5 (Nat.le_of_ble_eq_true rfl) (Or.inl q155) (Or.inl rfl) dX1_readBytes_12 (fun v8 => ?_)
    refine s_icmp_lt (tgt := 22) hK dX1_readBytes_15 (by decide) (fun c22 => ?_) (fun c22 => ?_)
    · exact sm_X1_readBytes_J22 hK hf hlo ih hk52 x4 x5 x6 h7
    · refine s_iload_n hK dX1_readBytes_18 rfl 2 rfl ?_
      refine s_if_ne (tgt := 52) hK dX1_readBytes_19 (by decide) (fun c21 => ?_) (fun c21 => ?_)
      · refine s_sub [1] rfl ?_
        exact hk52 x5 h7
      · exact sm_X1_readBytes_J22 hK hf hlo ih hk52 x4 x5 x6 h7
theorem sm_X1_readBytes_L61 {G : GC} {K : SC} (hK : SOK G K RX1 cX1_readBytes 4 (some (.array .int)) "readBytes" []) (hf : FR_X1_readBytes ≤ (kR K).frames) (hlo : LO_X1_readBytes ≤ (kR K).locals) {k87 : Option Nat → AH → RS} (hk87 : ∀ (y0 : Option Nat) (h : AH), Sim G K 4 (k87 y0 h) h 87 [(2, va_rf y0)] []) : ∀ (n : Nat) (x29 : Option Nat) (x30 : Option Nat) (x31 : Int32) (h32 : AH), Sim G K 4 (f_X1_readBytes_L61 k87 n x29 x30 x31 h32) h32 61 [(1, va_rf x29), (2, va_rf x30), (3, .int x31)] [] := by
  intro n
  induction n with
  | zero => intro x29 x30 x31 h32; exact s_none
  | succ n ih =>
    intro x29 x30 x31 h32
    rw [f_X1_readBytes_L61]
    refine s_iload_n hK dX1_readBytes_61 rfl 2 rfl ?_
    refine s_aload_n hK dX1_readBytes_62 rfl 1 rfl ?_
    refine s_alen hK dX1_readBytes_63 (fun v33 => ?_)
    refine s_icmp_ge (tgt := 87) hK dX1_readBytes_64 (by decide) (fun c39 => ?_) (fun c39 => ?_)
    · refine s_sub [1] rfl ?_
      exact hk87 x30 h32
    · refine s_aload_n hK dX1_readBytes_67 rfl 1 rfl ?_
      refine s_iload_n hK dX1_readBytes_68 rfl 2 rfl ?_
      refine s_aload_n hK dX1_readBytes_69 rfl 0 rfl ?_
      refine s_iload_n hK dX1_readBytes_70 rfl 2 rfl ?_
      refine s_rc (fun _ _ eo er => ?_)
      refine s_cA hK ho_n (cx_v (As := [.int x31]) (rest := [.int x31, va_rf x30]) hK dyJ7_get rfl q1205 fcJ7.1 q981 q2188 q88 q983 eo er (ct_J7_get hK.1 x29 x31 h32) (Nat.le_trans (Nat.le_of_ble_eq_true rfl) hf) (Nat.le_trans (Nat.le_of_ble_eq_true rfl) hlo) (rk_i (rk_a rk_n)) (Nat.le_of_ble_eq_true rfl) dX1_readBytes_71 rfl) (fun v35 h34 => ?_)
      refine s_ck hK q1206 (ck1 fcJ9.1 (Or.inl rfl)) dX1_readBytes_74 ?_
      refine s_rc (fun _ _ eo er => ?_)
      refine s_cI hK ho_n (cx_v (As := []) (rest := [.int x31, va_rf x30]) hK dyJ9_intValue rfl q1207 fcJ9.1 q478 q479 q91 q480 eo er (ct_J9_intValue hK.1 v35 h34) (Nat.le_trans (Nat.le_of_ble_eq_true rfl) hf) (Nat.le_trans (Nat.le_of_ble_eq_true rfl) hlo) (rk_i (rk_a rk_n)) (Nat.le_of_ble_eq_true rfl) dX1_readBytes_77 rfl) (fun v37 h36 => ?_)
      refine s_iast hK dX1_readBytes_80 (fun h38 => ?_)
      refine s_iinc (j := 2) (v := 1) (lv' := [(3, .int (x31 + 1)), (1, va_rf x29), (2, va_rf x30)]) hK dX1_readBytes_81 rfl rfl (Nat.le_of_ble_eq_true rfl) (flA (pre := [(1, va_rf x29)]) (suf := [(3, .int x31)]) rfl rfl) ?_
      refine s_goto (tgt := 61) hK dX1_readBytes_84 (by decide) ?_
      refine s_sub [1, 2, 0] rfl ?_
      exact ih x29 x30 (x31 + 1) h38
theorem sm_X1_readBytes {G : GC} {K : SC} (hK : SOK G K RX1 cX1_readBytes 4 (some (.array .int)) "readBytes" []) (hf : FR_X1_readBytes ≤ (kR K).frames) (hlo : LO_X1_readBytes ≤ (kR K).locals) (p0 : Option Nat) (h : AH) : Sim G K 4 (f_X1_readBytes p0 h) h 0 [(0, va_rf p0)] [] := by
  unfold f_X1_readBytes
  refine s_new hK fcJ7 q1173 q235 q88 fsJ7_ok dX1_readBytes_0 (fun a1 h2 => ?_)
  refine s_dup hK dX1_readBytes_3 (va_cat _) ?_
  refine s_nn (fun _ eo => ?_)
  refine s_cV hK ho_n (cx_i (As := []) (rest := [va_rf a1]) hK dyJ7_init rfl q1174 rfl q237 q88 q238 eo (ct_J7_init hK.1 a1 h2) (Nat.le_trans (Nat.le_of_ble_eq_true rfl) hf) (Nat.le_trans (Nat.le_of_ble_eq_true rfl) hlo) (rk_a rk_n) (Nat.le_of_ble_eq_true rfl) dX1_readBytes_4 rfl) (fun h3 => ?_)
  refine s_astore_n (lv' := [(1, va_rf a1), (0, va_rf p0)]) hK dX1_readBytes_7 rfl (Nat.le_of_ble_eq_true rfl) (flA (pre := []) (suf := []) rfl rfl) ?_
  refine s_iconst (v := 0) hK dX1_readBytes_8 rfl ?_
  refine s_istore_n (lv' := [(2, .int 0), (1, va_rf a1), (0, va_rf p0)]) hK dX1_readBytes_9 rfl (Nat.le_of_ble_eq_true rfl) (flA (pre := []) (suf := [(0, va_rf p0)]) rfl rfl) ?_
  refine s_sub [2, 1, 0] rfl ?_
  refine sm_X1_readBytes_L10 hK hf hlo (fun x23 h24 => ?_) FUEL p0 a1 0 h3
  · refine s_aload_n hK dX1_readBytes_52 rfl 0 rfl ?_
    refine s_rc (fun _ _ eo er => ?_)
    refine s_cI hK ho_n (cx_v (As := []) (rest := []) hK dyJ7_size rfl q1204 fcJ7.1 q972 q2187 q88 q974 eo er (ct_J7_size hK.1 x23 h24) (Nat.le_trans (Nat.le_of_ble_eq_true rfl) hf) (Nat.le_trans (Nat.le_of_ble_eq_true rfl) hlo) rk_n (Nat.le_of_ble_eq_true rfl) dX1_readBytes_53 rfl) (fun v26 h25 => ?_)
    refine s_newI hK dX1_readBytes_56 (fun a27 h28 => ?_)
    refine s_astore_n (lv' := [(2, va_rf a27), (1, va_rf x23)]) hK dX1_readBytes_58 rfl (Nat.le_of_ble_eq_true rfl) (flA (pre := []) (suf := []) rfl rfl) ?_
    refine s_iconst (v := 0) hK dX1_readBytes_59 rfl ?_
    refine s_istore_n (lv' := [(3, .int 0), (2, va_rf a27), (1, va_rf x23)]) hK dX1_readBytes_60 rfl (Nat.le_of_ble_eq_true rfl) (flA (pre := []) (suf := [(1, va_rf x23)]) rfl rfl) ?_
    refine s_sub [2, 1, 0] rfl ?_
    refine sm_X1_readBytes_L61 hK hf hlo (fun x40 h41 => ?_) FUEL x23 a27 0 h28
    · refine s_aload_n hK dX1_readBytes_87 rfl 0 rfl ?_
      exact s_aret hK (Or.inr ⟨_, rfl⟩) dX1_readBytes_88
theorem ct_X1_readBytes {G : GC} {l : Launch} (g : GOK G l) (p0 : Option Nat) (h : AH) : CT G l yX1_readBytes (Cond.code yX1_readBytes cX1_readBytes 4 (some (.array .int))) 7 251 [va_rf p0] (f_X1_readBytes p0 h) h :=
  CT.of g (by decide) (by simp only [ls_a, ls_i, ls_l, ls_n]; decide) (fun K _ hK hf hlo => by simp only [la_a, la_i, la_l, la_n]; exact sm_X1_readBytes hK hf hlo p0 h)
abbrev FR_X1_addBytes : Nat := 8
abbrev LO_X1_addBytes : Nat := 274
theorem dyX1_addBytes : DY yX1_addBytes 0 := ⟨⟨by decide, by decide⟩, by decide +kernel⟩
theorem sm_X1_addBytes_J63 {G : GC} {K : SC} (hK : SOK G K RX1 cX1_addBytes 4 (some (.int)) "addBytes" (tableOf [(0, 10, 18, 86), (0, 10, 35, 0), (18, 36, 35, 0)])) (hf : FR_X1_addBytes ≤ (kR K).frames) (hlo : LO_X1_addBytes ≤ (kR K).locals) (x9 : Option Nat) (x10 : Option Nat) (y11 : Int32) (h12 : AH) : Sim G K 4 (f_X1_addBytes_J63 x9 x10 y11 h12) h12 63 [(0, va_rf x9), (1, va_rf x10)] [.int y11] := by
  unfold f_X1_addBytes_J63
  refine s_cV hK (by decide) (cx_s (As := [.int y11]) (rest := []) hK dyX1_requireState rfl q1153 q1154 q78 q1155 (ct_X1_requireState hK.1 y11 h12) (Nat.le_trans (Nat.le_of_ble_eq_true rfl) hf) (Nat.le_trans (Nat.le_of_ble_eq_true rfl) hlo) rk_n (Nat.le_of_ble_eq_true rfl) dX1_addBytes_63 rfl) (fun h13 => ?_)
  refine s_aload_n hK dX1_addBytes_66 rfl 0 rfl ?_
  refine s_gA hK fcX1 0 (Nat.le_of_ble_eq_true rfl) (Or.inl q150) (Or.inl rfl) dX1_addBytes_67 (fun v14 => ?_)
  refine s_rc (fun _ _ eo er => ?_)
  refine s_cI hK (by decide) (cx_v (As := []) (rest := []) hK dyX2_size rfl q181 fcX2.1 q182 q183 q79 q184 eo er (ct_X2_size hK.1 v14 h13) (Nat.le_trans (Nat.le_of_ble_eq_true rfl) hf) (Nat.le_trans (Nat.le_of_ble_eq_true rfl) hlo) rk_n (Nat.le_of_ble_eq_true rfl) dX1_addBytes_70 rfl) (fun v16 h15 => ?_)
  refine s_aload_n hK dX1_addBytes_73 rfl 1 rfl ?_
  refine s_alen hK dX1_addBytes_74 (fun v17 => ?_)
  refine s_iadd hK dX1_addBytes_75 ?_
  refine s_newI hK dX1_addBytes_76 (fun a18 h19 => ?_)
  refine s_astore_n (lv' := [(2, va_rf a18), (0, va_rf x9), (1, va_rf x10)]) hK dX1_addBytes_78 rfl (Nat.le_of_ble_eq_true rfl) (flA (pre := [(0, va_rf x9)]) (suf := []) rfl rfl) ?_
  refine s_aload_n hK dX1_addBytes_79 rfl 1 rfl ?_
  refine s_gA hK fcX1 0 (Nat.le_of_ble_eq_true rfl) (Or.inl q150) (Or.inl rfl) dX1_addBytes_80 (fun v20 => ?_)
  refine s_gA hK fcX2 0 (Nat.le_of_ble_eq_true rfl) (Or.inr ⟨_, q135⟩) (Or.inl rfl) dX1_addBytes_83 (fun v21 => ?_)
  refine s_iconst (v := 0) hK dX1_addBytes_86 rfl ?_
  refine s_aload_n hK dX1_addBytes_87 rfl 0 rfl ?_
  refine s_iconst (v := 0) hK dX1_addBytes_88 rfl ?_
  refine s_aload_n hK dX1_addBytes_89 rfl 1 rfl ?_
  refine s_gA hK fcX1 0 (Nat.le_of_ble_eq_true rfl) (Or.inl q150) (Or.inl rfl) dX1_addBytes_90 (fun v22 => ?_)
  refine s_rc (fun _ _ eo er => ?_)
  refine s_cI hK (by decide) (cx_v (As := []) (rest := [.int 0, va_rf a18, .int 0, va_rf v21]) hK dyX2_size rfl q181 fcX2.1 q182 q183 q79 q184 eo er (ct_X2_size hK.1 v22 h19) (Nat.le_trans (Nat.le_of_ble_eq_true rfl) hf) (Nat.le_trans (Nat.le_of_ble_eq_true rfl) hlo) (rk_i (rk_a (rk_i (rk_a rk_n)))) (Nat.le_of_ble_eq_true rfl) dX1_addBytes_93 rfl) (fun v24 h23 => ?_)
  refine s_cpI hK q1208 q438 q437 q96 (Nat.le_trans (Nat.le_of_ble_eq_true rfl) hf) rk_n (Nat.le_trans (Nat.le_of_ble_eq_true rfl) hlo) dX1_addBytes_96 (fun h25 => ?_)
  refine s_aload_n hK dX1_addBytes_99 rfl 2 rfl ?_
  refine s_iconst (v := 0) hK dX1_addBytes_100 rfl ?_
  refine s_aload_n hK dX1_addBytes_101 rfl 0 rfl ?_
  refine s_aload_n hK dX1_addBytes_102 rfl 1 rfl ?_
  refine s_gA hK fcX1 0 (Nat.le_of_ble_eq_true rfl) (Or.inl q150) (Or.inl rfl) dX1_addBytes_103 (fun v26 => ?_)
  refine s_rc (fun _ _ eo er => ?_)
  refine s_cI hK (by decide) (cx_v (As := []) (rest := [va_rf a18, .int 0, va_rf x10]) hK dyX2_size rfl q181 fcX2.1 q182 q183 q79 q184 eo er (ct_X2_size hK.1 v26 h25) (Nat.le_trans (Nat.le_of_ble_eq_true rfl) hf) (Nat.le_trans (Nat.le_of_ble_eq_true rfl) hlo) (rk_a (rk_i (rk_a rk_n))) (Nat.le_of_ble_eq_true rfl) dX1_addBytes_106 rfl) (fun v28 h27 => ?_)
  refine s_aload_n hK dX1_addBytes_109 rfl 2 rfl ?_
  refine s_alen hK dX1_addBytes_110 (fun v29 => ?_)
  refine s_cpI hK q1208 q438 q437 q96 (Nat.le_trans (Nat.le_of_ble_eq_true rfl) hf) rk_n (Nat.le_trans (Nat.le_of_ble_eq_true rfl) hlo) dX1_addBytes_111 (fun h30 => ?_)
  refine s_aload_n hK dX1_addBytes_114 rfl 1 rfl ?_
  refine s_new hK fcX2 q126 q127 q79 fsX2_ok dX1_addBytes_115 (fun a31 h32 => ?_)
  refine s_dup hK dX1_addBytes_118 (va_cat _) ?_
  refine s_aload_n hK dX1_addBytes_119 rfl 0 rfl ?_
  refine s_aload_n hK dX1_addBytes_120 rfl 1 rfl ?_
  refine s_gA hK fcX1 0 (Nat.le_of_ble_eq_true rfl) (Or.inl q150) (Or.inl rfl) dX1_addBytes_121 (fun v33 => ?_)
  refine s_gA hK fcX2 1 (Nat.le_of_ble_eq_true rfl) (Or.inr ⟨_, q138⟩) (Or.inl rfl) dX1_addBytes_124 (fun v34 => ?_)
  refine s_aload_n hK dX1_addBytes_127 rfl 1 rfl ?_
  refine s_gA hK fcX1 0 (Nat.le_of_ble_eq_true rfl) (Or.inl q150) (Or.inl rfl) dX1_addBytes_128 (fun v35 => ?_)
  refine s_gI hK fcX2 2 (Nat.le_of_ble_eq_true rfl) (Or.inr ⟨_, q141⟩) (Or.inl rfl) dX1_addBytes_131 (fun v36 => ?_)
  refine s_nn (fun _ eo => ?_)
  refine s_cV hK (by decide) (cx_i (As := [va_rf a18, va_rf v34, .int v36]) (rest := [va_rf a31, va_rf x9]) hK dyX2_init rfl q128 rfl q129 q79 q130 eo (ct_X2_init hK.1 a31 a18 v34 v36 h32) (Nat.le_trans (Nat.le_of_ble_eq_true rfl) hf) (Nat.le_trans (Nat.le_of_ble_eq_true rfl) hlo) (rk_a (rk_a rk_n)) (Nat.le_of_ble_eq_true rfl) dX1_addBytes_134 rfl) (fun h37 => ?_)
  refine s_iconst (v := 1) hK dX1_addBytes_137 rfl ?_
  refine s_rc (fun _ _ eo er => ?_)
  refine s_cV hK (by decide) (cx_v (As := [va_rf a31, .int 1]) (rest := []) hK dyX1_set rfl q185 fcX1.1 q187 qs0 q78 q188 eo er (ct_X1_set hK.1 x9 a31 1 h37) (Nat.le_trans (Nat.le_of_ble_eq_true rfl) hf) (Nat.le_trans (Nat.le_of_ble_eq_true rfl) hlo) rk_n (Nat.le_of_ble_eq_true rfl) dX1_addBytes_138 rfl) (fun h38 => ?_)
  refine s_aload_n hK dX1_addBytes_141 rfl 0 rfl ?_
  refine s_alen hK dX1_addBytes_142 (fun v39 => ?_)
  exact s_iret hK dX1_addBytes_143
theorem sm_X1_addBytes {G : GC} {K : SC} (hK : SOK G K RX1 cX1_addBytes 4 (some (.int)) "addBytes" (tableOf [(0, 10, 18, 86), (0, 10, 35, 0), (18, 36, 35, 0)])) (hf : FR_X1_addBytes ≤ (kR K).frames) (hlo : LO_X1_addBytes ≤ (kR K).locals) (p0 : Option Nat) (h : AH) : Sim G K 4 (f_X1_addBytes p0 h) h 0 [(0, va_rf p0)] [] := by
  unfold f_X1_addBytes
  refine s_aload_n hK dX1_addBytes_0 rfl 0 rfl ?_
  refine s_rc (fun _ _ eo er => ?_)
  refine s_cAX (fun E41 q42 h43 => ?_) (cx_v (As := []) (rest := []) hK dyX1_readBytes rfl q1169 fcX1.1 q1171 qs23 q78 q1172 eo er (ct_X1_readBytes hK.1 p0 h) (Nat.le_trans (Nat.le_of_ble_eq_true rfl) hf) (Nat.le_trans (Nat.le_of_ble_eq_true rfl) hlo) rk_n (Nat.le_of_ble_eq_true rfl) dX1_addBytes_1 rfl) (fun v2 h1 => ?_)
  · refine st_ite (fun e51 => ?_) (fun e51 => ?_)
    · subst e51
      refine st_catch hK (tableOf []) ⟨0, 10, 18, 86⟩ (tableOf [(0, 10, 35, 0), (18, 36, 35, 0)]) rfl (fun _ hz => nomatch hz) rfl (by decide) q1168 q1180 ?_
      refine s_astore_n (lv' := [(2, va_rf (some q42)), (0, va_rf p0)]) hK dX1_addBytes_18 rfl (Nat.le_of_ble_eq_true rfl) rfl ?_
      refine s_aload_n hK dX1_addBytes_19 rfl 1 rfl ?_
      refine s_aload_n hK dX1_addBytes_20 rfl 0 rfl ?_
      refine s_gI hK fcX4 6 (Nat.le_of_ble_eq_true rfl) (Or.inr ⟨_, q1197⟩) (Or.inl rfl) dX1_addBytes_21 (fun v44 => ?_)
      refine s_pF hK fcX1 6 (Nat.le_of_ble_eq_true rfl) (Or.inl q156) (Or.inl rfl) (Or.inl rfl) rfl rfl dX1_addBytes_24 (fun h45 => ?_)
      refine s_mk0 hK xe_J3_1_3 rfl dX1_addBytes_27 dX1_addBytes_30 dX1_addBytes_31 (Nat.lt_of_lt_of_le (Nat.le_of_ble_eq_true rfl) hf) rk_n (Nat.le_trans (Nat.le_of_ble_eq_true rfl) hlo) (fun a46 h47 => ?_)
      refine s_athrow hK (ci := 14) (rc := (RJ3, TJ3, 0)) rfl dX1_addBytes_34 (fun q48 => ?_)
      refine st_any hK (tableOf [(0, 10, 18, 86), (0, 10, 35, 0)]) ⟨18, 36, 35, 0⟩ (tableOf []) rfl (List.forall_mem_cons.mpr ⟨Or.inl rfl, (List.forall_mem_cons.mpr ⟨Or.inl rfl, (fun _ hz => nomatch hz)⟩)⟩) rfl rfl ?_
      refine s_astore_n (lv' := [(3, va_rf (some q48)), (2, va_rf (some q42)), (0, va_rf p0)]) hK dX1_addBytes_35 rfl (Nat.le_of_ble_eq_true rfl) (flA (pre := []) (suf := [(0, va_rf p0)]) rfl rfl) ?_
      refine s_aload_n hK dX1_addBytes_36 rfl 2 rfl ?_
      refine s_iconst (v := 0) hK dX1_addBytes_37 rfl ?_
      refine s_pF hK fcX1 5 (Nat.le_of_ble_eq_true rfl) (Or.inl q155) (Or.inl rfl) (Or.inl rfl) rfl rfl dX1_addBytes_38 (fun h49 => ?_)
      refine s_aload_n hK dX1_addBytes_41 rfl 0 rfl ?_
      refine s_athrow hK (ci := 14) (rc := (RJ3, TJ3, 0)) rfl dX1_addBytes_42 (fun q50 => ?_)
      exact st_out hK (by decide)
    exact st_none
  · refine s_astore_n (lv' := [(1, va_rf v2), (0, va_rf p0)]) hK dX1_addBytes_4 rfl (Nat.le_of_ble_eq_true rfl) (flA (pre := []) (suf := []) rfl rfl) ?_
    refine s_aload_n hK dX1_addBytes_5 rfl 1 rfl ?_
    refine s_iconst (v := (-1)) hK dX1_addBytes_6 rfl ?_
    refine s_pF hK fcX1 6 (Nat.le_of_ble_eq_true rfl) (Or.inl q156) (Or.inl rfl) (Or.inl rfl) rfl rfl dX1_addBytes_7 (fun h3 => ?_)
    refine s_aload_n hK dX1_addBytes_10 rfl 1 rfl ?_
    refine s_iconst (v := 0) hK dX1_addBytes_11 rfl ?_
    refine s_pF hK fcX1 5 (Nat.le_of_ble_eq_true rfl) (Or.inl q155) (Or.inl rfl) (Or.inl rfl) rfl rfl dX1_addBytes_12 (fun h4 => ?_)
    refine s_goto (tgt := 43) hK dX1_addBytes_15 (by decide) ?_
    refine s_aload_n hK dX1_addBytes_43 rfl 1 rfl ?_
    refine s_gA hK fcX1 0 (Nat.le_of_ble_eq_true rfl) (Or.inl q150) (Or.inl rfl) dX1_addBytes_44 (fun v5 => ?_)
    refine s_rc (fun _ _ eo er => ?_)
    refine s_cI hK (by decide) (cx_v (As := []) (rest := []) hK dyX2_size rfl q181 fcX2.1 q182 q183 q79 q184 eo er (ct_X2_size hK.1 v5 h4) (Nat.le_trans (Nat.le_of_ble_eq_true rfl) hf) (Nat.le_trans (Nat.le_of_ble_eq_true rfl) hlo) rk_n (Nat.le_of_ble_eq_true rfl) dX1_addBytes_47 rfl) (fun v7 h6 => ?_)
    refine s_aload_n hK dX1_addBytes_50 rfl 0 rfl ?_
    refine s_alen hK dX1_addBytes_51 (fun v8 => ?_)
    refine s_iadd hK dX1_addBytes_52 ?_
    refine s_bipush (v := 96) hK dX1_addBytes_53 rfl ?_
    refine s_icmp_gt (tgt := 62) hK dX1_addBytes_55 (by decide) (fun c40 => ?_) (fun c40 => ?_)
    · refine s_iconst (v := 0) hK dX1_addBytes_62 rfl ?_
      refine s_sub [1, 0] rfl ?_
      exact sm_X1_addBytes_J63 hK hf hlo p0 v2 0 h6
    · refine s_iconst (v := 1) hK dX1_addBytes_58 rfl ?_
      refine s_goto (tgt := 63) hK dX1_addBytes_59 (by decide) ?_
      refine s_sub [1, 0] rfl ?_
      exact sm_X1_addBytes_J63 hK hf hlo p0 v2 1 h6
theorem ct_X1_addBytes {G : GC} {l : Launch} (g : GOK G l) (p0 : Option Nat) (h : AH) : CT G l yX1_addBytes (Cond.codeWith yX1_addBytes cX1_addBytes 4 (some (.int)) [(0, 10, 18, 86), (0, 10, 35, 0), (18, 36, 35, 0)]) 8 274 [va_rf p0] (f_X1_addBytes p0 h) h :=
  CT.ofH g (by decide) (by simp only [ls_a, ls_i, ls_l, ls_n]; decide) (fun K _ hK hf hlo => by simp only [la_a, la_i, la_l, la_n]; exact sm_X1_addBytes hK hf hlo p0 h)
abbrev FR_X1_requireAddress : Nat := 7
abbrev LO_X1_requireAddress : Nat := 101
theorem dyX1_requireAddress : DY yX1_requireAddress 1 := ⟨⟨by decide, by decide⟩, by decide +kernel⟩
theorem sm_X1_requireAddress {G : GC} {K : SC} (hK : SOK G K RX1 cX1_requireAddress 2 (none) "requireAddress" []) (hf : FR_X1_requireAddress ≤ (kR K).frames) (hlo : LO_X1_requireAddress ≤ (kR K).locals) (p0 : Option Nat) (p1 : Int32) (h : AH) : Sim G K 2 (f_X1_requireAddress p0 p1 h) h 0 [(0, va_rf p0), (1, .int p1)] [] := by
  unfold f_X1_requireAddress
  refine s_aload_n hK dX1_requireAddress_0 rfl 0 rfl ?_
  refine s_gA hK fcX1 0 (Nat.le_of_ble_eq_true rfl) (Or.inl q150) (Or.inl rfl) dX1_requireAddress_1 (fun v1 => ?_)
  refine s_iload_n hK dX1_requireAddress_4 rfl 1 rfl ?_
  refine s_rc (fun _ _ eo er => ?_)
  refine s_cI hK ho_n (cx_v (As := [.int p1]) (rest := []) hK dyX2_contains rfl q1236 fcX2.1 q771 q772 q79 q773 eo er (ct_X2_contains hK.1 v1 p1 h) (Nat.le_trans (Nat.le_of_ble_eq_true rfl) hf) (Nat.le_trans (Nat.le_of_ble_eq_true rfl) hlo) rk_n (Nat.le_of_ble_eq_true rfl) dX1_requireAddress_5 rfl) (fun v3 h2 => ?_)
  refine s_cV hK ho_n (cx_s (As := [.int v3]) (rest := []) hK dyX1_requireIndex rfl q1237 q1238 q78 q1239 (ct_X1_requireIndex hK.1 v3 h2) (Nat.le_trans (Nat.le_of_ble_eq_true rfl) hf) (Nat.le_trans (Nat.le_of_ble_eq_true rfl) hlo) rk_n (Nat.le_of_ble_eq_true rfl) dX1_requireAddress_8 rfl) (fun h4 => ?_)
  exact s_vret hK dX1_requireAddress_11
theorem ct_X1_requireAddress {G : GC} {l : Launch} (g : GOK G l) (p0 : Option Nat) (p1 : Int32) (h : AH) : CT G l yX1_requireAddress (Cond.code yX1_requireAddress cX1_requireAddress 2 (none)) 7 101 [va_rf p0, .int p1] (f_X1_requireAddress p0 p1 h) h :=
  CT.of g (by decide) (by simp only [ls_a, ls_i, ls_l, ls_n]; decide) (fun K _ hK hf hlo => by simp only [la_a, la_i, la_l, la_n]; exact sm_X1_requireAddress hK hf hlo p0 p1 h)
abbrev FR_X1_setByte : Nat := 8
abbrev LO_X1_setByte : Nat := 122
theorem dyX1_setByte : DY yX1_setByte 2 := ⟨⟨by decide, by decide⟩, by decide +kernel⟩
theorem sm_X1_setByte {G : GC} {K : SC} (hK : SOK G K RX1 cX1_setByte 5 (some (.int)) "setByte" []) (hf : FR_X1_setByte ≤ (kR K).frames) (hlo : LO_X1_setByte ≤ (kR K).locals) (p0 : Option Nat) (p1 : Int32) (p2 : Int32) (h : AH) : Sim G K 5 (f_X1_setByte p0 p1 p2 h) h 0 [(0, va_rf p0), (1, .int p1), (2, .int p2)] [] := by
  unfold f_X1_setByte
  refine s_aload_n hK dX1_setByte_0 rfl 0 rfl ?_
  refine s_iload_n hK dX1_setByte_1 rfl 1 rfl ?_
  refine s_rc (fun _ _ eo er => ?_)
  refine s_cV hK ho_n (cx_v (As := [.int p1]) (rest := []) hK dyX1_requireAddress rfl q1232 fcX1.1 q1234 qs25 q78 q1235 eo er (ct_X1_requireAddress hK.1 p0 p1 h) (Nat.le_trans (Nat.le_of_ble_eq_true rfl) hf) (Nat.le_trans (Nat.le_of_ble_eq_true rfl) hlo) rk_n (Nat.le_of_ble_eq_true rfl) dX1_setByte_2 rfl) (fun h1 => ?_)
  refine s_iload_n hK dX1_setByte_5 rfl 2 rfl ?_
  refine s_iconst (v := 0) hK dX1_setByte_6 rfl ?_
  refine s_sipush (v := 255) hK dX1_setByte_7 rfl ?_
  refine s_cI hK ho_n (cx_s (As := [.int p2, .int 0, .int 255]) (rest := []) hK dyX1_isBetween rfl q1144 q775 q78 q776 (ct_X1_isBetween hK.1 p2 0 255 h1) (Nat.le_trans (Nat.le_of_ble_eq_true rfl) hf) (Nat.le_trans (Nat.le_of_ble_eq_true rfl) hlo) rk_n (Nat.le_of_ble_eq_true rfl) dX1_setByte_10 rfl) (fun v3 h2 => ?_)
  refine s_cV hK ho_n (cx_s (As := [.int v3]) (rest := []) hK dyX1_requireArgument rfl q1145 q1146 q78 q1147 (ct_X1_requireArgument hK.1 v3 h2) (Nat.le_trans (Nat.le_of_ble_eq_true rfl) hf) (Nat.le_trans (Nat.le_of_ble_eq_true rfl) hlo) rk_n (Nat.le_of_ble_eq_true rfl) dX1_setByte_13 rfl) (fun h4 => ?_)
  refine s_aload_n hK dX1_setByte_16 rfl 0 rfl ?_
  refine s_gA hK fcX1 0 (Nat.le_of_ble_eq_true rfl) (Or.inl q150) (Or.inl rfl) dX1_setByte_17 (fun v5 => ?_)
  refine s_gA hK fcX2 0 (Nat.le_of_ble_eq_true rfl) (Or.inr ⟨_, q135⟩) (Or.inl rfl) dX1_setByte_20 (fun v6 => ?_)
  refine s_clI hK q1245 q1246 q569 q570 q1247 q1248 (Nat.le_trans (Nat.le_of_ble_eq_true rfl) hf) rk_n (Nat.le_trans (Nat.le_of_ble_eq_true rfl) hlo) dX1_setByte_23 (fun a7 h8 => ?_)
  refine s_ckI hK q1249 dX1_setByte_26 ?_
  refine s_astore_n (lv' := [(3, va_rf a7), (0, va_rf p0), (1, .int p1), (2, .int p2)]) hK dX1_setByte_29 rfl (Nat.le_of_ble_eq_true rfl) rfl ?_
  refine s_aload_n hK dX1_setByte_30 rfl 0 rfl ?_
  refine s_iload_n hK dX1_setByte_31 rfl 2 rfl ?_
  refine s_iald hK dX1_setByte_32 (fun v9 => ?_)
  refine s_istore (lv' := [(4, .int v9), (3, va_rf a7), (0, va_rf p0), (1, .int p1), (2, .int p2)]) hK dX1_setByte_33 (Nat.le_of_ble_eq_true rfl) (flA (pre := []) (suf := [(0, va_rf p0), (1, .int p1), (2, .int p2)]) rfl rfl) ?_
  refine s_aload_n hK dX1_setByte_35 rfl 1 rfl ?_
  refine s_iload_n hK dX1_setByte_36 rfl 3 rfl ?_
  refine s_iload_n hK dX1_setByte_37 rfl 4 rfl ?_
  refine s_iast hK dX1_setByte_38 (fun h10 => ?_)
  refine s_aload_n hK dX1_setByte_39 rfl 2 rfl ?_
  refine s_new hK fcX2 q126 q127 q79 fsX2_ok dX1_setByte_40 (fun a11 h12 => ?_)
  refine s_dup hK dX1_setByte_43 (va_cat _) ?_
  refine s_aload_n hK dX1_setByte_44 rfl 1 rfl ?_
  refine s_aload_n hK dX1_setByte_45 rfl 2 rfl ?_
  refine s_gA hK fcX1 0 (Nat.le_of_ble_eq_true rfl) (Or.inl q150) (Or.inl rfl) dX1_setByte_46 (fun v13 => ?_)
  refine s_gA hK fcX2 1 (Nat.le_of_ble_eq_true rfl) (Or.inr ⟨_, q138⟩) (Or.inl rfl) dX1_setByte_49 (fun v14 => ?_)
  refine s_aload_n hK dX1_setByte_52 rfl 2 rfl ?_
  refine s_gA hK fcX1 0 (Nat.le_of_ble_eq_true rfl) (Or.inl q150) (Or.inl rfl) dX1_setByte_53 (fun v15 => ?_)
  refine s_gI hK fcX2 2 (Nat.le_of_ble_eq_true rfl) (Or.inr ⟨_, q141⟩) (Or.inl rfl) dX1_setByte_56 (fun v16 => ?_)
  refine s_nn (fun _ eo => ?_)
  refine s_cV hK ho_n (cx_i (As := [va_rf a7, va_rf v14, .int v16]) (rest := [va_rf a11, va_rf p0]) hK dyX2_init rfl q128 rfl q129 q79 q130 eo (ct_X2_init hK.1 a11 a7 v14 v16 h12) (Nat.le_trans (Nat.le_of_ble_eq_true rfl) hf) (Nat.le_trans (Nat.le_of_ble_eq_true rfl) hlo) (rk_a (rk_a rk_n)) (Nat.le_of_ble_eq_true rfl) dX1_setByte_59 rfl) (fun h17 => ?_)
  refine s_iconst (v := 1) hK dX1_setByte_62 rfl ?_
  refine s_rc (fun _ _ eo er => ?_)
  refine s_cV hK ho_n (cx_v (As := [va_rf a11, .int 1]) (rest := []) hK dyX1_set rfl q185 fcX1.1 q187 qs0 q78 q188 eo er (ct_X1_set hK.1 p0 a11 1 h17) (Nat.le_trans (Nat.le_of_ble_eq_true rfl) hf) (Nat.le_trans (Nat.le_of_ble_eq_true rfl) hlo) rk_n (Nat.le_of_ble_eq_true rfl) dX1_setByte_63 rfl) (fun h18 => ?_)
  refine s_iload hK dX1_setByte_66 0 rfl ?_
  exact s_iret hK dX1_setByte_68
theorem ct_X1_setByte {G : GC} {l : Launch} (g : GOK G l) (p0 : Option Nat) (p1 : Int32) (p2 : Int32) (h : AH) : CT G l yX1_setByte (Cond.code yX1_setByte cX1_setByte 5 (some (.int))) 8 122 [va_rf p0, .int p1, .int p2] (f_X1_setByte p0 p1 p2 h) h :=
  CT.of g (by decide) (by simp only [ls_a, ls_i, ls_l, ls_n]; decide) (fun K _ hK hf hlo => by simp only [la_a, la_i, la_l, la_n]; exact sm_X1_setByte hK hf hlo p0 p1 p2 h)
abbrev FR_X1_byteAt : Nat := 8
abbrev LO_X1_byteAt : Nat := 122
theorem dyX1_byteAt : DY yX1_byteAt 1 := ⟨⟨by decide, by decide⟩, by decide +kernel⟩
theorem sm_X1_byteAt {G : GC} {K : SC} (hK : SOK G K RX1 cX1_byteAt 2 (some (.int)) "byteAt" []) (hf : FR_X1_byteAt ≤ (kR K).frames) (hlo : LO_X1_byteAt ≤ (kR K).locals) (p0 : Option Nat) (p1 : Int32) (h : AH) : Sim G K 2 (f_X1_byteAt p0 p1 h) h 0 [(0, va_rf p0), (1, .int p1)] [] := by
  unfold f_X1_byteAt
  refine s_aload_n hK dX1_byteAt_0 rfl 0 rfl ?_
  refine s_iload_n hK dX1_byteAt_1 rfl 1 rfl ?_
  refine s_rc (fun _ _ eo er => ?_)
  refine s_cV hK ho_n (cx_v (As := [.int p1]) (rest := []) hK dyX1_requireAddress rfl q1232 fcX1.1 q1234 qs25 q78 q1235 eo er (ct_X1_requireAddress hK.1 p0 p1 h) (Nat.le_trans (Nat.le_of_ble_eq_true rfl) hf) (Nat.le_trans (Nat.le_of_ble_eq_true rfl) hlo) rk_n (Nat.le_of_ble_eq_true rfl) dX1_byteAt_2 rfl) (fun h1 => ?_)
  refine s_aload_n hK dX1_byteAt_5 rfl 0 rfl ?_
  refine s_gA hK fcX1 0 (Nat.le_of_ble_eq_true rfl) (Or.inl q150) (Or.inl rfl) dX1_byteAt_6 (fun v2 => ?_)
  refine s_gA hK fcX2 0 (Nat.le_of_ble_eq_true rfl) (Or.inr ⟨_, q135⟩) (Or.inl rfl) dX1_byteAt_9 (fun v3 => ?_)
  refine s_iload_n hK dX1_byteAt_12 rfl 1 rfl ?_
  refine s_iald hK dX1_byteAt_13 (fun v4 => ?_)
  exact s_iret hK dX1_byteAt_14
theorem ct_X1_byteAt {G : GC} {l : Launch} (g : GOK G l) (p0 : Option Nat) (p1 : Int32) (h : AH) : CT G l yX1_byteAt (Cond.code yX1_byteAt cX1_byteAt 2 (some (.int))) 8 122 [va_rf p0, .int p1] (f_X1_byteAt p0 p1 h) h :=
  CT.of g (by decide) (by simp only [ls_a, ls_i, ls_l, ls_n]; decide) (fun K _ hK hf hlo => by simp only [la_a, la_i, la_l, la_n]; exact sm_X1_byteAt hK hf hlo p0 p1 h)
abbrev FR_X1_addEntry : Nat := 8
abbrev LO_X1_addEntry : Nat := 122
theorem dyX1_addEntry : DY yX1_addEntry 1 := ⟨⟨by decide, by decide⟩, by decide +kernel⟩
theorem sm_X1_addEntry_J33 {G : GC} {K : SC} (hK : SOK G K RX1 cX1_addEntry 3 (some (.int)) "addEntry" []) (hf : FR_X1_addEntry ≤ (kR K).frames) (hlo : LO_X1_addEntry ≤ (kR K).locals) (x8 : Option Nat) (x9 : Int32) (y10 : Int32) (h11 : AH) : Sim G K 3 (f_X1_addEntry_J33 x8 x9 y10 h11) h11 33 [(0, va_rf x8), (1, .int x9)] [.int y10] := by
  unfold f_X1_addEntry_J33
  refine s_cV hK ho_n (cx_s (As := [.int y10]) (rest := []) hK dyX1_requireState rfl q1153 q1154 q78 q1155 (ct_X1_requireState hK.1 y10 h11) (Nat.le_trans (Nat.le_of_ble_eq_true rfl) hf) (Nat.le_trans (Nat.le_of_ble_eq_true rfl) hlo) rk_n (Nat.le_of_ble_eq_true rfl) dX1_addEntry_33 rfl) (fun h12 => ?_)
  refine s_aload_n hK dX1_addEntry_36 rfl 0 rfl ?_
  refine s_gA hK fcX1 0 (Nat.le_of_ble_eq_true rfl) (Or.inl q150) (Or.inl rfl) dX1_addEntry_37 (fun v13 => ?_)
  refine s_gA hK fcX2 1 (Nat.le_of_ble_eq_true rfl) (Or.inr ⟨_, q138⟩) (Or.inl rfl) dX1_addEntry_40 (fun v14 => ?_)
  refine s_alen hK dX1_addEntry_43 (fun v15 => ?_)
  refine s_iconst (v := 1) hK dX1_addEntry_44 rfl ?_
  refine s_iadd hK dX1_addEntry_45 ?_
  refine s_newI hK dX1_addEntry_46 (fun a16 h17 => ?_)
  refine s_astore_n (lv' := [(2, va_rf a16), (0, va_rf x8), (1, .int x9)]) hK dX1_addEntry_48 rfl (Nat.le_of_ble_eq_true rfl) rfl ?_
  refine s_aload_n hK dX1_addEntry_49 rfl 1 rfl ?_
  refine s_gA hK fcX1 0 (Nat.le_of_ble_eq_true rfl) (Or.inl q150) (Or.inl rfl) dX1_addEntry_50 (fun v18 => ?_)
  refine s_gA hK fcX2 1 (Nat.le_of_ble_eq_true rfl) (Or.inr ⟨_, q138⟩) (Or.inl rfl) dX1_addEntry_53 (fun v19 => ?_)
  refine s_iconst (v := 0) hK dX1_addEntry_56 rfl ?_
  refine s_aload_n hK dX1_addEntry_57 rfl 0 rfl ?_
  refine s_iconst (v := 0) hK dX1_addEntry_58 rfl ?_
  refine s_aload_n hK dX1_addEntry_59 rfl 1 rfl ?_
  refine s_gA hK fcX1 0 (Nat.le_of_ble_eq_true rfl) (Or.inl q150) (Or.inl rfl) dX1_addEntry_60 (fun v20 => ?_)
  refine s_gA hK fcX2 1 (Nat.le_of_ble_eq_true rfl) (Or.inr ⟨_, q138⟩) (Or.inl rfl) dX1_addEntry_63 (fun v21 => ?_)
  refine s_alen hK dX1_addEntry_66 (fun v22 => ?_)
  refine s_cpI hK q1208 q438 q437 q96 (Nat.le_trans (Nat.le_of_ble_eq_true rfl) hf) rk_n (Nat.le_trans (Nat.le_of_ble_eq_true rfl) hlo) dX1_addEntry_67 (fun h23 => ?_)
  refine s_aload_n hK dX1_addEntry_70 rfl 0 rfl ?_
  refine s_aload_n hK dX1_addEntry_71 rfl 1 rfl ?_
  refine s_gA hK fcX1 0 (Nat.le_of_ble_eq_true rfl) (Or.inl q150) (Or.inl rfl) dX1_addEntry_72 (fun v24 => ?_)
  refine s_gA hK fcX2 1 (Nat.le_of_ble_eq_true rfl) (Or.inr ⟨_, q138⟩) (Or.inl rfl) dX1_addEntry_75 (fun v25 => ?_)
  refine s_alen hK dX1_addEntry_78 (fun v26 => ?_)
  refine s_iload_n hK dX1_addEntry_79 rfl 2 rfl ?_
  refine s_iast hK dX1_addEntry_80 (fun h27 => ?_)
  refine s_aload_n hK dX1_addEntry_81 rfl 1 rfl ?_
  refine s_new hK fcX2 q126 q127 q79 fsX2_ok dX1_addEntry_82 (fun a28 h29 => ?_)
  refine s_dup hK dX1_addEntry_85 (va_cat _) ?_
  refine s_aload_n hK dX1_addEntry_86 rfl 1 rfl ?_
  refine s_gA hK fcX1 0 (Nat.le_of_ble_eq_true rfl) (Or.inl q150) (Or.inl rfl) dX1_addEntry_87 (fun v30 => ?_)
  refine s_gA hK fcX2 0 (Nat.le_of_ble_eq_true rfl) (Or.inr ⟨_, q135⟩) (Or.inl rfl) dX1_addEntry_90 (fun v31 => ?_)
  refine s_aload_n hK dX1_addEntry_93 rfl 0 rfl ?_
  refine s_aload_n hK dX1_addEntry_94 rfl 1 rfl ?_
  refine s_gA hK fcX1 0 (Nat.le_of_ble_eq_true rfl) (Or.inl q150) (Or.inl rfl) dX1_addEntry_95 (fun v32 => ?_)
  refine s_gI hK fcX2 2 (Nat.le_of_ble_eq_true rfl) (Or.inr ⟨_, q141⟩) (Or.inl rfl) dX1_addEntry_98 (fun v33 => ?_)
  refine s_nn (fun _ eo => ?_)
  refine s_cV hK ho_n (cx_i (As := [va_rf v31, va_rf a16, .int v33]) (rest := [va_rf a28, va_rf x8]) hK dyX2_init rfl q128 rfl q129 q79 q130 eo (ct_X2_init hK.1 a28 v31 a16 v33 h29) (Nat.le_trans (Nat.le_of_ble_eq_true rfl) hf) (Nat.le_trans (Nat.le_of_ble_eq_true rfl) hlo) (rk_a (rk_a rk_n)) (Nat.le_of_ble_eq_true rfl) dX1_addEntry_101 rfl) (fun h34 => ?_)
  refine s_iconst (v := 0) hK dX1_addEntry_104 rfl ?_
  refine s_rc (fun _ _ eo er => ?_)
  refine s_cV hK ho_n (cx_v (As := [va_rf a28, .int 0]) (rest := []) hK dyX1_set rfl q185 fcX1.1 q187 qs0 q78 q188 eo er (ct_X1_set hK.1 x8 a28 0 h34) (Nat.le_trans (Nat.le_of_ble_eq_true rfl) hf) (Nat.le_trans (Nat.le_of_ble_eq_true rfl) hlo) rk_n (Nat.le_of_ble_eq_true rfl) dX1_addEntry_105 rfl) (fun h35 => ?_)
  refine s_aload_n hK dX1_addEntry_108 rfl 0 rfl ?_
  refine s_alen hK dX1_addEntry_109 (fun v36 => ?_)
  refine s_iconst (v := 1) hK dX1_addEntry_110 rfl ?_
  refine s_isub hK dX1_addEntry_111 ?_
  exact s_iret hK dX1_addEntry_112
theorem sm_X1_addEntry_J32 {G : GC} {K : SC} (hK : SOK G K RX1 cX1_addEntry 3 (some (.int)) "addEntry" []) (hf : FR_X1_addEntry ≤ (kR K).frames) (hlo : LO_X1_addEntry ≤ (kR K).locals) (x5 : Option Nat) (x6 : Int32)  (h7 : AH) : Sim G K 3 (f_X1_addEntry_J32 x5 x6 h7) h7 32 [(0, va_rf x5), (1, .int x6)] [] := by
  unfold f_X1_addEntry_J32
  refine s_iconst (v := 0) hK dX1_addEntry_32 rfl ?_
  exact sm_X1_addEntry_J33 hK hf hlo x5 x6 0 h7
theorem sm_X1_addEntry {G : GC} {K : SC} (hK : SOK G K RX1 cX1_addEntry 3 (some (.int)) "addEntry" []) (hf : FR_X1_addEntry ≤ (kR K).frames) (hlo : LO_X1_addEntry ≤ (kR K).locals) (p0 : Option Nat) (p1 : Int32) (h : AH) : Sim G K 3 (f_X1_addEntry p0 p1 h) h 0 [(0, va_rf p0), (1, .int p1)] [] := by
  unfold f_X1_addEntry
  refine s_aload_n hK dX1_addEntry_0 rfl 0 rfl ?_
  refine s_iload_n hK dX1_addEntry_1 rfl 1 rfl ?_
  refine s_rc (fun _ _ eo er => ?_)
  refine s_cV hK ho_n (cx_v (As := [.int p1]) (rest := []) hK dyX1_requireAddress rfl q1232 fcX1.1 q1234 qs25 q78 q1235 eo er (ct_X1_requireAddress hK.1 p0 p1 h) (Nat.le_trans (Nat.le_of_ble_eq_true rfl) hf) (Nat.le_trans (Nat.le_of_ble_eq_true rfl) hlo) rk_n (Nat.le_of_ble_eq_true rfl) dX1_addEntry_2 rfl) (fun h1 => ?_)
  refine s_aload_n hK dX1_addEntry_5 rfl 0 rfl ?_
  refine s_gA hK fcX1 0 (Nat.le_of_ble_eq_true rfl) (Or.inl q150) (Or.inl rfl) dX1_addEntry_6 (fun v2 => ?_)
  refine s_gA hK fcX2 1 (Nat.le_of_ble_eq_true rfl) (Or.inr ⟨_, q138⟩) (Or.inl rfl) dX1_addEntry_9 (fun v3 => ?_)
  refine s_alen hK dX1_addEntry_12 (fun v4 => ?_)
  refine s_iconst (v := 4) hK dX1_addEntry_13 rfl ?_
  refine s_icmp_ge (tgt := 32) hK dX1_addEntry_14 (by decide) (fun c41 => ?_) (fun c41 => ?_)
  · exact sm_X1_addEntry_J32 hK hf hlo p0 p1 h1
  · refine s_aload_n hK dX1_addEntry_17 rfl 0 rfl ?_
    refine s_gA hK fcX1 0 (Nat.le_of_ble_eq_true rfl) (Or.inl q150) (Or.inl rfl) dX1_addEntry_18 (fun v37 => ?_)
    refine s_iload_n hK dX1_addEntry_21 rfl 1 rfl ?_
    refine s_rc (fun _ _ eo er => ?_)
    refine s_cI hK ho_n (cx_v (As := [.int p1]) (rest := []) hK dyX2_isEntry rfl q1264 fcX2.1 q1265 q1266 q79 q1267 eo er (ct_X2_isEntry hK.1 v37 p1 h1) (Nat.le_trans (Nat.le_of_ble_eq_true rfl) hf) (Nat.le_trans (Nat.le_of_ble_eq_true rfl) hlo) rk_n (Nat.le_of_ble_eq_true rfl) dX1_addEntry_22 rfl) (fun v39 h38 => ?_)
    refine s_if_ne (tgt := 32) hK dX1_addEntry_25 (by decide) (fun c40 => ?_) (fun c40 => ?_)
    · exact sm_X1_addEntry_J32 hK hf hlo p0 p1 h38
    · refine s_iconst (v := 1) hK dX1_addEntry_28 rfl ?_
      refine s_goto (tgt := 33) hK dX1_addEntry_29 (by decide) ?_
      exact sm_X1_addEntry_J33 hK hf hlo p0 p1 1 h38
theorem ct_X1_addEntry {G : GC} {l : Launch} (g : GOK G l) (p0 : Option Nat) (p1 : Int32) (h : AH) : CT G l yX1_addEntry (Cond.code yX1_addEntry cX1_addEntry 3 (some (.int))) 8 122 [va_rf p0, .int p1] (f_X1_addEntry p0 p1 h) h :=
  CT.of g (by decide) (by simp only [ls_a, ls_i, ls_l, ls_n]; decide) (fun K _ hK hf hlo => by simp only [la_a, la_i, la_l, la_n]; exact sm_X1_addEntry hK hf hlo p0 p1 h)
abbrev FR_X1_removeEntry : Nat := 7
abbrev LO_X1_removeEntry : Nat := 120
theorem dyX1_removeEntry : DY yX1_removeEntry 1 := ⟨⟨by decide, by decide⟩, by decide +kernel⟩
theorem sm_X1_removeEntry {G : GC} {K : SC} (hK : SOK G K RX1 cX1_removeEntry 4 (some (.int)) "removeEntry" []) (hf : FR_X1_removeEntry ≤ (kR K).frames) (hlo : LO_X1_removeEntry ≤ (kR K).locals) (p0 : Option Nat) (p1 : Int32) (h : AH) : Sim G K 4 (f_X1_removeEntry p0 p1 h) h 0 [(0, va_rf p0), (1, .int p1)] [] := by
  unfold f_X1_removeEntry
  refine s_iload_n hK dX1_removeEntry_0 rfl 1 rfl ?_
  refine s_iconst (v := 0) hK dX1_removeEntry_1 rfl ?_
  refine s_aload_n hK dX1_removeEntry_2 rfl 0 rfl ?_
  refine s_gA hK fcX1 0 (Nat.le_of_ble_eq_true rfl) (Or.inl q150) (Or.inl rfl) dX1_removeEntry_3 (fun v1 => ?_)
  refine s_gA hK fcX2 1 (Nat.le_of_ble_eq_true rfl) (Or.inr ⟨_, q138⟩) (Or.inl rfl) dX1_removeEntry_6 (fun v2 => ?_)
  refine s_alen hK dX1_removeEntry_9 (fun v3 => ?_)
  refine s_iconst (v := 1) hK dX1_removeEntry_10 rfl ?_
  refine s_isub hK dX1_removeEntry_11 ?_
  refine s_cI hK ho_n (cx_s (As := [.int p1, .int 0, .int (v3 - 1)]) (rest := []) hK dyX1_isBetween rfl q1144 q775 q78 q776 (ct_X1_isBetween hK.1 p1 0 (v3 - 1) h) (Nat.le_trans (Nat.le_of_ble_eq_true rfl) hf) (Nat.le_trans (Nat.le_of_ble_eq_true rfl) hlo) rk_n (Nat.le_of_ble_eq_true rfl) dX1_removeEntry_12 rfl) (fun v5 h4 => ?_)
  refine s_cV hK ho_n (cx_s (As := [.int v5]) (rest := []) hK dyX1_requireIndex rfl q1237 q1238 q78 q1239 (ct_X1_requireIndex hK.1 v5 h4) (Nat.le_trans (Nat.le_of_ble_eq_true rfl) hf) (Nat.le_trans (Nat.le_of_ble_eq_true rfl) hlo) rk_n (Nat.le_of_ble_eq_true rfl) dX1_removeEntry_15 rfl) (fun h6 => ?_)
  refine s_aload_n hK dX1_removeEntry_18 rfl 0 rfl ?_
  refine s_gA hK fcX1 0 (Nat.le_of_ble_eq_true rfl) (Or.inl q150) (Or.inl rfl) dX1_removeEntry_19 (fun v7 => ?_)
  refine s_gA hK fcX2 1 (Nat.le_of_ble_eq_true rfl) (Or.inr ⟨_, q138⟩) (Or.inl rfl) dX1_removeEntry_22 (fun v8 => ?_)
  refine s_iload_n hK dX1_removeEntry_25 rfl 1 rfl ?_
  refine s_iald hK dX1_removeEntry_26 (fun v9 => ?_)
  refine s_istore_n (lv' := [(2, .int v9), (0, va_rf p0), (1, .int p1)]) hK dX1_removeEntry_27 rfl (Nat.le_of_ble_eq_true rfl) rfl ?_
  refine s_aload_n hK dX1_removeEntry_28 rfl 1 rfl ?_
  refine s_gA hK fcX1 0 (Nat.le_of_ble_eq_true rfl) (Or.inl q150) (Or.inl rfl) dX1_removeEntry_29 (fun v10 => ?_)
  refine s_gA hK fcX2 1 (Nat.le_of_ble_eq_true rfl) (Or.inr ⟨_, q138⟩) (Or.inl rfl) dX1_removeEntry_32 (fun v11 => ?_)
  refine s_alen hK dX1_removeEntry_35 (fun v12 => ?_)
  refine s_iconst (v := 1) hK dX1_removeEntry_36 rfl ?_
  refine s_isub hK dX1_removeEntry_37 ?_
  refine s_newI hK dX1_removeEntry_38 (fun a13 h14 => ?_)
  refine s_astore_n (lv' := [(3, va_rf a13), (2, .int v9), (0, va_rf p0), (1, .int p1)]) hK dX1_removeEntry_40 rfl (Nat.le_of_ble_eq_true rfl) rfl ?_
  refine s_aload_n hK dX1_removeEntry_41 rfl 2 rfl ?_
  refine s_gA hK fcX1 0 (Nat.le_of_ble_eq_true rfl) (Or.inl q150) (Or.inl rfl) dX1_removeEntry_42 (fun v15 => ?_)
  refine s_gA hK fcX2 1 (Nat.le_of_ble_eq_true rfl) (Or.inr ⟨_, q138⟩) (Or.inl rfl) dX1_removeEntry_45 (fun v16 => ?_)
  refine s_iconst (v := 0) hK dX1_removeEntry_48 rfl ?_
  refine s_aload_n hK dX1_removeEntry_49 rfl 0 rfl ?_
  refine s_iconst (v := 0) hK dX1_removeEntry_50 rfl ?_
  refine s_iload_n hK dX1_removeEntry_51 rfl 3 rfl ?_
  refine s_cpI hK q1208 q438 q437 q96 (Nat.le_trans (Nat.le_of_ble_eq_true rfl) hf) rk_n (Nat.le_trans (Nat.le_of_ble_eq_true rfl) hlo) dX1_removeEntry_52 (fun h17 => ?_)
  refine s_aload_n hK dX1_removeEntry_55 rfl 2 rfl ?_
  refine s_gA hK fcX1 0 (Nat.le_of_ble_eq_true rfl) (Or.inl q150) (Or.inl rfl) dX1_removeEntry_56 (fun v18 => ?_)
  refine s_gA hK fcX2 1 (Nat.le_of_ble_eq_true rfl) (Or.inr ⟨_, q138⟩) (Or.inl rfl) dX1_removeEntry_59 (fun v19 => ?_)
  refine s_iload_n hK dX1_removeEntry_62 rfl 3 rfl ?_
  refine s_iconst (v := 1) hK dX1_removeEntry_63 rfl ?_
  refine s_iadd hK dX1_removeEntry_64 ?_
  refine s_aload_n hK dX1_removeEntry_65 rfl 0 rfl ?_
  refine s_iload_n hK dX1_removeEntry_66 rfl 3 rfl ?_
  refine s_aload_n hK dX1_removeEntry_67 rfl 0 rfl ?_
  refine s_alen hK dX1_removeEntry_68 (fun v20 => ?_)
  refine s_iload_n hK dX1_removeEntry_69 rfl 3 rfl ?_
  refine s_isub hK dX1_removeEntry_70 ?_
  refine s_cpI hK q1208 q438 q437 q96 (Nat.le_trans (Nat.le_of_ble_eq_true rfl) hf) rk_n (Nat.le_trans (Nat.le_of_ble_eq_true rfl) hlo) dX1_removeEntry_71 (fun h21 => ?_)
  refine s_aload_n hK dX1_removeEntry_74 rfl 2 rfl ?_
  refine s_new hK fcX2 q126 q127 q79 fsX2_ok dX1_removeEntry_75 (fun a22 h23 => ?_)
  refine s_dup hK dX1_removeEntry_78 (va_cat _) ?_
  refine s_aload_n hK dX1_removeEntry_79 rfl 2 rfl ?_
  refine s_gA hK fcX1 0 (Nat.le_of_ble_eq_true rfl) (Or.inl q150) (Or.inl rfl) dX1_removeEntry_80 (fun v24 => ?_)
  refine s_gA hK fcX2 0 (Nat.le_of_ble_eq_true rfl) (Or.inr ⟨_, q135⟩) (Or.inl rfl) dX1_removeEntry_83 (fun v25 => ?_)
  refine s_aload_n hK dX1_removeEntry_86 rfl 0 rfl ?_
  refine s_aload_n hK dX1_removeEntry_87 rfl 2 rfl ?_
  refine s_gA hK fcX1 0 (Nat.le_of_ble_eq_true rfl) (Or.inl q150) (Or.inl rfl) dX1_removeEntry_88 (fun v26 => ?_)
  refine s_gI hK fcX2 2 (Nat.le_of_ble_eq_true rfl) (Or.inr ⟨_, q141⟩) (Or.inl rfl) dX1_removeEntry_91 (fun v27 => ?_)
  refine s_nn (fun _ eo => ?_)
  refine s_cV hK ho_n (cx_i (As := [va_rf v25, va_rf a13, .int v27]) (rest := [va_rf a22, va_rf p0]) hK dyX2_init rfl q128 rfl q129 q79 q130 eo (ct_X2_init hK.1 a22 v25 a13 v27 h23) (Nat.le_trans (Nat.le_of_ble_eq_true rfl) hf) (Nat.le_trans (Nat.le_of_ble_eq_true rfl) hlo) (rk_a (rk_a rk_n)) (Nat.le_of_ble_eq_true rfl) dX1_removeEntry_94 rfl) (fun h28 => ?_)
  refine s_iconst (v := 0) hK dX1_removeEntry_97 rfl ?_
  refine s_rc (fun _ _ eo er => ?_)
  refine s_cV hK ho_n (cx_v (As := [va_rf a22, .int 0]) (rest := []) hK dyX1_set rfl q185 fcX1.1 q187 qs0 q78 q188 eo er (ct_X1_set hK.1 p0 a22 0 h28) (Nat.le_trans (Nat.le_of_ble_eq_true rfl) hf) (Nat.le_trans (Nat.le_of_ble_eq_true rfl) hlo) rk_n (Nat.le_of_ble_eq_true rfl) dX1_removeEntry_98 rfl) (fun h29 => ?_)
  refine s_iload_n hK dX1_removeEntry_101 rfl 1 rfl ?_
  exact s_iret hK dX1_removeEntry_102
theorem ct_X1_removeEntry {G : GC} {l : Launch} (g : GOK G l) (p0 : Option Nat) (p1 : Int32) (h : AH) : CT G l yX1_removeEntry (Cond.code yX1_removeEntry cX1_removeEntry 4 (some (.int))) 7 120 [va_rf p0, .int p1] (f_X1_removeEntry p0 p1 h) h :=
  CT.of g (by decide) (by simp only [ls_a, ls_i, ls_l, ls_n]; decide) (fun K _ hK hf hlo => by simp only [la_a, la_i, la_l, la_n]; exact sm_X1_removeEntry hK hf hlo p0 p1 h)
abbrev FR_X1_setThreshold : Nat := 7
abbrev LO_X1_setThreshold : Nat := 101
theorem dyX1_setThreshold : DY yX1_setThreshold 1 := ⟨⟨by decide, by decide⟩, by decide +kernel⟩
theorem sm_X1_setThreshold {G : GC} {K : SC} (hK : SOK G K RX1 cX1_setThreshold 3 (some (.int)) "setThreshold" []) (hf : FR_X1_setThreshold ≤ (kR K).frames) (hlo : LO_X1_setThreshold ≤ (kR K).locals) (p0 : Option Nat) (p1 : Int32) (h : AH) : Sim G K 3 (f_X1_setThreshold p0 p1 h) h 0 [(0, va_rf p0), (1, .int p1)] [] := by
  unfold f_X1_setThreshold
  refine s_iload_n hK dX1_setThreshold_0 rfl 1 rfl ?_
  refine s_iconst (v := 1) hK dX1_setThreshold_1 rfl ?_
  refine s_bipush (v := 30) hK dX1_setThreshold_2 rfl ?_
  refine s_cI hK ho_n (cx_s (As := [.int p1, .int 1, .int 30]) (rest := []) hK dyX1_isBetween rfl q1144 q775 q78 q776 (ct_X1_isBetween hK.1 p1 1 30 h) (Nat.le_trans (Nat.le_of_ble_eq_true rfl) hf) (Nat.le_trans (Nat.le_of_ble_eq_true rfl) hlo) rk_n (Nat.le_of_ble_eq_true rfl) dX1_setThreshold_4 rfl) (fun v2 h1 => ?_)
  refine s_cV hK ho_n (cx_s (As := [.int v2]) (rest := []) hK dyX1_requireArgument rfl q1145 q1146 q78 q1147 (ct_X1_requireArgument hK.1 v2 h1) (Nat.le_trans (Nat.le_of_ble_eq_true rfl) hf) (Nat.le_trans (Nat.le_of_ble_eq_true rfl) hlo) rk_n (Nat.le_of_ble_eq_true rfl) dX1_setThreshold_7 rfl) (fun h3 => ?_)
  refine s_aload_n hK dX1_setThreshold_10 rfl 0 rfl ?_
  refine s_gA hK fcX1 0 (Nat.le_of_ble_eq_true rfl) (Or.inl q150) (Or.inl rfl) dX1_setThreshold_11 (fun v4 => ?_)
  refine s_gI hK fcX2 2 (Nat.le_of_ble_eq_true rfl) (Or.inr ⟨_, q141⟩) (Or.inl rfl) dX1_setThreshold_14 (fun v5 => ?_)
  refine s_istore_n (lv' := [(2, .int v5), (0, va_rf p0), (1, .int p1)]) hK dX1_setThreshold_17 rfl (Nat.le_of_ble_eq_true rfl) rfl ?_
  refine s_aload_n hK dX1_setThreshold_18 rfl 1 rfl ?_
  refine s_new hK fcX2 q126 q127 q79 fsX2_ok dX1_setThreshold_19 (fun a6 h7 => ?_)
  refine s_dup hK dX1_setThreshold_22 (va_cat _) ?_
  refine s_aload_n hK dX1_setThreshold_23 rfl 1 rfl ?_
  refine s_gA hK fcX1 0 (Nat.le_of_ble_eq_true rfl) (Or.inl q150) (Or.inl rfl) dX1_setThreshold_24 (fun v8 => ?_)
  refine s_gA hK fcX2 0 (Nat.le_of_ble_eq_true rfl) (Or.inr ⟨_, q135⟩) (Or.inl rfl) dX1_setThreshold_27 (fun v9 => ?_)
  refine s_aload_n hK dX1_setThreshold_30 rfl 1 rfl ?_
  refine s_gA hK fcX1 0 (Nat.le_of_ble_eq_true rfl) (Or.inl q150) (Or.inl rfl) dX1_setThreshold_31 (fun v10 => ?_)
  refine s_gA hK fcX2 1 (Nat.le_of_ble_eq_true rfl) (Or.inr ⟨_, q138⟩) (Or.inl rfl) dX1_setThreshold_34 (fun v11 => ?_)
  refine s_iload_n hK dX1_setThreshold_37 rfl 2 rfl ?_
  refine s_nn (fun _ eo => ?_)
  refine s_cV hK ho_n (cx_i (As := [va_rf v9, va_rf v11, .int p1]) (rest := [va_rf a6, va_rf p0]) hK dyX2_init rfl q128 rfl q129 q79 q130 eo (ct_X2_init hK.1 a6 v9 v11 p1 h7) (Nat.le_trans (Nat.le_of_ble_eq_true rfl) hf) (Nat.le_trans (Nat.le_of_ble_eq_true rfl) hlo) (rk_a (rk_a rk_n)) (Nat.le_of_ble_eq_true rfl) dX1_setThreshold_38 rfl) (fun h12 => ?_)
  refine s_iconst (v := 0) hK dX1_setThreshold_41 rfl ?_
  refine s_rc (fun _ _ eo er => ?_)
  refine s_cV hK ho_n (cx_v (As := [va_rf a6, .int 0]) (rest := []) hK dyX1_set rfl q185 fcX1.1 q187 qs0 q78 q188 eo er (ct_X1_set hK.1 p0 a6 0 h12) (Nat.le_trans (Nat.le_of_ble_eq_true rfl) hf) (Nat.le_trans (Nat.le_of_ble_eq_true rfl) hlo) rk_n (Nat.le_of_ble_eq_true rfl) dX1_setThreshold_42 rfl) (fun h13 => ?_)
  refine s_iload_n hK dX1_setThreshold_45 rfl 0 rfl ?_
  exact s_iret hK dX1_setThreshold_46
theorem ct_X1_setThreshold {G : GC} {l : Launch} (g : GOK G l) (p0 : Option Nat) (p1 : Int32) (h : AH) : CT G l yX1_setThreshold (Cond.code yX1_setThreshold cX1_setThreshold 3 (some (.int))) 7 101 [va_rf p0, .int p1] (f_X1_setThreshold p0 p1 h) h :=
  CT.of g (by decide) (by simp only [ls_a, ls_i, ls_l, ls_n]; decide) (fun K _ hK hf hlo => by simp only [la_a, la_i, la_l, la_n]; exact sm_X1_setThreshold hK hf hlo p0 p1 h)
abbrev FR_X1_isValid : Nat := 8
abbrev LO_X1_isValid : Nat := 122
theorem dyX1_isValid : DY yX1_isValid 1 := ⟨⟨by decide, by decide⟩, by decide +kernel⟩
theorem sm_X1_isValid {G : GC} {K : SC} (hK : SOK G K RX1 cX1_isValid 2 (some (.boolean)) "isValid" []) (hf : FR_X1_isValid ≤ (kR K).frames) (hlo : LO_X1_isValid ≤ (kR K).locals) (p0 : Option Nat) (p1 : Int32) (h : AH) : Sim G K 2 (f_X1_isValid p0 p1 h) h 0 [(0, va_rf p0), (1, .int p1)] [] := by
  unfold f_X1_isValid
  refine s_aload_n hK dX1_isValid_0 rfl 0 rfl ?_
  refine s_iload_n hK dX1_isValid_1 rfl 1 rfl ?_
  refine s_rc (fun _ _ eo er => ?_)
  refine s_cV hK ho_n (cx_v (As := [.int p1]) (rest := []) hK dyX1_requireAddress rfl q1232 fcX1.1 q1234 qs25 q78 q1235 eo er (ct_X1_requireAddress hK.1 p0 p1 h) (Nat.le_trans (Nat.le_of_ble_eq_true rfl) hf) (Nat.le_trans (Nat.le_of_ble_eq_true rfl) hlo) rk_n (Nat.le_of_ble_eq_true rfl) dX1_isValid_2 rfl) (fun h1 => ?_)
  refine s_aload_n hK dX1_isValid_5 rfl 0 rfl ?_
  refine s_gA hK fcX1 0 (Nat.le_of_ble_eq_true rfl) (Or.inl q150) (Or.inl rfl) dX1_isValid_6 (fun v2 => ?_)
  refine s_iload_n hK dX1_isValid_9 rfl 1 rfl ?_
  refine s_rc (fun _ _ eo er => ?_)
  refine s_cI hK ho_n (cx_v (As := [.int p1]) (rest := []) hK dyX2_isValid rfl q1289 fcX2.1 q767 q768 q79 q769 eo er (ct_X2_isValid hK.1 v2 p1 h1) (Nat.le_trans (Nat.le_of_ble_eq_true rfl) hf) (Nat.le_trans (Nat.le_of_ble_eq_true rfl) hlo) rk_n (Nat.le_of_ble_eq_true rfl) dX1_isValid_10 rfl) (fun v4 h3 => ?_)
  exact s_zret hK dX1_isValid_13
theorem ct_X1_isValid {G : GC} {l : Launch} (g : GOK G l) (p0 : Option Nat) (p1 : Int32) (h : AH) : CT G l yX1_isValid (Cond.code yX1_isValid cX1_isValid 2 (some (.boolean))) 8 122 [va_rf p0, .int p1] (f_X1_isValid p0 p1 h) h :=
  CT.of g (by decide) (by simp only [ls_a, ls_i, ls_l, ls_n]; decide) (fun K _ hK hf hlo => by simp only [la_a, la_i, la_l, la_n]; exact sm_X1_isValid hK hf hlo p0 p1 h)
abbrev FR_X1_decode : Nat := 8
abbrev LO_X1_decode : Nat := 122
theorem dyX1_decode : DY yX1_decode 2 := ⟨⟨by decide, by decide⟩, by decide +kernel⟩
theorem sm_X1_decode {G : GC} {K : SC} (hK : SOK G K RX1 cX1_decode 3 (some (.int)) "decode" []) (hf : FR_X1_decode ≤ (kR K).frames) (hlo : LO_X1_decode ≤ (kR K).locals) (p0 : Option Nat) (p1 : Int32) (p2 : Int32) (h : AH) : Sim G K 3 (f_X1_decode p0 p1 p2 h) h 0 [(0, va_rf p0), (1, .int p1), (2, .int p2)] [] := by
  unfold f_X1_decode
  refine s_aload_n hK dX1_decode_0 rfl 0 rfl ?_
  refine s_iload_n hK dX1_decode_1 rfl 1 rfl ?_
  refine s_rc (fun _ _ eo er => ?_)
  refine s_cV hK ho_n (cx_v (As := [.int p1]) (rest := []) hK dyX1_requireAddress rfl q1232 fcX1.1 q1234 qs25 q78 q1235 eo er (ct_X1_requireAddress hK.1 p0 p1 h) (Nat.le_trans (Nat.le_of_ble_eq_true rfl) hf) (Nat.le_trans (Nat.le_of_ble_eq_true rfl) hlo) rk_n (Nat.le_of_ble_eq_true rfl) dX1_decode_2 rfl) (fun h1 => ?_)
  refine s_iload_n hK dX1_decode_5 rfl 2 rfl ?_
  refine s_iconst (v := 0) hK dX1_decode_6 rfl ?_
  refine s_iconst (v := 5) hK dX1_decode_7 rfl ?_
  refine s_cI hK ho_n (cx_s (As := [.int p2, .int 0, .int 5]) (rest := []) hK dyX1_isBetween rfl q1144 q775 q78 q776 (ct_X1_isBetween hK.1 p2 0 5 h1) (Nat.le_trans (Nat.le_of_ble_eq_true rfl) hf) (Nat.le_trans (Nat.le_of_ble_eq_true rfl) hlo) rk_n (Nat.le_of_ble_eq_true rfl) dX1_decode_8 rfl) (fun v3 h2 => ?_)
  refine s_cV hK ho_n (cx_s (As := [.int v3]) (rest := []) hK dyX1_requireArgument rfl q1145 q1146 q78 q1147 (ct_X1_requireArgument hK.1 v3 h2) (Nat.le_trans (Nat.le_of_ble_eq_true rfl) hf) (Nat.le_trans (Nat.le_of_ble_eq_true rfl) hlo) rk_n (Nat.le_of_ble_eq_true rfl) dX1_decode_11 rfl) (fun h4 => ?_)
  refine s_aload_n hK dX1_decode_14 rfl 0 rfl ?_
  refine s_gA hK fcX1 0 (Nat.le_of_ble_eq_true rfl) (Or.inl q150) (Or.inl rfl) dX1_decode_15 (fun v5 => ?_)
  refine s_iload_n hK dX1_decode_18 rfl 1 rfl ?_
  refine s_rc (fun _ _ eo er => ?_)
  refine s_cI hK ho_n (cx_v (As := [.int p1]) (rest := []) hK dyX2_isValid rfl q1289 fcX2.1 q767 q768 q79 q769 eo er (ct_X2_isValid hK.1 v5 p1 h4) (Nat.le_trans (Nat.le_of_ble_eq_true rfl) hf) (Nat.le_trans (Nat.le_of_ble_eq_true rfl) hlo) rk_n (Nat.le_of_ble_eq_true rfl) dX1_decode_19 rfl) (fun v7 h6 => ?_)
  refine s_cV hK ho_n (cx_s (As := [.int v7]) (rest := []) hK dyX1_requireSupport rfl q1298 q1299 q78 q1300 (ct_X1_requireSupport hK.1 v7 h6) (Nat.le_trans (Nat.le_of_ble_eq_true rfl) hf) (Nat.le_trans (Nat.le_of_ble_eq_true rfl) hlo) rk_n (Nat.le_of_ble_eq_true rfl) dX1_decode_22 rfl) (fun h8 => ?_)
  refine s_iload_n hK dX1_decode_25 rfl 2 rfl ?_
  refine s_ite (fun e9 => ?_) (fun e9 => ?_)
  · refine s_tabIn (tgt := 60) hK dX1_decode_26 0 e9 (by decide) (by decide) rfl (by decide) ?_
    refine s_aload_n hK dX1_decode_60 rfl 0 rfl ?_
    refine s_gA hK fcX1 0 (Nat.le_of_ble_eq_true rfl) (Or.inl q150) (Or.inl rfl) dX1_decode_61 (fun v14 => ?_)
    refine s_iload_n hK dX1_decode_64 rfl 1 rfl ?_
    refine s_rc (fun _ _ eo er => ?_)
    refine s_cI hK ho_n (cx_v (As := [.int p1]) (rest := []) hK dyX2_kind rfl q1316 fcX2.1 q778 q779 q79 q780 eo er (ct_X2_kind hK.1 v14 p1 h8) (Nat.le_trans (Nat.le_of_ble_eq_true rfl) hf) (Nat.le_trans (Nat.le_of_ble_eq_true rfl) hlo) rk_n (Nat.le_of_ble_eq_true rfl) dX1_decode_65 rfl) (fun v16 h15 => ?_)
    exact s_iret hK dX1_decode_68
  refine s_ite (fun e10 => ?_) (fun e10 => ?_)
  · refine s_tabIn (tgt := 69) hK dX1_decode_26 1 e10 (by decide) (by decide) rfl (by decide) ?_
    refine s_aload_n hK dX1_decode_69 rfl 0 rfl ?_
    refine s_gA hK fcX1 0 (Nat.le_of_ble_eq_true rfl) (Or.inl q150) (Or.inl rfl) dX1_decode_70 (fun v17 => ?_)
    refine s_iload_n hK dX1_decode_73 rfl 1 rfl ?_
    refine s_rc (fun _ _ eo er => ?_)
    refine s_cI hK ho_n (cx_v (As := [.int p1]) (rest := []) hK dyX2_length rfl q1317 fcX2.1 q782 q783 q79 q784 eo er (ct_X2_length hK.1 v17 p1 h8) (Nat.le_trans (Nat.le_of_ble_eq_true rfl) hf) (Nat.le_trans (Nat.le_of_ble_eq_true rfl) hlo) rk_n (Nat.le_of_ble_eq_true rfl) dX1_decode_74 rfl) (fun v19 h18 => ?_)
    exact s_iret hK dX1_decode_77
  refine s_ite (fun e11 => ?_) (fun e11 => ?_)
  · refine s_tabIn (tgt := 78) hK dX1_decode_26 2 e11 (by decide) (by decide) rfl (by decide) ?_
    refine s_aload_n hK dX1_decode_78 rfl 0 rfl ?_
    refine s_gA hK fcX1 0 (Nat.le_of_ble_eq_true rfl) (Or.inl q150) (Or.inl rfl) dX1_decode_79 (fun v20 => ?_)
    refine s_iload_n hK dX1_decode_82 rfl 1 rfl ?_
    refine s_rc (fun _ _ eo er => ?_)
    refine s_cI hK ho_n (cx_v (As := [.int p1]) (rest := []) hK dyX2_first rfl q1318 fcX2.1 q904 q905 q79 q906 eo er (ct_X2_first hK.1 v20 p1 h8) (Nat.le_trans (Nat.le_of_ble_eq_true rfl) hf) (Nat.le_trans (Nat.le_of_ble_eq_true rfl) hlo) rk_n (Nat.le_of_ble_eq_true rfl) dX1_decode_83 rfl) (fun v22 h21 => ?_)
    exact s_iret hK dX1_decode_86
  refine s_ite (fun e12 => ?_) (fun e12 => ?_)
  · refine s_tabIn (tgt := 87) hK dX1_decode_26 3 e12 (by decide) (by decide) rfl (by decide) ?_
    refine s_aload_n hK dX1_decode_87 rfl 0 rfl ?_
    refine s_gA hK fcX1 0 (Nat.le_of_ble_eq_true rfl) (Or.inl q150) (Or.inl rfl) dX1_decode_88 (fun v23 => ?_)
    refine s_iload_n hK dX1_decode_91 rfl 1 rfl ?_
    refine s_rc (fun _ _ eo er => ?_)
    refine s_cI hK ho_n (cx_v (As := [.int p1]) (rest := []) hK dyX2_second rfl q1319 fcX2.1 q1320 q1321 q79 q1322 eo er (ct_X2_second hK.1 v23 p1 h8) (Nat.le_trans (Nat.le_of_ble_eq_true rfl) hf) (Nat.le_trans (Nat.le_of_ble_eq_true rfl) hlo) rk_n (Nat.le_of_ble_eq_true rfl) dX1_decode_92 rfl) (fun v25 h24 => ?_)
    exact s_iret hK dX1_decode_95
  refine s_ite (fun e13 => ?_) (fun e13 => ?_)
  · refine s_tabIn (tgt := 96) hK dX1_decode_26 4 e13 (by decide) (by decide) rfl (by decide) ?_
    refine s_aload_n hK dX1_decode_96 rfl 0 rfl ?_
    refine s_gA hK fcX1 0 (Nat.le_of_ble_eq_true rfl) (Or.inl q150) (Or.inl rfl) dX1_decode_97 (fun v26 => ?_)
    refine s_iload_n hK dX1_decode_100 rfl 1 rfl ?_
    refine s_rc (fun _ _ eo er => ?_)
    refine s_cI hK ho_n (cx_v (As := [.int p1]) (rest := []) hK dyX2_hasOperand rfl q1323 fcX2.1 q786 q787 q79 q788 eo er (ct_X2_hasOperand hK.1 v26 p1 h8) (Nat.le_trans (Nat.le_of_ble_eq_true rfl) hf) (Nat.le_trans (Nat.le_of_ble_eq_true rfl) hlo) rk_n (Nat.le_of_ble_eq_true rfl) dX1_decode_101 rfl) (fun v28 h27 => ?_)
    refine s_cV hK ho_n (cx_s (As := [.int v28]) (rest := []) hK dyX1_requireSupport rfl q1298 q1299 q78 q1300 (ct_X1_requireSupport hK.1 v28 h27) (Nat.le_trans (Nat.le_of_ble_eq_true rfl) hf) (Nat.le_trans (Nat.le_of_ble_eq_true rfl) hlo) rk_n (Nat.le_of_ble_eq_true rfl) dX1_decode_104 rfl) (fun h29 => ?_)
    refine s_aload_n hK dX1_decode_107 rfl 0 rfl ?_
    refine s_gA hK fcX1 0 (Nat.le_of_ble_eq_true rfl) (Or.inl q150) (Or.inl rfl) dX1_decode_108 (fun v30 => ?_)
    refine s_iload_n hK dX1_decode_111 rfl 1 rfl ?_
    refine s_rc (fun _ _ eo er => ?_)
    refine s_cI hK ho_n (cx_v (As := [.int p1]) (rest := []) hK dyX2_operand rfl q1324 fcX2.1 q798 q799 q79 q800 eo er (ct_X2_operand hK.1 v30 p1 h29) (Nat.le_trans (Nat.le_of_ble_eq_true rfl) hf) (Nat.le_trans (Nat.le_of_ble_eq_true rfl) hlo) rk_n (Nat.le_of_ble_eq_true rfl) dX1_decode_112 rfl) (fun v32 h31 => ?_)
    exact s_iret hK dX1_decode_115
  refine s_tabOut (tgt := 116) hK dX1_decode_26 (tsw_out [0, 1, 2, 3, 4] (List.forall_mem_cons.mpr ⟨e9, (List.forall_mem_cons.mpr ⟨e10, (List.forall_mem_cons.mpr ⟨e11, (List.forall_mem_cons.mpr ⟨e12, (List.forall_mem_cons.mpr ⟨e13, (fun _ hz => nomatch hz)⟩)⟩)⟩)⟩)⟩) (by decide)) (by decide) ?_
  refine s_aload_n hK dX1_decode_116 rfl 0 rfl ?_
  refine s_gA hK fcX1 0 (Nat.le_of_ble_eq_true rfl) (Or.inl q150) (Or.inl rfl) dX1_decode_117 (fun v33 => ?_)
  refine s_iload_n hK dX1_decode_120 rfl 1 rfl ?_
  refine s_rc (fun _ _ eo er => ?_)
  refine s_cI hK ho_n (cx_v (As := [.int p1]) (rest := []) hK dyX2_hasTarget rfl q1325 fcX2.1 q790 q791 q79 q792 eo er (ct_X2_hasTarget hK.1 v33 p1 h8) (Nat.le_trans (Nat.le_of_ble_eq_true rfl) hf) (Nat.le_trans (Nat.le_of_ble_eq_true rfl) hlo) rk_n (Nat.le_of_ble_eq_true rfl) dX1_decode_121 rfl) (fun v35 h34 => ?_)
  refine s_cV hK ho_n (cx_s (As := [.int v35]) (rest := []) hK dyX1_requireSupport rfl q1298 q1299 q78 q1300 (ct_X1_requireSupport hK.1 v35 h34) (Nat.le_trans (Nat.le_of_ble_eq_true rfl) hf) (Nat.le_trans (Nat.le_of_ble_eq_true rfl) hlo) rk_n (Nat.le_of_ble_eq_true rfl) dX1_decode_124 rfl) (fun h36 => ?_)
  refine s_aload_n hK dX1_decode_127 rfl 0 rfl ?_
  refine s_gA hK fcX1 0 (Nat.le_of_ble_eq_true rfl) (Or.inl q150) (Or.inl rfl) dX1_decode_128 (fun v37 => ?_)
  refine s_iload_n hK dX1_decode_131 rfl 1 rfl ?_
  refine s_rc (fun _ _ eo er => ?_)
  refine s_cI hK ho_n (cx_v (As := [.int p1]) (rest := []) hK dyX2_target rfl q1326 fcX2.1 q794 q795 q79 q796 eo er (ct_X2_target hK.1 v37 p1 h36) (Nat.le_trans (Nat.le_of_ble_eq_true rfl) hf) (Nat.le_trans (Nat.le_of_ble_eq_true rfl) hlo) rk_n (Nat.le_of_ble_eq_true rfl) dX1_decode_132 rfl) (fun v39 h38 => ?_)
  exact s_iret hK dX1_decode_135
theorem ct_X1_decode {G : GC} {l : Launch} (g : GOK G l) (p0 : Option Nat) (p1 : Int32) (p2 : Int32) (h : AH) : CT G l yX1_decode (Cond.code yX1_decode cX1_decode 3 (some (.int))) 8 122 [va_rf p0, .int p1, .int p2] (f_X1_decode p0 p1 p2 h) h :=
  CT.of g (by decide) (by simp only [ls_a, ls_i, ls_l, ls_n]; decide) (fun K _ hK hf hlo => by simp only [la_a, la_i, la_l, la_n]; exact sm_X1_decode hK hf hlo p0 p1 p2 h)
abbrev FR_X1_recovered : Nat := 7
abbrev LO_X1_recovered : Nat := 101
theorem dyX1_recovered : DY yX1_recovered 0 := ⟨⟨by decide, by decide⟩, by decide +kernel⟩
theorem sm_X1_recovered_J12 {G : GC} {K : SC} (hK : SOK G K RX1 cX1_recovered 1 (some (.object "CodeRecovery$Recovery")) "recovered" []) (hf : FR_X1_recovered ≤ (kR K).frames) (hlo : LO_X1_recovered ≤ (kR K).locals) (x2 : Option Nat) (y3 : Int32) (h4 : AH) : Sim G K 1 (f_X1_recovered_J12 x2 y3 h4) h4 12 [(0, va_rf x2)] [.int y3] := by
  unfold f_X1_recovered_J12
  refine s_cV hK ho_n (cx_s (As := [.int y3]) (rest := []) hK dyX1_requireState rfl q1153 q1154 q78 q1155 (ct_X1_requireState hK.1 y3 h4) (Nat.le_trans (Nat.le_of_ble_eq_true rfl) hf) (Nat.le_trans (Nat.le_of_ble_eq_true rfl) hlo) rk_n (Nat.le_of_ble_eq_true rfl) dX1_recovered_12 rfl) (fun h5 => ?_)
  refine s_aload_n hK dX1_recovered_15 rfl 0 rfl ?_
  refine s_gA hK fcX1 2 (Nat.le_of_ble_eq_true rfl) (Or.inl q152) (Or.inl rfl) dX1_recovered_16 (fun v6 => ?_)
  exact s_aret hK (Or.inl ⟨_, rfl⟩) dX1_recovered_19
theorem sm_X1_recovered {G : GC} {K : SC} (hK : SOK G K RX1 cX1_recovered 1 (some (.object "CodeRecovery$Recovery")) "recovered" []) (hf : FR_X1_recovered ≤ (kR K).frames) (hlo : LO_X1_recovered ≤ (kR K).locals) (p0 : Option Nat) (h : AH) : Sim G K 1 (f_X1_recovered p0 h) h 0 [(0, va_rf p0)] [] := by
  unfold f_X1_recovered
  refine s_aload_n hK dX1_recovered_0 rfl 0 rfl ?_
  refine s_gA hK fcX1 2 (Nat.le_of_ble_eq_true rfl) (Or.inl q152) (Or.inl rfl) dX1_recovered_1 (fun v1 => ?_)
  refine s_ifnull (tgt := 11) hK dX1_recovered_4 (by decide) (fun c7 => ?_) (fun c7 => ?_)
  · refine s_iconst (v := 0) hK dX1_recovered_11 rfl ?_
    exact sm_X1_recovered_J12 hK hf hlo p0 0 h
  · refine s_iconst (v := 1) hK dX1_recovered_7 rfl ?_
    refine s_goto (tgt := 12) hK dX1_recovered_8 (by decide) ?_
    exact sm_X1_recovered_J12 hK hf hlo p0 1 h
theorem ct_X1_recovered {G : GC} {l : Launch} (g : GOK G l) (p0 : Option Nat) (h : AH) : CT G l yX1_recovered (Cond.code yX1_recovered cX1_recovered 1 (some (.object "CodeRecovery$Recovery"))) 7 101 [va_rf p0] (f_X1_recovered p0 h) h :=
  CT.of g (by decide) (by simp only [ls_a, ls_i, ls_l, ls_n]; decide) (fun K _ hK hf hlo => by simp only [la_a, la_i, la_l, la_n]; exact sm_X1_recovered hK hf hlo p0 h)
abbrev FR_X1_accepted : Nat := 8
abbrev LO_X1_accepted : Nat := 121
theorem dyX1_accepted : DY yX1_accepted 0 := ⟨⟨by decide, by decide⟩, by decide +kernel⟩
theorem sm_X1_accepted {G : GC} {K : SC} (hK : SOK G K RX1 cX1_accepted 1 (some (.int)) "accepted" []) (hf : FR_X1_accepted ≤ (kR K).frames) (hlo : LO_X1_accepted ≤ (kR K).locals) (p0 : Option Nat) (h : AH) : Sim G K 1 (f_X1_accepted p0 h) h 0 [(0, va_rf p0)] [] := by
  unfold f_X1_accepted
  refine s_aload_n hK dX1_accepted_0 rfl 0 rfl ?_
  refine s_rc (fun _ _ eo er => ?_)
  refine s_cA hK ho_n (cx_v (As := []) (rest := []) hK dyX1_recovered rfl q1334 fcX1.1 q1336 qs26 q78 q1337 eo er (ct_X1_recovered hK.1 p0 h) (Nat.le_trans (Nat.le_of_ble_eq_true rfl) hf) (Nat.le_trans (Nat.le_of_ble_eq_true rfl) hlo) rk_n (Nat.le_of_ble_eq_true rfl) dX1_accepted_1 rfl) (fun v2 h1 => ?_)
  refine s_gA hK fcX5 8 (Nat.le_of_ble_eq_true rfl) (Or.inr ⟨_, q1101⟩) (Or.inl rfl) dX1_accepted_4 (fun v3 => ?_)
  refine s_rc (fun _ _ eo er => ?_)
  refine s_cI hK ho_n (cx_v (As := []) (rest := []) hK dyJ20_cardinality rfl q1121 fcJ20.1 q1122 q1123 q106 q1124 eo er (ct_J20_cardinality hK.1 v3 h1) (Nat.le_trans (Nat.le_of_ble_eq_true rfl) hf) (Nat.le_trans (Nat.le_of_ble_eq_true rfl) hlo) rk_n (Nat.le_of_ble_eq_true rfl) dX1_accepted_7 rfl) (fun v5 h4 => ?_)
  exact s_iret hK dX1_accepted_10
theorem ct_X1_accepted {G : GC} {l : Launch} (g : GOK G l) (p0 : Option Nat) (h : AH) : CT G l yX1_accepted (Cond.code yX1_accepted cX1_accepted 1 (some (.int))) 8 121 [va_rf p0] (f_X1_accepted p0 h) h :=
  CT.of g (by decide) (by simp only [ls_a, ls_i, ls_l, ls_n]; decide) (fun K _ hK hf hlo => by simp only [la_a, la_i, la_l, la_n]; exact sm_X1_accepted hK hf hlo p0 h)
abbrev FR_X1_acceptedAt : Nat := 8
abbrev LO_X1_acceptedAt : Nat := 121
theorem dyX1_acceptedAt : DY yX1_acceptedAt 1 := ⟨⟨by decide, by decide⟩, by decide +kernel⟩
theorem sm_X1_acceptedAt_L31 {G : GC} {K : SC} (hK : SOK G K RX1 cX1_acceptedAt 5 (some (.int)) "acceptedAt" []) (hf : FR_X1_acceptedAt ≤ (kR K).frames) (hlo : LO_X1_acceptedAt ≤ (kR K).locals) {k51 : Int32 → AH → RS} (hk51 : ∀ (y0 : Int32) (h : AH), Sim G K 5 (k51 y0 h) h 51 [(3, .int y0)] []) : ∀ (n : Nat) (x11 : Int32) (x12 : Option Nat) (x13 : Int32) (x14 : Int32) (h15 : AH), Sim G K 5 (f_X1_acceptedAt_L31 k51 n x11 x12 x13 x14 h15) h15 31 [(1, .int x11), (2, va_rf x12), (3, .int x13), (4, .int x14)] [] := by
  intro n
  induction n with
  | zero => intro x11 x12 x13 x14 h15; exact s_none
  | succ n ih =>
    intro x11 x12 x13 x14 h15
    rw [f_X1_acceptedAt_L31]
    refine s_iload hK dX1_acceptedAt_31 3 rfl ?_
    refine s_iload_n hK dX1_acceptedAt_33 rfl 0 rfl ?_
    refine s_icmp_ge (tgt := 51) hK dX1_acceptedAt_34 (by decide) (fun c18 => ?_) (fun c18 => ?_)
    · refine s_sub [2] rfl ?_
      exact hk51 x13 h15
    · refine s_aload_n hK dX1_acceptedAt_37 rfl 1 rfl ?_
      refine s_iload_n hK dX1_acceptedAt_38 rfl 2 rfl ?_
      refine s_iconst (v := 1) hK dX1_acceptedAt_39 rfl ?_
      refine s_iadd hK dX1_acceptedAt_40 ?_
      refine s_rc (fun _ _ eo er => ?_)
      refine s_cI hK ho_n (cx_v (As := [.int (x13 + 1)]) (rest := []) hK dyJ20_nextSetBit rfl q1345 fcJ20.1 q1031 q1032 q106 q1033 eo er (ct_J20_nextSetBit hK.1 x12 (x13 + 1) h15) (Nat.le_trans (Nat.le_of_ble_eq_true rfl) hf) (Nat.le_trans (Nat.le_of_ble_eq_true rfl) hlo) rk_n (Nat.le_of_ble_eq_true rfl) dX1_acceptedAt_41 rfl) (fun v17 h16 => ?_)
      refine s_istore_n (lv' := [(3, .int v17), (1, .int x11), (2, va_rf x12), (4, .int x14)]) hK dX1_acceptedAt_44 rfl (Nat.le_of_ble_eq_true rfl) (flA (pre := [(1, .int x11)]) (suf := [(3, .int x13), (4, .int x14)]) rfl rfl) ?_
      refine s_iinc (j := 3) (v := 1) (lv' := [(4, .int (x14 + 1)), (3, .int v17), (1, .int x11), (2, va_rf x12)]) hK dX1_acceptedAt_45 rfl rfl (Nat.le_of_ble_eq_true rfl) rfl ?_
      refine s_goto (tgt := 31) hK dX1_acceptedAt_48 (by decide) ?_
      refine s_sub [2, 3, 1, 0] rfl ?_
      exact ih x11 x12 v17 (x14 + 1) h16
theorem sm_X1_acceptedAt {G : GC} {K : SC} (hK : SOK G K RX1 cX1_acceptedAt 5 (some (.int)) "acceptedAt" []) (hf : FR_X1_acceptedAt ≤ (kR K).frames) (hlo : LO_X1_acceptedAt ≤ (kR K).locals) (p0 : Option Nat) (p1 : Int32) (h : AH) : Sim G K 5 (f_X1_acceptedAt p0 p1 h) h 0 [(0, va_rf p0), (1, .int p1)] [] := by
  unfold f_X1_acceptedAt
  refine s_aload_n hK dX1_acceptedAt_0 rfl 0 rfl ?_
  refine s_rc (fun _ _ eo er => ?_)
  refine s_cA hK ho_n (cx_v (As := []) (rest := []) hK dyX1_recovered rfl q1334 fcX1.1 q1336 qs26 q78 q1337 eo er (ct_X1_recovered hK.1 p0 h) (Nat.le_trans (Nat.le_of_ble_eq_true rfl) hf) (Nat.le_trans (Nat.le_of_ble_eq_true rfl) hlo) rk_n (Nat.le_of_ble_eq_true rfl) dX1_acceptedAt_1 rfl) (fun v2 h1 => ?_)
  refine s_gA hK fcX5 8 (Nat.le_of_ble_eq_true rfl) (Or.inr ⟨_, q1101⟩) (Or.inl rfl) dX1_acceptedAt_4 (fun v3 => ?_)
  refine s_astore_n (lv' := [(2, va_rf v3), (0, va_rf p0), (1, .int p1)]) hK dX1_acceptedAt_7 rfl (Nat.le_of_ble_eq_true rfl) rfl ?_
  refine s_iload_n hK dX1_acceptedAt_8 rfl 2 rfl ?_
  refine s_iconst (v := 0) hK dX1_acceptedAt_9 rfl ?_
  refine s_aload_n hK dX1_acceptedAt_10 rfl 0 rfl ?_
  refine s_rc (fun _ _ eo er => ?_)
  refine s_cI hK ho_n (cx_v (As := []) (rest := [.int 0, .int p1]) hK dyJ20_cardinality rfl q1121 fcJ20.1 q1122 q1123 q106 q1124 eo er (ct_J20_cardinality hK.1 v3 h1) (Nat.le_trans (Nat.le_of_ble_eq_true rfl) hf) (Nat.le_trans (Nat.le_of_ble_eq_true rfl) hlo) (rk_i (rk_i rk_n)) (Nat.le_of_ble_eq_true rfl) dX1_acceptedAt_11 rfl) (fun v5 h4 => ?_)
  refine s_iconst (v := 1) hK dX1_acceptedAt_14 rfl ?_
  refine s_isub hK dX1_acceptedAt_15 ?_
  refine s_cI hK ho_n (cx_s (As := [.int p1, .int 0, .int (v5 - 1)]) (rest := []) hK dyX1_isBetween rfl q1144 q775 q78 q776 (ct_X1_isBetween hK.1 p1 0 (v5 - 1) h4) (Nat.le_trans (Nat.le_of_ble_eq_true rfl) hf) (Nat.le_trans (Nat.le_of_ble_eq_true rfl) hlo) rk_n (Nat.le_of_ble_eq_true rfl) dX1_acceptedAt_16 rfl) (fun v7 h6 => ?_)
  refine s_cV hK ho_n (cx_s (As := [.int v7]) (rest := []) hK dyX1_requireIndex rfl q1237 q1238 q78 q1239 (ct_X1_requireIndex hK.1 v7 h6) (Nat.le_trans (Nat.le_of_ble_eq_true rfl) hf) (Nat.le_trans (Nat.le_of_ble_eq_true rfl) hlo) rk_n (Nat.le_of_ble_eq_true rfl) dX1_acceptedAt_19 rfl) (fun h8 => ?_)
  refine s_aload_n hK dX1_acceptedAt_22 rfl 0 rfl ?_
  refine s_iconst (v := 0) hK dX1_acceptedAt_23 rfl ?_
  refine s_rc (fun _ _ eo er => ?_)
  refine s_cI hK ho_n (cx_v (As := [.int 0]) (rest := []) hK dyJ20_nextSetBit rfl q1345 fcJ20.1 q1031 q1032 q106 q1033 eo er (ct_J20_nextSetBit hK.1 v3 0 h8) (Nat.le_trans (Nat.le_of_ble_eq_true rfl) hf) (Nat.le_trans (Nat.le_of_ble_eq_true rfl) hlo) rk_n (Nat.le_of_ble_eq_true rfl) dX1_acceptedAt_24 rfl) (fun v10 h9 => ?_)
  refine s_istore_n (lv' := [(3, .int v10), (2, va_rf v3), (0, va_rf p0), (1, .int p1)]) hK dX1_acceptedAt_27 rfl (Nat.le_of_ble_eq_true rfl) (flA (pre := []) (suf := [(0, va_rf p0), (1, .int p1)]) rfl rfl) ?_
  refine s_iconst (v := 0) hK dX1_acceptedAt_28 rfl ?_
  refine s_istore (lv' := [(4, .int 0), (3, .int v10), (2, va_rf v3), (0, va_rf p0), (1, .int p1)]) hK dX1_acceptedAt_29 (Nat.le_of_ble_eq_true rfl) rfl ?_
  refine s_sub [4, 2, 1, 0] rfl ?_
  refine sm_X1_acceptedAt_L31 hK hf hlo (fun x19 h20 => ?_) FUEL p1 v3 v10 0 h9
  · refine s_iload_n hK dX1_acceptedAt_51 rfl 0 rfl ?_
    exact s_iret hK dX1_acceptedAt_52
theorem ct_X1_acceptedAt {G : GC} {l : Launch} (g : GOK G l) (p0 : Option Nat) (p1 : Int32) (h : AH) : CT G l yX1_acceptedAt (Cond.code yX1_acceptedAt cX1_acceptedAt 5 (some (.int))) 8 121 [va_rf p0, .int p1] (f_X1_acceptedAt p0 p1 h) h :=
  CT.of g (by decide) (by simp only [ls_a, ls_i, ls_l, ls_n]; decide) (fun K _ hK hf hlo => by simp only [la_a, la_i, la_l, la_n]; exact sm_X1_acceptedAt hK hf hlo p0 p1 h)
abbrev FR_X1_use : Nat := 8
abbrev LO_X1_use : Nat := 122
theorem dyX1_use : DY yX1_use 1 := ⟨⟨by decide, by decide⟩, by decide +kernel⟩
theorem sm_X1_use {G : GC} {K : SC} (hK : SOK G K RX1 cX1_use 3 (some (.int)) "use" []) (hf : FR_X1_use ≤ (kR K).frames) (hlo : LO_X1_use ≤ (kR K).locals) (p0 : Option Nat) (p1 : Int32) (h : AH) : Sim G K 3 (f_X1_use p0 p1 h) h 0 [(0, va_rf p0), (1, .int p1)] [] := by
  unfold f_X1_use
  refine s_aload_n hK dX1_use_0 rfl 0 rfl ?_
  refine s_rc (fun _ _ eo er => ?_)
  refine s_cA hK ho_n (cx_v (As := []) (rest := []) hK dyX1_recovered rfl q1334 fcX1.1 q1336 qs26 q78 q1337 eo er (ct_X1_recovered hK.1 p0 h) (Nat.le_trans (Nat.le_of_ble_eq_true rfl) hf) (Nat.le_trans (Nat.le_of_ble_eq_true rfl) hlo) rk_n (Nat.le_of_ble_eq_true rfl) dX1_use_1 rfl) (fun v2 h1 => ?_)
  refine s_astore_n (lv' := [(2, va_rf v2), (0, va_rf p0), (1, .int p1)]) hK dX1_use_4 rfl (Nat.le_of_ble_eq_true rfl) rfl ?_
  refine s_aload_n hK dX1_use_5 rfl 1 rfl ?_
  refine s_iload_n hK dX1_use_6 rfl 2 rfl ?_
  refine s_rc (fun _ _ eo er => ?_)
  refine s_cV hK ho_n (cx_v (As := [.int p1]) (rest := []) hK dyX1_requireAddress rfl q1232 fcX1.1 q1234 qs25 q78 q1235 eo er (ct_X1_requireAddress hK.1 p0 p1 h1) (Nat.le_trans (Nat.le_of_ble_eq_true rfl) hf) (Nat.le_trans (Nat.le_of_ble_eq_true rfl) hlo) rk_n (Nat.le_of_ble_eq_true rfl) dX1_use_7 rfl) (fun h3 => ?_)
  refine s_aload_n hK dX1_use_10 rfl 0 rfl ?_
  refine s_gA hK fcX5 1 (Nat.le_of_ble_eq_true rfl) (Or.inr ⟨_, q1088⟩) (Or.inl rfl) dX1_use_11 (fun v4 => ?_)
  refine s_iload_n hK dX1_use_14 rfl 2 rfl ?_
  refine s_iald hK dX1_use_15 (fun v5 => ?_)
  exact s_iret hK dX1_use_16
theorem ct_X1_use {G : GC} {l : Launch} (g : GOK G l) (p0 : Option Nat) (p1 : Int32) (h : AH) : CT G l yX1_use (Cond.code yX1_use cX1_use 3 (some (.int))) 8 122 [va_rf p0, .int p1] (f_X1_use p0 p1 h) h :=
  CT.of g (by decide) (by simp only [ls_a, ls_i, ls_l, ls_n]; decide) (fun K _ hK hf hlo => by simp only [la_a, la_i, la_l, la_n]; exact sm_X1_use hK hf hlo p0 p1 h)
abbrev FR_X1_conflictCount : Nat := 8
abbrev LO_X1_conflictCount : Nat := 121
theorem dyX1_conflictCount : DY yX1_conflictCount 0 := ⟨⟨by decide, by decide⟩, by decide +kernel⟩
theorem sm_X1_conflictCount {G : GC} {K : SC} (hK : SOK G K RX1 cX1_conflictCount 1 (some (.int)) "conflictCount" []) (hf : FR_X1_conflictCount ≤ (kR K).frames) (hlo : LO_X1_conflictCount ≤ (kR K).locals) (p0 : Option Nat) (h : AH) : Sim G K 1 (f_X1_conflictCount p0 h) h 0 [(0, va_rf p0)] [] := by
  unfold f_X1_conflictCount
  refine s_aload_n hK dX1_conflictCount_0 rfl 0 rfl ?_
  refine s_rc (fun _ _ eo er => ?_)
  refine s_cA hK ho_n (cx_v (As := []) (rest := []) hK dyX1_recovered rfl q1334 fcX1.1 q1336 qs26 q78 q1337 eo er (ct_X1_recovered hK.1 p0 h) (Nat.le_trans (Nat.le_of_ble_eq_true rfl) hf) (Nat.le_trans (Nat.le_of_ble_eq_true rfl) hlo) rk_n (Nat.le_of_ble_eq_true rfl) dX1_conflictCount_1 rfl) (fun v2 h1 => ?_)
  refine s_gA hK fcX5 3 (Nat.le_of_ble_eq_true rfl) (Or.inr ⟨_, q1091⟩) (Or.inl rfl) dX1_conflictCount_4 (fun v3 => ?_)
  refine s_rc (fun _ _ eo er => ?_)
  refine s_cI hK ho_n (cx_v (As := []) (rest := []) hK dyX6_size rfl q1360 fcX6.1 q1361 q1362 q105 q1363 eo er (ct_X6_size hK.1 v3 h1) (Nat.le_trans (Nat.le_of_ble_eq_true rfl) hf) (Nat.le_trans (Nat.le_of_ble_eq_true rfl) hlo) rk_n (Nat.le_of_ble_eq_true rfl) dX1_conflictCount_7 rfl) (fun v5 h4 => ?_)
  exact s_iret hK dX1_conflictCount_10
theorem ct_X1_conflictCount {G : GC} {l : Launch} (g : GOK G l) (p0 : Option Nat) (h : AH) : CT G l yX1_conflictCount (Cond.code yX1_conflictCount cX1_conflictCount 1 (some (.int))) 8 121 [va_rf p0] (f_X1_conflictCount p0 h) h :=
  CT.of g (by decide) (by simp only [ls_a, ls_i, ls_l, ls_n]; decide) (fun K _ hK hf hlo => by simp only [la_a, la_i, la_l, la_n]; exact sm_X1_conflictCount hK hf hlo p0 h)
abbrev FR_X1_conflict : Nat := 8
abbrev LO_X1_conflict : Nat := 122
theorem dyX1_conflict : DY yX1_conflict 1 := ⟨⟨by decide, by decide⟩, by decide +kernel⟩
theorem sm_X1_conflict {G : GC} {K : SC} (hK : SOK G K RX1 cX1_conflict 2 (some (.int)) "conflict" []) (hf : FR_X1_conflict ≤ (kR K).frames) (hlo : LO_X1_conflict ≤ (kR K).locals) (p0 : Option Nat) (p1 : Int32) (h : AH) : Sim G K 2 (f_X1_conflict p0 p1 h) h 0 [(0, va_rf p0), (1, .int p1)] [] := by
  unfold f_X1_conflict
  refine s_aload_n hK dX1_conflict_0 rfl 0 rfl ?_
  refine s_rc (fun _ _ eo er => ?_)
  refine s_cA hK ho_n (cx_v (As := []) (rest := []) hK dyX1_recovered rfl q1334 fcX1.1 q1336 qs26 q78 q1337 eo er (ct_X1_recovered hK.1 p0 h) (Nat.le_trans (Nat.le_of_ble_eq_true rfl) hf) (Nat.le_trans (Nat.le_of_ble_eq_true rfl) hlo) rk_n (Nat.le_of_ble_eq_true rfl) dX1_conflict_1 rfl) (fun v2 h1 => ?_)
  refine s_gA hK fcX5 3 (Nat.le_of_ble_eq_true rfl) (Or.inr ⟨_, q1091⟩) (Or.inl rfl) dX1_conflict_4 (fun v3 => ?_)
  refine s_iload_n hK dX1_conflict_7 rfl 1 rfl ?_
  refine s_rc (fun _ _ eo er => ?_)
  refine s_cA hK ho_n (cx_v (As := [.int p1]) (rest := []) hK dyX6_get rfl q1372 fcX6.1 q1373 q1374 q105 q1375 eo er (ct_X6_get hK.1 v3 p1 h1) (Nat.le_trans (Nat.le_of_ble_eq_true rfl) hf) (Nat.le_trans (Nat.le_of_ble_eq_true rfl) hlo) rk_n (Nat.le_of_ble_eq_true rfl) dX1_conflict_8 rfl) (fun v5 h4 => ?_)
  refine s_ck hK q1206 (ck1 fcJ9.1 (Or.inl rfl)) dX1_conflict_11 ?_
  refine s_rc (fun _ _ eo er => ?_)
  refine s_cI hK ho_n (cx_v (As := []) (rest := []) hK dyJ9_intValue rfl q1207 fcJ9.1 q478 q479 q91 q480 eo er (ct_J9_intValue hK.1 v5 h4) (Nat.le_trans (Nat.le_of_ble_eq_true rfl) hf) (Nat.le_trans (Nat.le_of_ble_eq_true rfl) hlo) rk_n (Nat.le_of_ble_eq_true rfl) dX1_conflict_14 rfl) (fun v7 h6 => ?_)
  exact s_iret hK dX1_conflict_17
theorem ct_X1_conflict {G : GC} {l : Launch} (g : GOK G l) (p0 : Option Nat) (p1 : Int32) (h : AH) : CT G l yX1_conflict (Cond.code yX1_conflict cX1_conflict 2 (some (.int))) 8 122 [va_rf p0, .int p1] (f_X1_conflict p0 p1 h) h :=
  CT.of g (by decide) (by simp only [ls_a, ls_i, ls_l, ls_n]; decide) (fun K _ hK hf hlo => by simp only [la_a, la_i, la_l, la_n]; exact sm_X1_conflict hK hf hlo p0 p1 h)
abbrev FR_X1_badTargets : Nat := 8
abbrev LO_X1_badTargets : Nat := 121
theorem dyX1_badTargets : DY yX1_badTargets 0 := ⟨⟨by decide, by decide⟩, by decide +kernel⟩
theorem sm_X1_badTargets {G : GC} {K : SC} (hK : SOK G K RX1 cX1_badTargets 1 (some (.int)) "badTargets" []) (hf : FR_X1_badTargets ≤ (kR K).frames) (hlo : LO_X1_badTargets ≤ (kR K).locals) (p0 : Option Nat) (h : AH) : Sim G K 1 (f_X1_badTargets p0 h) h 0 [(0, va_rf p0)] [] := by
  unfold f_X1_badTargets
  refine s_aload_n hK dX1_badTargets_0 rfl 0 rfl ?_
  refine s_rc (fun _ _ eo er => ?_)
  refine s_cA hK ho_n (cx_v (As := []) (rest := []) hK dyX1_recovered rfl q1334 fcX1.1 q1336 qs26 q78 q1337 eo er (ct_X1_recovered hK.1 p0 h) (Nat.le_trans (Nat.le_of_ble_eq_true rfl) hf) (Nat.le_trans (Nat.le_of_ble_eq_true rfl) hlo) rk_n (Nat.le_of_ble_eq_true rfl) dX1_badTargets_1 rfl) (fun v2 h1 => ?_)
  refine s_gA hK fcX5 4 (Nat.le_of_ble_eq_true rfl) (Or.inr ⟨_, q1093⟩) (Or.inl rfl) dX1_badTargets_4 (fun v3 => ?_)
  refine s_rc (fun _ _ eo er => ?_)
  refine s_cI hK ho_n (cx_v (As := []) (rest := []) hK dyX6_size rfl q1360 fcX6.1 q1361 q1362 q105 q1363 eo er (ct_X6_size hK.1 v3 h1) (Nat.le_trans (Nat.le_of_ble_eq_true rfl) hf) (Nat.le_trans (Nat.le_of_ble_eq_true rfl) hlo) rk_n (Nat.le_of_ble_eq_true rfl) dX1_badTargets_7 rfl) (fun v5 h4 => ?_)
  exact s_iret hK dX1_badTargets_10
theorem ct_X1_badTargets {G : GC} {l : Launch} (g : GOK G l) (p0 : Option Nat) (h : AH) : CT G l yX1_badTargets (Cond.code yX1_badTargets cX1_badTargets 1 (some (.int))) 8 121 [va_rf p0] (f_X1_badTargets p0 h) h :=
  CT.of g (by decide) (by simp only [ls_a, ls_i, ls_l, ls_n]; decide) (fun K _ hK hf hlo => by simp only [la_a, la_i, la_l, la_n]; exact sm_X1_badTargets hK hf hlo p0 h)
abbrev FR_X1_tableCount : Nat := 8
abbrev LO_X1_tableCount : Nat := 121
theorem dyX1_tableCount : DY yX1_tableCount 0 := ⟨⟨by decide, by decide⟩, by decide +kernel⟩
theorem sm_X1_tableCount {G : GC} {K : SC} (hK : SOK G K RX1 cX1_tableCount 1 (some (.int)) "tableCount" []) (hf : FR_X1_tableCount ≤ (kR K).frames) (hlo : LO_X1_tableCount ≤ (kR K).locals) (p0 : Option Nat) (h : AH) : Sim G K 1 (f_X1_tableCount p0 h) h 0 [(0, va_rf p0)] [] := by
  unfold f_X1_tableCount
  refine s_aload_n hK dX1_tableCount_0 rfl 0 rfl ?_
  refine s_rc (fun _ _ eo er => ?_)
  refine s_cA hK ho_n (cx_v (As := []) (rest := []) hK dyX1_recovered rfl q1334 fcX1.1 q1336 qs26 q78 q1337 eo er (ct_X1_recovered hK.1 p0 h) (Nat.le_trans (Nat.le_of_ble_eq_true rfl) hf) (Nat.le_trans (Nat.le_of_ble_eq_true rfl) hlo) rk_n (Nat.le_of_ble_eq_true rfl) dX1_tableCount_1 rfl) (fun v2 h1 => ?_)
  refine s_gA hK fcX5 5 (Nat.le_of_ble_eq_true rfl) (Or.inr ⟨_, q1095⟩) (Or.inl rfl) dX1_tableCount_4 (fun v3 => ?_)
  refine s_rc (fun _ _ eo er => ?_)
  refine s_cI hK ho_n (cx_v (As := []) (rest := []) hK dyJ7_size rfl q1204 fcJ7.1 q972 q2187 q88 q974 eo er (ct_J7_size hK.1 v3 h1) (Nat.le_trans (Nat.le_of_ble_eq_true rfl) hf) (Nat.le_trans (Nat.le_of_ble_eq_true rfl) hlo) rk_n (Nat.le_of_ble_eq_true rfl) dX1_tableCount_7 rfl) (fun v5 h4 => ?_)
  exact s_iret hK dX1_tableCount_10
theorem ct_X1_tableCount {G : GC} {l : Launch} (g : GOK G l) (p0 : Option Nat) (h : AH) : CT G l yX1_tableCount (Cond.code yX1_tableCount cX1_tableCount 1 (some (.int))) 8 121 [va_rf p0] (f_X1_tableCount p0 h) h :=
  CT.of g (by decide) (by simp only [ls_a, ls_i, ls_l, ls_n]; decide) (fun K _ hK hf hlo => by simp only [la_a, la_i, la_l, la_n]; exact sm_X1_tableCount hK hf hlo p0 h)
abbrev FR_X1_table : Nat := 8
abbrev LO_X1_table : Nat := 124
theorem dyX1_table : DY yX1_table 2 := ⟨⟨by decide, by decide⟩, by decide +kernel⟩
theorem sm_X1_table {G : GC} {K : SC} (hK : SOK G K RX1 cX1_table 3 (some (.int)) "table" []) (hf : FR_X1_table ≤ (kR K).frames) (hlo : LO_X1_table ≤ (kR K).locals) (p0 : Option Nat) (p1 : Int32) (p2 : Int32) (h : AH) : Sim G K 3 (f_X1_table p0 p1 p2 h) h 0 [(0, va_rf p0), (1, .int p1), (2, .int p2)] [] := by
  unfold f_X1_table
  refine s_aload_n hK dX1_table_0 rfl 0 rfl ?_
  refine s_rc (fun _ _ eo er => ?_)
  refine s_cA hK ho_n (cx_v (As := []) (rest := []) hK dyX1_recovered rfl q1334 fcX1.1 q1336 qs26 q78 q1337 eo er (ct_X1_recovered hK.1 p0 h) (Nat.le_trans (Nat.le_of_ble_eq_true rfl) hf) (Nat.le_trans (Nat.le_of_ble_eq_true rfl) hlo) rk_n (Nat.le_of_ble_eq_true rfl) dX1_table_1 rfl) (fun v2 h1 => ?_)
  refine s_gA hK fcX5 5 (Nat.le_of_ble_eq_true rfl) (Or.inr ⟨_, q1095⟩) (Or.inl rfl) dX1_table_4 (fun v3 => ?_)
  refine s_iload_n hK dX1_table_7 rfl 1 rfl ?_
  refine s_iload_n hK dX1_table_8 rfl 2 rfl ?_
  refine s_iconst (v := 3) hK dX1_table_9 rfl ?_
  refine s_cI hK ho_n (cx_s (As := [va_rf v3, .int p1, .int p2, .int 3]) (rest := []) hK dyX1_partOf rfl q1400 q1401 q78 q1402 (ct_X1_partOf hK.1 v3 p1 p2 3 h1) (Nat.le_trans (Nat.le_of_ble_eq_true rfl) hf) (Nat.le_trans (Nat.le_of_ble_eq_true rfl) hlo) rk_n (Nat.le_of_ble_eq_true rfl) dX1_table_10 rfl) (fun v5 h4 => ?_)
  exact s_iret hK dX1_table_13
theorem ct_X1_table {G : GC} {l : Launch} (g : GOK G l) (p0 : Option Nat) (p1 : Int32) (p2 : Int32) (h : AH) : CT G l yX1_table (Cond.code yX1_table cX1_table 3 (some (.int))) 8 124 [va_rf p0, .int p1, .int p2] (f_X1_table p0 p1 p2 h) h :=
  CT.of g (by decide) (by simp only [ls_a, ls_i, ls_l, ls_n]; decide) (fun K _ hK hf hlo => by simp only [la_a, la_i, la_l, la_n]; exact sm_X1_table hK hf hlo p0 p1 p2 h)
abbrev FR_X1_requireTable : Nat := 8
abbrev LO_X1_requireTable : Nat := 121
theorem dyX1_requireTable : DY yX1_requireTable 1 := ⟨⟨by decide, by decide⟩, by decide +kernel⟩
theorem sm_X1_requireTable {G : GC} {K : SC} (hK : SOK G K RX1 cX1_requireTable 3 (some (.object "CodeRecovery$Table")) "requireTable" []) (hf : FR_X1_requireTable ≤ (kR K).frames) (hlo : LO_X1_requireTable ≤ (kR K).locals) (p0 : Option Nat) (p1 : Int32) (h : AH) : Sim G K 3 (f_X1_requireTable p0 p1 h) h 0 [(0, va_rf p0), (1, .int p1)] [] := by
  unfold f_X1_requireTable
  refine s_aload_n hK dX1_requireTable_0 rfl 0 rfl ?_
  refine s_rc (fun _ _ eo er => ?_)
  refine s_cA hK ho_n (cx_v (As := []) (rest := []) hK dyX1_recovered rfl q1334 fcX1.1 q1336 qs26 q78 q1337 eo er (ct_X1_recovered hK.1 p0 h) (Nat.le_trans (Nat.le_of_ble_eq_true rfl) hf) (Nat.le_trans (Nat.le_of_ble_eq_true rfl) hlo) rk_n (Nat.le_of_ble_eq_true rfl) dX1_requireTable_1 rfl) (fun v2 h1 => ?_)
  refine s_gA hK fcX5 5 (Nat.le_of_ble_eq_true rfl) (Or.inr ⟨_, q1095⟩) (Or.inl rfl) dX1_requireTable_4 (fun v3 => ?_)
  refine s_astore_n (lv' := [(2, va_rf v3), (0, va_rf p0), (1, .int p1)]) hK dX1_requireTable_7 rfl (Nat.le_of_ble_eq_true rfl) rfl ?_
  refine s_iload_n hK dX1_requireTable_8 rfl 2 rfl ?_
  refine s_iconst (v := 0) hK dX1_requireTable_9 rfl ?_
  refine s_aload_n hK dX1_requireTable_10 rfl 0 rfl ?_
  refine s_rc (fun _ _ eo er => ?_)
  refine s_cI hK ho_n (cx_v (As := []) (rest := [.int 0, .int p1]) hK dyJ7_size rfl q1204 fcJ7.1 q972 q2187 q88 q974 eo er (ct_J7_size hK.1 v3 h1) (Nat.le_trans (Nat.le_of_ble_eq_true rfl) hf) (Nat.le_trans (Nat.le_of_ble_eq_true rfl) hlo) (rk_i (rk_i rk_n)) (Nat.le_of_ble_eq_true rfl) dX1_requireTable_11 rfl) (fun v5 h4 => ?_)
  refine s_iconst (v := 1) hK dX1_requireTable_14 rfl ?_
  refine s_isub hK dX1_requireTable_15 ?_
  refine s_cI hK ho_n (cx_s (As := [.int p1, .int 0, .int (v5 - 1)]) (rest := []) hK dyX1_isBetween rfl q1144 q775 q78 q776 (ct_X1_isBetween hK.1 p1 0 (v5 - 1) h4) (Nat.le_trans (Nat.le_of_ble_eq_true rfl) hf) (Nat.le_trans (Nat.le_of_ble_eq_true rfl) hlo) rk_n (Nat.le_of_ble_eq_true rfl) dX1_requireTable_16 rfl) (fun v7 h6 => ?_)
  refine s_cV hK ho_n (cx_s (As := [.int v7]) (rest := []) hK dyX1_requireIndex rfl q1237 q1238 q78 q1239 (ct_X1_requireIndex hK.1 v7 h6) (Nat.le_trans (Nat.le_of_ble_eq_true rfl) hf) (Nat.le_trans (Nat.le_of_ble_eq_true rfl) hlo) rk_n (Nat.le_of_ble_eq_true rfl) dX1_requireTable_19 rfl) (fun h8 => ?_)
  refine s_aload_n hK dX1_requireTable_22 rfl 0 rfl ?_
  refine s_iload_n hK dX1_requireTable_23 rfl 2 rfl ?_
  refine s_rc (fun _ _ eo er => ?_)
  refine s_cA hK ho_n (cx_v (As := [.int p1]) (rest := []) hK dyJ7_get rfl q1205 fcJ7.1 q981 q2188 q88 q983 eo er (ct_J7_get hK.1 v3 p1 h8) (Nat.le_trans (Nat.le_of_ble_eq_true rfl) hf) (Nat.le_trans (Nat.le_of_ble_eq_true rfl) hlo) rk_n (Nat.le_of_ble_eq_true rfl) dX1_requireTable_24 rfl) (fun v10 h9 => ?_)
  refine s_ck hK q1438 (ck1 fcX7.1 (Or.inl rfl)) dX1_requireTable_27 ?_
  exact s_aret hK (Or.inl ⟨_, rfl⟩) dX1_requireTable_30
theorem ct_X1_requireTable {G : GC} {l : Launch} (g : GOK G l) (p0 : Option Nat) (p1 : Int32) (h : AH) : CT G l yX1_requireTable (Cond.code yX1_requireTable cX1_requireTable 3 (some (.object "CodeRecovery$Table"))) 8 121 [va_rf p0, .int p1] (f_X1_requireTable p0 p1 h) h :=
  CT.of g (by decide) (by simp only [ls_a, ls_i, ls_l, ls_n]; decide) (fun K _ hK hf hlo => by simp only [la_a, la_i, la_l, la_n]; exact sm_X1_requireTable hK hf hlo p0 p1 h)
abbrev FR_X1_tableEntry : Nat := 9
abbrev LO_X1_tableEntry : Nat := 143
theorem dyX1_tableEntry : DY yX1_tableEntry 2 := ⟨⟨by decide, by decide⟩, by decide +kernel⟩
theorem sm_X1_tableEntry {G : GC} {K : SC} (hK : SOK G K RX1 cX1_tableEntry 4 (some (.int)) "tableEntry" []) (hf : FR_X1_tableEntry ≤ (kR K).frames) (hlo : LO_X1_tableEntry ≤ (kR K).locals) (p0 : Option Nat) (p1 : Int32) (p2 : Int32) (h : AH) : Sim G K 4 (f_X1_tableEntry p0 p1 p2 h) h 0 [(0, va_rf p0), (1, .int p1), (2, .int p2)] [] := by
  unfold f_X1_tableEntry
  refine s_aload_n hK dX1_tableEntry_0 rfl 0 rfl ?_
  refine s_iload_n hK dX1_tableEntry_1 rfl 1 rfl ?_
  refine s_rc (fun _ _ eo er => ?_)
  refine s_cA hK ho_n (cx_v (As := [.int p1]) (rest := []) hK dyX1_requireTable rfl q1434 fcX1.1 q1436 qs27 q78 q1437 eo er (ct_X1_requireTable hK.1 p0 p1 h) (Nat.le_trans (Nat.le_of_ble_eq_true rfl) hf) (Nat.le_trans (Nat.le_of_ble_eq_true rfl) hlo) rk_n (Nat.le_of_ble_eq_true rfl) dX1_tableEntry_2 rfl) (fun v2 h1 => ?_)
  refine s_astore_n (lv' := [(3, va_rf v2), (0, va_rf p0), (1, .int p1), (2, .int p2)]) hK dX1_tableEntry_5 rfl (Nat.le_of_ble_eq_true rfl) rfl ?_
  refine s_iload_n hK dX1_tableEntry_6 rfl 3 rfl ?_
  refine s_iconst (v := 0) hK dX1_tableEntry_7 rfl ?_
  refine s_aload_n hK dX1_tableEntry_8 rfl 0 rfl ?_
  refine s_gA hK fcX7 4 (Nat.le_of_ble_eq_true rfl) (Or.inr ⟨_, q940⟩) (Or.inl rfl) dX1_tableEntry_9 (fun v3 => ?_)
  refine s_rc (fun _ _ eo er => ?_)
  refine s_cI hK ho_n (cx_v (As := []) (rest := [.int 0, .int p2]) hK dyJ7_size rfl q1204 fcJ7.1 q972 q2187 q88 q974 eo er (ct_J7_size hK.1 v3 h1) (Nat.le_trans (Nat.le_of_ble_eq_true rfl) hf) (Nat.le_trans (Nat.le_of_ble_eq_true rfl) hlo) (rk_i (rk_i rk_n)) (Nat.le_of_ble_eq_true rfl) dX1_tableEntry_12 rfl) (fun v5 h4 => ?_)
  refine s_iconst (v := 1) hK dX1_tableEntry_15 rfl ?_
  refine s_isub hK dX1_tableEntry_16 ?_
  refine s_cI hK ho_n (cx_s (As := [.int p2, .int 0, .int (v5 - 1)]) (rest := []) hK dyX1_isBetween rfl q1144 q775 q78 q776 (ct_X1_isBetween hK.1 p2 0 (v5 - 1) h4) (Nat.le_trans (Nat.le_of_ble_eq_true rfl) hf) (Nat.le_trans (Nat.le_of_ble_eq_true rfl) hlo) rk_n (Nat.le_of_ble_eq_true rfl) dX1_tableEntry_17 rfl) (fun v7 h6 => ?_)
  refine s_cV hK ho_n (cx_s (As := [.int v7]) (rest := []) hK dyX1_requireIndex rfl q1237 q1238 q78 q1239 (ct_X1_requireIndex hK.1 v7 h6) (Nat.le_trans (Nat.le_of_ble_eq_true rfl) hf) (Nat.le_trans (Nat.le_of_ble_eq_true rfl) hlo) rk_n (Nat.le_of_ble_eq_true rfl) dX1_tableEntry_20 rfl) (fun h8 => ?_)
  refine s_aload_n hK dX1_tableEntry_23 rfl 0 rfl ?_
  refine s_gA hK fcX7 4 (Nat.le_of_ble_eq_true rfl) (Or.inr ⟨_, q940⟩) (Or.inl rfl) dX1_tableEntry_24 (fun v9 => ?_)
  refine s_iload_n hK dX1_tableEntry_27 rfl 3 rfl ?_
  refine s_rc (fun _ _ eo er => ?_)
  refine s_cA hK ho_n (cx_v (As := [.int p2]) (rest := []) hK dyJ7_get rfl q1205 fcJ7.1 q981 q2188 q88 q983 eo er (ct_J7_get hK.1 v9 p2 h8) (Nat.le_trans (Nat.le_of_ble_eq_true rfl) hf) (Nat.le_trans (Nat.le_of_ble_eq_true rfl) hlo) rk_n (Nat.le_of_ble_eq_true rfl) dX1_tableEntry_28 rfl) (fun v11 h10 => ?_)
  refine s_ck hK q1206 (ck1 fcJ9.1 (Or.inl rfl)) dX1_tableEntry_31 ?_
  refine s_rc (fun _ _ eo er => ?_)
  refine s_cI hK ho_n (cx_v (As := []) (rest := []) hK dyJ9_intValue rfl q1207 fcJ9.1 q478 q479 q91 q480 eo er (ct_J9_intValue hK.1 v11 h10) (Nat.le_trans (Nat.le_of_ble_eq_true rfl) hf) (Nat.le_trans (Nat.le_of_ble_eq_true rfl) hlo) rk_n (Nat.le_of_ble_eq_true rfl) dX1_tableEntry_34 rfl) (fun v13 h12 => ?_)
  exact s_iret hK dX1_tableEntry_37
theorem ct_X1_tableEntry {G : GC} {l : Launch} (g : GOK G l) (p0 : Option Nat) (p1 : Int32) (p2 : Int32) (h : AH) : CT G l yX1_tableEntry (Cond.code yX1_tableEntry cX1_tableEntry 4 (some (.int))) 9 143 [va_rf p0, .int p1, .int p2] (f_X1_tableEntry p0 p1 p2 h) h :=
  CT.of g (by decide) (by simp only [ls_a, ls_i, ls_l, ls_n]; decide) (fun K _ hK hf hlo => by simp only [la_a, la_i, la_l, la_n]; exact sm_X1_tableEntry hK hf hlo p0 p1 p2 h)
abbrev FR_X1_isComplete : Nat := 9
abbrev LO_X1_isComplete : Nat := 143
theorem dyX1_isComplete : DY yX1_isComplete 1 := ⟨⟨by decide, by decide⟩, by decide +kernel⟩
theorem sm_X1_isComplete_L11 {G : GC} {K : SC} (hK : SOK G K RX1 cX1_isComplete 5 (some (.boolean)) "isComplete" []) (hf : FR_X1_isComplete ≤ (kR K).frames) (hlo : LO_X1_isComplete ≤ (kR K).locals) {k54 : Int32 → AH → RS} (hk54 : ∀ (y0 : Int32) (h : AH), Sim G K 5 (k54 y0 h) h 54 [(3, .int y0)] []) : ∀ (n : Nat) (x3 : Option Nat) (x4 : Option Nat) (x5 : Int32) (x6 : Int32) (h7 : AH), Sim G K 5 (f_X1_isComplete_L11 k54 n x3 x4 x5 x6 h7) h7 11 [(0, va_rf x3), (2, va_rf x4), (3, .int x5), (4, .int x6)] [] := by
  intro n
  induction n with
  | zero => intro x3 x4 x5 x6 h7; exact s_none
  | succ n ih =>
    intro x3 x4 x5 x6 h7
    rw [f_X1_isComplete_L11]
    refine s_iload hK dX1_isComplete_11 3 rfl ?_
    refine s_aload_n hK dX1_isComplete_13 rfl 1 rfl ?_
    refine s_gA hK fcX7 4 (Nat.le_of_ble_eq_true rfl) (Or.inr ⟨_, q940⟩) (Or.inl rfl) dX1_isComplete_14 (fun v8 => ?_)
    refine s_rc (fun _ _ eo er => ?_)
    refine s_cI hK ho_n (cx_v (As := []) (rest := [.int x6]) hK dyJ7_size rfl q1204 fcJ7.1 q972 q2187 q88 q974 eo er (ct_J7_size hK.1 v8 h7) (Nat.le_trans (Nat.le_of_ble_eq_true rfl) hf) (Nat.le_trans (Nat.le_of_ble_eq_true rfl) hlo) (rk_i rk_n) (Nat.le_of_ble_eq_true rfl) dX1_isComplete_17 rfl) (fun v10 h9 => ?_)
    refine s_icmp_ge (tgt := 54) hK dX1_isComplete_20 (by decide) (fun c19 => ?_) (fun c19 => ?_)
    · refine s_sub [2] rfl ?_
      exact hk54 x5 h9
    · refine s_iload_n hK dX1_isComplete_23 rfl 2 rfl ?_
      refine s_aload_n hK dX1_isComplete_24 rfl 0 rfl ?_
      refine s_gA hK fcX1 2 (Nat.le_of_ble_eq_true rfl) (Or.inl q152) (Or.inl rfl) dX1_isComplete_25 (fun v11 => ?_)
      refine s_aload_n hK dX1_isComplete_28 rfl 1 rfl ?_
      refine s_gA hK fcX7 4 (Nat.le_of_ble_eq_true rfl) (Or.inr ⟨_, q940⟩) (Or.inl rfl) dX1_isComplete_29 (fun v12 => ?_)
      refine s_iload hK dX1_isComplete_32 3 rfl ?_
      refine s_rc (fun _ _ eo er => ?_)
      refine s_cA hK ho_n (cx_v (As := [.int x6]) (rest := [va_rf v11, .int x5]) hK dyJ7_get rfl q1205 fcJ7.1 q981 q2188 q88 q983 eo er (ct_J7_get hK.1 v12 x6 h9) (Nat.le_trans (Nat.le_of_ble_eq_true rfl) hf) (Nat.le_trans (Nat.le_of_ble_eq_true rfl) hlo) (rk_a (rk_i rk_n)) (Nat.le_of_ble_eq_true rfl) dX1_isComplete_34 rfl) (fun v14 h13 => ?_)
      refine s_ck hK q1206 (ck1 fcJ9.1 (Or.inl rfl)) dX1_isComplete_37 ?_
      refine s_rc (fun _ _ eo er => ?_)
      refine s_cI hK ho_n (cx_v (As := []) (rest := [va_rf v11, .int x5]) hK dyJ9_intValue rfl q1207 fcJ9.1 q478 q479 q91 q480 eo er (ct_J9_intValue hK.1 v14 h13) (Nat.le_trans (Nat.le_of_ble_eq_true rfl) hf) (Nat.le_trans (Nat.le_of_ble_eq_true rfl) hlo) (rk_a (rk_i rk_n)) (Nat.le_of_ble_eq_true rfl) dX1_isComplete_40 rfl) (fun v16 h15 => ?_)
      refine s_rc (fun _ _ eo er => ?_)
      refine s_cI hK ho_n (cx_v (As := [.int v16]) (rest := [.int x5]) hK dyX5_isAccepted rfl q1446 fcX5.1 q486 q487 q103 q488 eo er (ct_X5_isAccepted hK.1 v11 v16 h15) (Nat.le_trans (Nat.le_of_ble_eq_true rfl) hf) (Nat.le_trans (Nat.le_of_ble_eq_true rfl) hlo) (rk_i rk_n) (Nat.le_of_ble_eq_true rfl) dX1_isComplete_43 rfl) (fun v18 h17 => ?_)
      refine s_iand hK dX1_isComplete_46 ?_
      refine s_istore_n (lv' := [(3, .int (x5 &&& v18)), (0, va_rf x3), (2, va_rf x4), (4, .int x6)]) hK dX1_isComplete_47 rfl (Nat.le_of_ble_eq_true rfl) (flA (pre := [(0, va_rf x3)]) (suf := [(3, .int x5), (4, .int x6)]) rfl rfl) ?_
      refine s_iinc (j := 3) (v := 1) (lv' := [(4, .int (x6 + 1)), (3, .int (x5 &&& v18)), (0, va_rf x3), (2, va_rf x4)]) hK dX1_isComplete_48 rfl rfl (Nat.le_of_ble_eq_true rfl) rfl ?_
      refine s_goto (tgt := 11) hK dX1_isComplete_51 (by decide) ?_
      refine s_sub [2, 3, 1, 0] rfl ?_
      exact ih x3 x4 (x5 &&& v18) (x6 + 1) h17
theorem sm_X1_isComplete {G : GC} {K : SC} (hK : SOK G K RX1 cX1_isComplete 5 (some (.boolean)) "isComplete" []) (hf : FR_X1_isComplete ≤ (kR K).frames) (hlo : LO_X1_isComplete ≤ (kR K).locals) (p0 : Option Nat) (p1 : Int32) (h : AH) : Sim G K 5 (f_X1_isComplete p0 p1 h) h 0 [(0, va_rf p0), (1, .int p1)] [] := by
  unfold f_X1_isComplete
  refine s_aload_n hK dX1_isComplete_0 rfl 0 rfl ?_
  refine s_iload_n hK dX1_isComplete_1 rfl 1 rfl ?_
  refine s_rc (fun _ _ eo er => ?_)
  refine s_cA hK ho_n (cx_v (As := [.int p1]) (rest := []) hK dyX1_requireTable rfl q1434 fcX1.1 q1436 qs27 q78 q1437 eo er (ct_X1_requireTable hK.1 p0 p1 h) (Nat.le_trans (Nat.le_of_ble_eq_true rfl) hf) (Nat.le_trans (Nat.le_of_ble_eq_true rfl) hlo) rk_n (Nat.le_of_ble_eq_true rfl) dX1_isComplete_2 rfl) (fun v2 h1 => ?_)
  refine s_astore_n (lv' := [(2, va_rf v2), (0, va_rf p0), (1, .int p1)]) hK dX1_isComplete_5 rfl (Nat.le_of_ble_eq_true rfl) rfl ?_
  refine s_iconst (v := 1) hK dX1_isComplete_6 rfl ?_
  refine s_istore_n (lv' := [(3, .int 1), (2, va_rf v2), (0, va_rf p0), (1, .int p1)]) hK dX1_isComplete_7 rfl (Nat.le_of_ble_eq_true rfl) (flA (pre := []) (suf := [(0, va_rf p0), (1, .int p1)]) rfl rfl) ?_
  refine s_iconst (v := 0) hK dX1_isComplete_8 rfl ?_
  refine s_istore (lv' := [(4, .int 0), (3, .int 1), (2, va_rf v2), (0, va_rf p0), (1, .int p1)]) hK dX1_isComplete_9 (Nat.le_of_ble_eq_true rfl) rfl ?_
  refine s_sub [3, 2, 1, 0] rfl ?_
  refine sm_X1_isComplete_L11 hK hf hlo (fun x20 h21 => ?_) FUEL p0 v2 1 0 h1
  · refine s_iload_n hK dX1_isComplete_54 rfl 0 rfl ?_
    exact s_zret hK dX1_isComplete_55
theorem ct_X1_isComplete {G : GC} {l : Launch} (g : GOK G l) (p0 : Option Nat) (p1 : Int32) (h : AH) : CT G l yX1_isComplete (Cond.code yX1_isComplete cX1_isComplete 5 (some (.boolean))) 9 143 [va_rf p0, .int p1] (f_X1_isComplete p0 p1 h) h :=
  CT.of g (by decide) (by simp only [ls_a, ls_i, ls_l, ls_n]; decide) (fun K _ hK hf hlo => by simp only [la_a, la_i, la_l, la_n]; exact sm_X1_isComplete hK hf hlo p0 p1 h)
abbrev FR_X1_gapCount : Nat := 8
abbrev LO_X1_gapCount : Nat := 121
theorem dyX1_gapCount : DY yX1_gapCount 0 := ⟨⟨by decide, by decide⟩, by decide +kernel⟩
theorem sm_X1_gapCount {G : GC} {K : SC} (hK : SOK G K RX1 cX1_gapCount 1 (some (.int)) "gapCount" []) (hf : FR_X1_gapCount ≤ (kR K).frames) (hlo : LO_X1_gapCount ≤ (kR K).locals) (p0 : Option Nat) (h : AH) : Sim G K 1 (f_X1_gapCount p0 h) h 0 [(0, va_rf p0)] [] := by
  unfold f_X1_gapCount
  refine s_aload_n hK dX1_gapCount_0 rfl 0 rfl ?_
  refine s_rc (fun _ _ eo er => ?_)
  refine s_cA hK ho_n (cx_v (As := []) (rest := []) hK dyX1_recovered rfl q1334 fcX1.1 q1336 qs26 q78 q1337 eo er (ct_X1_recovered hK.1 p0 h) (Nat.le_trans (Nat.le_of_ble_eq_true rfl) hf) (Nat.le_trans (Nat.le_of_ble_eq_true rfl) hlo) rk_n (Nat.le_of_ble_eq_true rfl) dX1_gapCount_1 rfl) (fun v2 h1 => ?_)
  refine s_gA hK fcX5 6 (Nat.le_of_ble_eq_true rfl) (Or.inr ⟨_, q1097⟩) (Or.inl rfl) dX1_gapCount_4 (fun v3 => ?_)
  refine s_rc (fun _ _ eo er => ?_)
  refine s_cI hK ho_n (cx_v (As := []) (rest := []) hK dyJ7_size rfl q1204 fcJ7.1 q972 q2187 q88 q974 eo er (ct_J7_size hK.1 v3 h1) (Nat.le_trans (Nat.le_of_ble_eq_true rfl) hf) (Nat.le_trans (Nat.le_of_ble_eq_true rfl) hlo) rk_n (Nat.le_of_ble_eq_true rfl) dX1_gapCount_7 rfl) (fun v5 h4 => ?_)
  exact s_iret hK dX1_gapCount_10
theorem ct_X1_gapCount {G : GC} {l : Launch} (g : GOK G l) (p0 : Option Nat) (h : AH) : CT G l yX1_gapCount (Cond.code yX1_gapCount cX1_gapCount 1 (some (.int))) 8 121 [va_rf p0] (f_X1_gapCount p0 h) h :=
  CT.of g (by decide) (by simp only [ls_a, ls_i, ls_l, ls_n]; decide) (fun K _ hK hf hlo => by simp only [la_a, la_i, la_l, la_n]; exact sm_X1_gapCount hK hf hlo p0 h)
abbrev FR_X1_gap : Nat := 8
abbrev LO_X1_gap : Nat := 124
theorem dyX1_gap : DY yX1_gap 2 := ⟨⟨by decide, by decide⟩, by decide +kernel⟩
theorem sm_X1_gap {G : GC} {K : SC} (hK : SOK G K RX1 cX1_gap 3 (some (.int)) "gap" []) (hf : FR_X1_gap ≤ (kR K).frames) (hlo : LO_X1_gap ≤ (kR K).locals) (p0 : Option Nat) (p1 : Int32) (p2 : Int32) (h : AH) : Sim G K 3 (f_X1_gap p0 p1 p2 h) h 0 [(0, va_rf p0), (1, .int p1), (2, .int p2)] [] := by
  unfold f_X1_gap
  refine s_aload_n hK dX1_gap_0 rfl 0 rfl ?_
  refine s_rc (fun _ _ eo er => ?_)
  refine s_cA hK ho_n (cx_v (As := []) (rest := []) hK dyX1_recovered rfl q1334 fcX1.1 q1336 qs26 q78 q1337 eo er (ct_X1_recovered hK.1 p0 h) (Nat.le_trans (Nat.le_of_ble_eq_true rfl) hf) (Nat.le_trans (Nat.le_of_ble_eq_true rfl) hlo) rk_n (Nat.le_of_ble_eq_true rfl) dX1_gap_1 rfl) (fun v2 h1 => ?_)
  refine s_gA hK fcX5 6 (Nat.le_of_ble_eq_true rfl) (Or.inr ⟨_, q1097⟩) (Or.inl rfl) dX1_gap_4 (fun v3 => ?_)
  refine s_iload_n hK dX1_gap_7 rfl 1 rfl ?_
  refine s_iload_n hK dX1_gap_8 rfl 2 rfl ?_
  refine s_iconst (v := 2) hK dX1_gap_9 rfl ?_
  refine s_cI hK ho_n (cx_s (As := [va_rf v3, .int p1, .int p2, .int 2]) (rest := []) hK dyX1_partOf rfl q1400 q1401 q78 q1402 (ct_X1_partOf hK.1 v3 p1 p2 2 h1) (Nat.le_trans (Nat.le_of_ble_eq_true rfl) hf) (Nat.le_trans (Nat.le_of_ble_eq_true rfl) hlo) rk_n (Nat.le_of_ble_eq_true rfl) dX1_gap_10 rfl) (fun v5 h4 => ?_)
  exact s_iret hK dX1_gap_13
theorem ct_X1_gap {G : GC} {l : Launch} (g : GOK G l) (p0 : Option Nat) (p1 : Int32) (p2 : Int32) (h : AH) : CT G l yX1_gap (Cond.code yX1_gap cX1_gap 3 (some (.int))) 8 124 [va_rf p0, .int p1, .int p2] (f_X1_gap p0 p1 p2 h) h :=
  CT.of g (by decide) (by simp only [ls_a, ls_i, ls_l, ls_n]; decide) (fun K _ hK hf hlo => by simp only [la_a, la_i, la_l, la_n]; exact sm_X1_gap hK hf hlo p0 p1 p2 h)
abbrev FR_X1_speculative : Nat := 8
abbrev LO_X1_speculative : Nat := 121
theorem dyX1_speculative : DY yX1_speculative 0 := ⟨⟨by decide, by decide⟩, by decide +kernel⟩
theorem sm_X1_speculative {G : GC} {K : SC} (hK : SOK G K RX1 cX1_speculative 1 (some (.int)) "speculative" []) (hf : FR_X1_speculative ≤ (kR K).frames) (hlo : LO_X1_speculative ≤ (kR K).locals) (p0 : Option Nat) (h : AH) : Sim G K 1 (f_X1_speculative p0 h) h 0 [(0, va_rf p0)] [] := by
  unfold f_X1_speculative
  refine s_aload_n hK dX1_speculative_0 rfl 0 rfl ?_
  refine s_rc (fun _ _ eo er => ?_)
  refine s_cA hK ho_n (cx_v (As := []) (rest := []) hK dyX1_recovered rfl q1334 fcX1.1 q1336 qs26 q78 q1337 eo er (ct_X1_recovered hK.1 p0 h) (Nat.le_trans (Nat.le_of_ble_eq_true rfl) hf) (Nat.le_trans (Nat.le_of_ble_eq_true rfl) hlo) rk_n (Nat.le_of_ble_eq_true rfl) dX1_speculative_1 rfl) (fun v2 h1 => ?_)
  refine s_rc (fun _ _ eo er => ?_)
  refine s_cI hK ho_n (cx_v (As := []) (rest := []) hK dyX5_countSpeculative rfl q1468 fcX5.1 q1469 q1470 q103 q1471 eo er (ct_X5_countSpeculative hK.1 v2 h1) (Nat.le_trans (Nat.le_of_ble_eq_true rfl) hf) (Nat.le_trans (Nat.le_of_ble_eq_true rfl) hlo) rk_n (Nat.le_of_ble_eq_true rfl) dX1_speculative_4 rfl) (fun v4 h3 => ?_)
  exact s_iret hK dX1_speculative_7
theorem ct_X1_speculative {G : GC} {l : Launch} (g : GOK G l) (p0 : Option Nat) (h : AH) : CT G l yX1_speculative (Cond.code yX1_speculative cX1_speculative 1 (some (.int))) 8 121 [va_rf p0] (f_X1_speculative p0 h) h :=
  CT.of g (by decide) (by simp only [ls_a, ls_i, ls_l, ls_n]; decide) (fun K _ hK hf hlo => by simp only [la_a, la_i, la_l, la_n]; exact sm_X1_speculative hK hf hlo p0 h)
abbrev FR_X1_blockCount : Nat := 8
abbrev LO_X1_blockCount : Nat := 121
theorem dyX1_blockCount : DY yX1_blockCount 0 := ⟨⟨by decide, by decide⟩, by decide +kernel⟩
theorem sm_X1_blockCount {G : GC} {K : SC} (hK : SOK G K RX1 cX1_blockCount 1 (some (.int)) "blockCount" []) (hf : FR_X1_blockCount ≤ (kR K).frames) (hlo : LO_X1_blockCount ≤ (kR K).locals) (p0 : Option Nat) (h : AH) : Sim G K 1 (f_X1_blockCount p0 h) h 0 [(0, va_rf p0)] [] := by
  unfold f_X1_blockCount
  refine s_aload_n hK dX1_blockCount_0 rfl 0 rfl ?_
  refine s_rc (fun _ _ eo er => ?_)
  refine s_cA hK ho_n (cx_v (As := []) (rest := []) hK dyX1_recovered rfl q1334 fcX1.1 q1336 qs26 q78 q1337 eo er (ct_X1_recovered hK.1 p0 h) (Nat.le_trans (Nat.le_of_ble_eq_true rfl) hf) (Nat.le_trans (Nat.le_of_ble_eq_true rfl) hlo) rk_n (Nat.le_of_ble_eq_true rfl) dX1_blockCount_1 rfl) (fun v2 h1 => ?_)
  refine s_gA hK fcX5 7 (Nat.le_of_ble_eq_true rfl) (Or.inr ⟨_, q1099⟩) (Or.inl rfl) dX1_blockCount_4 (fun v3 => ?_)
  refine s_rc (fun _ _ eo er => ?_)
  refine s_cI hK ho_n (cx_v (As := []) (rest := []) hK dyJ7_size rfl q1204 fcJ7.1 q972 q2187 q88 q974 eo er (ct_J7_size hK.1 v3 h1) (Nat.le_trans (Nat.le_of_ble_eq_true rfl) hf) (Nat.le_trans (Nat.le_of_ble_eq_true rfl) hlo) rk_n (Nat.le_of_ble_eq_true rfl) dX1_blockCount_7 rfl) (fun v5 h4 => ?_)
  exact s_iret hK dX1_blockCount_10
theorem ct_X1_blockCount {G : GC} {l : Launch} (g : GOK G l) (p0 : Option Nat) (h : AH) : CT G l yX1_blockCount (Cond.code yX1_blockCount cX1_blockCount 1 (some (.int))) 8 121 [va_rf p0] (f_X1_blockCount p0 h) h :=
  CT.of g (by decide) (by simp only [ls_a, ls_i, ls_l, ls_n]; decide) (fun K _ hK hf hlo => by simp only [la_a, la_i, la_l, la_n]; exact sm_X1_blockCount hK hf hlo p0 h)
abbrev FR_X1_block : Nat := 8
abbrev LO_X1_block : Nat := 124
theorem dyX1_block : DY yX1_block 2 := ⟨⟨by decide, by decide⟩, by decide +kernel⟩
theorem sm_X1_block {G : GC} {K : SC} (hK : SOK G K RX1 cX1_block 3 (some (.int)) "block" []) (hf : FR_X1_block ≤ (kR K).frames) (hlo : LO_X1_block ≤ (kR K).locals) (p0 : Option Nat) (p1 : Int32) (p2 : Int32) (h : AH) : Sim G K 3 (f_X1_block p0 p1 p2 h) h 0 [(0, va_rf p0), (1, .int p1), (2, .int p2)] [] := by
  unfold f_X1_block
  refine s_aload_n hK dX1_block_0 rfl 0 rfl ?_
  refine s_rc (fun _ _ eo er => ?_)
  refine s_cA hK ho_n (cx_v (As := []) (rest := []) hK dyX1_recovered rfl q1334 fcX1.1 q1336 qs26 q78 q1337 eo er (ct_X1_recovered hK.1 p0 h) (Nat.le_trans (Nat.le_of_ble_eq_true rfl) hf) (Nat.le_trans (Nat.le_of_ble_eq_true rfl) hlo) rk_n (Nat.le_of_ble_eq_true rfl) dX1_block_1 rfl) (fun v2 h1 => ?_)
  refine s_gA hK fcX5 7 (Nat.le_of_ble_eq_true rfl) (Or.inr ⟨_, q1099⟩) (Or.inl rfl) dX1_block_4 (fun v3 => ?_)
  refine s_iload_n hK dX1_block_7 rfl 1 rfl ?_
  refine s_iload_n hK dX1_block_8 rfl 2 rfl ?_
  refine s_iconst (v := 2) hK dX1_block_9 rfl ?_
  refine s_cI hK ho_n (cx_s (As := [va_rf v3, .int p1, .int p2, .int 2]) (rest := []) hK dyX1_partOf rfl q1400 q1401 q78 q1402 (ct_X1_partOf hK.1 v3 p1 p2 2 h1) (Nat.le_trans (Nat.le_of_ble_eq_true rfl) hf) (Nat.le_trans (Nat.le_of_ble_eq_true rfl) hlo) rk_n (Nat.le_of_ble_eq_true rfl) dX1_block_10 rfl) (fun v5 h4 => ?_)
  exact s_iret hK dX1_block_13
theorem ct_X1_block {G : GC} {l : Launch} (g : GOK G l) (p0 : Option Nat) (p1 : Int32) (p2 : Int32) (h : AH) : CT G l yX1_block (Cond.code yX1_block cX1_block 3 (some (.int))) 8 124 [va_rf p0, .int p1, .int p2] (f_X1_block p0 p1 p2 h) h :=
  CT.of g (by decide) (by simp only [ls_a, ls_i, ls_l, ls_n]; decide) (fun K _ hK hf hlo => by simp only [la_a, la_i, la_l, la_n]; exact sm_X1_block hK hf hlo p0 p1 p2 h)
abbrev FR_X1_functionCount : Nat := 8
abbrev LO_X1_functionCount : Nat := 230
theorem dyX1_functionCount : DY yX1_functionCount 0 := ⟨⟨by decide, by decide⟩, by decide +kernel⟩
theorem sm_X1_functionCount {G : GC} {K : SC} (hK : SOK G K RX1 cX1_functionCount 1 (some (.int)) "functionCount" []) (hf : FR_X1_functionCount ≤ (kR K).frames) (hlo : LO_X1_functionCount ≤ (kR K).locals) (p0 : Option Nat) (h : AH) : Sim G K 1 (f_X1_functionCount p0 h) h 0 [(0, va_rf p0)] [] := by
  unfold f_X1_functionCount
  refine s_aload_n hK dX1_functionCount_0 rfl 0 rfl ?_
  refine s_rc (fun _ _ eo er => ?_)
  refine s_cA hK ho_n (cx_v (As := []) (rest := []) hK dyX1_recovered rfl q1334 fcX1.1 q1336 qs26 q78 q1337 eo er (ct_X1_recovered hK.1 p0 h) (Nat.le_trans (Nat.le_of_ble_eq_true rfl) hf) (Nat.le_trans (Nat.le_of_ble_eq_true rfl) hlo) rk_n (Nat.le_of_ble_eq_true rfl) dX1_functionCount_1 rfl) (fun v2 h1 => ?_)
  refine s_rc (fun _ _ eo er => ?_)
  refine s_cA hK ho_n (cx_v (As := []) (rest := []) hK dyX5_findHeads rfl q1493 fcX5.1 q1494 q1495 q103 q1496 eo er (ct_X5_findHeads hK.1 v2 h1) (Nat.le_trans (Nat.le_of_ble_eq_true rfl) hf) (Nat.le_trans (Nat.le_of_ble_eq_true rfl) hlo) rk_n (Nat.le_of_ble_eq_true rfl) dX1_functionCount_4 rfl) (fun v4 h3 => ?_)
  refine s_rc (fun _ _ eo er => ?_)
  refine s_cI hK ho_n (cx_v (As := []) (rest := []) hK dyJ20_cardinality rfl q1121 fcJ20.1 q1122 q1123 q106 q1124 eo er (ct_J20_cardinality hK.1 v4 h3) (Nat.le_trans (Nat.le_of_ble_eq_true rfl) hf) (Nat.le_trans (Nat.le_of_ble_eq_true rfl) hlo) rk_n (Nat.le_of_ble_eq_true rfl) dX1_functionCount_7 rfl) (fun v6 h5 => ?_)
  exact s_iret hK dX1_functionCount_10
theorem ct_X1_functionCount {G : GC} {l : Launch} (g : GOK G l) (p0 : Option Nat) (h : AH) : CT G l yX1_functionCount (Cond.code yX1_functionCount cX1_functionCount 1 (some (.int))) 8 230 [va_rf p0] (f_X1_functionCount p0 h) h :=
  CT.of g (by decide) (by simp only [ls_a, ls_i, ls_l, ls_n]; decide) (fun K _ hK hf hlo => by simp only [la_a, la_i, la_l, la_n]; exact sm_X1_functionCount hK hf hlo p0 h)
abbrev FR_X1_functionSize : Nat := 8
abbrev LO_X1_functionSize : Nat := 283
theorem dyX1_functionSize : DY yX1_functionSize 1 := ⟨⟨by decide, by decide⟩, by decide +kernel⟩
theorem sm_X1_functionSize {G : GC} {K : SC} (hK : SOK G K RX1 cX1_functionSize 3 (some (.int)) "functionSize" []) (hf : FR_X1_functionSize ≤ (kR K).frames) (hlo : LO_X1_functionSize ≤ (kR K).locals) (p0 : Option Nat) (p1 : Int32) (h : AH) : Sim G K 3 (f_X1_functionSize p0 p1 h) h 0 [(0, va_rf p0), (1, .int p1)] [] := by
  unfold f_X1_functionSize
  refine s_aload_n hK dX1_functionSize_0 rfl 0 rfl ?_
  refine s_rc (fun _ _ eo er => ?_)
  refine s_cA hK ho_n (cx_v (As := []) (rest := []) hK dyX1_recovered rfl q1334 fcX1.1 q1336 qs26 q78 q1337 eo er (ct_X1_recovered hK.1 p0 h) (Nat.le_trans (Nat.le_of_ble_eq_true rfl) hf) (Nat.le_trans (Nat.le_of_ble_eq_true rfl) hlo) rk_n (Nat.le_of_ble_eq_true rfl) dX1_functionSize_1 rfl) (fun v2 h1 => ?_)
  refine s_astore_n (lv' := [(2, va_rf v2), (0, va_rf p0), (1, .int p1)]) hK dX1_functionSize_4 rfl (Nat.le_of_ble_eq_true rfl) rfl ?_
  refine s_aload_n hK dX1_functionSize_5 rfl 1 rfl ?_
  refine s_iload_n hK dX1_functionSize_6 rfl 2 rfl ?_
  refine s_rc (fun _ _ eo er => ?_)
  refine s_cV hK ho_n (cx_v (As := [.int p1]) (rest := []) hK dyX1_requireAddress rfl q1232 fcX1.1 q1234 qs25 q78 q1235 eo er (ct_X1_requireAddress hK.1 p0 p1 h1) (Nat.le_trans (Nat.le_of_ble_eq_true rfl) hf) (Nat.le_trans (Nat.le_of_ble_eq_true rfl) hlo) rk_n (Nat.le_of_ble_eq_true rfl) dX1_functionSize_7 rfl) (fun h3 => ?_)
  refine s_aload_n hK dX1_functionSize_10 rfl 0 rfl ?_
  refine s_rc (fun _ _ eo er => ?_)
  refine s_cA hK ho_n (cx_v (As := []) (rest := []) hK dyX5_findHeads rfl q1493 fcX5.1 q1494 q1495 q103 q1496 eo er (ct_X5_findHeads hK.1 v2 h3) (Nat.le_trans (Nat.le_of_ble_eq_true rfl) hf) (Nat.le_trans (Nat.le_of_ble_eq_true rfl) hlo) rk_n (Nat.le_of_ble_eq_true rfl) dX1_functionSize_11 rfl) (fun v5 h4 => ?_)
  refine s_iload_n hK dX1_functionSize_14 rfl 2 rfl ?_
  refine s_rc (fun _ _ eo er => ?_)
  refine s_cI hK ho_n (cx_v (As := [.int p1]) (rest := []) hK dyJ20_get rfl q1505 fcJ20.1 q490 q491 q106 q492 eo er (ct_J20_get hK.1 v5 p1 h4) (Nat.le_trans (Nat.le_of_ble_eq_true rfl) hf) (Nat.le_trans (Nat.le_of_ble_eq_true rfl) hlo) rk_n (Nat.le_of_ble_eq_true rfl) dX1_functionSize_15 rfl) (fun v7 h6 => ?_)
  refine s_if_ne (tgt := 29) hK dX1_functionSize_18 (by decide) (fun c13 => ?_) (fun c13 => ?_)
  · refine s_aload_n hK dX1_functionSize_29 rfl 0 rfl ?_
    refine s_iload_n hK dX1_functionSize_30 rfl 2 rfl ?_
    refine s_rc (fun _ _ eo er => ?_)
    refine s_cI hK ho_n (cx_v (As := [.int p1]) (rest := []) hK dyX5_countReached rfl q1508 fcX5.1 q1509 q1510 q103 q1511 eo er (ct_X5_countReached hK.1 v2 p1 h6) (Nat.le_trans (Nat.le_of_ble_eq_true rfl) hf) (Nat.le_trans (Nat.le_of_ble_eq_true rfl) hlo) rk_n (Nat.le_of_ble_eq_true rfl) dX1_functionSize_31 rfl) (fun v9 h8 => ?_)
    exact s_iret hK dX1_functionSize_34
  · refine s_mk0 hK xe_J21_253_255 rfl dX1_functionSize_21 dX1_functionSize_24 dX1_functionSize_25 (Nat.lt_of_lt_of_le (Nat.le_of_ble_eq_true rfl) hf) rk_n (Nat.le_trans (Nat.le_of_ble_eq_true rfl) hlo) (fun a10 h11 => ?_)
    refine s_athrow hK (ci := 18) (rc := (RJ21, TJ21, 0)) rfl dX1_functionSize_28 (fun q12 => ?_)
    exact st_out hK ho_n
theorem ct_X1_functionSize {G : GC} {l : Launch} (g : GOK G l) (p0 : Option Nat) (p1 : Int32) (h : AH) : CT G l yX1_functionSize (Cond.code yX1_functionSize cX1_functionSize 3 (some (.int))) 8 283 [va_rf p0, .int p1] (f_X1_functionSize p0 p1 h) h :=
  CT.of g (by decide) (by simp only [ls_a, ls_i, ls_l, ls_n]; decide) (fun K _ hK hf hlo => by simp only [la_a, la_i, la_l, la_n]; exact sm_X1_functionSize hK hf hlo p0 p1 h)
abbrev FR_X1_run : Nat := 8
abbrev LO_X1_run : Nat := 281
theorem dyX1_run : DY yX1_run 1 := ⟨⟨by decide, by decide⟩, by decide +kernel⟩
theorem sm_X1_run {G : GC} {K : SC} (hK : SOK G K RX1 cX1_run 2 (some (.int)) "run" []) (hf : FR_X1_run ≤ (kR K).frames) (hlo : LO_X1_run ≤ (kR K).locals) (p0 : Option Nat) (p1 : Int32) (h : AH) : Sim G K 2 (f_X1_run p0 p1 h) h 0 [(0, va_rf p0), (1, .int p1)] [] := by
  unfold f_X1_run
  refine s_aload_n hK dX1_run_0 rfl 0 rfl ?_
  refine s_iload_n hK dX1_run_1 rfl 1 rfl ?_
  refine s_rc (fun _ _ eo er => ?_)
  refine s_cV hK ho_n (cx_v (As := [.int p1]) (rest := []) hK dyX1_requireAddress rfl q1232 fcX1.1 q1234 qs25 q78 q1235 eo er (ct_X1_requireAddress hK.1 p0 p1 h) (Nat.le_trans (Nat.le_of_ble_eq_true rfl) hf) (Nat.le_trans (Nat.le_of_ble_eq_true rfl) hlo) rk_n (Nat.le_of_ble_eq_true rfl) dX1_run_2 rfl) (fun h1 => ?_)
  refine s_aload_n hK dX1_run_5 rfl 0 rfl ?_
  refine s_new hK fcX10 q1524 q1525 q116 fsX10_ok dX1_run_6 (fun a2 h3 => ?_)
  refine s_dup hK dX1_run_9 (va_cat _) ?_
  refine s_aload_n hK dX1_run_10 rfl 0 rfl ?_
  refine s_gA hK fcX1 0 (Nat.le_of_ble_eq_true rfl) (Or.inl q150) (Or.inl rfl) dX1_run_11 (fun v4 => ?_)
  refine s_iload_n hK dX1_run_14 rfl 1 rfl ?_
  refine s_nn (fun _ eo => ?_)
  refine s_cV hK ho_n (cx_i (As := [va_rf v4, .int p1]) (rest := [va_rf a2, va_rf p0]) hK dyX10_init rfl q1526 rfl q1527 q116 q1528 eo (ct_X10_init hK.1 a2 v4 p1 h3) (Nat.le_trans (Nat.le_of_ble_eq_true rfl) hf) (Nat.le_trans (Nat.le_of_ble_eq_true rfl) hlo) (rk_a (rk_a rk_n)) (Nat.le_of_ble_eq_true rfl) dX1_run_15 rfl) (fun h5 => ?_)
  refine s_pF hK fcX1 3 (Nat.le_of_ble_eq_true rfl) (Or.inl q153) (Or.inl rfl) (Or.inl rfl) (nr_o _) (ft_o _) dX1_run_18 (fun h6 => ?_)
  refine s_aload_n hK dX1_run_21 rfl 0 rfl ?_
  refine s_gA hK fcX1 3 (Nat.le_of_ble_eq_true rfl) (Or.inl q153) (Or.inl rfl) dX1_run_22 (fun v7 => ?_)
  refine s_gI hK fcX10 5 (Nat.le_of_ble_eq_true rfl) (Or.inr ⟨_, q1588⟩) (Or.inl rfl) dX1_run_25 (fun v8 => ?_)
  exact s_iret hK dX1_run_28
theorem ct_X1_run {G : GC} {l : Launch} (g : GOK G l) (p0 : Option Nat) (p1 : Int32) (h : AH) : CT G l yX1_run (Cond.code yX1_run cX1_run 2 (some (.int))) 8 281 [va_rf p0, .int p1] (f_X1_run p0 p1 h) h :=
  CT.of g (by decide) (by simp only [ls_a, ls_i, ls_l, ls_n]; decide) (fun K _ hK hf hlo => by simp only [la_a, la_i, la_l, la_n]; exact sm_X1_run hK hf hlo p0 p1 h)
abbrev FR_X1_latestRun : Nat := 7
abbrev LO_X1_latestRun : Nat := 101
theorem dyX1_latestRun : DY yX1_latestRun 0 := ⟨⟨by decide, by decide⟩, by decide +kernel⟩
theorem sm_X1_latestRun_J12 {G : GC} {K : SC} (hK : SOK G K RX1 cX1_latestRun 1 (some (.object "CodeRecovery$Run")) "latestRun" []) (hf : FR_X1_latestRun ≤ (kR K).frames) (hlo : LO_X1_latestRun ≤ (kR K).locals) (x2 : Option Nat) (y3 : Int32) (h4 : AH) : Sim G K 1 (f_X1_latestRun_J12 x2 y3 h4) h4 12 [(0, va_rf x2)] [.int y3] := by
  unfold f_X1_latestRun_J12
  refine s_cV hK ho_n (cx_s (As := [.int y3]) (rest := []) hK dyX1_requireState rfl q1153 q1154 q78 q1155 (ct_X1_requireState hK.1 y3 h4) (Nat.le_trans (Nat.le_of_ble_eq_true rfl) hf) (Nat.le_trans (Nat.le_of_ble_eq_true rfl) hlo) rk_n (Nat.le_of_ble_eq_true rfl) dX1_latestRun_12 rfl) (fun h5 => ?_)
  refine s_aload_n hK dX1_latestRun_15 rfl 0 rfl ?_
  refine s_gA hK fcX1 3 (Nat.le_of_ble_eq_true rfl) (Or.inl q153) (Or.inl rfl) dX1_latestRun_16 (fun v6 => ?_)
  exact s_aret hK (Or.inl ⟨_, rfl⟩) dX1_latestRun_19
theorem sm_X1_latestRun {G : GC} {K : SC} (hK : SOK G K RX1 cX1_latestRun 1 (some (.object "CodeRecovery$Run")) "latestRun" []) (hf : FR_X1_latestRun ≤ (kR K).frames) (hlo : LO_X1_latestRun ≤ (kR K).locals) (p0 : Option Nat) (h : AH) : Sim G K 1 (f_X1_latestRun p0 h) h 0 [(0, va_rf p0)] [] := by
  unfold f_X1_latestRun
  refine s_aload_n hK dX1_latestRun_0 rfl 0 rfl ?_
  refine s_gA hK fcX1 3 (Nat.le_of_ble_eq_true rfl) (Or.inl q153) (Or.inl rfl) dX1_latestRun_1 (fun v1 => ?_)
  refine s_ifnull (tgt := 11) hK dX1_latestRun_4 (by decide) (fun c7 => ?_) (fun c7 => ?_)
  · refine s_iconst (v := 0) hK dX1_latestRun_11 rfl ?_
    exact sm_X1_latestRun_J12 hK hf hlo p0 0 h
  · refine s_iconst (v := 1) hK dX1_latestRun_7 rfl ?_
    refine s_goto (tgt := 12) hK dX1_latestRun_8 (by decide) ?_
    exact sm_X1_latestRun_J12 hK hf hlo p0 1 h
theorem ct_X1_latestRun {G : GC} {l : Launch} (g : GOK G l) (p0 : Option Nat) (h : AH) : CT G l yX1_latestRun (Cond.code yX1_latestRun cX1_latestRun 1 (some (.object "CodeRecovery$Run"))) 7 101 [va_rf p0] (f_X1_latestRun p0 h) h :=
  CT.of g (by decide) (by simp only [ls_a, ls_i, ls_l, ls_n]; decide) (fun K _ hK hf hlo => by simp only [la_a, la_i, la_l, la_n]; exact sm_X1_latestRun hK hf hlo p0 h)
abbrev FR_X1_executedAt : Nat := 8
abbrev LO_X1_executedAt : Nat := 122
theorem dyX1_executedAt : DY yX1_executedAt 1 := ⟨⟨by decide, by decide⟩, by decide +kernel⟩
theorem sm_X1_executedAt {G : GC} {K : SC} (hK : SOK G K RX1 cX1_executedAt 3 (some (.int)) "executedAt" []) (hf : FR_X1_executedAt ≤ (kR K).frames) (hlo : LO_X1_executedAt ≤ (kR K).locals) (p0 : Option Nat) (p1 : Int32) (h : AH) : Sim G K 3 (f_X1_executedAt p0 p1 h) h 0 [(0, va_rf p0), (1, .int p1)] [] := by
  unfold f_X1_executedAt
  refine s_aload_n hK dX1_executedAt_0 rfl 0 rfl ?_
  refine s_rc (fun _ _ eo er => ?_)
  refine s_cA hK ho_n (cx_v (As := []) (rest := []) hK dyX1_latestRun rfl q1609 fcX1.1 q1611 qs33 q78 q1612 eo er (ct_X1_latestRun hK.1 p0 h) (Nat.le_trans (Nat.le_of_ble_eq_true rfl) hf) (Nat.le_trans (Nat.le_of_ble_eq_true rfl) hlo) rk_n (Nat.le_of_ble_eq_true rfl) dX1_executedAt_1 rfl) (fun v2 h1 => ?_)
  refine s_astore_n (lv' := [(2, va_rf v2), (0, va_rf p0), (1, .int p1)]) hK dX1_executedAt_4 rfl (Nat.le_of_ble_eq_true rfl) rfl ?_
  refine s_aload_n hK dX1_executedAt_5 rfl 1 rfl ?_
  refine s_iload_n hK dX1_executedAt_6 rfl 2 rfl ?_
  refine s_rc (fun _ _ eo er => ?_)
  refine s_cV hK ho_n (cx_v (As := [.int p1]) (rest := []) hK dyX1_requireAddress rfl q1232 fcX1.1 q1234 qs25 q78 q1235 eo er (ct_X1_requireAddress hK.1 p0 p1 h1) (Nat.le_trans (Nat.le_of_ble_eq_true rfl) hf) (Nat.le_trans (Nat.le_of_ble_eq_true rfl) hlo) rk_n (Nat.le_of_ble_eq_true rfl) dX1_executedAt_7 rfl) (fun h3 => ?_)
  refine s_aload_n hK dX1_executedAt_10 rfl 0 rfl ?_
  refine s_gA hK fcX10 2 (Nat.le_of_ble_eq_true rfl) (Or.inr ⟨_, q1584⟩) (Or.inl rfl) dX1_executedAt_11 (fun v4 => ?_)
  refine s_iload_n hK dX1_executedAt_14 rfl 2 rfl ?_
  refine s_iald hK dX1_executedAt_15 (fun v5 => ?_)
  exact s_iret hK dX1_executedAt_16
theorem ct_X1_executedAt {G : GC} {l : Launch} (g : GOK G l) (p0 : Option Nat) (p1 : Int32) (h : AH) : CT G l yX1_executedAt (Cond.code yX1_executedAt cX1_executedAt 3 (some (.int))) 8 122 [va_rf p0, .int p1] (f_X1_executedAt p0 p1 h) h :=
  CT.of g (by decide) (by simp only [ls_a, ls_i, ls_l, ls_n]; decide) (fun K _ hK hf hlo => by simp only [la_a, la_i, la_l, la_n]; exact sm_X1_executedAt hK hf hlo p0 p1 h)
abbrev FR_X1_unrecovered : Nat := 8
abbrev LO_X1_unrecovered : Nat := 121
theorem dyX1_unrecovered : DY yX1_unrecovered 0 := ⟨⟨by decide, by decide⟩, by decide +kernel⟩
theorem sm_X1_unrecovered_J50 {G : GC} {K : SC} (hK : SOK G K RX1 cX1_unrecovered 5 (some (.int)) "unrecovered" []) (hf : FR_X1_unrecovered ≤ (kR K).frames) (hlo : LO_X1_unrecovered ≤ (kR K).locals) {rc : Option Nat → Option Nat → Int32 → Int32 → AH → RS} (hrc : ∀ (y0 : Option Nat) (y1 : Option Nat) (y2 : Int32) (y3 : Int32) (h : AH), Sim G K 5 (rc y0 y1 y2 y3 h) h 15 [(1, va_rf y0), (2, va_rf y1), (3, .int y2), (4, .int y3)] []) {k58 : Int32 → AH → RS} (hk58 : ∀ (y0 : Int32) (h : AH), Sim G K 5 (k58 y0 h) h 58 [(3, .int y0)] []) (x19 : Option Nat) (x20 : Option Nat) (x21 : Int32) (y22 : Int32) (y23 : Int32) (h24 : AH) : Sim G K 5 (f_X1_unrecovered_J50 rc k58 x19 x20 x21 y22 y23 h24) h24 50 [(1, va_rf x19), (2, va_rf x20), (4, .int x21)] [.int y22, .int y23] := by
  unfold f_X1_unrecovered_J50
  refine s_iadd hK dX1_unrecovered_50 ?_
  refine s_istore_n (lv' := [(3, .int (y23 + y22)), (1, va_rf x19), (2, va_rf x20), (4, .int x21)]) hK dX1_unrecovered_51 rfl (Nat.le_of_ble_eq_true rfl) (flA (pre := [(1, va_rf x19)]) (suf := [(4, .int x21)]) rfl rfl) ?_
  refine s_iinc (j := 3) (v := 1) (lv' := [(4, .int (x21 + 1)), (3, .int (y23 + y22)), (1, va_rf x19), (2, va_rf x20)]) hK dX1_unrecovered_52 rfl rfl (Nat.le_of_ble_eq_true rfl) rfl ?_
  refine s_goto (tgt := 15) hK dX1_unrecovered_55 (by decide) ?_
  refine s_sub [2, 3, 1, 0] rfl ?_
  exact hrc x19 x20 (y23 + y22) (x21 + 1) h24
theorem sm_X1_unrecovered_J49 {G : GC} {K : SC} (hK : SOK G K RX1 cX1_unrecovered 5 (some (.int)) "unrecovered" []) (hf : FR_X1_unrecovered ≤ (kR K).frames) (hlo : LO_X1_unrecovered ≤ (kR K).locals) {rc : Option Nat → Option Nat → Int32 → Int32 → AH → RS} (hrc : ∀ (y0 : Option Nat) (y1 : Option Nat) (y2 : Int32) (y3 : Int32) (h : AH), Sim G K 5 (rc y0 y1 y2 y3 h) h 15 [(1, va_rf y0), (2, va_rf y1), (3, .int y2), (4, .int y3)] []) {k58 : Int32 → AH → RS} (hk58 : ∀ (y0 : Int32) (h : AH), Sim G K 5 (k58 y0 h) h 58 [(3, .int y0)] []) (x14 : Option Nat) (x15 : Option Nat) (x16 : Int32) (y17 : Int32) (h18 : AH) : Sim G K 5 (f_X1_unrecovered_J49 rc k58 x14 x15 x16 y17 h18) h18 49 [(1, va_rf x14), (2, va_rf x15), (4, .int x16)] [.int y17] := by
  unfold f_X1_unrecovered_J49
  refine s_iconst (v := 0) hK dX1_unrecovered_49 rfl ?_
  exact sm_X1_unrecovered_J50 hK hf hlo hrc hk58 x14 x15 x16 0 y17 h18
theorem sm_X1_unrecovered_L15 {G : GC} {K : SC} (hK : SOK G K RX1 cX1_unrecovered 5 (some (.int)) "unrecovered" []) (hf : FR_X1_unrecovered ≤ (kR K).frames) (hlo : LO_X1_unrecovered ≤ (kR K).locals) {k58 : Int32 → AH → RS} (hk58 : ∀ (y0 : Int32) (h : AH), Sim G K 5 (k58 y0 h) h 58 [(3, .int y0)] []) : ∀ (n : Nat) (x5 : Option Nat) (x6 : Option Nat) (x7 : Int32) (x8 : Int32) (h9 : AH), Sim G K 5 (f_X1_unrecovered_L15 k58 n x5 x6 x7 x8 h9) h9 15 [(1, va_rf x5), (2, va_rf x6), (3, .int x7), (4, .int x8)] [] := by
  intro n
  induction n with
  | zero => intro x5 x6 x7 x8 h9; exact s_none
  | succ n ih =>
    intro x5 x6 x7 x8 h9
    rw [f_X1_unrecovered_L15]
    refine s_iload hK dX1_unrecovered_15 3 rfl ?_
    refine s_aload_n hK dX1_unrecovered_17 rfl 1 rfl ?_
    refine s_gA hK fcX10 2 (Nat.le_of_ble_eq_true rfl) (Or.inr ⟨_, q1584⟩) (Or.inl rfl) dX1_unrecovered_18 (fun v10 => ?_)
    refine s_alen hK dX1_unrecovered_21 (fun v11 => ?_)
    refine s_icmp_ge (tgt := 58) hK dX1_unrecovered_22 (by decide) (fun c29 => ?_) (fun c29 => ?_)
    · refine s_sub [2] rfl ?_
      exact hk58 x7 h9
    · refine s_iload_n hK dX1_unrecovered_25 rfl 2 rfl ?_
      refine s_aload_n hK dX1_unrecovered_26 rfl 1 rfl ?_
      refine s_gA hK fcX10 2 (Nat.le_of_ble_eq_true rfl) (Or.inr ⟨_, q1584⟩) (Or.inl rfl) dX1_unrecovered_27 (fun v12 => ?_)
      refine s_iload hK dX1_unrecovered_30 3 rfl ?_
      refine s_iald hK dX1_unrecovered_32 (fun v13 => ?_)
      refine s_if_le (tgt := 49) hK dX1_unrecovered_33 (by decide) (fun c28 => ?_) (fun c28 => ?_)
      · refine s_sub [0, 1, 3] rfl ?_
        exact sm_X1_unrecovered_J49 hK hf hlo ih hk58 x5 x6 x8 x7 h9
      · refine s_aload_n hK dX1_unrecovered_36 rfl 0 rfl ?_
        refine s_iload hK dX1_unrecovered_37 3 rfl ?_
        refine s_rc (fun _ _ eo er => ?_)
        refine s_cI hK ho_n (cx_v (As := [.int x8]) (rest := [.int x7]) hK dyX5_isAccepted rfl q1446 fcX5.1 q486 q487 q103 q488 eo er (ct_X5_isAccepted hK.1 x5 x8 h9) (Nat.le_trans (Nat.le_of_ble_eq_true rfl) hf) (Nat.le_trans (Nat.le_of_ble_eq_true rfl) hlo) (rk_i rk_n) (Nat.le_of_ble_eq_true rfl) dX1_unrecovered_39 rfl) (fun v26 h25 => ?_)
        refine s_if_ne (tgt := 49) hK dX1_unrecovered_42 (by decide) (fun c27 => ?_) (fun c27 => ?_)
        · refine s_sub [0, 1, 3] rfl ?_
          exact sm_X1_unrecovered_J49 hK hf hlo ih hk58 x5 x6 x8 x7 h25
        · refine s_iconst (v := 1) hK dX1_unrecovered_45 rfl ?_
          refine s_goto (tgt := 50) hK dX1_unrecovered_46 (by decide) ?_
          refine s_sub [0, 1, 3] rfl ?_
          exact sm_X1_unrecovered_J50 hK hf hlo ih hk58 x5 x6 x8 1 x7 h25
theorem sm_X1_unrecovered {G : GC} {K : SC} (hK : SOK G K RX1 cX1_unrecovered 5 (some (.int)) "unrecovered" []) (hf : FR_X1_unrecovered ≤ (kR K).frames) (hlo : LO_X1_unrecovered ≤ (kR K).locals) (p0 : Option Nat) (h : AH) : Sim G K 5 (f_X1_unrecovered p0 h) h 0 [(0, va_rf p0)] [] := by
  unfold f_X1_unrecovered
  refine s_aload_n hK dX1_unrecovered_0 rfl 0 rfl ?_
  refine s_rc (fun _ _ eo er => ?_)
  refine s_cA hK ho_n (cx_v (As := []) (rest := []) hK dyX1_recovered rfl q1334 fcX1.1 q1336 qs26 q78 q1337 eo er (ct_X1_recovered hK.1 p0 h) (Nat.le_trans (Nat.le_of_ble_eq_true rfl) hf) (Nat.le_trans (Nat.le_of_ble_eq_true rfl) hlo) rk_n (Nat.le_of_ble_eq_true rfl) dX1_unrecovered_1 rfl) (fun v2 h1 => ?_)
  refine s_astore_n (lv' := [(1, va_rf v2), (0, va_rf p0)]) hK dX1_unrecovered_4 rfl (Nat.le_of_ble_eq_true rfl) (flA (pre := []) (suf := []) rfl rfl) ?_
  refine s_aload_n hK dX1_unrecovered_5 rfl 1 rfl ?_
  refine s_rc (fun _ _ eo er => ?_)
  refine s_cA hK ho_n (cx_v (As := []) (rest := []) hK dyX1_latestRun rfl q1609 fcX1.1 q1611 qs33 q78 q1612 eo er (ct_X1_latestRun hK.1 p0 h1) (Nat.le_trans (Nat.le_of_ble_eq_true rfl) hf) (Nat.le_trans (Nat.le_of_ble_eq_true rfl) hlo) rk_n (Nat.le_of_ble_eq_true rfl) dX1_unrecovered_6 rfl) (fun v4 h3 => ?_)
  refine s_astore_n (lv' := [(2, va_rf v4), (1, va_rf v2), (0, va_rf p0)]) hK dX1_unrecovered_9 rfl (Nat.le_of_ble_eq_true rfl) (flA (pre := []) (suf := [(0, va_rf p0)]) rfl rfl) ?_
  refine s_iconst (v := 0) hK dX1_unrecovered_10 rfl ?_
  refine s_istore_n (lv' := [(3, .int 0), (2, va_rf v4), (1, va_rf v2), (0, va_rf p0)]) hK dX1_unrecovered_11 rfl (Nat.le_of_ble_eq_true rfl) (flA (pre := []) (suf := [(1, va_rf v2), (0, va_rf p0)]) rfl rfl) ?_
  refine s_iconst (v := 0) hK dX1_unrecovered_12 rfl ?_
  refine s_istore (lv' := [(4, .int 0), (3, .int 0), (2, va_rf v4), (1, va_rf v2), (0, va_rf p0)]) hK dX1_unrecovered_13 (Nat.le_of_ble_eq_true rfl) rfl ?_
  refine s_sub [3, 2, 1, 0] rfl ?_
  refine sm_X1_unrecovered_L15 hK hf hlo (fun x30 h31 => ?_) FUEL v2 v4 0 0 h3
  · refine s_iload_n hK dX1_unrecovered_58 rfl 0 rfl ?_
    exact s_iret hK dX1_unrecovered_59
theorem ct_X1_unrecovered {G : GC} {l : Launch} (g : GOK G l) (p0 : Option Nat) (h : AH) : CT G l yX1_unrecovered (Cond.code yX1_unrecovered cX1_unrecovered 5 (some (.int))) 8 121 [va_rf p0] (f_X1_unrecovered p0 h) h :=
  CT.of g (by decide) (by simp only [ls_a, ls_i, ls_l, ls_n]; decide) (fun K _ hK hf hlo => by simp only [la_a, la_i, la_l, la_n]; exact sm_X1_unrecovered hK hf hlo p0 h)
abbrev FR_X1_register : Nat := 8
abbrev LO_X1_register : Nat := 121
theorem dyX1_register : DY yX1_register 1 := ⟨⟨by decide, by decide⟩, by decide +kernel⟩
theorem sm_X1_register {G : GC} {K : SC} (hK : SOK G K RX1 cX1_register 3 (some (.int)) "register" []) (hf : FR_X1_register ≤ (kR K).frames) (hlo : LO_X1_register ≤ (kR K).locals) (p0 : Option Nat) (p1 : Int32) (h : AH) : Sim G K 3 (f_X1_register p0 p1 h) h 0 [(0, va_rf p0), (1, .int p1)] [] := by
  unfold f_X1_register
  refine s_aload_n hK dX1_register_0 rfl 0 rfl ?_
  refine s_rc (fun _ _ eo er => ?_)
  refine s_cA hK ho_n (cx_v (As := []) (rest := []) hK dyX1_latestRun rfl q1609 fcX1.1 q1611 qs33 q78 q1612 eo er (ct_X1_latestRun hK.1 p0 h) (Nat.le_trans (Nat.le_of_ble_eq_true rfl) hf) (Nat.le_trans (Nat.le_of_ble_eq_true rfl) hlo) rk_n (Nat.le_of_ble_eq_true rfl) dX1_register_1 rfl) (fun v2 h1 => ?_)
  refine s_astore_n (lv' := [(2, va_rf v2), (0, va_rf p0), (1, .int p1)]) hK dX1_register_4 rfl (Nat.le_of_ble_eq_true rfl) rfl ?_
  refine s_iload_n hK dX1_register_5 rfl 2 rfl ?_
  refine s_iconst (v := 0) hK dX1_register_6 rfl ?_
  refine s_iconst (v := 3) hK dX1_register_7 rfl ?_
  refine s_cI hK ho_n (cx_s (As := [.int p1, .int 0, .int 3]) (rest := []) hK dyX1_isBetween rfl q1144 q775 q78 q776 (ct_X1_isBetween hK.1 p1 0 3 h1) (Nat.le_trans (Nat.le_of_ble_eq_true rfl) hf) (Nat.le_trans (Nat.le_of_ble_eq_true rfl) hlo) rk_n (Nat.le_of_ble_eq_true rfl) dX1_register_8 rfl) (fun v4 h3 => ?_)
  refine s_cV hK ho_n (cx_s (As := [.int v4]) (rest := []) hK dyX1_requireIndex rfl q1237 q1238 q78 q1239 (ct_X1_requireIndex hK.1 v4 h3) (Nat.le_trans (Nat.le_of_ble_eq_true rfl) hf) (Nat.le_trans (Nat.le_of_ble_eq_true rfl) hlo) rk_n (Nat.le_of_ble_eq_true rfl) dX1_register_11 rfl) (fun h5 => ?_)
  refine s_aload_n hK dX1_register_14 rfl 0 rfl ?_
  refine s_gA hK fcX10 1 (Nat.le_of_ble_eq_true rfl) (Or.inr ⟨_, q1582⟩) (Or.inl rfl) dX1_register_15 (fun v6 => ?_)
  refine s_iload_n hK dX1_register_18 rfl 2 rfl ?_
  refine s_iald hK dX1_register_19 (fun v7 => ?_)
  exact s_iret hK dX1_register_20
theorem ct_X1_register {G : GC} {l : Launch} (g : GOK G l) (p0 : Option Nat) (p1 : Int32) (h : AH) : CT G l yX1_register (Cond.code yX1_register cX1_register 3 (some (.int))) 8 121 [va_rf p0, .int p1] (f_X1_register p0 p1 h) h :=
  CT.of g (by decide) (by simp only [ls_a, ls_i, ls_l, ls_n]; decide) (fun K _ hK hf hlo => by simp only [la_a, la_i, la_l, la_n]; exact sm_X1_register hK hf hlo p0 p1 h)
abbrev FR_X1_coverage : Nat := 8
abbrev LO_X1_coverage : Nat := 121
theorem dyX1_coverage : DY yX1_coverage 0 := ⟨⟨by decide, by decide⟩, by decide +kernel⟩
theorem sm_X1_coverage {G : GC} {K : SC} (hK : SOK G K RX1 cX1_coverage 2 (some (.double)) "coverage" []) (hf : FR_X1_coverage ≤ (kR K).frames) (hlo : LO_X1_coverage ≤ (kR K).locals) (p0 : Option Nat) (h : AH) : Sim G K 2 (f_X1_coverage p0 h) h 0 [(0, va_rf p0)] [] := by
  unfold f_X1_coverage
  refine s_aload_n hK dX1_coverage_0 rfl 0 rfl ?_
  refine s_rc (fun _ _ eo er => ?_)
  refine s_cA hK ho_n (cx_v (As := []) (rest := []) hK dyX1_recovered rfl q1334 fcX1.1 q1336 qs26 q78 q1337 eo er (ct_X1_recovered hK.1 p0 h) (Nat.le_trans (Nat.le_of_ble_eq_true rfl) hf) (Nat.le_trans (Nat.le_of_ble_eq_true rfl) hlo) rk_n (Nat.le_of_ble_eq_true rfl) dX1_coverage_1 rfl) (fun v2 h1 => ?_)
  refine s_astore_n (lv' := [(1, va_rf v2), (0, va_rf p0)]) hK dX1_coverage_4 rfl (Nat.le_of_ble_eq_true rfl) (flA (pre := []) (suf := []) rfl rfl) ?_
  refine s_aload_n hK dX1_coverage_5 rfl 1 rfl ?_
  refine s_gA hK fcX1 0 (Nat.le_of_ble_eq_true rfl) (Or.inl q150) (Or.inl rfl) dX1_coverage_6 (fun v3 => ?_)
  refine s_rc (fun _ _ eo er => ?_)
  refine s_cI hK ho_n (cx_v (As := []) (rest := []) hK dyX2_size rfl q181 fcX2.1 q182 q183 q79 q184 eo er (ct_X2_size hK.1 v3 h1) (Nat.le_trans (Nat.le_of_ble_eq_true rfl) hf) (Nat.le_trans (Nat.le_of_ble_eq_true rfl) hlo) rk_n (Nat.le_of_ble_eq_true rfl) dX1_coverage_9 rfl) (fun v5 h4 => ?_)
  refine s_cV hK ho_n (cx_s (As := [.int v5]) (rest := []) hK dyX1_requireDivisor rfl q1648 q1649 q78 q1650 (ct_X1_requireDivisor hK.1 v5 h4) (Nat.le_trans (Nat.le_of_ble_eq_true rfl) hf) (Nat.le_trans (Nat.le_of_ble_eq_true rfl) hlo) rk_n (Nat.le_of_ble_eq_true rfl) dX1_coverage_12 rfl) (fun h6 => ?_)
  refine s_aload_n hK dX1_coverage_15 rfl 0 rfl ?_
  refine s_rc (fun _ _ eo er => ?_)
  refine s_cI hK ho_n (cx_v (As := []) (rest := []) hK dyX5_countBytes rfl q1656 fcX5.1 q1657 q1658 q103 q1659 eo er (ct_X5_countBytes hK.1 v2 h6) (Nat.le_trans (Nat.le_of_ble_eq_true rfl) hf) (Nat.le_trans (Nat.le_of_ble_eq_true rfl) hlo) rk_n (Nat.le_of_ble_eq_true rfl) dX1_coverage_16 rfl) (fun v8 h7 => ?_)
  refine s_i2d hK dX1_coverage_19 ?_
  refine s_aload_n hK dX1_coverage_20 rfl 1 rfl ?_
  refine s_gA hK fcX1 0 (Nat.le_of_ble_eq_true rfl) (Or.inl q150) (Or.inl rfl) dX1_coverage_21 (fun v9 => ?_)
  refine s_rc (fun _ _ eo er => ?_)
  refine s_cI hK ho_n (cx_v (As := []) (rest := [.double (FP.i2d v8)]) hK dyX2_size rfl q181 fcX2.1 q182 q183 q79 q184 eo er (ct_X2_size hK.1 v9 h7) (Nat.le_trans (Nat.le_of_ble_eq_true rfl) hf) (Nat.le_trans (Nat.le_of_ble_eq_true rfl) hlo) (rk_d rk_n) (Nat.le_of_ble_eq_true rfl) dX1_coverage_24 rfl) (fun v11 h10 => ?_)
  refine s_i2d hK dX1_coverage_27 ?_
  refine s_ddiv hK dX1_coverage_28 (fun v12 => ?_)
  exact s_dret hK dX1_coverage_29
theorem ct_X1_coverage {G : GC} {l : Launch} (g : GOK G l) (p0 : Option Nat) (h : AH) : CT G l yX1_coverage (Cond.code yX1_coverage cX1_coverage 2 (some (.double))) 8 121 [va_rf p0] (f_X1_coverage p0 h) h :=
  CT.of g (by decide) (by simp only [ls_a, ls_i, ls_l, ls_n]; decide) (fun K _ hK hf hlo => by simp only [la_a, la_i, la_l, la_n]; exact sm_X1_coverage hK hf hlo p0 h)
abbrev FR_X1_averageBlock : Nat := 8
abbrev LO_X1_averageBlock : Nat := 121
theorem dyX1_averageBlock : DY yX1_averageBlock 0 := ⟨⟨by decide, by decide⟩, by decide +kernel⟩
theorem sm_X1_averageBlock {G : GC} {K : SC} (hK : SOK G K RX1 cX1_averageBlock 2 (some (.float)) "averageBlock" []) (hf : FR_X1_averageBlock ≤ (kR K).frames) (hlo : LO_X1_averageBlock ≤ (kR K).locals) (p0 : Option Nat) (h : AH) : Sim G K 2 (f_X1_averageBlock p0 h) h 0 [(0, va_rf p0)] [] := by
  unfold f_X1_averageBlock
  refine s_aload_n hK dX1_averageBlock_0 rfl 0 rfl ?_
  refine s_rc (fun _ _ eo er => ?_)
  refine s_cA hK ho_n (cx_v (As := []) (rest := []) hK dyX1_recovered rfl q1334 fcX1.1 q1336 qs26 q78 q1337 eo er (ct_X1_recovered hK.1 p0 h) (Nat.le_trans (Nat.le_of_ble_eq_true rfl) hf) (Nat.le_trans (Nat.le_of_ble_eq_true rfl) hlo) rk_n (Nat.le_of_ble_eq_true rfl) dX1_averageBlock_1 rfl) (fun v2 h1 => ?_)
  refine s_astore_n (lv' := [(1, va_rf v2), (0, va_rf p0)]) hK dX1_averageBlock_4 rfl (Nat.le_of_ble_eq_true rfl) (flA (pre := []) (suf := []) rfl rfl) ?_
  refine s_aload_n hK dX1_averageBlock_5 rfl 0 rfl ?_
  refine s_gA hK fcX5 7 (Nat.le_of_ble_eq_true rfl) (Or.inr ⟨_, q1099⟩) (Or.inl rfl) dX1_averageBlock_6 (fun v3 => ?_)
  refine s_rc (fun _ _ eo er => ?_)
  refine s_cI hK ho_n (cx_v (As := []) (rest := []) hK dyJ7_size rfl q1204 fcJ7.1 q972 q2187 q88 q974 eo er (ct_J7_size hK.1 v3 h1) (Nat.le_trans (Nat.le_of_ble_eq_true rfl) hf) (Nat.le_trans (Nat.le_of_ble_eq_true rfl) hlo) rk_n (Nat.le_of_ble_eq_true rfl) dX1_averageBlock_9 rfl) (fun v5 h4 => ?_)
  refine s_cV hK ho_n (cx_s (As := [.int v5]) (rest := []) hK dyX1_requireDivisor rfl q1648 q1649 q78 q1650 (ct_X1_requireDivisor hK.1 v5 h4) (Nat.le_trans (Nat.le_of_ble_eq_true rfl) hf) (Nat.le_trans (Nat.le_of_ble_eq_true rfl) hlo) rk_n (Nat.le_of_ble_eq_true rfl) dX1_averageBlock_12 rfl) (fun h6 => ?_)
  refine s_aload_n hK dX1_averageBlock_15 rfl 0 rfl ?_
  refine s_rc (fun _ _ eo er => ?_)
  refine s_cI hK ho_n (cx_v (As := []) (rest := []) hK dyX5_countInBlocks rfl q1667 fcX5.1 q1668 q1669 q103 q1670 eo er (ct_X5_countInBlocks hK.1 v2 h6) (Nat.le_trans (Nat.le_of_ble_eq_true rfl) hf) (Nat.le_trans (Nat.le_of_ble_eq_true rfl) hlo) rk_n (Nat.le_of_ble_eq_true rfl) dX1_averageBlock_16 rfl) (fun v8 h7 => ?_)
  refine s_i2f hK dX1_averageBlock_19 ?_
  refine s_aload_n hK dX1_averageBlock_20 rfl 0 rfl ?_
  refine s_gA hK fcX5 7 (Nat.le_of_ble_eq_true rfl) (Or.inr ⟨_, q1099⟩) (Or.inl rfl) dX1_averageBlock_21 (fun v9 => ?_)
  refine s_rc (fun _ _ eo er => ?_)
  refine s_cI hK ho_n (cx_v (As := []) (rest := [.float (FP.i2f v8)]) hK dyJ7_size rfl q1204 fcJ7.1 q972 q2187 q88 q974 eo er (ct_J7_size hK.1 v9 h7) (Nat.le_trans (Nat.le_of_ble_eq_true rfl) hf) (Nat.le_trans (Nat.le_of_ble_eq_true rfl) hlo) (rk_f rk_n) (Nat.le_of_ble_eq_true rfl) dX1_averageBlock_24 rfl) (fun v11 h10 => ?_)
  refine s_i2f hK dX1_averageBlock_27 ?_
  refine s_fdiv hK dX1_averageBlock_28 (fun v12 => ?_)
  exact s_fret hK dX1_averageBlock_29
theorem ct_X1_averageBlock {G : GC} {l : Launch} (g : GOK G l) (p0 : Option Nat) (h : AH) : CT G l yX1_averageBlock (Cond.code yX1_averageBlock cX1_averageBlock 2 (some (.float))) 8 121 [va_rf p0] (f_X1_averageBlock p0 h) h :=
  CT.of g (by decide) (by simp only [ls_a, ls_i, ls_l, ls_n]; decide) (fun K _ hK hf hlo => by simp only [la_a, la_i, la_l, la_n]; exact sm_X1_averageBlock hK hf hlo p0 h)
abbrev FR_X1_restore : Nat := 7
abbrev LO_X1_restore : Nat := 101
theorem dyX1_restore : DY yX1_restore 0 := ⟨⟨by decide, by decide⟩, by decide +kernel⟩
theorem sm_X1_restore_J12 {G : GC} {K : SC} (hK : SOK G K RX1 cX1_restore 1 (none) "restore" []) (hf : FR_X1_restore ≤ (kR K).frames) (hlo : LO_X1_restore ≤ (kR K).locals) (x2 : Option Nat) (y3 : Int32) (h4 : AH) : Sim G K 1 (f_X1_restore_J12 x2 y3 h4) h4 12 [(0, va_rf x2)] [.int y3] := by
  unfold f_X1_restore_J12
  refine s_cV hK ho_n (cx_s (As := [.int y3]) (rest := []) hK dyX1_requireState rfl q1153 q1154 q78 q1155 (ct_X1_requireState hK.1 y3 h4) (Nat.le_trans (Nat.le_of_ble_eq_true rfl) hf) (Nat.le_trans (Nat.le_of_ble_eq_true rfl) hlo) rk_n (Nat.le_of_ble_eq_true rfl) dX1_restore_12 rfl) (fun h5 => ?_)
  refine s_aload_n hK dX1_restore_15 rfl 0 rfl ?_
  refine s_aload_n hK dX1_restore_16 rfl 0 rfl ?_
  refine s_gA hK fcX1 1 (Nat.le_of_ble_eq_true rfl) (Or.inl q151) (Or.inl rfl) dX1_restore_17 (fun v6 => ?_)
  refine s_iconst (v := 1) hK dX1_restore_20 rfl ?_
  refine s_rc (fun _ _ eo er => ?_)
  refine s_cV hK ho_n (cx_v (As := [va_rf v6, .int 1]) (rest := []) hK dyX1_set rfl q185 fcX1.1 q187 qs0 q78 q188 eo er (ct_X1_set hK.1 x2 v6 1 h5) (Nat.le_trans (Nat.le_of_ble_eq_true rfl) hf) (Nat.le_trans (Nat.le_of_ble_eq_true rfl) hlo) rk_n (Nat.le_of_ble_eq_true rfl) dX1_restore_21 rfl) (fun h7 => ?_)
  exact s_vret hK dX1_restore_24
theorem sm_X1_restore {G : GC} {K : SC} (hK : SOK G K RX1 cX1_restore 1 (none) "restore" []) (hf : FR_X1_restore ≤ (kR K).frames) (hlo : LO_X1_restore ≤ (kR K).locals) (p0 : Option Nat) (h : AH) : Sim G K 1 (f_X1_restore p0 h) h 0 [(0, va_rf p0)] [] := by
  unfold f_X1_restore
  refine s_aload_n hK dX1_restore_0 rfl 0 rfl ?_
  refine s_gA hK fcX1 1 (Nat.le_of_ble_eq_true rfl) (Or.inl q151) (Or.inl rfl) dX1_restore_1 (fun v1 => ?_)
  refine s_ifnull (tgt := 11) hK dX1_restore_4 (by decide) (fun c8 => ?_) (fun c8 => ?_)
  · refine s_iconst (v := 0) hK dX1_restore_11 rfl ?_
    exact sm_X1_restore_J12 hK hf hlo p0 0 h
  · refine s_iconst (v := 1) hK dX1_restore_7 rfl ?_
    refine s_goto (tgt := 12) hK dX1_restore_8 (by decide) ?_
    exact sm_X1_restore_J12 hK hf hlo p0 1 h
theorem ct_X1_restore {G : GC} {l : Launch} (g : GOK G l) (p0 : Option Nat) (h : AH) : CT G l yX1_restore (Cond.code yX1_restore cX1_restore 1 (none)) 7 101 [va_rf p0] (f_X1_restore p0 h) h :=
  CT.of g (by decide) (by simp only [ls_a, ls_i, ls_l, ls_n]; decide) (fun K _ hK hf hlo => by simp only [la_a, la_i, la_l, la_n]; exact sm_X1_restore hK hf hlo p0 h)
