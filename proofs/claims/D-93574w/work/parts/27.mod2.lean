/-! printed by mk.py/gen.py -/
set_option maxRecDepth 100000
def f_X3_tested_L2 (k33 : Option Nat → Int32 → Int32 → Int32 → AH → RS) : Nat → Option Nat → Int32 → Int32 → Int32 → AH → RS
  | 0, _, _, _, _, _ => none
  | n + 1, x1, x2, x3, x4, h5 => xrc h5 x1 2 (xcI (f_X3_isInGap x1 x4 x3 h5) (fun v7 h6 => if v7 = 0 then k33 x1 x2 x3 x4 h6 else xrc h6 x1 2 (xcI (f_X3_endsFlow x1 x4 h6) (fun v9 h8 => if ¬ v9 = 0 then k33 x1 x2 x3 x4 h8 else xrc h8 x1 2 (xcI (f_X3_sort x1 x4 h8) (fun v11 h10 => xcI (f_X3_lengthOf v11 h10) (fun v13 h12 => f_X3_tested_L2 k33 n x1 x2 x3 (x4 + v13) h12)))))))
def f_X3_tested_J134 (rc : Option Nat → Int32 → Int32 → Int32 → Int32 → AH → RS) (k155 : Int32 → AH → RS) (x48 : Option Nat) (x49 : Int32) (x50 : Int32) (x51 : Int32) (y52 : Int32) (y53 : Int32) (y54 : Int32) (h55 : AH) : RS := xrc h55 x48 2 (xcI (f_X3_sort x48 x51 h55) (fun v57 h56 => xcI (f_X3_lengthOf v57 h56) (fun v59 h58 => rc x48 x49 x50 (y54 + (y53 + y52)) (x51 + v59) h58)))
def f_X3_tested_J96 (rc : Option Nat → Int32 → Int32 → Int32 → Int32 → AH → RS) (k155 : Int32 → AH → RS) (x36 : Option Nat) (x37 : Int32) (x38 : Int32) (x39 : Int32) (x40 : Int32)  (h41 : AH) : RS := xrc h41 x36 2 (xcI (f_X3_sort x36 x40 h41) (fun v43 h42 => if ¬ v43 = 7 then xrc h42 x36 2 (xcI (f_X3_sort x36 x40 h42) (fun v45 h44 => xcI (f_X3_in v45 4 6 h44) (fun v47 h46 => if v47 = 0 then f_X3_tested_J134 rc k155 x36 x37 x38 x40 0 1 x39 h46 else f_X3_tested_J134 rc k155 x36 x37 x38 x40 2 1 x39 h46))) else f_X3_tested_J134 rc k155 x36 x37 x38 x40 3 1 x39 h42))
def f_X3_tested_L50 (k155 : Int32 → AH → RS) : Nat → Option Nat → Int32 → Int32 → Int32 → Int32 → AH → RS
  | 0, _, _, _, _, _, _ => none
  | n + 1, x28, x29, x30, x31, x32, h33 => if x30 < x32 then k155 x31 h33 else xrc h33 x28 2 (xcI (f_X3_hasGoal x28 x32 h33) (fun v35 h34 => if v35 = 0 then f_X3_tested_J96 (f_X3_tested_L50 k155 n) k155 x28 x29 x30 x31 x32 h34 else xgA h34 x28 2 16 (fun v62 => xrc h34 x28 2 (xcI (f_X3_goal x28 x32 h34) (fun v64 h63 => xlI h63 v62 0 v64 (fun v65 => if ¬ v65 = 0 then f_X3_tested_J96 (f_X3_tested_L50 k155 n) k155 x28 x29 x30 x31 x32 h63 else xrc h63 x28 2 (xcI (f_X3_goal x28 x32 h63) (fun v67 h66 => xrc h66 x28 2 (xcI (f_X3_isTestBegin x28 x29 x30 v67 h66) (fun v69 h68 => if ¬ v69 = 0 then f_X3_tested_J96 (f_X3_tested_L50 k155 n) k155 x28 x29 x30 x31 x32 h68 else rtI 0 h68))))))))))
def f_X3_tested_J33 (x21 : Option Nat) (x22 : Int32) (x23 : Int32) (x24 : Int32)  (h25 : AH) : RS := xrc h25 x21 2 (xcI (f_X3_isInGap x21 x24 x23 h25) (fun v27 h26 => if ¬ v27 = 0 then f_X3_tested_L50 (fun x74 h75 => rtI x74 h75) FUEL x21 x22 x24 0 x22 h26 else rtI 0 h26))
def f_X3_tested (p0 : Option Nat) (p1 : Int32) (p2 : Int32) (h : AH) : RS := f_X3_tested_L2 (fun x16 x17 x18 x19 h20 => f_X3_tested_J33 x16 x17 x18 x19 h20) FUEL p0 p1 p2 p1 h
def f_X3_speculates_L29 (k52 : Option Nat → Int32 → Int32 → AH → RS) : Nat → Option Nat → Int32 → Int32 → Int32 → AH → RS
  | 0, _, _, _, _, _ => none
  | n + 1, x11, x12, x13, x14, h15 => if (x12 + x13) ≤ x14 then k52 x11 x12 x13 h15 else xgA h15 x11 2 19 (fun v16 => xsI h15 v16 0 x14 x12 (fun h17 => f_X3_speculates_L29 k52 n x11 x12 x13 (x14 + 1) h17))
def f_X3_speculates_J75 (rc : Option Nat → Int32 → Int32 → AH → RS) (k84 : AH → RS) (x27 : Option Nat) (x28 : Int32) (x29 : Int32) (y30 : Int32) (h31 : AH) : RS := rc x27 (x28 + x29) y30 h31
def f_X3_speculates_L4 (k84 : AH → RS) : Nat → Option Nat → Int32 → Int32 → AH → RS
  | 0, _, _, _, _ => none
  | n + 1, x1, x2, x3, h4 => if x3 = 0 then k84  h4 else xrc h4 x1 2 (xcI (f_X3_sort x1 x2 h4) (fun v6 h5 => xcI (f_X3_lengthOf v6 h5) (fun v8 h7 => xgA h7 x1 2 18 (fun v9 => xsI h7 v9 0 x2 v8 (fun h10 => f_X3_speculates_L29 (fun x19 x20 x21 h22 => xgI h22 x19 2 29 (fun v23 => xpF h22 x19 2 29 (.int (v23 + 1)) (fun h24 => xrc h24 x19 2 (xcI (f_X3_endsFlow x19 x20 h24) (fun v26 h25 => if ¬ v26 = 0 then f_X3_speculates_J75 (f_X3_speculates_L4 k84 n) k84 x19 x20 x21 0 h25 else f_X3_speculates_J75 (f_X3_speculates_L4 k84 n) k84 x19 x20 x21 1 h25))))) FUEL x1 x2 v8 x2 h10)))))
def f_X3_speculates (p0 : Option Nat) (p1 : Int32) (h : AH) : RS := f_X3_speculates_L4 (fun h34 => rtV h34) FUEL p0 p1 1 h
def f_X3_looksAtGaps_L12 (k34 : Option Nat → Int32 → Int32 → AH → RS) : Nat → Option Nat → Int32 → Int32 → AH → RS
  | 0, _, _, _, _ => none
  | n + 1, x5, x6, x7, h8 => xgI h8 x5 2 5 (fun v9 => if v9 ≤ x7 then k34 x5 x6 x7 h8 else xrc h8 x5 2 (xcI (f_X3_isUsed x5 x7 h8) (fun v11 h10 => if ¬ v11 = 0 then k34 x5 x6 x7 h10 else f_X3_looksAtGaps_L12 k34 n x5 x6 (x7 + 1) h10)))
def f_X3_looksAtGaps_J86 (rc : Option Nat → Int32 → AH → RS) (k93 : Option Nat → AH → RS) (x22 : Option Nat) (x23 : Int32)  (h24 : AH) : RS := rc x22 (x23 + 1) h24
def f_X3_looksAtGaps_J34 (rc : Option Nat → Int32 → AH → RS) (k93 : Option Nat → AH → RS) (x18 : Option Nat) (x19 : Int32) (x20 : Int32)  (h21 : AH) : RS := if x20 ≤ x19 then f_X3_looksAtGaps_J86 rc k93 x18 x20 h21 else xgA h21 x18 2 36 (fun v25 => xgI h21 x18 2 28 (fun v26 => xsI h21 v25 0 v26 x19 (fun h27 => xgA h27 x18 2 37 (fun v28 => xgI h27 x18 2 28 (fun v29 => xsI h27 v28 0 v29 (x20 - x19) (fun h30 => xgA h30 x18 2 38 (fun v31 => xgI h30 x18 2 28 (fun v32 => xrc h30 x18 2 (xcI (f_X3_tested x18 x19 x20 h30) (fun v34 h33 => xsI h33 v31 0 v32 v34 (fun h35 => xgI h35 x18 2 28 (fun v36 => xpF h35 x18 2 28 (.int (v36 + 1)) (fun h37 => f_X3_looksAtGaps_J86 rc k93 x18 x20 h37)))))))))))))
def f_X3_looksAtGaps_L2 (k93 : Option Nat → AH → RS) : Nat → Option Nat → Int32 → AH → RS
  | 0, _, _, _ => none
  | n + 1, x1, x2, h3 => xgI h3 x1 2 5 (fun v4 => if v4 ≤ x2 then k93 x1 h3 else f_X3_looksAtGaps_L12 (fun x14 x15 x16 h17 => f_X3_looksAtGaps_J34 (f_X3_looksAtGaps_L2 k93 n) k93 x14 x15 x16 h17) FUEL x1 x2 x2 h3)
def f_X3_looksAtGaps_J126 (rc : Option Nat → Int32 → AH → RS) (k132 : AH → RS) (x49 : Option Nat) (x50 : Int32)  (h51 : AH) : RS := rc x49 (x50 + 1) h51
def f_X3_looksAtGaps_L95 (k132 : AH → RS) : Nat → Option Nat → Int32 → AH → RS
  | 0, _, _, _ => none
  | n + 1, x42, x43, h44 => xgI h44 x42 2 28 (fun v45 => if v45 ≤ x43 then k132  h44 else xgA h44 x42 2 38 (fun v46 => xlI h44 v46 0 x43 (fun v47 => xgI h44 x42 2 7 (fun v48 => if v47 < v48 then f_X3_looksAtGaps_J126 (f_X3_looksAtGaps_L95 k132 n) k132 x42 x43 h44 else xgA h44 x42 2 36 (fun v52 => xlI h44 v52 0 x43 (fun v53 => xrc h44 x42 2 (xcV (f_X3_speculates x42 v53 h44) (fun h54 => f_X3_looksAtGaps_J126 (f_X3_looksAtGaps_L95 k132 n) k132 x42 x43 h54))))))))
def f_X3_looksAtGaps (p0 : Option Nat) (h : AH) : RS := f_X3_looksAtGaps_L2 (fun x40 h41 => f_X3_looksAtGaps_L95 (fun h57 => rtV h57) FUEL x40 0 h41) FUEL p0 0 h
def f_X3_recover_L7 (k54 : Option Nat → AH → RS) : Nat → Option Nat → Int32 → AH → RS
  | 0, _, _, _ => none
  | n + 1, x2, x3, h4 => if 96 ≤ x3 then k54 x2 h4 else xgA h4 x2 2 16 (fun v5 => xsI h4 v5 0 x3 0 (fun h6 => xgA h6 x2 2 17 (fun v7 => xsI h6 v7 0 x3 (-1) (fun h8 => xgA h8 x2 2 18 (fun v9 => xsI h8 v9 0 x3 0 (fun h10 => xgA h10 x2 2 19 (fun v11 => xsI h10 v11 0 x3 (-1) (fun h12 => xgA h12 x2 2 20 (fun v13 => xsI h12 v13 1 x3 0 (fun h14 => f_X3_recover_L7 k54 n x2 (x3 + 1) h14))))))))))
def f_X3_recover_L56 (k76 : Option Nat → AH → RS) : Nat → Option Nat → Int32 → AH → RS
  | 0, _, _, _ => none
  | n + 1, x18, x19, h20 => if 256 ≤ x19 then k76 x18 h20 else xgA h20 x18 2 21 (fun v21 => xsI h20 v21 1 x19 0 (fun h22 => f_X3_recover_L56 k76 n x18 (x19 + 1) h22))
def f_X3_recover_L113 (k137 : Option Nat → AH → RS) : Nat → Option Nat → Int32 → AH → RS
  | 0, _, _, _ => none
  | n + 1, x33, x34, h35 => xgI h35 x33 2 6 (fun v36 => if v36 ≤ x34 then k137 x33 h35 else xgA h35 x33 2 3 (fun v37 => xlI h35 v37 0 x34 (fun v38 => xrc h35 x33 2 (xcV (f_X3_adds x33 v38 h35) (fun h39 => f_X3_recover_L113 k137 n x33 (x34 + 1) h39)))))
def f_X3_recover_L139 (k163 : Option Nat → AH → RS) : Nat → Option Nat → Int32 → AH → RS
  | 0, _, _, _ => none
  | n + 1, x43, x44, h45 => xgI h45 x43 2 23 (fun v46 => if v46 ≤ x44 then k163 x43 h45 else xgA h45 x43 2 22 (fun v47 => xlI h45 v47 0 x44 (fun v48 => xrc h45 x43 2 (xcV (f_X3_follows x43 v48 h45) (fun h49 => f_X3_recover_L139 k163 n x43 (x44 + 1) h49)))))
def f_X3_recover (p0 : Option Nat) (h : AH) : RS := xpF h p0 2 0 (.int 0) (fun h1 => f_X3_recover_L7 (fun x16 h17 => f_X3_recover_L56 (fun x24 h25 => xpF h25 x24 2 23 (.int 0) (fun h26 => xpF h26 x24 2 24 (.int 0) (fun h27 => xpF h27 x24 2 25 (.int 0) (fun h28 => xpF h28 x24 2 26 (.int 0) (fun h29 => xpF h29 x24 2 27 (.int 0) (fun h30 => xpF h30 x24 2 28 (.int 0) (fun h31 => xpF h31 x24 2 29 (.int 0) (fun h32 => f_X3_recover_L113 (fun x41 h42 => f_X3_recover_L139 (fun x51 h52 => xrc h52 x51 2 (xcV (f_X3_looksAtGaps x51 h52) (fun h53 => xpZ h53 x51 2 15 1 (fun h54 => xgI h54 x51 2 24 (fun v55 => rtI v55 h54))))) FUEL x41 0 h42) FUEL x24 0 h32)))))))) FUEL x16 0 h17) FUEL p0 0 h1)
def f_X3_ofRecovery_J13 (x2 : Option Nat) (x3 : Int32) (y4 : Int32) (y5 : Option Nat) (h6 : AH) : RS := xpF h6 y5 2 0 (.int y4) (fun h7 => xgI h7 x2 2 15 (fun v8 => if v8 = 0 then rtI 0 h7 else rtI x3 h7))
def f_X3_ofRecovery (p0 : Option Nat) (p1 : Int32) (h : AH) : RS := xgI h p0 2 15 (fun v1 => if v1 = 0 then f_X3_ofRecovery_J13 p0 p1 1 p0 h else f_X3_ofRecovery_J13 p0 p1 0 p0 h)
def f_X3_accepted (p0 : Option Nat) (h : AH) : RS := xgI h p0 2 24 (fun v1 => xrc h p0 2 (xcI (f_X3_ofRecovery p0 v1 h) (fun v3 h2 => rtI v3 h2)))
def f_X3_refusal (p0 : Option Nat) (p1 : Int32) (h : AH) : RS := xgI h p0 2 15 (fun v1 => if v1 = 0 then xpF h p0 2 0 (.int 1) (fun h2 => xgI h2 p0 2 0 (fun v3 => rtI v3 h2)) else if p1 = 0 then xpF h p0 2 0 (.int 2) (fun h4 => xgI h4 p0 2 0 (fun v5 => rtI v5 h4)) else xpF h p0 2 0 (.int 0) (fun h6 => xgI h6 p0 2 0 (fun v7 => rtI v7 h6)))
def f_X3_acceptedAt_J52 (rc : Option Nat → Int32 → Int32 → AH → RS) (k60 : Int32 → AH → RS) (x18 : Option Nat) (x19 : Int32) (y20 : Int32) (y21 : Int32) (h22 : AH) : RS := rc x18 (y21 - y20) (x19 + 1) h22
def f_X3_acceptedAt_J37 (rc : Option Nat → Int32 → Int32 → AH → RS) (k60 : Int32 → AH → RS) (x12 : Option Nat) (x13 : Int32) (x14 : Int32)  (h15 : AH) : RS := xgA h15 x12 2 16 (fun v16 => xlI h15 v16 0 x14 (fun v17 => if v17 ≤ 0 then f_X3_acceptedAt_J52 rc k60 x12 x14 0 x13 h15 else f_X3_acceptedAt_J52 rc k60 x12 x14 1 x13 h15))
def f_X3_acceptedAt_L24 (k60 : Int32 → AH → RS) : Nat → Option Nat → Int32 → Int32 → AH → RS
  | 0, _, _, _, _ => none
  | n + 1, x6, x7, x8, h9 => xgA h9 x6 2 16 (fun v10 => xlI h9 v10 0 x8 (fun v11 => if v11 = 0 then f_X3_acceptedAt_J37 (f_X3_acceptedAt_L24 k60 n) k60 x6 x7 x8 h9 else if x7 ≤ 0 then k60 x8 h9 else f_X3_acceptedAt_J37 (f_X3_acceptedAt_L24 k60 n) k60 x6 x7 x8 h9))
def f_X3_acceptedAt (p0 : Option Nat) (p1 : Int32) (h : AH) : RS := xgI h p0 2 24 (fun v1 => xcI (f_X3_in p1 0 (v1 - 1) h) (fun v3 h2 => xrc h2 p0 2 (xcI (f_X3_refusal p0 v3 h2) (fun v5 h4 => if v5 ≤ 0 then f_X3_acceptedAt_L24 (fun x26 h27 => rtI x26 h27) FUEL p0 p1 0 h4 else rtI 0 h4))))
def f_X3_use (p0 : Option Nat) (p1 : Int32) (h : AH) : RS := xrc h p0 2 (xcI (f_X3_isAddress p0 p1 h) (fun v2 h1 => xrc h1 p0 2 (xcI (f_X3_refusal p0 v2 h1) (fun v4 h3 => if v4 ≤ 0 then xgA h3 p0 2 16 (fun v5 => xlI h3 v5 0 p1 (fun v6 => if v6 ≤ 0 then xgA h3 p0 2 17 (fun v7 => xlI h3 v7 0 p1 (fun v8 => if v8 < 0 then xgA h3 p0 2 20 (fun v9 => xlI h3 v9 1 p1 (fun v10 => if v10 = 0 then xgA h3 p0 2 18 (fun v11 => xlI h3 v11 0 p1 (fun v12 => if v12 ≤ 0 then xgA h3 p0 2 19 (fun v13 => xlI h3 v13 0 p1 (fun v14 => if v14 < 0 then rtI 0 h3 else rtI 5 h3)) else rtI 4 h3)) else rtI 3 h3)) else rtI 2 h3)) else rtI 1 h3)) else rtI 0 h3))))
def f_X3_conflictCount (p0 : Option Nat) (h : AH) : RS := xgI h p0 2 25 (fun v1 => xrc h p0 2 (xcI (f_X3_ofRecovery p0 v1 h) (fun v3 h2 => rtI v3 h2)))
def f_X3_conflict (p0 : Option Nat) (p1 : Int32) (h : AH) : RS := xgI h p0 2 25 (fun v1 => xcI (f_X3_in p1 0 (v1 - 1) h) (fun v3 h2 => xrc h2 p0 2 (xcI (f_X3_refusal p0 v3 h2) (fun v5 h4 => if v5 ≤ 0 then xgA h4 p0 2 30 (fun v6 => xlI h4 v6 0 p1 (fun v7 => rtI v7 h4)) else rtI 0 h4))))
def f_X3_badTargets (p0 : Option Nat) (h : AH) : RS := xgI h p0 2 26 (fun v1 => xrc h p0 2 (xcI (f_X3_ofRecovery p0 v1 h) (fun v3 h2 => rtI v3 h2)))
def f_X3_tableCount (p0 : Option Nat) (h : AH) : RS := xgI h p0 2 27 (fun v1 => xrc h p0 2 (xcI (f_X3_ofRecovery p0 v1 h) (fun v3 h2 => rtI v3 h2)))
def f_X3_table (p0 : Option Nat) (p1 : Int32) (p2 : Int32) (h : AH) : RS := xgI h p0 2 27 (fun v1 => xcI (f_X3_in p1 0 (v1 - 1) h) (fun v3 h2 => xrc h2 p0 2 (xcI (f_X3_refusal p0 v3 h2) (fun v5 h4 => if v5 ≤ 0 then if p2 = 0 then xgA h4 p0 2 31 (fun v10 => xlI h4 v10 0 p1 (fun v11 => rtI v11 h4)) else if p2 = 1 then xgA h4 p0 2 32 (fun v12 => xlI h4 v12 0 p1 (fun v13 => rtI v13 h4)) else if p2 = 2 then xgA h4 p0 2 33 (fun v14 => xlI h4 v14 0 p1 (fun v15 => rtI v15 h4)) else if p2 = 3 then xgA h4 p0 2 34 (fun v16 => xlI h4 v16 0 p1 (fun v17 => rtI v17 h4)) else xrc h4 p0 2 (xcI (f_X3_fails p0 3 h4) (fun v19 h18 => rtI v19 h18)) else rtI 0 h4))))
def f_X3_tableEntry_J35 (x8 : Option Nat) (x9 : Int32) (x10 : Int32) (y11 : Int32) (h12 : AH) : RS := xrc h12 x8 2 (xcI (f_X3_refusal x8 y11 h12) (fun v14 h13 => if v14 ≤ 0 then xgA h13 x8 2 1 (fun v15 => xgA h13 x8 2 35 (fun v16 => xlI h13 v16 0 ((16 * x9) + x10) (fun v17 => xlI h13 v15 0 v17 (fun v18 => rtI v18 h13)))) else rtI 0 h13))
def f_X3_tableEntry_J34 (x4 : Option Nat) (x5 : Int32) (x6 : Int32)  (h7 : AH) : RS := f_X3_tableEntry_J35 x4 x5 x6 0 h7
def f_X3_tableEntry (p0 : Option Nat) (p1 : Int32) (p2 : Int32) (h : AH) : RS := xgI h p0 2 27 (fun v1 => xcI (f_X3_in p1 0 (v1 - 1) h) (fun v3 h2 => if v3 = 0 then f_X3_tableEntry_J34 p0 p1 p2 h2 else xgA h2 p0 2 34 (fun v20 => xlI h2 v20 0 p1 (fun v21 => xcI (f_X3_in p2 0 (v21 - 1) h2) (fun v23 h22 => if v23 = 0 then f_X3_tableEntry_J34 p0 p1 p2 h22 else f_X3_tableEntry_J35 p0 p1 p2 1 h22)))))
def f_X3_isBegin (p0 : Option Nat) (p1 : Int32) (h : AH) : RS := xrc h p0 2 (xcI (f_X3_isAddress p0 p1 h) (fun v2 h1 => if v2 = 0 then rtZ 0 h1 else xgA h1 p0 2 16 (fun v3 => xlI h1 v3 0 p1 (fun v4 => if v4 ≤ 0 then rtZ 0 h1 else rtZ 1 h1))))
def f_X3_isComplete_J66 (rc : Option Nat → Int32 → Int32 → Int32 → AH → RS) (k73 : Int32 → AH → RS) (x17 : Option Nat) (x18 : Int32) (x19 : Int32) (y20 : Int32) (h21 : AH) : RS := rc x17 x18 y20 (x19 + 1) h21
def f_X3_isComplete_J65 (rc : Option Nat → Int32 → Int32 → Int32 → AH → RS) (k73 : Int32 → AH → RS) (x13 : Option Nat) (x14 : Int32) (x15 : Int32)  (h16 : AH) : RS := f_X3_isComplete_J66 rc k73 x13 x14 x15 0 h16
def f_X3_isComplete_L24 (k73 : Int32 → AH → RS) : Nat → Option Nat → Int32 → Int32 → Int32 → AH → RS
  | 0, _, _, _, _, _ => none
  | n + 1, x6, x7, x8, x9, h10 => xgA h10 x6 2 34 (fun v11 => xlI h10 v11 0 x7 (fun v12 => if v12 ≤ x9 then k73 x8 h10 else if x8 = 0 then f_X3_isComplete_J65 (f_X3_isComplete_L24 k73 n) k73 x6 x7 x9 h10 else xgA h10 x6 2 1 (fun v22 => xgA h10 x6 2 35 (fun v23 => xlI h10 v23 0 ((16 * x7) + x9) (fun v24 => xlI h10 v22 0 v24 (fun v25 => xrc h10 x6 2 (xcI (f_X3_isBegin x6 v25 h10) (fun v27 h26 => if v27 = 0 then f_X3_isComplete_J65 (f_X3_isComplete_L24 k73 n) k73 x6 x7 x9 h26 else f_X3_isComplete_J66 (f_X3_isComplete_L24 k73 n) k73 x6 x7 x9 1 h26))))))))
def f_X3_isComplete (p0 : Option Nat) (p1 : Int32) (h : AH) : RS := xgI h p0 2 27 (fun v1 => xcI (f_X3_in p1 0 (v1 - 1) h) (fun v3 h2 => xrc h2 p0 2 (xcI (f_X3_refusal p0 v3 h2) (fun v5 h4 => if v5 ≤ 0 then f_X3_isComplete_L24 (fun x31 h32 => rtZ x31 h32) FUEL p0 p1 1 0 h4 else rtZ 0 h4))))
def f_X3_gapCount (p0 : Option Nat) (h : AH) : RS := xgI h p0 2 28 (fun v1 => xrc h p0 2 (xcI (f_X3_ofRecovery p0 v1 h) (fun v3 h2 => rtI v3 h2)))
def f_X3_gap (p0 : Option Nat) (p1 : Int32) (p2 : Int32) (h : AH) : RS := xgI h p0 2 28 (fun v1 => xcI (f_X3_in p1 0 (v1 - 1) h) (fun v3 h2 => xrc h2 p0 2 (xcI (f_X3_refusal p0 v3 h2) (fun v5 h4 => if v5 ≤ 0 then if ¬ p2 = 0 then if ¬ p2 = 1 then if ¬ p2 = 2 then xrc h4 p0 2 (xcI (f_X3_fails p0 3 h4) (fun v7 h6 => rtI v7 h6)) else xgA h4 p0 2 38 (fun v8 => xlI h4 v8 0 p1 (fun v9 => rtI v9 h4)) else xgA h4 p0 2 37 (fun v11 => xlI h4 v11 0 p1 (fun v12 => rtI v12 h4)) else xgA h4 p0 2 36 (fun v14 => xlI h4 v14 0 p1 (fun v15 => rtI v15 h4)) else rtI 0 h4))))
def f_X3_speculative (p0 : Option Nat) (h : AH) : RS := xgI h p0 2 29 (fun v1 => xrc h p0 2 (xcI (f_X3_ofRecovery p0 v1 h) (fun v3 h2 => rtI v3 h2)))
def f_X3_isGoal_J70 (rc : Option Nat → Int32 → Int32 → Int32 → Int32 → AH → RS) (k77 : Int32 → AH → RS) (x13 : Option Nat) (x14 : Int32) (x15 : Int32) (x16 : Int32) (y17 : Int32) (h18 : AH) : RS := rc x13 x14 x15 y17 (x16 + 1) h18
def f_X3_isGoal_J65 (rc : Option Nat → Int32 → Int32 → Int32 → Int32 → AH → RS) (k77 : Int32 → AH → RS) (x8 : Option Nat) (x9 : Int32) (x10 : Int32) (x11 : Int32)  (h12 : AH) : RS := f_X3_isGoal_J70 rc k77 x8 x9 x10 x11 1 h12
def f_X3_isGoal_J69 (rc : Option Nat → Int32 → Int32 → Int32 → Int32 → AH → RS) (k77 : Int32 → AH → RS) (x21 : Option Nat) (x22 : Int32) (x23 : Int32) (x24 : Int32)  (h25 : AH) : RS := f_X3_isGoal_J70 rc k77 x21 x22 x23 x24 0 h25
def f_X3_isGoal_J55 (rc : Option Nat → Int32 → Int32 → Int32 → Int32 → AH → RS) (k77 : Int32 → AH → RS) (x28 : Option Nat) (x29 : Int32) (x30 : Int32) (x31 : Int32)  (h32 : AH) : RS := xrc h32 x28 2 (xcI (f_X3_goal x28 x31 h32) (fun v34 h33 => if ¬ v34 = x29 then f_X3_isGoal_J69 rc k77 x28 x29 x30 x31 h33 else f_X3_isGoal_J65 rc k77 x28 x29 x30 x31 h33))
def f_X3_isGoal_L5 (k77 : Int32 → AH → RS) : Nat → Option Nat → Int32 → Int32 → Int32 → Int32 → AH → RS
  | 0, _, _, _, _, _, _ => none
  | n + 1, x1, x2, x3, x4, x5, h6 => xgI h6 x1 2 5 (fun v7 => if v7 ≤ x5 then k77 x4 h6 else if ¬ x4 = 0 then f_X3_isGoal_J65 (f_X3_isGoal_L5 k77 n) k77 x1 x2 x3 x5 h6 else xgA h6 x1 2 16 (fun v19 => xlI h6 v19 0 x5 (fun v20 => if v20 ≤ 0 then f_X3_isGoal_J69 (f_X3_isGoal_L5 k77 n) k77 x1 x2 x3 x5 h6 else if x3 = 0 then xrc h6 x1 2 (xcI (f_X3_hasGoal x1 x5 h6) (fun v27 h26 => if v27 = 0 then f_X3_isGoal_J69 (f_X3_isGoal_L5 k77 n) k77 x1 x2 x3 x5 h26 else f_X3_isGoal_J55 (f_X3_isGoal_L5 k77 n) k77 x1 x2 x3 x5 h26)) else xrc h6 x1 2 (xcI (f_X3_sort x1 x5 h6) (fun v38 h37 => if ¬ v38 = 7 then f_X3_isGoal_J69 (f_X3_isGoal_L5 k77 n) k77 x1 x2 x3 x5 h37 else f_X3_isGoal_J55 (f_X3_isGoal_L5 k77 n) k77 x1 x2 x3 x5 h37)))))
def f_X3_isGoal (p0 : Option Nat) (p1 : Int32) (p2 : Int32) (h : AH) : RS := f_X3_isGoal_L5 (fun x44 h45 => rtZ x44 h45) FUEL p0 p1 p2 0 0 h
def f_X3_isTableGoal_J56 (rc : Option Nat → Int32 → Int32 → Int32 → Int32 → AH → RS) (k63 : Option Nat → Int32 → Int32 → Int32 → AH → RS) (x20 : Option Nat) (x21 : Int32) (x22 : Int32) (x23 : Int32) (y24 : Int32) (h25 : AH) : RS := rc x20 x21 y24 x22 (x23 + 1) h25
def f_X3_isTableGoal_J51 (rc : Option Nat → Int32 → Int32 → Int32 → Int32 → AH → RS) (k63 : Option Nat → Int32 → Int32 → Int32 → AH → RS) (x15 : Option Nat) (x16 : Int32) (x17 : Int32) (x18 : Int32)  (h19 : AH) : RS := f_X3_isTableGoal_J56 rc k63 x15 x16 x17 x18 1 h19
def f_X3_isTableGoal_L15 (k63 : Option Nat → Int32 → Int32 → Int32 → AH → RS) : Nat → Option Nat → Int32 → Int32 → Int32 → Int32 → AH → RS
  | 0, _, _, _, _, _, _ => none
  | n + 1, x7, x8, x9, x10, x11, h12 => xgA h12 x7 2 34 (fun v13 => xlI h12 v13 0 x10 (fun v14 => if v14 ≤ x11 then k63 x7 x8 x9 x10 h12 else if ¬ x9 = 0 then f_X3_isTableGoal_J51 (f_X3_isTableGoal_L15 k63 n) k63 x7 x8 x10 x11 h12 else xgA h12 x7 2 1 (fun v26 => xgA h12 x7 2 35 (fun v27 => xlI h12 v27 0 ((16 * x10) + x11) (fun v28 => xlI h12 v26 0 v28 (fun v29 => if ¬ v29 = x8 then f_X3_isTableGoal_J56 (f_X3_isTableGoal_L15 k63 n) k63 x7 x8 x10 x11 0 h12 else f_X3_isTableGoal_J51 (f_X3_isTableGoal_L15 k63 n) k63 x7 x8 x10 x11 h12))))))
def f_X3_isTableGoal_L4 (k69 : Int32 → AH → RS) : Nat → Option Nat → Int32 → Int32 → Int32 → AH → RS
  | 0, _, _, _, _, _ => none
  | n + 1, x1, x2, x3, x4, h5 => xgI h5 x1 2 27 (fun v6 => if v6 ≤ x4 then k69 x3 h5 else f_X3_isTableGoal_L15 (fun x33 x34 x35 x36 h37 => f_X3_isTableGoal_L4 k69 n x33 x34 x35 (x36 + 1) h37) FUEL x1 x2 x3 x4 0 h5)
def f_X3_isTableGoal (p0 : Option Nat) (p1 : Int32) (h : AH) : RS := f_X3_isTableGoal_L4 (fun x39 h40 => rtZ x39 h40) FUEL p0 p1 0 0 h
def f_X3_endsBlock (p0 : Option Nat) (p1 : Int32) (h : AH) : RS := xrc h p0 2 (xcI (f_X3_endsFlow p0 p1 h) (fun v2 h1 => if ¬ v2 = 0 then rtZ 1 h1 else xrc h1 p0 2 (xcI (f_X3_sort p0 p1 h1) (fun v4 h3 => if v4 = 5 then rtZ 1 h3 else xrc h3 p0 2 (xcI (f_X3_sort p0 p1 h3) (fun v6 h5 => if ¬ v6 = 6 then rtZ 0 h5 else rtZ 1 h5))))))
def f_X3_isLeader_J27 (x3 : Option Nat) (x4 : Int32) (y5 : Int32) (h6 : AH) : RS := xrc h6 x3 2 (xcI (f_X3_isEntry x3 x4 h6) (fun v8 h7 => if ¬ v8 = 0 then rtZ 1 h7 else xrc h7 x3 2 (xcI (f_X3_isGoal x3 x4 0 h7) (fun v10 h9 => if ¬ v10 = 0 then rtZ 1 h9 else xrc h9 x3 2 (xcI (f_X3_isTableGoal x3 x4 h9) (fun v12 h11 => if ¬ v12 = 0 then rtZ 1 h11 else if y5 < 0 then rtZ 0 h11 else xgA h11 x3 2 16 (fun v13 => xlI h11 v13 0 y5 (fun v14 => if ¬ (y5 + v14) = x4 then rtZ 0 h11 else xrc h11 x3 2 (xcI (f_X3_endsBlock x3 y5 h11) (fun v16 h15 => if v16 = 0 then rtZ 0 h15 else rtZ 1 h15))))))))))
def f_X3_isLeader (p0 : Option Nat) (p1 : Int32) (h : AH) : RS := xgA h p0 2 16 (fun v1 => xlI h v1 0 p1 (fun v2 => if ¬ v2 = 0 then if p1 ≤ 0 then f_X3_isLeader_J27 p0 p1 (-1) h else xgA h p0 2 17 (fun v23 => xlI h v23 0 (p1 - 1) (fun v24 => f_X3_isLeader_J27 p0 p1 v24 h)) else rtZ 0 h))
def f_X3_blocks_J26 (rc : Option Nat → Int32 → Int32 → AH → RS) (k34 : Int32 → AH → RS) (x8 : Option Nat) (x9 : Int32) (y10 : Int32) (y11 : Int32) (h12 : AH) : RS := rc x8 (y11 + y10) (x9 + 1) h12
def f_X3_blocks_L4 (k34 : Int32 → AH → RS) : Nat → Option Nat → Int32 → Int32 → AH → RS
  | 0, _, _, _, _ => none
  | n + 1, x1, x2, x3, h4 => xgI h4 x1 2 5 (fun v5 => if v5 ≤ x3 then k34 x2 h4 else xrc h4 x1 2 (xcI (f_X3_isLeader x1 x3 h4) (fun v7 h6 => if v7 = 0 then f_X3_blocks_J26 (f_X3_blocks_L4 k34 n) k34 x1 x3 0 x2 h6 else f_X3_blocks_J26 (f_X3_blocks_L4 k34 n) k34 x1 x3 1 x2 h6)))
def f_X3_blocks (p0 : Option Nat) (h : AH) : RS := f_X3_blocks_L4 (fun x15 h16 => rtI x15 h16) FUEL p0 0 0 h
def f_X3_blockCount (p0 : Option Nat) (h : AH) : RS := xgI h p0 2 15 (fun v1 => if v1 = 0 then xrc h p0 2 (xcI (f_X3_ofRecovery p0 0 h) (fun v3 h2 => rtI v3 h2)) else xrc h p0 2 (xcI (f_X3_blocks p0 h) (fun v5 h4 => xrc h4 p0 2 (xcI (f_X3_ofRecovery p0 v5 h4) (fun v7 h6 => rtI v7 h6)))))
def f_X3_blockSize_L4 (k57 : Option Nat → Int32 → Int32 → AH → RS) : Nat → Option Nat → Int32 → Int32 → AH → RS
  | 0, _, _, _, _ => none
  | n + 1, x1, x2, x3, h4 => xrc h4 x1 2 (xcI (f_X3_endsBlock x1 x3 h4) (fun v6 h5 => if ¬ v6 = 0 then k57 x1 x2 x3 h5 else xgA h5 x1 2 16 (fun v7 => xlI h5 v7 0 x3 (fun v8 => xrc h5 x1 2 (xcI (f_X3_isBegin x1 (x3 + v8) h5) (fun v10 h9 => if v10 = 0 then k57 x1 x2 x3 h9 else xgA h9 x1 2 16 (fun v11 => xlI h9 v11 0 x3 (fun v12 => xrc h9 x1 2 (xcI (f_X3_isLeader x1 (x3 + v12) h9) (fun v14 h13 => if ¬ v14 = 0 then k57 x1 x2 x3 h13 else xgA h13 x1 2 16 (fun v15 => xlI h13 v15 0 x3 (fun v16 => f_X3_blockSize_L4 k57 n x1 (x2 + 1) (x3 + v16) h13))))))))))))
def f_X3_blockSize (p0 : Option Nat) (p1 : Int32) (h : AH) : RS := f_X3_blockSize_L4 (fun x20 x21 x22 h23 => xpF h23 x20 2 44 (.int x22) (fun h24 => rtI x21 h24)) FUEL p0 1 p1 h
def f_X3_block_J83 (rc : Option Nat → Int32 → Int32 → Int32 → AH → RS) (k91 : Option Nat → Int32 → Int32 → AH → RS) (x31 : Option Nat) (x32 : Int32) (x33 : Int32) (y34 : Int32) (y35 : Int32) (h36 : AH) : RS := rc x31 x32 (y35 - y34) (x33 + 1) h36
def f_X3_block_J68 (rc : Option Nat → Int32 → Int32 → Int32 → AH → RS) (k91 : Option Nat → Int32 → Int32 → AH → RS) (x24 : Option Nat) (x25 : Int32) (x26 : Int32) (x27 : Int32)  (h28 : AH) : RS := xrc h28 x24 2 (xcI (f_X3_isLeader x24 x27 h28) (fun v30 h29 => if v30 = 0 then f_X3_block_J83 rc k91 x24 x25 x27 0 x26 h29 else f_X3_block_J83 rc k91 x24 x25 x27 1 x26 h29))
def f_X3_block_L55 (k91 : Option Nat → Int32 → Int32 → AH → RS) : Nat → Option Nat → Int32 → Int32 → Int32 → AH → RS
  | 0, _, _, _, _, _ => none
  | n + 1, x17, x18, x19, x20, h21 => xrc h21 x17 2 (xcI (f_X3_isLeader x17 x20 h21) (fun v23 h22 => if v23 = 0 then f_X3_block_J68 (f_X3_block_L55 k91 n) k91 x17 x18 x19 x20 h22 else if x19 ≤ 0 then k91 x17 x18 x20 h22 else f_X3_block_J68 (f_X3_block_L55 k91 n) k91 x17 x18 x19 x20 h22))
def f_X3_block_J27 (x7 : Option Nat) (x8 : Int32) (x9 : Int32) (y10 : Int32) (y11 : Option Nat) (h12 : AH) : RS := xrc h12 y11 2 (xcI (f_X3_refusal y11 y10 h12) (fun v14 h13 => if v14 ≤ 0 then xcI (f_X3_in x9 0 2 h13) (fun v16 h15 => if ¬ v16 = 0 then f_X3_block_L55 (fun x40 x41 x42 h43 => xrc h43 x40 2 (xcI (f_X3_blockSize x40 x42 h43) (fun v45 h44 => if ¬ x41 = 0 then if ¬ x41 = 1 then xgI h44 x40 2 44 (fun v46 => rtI v46 h44) else rtI v45 h44 else rtI x42 h44))) FUEL x7 x9 x8 0 h15 else xrc h15 x7 2 (xcI (f_X3_fails x7 3 h15) (fun v50 h49 => rtI v50 h49))) else rtI 0 h13))
def f_X3_block_J26 (x2 : Option Nat) (x3 : Int32) (x4 : Int32) (y5 : Option Nat) (h6 : AH) : RS := f_X3_block_J27 x2 x3 x4 0 y5 h6
def f_X3_block (p0 : Option Nat) (p1 : Int32) (p2 : Int32) (h : AH) : RS := xgI h p0 2 15 (fun v1 => if v1 = 0 then f_X3_block_J26 p0 p1 p2 p0 h else xrc h p0 2 (xcI (f_X3_blocks p0 h) (fun v54 h53 => xcI (f_X3_in p1 0 (v54 - 1) h53) (fun v56 h55 => if v56 = 0 then f_X3_block_J26 p0 p1 p2 p0 h55 else f_X3_block_J27 p0 p1 p2 1 p0 h55))))
def f_X3_isHead (p0 : Option Nat) (p1 : Int32) (h : AH) : RS := xgA h p0 2 16 (fun v1 => xlI h v1 0 p1 (fun v2 => if v2 ≤ 0 then rtZ 0 h else xrc h p0 2 (xcI (f_X3_isEntry p0 p1 h) (fun v4 h3 => if ¬ v4 = 0 then rtZ 1 h3 else xrc h3 p0 2 (xcI (f_X3_isGoal p0 p1 1 h3) (fun v6 h5 => if v6 = 0 then rtZ 0 h5 else rtZ 1 h5))))))
def f_X3_functionCount_J33 (rc : Option Nat → Int32 → Int32 → AH → RS) (k41 : Option Nat → Int32 → AH → RS) (x9 : Option Nat) (x10 : Int32) (y11 : Int32) (y12 : Int32) (h13 : AH) : RS := rc x9 (y12 + y11) (x10 + 1) h13
def f_X3_functionCount_L4 (k41 : Option Nat → Int32 → AH → RS) : Nat → Option Nat → Int32 → Int32 → AH → RS
  | 0, _, _, _, _ => none
  | n + 1, x1, x2, x3, h4 => xgI h4 x1 2 5 (fun v5 => if v5 ≤ x3 then k41 x1 x2 h4 else xgI h4 x1 2 15 (fun v6 => if v6 = 0 then k41 x1 x2 h4 else xrc h4 x1 2 (xcI (f_X3_isHead x1 x3 h4) (fun v8 h7 => if v8 = 0 then f_X3_functionCount_J33 (f_X3_functionCount_L4 k41 n) k41 x1 x3 0 x2 h7 else f_X3_functionCount_J33 (f_X3_functionCount_L4 k41 n) k41 x1 x3 1 x2 h7))))
def f_X3_functionCount_J41 (x20 : Option Nat) (x21 : Int32)  (h22 : AH) : RS := xrc h22 x20 2 (xcI (f_X3_ofRecovery x20 x21 h22) (fun v24 h23 => rtI v24 h23))
def f_X3_functionCount (p0 : Option Nat) (h : AH) : RS := f_X3_functionCount_L4 (fun x17 x18 h19 => f_X3_functionCount_J41 x17 x18 h19) FUEL p0 0 0 h
def f_X3_reaches (p0 : Option Nat) (p1 : Int32) (h : AH) : RS := xrc h p0 2 (xcI (f_X3_isBegin p0 p1 h) (fun v2 h1 => if v2 = 0 then rtV h1 else xgA h1 p0 2 45 (fun v3 => xlI h1 v3 1 p1 (fun v4 => if v4 = 0 then xgA h1 p0 2 45 (fun v5 => xsI h1 v5 1 p1 1 (fun h6 => xgA h6 p0 2 46 (fun v7 => xgI h6 p0 2 47 (fun v8 => xsI h6 v7 0 v8 p1 (fun h9 => xgI h9 p0 2 47 (fun v10 => xpF h9 p0 2 47 (.int (v10 + 1)) (fun h11 => rtV h11))))))) else rtV h1))))
def f_X3_functionSize_L30 (k49 : Option Nat → Int32 → AH → RS) : Nat → Option Nat → Int32 → Int32 → AH → RS
  | 0, _, _, _, _ => none
  | n + 1, x7, x8, x9, h10 => if 96 ≤ x9 then k49 x7 x8 h10 else xgA h10 x7 2 45 (fun v11 => xsI h10 v11 1 x9 0 (fun h12 => f_X3_functionSize_L30 k49 n x7 x8 (x9 + 1) h12))
def f_X3_functionSize_L134 (k185 : Option Nat → Int32 → Int32 → Int32 → AH → RS) : Nat → Option Nat → Int32 → Int32 → Int32 → Int32 → AH → RS
  | 0, _, _, _, _, _, _ => none
  | n + 1, x45, x46, x47, x48, x49, h50 => xgA h50 x45 2 34 (fun v51 => xlI h50 v51 0 x48 (fun v52 => if v52 ≤ x49 then k185 x45 x46 x47 x48 h50 else xgA h50 x45 2 31 (fun v53 => xlI h50 v53 0 x48 (fun v54 => if ¬ v54 = x47 then k185 x45 x46 x47 x48 h50 else xgA h50 x45 2 1 (fun v55 => xgA h50 x45 2 35 (fun v56 => xlI h50 v56 0 ((16 * x48) + x49) (fun v57 => xlI h50 v55 0 v57 (fun v58 => xrc h50 x45 2 (xcV (f_X3_reaches x45 v58 h50) (fun h59 => f_X3_functionSize_L134 k185 n x45 x46 x47 x48 (x49 + 1) h59))))))))))
def f_X3_functionSize_J185 (rc : Option Nat → Int32 → Int32 → Int32 → AH → RS) (k191 : Option Nat → Int32 → AH → RS) (x67 : Option Nat) (x68 : Int32) (x69 : Int32) (x70 : Int32)  (h71 : AH) : RS := rc x67 x68 x69 (x70 + 1) h71
def f_X3_functionSize_L122 (k191 : Option Nat → Int32 → AH → RS) : Nat → Option Nat → Int32 → Int32 → Int32 → AH → RS
  | 0, _, _, _, _, _ => none
  | n + 1, x39, x40, x41, x42, h43 => xgI h43 x39 2 27 (fun v44 => if v44 ≤ x42 then k191 x39 x40 h43 else f_X3_functionSize_L134 (fun x62 x63 x64 x65 h66 => f_X3_functionSize_J185 (f_X3_functionSize_L122 k191 n) k191 x62 x63 x64 x65 h66) FUEL x39 x40 x41 x42 0 h43)
def f_X3_functionSize_J119 (rc : Option Nat → Int32 → AH → RS) (k197 : Option Nat → AH → RS) (x35 : Option Nat) (x36 : Int32) (x37 : Int32)  (h38 : AH) : RS := f_X3_functionSize_L122 (fun x73 x74 h75 => rc x73 (x74 + 1) h75) FUEL x35 x36 x37 0 h38
def f_X3_functionSize_J96 (rc : Option Nat → Int32 → AH → RS) (k197 : Option Nat → AH → RS) (x27 : Option Nat) (x28 : Int32) (x29 : Int32)  (h30 : AH) : RS := xrc h30 x27 2 (xcI (f_X3_sort x27 x29 h30) (fun v32 h31 => xcI (f_X3_in v32 4 6 h31) (fun v34 h33 => if v34 = 0 then f_X3_functionSize_J119 rc k197 x27 x28 x29 h33 else xrc h33 x27 2 (xcI (f_X3_goal x27 x29 h33) (fun v77 h76 => xrc h76 x27 2 (xcV (f_X3_reaches x27 v77 h76) (fun h78 => f_X3_functionSize_J119 rc k197 x27 x28 x29 h78)))))))
def f_X3_functionSize_L61 (k197 : Option Nat → AH → RS) : Nat → Option Nat → Int32 → AH → RS
  | 0, _, _, _ => none
  | n + 1, x19, x20, h21 => xgI h21 x19 2 47 (fun v22 => if v22 ≤ x20 then k197 x19 h21 else xgA h21 x19 2 46 (fun v23 => xlI h21 v23 0 x20 (fun v24 => xrc h21 x19 2 (xcI (f_X3_endsFlow x19 v24 h21) (fun v26 h25 => if ¬ v26 = 0 then f_X3_functionSize_J96 (f_X3_functionSize_L61 k197 n) k197 x19 x20 v24 h25 else xgA h25 x19 2 16 (fun v80 => xlI h25 v80 0 v24 (fun v81 => xrc h25 x19 2 (xcV (f_X3_reaches x19 (v24 + v81) h25) (fun h82 => f_X3_functionSize_J96 (f_X3_functionSize_L61 k197 n) k197 x19 x20 v24 h82)))))))))
def f_X3_functionSize (p0 : Option Nat) (p1 : Int32) (h : AH) : RS := xrc h p0 2 (xcI (f_X3_isAddress p0 p1 h) (fun v2 h1 => xrc h1 p0 2 (xcI (f_X3_refusal p0 v2 h1) (fun v4 h3 => if v4 ≤ 0 then xrc h3 p0 2 (xcI (f_X3_isHead p0 p1 h3) (fun v6 h5 => if ¬ v6 = 0 then f_X3_functionSize_L30 (fun x14 x15 h16 => xpF h16 x14 2 47 (.int 0) (fun h17 => xrc h17 x14 2 (xcV (f_X3_reaches x14 x15 h17) (fun h18 => f_X3_functionSize_L61 (fun x85 h86 => xgI h86 x85 2 47 (fun v87 => rtI v87 h86)) FUEL x14 0 h18)))) FUEL p0 p1 0 h5 else xrc h5 p0 2 (xcI (f_X3_fails p0 3 h5) (fun v89 h88 => rtI v89 h88)))) else rtI 0 h3))))
def f_X3_calls (p0 : Option Nat) (p1 : Int32) (p2 : Int32) (h : AH) : RS := xgI h p0 2 48 (fun v1 => if ¬ v1 = 8 then xgA h p0 2 42 (fun v2 => xgI h p0 2 48 (fun v3 => xsI h v2 0 v3 p2 (fun h4 => xgI h4 p0 2 48 (fun v5 => xpF h4 p0 2 48 (.int (v5 + 1)) (fun h6 => xrc h6 p0 2 (xcI (f_X3_goal p0 p1 h6) (fun v8 h7 => rtI v8 h7))))))) else rtI (-1) h)
def f_X3_returns (p0 : Option Nat) (h : AH) : RS := xgI h p0 2 48 (fun v1 => if ¬ v1 = 0 then xgI h p0 2 48 (fun v2 => xpF h p0 2 48 (.int (v2 - 1)) (fun h3 => xgA h3 p0 2 42 (fun v4 => xgI h3 p0 2 48 (fun v5 => xlI h3 v4 0 v5 (fun v6 => rtI v6 h3))))) else rtI (-1) h)
def f_X3_loads (p0 : Option Nat) (p1 : Int32) (p2 : Int32) (p3 : Int32) (h : AH) : RS := xrc h p0 2 (xcI (f_X3_isAddress p0 p2 h) (fun v2 h1 => if ¬ v2 = 0 then xgA h1 p0 2 41 (fun v3 => xgA h1 p0 2 1 (fun v4 => xlI h1 v4 0 p2 (fun v5 => xsI h1 v3 0 p1 v5 (fun h6 => rtI p3 h6)))) else rtI (-1) h1))
def f_X3_executes_J38 (x11 : Option Nat) (x12 : Int32) (x13 : Int32) (x14 : Int32) (y15 : Int32) (h16 : AH) : RS := xgA h16 x11 2 1 (fun v17 => xlI h16 v17 0 x12 (fun v18 => xrc h16 x11 2 (xcI (f_X3_sort x11 x12 h16) (fun v20 h19 => if v20 = 1 then xgA h19 x11 2 41 (fun v34 => xsI h19 v34 0 x13 y15 (fun h35 => rtI x14 h35)) else if v20 = 2 then xgA h19 x11 2 41 (fun v36 => xgA h19 x11 2 41 (fun v37 => xlI h19 v37 0 x13 (fun v38 => xgA h19 x11 2 41 (fun v39 => xlI h19 v39 0 (v18 &&& 3) (fun v40 => xsI h19 v36 0 x13 ((v38 + v40) - (v38 + v40) / 256 * 256) (fun h41 => rtI x14 h41)))))) else if v20 = 3 then xgA h19 x11 2 41 (fun v42 => xlI h19 v42 0 x13 (fun v43 => if y15 ≤ v43 then xpZ h19 x11 2 49 0 (fun h44 => rtI x14 h44) else xpZ h19 x11 2 49 1 (fun h45 => rtI x14 h45))) else if v20 = 4 then xrc h19 x11 2 (xcI (f_X3_goal x11 x12 h19) (fun v48 h47 => rtI v48 h47)) else if v20 = 5 then xgI h19 x11 2 49 (fun v49 => if v49 = 0 then rtI x14 h19 else xrc h19 x11 2 (xcI (f_X3_goal x11 x12 h19) (fun v51 h50 => rtI v51 h50))) else if v20 = 6 then xgI h19 x11 2 49 (fun v53 => if v53 = 0 then xrc h19 x11 2 (xcI (f_X3_goal x11 x12 h19) (fun v55 h54 => rtI v55 h54)) else rtI x14 h19) else if v20 = 7 then xrc h19 x11 2 (xcI (f_X3_calls x11 x12 x14 h19) (fun v58 h57 => rtI v58 h57)) else if v20 = 8 then xrc h19 x11 2 (xcI (f_X3_returns x11 h19) (fun v60 h59 => rtI v60 h59)) else if v20 = 9 then xgA h19 x11 2 41 (fun v61 => xlI h19 v61 0 x13 (fun v62 => xrc h19 x11 2 (xcI (f_X3_isAddress x11 (y15 + v62) h19) (fun v64 h63 => if v64 = 0 then rtI (-1) h63 else xgA h63 x11 2 1 (fun v65 => xgA h63 x11 2 41 (fun v66 => xlI h63 v66 0 x13 (fun v67 => xlI h63 v65 0 (y15 + v67) (fun v68 => rtI v68 h63)))))))) else if v20 = 10 then xrc h19 x11 2 (xcI (f_X3_loads x11 x13 y15 x14 h19) (fun v71 h70 => rtI v71 h70)) else if v20 = 11 then xgA h19 x11 2 41 (fun v72 => xgA h19 x11 2 41 (fun v73 => xlI h19 v73 0 (v18 &&& 3) (fun v74 => xsI h19 v72 0 x13 v74 (fun h75 => rtI x14 h75)))) else if v20 = 12 then xgA h19 x11 2 41 (fun v76 => xlI h19 v76 0 x13 (fun v77 => xsI h19 v76 0 x13 (v77 &&& y15) (fun h78 => rtI x14 h78))) else if v20 = 13 then rtI (-1) h19 else rtI x14 h19))))
def f_X3_executes (p0 : Option Nat) (p1 : Int32) (h : AH) : RS := xrc h p0 2 (xcI (f_X3_first p0 p1 h) (fun v2 h1 => xrc h1 p0 2 (xcI (f_X3_sort p0 p1 h1) (fun v4 h3 => xcI (f_X3_lengthOf v4 h3) (fun v6 h5 => xrc h5 p0 2 (xcI (f_X3_sort p0 p1 h5) (fun v8 h7 => xcI (f_X3_lengthOf v8 h7) (fun v10 h9 => if ¬ v10 = 2 then f_X3_executes_J38 p0 p1 v2 (p1 + v6) 0 h9 else xrc h9 p0 2 (xcI (f_X3_operand p0 p1 h9) (fun v80 h79 => f_X3_executes_J38 p0 p1 v2 (p1 + v6) v80 h79))))))))))
def f_X3_run_L21 (k40 : Option Nat → Int32 → AH → RS) : Nat → Option Nat → Int32 → Int32 → AH → RS
  | 0, _, _, _, _ => none
  | n + 1, x4, x5, x6, h7 => if 96 ≤ x6 then k40 x4 x5 h7 else xgA h7 x4 2 40 (fun v8 => xsI h7 v8 0 x6 0 (fun h9 => f_X3_run_L21 k40 n x4 x5 (x6 + 1) h9))
def f_X3_run_L42 (k60 : Option Nat → Int32 → AH → RS) : Nat → Option Nat → Int32 → Int32 → AH → RS
  | 0, _, _, _, _ => none
  | n + 1, x14, x15, x16, h17 => if 4 ≤ x16 then k60 x14 x15 h17 else xgA h17 x14 2 41 (fun v18 => xsI h17 v18 0 x16 0 (fun h19 => f_X3_run_L42 k60 n x14 x15 (x16 + 1) h19))
def f_X3_run_L74 (k111 : Option Nat → Int32 → AH → RS) : Nat → Option Nat → Int32 → Int32 → AH → RS
  | 0, _, _, _, _ => none
  | n + 1, x26, x27, x28, h29 => if 200 ≤ x27 then k111 x26 x27 h29 else xrc h29 x26 2 (xcI (f_X3_isSound x26 x28 h29) (fun v31 h30 => if v31 = 0 then k111 x26 x27 h30 else xgA h30 x26 2 40 (fun v32 => xlI h30 v32 0 x28 (fun v33 => xsI h30 v32 0 x28 (v33 + 1) (fun h34 => xrc h34 x26 2 (xcI (f_X3_executes x26 x28 h34) (fun v36 h35 => f_X3_run_L74 k111 n x26 (x27 + 1) v36 h35)))))))
def f_X3_run (p0 : Option Nat) (p1 : Int32) (h : AH) : RS := xpF h p0 2 0 (.int 0) (fun h1 => xrc h1 p0 2 (xcI (f_X3_isAddress p0 p1 h1) (fun v3 h2 => if ¬ v3 = 0 then f_X3_run_L21 (fun x11 x12 h13 => f_X3_run_L42 (fun x21 x22 h23 => xpZ h23 x21 2 49 0 (fun h24 => xpF h24 x21 2 48 (.int 0) (fun h25 => f_X3_run_L74 (fun x39 x40 h41 => xpZ h41 x39 2 39 1 (fun h42 => rtI x40 h42)) FUEL x21 0 x22 h25))) FUEL x11 x12 0 h13) FUEL p0 p1 0 h2 else xrc h2 p0 2 (xcI (f_X3_fails p0 1 h2) (fun v44 h43 => rtI v44 h43)))))
def f_X3_executedAt_J25 (x2 : Option Nat) (x3 : Int32) (y4 : Int32) (y5 : Option Nat) (h6 : AH) : RS := xpF h6 y5 2 0 (.int y4) (fun h7 => xgI h7 x2 2 0 (fun v8 => if ¬ v8 = 0 then rtI 0 h7 else xgA h7 x2 2 40 (fun v9 => xlI h7 v9 0 x3 (fun v10 => rtI v10 h7))))
def f_X3_executedAt (p0 : Option Nat) (p1 : Int32) (h : AH) : RS := xgI h p0 2 39 (fun v1 => if v1 = 0 then f_X3_executedAt_J25 p0 p1 1 p0 h else xrc h p0 2 (xcI (f_X3_isAddress p0 p1 h) (fun v13 h12 => if v13 = 0 then f_X3_executedAt_J25 p0 p1 2 p0 h12 else f_X3_executedAt_J25 p0 p1 0 p0 h12)))
def f_X3_unrecovered_J59 (rc : Option Nat → Int32 → Int32 → AH → RS) (k67 : Option Nat → Int32 → AH → RS) (x21 : Option Nat) (x22 : Int32) (y23 : Int32) (y24 : Int32) (h25 : AH) : RS := rc x21 (y24 + y23) (x22 + 1) h25
def f_X3_unrecovered_J58 (rc : Option Nat → Int32 → Int32 → AH → RS) (k67 : Option Nat → Int32 → AH → RS) (x17 : Option Nat) (x18 : Int32) (y19 : Int32) (h20 : AH) : RS := f_X3_unrecovered_J59 rc k67 x17 x18 0 y19 h20
def f_X3_unrecovered_L27 (k67 : Option Nat → Int32 → AH → RS) : Nat → Option Nat → Int32 → Int32 → AH → RS
  | 0, _, _, _, _ => none
  | n + 1, x10, x11, x12, h13 => xgI h13 x10 2 5 (fun v14 => if v14 ≤ x12 then k67 x10 x11 h13 else xgA h13 x10 2 40 (fun v15 => xlI h13 v15 0 x12 (fun v16 => if v16 ≤ 0 then f_X3_unrecovered_J58 (f_X3_unrecovered_L27 k67 n) k67 x10 x12 x11 h13 else xgA h13 x10 2 16 (fun v26 => xlI h13 v26 0 x12 (fun v27 => if ¬ v27 = 0 then f_X3_unrecovered_J58 (f_X3_unrecovered_L27 k67 n) k67 x10 x12 x11 h13 else f_X3_unrecovered_J59 (f_X3_unrecovered_L27 k67 n) k67 x10 x12 1 x11 h13)))))
def f_X3_unrecovered_J20 (x5 : Option Nat) (y6 : Int32) (y7 : Option Nat) (h8 : AH) : RS := xpF h8 y7 2 0 (.int y6) (fun h9 => f_X3_unrecovered_L27 (fun x31 x32 h33 => xgI h33 x31 2 0 (fun v34 => if ¬ v34 = 0 then rtI 0 h33 else rtI x32 h33)) FUEL x5 0 0 h9)
def f_X3_unrecovered_J19 (x2 : Option Nat) (y3 : Option Nat) (h4 : AH) : RS := f_X3_unrecovered_J20 x2 1 y3 h4
def f_X3_unrecovered (p0 : Option Nat) (h : AH) : RS := xgI h p0 2 15 (fun v1 => if v1 = 0 then f_X3_unrecovered_J19 p0 p0 h else xgI h p0 2 39 (fun v36 => if v36 = 0 then f_X3_unrecovered_J19 p0 p0 h else f_X3_unrecovered_J20 p0 0 p0 h))
def f_X3_register_J26 (x2 : Option Nat) (x3 : Int32) (y4 : Int32) (y5 : Option Nat) (h6 : AH) : RS := xpF h6 y5 2 0 (.int y4) (fun h7 => xgI h7 x2 2 0 (fun v8 => if ¬ v8 = 0 then rtI 0 h7 else xgA h7 x2 2 41 (fun v9 => xlI h7 v9 0 x3 (fun v10 => rtI v10 h7))))
def f_X3_register (p0 : Option Nat) (p1 : Int32) (h : AH) : RS := xgI h p0 2 39 (fun v1 => if v1 = 0 then f_X3_register_J26 p0 p1 1 p0 h else xcI (f_X3_in p1 0 3 h) (fun v13 h12 => if v13 = 0 then f_X3_register_J26 p0 p1 2 p0 h12 else f_X3_register_J26 p0 p1 0 p0 h12))
def f_X3_coverage_J60 (rc : Option Nat → Int32 → Int32 → AH → RS) (k68 : Option Nat → Int32 → AH → RS) (x15 : Option Nat) (x16 : Int32) (y17 : Int32) (y18 : Int32) (h19 : AH) : RS := rc x15 (y18 + y17) (x16 + 1) h19
def f_X3_coverage_L31 (k68 : Option Nat → Int32 → AH → RS) : Nat → Option Nat → Int32 → Int32 → AH → RS
  | 0, _, _, _, _ => none
  | n + 1, x7, x8, x9, h10 => xgI h10 x7 2 5 (fun v11 => if v11 ≤ x9 then k68 x7 x8 h10 else xgI h10 x7 2 0 (fun v12 => if ¬ v12 = 0 then k68 x7 x8 h10 else xrc h10 x7 2 (xcI (f_X3_isUsed x7 x9 h10) (fun v14 h13 => if v14 = 0 then f_X3_coverage_J60 (f_X3_coverage_L31 k68 n) k68 x7 x9 0 x8 h13 else f_X3_coverage_J60 (f_X3_coverage_L31 k68 n) k68 x7 x9 1 x8 h13))))
def f_X3_coverage_J68 (x26 : Option Nat) (x27 : Int32)  (h28 : AH) : RS := xgI h28 x26 2 0 (fun v29 => if ¬ v29 = 0 then rtD FP.dconst0 h28 else xgI h28 x26 2 5 (fun v30 => xdd (FP.i2d x27) (FP.i2d v30) (fun v31 => rtD v31 h28)))
def f_X3_coverage_J24 (x2 : Option Nat) (y3 : Int32) (y4 : Option Nat) (h5 : AH) : RS := xpF h5 y4 2 0 (.int y3) (fun h6 => f_X3_coverage_L31 (fun x23 x24 h25 => f_X3_coverage_J68 x23 x24 h25) FUEL x2 0 0 h6)
def f_X3_coverage (p0 : Option Nat) (h : AH) : RS := xgI h p0 2 15 (fun v1 => if v1 = 0 then f_X3_coverage_J24 p0 1 p0 h else xgI h p0 2 5 (fun v33 => if v33 ≤ 0 then f_X3_coverage_J24 p0 2 p0 h else f_X3_coverage_J24 p0 0 p0 h))
def f_X3_averageBlock_J77 (rc : Option Nat → Int32 → Int32 → Int32 → AH → RS) (k85 : Option Nat → Int32 → Int32 → AH → RS) (x21 : Option Nat) (x22 : Int32) (x23 : Int32) (y24 : Int32) (y25 : Int32) (h26 : AH) : RS := rc x21 x22 (y25 + y24) (x23 + 1) h26
def f_X3_averageBlock_L44 (k85 : Option Nat → Int32 → Int32 → AH → RS) : Nat → Option Nat → Int32 → Int32 → Int32 → AH → RS
  | 0, _, _, _, _, _ => none
  | n + 1, x12, x13, x14, x15, h16 => xgI h16 x12 2 5 (fun v17 => if v17 ≤ x15 then k85 x12 x13 x14 h16 else xgI h16 x12 2 0 (fun v18 => if ¬ v18 = 0 then k85 x12 x13 x14 h16 else xrc h16 x12 2 (xcI (f_X3_isLeader x12 x15 h16) (fun v20 h19 => if v20 = 0 then f_X3_averageBlock_J77 (f_X3_averageBlock_L44 k85 n) k85 x12 x13 x15 0 x14 h19 else xrc h19 x12 2 (xcI (f_X3_blockSize x12 x15 h19) (fun v28 h27 => f_X3_averageBlock_J77 (f_X3_averageBlock_L44 k85 n) k85 x12 x13 x15 v28 x14 h27))))))
def f_X3_averageBlock_J85 (x36 : Option Nat) (x37 : Int32) (x38 : Int32)  (h39 : AH) : RS := xgI h39 x36 2 0 (fun v40 => if ¬ v40 = 0 then rtF FP.fconst0 h39 else xfd (FP.i2f x38) (FP.i2f x37) (fun v41 => rtF v41 h39))
def f_X3_averageBlock_J37 (x6 : Option Nat) (x7 : Int32) (y8 : Int32) (y9 : Option Nat) (h10 : AH) : RS := xpF h10 y9 2 0 (.int y8) (fun h11 => f_X3_averageBlock_L44 (fun x32 x33 x34 h35 => f_X3_averageBlock_J85 x32 x33 x34 h35) FUEL x6 x7 0 0 h11)
def f_X3_averageBlock_J15 (x2 : Option Nat) (y3 : Int32) (h4 : AH) : RS := xgI h4 x2 2 15 (fun v5 => if v5 = 0 then f_X3_averageBlock_J37 x2 y3 1 x2 h4 else if y3 ≤ 0 then f_X3_averageBlock_J37 x2 y3 2 x2 h4 else f_X3_averageBlock_J37 x2 y3 0 x2 h4)
def f_X3_averageBlock (p0 : Option Nat) (h : AH) : RS := xgI h p0 2 15 (fun v1 => if v1 = 0 then f_X3_averageBlock_J15 p0 0 h else xrc h p0 2 (xcI (f_X3_blocks p0 h) (fun v46 h45 => f_X3_averageBlock_J15 p0 v46 h45)))
def f_X3_save_L7 (k31 : Option Nat → AH → RS) : Nat → Option Nat → Int32 → AH → RS
  | 0, _, _, _ => none
  | n + 1, x2, x3, h4 => if 96 ≤ x3 then k31 x2 h4 else xgA h4 x2 2 2 (fun v5 => xgA h4 x2 2 1 (fun v6 => xlI h4 v6 0 x3 (fun v7 => xsI h4 v5 0 x3 v7 (fun h8 => f_X3_save_L7 k31 n x2 (x3 + 1) h8))))
def f_X3_save_L33 (k56 : Option Nat → AH → RS) : Nat → Option Nat → Int32 → AH → RS
  | 0, _, _, _ => none
  | n + 1, x12, x13, h14 => if 4 ≤ x13 then k56 x12 h14 else xgA h14 x12 2 4 (fun v15 => xgA h14 x12 2 3 (fun v16 => xlI h14 v16 0 x13 (fun v17 => xsI h14 v15 0 x13 v17 (fun h18 => f_X3_save_L33 k56 n x12 (x13 + 1) h18))))
def f_X3_save (p0 : Option Nat) (h : AH) : RS := xpF h p0 2 0 (.int 0) (fun h1 => f_X3_save_L7 (fun x10 h11 => f_X3_save_L33 (fun x20 h21 => xgI h21 x20 2 5 (fun v22 => xpF h21 x20 2 8 (.int v22) (fun h23 => xgI h23 x20 2 6 (fun v24 => xpF h23 x20 2 9 (.int v24) (fun h25 => xgI h25 x20 2 7 (fun v26 => xpF h25 x20 2 10 (.int v26) (fun h27 => xpZ h27 x20 2 11 1 (fun h28 => rtV h28)))))))) FUEL x10 0 h11) FUEL p0 0 h1)
def f_X3_restore_L26 (k50 : Option Nat → AH → RS) : Nat → Option Nat → Int32 → AH → RS
  | 0, _, _, _ => none
  | n + 1, x8, x9, h10 => if 96 ≤ x9 then k50 x8 h10 else xgA h10 x8 2 1 (fun v11 => xgA h10 x8 2 2 (fun v12 => xlI h10 v12 0 x9 (fun v13 => xsI h10 v11 0 x9 v13 (fun h14 => f_X3_restore_L26 k50 n x8 (x9 + 1) h14))))
def f_X3_restore_L52 (k75 : Option Nat → AH → RS) : Nat → Option Nat → Int32 → AH → RS
  | 0, _, _, _ => none
  | n + 1, x18, x19, h20 => if 4 ≤ x19 then k75 x18 h20 else xgA h20 x18 2 3 (fun v21 => xgA h20 x18 2 4 (fun v22 => xlI h20 v22 0 x19 (fun v23 => xsI h20 v21 0 x19 v23 (fun h24 => f_X3_restore_L52 k75 n x18 (x19 + 1) h24))))
def f_X3_restore_J13 (x2 : Option Nat) (y3 : Int32) (y4 : Option Nat) (h5 : AH) : RS := xpF h5 y4 2 0 (.int y3) (fun h6 => xgI h6 x2 2 11 (fun v7 => if ¬ v7 = 0 then f_X3_restore_L26 (fun x16 h17 => f_X3_restore_L52 (fun x26 h27 => xgI h27 x26 2 8 (fun v28 => xpF h27 x26 2 5 (.int v28) (fun h29 => xgI h29 x26 2 9 (fun v30 => xpF h29 x26 2 6 (.int v30) (fun h31 => xgI h31 x26 2 10 (fun v32 => xpF h31 x26 2 7 (.int v32) (fun h33 => xrc h33 x26 2 (xcV (f_X3_changes x26 1 h33) (fun h34 => rtV h34))))))))) FUEL x16 0 h17) FUEL x2 0 h6 else rtV h6))
def f_X3_restore (p0 : Option Nat) (h : AH) : RS := xgI h p0 2 11 (fun v1 => if v1 = 0 then f_X3_restore_J13 p0 1 p0 h else f_X3_restore_J13 p0 0 p0 h)
abbrev FR_X3_tested : Nat := 5
abbrev LO_X3_tested : Nat := 102
theorem dyX3_tested : DY yX3_tested 2 := ⟨⟨by decide, by decide⟩, by decide +kernel⟩
theorem sm_X3_tested_L2 {G : GC} {K : SC} (hK : SOK G K RX3 cX3_tested 6 (some (.int)) "tested" []) (hf : FR_X3_tested ≤ (kR K).frames) (hlo : LO_X3_tested ≤ (kR K).locals) {k33 : Option Nat → Int32 → Int32 → Int32 → AH → RS} (hk33 : ∀ (y0 : Option Nat) (y1 : Int32) (y2 : Int32) (y3 : Int32) (h : AH), Sim G K 6 (k33 y0 y1 y2 y3 h) h 33 [(0, va_rf y0), (1, .int y1), (2, .int y2), (3, .int y3)] []) : ∀ (n : Nat) (x1 : Option Nat) (x2 : Int32) (x3 : Int32) (x4 : Int32) (h5 : AH), Sim G K 6 (f_X3_tested_L2 k33 n x1 x2 x3 x4 h5) h5 2 [(0, va_rf x1), (1, .int x2), (2, .int x3), (3, .int x4)] [] := by
  intro n
  induction n with
  | zero => intro x1 x2 x3 x4 h5; exact s_none
  | succ n ih =>
    intro x1 x2 x3 x4 h5
    rw [f_X3_tested_L2]
    refine s_aload_n hK dX3_tested_2 rfl 0 rfl ?_
    refine s_iload_n hK dX3_tested_3 rfl 3 rfl ?_
    refine s_iload_n hK dX3_tested_4 rfl 2 rfl ?_
    refine s_rc (fun _ _ eo er => ?_)
    refine s_cI hK ho_n (cx_v (As := [.int x4, .int x3]) (rest := []) hK dyX3_isInGap rfl q2005 fcX3.1 q2007 qs59 q80 q2008 eo er (ct_X3_isInGap hK.1 x1 x4 x3 h5) (Nat.le_trans (Nat.le_of_ble_eq_true rfl) hf) (Nat.le_trans (Nat.le_of_ble_eq_true rfl) hlo) rk_n (Nat.le_of_ble_eq_true rfl) dX3_tested_5 rfl) (fun v7 h6 => ?_)
    refine s_if_eq (tgt := 33) hK dX3_tested_8 (by decide) (fun c15 => ?_) (fun c15 => ?_)
    · exact hk33 x1 x2 x3 x4 h6
    · refine s_aload_n hK dX3_tested_11 rfl 0 rfl ?_
      refine s_iload_n hK dX3_tested_12 rfl 3 rfl ?_
      refine s_rc (fun _ _ eo er => ?_)
      refine s_cI hK ho_n (cx_v (As := [.int x4]) (rest := []) hK dyX3_endsFlow rfl q1981 fcX3.1 q1983 qs53 q80 q1984 eo er (ct_X3_endsFlow hK.1 x1 x4 h6) (Nat.le_trans (Nat.le_of_ble_eq_true rfl) hf) (Nat.le_trans (Nat.le_of_ble_eq_true rfl) hlo) rk_n (Nat.le_of_ble_eq_true rfl) dX3_tested_13 rfl) (fun v9 h8 => ?_)
      refine s_if_ne (tgt := 33) hK dX3_tested_16 (by decide) (fun c14 => ?_) (fun c14 => ?_)
      · exact hk33 x1 x2 x3 x4 h8
      · refine s_iload_n hK dX3_tested_19 rfl 3 rfl ?_
        refine s_aload_n hK dX3_tested_20 rfl 0 rfl ?_
        refine s_iload_n hK dX3_tested_21 rfl 3 rfl ?_
        refine s_rc (fun _ _ eo er => ?_)
        refine s_cI hK ho_n (cx_v (As := [.int x4]) (rest := [.int x4]) hK dyX3_sort rfl q1914 fcX3.1 q1916 qs39 q80 q1917 eo er (ct_X3_sort hK.1 x1 x4 h8) (Nat.le_trans (Nat.le_of_ble_eq_true rfl) hf) (Nat.le_trans (Nat.le_of_ble_eq_true rfl) hlo) (rk_i rk_n) (Nat.le_of_ble_eq_true rfl) dX3_tested_22 rfl) (fun v11 h10 => ?_)
        refine s_cI hK ho_n (cx_s (As := [.int v11]) (rest := [.int x4]) hK dyX3_lengthOf rfl q1918 q1919 q80 q1920 (ct_X3_lengthOf hK.1 v11 h10) (Nat.le_trans (Nat.le_of_ble_eq_true rfl) hf) (Nat.le_trans (Nat.le_of_ble_eq_true rfl) hlo) (rk_i rk_n) (Nat.le_of_ble_eq_true rfl) dX3_tested_25 rfl) (fun v13 h12 => ?_)
        refine s_iadd hK dX3_tested_28 ?_
        refine s_istore_n (lv' := [(3, .int (x4 + v13)), (0, va_rf x1), (1, .int x2), (2, .int x3)]) hK dX3_tested_29 rfl (Nat.le_of_ble_eq_true rfl) rfl ?_
        refine s_goto (tgt := 2) hK dX3_tested_30 (by decide) ?_
        refine s_sub [1, 2, 3, 0] rfl ?_
        exact ih x1 x2 x3 (x4 + v13) h12
theorem sm_X3_tested_J134 {G : GC} {K : SC} (hK : SOK G K RX3 cX3_tested 6 (some (.int)) "tested" []) (hf : FR_X3_tested ≤ (kR K).frames) (hlo : LO_X3_tested ≤ (kR K).locals) {rc : Option Nat → Int32 → Int32 → Int32 → Int32 → AH → RS} (hrc : ∀ (y0 : Option Nat) (y1 : Int32) (y2 : Int32) (y3 : Int32) (y4 : Int32) (h : AH), Sim G K 6 (rc y0 y1 y2 y3 y4 h) h 50 [(0, va_rf y0), (1, .int y1), (3, .int y2), (4, .int y3), (5, .int y4)] []) {k155 : Int32 → AH → RS} (hk155 : ∀ (y0 : Int32) (h : AH), Sim G K 6 (k155 y0 h) h 155 [(4, .int y0)] []) (x48 : Option Nat) (x49 : Int32) (x50 : Int32) (x51 : Int32) (y52 : Int32) (y53 : Int32) (y54 : Int32) (h55 : AH) : Sim G K 6 (f_X3_tested_J134 rc k155 x48 x49 x50 x51 y52 y53 y54 h55) h55 134 [(0, va_rf x48), (1, .int x49), (3, .int x50), (5, .int x51)] [.int y52, .int y53, .int y54] := by
  unfold f_X3_tested_J134
  refine s_iadd hK dX3_tested_134 ?_
  refine s_iadd hK dX3_tested_135 ?_
  refine s_istore (lv' := [(4, .int (y54 + (y53 + y52))), (0, va_rf x48), (1, .int x49), (3, .int x50), (5, .int x51)]) hK dX3_tested_136 (Nat.le_of_ble_eq_true rfl) rfl ?_
  refine s_iload hK dX3_tested_138 4 rfl ?_
  refine s_aload_n hK dX3_tested_140 rfl 1 rfl ?_
  refine s_iload hK dX3_tested_141 4 rfl ?_
  refine s_rc (fun _ _ eo er => ?_)
  refine s_cI hK ho_n (cx_v (As := [.int x51]) (rest := [.int x51]) hK dyX3_sort rfl q1914 fcX3.1 q1916 qs39 q80 q1917 eo er (ct_X3_sort hK.1 x48 x51 h55) (Nat.le_trans (Nat.le_of_ble_eq_true rfl) hf) (Nat.le_trans (Nat.le_of_ble_eq_true rfl) hlo) (rk_i rk_n) (Nat.le_of_ble_eq_true rfl) dX3_tested_143 rfl) (fun v57 h56 => ?_)
  refine s_cI hK ho_n (cx_s (As := [.int v57]) (rest := [.int x51]) hK dyX3_lengthOf rfl q1918 q1919 q80 q1920 (ct_X3_lengthOf hK.1 v57 h56) (Nat.le_trans (Nat.le_of_ble_eq_true rfl) hf) (Nat.le_trans (Nat.le_of_ble_eq_true rfl) hlo) (rk_i rk_n) (Nat.le_of_ble_eq_true rfl) dX3_tested_146 rfl) (fun v59 h58 => ?_)
  refine s_iadd hK dX3_tested_149 ?_
  refine s_istore (lv' := [(5, .int (x51 + v59)), (4, .int (y54 + (y53 + y52))), (0, va_rf x48), (1, .int x49), (3, .int x50)]) hK dX3_tested_150 (Nat.le_of_ble_eq_true rfl) rfl ?_
  refine s_goto (tgt := 50) hK dX3_tested_152 (by decide) ?_
  refine s_sub [2, 3, 4, 1, 0] rfl ?_
  exact hrc x48 x49 x50 (y54 + (y53 + y52)) (x51 + v59) h58
theorem sm_X3_tested_J96 {G : GC} {K : SC} (hK : SOK G K RX3 cX3_tested 6 (some (.int)) "tested" []) (hf : FR_X3_tested ≤ (kR K).frames) (hlo : LO_X3_tested ≤ (kR K).locals) {rc : Option Nat → Int32 → Int32 → Int32 → Int32 → AH → RS} (hrc : ∀ (y0 : Option Nat) (y1 : Int32) (y2 : Int32) (y3 : Int32) (y4 : Int32) (h : AH), Sim G K 6 (rc y0 y1 y2 y3 y4 h) h 50 [(0, va_rf y0), (1, .int y1), (3, .int y2), (4, .int y3), (5, .int y4)] []) {k155 : Int32 → AH → RS} (hk155 : ∀ (y0 : Int32) (h : AH), Sim G K 6 (k155 y0 h) h 155 [(4, .int y0)] []) (x36 : Option Nat) (x37 : Int32) (x38 : Int32) (x39 : Int32) (x40 : Int32)  (h41 : AH) : Sim G K 6 (f_X3_tested_J96 rc k155 x36 x37 x38 x39 x40 h41) h41 96 [(0, va_rf x36), (1, .int x37), (3, .int x38), (4, .int x39), (5, .int x40)] [] := by
  unfold f_X3_tested_J96
  refine s_iload hK dX3_tested_96 3 rfl ?_
  refine s_iconst (v := 1) hK dX3_tested_98 rfl ?_
  refine s_aload_n hK dX3_tested_99 rfl 0 rfl ?_
  refine s_iload hK dX3_tested_100 4 rfl ?_
  refine s_rc (fun _ _ eo er => ?_)
  refine s_cI hK ho_n (cx_v (As := [.int x40]) (rest := [.int 1, .int x39]) hK dyX3_sort rfl q1914 fcX3.1 q1916 qs39 q80 q1917 eo er (ct_X3_sort hK.1 x36 x40 h41) (Nat.le_trans (Nat.le_of_ble_eq_true rfl) hf) (Nat.le_trans (Nat.le_of_ble_eq_true rfl) hlo) (rk_i (rk_i rk_n)) (Nat.le_of_ble_eq_true rfl) dX3_tested_102 rfl) (fun v43 h42 => ?_)
  refine s_bipush (v := 7) hK dX3_tested_105 rfl ?_
  refine s_icmp_ne (tgt := 114) hK dX3_tested_107 (by decide) (fun c61 => ?_) (fun c61 => ?_)
  · refine s_aload_n hK dX3_tested_114 rfl 0 rfl ?_
    refine s_iload hK dX3_tested_115 4 rfl ?_
    refine s_rc (fun _ _ eo er => ?_)
    refine s_cI hK ho_n (cx_v (As := [.int x40]) (rest := [.int 1, .int x39]) hK dyX3_sort rfl q1914 fcX3.1 q1916 qs39 q80 q1917 eo er (ct_X3_sort hK.1 x36 x40 h42) (Nat.le_trans (Nat.le_of_ble_eq_true rfl) hf) (Nat.le_trans (Nat.le_of_ble_eq_true rfl) hlo) (rk_i (rk_i rk_n)) (Nat.le_of_ble_eq_true rfl) dX3_tested_117 rfl) (fun v45 h44 => ?_)
    refine s_iconst (v := 4) hK dX3_tested_120 rfl ?_
    refine s_bipush (v := 6) hK dX3_tested_121 rfl ?_
    refine s_cI hK ho_n (cx_s (As := [.int v45, .int 4, .int 6]) (rest := [.int 1, .int x39]) hK dyX3_in rfl q1844 q1845 q80 q1846 (ct_X3_in hK.1 v45 4 6 h44) (Nat.le_trans (Nat.le_of_ble_eq_true rfl) hf) (Nat.le_trans (Nat.le_of_ble_eq_true rfl) hlo) (rk_i (rk_i rk_n)) (Nat.le_of_ble_eq_true rfl) dX3_tested_123 rfl) (fun v47 h46 => ?_)
    refine s_if_eq (tgt := 133) hK dX3_tested_126 (by decide) (fun c60 => ?_) (fun c60 => ?_)
    · refine s_iconst (v := 0) hK dX3_tested_133 rfl ?_
      refine s_sub [0, 1, 2, 4] rfl ?_
      exact sm_X3_tested_J134 hK hf hlo hrc hk155 x36 x37 x38 x40 0 1 x39 h46
    · refine s_iconst (v := 2) hK dX3_tested_129 rfl ?_
      refine s_goto (tgt := 134) hK dX3_tested_130 (by decide) ?_
      refine s_sub [0, 1, 2, 4] rfl ?_
      exact sm_X3_tested_J134 hK hf hlo hrc hk155 x36 x37 x38 x40 2 1 x39 h46
  · refine s_iconst (v := 3) hK dX3_tested_110 rfl ?_
    refine s_goto (tgt := 134) hK dX3_tested_111 (by decide) ?_
    refine s_sub [0, 1, 2, 4] rfl ?_
    exact sm_X3_tested_J134 hK hf hlo hrc hk155 x36 x37 x38 x40 3 1 x39 h42
theorem sm_X3_tested_L50 {G : GC} {K : SC} (hK : SOK G K RX3 cX3_tested 6 (some (.int)) "tested" []) (hf : FR_X3_tested ≤ (kR K).frames) (hlo : LO_X3_tested ≤ (kR K).locals) {k155 : Int32 → AH → RS} (hk155 : ∀ (y0 : Int32) (h : AH), Sim G K 6 (k155 y0 h) h 155 [(4, .int y0)] []) : ∀ (n : Nat) (x28 : Option Nat) (x29 : Int32) (x30 : Int32) (x31 : Int32) (x32 : Int32) (h33 : AH), Sim G K 6 (f_X3_tested_L50 k155 n x28 x29 x30 x31 x32 h33) h33 50 [(0, va_rf x28), (1, .int x29), (3, .int x30), (4, .int x31), (5, .int x32)] [] := by
  intro n
  induction n with
  | zero => intro x28 x29 x30 x31 x32 h33; exact s_none
  | succ n ih =>
    intro x28 x29 x30 x31 x32 h33
    rw [f_X3_tested_L50]
    refine s_iload hK dX3_tested_50 4 rfl ?_
    refine s_iload_n hK dX3_tested_52 rfl 2 rfl ?_
    refine s_icmp_gt (tgt := 155) hK dX3_tested_53 (by decide) (fun c73 => ?_) (fun c73 => ?_)
    · refine s_sub [3] rfl ?_
      exact hk155 x31 h33
    · refine s_aload_n hK dX3_tested_56 rfl 0 rfl ?_
      refine s_iload hK dX3_tested_57 4 rfl ?_
      refine s_rc (fun _ _ eo er => ?_)
      refine s_cI hK ho_n (cx_v (As := [.int x32]) (rest := []) hK dyX3_hasGoal rfl q1921 fcX3.1 q1923 qs40 q80 q1924 eo er (ct_X3_hasGoal hK.1 x28 x32 h33) (Nat.le_trans (Nat.le_of_ble_eq_true rfl) hf) (Nat.le_trans (Nat.le_of_ble_eq_true rfl) hlo) rk_n (Nat.le_of_ble_eq_true rfl) dX3_tested_59 rfl) (fun v35 h34 => ?_)
      refine s_if_eq (tgt := 96) hK dX3_tested_62 (by decide) (fun c72 => ?_) (fun c72 => ?_)
      · exact sm_X3_tested_J96 hK hf hlo ih hk155 x28 x29 x30 x31 x32 h34
      · refine s_aload_n hK dX3_tested_65 rfl 0 rfl ?_
        refine s_gA hK fcX3 16 (Nat.le_of_ble_eq_true rfl) (Or.inl q1700) (Or.inl rfl) dX3_tested_66 (fun v62 => ?_)
        refine s_aload_n hK dX3_tested_69 rfl 0 rfl ?_
        refine s_iload hK dX3_tested_70 4 rfl ?_
        refine s_rc (fun _ _ eo er => ?_)
        refine s_cI hK ho_n (cx_v (As := [.int x32]) (rest := [va_rf v62]) hK dyX3_goal rfl q1925 fcX3.1 q1927 qs41 q80 q1928 eo er (ct_X3_goal hK.1 x28 x32 h34) (Nat.le_trans (Nat.le_of_ble_eq_true rfl) hf) (Nat.le_trans (Nat.le_of_ble_eq_true rfl) hlo) (rk_a rk_n) (Nat.le_of_ble_eq_true rfl) dX3_tested_72 rfl) (fun v64 h63 => ?_)
        refine s_iald hK dX3_tested_75 (fun v65 => ?_)
        refine s_if_ne (tgt := 96) hK dX3_tested_76 (by decide) (fun c71 => ?_) (fun c71 => ?_)
        · exact sm_X3_tested_J96 hK hf hlo ih hk155 x28 x29 x30 x31 x32 h63
        · refine s_aload_n hK dX3_tested_79 rfl 0 rfl ?_
          refine s_iload_n hK dX3_tested_80 rfl 1 rfl ?_
          refine s_iload_n hK dX3_tested_81 rfl 2 rfl ?_
          refine s_aload_n hK dX3_tested_82 rfl 0 rfl ?_
          refine s_iload hK dX3_tested_83 4 rfl ?_
          refine s_rc (fun _ _ eo er => ?_)
          refine s_cI hK ho_n (cx_v (As := [.int x32]) (rest := [.int x30, .int x29, va_rf x28]) hK dyX3_goal rfl q1925 fcX3.1 q1927 qs41 q80 q1928 eo er (ct_X3_goal hK.1 x28 x32 h63) (Nat.le_trans (Nat.le_of_ble_eq_true rfl) hf) (Nat.le_trans (Nat.le_of_ble_eq_true rfl) hlo) (rk_i (rk_i (rk_a rk_n))) (Nat.le_of_ble_eq_true rfl) dX3_tested_85 rfl) (fun v67 h66 => ?_)
          refine s_rc (fun _ _ eo er => ?_)
          refine s_cI hK ho_n (cx_v (As := [.int x29, .int x30, .int v67]) (rest := []) hK dyX3_isTestBegin rfl q2009 fcX3.1 q2011 qs60 q80 q2012 eo er (ct_X3_isTestBegin hK.1 x28 x29 x30 v67 h66) (Nat.le_trans (Nat.le_of_ble_eq_true rfl) hf) (Nat.le_trans (Nat.le_of_ble_eq_true rfl) hlo) rk_n (Nat.le_of_ble_eq_true rfl) dX3_tested_88 rfl) (fun v69 h68 => ?_)
          refine s_if_ne (tgt := 96) hK dX3_tested_91 (by decide) (fun c70 => ?_) (fun c70 => ?_)
          · exact sm_X3_tested_J96 hK hf hlo ih hk155 x28 x29 x30 x31 x32 h68
          · refine s_iconst (v := 0) hK dX3_tested_94 rfl ?_
            exact s_iret hK dX3_tested_95
theorem sm_X3_tested_J33 {G : GC} {K : SC} (hK : SOK G K RX3 cX3_tested 6 (some (.int)) "tested" []) (hf : FR_X3_tested ≤ (kR K).frames) (hlo : LO_X3_tested ≤ (kR K).locals) (x21 : Option Nat) (x22 : Int32) (x23 : Int32) (x24 : Int32)  (h25 : AH) : Sim G K 6 (f_X3_tested_J33 x21 x22 x23 x24 h25) h25 33 [(0, va_rf x21), (1, .int x22), (2, .int x23), (3, .int x24)] [] := by
  unfold f_X3_tested_J33
  refine s_aload_n hK dX3_tested_33 rfl 0 rfl ?_
  refine s_iload_n hK dX3_tested_34 rfl 3 rfl ?_
  refine s_iload_n hK dX3_tested_35 rfl 2 rfl ?_
  refine s_rc (fun _ _ eo er => ?_)
  refine s_cI hK ho_n (cx_v (As := [.int x24, .int x23]) (rest := []) hK dyX3_isInGap rfl q2005 fcX3.1 q2007 qs59 q80 q2008 eo er (ct_X3_isInGap hK.1 x21 x24 x23 h25) (Nat.le_trans (Nat.le_of_ble_eq_true rfl) hf) (Nat.le_trans (Nat.le_of_ble_eq_true rfl) hlo) rk_n (Nat.le_of_ble_eq_true rfl) dX3_tested_36 rfl) (fun v27 h26 => ?_)
  refine s_if_ne (tgt := 44) hK dX3_tested_39 (by decide) (fun c76 => ?_) (fun c76 => ?_)
  · refine s_iconst (v := 0) hK dX3_tested_44 rfl ?_
    refine s_istore (lv' := [(4, .int 0), (0, va_rf x21), (1, .int x22), (2, .int x23), (3, .int x24)]) hK dX3_tested_45 (Nat.le_of_ble_eq_true rfl) rfl ?_
    refine s_iload_n hK dX3_tested_47 rfl 2 rfl ?_
    refine s_istore (lv' := [(5, .int x22), (4, .int 0), (0, va_rf x21), (1, .int x22), (2, .int x23), (3, .int x24)]) hK dX3_tested_48 (Nat.le_of_ble_eq_true rfl) rfl ?_
    refine s_sub [2, 3, 5, 1, 0] rfl ?_
    refine sm_X3_tested_L50 hK hf hlo (fun x74 h75 => ?_) FUEL x21 x22 x24 0 x22 h26
    · refine s_iload hK dX3_tested_155 0 rfl ?_
      exact s_iret hK dX3_tested_157
  · refine s_iconst (v := 0) hK dX3_tested_42 rfl ?_
    exact s_iret hK dX3_tested_43
theorem sm_X3_tested {G : GC} {K : SC} (hK : SOK G K RX3 cX3_tested 6 (some (.int)) "tested" []) (hf : FR_X3_tested ≤ (kR K).frames) (hlo : LO_X3_tested ≤ (kR K).locals) (p0 : Option Nat) (p1 : Int32) (p2 : Int32) (h : AH) : Sim G K 6 (f_X3_tested p0 p1 p2 h) h 0 [(0, va_rf p0), (1, .int p1), (2, .int p2)] [] := by
  unfold f_X3_tested
  refine s_iload_n hK dX3_tested_0 rfl 1 rfl ?_
  refine s_istore_n (lv' := [(3, .int p1), (0, va_rf p0), (1, .int p1), (2, .int p2)]) hK dX3_tested_1 rfl (Nat.le_of_ble_eq_true rfl) rfl ?_
  refine s_sub [1, 2, 3, 0] rfl ?_
  refine sm_X3_tested_L2 hK hf hlo (fun x16 x17 x18 x19 h20 => ?_) FUEL p0 p1 p2 p1 h
  · exact sm_X3_tested_J33 hK hf hlo x16 x17 x18 x19 h20
theorem ct_X3_tested {G : GC} {l : Launch} (g : GOK G l) (p0 : Option Nat) (p1 : Int32) (p2 : Int32) (h : AH) : CT G l yX3_tested (Cond.code yX3_tested cX3_tested 6 (some (.int))) 5 102 [va_rf p0, .int p1, .int p2] (f_X3_tested p0 p1 p2 h) h :=
  CT.of g (by decide) (by simp only [ls_a, ls_i, ls_l, ls_n]; decide) (fun K _ hK hf hlo => by simp only [la_a, la_i, la_l, la_n]; exact sm_X3_tested hK hf hlo p0 p1 p2 h)
abbrev FR_X3_speculates : Nat := 3
abbrev LO_X3_speculates : Nat := 58
theorem dyX3_speculates : DY yX3_speculates 1 := ⟨⟨by decide, by decide⟩, by decide +kernel⟩
theorem sm_X3_speculates_L29 {G : GC} {K : SC} (hK : SOK G K RX3 cX3_speculates 6 (none) "speculates" []) (hf : FR_X3_speculates ≤ (kR K).frames) (hlo : LO_X3_speculates ≤ (kR K).locals) {k52 : Option Nat → Int32 → Int32 → AH → RS} (hk52 : ∀ (y0 : Option Nat) (y1 : Int32) (y2 : Int32) (h : AH), Sim G K 6 (k52 y0 y1 y2 h) h 52 [(0, va_rf y0), (2, .int y1), (4, .int y2)] []) : ∀ (n : Nat) (x11 : Option Nat) (x12 : Int32) (x13 : Int32) (x14 : Int32) (h15 : AH), Sim G K 6 (f_X3_speculates_L29 k52 n x11 x12 x13 x14 h15) h15 29 [(0, va_rf x11), (2, .int x12), (4, .int x13), (5, .int x14)] [] := by
  intro n
  induction n with
  | zero => intro x11 x12 x13 x14 h15; exact s_none
  | succ n ih =>
    intro x11 x12 x13 x14 h15
    rw [f_X3_speculates_L29]
    refine s_iload hK dX3_speculates_29 3 rfl ?_
    refine s_iload_n hK dX3_speculates_31 rfl 1 rfl ?_
    refine s_iload hK dX3_speculates_32 2 rfl ?_
    refine s_iadd hK dX3_speculates_34 ?_
    refine s_icmp_ge (tgt := 52) hK dX3_speculates_35 (by decide) (fun c18 => ?_) (fun c18 => ?_)
    · refine s_sub [0, 1, 2] rfl ?_
      exact hk52 x11 x12 x13 h15
    · refine s_aload_n hK dX3_speculates_38 rfl 0 rfl ?_
      refine s_gA hK fcX3 19 (Nat.le_of_ble_eq_true rfl) (Or.inl q1703) (Or.inl rfl) dX3_speculates_39 (fun v16 => ?_)
      refine s_iload hK dX3_speculates_42 3 rfl ?_
      refine s_iload_n hK dX3_speculates_44 rfl 1 rfl ?_
      refine s_iast hK dX3_speculates_45 (fun h17 => ?_)
      refine s_iinc (j := 3) (v := 1) (lv' := [(5, .int (x14 + 1)), (0, va_rf x11), (2, .int x12), (4, .int x13)]) hK dX3_speculates_46 rfl rfl (Nat.le_of_ble_eq_true rfl) rfl ?_
      refine s_goto (tgt := 29) hK dX3_speculates_49 (by decide) ?_
      refine s_sub [1, 2, 3, 0] rfl ?_
      exact ih x11 x12 x13 (x14 + 1) h17
theorem sm_X3_speculates_J75 {G : GC} {K : SC} (hK : SOK G K RX3 cX3_speculates 6 (none) "speculates" []) (hf : FR_X3_speculates ≤ (kR K).frames) (hlo : LO_X3_speculates ≤ (kR K).locals) {rc : Option Nat → Int32 → Int32 → AH → RS} (hrc : ∀ (y0 : Option Nat) (y1 : Int32) (y2 : Int32) (h : AH), Sim G K 6 (rc y0 y1 y2 h) h 4 [(0, va_rf y0), (2, .int y1), (3, .int y2)] []) {k84 : AH → RS} (hk84 : ∀  (h : AH), Sim G K 6 (k84  h) h 84 [] []) (x27 : Option Nat) (x28 : Int32) (x29 : Int32) (y30 : Int32) (h31 : AH) : Sim G K 6 (f_X3_speculates_J75 rc k84 x27 x28 x29 y30 h31) h31 75 [(0, va_rf x27), (2, .int x28), (4, .int x29)] [.int y30] := by
  unfold f_X3_speculates_J75
  refine s_istore_n (lv' := [(3, .int y30), (0, va_rf x27), (2, .int x28), (4, .int x29)]) hK dX3_speculates_75 rfl (Nat.le_of_ble_eq_true rfl) rfl ?_
  refine s_iload_n hK dX3_speculates_76 rfl 2 rfl ?_
  refine s_iload hK dX3_speculates_77 3 rfl ?_
  refine s_iadd hK dX3_speculates_79 ?_
  refine s_istore_n (lv' := [(2, .int (x28 + x29)), (3, .int y30), (0, va_rf x27), (4, .int x29)]) hK dX3_speculates_80 rfl (Nat.le_of_ble_eq_true rfl) rfl ?_
  refine s_goto (tgt := 4) hK dX3_speculates_81 (by decide) ?_
  refine s_sub [2, 0, 1] rfl ?_
  exact hrc x27 (x28 + x29) y30 h31
theorem sm_X3_speculates_L4 {G : GC} {K : SC} (hK : SOK G K RX3 cX3_speculates 6 (none) "speculates" []) (hf : FR_X3_speculates ≤ (kR K).frames) (hlo : LO_X3_speculates ≤ (kR K).locals) {k84 : AH → RS} (hk84 : ∀  (h : AH), Sim G K 6 (k84  h) h 84 [] []) : ∀ (n : Nat) (x1 : Option Nat) (x2 : Int32) (x3 : Int32) (h4 : AH), Sim G K 6 (f_X3_speculates_L4 k84 n x1 x2 x3 h4) h4 4 [(0, va_rf x1), (2, .int x2), (3, .int x3)] [] := by
  intro n
  induction n with
  | zero => intro x1 x2 x3 h4; exact s_none
  | succ n ih =>
    intro x1 x2 x3 h4
    rw [f_X3_speculates_L4]
    refine s_iload_n hK dX3_speculates_4 rfl 2 rfl ?_
    refine s_if_eq (tgt := 84) hK dX3_speculates_5 (by decide) (fun c33 => ?_) (fun c33 => ?_)
    · refine s_sub [] rfl ?_
      exact hk84  h4
    · refine s_aload_n hK dX3_speculates_8 rfl 0 rfl ?_
      refine s_iload_n hK dX3_speculates_9 rfl 1 rfl ?_
      refine s_rc (fun _ _ eo er => ?_)
      refine s_cI hK ho_n (cx_v (As := [.int x2]) (rest := []) hK dyX3_sort rfl q1914 fcX3.1 q1916 qs39 q80 q1917 eo er (ct_X3_sort hK.1 x1 x2 h4) (Nat.le_trans (Nat.le_of_ble_eq_true rfl) hf) (Nat.le_trans (Nat.le_of_ble_eq_true rfl) hlo) rk_n (Nat.le_of_ble_eq_true rfl) dX3_speculates_10 rfl) (fun v6 h5 => ?_)
      refine s_cI hK ho_n (cx_s (As := [.int v6]) (rest := []) hK dyX3_lengthOf rfl q1918 q1919 q80 q1920 (ct_X3_lengthOf hK.1 v6 h5) (Nat.le_trans (Nat.le_of_ble_eq_true rfl) hf) (Nat.le_trans (Nat.le_of_ble_eq_true rfl) hlo) rk_n (Nat.le_of_ble_eq_true rfl) dX3_speculates_13 rfl) (fun v8 h7 => ?_)
      refine s_istore (lv' := [(4, .int v8), (0, va_rf x1), (2, .int x2), (3, .int x3)]) hK dX3_speculates_16 (Nat.le_of_ble_eq_true rfl) rfl ?_
      refine s_aload_n hK dX3_speculates_18 rfl 1 rfl ?_
      refine s_gA hK fcX3 18 (Nat.le_of_ble_eq_true rfl) (Or.inl q1702) (Or.inl rfl) dX3_speculates_19 (fun v9 => ?_)
      refine s_iload_n hK dX3_speculates_22 rfl 2 rfl ?_
      refine s_iload hK dX3_speculates_23 0 rfl ?_
      refine s_iast hK dX3_speculates_25 (fun h10 => ?_)
      refine s_iload_n hK dX3_speculates_26 rfl 2 rfl ?_
      refine s_istore (lv' := [(5, .int x2), (4, .int v8), (0, va_rf x1), (2, .int x2), (3, .int x3)]) hK dX3_speculates_27 (Nat.le_of_ble_eq_true rfl) rfl ?_
      refine s_sub [2, 3, 1, 0] rfl ?_
      refine sm_X3_speculates_L29 hK hf hlo (fun x19 x20 x21 h22 => ?_) FUEL x1 x2 v8 x2 h10
      · refine s_aload_n hK dX3_speculates_52 rfl 0 rfl ?_
        refine s_dup hK dX3_speculates_53 (va_cat _) ?_
        refine s_gI hK fcX3 29 (Nat.le_of_ble_eq_true rfl) (Or.inl q1713) (Or.inl rfl) dX3_speculates_54 (fun v23 => ?_)
        refine s_iconst (v := 1) hK dX3_speculates_57 rfl ?_
        refine s_iadd hK dX3_speculates_58 ?_
        refine s_pF hK fcX3 29 (Nat.le_of_ble_eq_true rfl) (Or.inl q1713) (Or.inl rfl) (Or.inl rfl) rfl rfl dX3_speculates_59 (fun h24 => ?_)
        refine s_aload_n hK dX3_speculates_62 rfl 0 rfl ?_
        refine s_iload_n hK dX3_speculates_63 rfl 1 rfl ?_
        refine s_rc (fun _ _ eo er => ?_)
        refine s_cI hK ho_n (cx_v (As := [.int x20]) (rest := []) hK dyX3_endsFlow rfl q1981 fcX3.1 q1983 qs53 q80 q1984 eo er (ct_X3_endsFlow hK.1 x19 x20 h24) (Nat.le_trans (Nat.le_of_ble_eq_true rfl) hf) (Nat.le_trans (Nat.le_of_ble_eq_true rfl) hlo) rk_n (Nat.le_of_ble_eq_true rfl) dX3_speculates_64 rfl) (fun v26 h25 => ?_)
        refine s_if_ne (tgt := 74) hK dX3_speculates_67 (by decide) (fun c32 => ?_) (fun c32 => ?_)
        · refine s_iconst (v := 0) hK dX3_speculates_74 rfl ?_
          exact sm_X3_speculates_J75 hK hf hlo ih hk84 x19 x20 x21 0 h25
        · refine s_iconst (v := 1) hK dX3_speculates_70 rfl ?_
          refine s_goto (tgt := 75) hK dX3_speculates_71 (by decide) ?_
          exact sm_X3_speculates_J75 hK hf hlo ih hk84 x19 x20 x21 1 h25
theorem sm_X3_speculates {G : GC} {K : SC} (hK : SOK G K RX3 cX3_speculates 6 (none) "speculates" []) (hf : FR_X3_speculates ≤ (kR K).frames) (hlo : LO_X3_speculates ≤ (kR K).locals) (p0 : Option Nat) (p1 : Int32) (h : AH) : Sim G K 6 (f_X3_speculates p0 p1 h) h 0 [(0, va_rf p0), (1, .int p1)] [] := by
  unfold f_X3_speculates
  refine s_iload_n hK dX3_speculates_0 rfl 1 rfl ?_
  refine s_istore_n (lv' := [(2, .int p1), (0, va_rf p0), (1, .int p1)]) hK dX3_speculates_1 rfl (Nat.le_of_ble_eq_true rfl) rfl ?_
  refine s_iconst (v := 1) hK dX3_speculates_2 rfl ?_
  refine s_istore_n (lv' := [(3, .int 1), (2, .int p1), (0, va_rf p0), (1, .int p1)]) hK dX3_speculates_3 rfl (Nat.le_of_ble_eq_true rfl) rfl ?_
  refine s_sub [2, 1, 0] rfl ?_
  refine sm_X3_speculates_L4 hK hf hlo (fun h34 => ?_) FUEL p0 p1 1 h
  · exact s_vret hK dX3_speculates_84
theorem ct_X3_speculates {G : GC} {l : Launch} (g : GOK G l) (p0 : Option Nat) (p1 : Int32) (h : AH) : CT G l yX3_speculates (Cond.code yX3_speculates cX3_speculates 6 (none)) 3 58 [va_rf p0, .int p1] (f_X3_speculates p0 p1 h) h :=
  CT.of g (by decide) (by simp only [ls_a, ls_i, ls_l, ls_n]; decide) (fun K _ hK hf hlo => by simp only [la_a, la_i, la_l, la_n]; exact sm_X3_speculates hK hf hlo p0 p1 h)
abbrev FR_X3_looksAtGaps : Nat := 6
abbrev LO_X3_looksAtGaps : Nat := 127
theorem dyX3_looksAtGaps : DY yX3_looksAtGaps 0 := ⟨⟨by decide, by decide⟩, by decide +kernel⟩
theorem sm_X3_looksAtGaps_L12 {G : GC} {K : SC} (hK : SOK G K RX3 cX3_looksAtGaps 3 (none) "looksAtGaps" []) (hf : FR_X3_looksAtGaps ≤ (kR K).frames) (hlo : LO_X3_looksAtGaps ≤ (kR K).locals) {k34 : Option Nat → Int32 → Int32 → AH → RS} (hk34 : ∀ (y0 : Option Nat) (y1 : Int32) (y2 : Int32) (h : AH), Sim G K 3 (k34 y0 y1 y2 h) h 34 [(0, va_rf y0), (1, .int y1), (2, .int y2)] []) : ∀ (n : Nat) (x5 : Option Nat) (x6 : Int32) (x7 : Int32) (h8 : AH), Sim G K 3 (f_X3_looksAtGaps_L12 k34 n x5 x6 x7 h8) h8 12 [(0, va_rf x5), (1, .int x6), (2, .int x7)] [] := by
  intro n
  induction n with
  | zero => intro x5 x6 x7 h8; exact s_none
  | succ n ih =>
    intro x5 x6 x7 h8
    rw [f_X3_looksAtGaps_L12]
    refine s_iload_n hK dX3_looksAtGaps_12 rfl 2 rfl ?_
    refine s_aload_n hK dX3_looksAtGaps_13 rfl 0 rfl ?_
    refine s_gI hK fcX3 5 (Nat.le_of_ble_eq_true rfl) (Or.inl q1689) (Or.inl rfl) dX3_looksAtGaps_14 (fun v9 => ?_)
    refine s_icmp_ge (tgt := 34) hK dX3_looksAtGaps_17 (by decide) (fun c13 => ?_) (fun c13 => ?_)
    · exact hk34 x5 x6 x7 h8
    · refine s_aload_n hK dX3_looksAtGaps_20 rfl 0 rfl ?_
      refine s_iload_n hK dX3_looksAtGaps_21 rfl 2 rfl ?_
      refine s_rc (fun _ _ eo er => ?_)
      refine s_cI hK ho_n (cx_v (As := [.int x7]) (rest := []) hK dyX3_isUsed rfl q1997 fcX3.1 q1999 qs57 q80 q2000 eo er (ct_X3_isUsed hK.1 x5 x7 h8) (Nat.le_trans (Nat.le_of_ble_eq_true rfl) hf) (Nat.le_trans (Nat.le_of_ble_eq_true rfl) hlo) rk_n (Nat.le_of_ble_eq_true rfl) dX3_looksAtGaps_22 rfl) (fun v11 h10 => ?_)
      refine s_if_ne (tgt := 34) hK dX3_looksAtGaps_25 (by decide) (fun c12 => ?_) (fun c12 => ?_)
      · exact hk34 x5 x6 x7 h10
      · refine s_iinc (j := 2) (v := 1) (lv' := [(2, .int (x7 + 1)), (0, va_rf x5), (1, .int x6)]) hK dX3_looksAtGaps_28 rfl rfl (Nat.le_of_ble_eq_true rfl) rfl ?_
        refine s_goto (tgt := 12) hK dX3_looksAtGaps_31 (by decide) ?_
        refine s_sub [1, 2, 0] rfl ?_
        exact ih x5 x6 (x7 + 1) h10
theorem sm_X3_looksAtGaps_J86 {G : GC} {K : SC} (hK : SOK G K RX3 cX3_looksAtGaps 3 (none) "looksAtGaps" []) (hf : FR_X3_looksAtGaps ≤ (kR K).frames) (hlo : LO_X3_looksAtGaps ≤ (kR K).locals) {rc : Option Nat → Int32 → AH → RS} (hrc : ∀ (y0 : Option Nat) (y1 : Int32) (h : AH), Sim G K 3 (rc y0 y1 h) h 2 [(0, va_rf y0), (1, .int y1)] []) {k93 : Option Nat → AH → RS} (hk93 : ∀ (y0 : Option Nat) (h : AH), Sim G K 3 (k93 y0 h) h 93 [(0, va_rf y0)] []) (x22 : Option Nat) (x23 : Int32)  (h24 : AH) : Sim G K 3 (f_X3_looksAtGaps_J86 rc k93 x22 x23 h24) h24 86 [(0, va_rf x22), (2, .int x23)] [] := by
  unfold f_X3_looksAtGaps_J86
  refine s_iload_n hK dX3_looksAtGaps_86 rfl 1 rfl ?_
  refine s_iconst (v := 1) hK dX3_looksAtGaps_87 rfl ?_
  refine s_iadd hK dX3_looksAtGaps_88 ?_
  refine s_istore_n (lv' := [(1, .int (x23 + 1)), (0, va_rf x22), (2, .int x23)]) hK dX3_looksAtGaps_89 rfl (Nat.le_of_ble_eq_true rfl) (flA (pre := []) (suf := [(2, .int x23)]) rfl rfl) ?_
  refine s_goto (tgt := 2) hK dX3_looksAtGaps_90 (by decide) ?_
  refine s_sub [1, 0] rfl ?_
  exact hrc x22 (x23 + 1) h24
theorem sm_X3_looksAtGaps_J34 {G : GC} {K : SC} (hK : SOK G K RX3 cX3_looksAtGaps 3 (none) "looksAtGaps" []) (hf : FR_X3_looksAtGaps ≤ (kR K).frames) (hlo : LO_X3_looksAtGaps ≤ (kR K).locals) {rc : Option Nat → Int32 → AH → RS} (hrc : ∀ (y0 : Option Nat) (y1 : Int32) (h : AH), Sim G K 3 (rc y0 y1 h) h 2 [(0, va_rf y0), (1, .int y1)] []) {k93 : Option Nat → AH → RS} (hk93 : ∀ (y0 : Option Nat) (h : AH), Sim G K 3 (k93 y0 h) h 93 [(0, va_rf y0)] []) (x18 : Option Nat) (x19 : Int32) (x20 : Int32)  (h21 : AH) : Sim G K 3 (f_X3_looksAtGaps_J34 rc k93 x18 x19 x20 h21) h21 34 [(0, va_rf x18), (1, .int x19), (2, .int x20)] [] := by
  unfold f_X3_looksAtGaps_J34
  refine s_iload_n hK dX3_looksAtGaps_34 rfl 2 rfl ?_
  refine s_iload_n hK dX3_looksAtGaps_35 rfl 1 rfl ?_
  refine s_icmp_le (tgt := 86) hK dX3_looksAtGaps_36 (by decide) (fun c38 => ?_) (fun c38 => ?_)
  · refine s_sub [0, 2] rfl ?_
    exact sm_X3_looksAtGaps_J86 hK hf hlo hrc hk93 x18 x20 h21
  · refine s_aload_n hK dX3_looksAtGaps_39 rfl 0 rfl ?_
    refine s_gA hK fcX3 36 (Nat.le_of_ble_eq_true rfl) (Or.inl q1720) (Or.inl rfl) dX3_looksAtGaps_40 (fun v25 => ?_)
    refine s_aload_n hK dX3_looksAtGaps_43 rfl 0 rfl ?_
    refine s_gI hK fcX3 28 (Nat.le_of_ble_eq_true rfl) (Or.inl q1712) (Or.inl rfl) dX3_looksAtGaps_44 (fun v26 => ?_)
    refine s_iload_n hK dX3_looksAtGaps_47 rfl 1 rfl ?_
    refine s_iast hK dX3_looksAtGaps_48 (fun h27 => ?_)
    refine s_aload_n hK dX3_looksAtGaps_49 rfl 0 rfl ?_
    refine s_gA hK fcX3 37 (Nat.le_of_ble_eq_true rfl) (Or.inl q1721) (Or.inl rfl) dX3_looksAtGaps_50 (fun v28 => ?_)
    refine s_aload_n hK dX3_looksAtGaps_53 rfl 0 rfl ?_
    refine s_gI hK fcX3 28 (Nat.le_of_ble_eq_true rfl) (Or.inl q1712) (Or.inl rfl) dX3_looksAtGaps_54 (fun v29 => ?_)
    refine s_iload_n hK dX3_looksAtGaps_57 rfl 2 rfl ?_
    refine s_iload_n hK dX3_looksAtGaps_58 rfl 1 rfl ?_
    refine s_isub hK dX3_looksAtGaps_59 ?_
    refine s_iast hK dX3_looksAtGaps_60 (fun h30 => ?_)
    refine s_aload_n hK dX3_looksAtGaps_61 rfl 0 rfl ?_
    refine s_gA hK fcX3 38 (Nat.le_of_ble_eq_true rfl) (Or.inl q1722) (Or.inl rfl) dX3_looksAtGaps_62 (fun v31 => ?_)
    refine s_aload_n hK dX3_looksAtGaps_65 rfl 0 rfl ?_
    refine s_gI hK fcX3 28 (Nat.le_of_ble_eq_true rfl) (Or.inl q1712) (Or.inl rfl) dX3_looksAtGaps_66 (fun v32 => ?_)
    refine s_aload_n hK dX3_looksAtGaps_69 rfl 0 rfl ?_
    refine s_iload_n hK dX3_looksAtGaps_70 rfl 1 rfl ?_
    refine s_iload_n hK dX3_looksAtGaps_71 rfl 2 rfl ?_
    refine s_rc (fun _ _ eo er => ?_)
    refine s_cI hK ho_n (cx_v (As := [.int x19, .int x20]) (rest := [.int v32, va_rf v31]) hK dyX3_tested rfl q2001 fcX3.1 q2003 qs58 q80 q2004 eo er (ct_X3_tested hK.1 x18 x19 x20 h30) (Nat.le_trans (Nat.le_of_ble_eq_true rfl) hf) (Nat.le_trans (Nat.le_of_ble_eq_true rfl) hlo) (rk_i (rk_a rk_n)) (Nat.le_of_ble_eq_true rfl) dX3_looksAtGaps_72 rfl) (fun v34 h33 => ?_)
    refine s_iast hK dX3_looksAtGaps_75 (fun h35 => ?_)
    refine s_aload_n hK dX3_looksAtGaps_76 rfl 0 rfl ?_
    refine s_dup hK dX3_looksAtGaps_77 (va_cat _) ?_
    refine s_gI hK fcX3 28 (Nat.le_of_ble_eq_true rfl) (Or.inl q1712) (Or.inl rfl) dX3_looksAtGaps_78 (fun v36 => ?_)
    refine s_iconst (v := 1) hK dX3_looksAtGaps_81 rfl ?_
    refine s_iadd hK dX3_looksAtGaps_82 ?_
    refine s_pF hK fcX3 28 (Nat.le_of_ble_eq_true rfl) (Or.inl q1712) (Or.inl rfl) (Or.inl rfl) rfl rfl dX3_looksAtGaps_83 (fun h37 => ?_)
    refine s_sub [0, 2] rfl ?_
    exact sm_X3_looksAtGaps_J86 hK hf hlo hrc hk93 x18 x20 h37
theorem sm_X3_looksAtGaps_L2 {G : GC} {K : SC} (hK : SOK G K RX3 cX3_looksAtGaps 3 (none) "looksAtGaps" []) (hf : FR_X3_looksAtGaps ≤ (kR K).frames) (hlo : LO_X3_looksAtGaps ≤ (kR K).locals) {k93 : Option Nat → AH → RS} (hk93 : ∀ (y0 : Option Nat) (h : AH), Sim G K 3 (k93 y0 h) h 93 [(0, va_rf y0)] []) : ∀ (n : Nat) (x1 : Option Nat) (x2 : Int32) (h3 : AH), Sim G K 3 (f_X3_looksAtGaps_L2 k93 n x1 x2 h3) h3 2 [(0, va_rf x1), (1, .int x2)] [] := by
  intro n
  induction n with
  | zero => intro x1 x2 h3; exact s_none
  | succ n ih =>
    intro x1 x2 h3
    rw [f_X3_looksAtGaps_L2]
    refine s_iload_n hK dX3_looksAtGaps_2 rfl 1 rfl ?_
    refine s_aload_n hK dX3_looksAtGaps_3 rfl 0 rfl ?_
    refine s_gI hK fcX3 5 (Nat.le_of_ble_eq_true rfl) (Or.inl q1689) (Or.inl rfl) dX3_looksAtGaps_4 (fun v4 => ?_)
    refine s_icmp_ge (tgt := 93) hK dX3_looksAtGaps_7 (by decide) (fun c39 => ?_) (fun c39 => ?_)
    · refine s_sub [0] rfl ?_
      exact hk93 x1 h3
    · refine s_iload_n hK dX3_looksAtGaps_10 rfl 1 rfl ?_
      refine s_istore_n (lv' := [(2, .int x2), (0, va_rf x1), (1, .int x2)]) hK dX3_looksAtGaps_11 rfl (Nat.le_of_ble_eq_true rfl) rfl ?_
      refine s_sub [1, 2, 0] rfl ?_
      refine sm_X3_looksAtGaps_L12 hK hf hlo (fun x14 x15 x16 h17 => ?_) FUEL x1 x2 x2 h3
      · exact sm_X3_looksAtGaps_J34 hK hf hlo ih hk93 x14 x15 x16 h17
theorem sm_X3_looksAtGaps_J126 {G : GC} {K : SC} (hK : SOK G K RX3 cX3_looksAtGaps 3 (none) "looksAtGaps" []) (hf : FR_X3_looksAtGaps ≤ (kR K).frames) (hlo : LO_X3_looksAtGaps ≤ (kR K).locals) {rc : Option Nat → Int32 → AH → RS} (hrc : ∀ (y0 : Option Nat) (y1 : Int32) (h : AH), Sim G K 3 (rc y0 y1 h) h 95 [(0, va_rf y0), (2, .int y1)] []) {k132 : AH → RS} (hk132 : ∀  (h : AH), Sim G K 3 (k132  h) h 132 [] []) (x49 : Option Nat) (x50 : Int32)  (h51 : AH) : Sim G K 3 (f_X3_looksAtGaps_J126 rc k132 x49 x50 h51) h51 126 [(0, va_rf x49), (2, .int x50)] [] := by
  unfold f_X3_looksAtGaps_J126
  refine s_iinc (j := 1) (v := 1) (lv' := [(2, .int (x50 + 1)), (0, va_rf x49)]) hK dX3_looksAtGaps_126 rfl rfl (Nat.le_of_ble_eq_true rfl) rfl ?_
  refine s_goto (tgt := 95) hK dX3_looksAtGaps_129 (by decide) ?_
  refine s_sub [1, 0] rfl ?_
  exact hrc x49 (x50 + 1) h51
theorem sm_X3_looksAtGaps_L95 {G : GC} {K : SC} (hK : SOK G K RX3 cX3_looksAtGaps 3 (none) "looksAtGaps" []) (hf : FR_X3_looksAtGaps ≤ (kR K).frames) (hlo : LO_X3_looksAtGaps ≤ (kR K).locals) {k132 : AH → RS} (hk132 : ∀  (h : AH), Sim G K 3 (k132  h) h 132 [] []) : ∀ (n : Nat) (x42 : Option Nat) (x43 : Int32) (h44 : AH), Sim G K 3 (f_X3_looksAtGaps_L95 k132 n x42 x43 h44) h44 95 [(0, va_rf x42), (2, .int x43)] [] := by
  intro n
  induction n with
  | zero => intro x42 x43 h44; exact s_none
  | succ n ih =>
    intro x42 x43 h44
    rw [f_X3_looksAtGaps_L95]
    refine s_iload_n hK dX3_looksAtGaps_95 rfl 1 rfl ?_
    refine s_aload_n hK dX3_looksAtGaps_96 rfl 0 rfl ?_
    refine s_gI hK fcX3 28 (Nat.le_of_ble_eq_true rfl) (Or.inl q1712) (Or.inl rfl) dX3_looksAtGaps_97 (fun v45 => ?_)
    refine s_icmp_ge (tgt := 132) hK dX3_looksAtGaps_100 (by decide) (fun c56 => ?_) (fun c56 => ?_)
    · refine s_sub [] rfl ?_
      exact hk132  h44
    · refine s_aload_n hK dX3_looksAtGaps_103 rfl 0 rfl ?_
      refine s_gA hK fcX3 38 (Nat.le_of_ble_eq_true rfl) (Or.inl q1722) (Or.inl rfl) dX3_looksAtGaps_104 (fun v46 => ?_)
      refine s_iload_n hK dX3_looksAtGaps_107 rfl 1 rfl ?_
      refine s_iald hK dX3_looksAtGaps_108 (fun v47 => ?_)
      refine s_aload_n hK dX3_looksAtGaps_109 rfl 0 rfl ?_
      refine s_gI hK fcX3 7 (Nat.le_of_ble_eq_true rfl) (Or.inl q1691) (Or.inl rfl) dX3_looksAtGaps_110 (fun v48 => ?_)
      refine s_icmp_lt (tgt := 126) hK dX3_looksAtGaps_113 (by decide) (fun c55 => ?_) (fun c55 => ?_)
      · exact sm_X3_looksAtGaps_J126 hK hf hlo ih hk132 x42 x43 h44
      · refine s_aload_n hK dX3_looksAtGaps_116 rfl 0 rfl ?_
        refine s_aload_n hK dX3_looksAtGaps_117 rfl 0 rfl ?_
        refine s_gA hK fcX3 36 (Nat.le_of_ble_eq_true rfl) (Or.inl q1720) (Or.inl rfl) dX3_looksAtGaps_118 (fun v52 => ?_)
        refine s_iload_n hK dX3_looksAtGaps_121 rfl 1 rfl ?_
        refine s_iald hK dX3_looksAtGaps_122 (fun v53 => ?_)
        refine s_rc (fun _ _ eo er => ?_)
        refine s_cV hK ho_n (cx_v (As := [.int v53]) (rest := []) hK dyX3_speculates rfl q2013 fcX3.1 q2015 qs61 q80 q2016 eo er (ct_X3_speculates hK.1 x42 v53 h44) (Nat.le_trans (Nat.le_of_ble_eq_true rfl) hf) (Nat.le_trans (Nat.le_of_ble_eq_true rfl) hlo) rk_n (Nat.le_of_ble_eq_true rfl) dX3_looksAtGaps_123 rfl) (fun h54 => ?_)
        exact sm_X3_looksAtGaps_J126 hK hf hlo ih hk132 x42 x43 h54
theorem sm_X3_looksAtGaps {G : GC} {K : SC} (hK : SOK G K RX3 cX3_looksAtGaps 3 (none) "looksAtGaps" []) (hf : FR_X3_looksAtGaps ≤ (kR K).frames) (hlo : LO_X3_looksAtGaps ≤ (kR K).locals) (p0 : Option Nat) (h : AH) : Sim G K 3 (f_X3_looksAtGaps p0 h) h 0 [(0, va_rf p0)] [] := by
  unfold f_X3_looksAtGaps
  refine s_iconst (v := 0) hK dX3_looksAtGaps_0 rfl ?_
  refine s_istore_n (lv' := [(1, .int 0), (0, va_rf p0)]) hK dX3_looksAtGaps_1 rfl (Nat.le_of_ble_eq_true rfl) (flA (pre := []) (suf := []) rfl rfl) ?_
  refine s_sub [1, 0] rfl ?_
  refine sm_X3_looksAtGaps_L2 hK hf hlo (fun x40 h41 => ?_) FUEL p0 0 h
  · refine s_iconst (v := 0) hK dX3_looksAtGaps_93 rfl ?_
    refine s_istore_n (lv' := [(2, .int 0), (0, va_rf x40)]) hK dX3_looksAtGaps_94 rfl (Nat.le_of_ble_eq_true rfl) rfl ?_
    refine s_sub [1, 0] rfl ?_
    refine sm_X3_looksAtGaps_L95 hK hf hlo (fun h57 => ?_) FUEL x40 0 h41
    · exact s_vret hK dX3_looksAtGaps_132
theorem ct_X3_looksAtGaps {G : GC} {l : Launch} (g : GOK G l) (p0 : Option Nat) (h : AH) : CT G l yX3_looksAtGaps (Cond.code yX3_looksAtGaps cX3_looksAtGaps 3 (none)) 6 127 [va_rf p0] (f_X3_looksAtGaps p0 h) h :=
  CT.of g (by decide) (by simp only [ls_a, ls_i, ls_l, ls_n]; decide) (fun K _ hK hf hlo => by simp only [la_a, la_i, la_l, la_n]; exact sm_X3_looksAtGaps hK hf hlo p0 h)
abbrev FR_X3_recover : Nat := 8
abbrev LO_X3_recover : Nat := 176
theorem dyX3_recover : DY yX3_recover 0 := ⟨⟨by decide, by decide⟩, by decide +kernel⟩
theorem sm_X3_recover_L7 {G : GC} {K : SC} (hK : SOK G K RX3 cX3_recover 2 (some (.int)) "recover" []) (hf : FR_X3_recover ≤ (kR K).frames) (hlo : LO_X3_recover ≤ (kR K).locals) {k54 : Option Nat → AH → RS} (hk54 : ∀ (y0 : Option Nat) (h : AH), Sim G K 2 (k54 y0 h) h 54 [(0, va_rf y0)] []) : ∀ (n : Nat) (x2 : Option Nat) (x3 : Int32) (h4 : AH), Sim G K 2 (f_X3_recover_L7 k54 n x2 x3 h4) h4 7 [(0, va_rf x2), (1, .int x3)] [] := by
  intro n
  induction n with
  | zero => intro x2 x3 h4; exact s_none
  | succ n ih =>
    intro x2 x3 h4
    rw [f_X3_recover_L7]
    refine s_iload_n hK dX3_recover_7 rfl 1 rfl ?_
    refine s_bipush (v := 96) hK dX3_recover_8 rfl ?_
    refine s_icmp_ge (tgt := 54) hK dX3_recover_10 (by decide) (fun c15 => ?_) (fun c15 => ?_)
    · refine s_sub [0] rfl ?_
      exact hk54 x2 h4
    · refine s_aload_n hK dX3_recover_13 rfl 0 rfl ?_
      refine s_gA hK fcX3 16 (Nat.le_of_ble_eq_true rfl) (Or.inl q1700) (Or.inl rfl) dX3_recover_14 (fun v5 => ?_)
      refine s_iload_n hK dX3_recover_17 rfl 1 rfl ?_
      refine s_iconst (v := 0) hK dX3_recover_18 rfl ?_
      refine s_iast hK dX3_recover_19 (fun h6 => ?_)
      refine s_aload_n hK dX3_recover_20 rfl 0 rfl ?_
      refine s_gA hK fcX3 17 (Nat.le_of_ble_eq_true rfl) (Or.inl q1701) (Or.inl rfl) dX3_recover_21 (fun v7 => ?_)
      refine s_iload_n hK dX3_recover_24 rfl 1 rfl ?_
      refine s_iconst (v := (-1)) hK dX3_recover_25 rfl ?_
      refine s_iast hK dX3_recover_26 (fun h8 => ?_)
      refine s_aload_n hK dX3_recover_27 rfl 0 rfl ?_
      refine s_gA hK fcX3 18 (Nat.le_of_ble_eq_true rfl) (Or.inl q1702) (Or.inl rfl) dX3_recover_28 (fun v9 => ?_)
      refine s_iload_n hK dX3_recover_31 rfl 1 rfl ?_
      refine s_iconst (v := 0) hK dX3_recover_32 rfl ?_
      refine s_iast hK dX3_recover_33 (fun h10 => ?_)
      refine s_aload_n hK dX3_recover_34 rfl 0 rfl ?_
      refine s_gA hK fcX3 19 (Nat.le_of_ble_eq_true rfl) (Or.inl q1703) (Or.inl rfl) dX3_recover_35 (fun v11 => ?_)
      refine s_iload_n hK dX3_recover_38 rfl 1 rfl ?_
      refine s_iconst (v := (-1)) hK dX3_recover_39 rfl ?_
      refine s_iast hK dX3_recover_40 (fun h12 => ?_)
      refine s_aload_n hK dX3_recover_41 rfl 0 rfl ?_
      refine s_gA hK fcX3 20 (Nat.le_of_ble_eq_true rfl) (Or.inl q1704) (Or.inl rfl) dX3_recover_42 (fun v13 => ?_)
      refine s_iload_n hK dX3_recover_45 rfl 1 rfl ?_
      refine s_iconst (v := 0) hK dX3_recover_46 rfl ?_
      refine s_zast hK dX3_recover_47 (fun h14 => ?_)
      refine s_iinc (j := 1) (v := 1) (lv' := [(1, .int (x3 + 1)), (0, va_rf x2)]) hK dX3_recover_48 rfl rfl (Nat.le_of_ble_eq_true rfl) (flA (pre := []) (suf := [(1, .int x3)]) rfl rfl) ?_
      refine s_goto (tgt := 7) hK dX3_recover_51 (by decide) ?_
      refine s_sub [1, 0] rfl ?_
      exact ih x2 (x3 + 1) h14
theorem sm_X3_recover_L56 {G : GC} {K : SC} (hK : SOK G K RX3 cX3_recover 2 (some (.int)) "recover" []) (hf : FR_X3_recover ≤ (kR K).frames) (hlo : LO_X3_recover ≤ (kR K).locals) {k76 : Option Nat → AH → RS} (hk76 : ∀ (y0 : Option Nat) (h : AH), Sim G K 2 (k76 y0 h) h 76 [(0, va_rf y0)] []) : ∀ (n : Nat) (x18 : Option Nat) (x19 : Int32) (h20 : AH), Sim G K 2 (f_X3_recover_L56 k76 n x18 x19 h20) h20 56 [(0, va_rf x18), (1, .int x19)] [] := by
  intro n
  induction n with
  | zero => intro x18 x19 h20; exact s_none
  | succ n ih =>
    intro x18 x19 h20
    rw [f_X3_recover_L56]
    refine s_iload_n hK dX3_recover_56 rfl 1 rfl ?_
    refine s_sipush (v := 256) hK dX3_recover_57 rfl ?_
    refine s_icmp_ge (tgt := 76) hK dX3_recover_60 (by decide) (fun c23 => ?_) (fun c23 => ?_)
    · refine s_sub [0] rfl ?_
      exact hk76 x18 h20
    · refine s_aload_n hK dX3_recover_63 rfl 0 rfl ?_
      refine s_gA hK fcX3 21 (Nat.le_of_ble_eq_true rfl) (Or.inl q1705) (Or.inl rfl) dX3_recover_64 (fun v21 => ?_)
      refine s_iload_n hK dX3_recover_67 rfl 1 rfl ?_
      refine s_iconst (v := 0) hK dX3_recover_68 rfl ?_
      refine s_zast hK dX3_recover_69 (fun h22 => ?_)
      refine s_iinc (j := 1) (v := 1) (lv' := [(1, .int (x19 + 1)), (0, va_rf x18)]) hK dX3_recover_70 rfl rfl (Nat.le_of_ble_eq_true rfl) (flA (pre := []) (suf := [(1, .int x19)]) rfl rfl) ?_
      refine s_goto (tgt := 56) hK dX3_recover_73 (by decide) ?_
      refine s_sub [1, 0] rfl ?_
      exact ih x18 (x19 + 1) h22
theorem sm_X3_recover_L113 {G : GC} {K : SC} (hK : SOK G K RX3 cX3_recover 2 (some (.int)) "recover" []) (hf : FR_X3_recover ≤ (kR K).frames) (hlo : LO_X3_recover ≤ (kR K).locals) {k137 : Option Nat → AH → RS} (hk137 : ∀ (y0 : Option Nat) (h : AH), Sim G K 2 (k137 y0 h) h 137 [(0, va_rf y0)] []) : ∀ (n : Nat) (x33 : Option Nat) (x34 : Int32) (h35 : AH), Sim G K 2 (f_X3_recover_L113 k137 n x33 x34 h35) h35 113 [(0, va_rf x33), (1, .int x34)] [] := by
  intro n
  induction n with
  | zero => intro x33 x34 h35; exact s_none
  | succ n ih =>
    intro x33 x34 h35
    rw [f_X3_recover_L113]
    refine s_iload_n hK dX3_recover_113 rfl 1 rfl ?_
    refine s_aload_n hK dX3_recover_114 rfl 0 rfl ?_
    refine s_gI hK fcX3 6 (Nat.le_of_ble_eq_true rfl) (Or.inl q1690) (Or.inl rfl) dX3_recover_115 (fun v36 => ?_)
    refine s_icmp_ge (tgt := 137) hK dX3_recover_118 (by decide) (fun c40 => ?_) (fun c40 => ?_)
    · refine s_sub [0] rfl ?_
      exact hk137 x33 h35
    · refine s_aload_n hK dX3_recover_121 rfl 0 rfl ?_
      refine s_aload_n hK dX3_recover_122 rfl 0 rfl ?_
      refine s_gA hK fcX3 3 (Nat.le_of_ble_eq_true rfl) (Or.inl q1687) (Or.inl rfl) dX3_recover_123 (fun v37 => ?_)
      refine s_iload_n hK dX3_recover_126 rfl 1 rfl ?_
      refine s_iald hK dX3_recover_127 (fun v38 => ?_)
      refine s_rc (fun _ _ eo er => ?_)
      refine s_cV hK ho_n (cx_v (As := [.int v38]) (rest := []) hK dyX3_adds rfl q1945 fcX3.1 q1947 qs44 q80 q1948 eo er (ct_X3_adds hK.1 x33 v38 h35) (Nat.le_trans (Nat.le_of_ble_eq_true rfl) hf) (Nat.le_trans (Nat.le_of_ble_eq_true rfl) hlo) rk_n (Nat.le_of_ble_eq_true rfl) dX3_recover_128 rfl) (fun h39 => ?_)
      refine s_iinc (j := 1) (v := 1) (lv' := [(1, .int (x34 + 1)), (0, va_rf x33)]) hK dX3_recover_131 rfl rfl (Nat.le_of_ble_eq_true rfl) (flA (pre := []) (suf := [(1, .int x34)]) rfl rfl) ?_
      refine s_goto (tgt := 113) hK dX3_recover_134 (by decide) ?_
      refine s_sub [1, 0] rfl ?_
      exact ih x33 (x34 + 1) h39
theorem sm_X3_recover_L139 {G : GC} {K : SC} (hK : SOK G K RX3 cX3_recover 2 (some (.int)) "recover" []) (hf : FR_X3_recover ≤ (kR K).frames) (hlo : LO_X3_recover ≤ (kR K).locals) {k163 : Option Nat → AH → RS} (hk163 : ∀ (y0 : Option Nat) (h : AH), Sim G K 2 (k163 y0 h) h 163 [(0, va_rf y0)] []) : ∀ (n : Nat) (x43 : Option Nat) (x44 : Int32) (h45 : AH), Sim G K 2 (f_X3_recover_L139 k163 n x43 x44 h45) h45 139 [(0, va_rf x43), (1, .int x44)] [] := by
  intro n
  induction n with
  | zero => intro x43 x44 h45; exact s_none
  | succ n ih =>
    intro x43 x44 h45
    rw [f_X3_recover_L139]
    refine s_iload_n hK dX3_recover_139 rfl 1 rfl ?_
    refine s_aload_n hK dX3_recover_140 rfl 0 rfl ?_
    refine s_gI hK fcX3 23 (Nat.le_of_ble_eq_true rfl) (Or.inl q1707) (Or.inl rfl) dX3_recover_141 (fun v46 => ?_)
    refine s_icmp_ge (tgt := 163) hK dX3_recover_144 (by decide) (fun c50 => ?_) (fun c50 => ?_)
    · refine s_sub [0] rfl ?_
      exact hk163 x43 h45
    · refine s_aload_n hK dX3_recover_147 rfl 0 rfl ?_
      refine s_aload_n hK dX3_recover_148 rfl 0 rfl ?_
      refine s_gA hK fcX3 22 (Nat.le_of_ble_eq_true rfl) (Or.inl q1706) (Or.inl rfl) dX3_recover_149 (fun v47 => ?_)
      refine s_iload_n hK dX3_recover_152 rfl 1 rfl ?_
      refine s_iald hK dX3_recover_153 (fun v48 => ?_)
      refine s_rc (fun _ _ eo er => ?_)
      refine s_cV hK ho_n (cx_v (As := [.int v48]) (rest := []) hK dyX3_follows rfl q1949 fcX3.1 q1951 qs45 q80 q1952 eo er (ct_X3_follows hK.1 x43 v48 h45) (Nat.le_trans (Nat.le_of_ble_eq_true rfl) hf) (Nat.le_trans (Nat.le_of_ble_eq_true rfl) hlo) rk_n (Nat.le_of_ble_eq_true rfl) dX3_recover_154 rfl) (fun h49 => ?_)
      refine s_iinc (j := 1) (v := 1) (lv' := [(1, .int (x44 + 1)), (0, va_rf x43)]) hK dX3_recover_157 rfl rfl (Nat.le_of_ble_eq_true rfl) (flA (pre := []) (suf := [(1, .int x44)]) rfl rfl) ?_
      refine s_goto (tgt := 139) hK dX3_recover_160 (by decide) ?_
      refine s_sub [1, 0] rfl ?_
      exact ih x43 (x44 + 1) h49
theorem sm_X3_recover {G : GC} {K : SC} (hK : SOK G K RX3 cX3_recover 2 (some (.int)) "recover" []) (hf : FR_X3_recover ≤ (kR K).frames) (hlo : LO_X3_recover ≤ (kR K).locals) (p0 : Option Nat) (h : AH) : Sim G K 2 (f_X3_recover p0 h) h 0 [(0, va_rf p0)] [] := by
  unfold f_X3_recover
  refine s_aload_n hK dX3_recover_0 rfl 0 rfl ?_
  refine s_iconst (v := 0) hK dX3_recover_1 rfl ?_
  refine s_pF hK fcX3 0 (Nat.le_of_ble_eq_true rfl) (Or.inl q1684) (Or.inl rfl) (Or.inl rfl) rfl rfl dX3_recover_2 (fun h1 => ?_)
  refine s_iconst (v := 0) hK dX3_recover_5 rfl ?_
  refine s_istore_n (lv' := [(1, .int 0), (0, va_rf p0)]) hK dX3_recover_6 rfl (Nat.le_of_ble_eq_true rfl) (flA (pre := []) (suf := []) rfl rfl) ?_
  refine s_sub [1, 0] rfl ?_
  refine sm_X3_recover_L7 hK hf hlo (fun x16 h17 => ?_) FUEL p0 0 h1
  · refine s_iconst (v := 0) hK dX3_recover_54 rfl ?_
    refine s_istore_n (lv' := [(1, .int 0), (0, va_rf x16)]) hK dX3_recover_55 rfl (Nat.le_of_ble_eq_true rfl) (flA (pre := []) (suf := []) rfl rfl) ?_
    refine s_sub [1, 0] rfl ?_
    refine sm_X3_recover_L56 hK hf hlo (fun x24 h25 => ?_) FUEL x16 0 h17
    · refine s_aload_n hK dX3_recover_76 rfl 0 rfl ?_
      refine s_iconst (v := 0) hK dX3_recover_77 rfl ?_
      refine s_pF hK fcX3 23 (Nat.le_of_ble_eq_true rfl) (Or.inl q1707) (Or.inl rfl) (Or.inl rfl) rfl rfl dX3_recover_78 (fun h26 => ?_)
      refine s_aload_n hK dX3_recover_81 rfl 0 rfl ?_
      refine s_iconst (v := 0) hK dX3_recover_82 rfl ?_
      refine s_pF hK fcX3 24 (Nat.le_of_ble_eq_true rfl) (Or.inl q1708) (Or.inl rfl) (Or.inl rfl) rfl rfl dX3_recover_83 (fun h27 => ?_)
      refine s_aload_n hK dX3_recover_86 rfl 0 rfl ?_
      refine s_iconst (v := 0) hK dX3_recover_87 rfl ?_
      refine s_pF hK fcX3 25 (Nat.le_of_ble_eq_true rfl) (Or.inl q1709) (Or.inl rfl) (Or.inl rfl) rfl rfl dX3_recover_88 (fun h28 => ?_)
      refine s_aload_n hK dX3_recover_91 rfl 0 rfl ?_
      refine s_iconst (v := 0) hK dX3_recover_92 rfl ?_
      refine s_pF hK fcX3 26 (Nat.le_of_ble_eq_true rfl) (Or.inl q1710) (Or.inl rfl) (Or.inl rfl) rfl rfl dX3_recover_93 (fun h29 => ?_)
      refine s_aload_n hK dX3_recover_96 rfl 0 rfl ?_
      refine s_iconst (v := 0) hK dX3_recover_97 rfl ?_
      refine s_pF hK fcX3 27 (Nat.le_of_ble_eq_true rfl) (Or.inl q1711) (Or.inl rfl) (Or.inl rfl) rfl rfl dX3_recover_98 (fun h30 => ?_)
      refine s_aload_n hK dX3_recover_101 rfl 0 rfl ?_
      refine s_iconst (v := 0) hK dX3_recover_102 rfl ?_
      refine s_pF hK fcX3 28 (Nat.le_of_ble_eq_true rfl) (Or.inl q1712) (Or.inl rfl) (Or.inl rfl) rfl rfl dX3_recover_103 (fun h31 => ?_)
      refine s_aload_n hK dX3_recover_106 rfl 0 rfl ?_
      refine s_iconst (v := 0) hK dX3_recover_107 rfl ?_
      refine s_pF hK fcX3 29 (Nat.le_of_ble_eq_true rfl) (Or.inl q1713) (Or.inl rfl) (Or.inl rfl) rfl rfl dX3_recover_108 (fun h32 => ?_)
      refine s_iconst (v := 0) hK dX3_recover_111 rfl ?_
      refine s_istore_n (lv' := [(1, .int 0), (0, va_rf x24)]) hK dX3_recover_112 rfl (Nat.le_of_ble_eq_true rfl) (flA (pre := []) (suf := []) rfl rfl) ?_
      refine s_sub [1, 0] rfl ?_
      refine sm_X3_recover_L113 hK hf hlo (fun x41 h42 => ?_) FUEL x24 0 h32
      · refine s_iconst (v := 0) hK dX3_recover_137 rfl ?_
        refine s_istore_n (lv' := [(1, .int 0), (0, va_rf x41)]) hK dX3_recover_138 rfl (Nat.le_of_ble_eq_true rfl) (flA (pre := []) (suf := []) rfl rfl) ?_
        refine s_sub [1, 0] rfl ?_
        refine sm_X3_recover_L139 hK hf hlo (fun x51 h52 => ?_) FUEL x41 0 h42
        · refine s_aload_n hK dX3_recover_163 rfl 0 rfl ?_
          refine s_rc (fun _ _ eo er => ?_)
          refine s_cV hK ho_n (cx_v (As := []) (rest := []) hK dyX3_looksAtGaps rfl q1993 fcX3.1 q1995 qs56 q80 q1996 eo er (ct_X3_looksAtGaps hK.1 x51 h52) (Nat.le_trans (Nat.le_of_ble_eq_true rfl) hf) (Nat.le_trans (Nat.le_of_ble_eq_true rfl) hlo) rk_n (Nat.le_of_ble_eq_true rfl) dX3_recover_164 rfl) (fun h53 => ?_)
          refine s_aload_n hK dX3_recover_167 rfl 0 rfl ?_
          refine s_iconst (v := 1) hK dX3_recover_168 rfl ?_
          refine s_pZ hK fcX3 15 (Nat.le_of_ble_eq_true rfl) (Or.inl q1699) (Or.inl rfl) (Or.inl rfl) rfl dX3_recover_169 (fun h54 => ?_)
          refine s_aload_n hK dX3_recover_172 rfl 0 rfl ?_
          refine s_gI hK fcX3 24 (Nat.le_of_ble_eq_true rfl) (Or.inl q1708) (Or.inl rfl) dX3_recover_173 (fun v55 => ?_)
          exact s_iret hK dX3_recover_176
theorem ct_X3_recover {G : GC} {l : Launch} (g : GOK G l) (p0 : Option Nat) (h : AH) : CT G l yX3_recover (Cond.code yX3_recover cX3_recover 2 (some (.int))) 8 176 [va_rf p0] (f_X3_recover p0 h) h :=
  CT.of g (by decide) (by simp only [ls_a, ls_i, ls_l, ls_n]; decide) (fun K _ hK hf hlo => by simp only [la_a, la_i, la_l, la_n]; exact sm_X3_recover hK hf hlo p0 h)
abbrev FR_X3_ofRecovery : Nat := 1
abbrev LO_X3_ofRecovery : Nat := 16
theorem dyX3_ofRecovery : DY yX3_ofRecovery 1 := ⟨⟨by decide, by decide⟩, by decide +kernel⟩
theorem sm_X3_ofRecovery_J13 {G : GC} {K : SC} (hK : SOK G K RX3 cX3_ofRecovery 2 (some (.int)) "ofRecovery" []) (hf : FR_X3_ofRecovery ≤ (kR K).frames) (hlo : LO_X3_ofRecovery ≤ (kR K).locals) (x2 : Option Nat) (x3 : Int32) (y4 : Int32) (y5 : Option Nat) (h6 : AH) : Sim G K 2 (f_X3_ofRecovery_J13 x2 x3 y4 y5 h6) h6 13 [(0, va_rf x2), (1, .int x3)] [.int y4, va_rf y5] := by
  unfold f_X3_ofRecovery_J13
  refine s_pF hK fcX3 0 (Nat.le_of_ble_eq_true rfl) (Or.inl q1684) (Or.inl rfl) (Or.inl rfl) rfl rfl dX3_ofRecovery_13 (fun h7 => ?_)
  refine s_aload_n hK dX3_ofRecovery_16 rfl 0 rfl ?_
  refine s_gI hK fcX3 15 (Nat.le_of_ble_eq_true rfl) (Or.inl q1699) (Or.inl rfl) dX3_ofRecovery_17 (fun v8 => ?_)
  refine s_if_eq (tgt := 27) hK dX3_ofRecovery_20 (by decide) (fun c9 => ?_) (fun c9 => ?_)
  · refine s_iconst (v := 0) hK dX3_ofRecovery_27 rfl ?_
    exact s_iret hK dX3_ofRecovery_28
  · refine s_iload_n hK dX3_ofRecovery_23 rfl 1 rfl ?_
    refine s_goto (tgt := 28) hK dX3_ofRecovery_24 (by decide) ?_
    exact s_iret hK dX3_ofRecovery_28
theorem sm_X3_ofRecovery {G : GC} {K : SC} (hK : SOK G K RX3 cX3_ofRecovery 2 (some (.int)) "ofRecovery" []) (hf : FR_X3_ofRecovery ≤ (kR K).frames) (hlo : LO_X3_ofRecovery ≤ (kR K).locals) (p0 : Option Nat) (p1 : Int32) (h : AH) : Sim G K 2 (f_X3_ofRecovery p0 p1 h) h 0 [(0, va_rf p0), (1, .int p1)] [] := by
  unfold f_X3_ofRecovery
  refine s_aload_n hK dX3_ofRecovery_0 rfl 0 rfl ?_
  refine s_aload_n hK dX3_ofRecovery_1 rfl 0 rfl ?_
  refine s_gI hK fcX3 15 (Nat.le_of_ble_eq_true rfl) (Or.inl q1699) (Or.inl rfl) dX3_ofRecovery_2 (fun v1 => ?_)
  refine s_if_eq (tgt := 12) hK dX3_ofRecovery_5 (by decide) (fun c10 => ?_) (fun c10 => ?_)
  · refine s_iconst (v := 1) hK dX3_ofRecovery_12 rfl ?_
    exact sm_X3_ofRecovery_J13 hK hf hlo p0 p1 1 p0 h
  · refine s_iconst (v := 0) hK dX3_ofRecovery_8 rfl ?_
    refine s_goto (tgt := 13) hK dX3_ofRecovery_9 (by decide) ?_
    exact sm_X3_ofRecovery_J13 hK hf hlo p0 p1 0 p0 h
theorem ct_X3_ofRecovery {G : GC} {l : Launch} (g : GOK G l) (p0 : Option Nat) (p1 : Int32) (h : AH) : CT G l yX3_ofRecovery (Cond.code yX3_ofRecovery cX3_ofRecovery 2 (some (.int))) 1 16 [va_rf p0, .int p1] (f_X3_ofRecovery p0 p1 h) h :=
  CT.of g (by decide) (by simp only [ls_a, ls_i, ls_l, ls_n]; decide) (fun K _ hK hf hlo => by simp only [la_a, la_i, la_l, la_n]; exact sm_X3_ofRecovery hK hf hlo p0 p1 h)
abbrev FR_X3_accepted : Nat := 2
abbrev LO_X3_accepted : Nat := 37
theorem dyX3_accepted : DY yX3_accepted 0 := ⟨⟨by decide, by decide⟩, by decide +kernel⟩
theorem sm_X3_accepted {G : GC} {K : SC} (hK : SOK G K RX3 cX3_accepted 1 (some (.int)) "accepted" []) (hf : FR_X3_accepted ≤ (kR K).frames) (hlo : LO_X3_accepted ≤ (kR K).locals) (p0 : Option Nat) (h : AH) : Sim G K 1 (f_X3_accepted p0 h) h 0 [(0, va_rf p0)] [] := by
  unfold f_X3_accepted
  refine s_aload_n hK dX3_accepted_0 rfl 0 rfl ?_
  refine s_aload_n hK dX3_accepted_1 rfl 0 rfl ?_
  refine s_gI hK fcX3 24 (Nat.le_of_ble_eq_true rfl) (Or.inl q1708) (Or.inl rfl) dX3_accepted_2 (fun v1 => ?_)
  refine s_rc (fun _ _ eo er => ?_)
  refine s_cI hK ho_n (cx_v (As := [.int v1]) (rest := []) hK dyX3_ofRecovery rfl q2021 fcX3.1 q2023 qs62 q80 q2024 eo er (ct_X3_ofRecovery hK.1 p0 v1 h) (Nat.le_trans (Nat.le_of_ble_eq_true rfl) hf) (Nat.le_trans (Nat.le_of_ble_eq_true rfl) hlo) rk_n (Nat.le_of_ble_eq_true rfl) dX3_accepted_5 rfl) (fun v3 h2 => ?_)
  exact s_iret hK dX3_accepted_8
theorem ct_X3_accepted {G : GC} {l : Launch} (g : GOK G l) (p0 : Option Nat) (h : AH) : CT G l yX3_accepted (Cond.code yX3_accepted cX3_accepted 1 (some (.int))) 2 37 [va_rf p0] (f_X3_accepted p0 h) h :=
  CT.of g (by decide) (by simp only [ls_a, ls_i, ls_l, ls_n]; decide) (fun K _ hK hf hlo => by simp only [la_a, la_i, la_l, la_n]; exact sm_X3_accepted hK hf hlo p0 h)
abbrev FR_X3_refusal : Nat := 1
abbrev LO_X3_refusal : Nat := 16
theorem dyX3_refusal : DY yX3_refusal 1 := ⟨⟨by decide, by decide⟩, by decide +kernel⟩
theorem sm_X3_refusal {G : GC} {K : SC} (hK : SOK G K RX3 cX3_refusal 2 (some (.int)) "refusal" []) (hf : FR_X3_refusal ≤ (kR K).frames) (hlo : LO_X3_refusal ≤ (kR K).locals) (p0 : Option Nat) (p1 : Int32) (h : AH) : Sim G K 2 (f_X3_refusal p0 p1 h) h 0 [(0, va_rf p0), (1, .int p1)] [] := by
  unfold f_X3_refusal
  refine s_aload_n hK dX3_refusal_0 rfl 0 rfl ?_
  refine s_aload_n hK dX3_refusal_1 rfl 0 rfl ?_
  refine s_gI hK fcX3 15 (Nat.le_of_ble_eq_true rfl) (Or.inl q1699) (Or.inl rfl) dX3_refusal_2 (fun v1 => ?_)
  refine s_if_eq (tgt := 20) hK dX3_refusal_5 (by decide) (fun c9 => ?_) (fun c9 => ?_)
  · refine s_iconst (v := 1) hK dX3_refusal_20 rfl ?_
    refine s_pF hK fcX3 0 (Nat.le_of_ble_eq_true rfl) (Or.inl q1684) (Or.inl rfl) (Or.inl rfl) rfl rfl dX3_refusal_21 (fun h2 => ?_)
    refine s_aload_n hK dX3_refusal_24 rfl 0 rfl ?_
    refine s_gI hK fcX3 0 (Nat.le_of_ble_eq_true rfl) (Or.inl q1684) (Or.inl rfl) dX3_refusal_25 (fun v3 => ?_)
    exact s_iret hK dX3_refusal_28
  · refine s_iload_n hK dX3_refusal_8 rfl 1 rfl ?_
    refine s_if_eq (tgt := 16) hK dX3_refusal_9 (by decide) (fun c8 => ?_) (fun c8 => ?_)
    · refine s_iconst (v := 2) hK dX3_refusal_16 rfl ?_
      refine s_goto (tgt := 21) hK dX3_refusal_17 (by decide) ?_
      refine s_pF hK fcX3 0 (Nat.le_of_ble_eq_true rfl) (Or.inl q1684) (Or.inl rfl) (Or.inl rfl) rfl rfl dX3_refusal_21 (fun h4 => ?_)
      refine s_aload_n hK dX3_refusal_24 rfl 0 rfl ?_
      refine s_gI hK fcX3 0 (Nat.le_of_ble_eq_true rfl) (Or.inl q1684) (Or.inl rfl) dX3_refusal_25 (fun v5 => ?_)
      exact s_iret hK dX3_refusal_28
    · refine s_iconst (v := 0) hK dX3_refusal_12 rfl ?_
      refine s_goto (tgt := 21) hK dX3_refusal_13 (by decide) ?_
      refine s_pF hK fcX3 0 (Nat.le_of_ble_eq_true rfl) (Or.inl q1684) (Or.inl rfl) (Or.inl rfl) rfl rfl dX3_refusal_21 (fun h6 => ?_)
      refine s_aload_n hK dX3_refusal_24 rfl 0 rfl ?_
      refine s_gI hK fcX3 0 (Nat.le_of_ble_eq_true rfl) (Or.inl q1684) (Or.inl rfl) dX3_refusal_25 (fun v7 => ?_)
      exact s_iret hK dX3_refusal_28
theorem ct_X3_refusal {G : GC} {l : Launch} (g : GOK G l) (p0 : Option Nat) (p1 : Int32) (h : AH) : CT G l yX3_refusal (Cond.code yX3_refusal cX3_refusal 2 (some (.int))) 1 16 [va_rf p0, .int p1] (f_X3_refusal p0 p1 h) h :=
  CT.of g (by decide) (by simp only [ls_a, ls_i, ls_l, ls_n]; decide) (fun K _ hK hf hlo => by simp only [la_a, la_i, la_l, la_n]; exact sm_X3_refusal hK hf hlo p0 p1 h)
abbrev FR_X3_acceptedAt : Nat := 2
abbrev LO_X3_acceptedAt : Nat := 38
theorem dyX3_acceptedAt : DY yX3_acceptedAt 1 := ⟨⟨by decide, by decide⟩, by decide +kernel⟩
theorem sm_X3_acceptedAt_J52 {G : GC} {K : SC} (hK : SOK G K RX3 cX3_acceptedAt 4 (some (.int)) "acceptedAt" []) (hf : FR_X3_acceptedAt ≤ (kR K).frames) (hlo : LO_X3_acceptedAt ≤ (kR K).locals) {rc : Option Nat → Int32 → Int32 → AH → RS} (hrc : ∀ (y0 : Option Nat) (y1 : Int32) (y2 : Int32) (h : AH), Sim G K 4 (rc y0 y1 y2 h) h 24 [(0, va_rf y0), (2, .int y1), (3, .int y2)] []) {k60 : Int32 → AH → RS} (hk60 : ∀ (y0 : Int32) (h : AH), Sim G K 4 (k60 y0 h) h 60 [(3, .int y0)] []) (x18 : Option Nat) (x19 : Int32) (y20 : Int32) (y21 : Int32) (h22 : AH) : Sim G K 4 (f_X3_acceptedAt_J52 rc k60 x18 x19 y20 y21 h22) h22 52 [(0, va_rf x18), (3, .int x19)] [.int y20, .int y21] := by
  unfold f_X3_acceptedAt_J52
  refine s_isub hK dX3_acceptedAt_52 ?_
  refine s_istore_n (lv' := [(2, .int (y21 - y20)), (0, va_rf x18), (3, .int x19)]) hK dX3_acceptedAt_53 rfl (Nat.le_of_ble_eq_true rfl) rfl ?_
  refine s_iinc (j := 2) (v := 1) (lv' := [(3, .int (x19 + 1)), (2, .int (y21 - y20)), (0, va_rf x18)]) hK dX3_acceptedAt_54 rfl rfl (Nat.le_of_ble_eq_true rfl) rfl ?_
  refine s_goto (tgt := 24) hK dX3_acceptedAt_57 (by decide) ?_
  refine s_sub [2, 1, 0] rfl ?_
  exact hrc x18 (y21 - y20) (x19 + 1) h22
theorem sm_X3_acceptedAt_J37 {G : GC} {K : SC} (hK : SOK G K RX3 cX3_acceptedAt 4 (some (.int)) "acceptedAt" []) (hf : FR_X3_acceptedAt ≤ (kR K).frames) (hlo : LO_X3_acceptedAt ≤ (kR K).locals) {rc : Option Nat → Int32 → Int32 → AH → RS} (hrc : ∀ (y0 : Option Nat) (y1 : Int32) (y2 : Int32) (h : AH), Sim G K 4 (rc y0 y1 y2 h) h 24 [(0, va_rf y0), (2, .int y1), (3, .int y2)] []) {k60 : Int32 → AH → RS} (hk60 : ∀ (y0 : Int32) (h : AH), Sim G K 4 (k60 y0 h) h 60 [(3, .int y0)] []) (x12 : Option Nat) (x13 : Int32) (x14 : Int32)  (h15 : AH) : Sim G K 4 (f_X3_acceptedAt_J37 rc k60 x12 x13 x14 h15) h15 37 [(0, va_rf x12), (2, .int x13), (3, .int x14)] [] := by
  unfold f_X3_acceptedAt_J37
  refine s_iload_n hK dX3_acceptedAt_37 rfl 1 rfl ?_
  refine s_aload_n hK dX3_acceptedAt_38 rfl 0 rfl ?_
  refine s_gA hK fcX3 16 (Nat.le_of_ble_eq_true rfl) (Or.inl q1700) (Or.inl rfl) dX3_acceptedAt_39 (fun v16 => ?_)
  refine s_iload_n hK dX3_acceptedAt_42 rfl 2 rfl ?_
  refine s_iald hK dX3_acceptedAt_43 (fun v17 => ?_)
  refine s_if_le (tgt := 51) hK dX3_acceptedAt_44 (by decide) (fun c23 => ?_) (fun c23 => ?_)
  · refine s_iconst (v := 0) hK dX3_acceptedAt_51 rfl ?_
    refine s_sub [0, 2] rfl ?_
    exact sm_X3_acceptedAt_J52 hK hf hlo hrc hk60 x12 x14 0 x13 h15
  · refine s_iconst (v := 1) hK dX3_acceptedAt_47 rfl ?_
    refine s_goto (tgt := 52) hK dX3_acceptedAt_48 (by decide) ?_
    refine s_sub [0, 2] rfl ?_
    exact sm_X3_acceptedAt_J52 hK hf hlo hrc hk60 x12 x14 1 x13 h15
theorem sm_X3_acceptedAt_L24 {G : GC} {K : SC} (hK : SOK G K RX3 cX3_acceptedAt 4 (some (.int)) "acceptedAt" []) (hf : FR_X3_acceptedAt ≤ (kR K).frames) (hlo : LO_X3_acceptedAt ≤ (kR K).locals) {k60 : Int32 → AH → RS} (hk60 : ∀ (y0 : Int32) (h : AH), Sim G K 4 (k60 y0 h) h 60 [(3, .int y0)] []) : ∀ (n : Nat) (x6 : Option Nat) (x7 : Int32) (x8 : Int32) (h9 : AH), Sim G K 4 (f_X3_acceptedAt_L24 k60 n x6 x7 x8 h9) h9 24 [(0, va_rf x6), (2, .int x7), (3, .int x8)] [] := by
  intro n
  induction n with
  | zero => intro x6 x7 x8 h9; exact s_none
  | succ n ih =>
    intro x6 x7 x8 h9
    rw [f_X3_acceptedAt_L24]
    refine s_aload_n hK dX3_acceptedAt_24 rfl 0 rfl ?_
    refine s_gA hK fcX3 16 (Nat.le_of_ble_eq_true rfl) (Or.inl q1700) (Or.inl rfl) dX3_acceptedAt_25 (fun v10 => ?_)
    refine s_iload_n hK dX3_acceptedAt_28 rfl 2 rfl ?_
    refine s_iald hK dX3_acceptedAt_29 (fun v11 => ?_)
    refine s_if_eq (tgt := 37) hK dX3_acceptedAt_30 (by decide) (fun c25 => ?_) (fun c25 => ?_)
    · exact sm_X3_acceptedAt_J37 hK hf hlo ih hk60 x6 x7 x8 h9
    · refine s_iload_n hK dX3_acceptedAt_33 rfl 1 rfl ?_
      refine s_if_le (tgt := 60) hK dX3_acceptedAt_34 (by decide) (fun c24 => ?_) (fun c24 => ?_)
      · refine s_sub [2] rfl ?_
        exact hk60 x8 h9
      · exact sm_X3_acceptedAt_J37 hK hf hlo ih hk60 x6 x7 x8 h9
theorem sm_X3_acceptedAt {G : GC} {K : SC} (hK : SOK G K RX3 cX3_acceptedAt 4 (some (.int)) "acceptedAt" []) (hf : FR_X3_acceptedAt ≤ (kR K).frames) (hlo : LO_X3_acceptedAt ≤ (kR K).locals) (p0 : Option Nat) (p1 : Int32) (h : AH) : Sim G K 4 (f_X3_acceptedAt p0 p1 h) h 0 [(0, va_rf p0), (1, .int p1)] [] := by
  unfold f_X3_acceptedAt
  refine s_aload_n hK dX3_acceptedAt_0 rfl 0 rfl ?_
  refine s_iload_n hK dX3_acceptedAt_1 rfl 1 rfl ?_
  refine s_iconst (v := 0) hK dX3_acceptedAt_2 rfl ?_
  refine s_aload_n hK dX3_acceptedAt_3 rfl 0 rfl ?_
  refine s_gI hK fcX3 24 (Nat.le_of_ble_eq_true rfl) (Or.inl q1708) (Or.inl rfl) dX3_acceptedAt_4 (fun v1 => ?_)
  refine s_iconst (v := 1) hK dX3_acceptedAt_7 rfl ?_
  refine s_isub hK dX3_acceptedAt_8 ?_
  refine s_cI hK ho_n (cx_s (As := [.int p1, .int 0, .int (v1 - 1)]) (rest := [va_rf p0]) hK dyX3_in rfl q1844 q1845 q80 q1846 (ct_X3_in hK.1 p1 0 (v1 - 1) h) (Nat.le_trans (Nat.le_of_ble_eq_true rfl) hf) (Nat.le_trans (Nat.le_of_ble_eq_true rfl) hlo) (rk_a rk_n) (Nat.le_of_ble_eq_true rfl) dX3_acceptedAt_9 rfl) (fun v3 h2 => ?_)
  refine s_rc (fun _ _ eo er => ?_)
  refine s_cI hK ho_n (cx_v (As := [.int v3]) (rest := []) hK dyX3_refusal rfl q2029 fcX3.1 q2031 qs63 q80 q2032 eo er (ct_X3_refusal hK.1 p0 v3 h2) (Nat.le_trans (Nat.le_of_ble_eq_true rfl) hf) (Nat.le_trans (Nat.le_of_ble_eq_true rfl) hlo) rk_n (Nat.le_of_ble_eq_true rfl) dX3_acceptedAt_12 rfl) (fun v5 h4 => ?_)
  refine s_if_le (tgt := 20) hK dX3_acceptedAt_15 (by decide) (fun c28 => ?_) (fun c28 => ?_)
  · refine s_iload_n hK dX3_acceptedAt_20 rfl 1 rfl ?_
    refine s_istore_n (lv' := [(2, .int p1), (0, va_rf p0), (1, .int p1)]) hK dX3_acceptedAt_21 rfl (Nat.le_of_ble_eq_true rfl) rfl ?_
    refine s_iconst (v := 0) hK dX3_acceptedAt_22 rfl ?_
    refine s_istore_n (lv' := [(3, .int 0), (2, .int p1), (0, va_rf p0), (1, .int p1)]) hK dX3_acceptedAt_23 rfl (Nat.le_of_ble_eq_true rfl) rfl ?_
    refine s_sub [2, 1, 0] rfl ?_
    refine sm_X3_acceptedAt_L24 hK hf hlo (fun x26 h27 => ?_) FUEL p0 p1 0 h4
    · refine s_iload_n hK dX3_acceptedAt_60 rfl 0 rfl ?_
      exact s_iret hK dX3_acceptedAt_61
  · refine s_iconst (v := 0) hK dX3_acceptedAt_18 rfl ?_
    exact s_iret hK dX3_acceptedAt_19
theorem ct_X3_acceptedAt {G : GC} {l : Launch} (g : GOK G l) (p0 : Option Nat) (p1 : Int32) (h : AH) : CT G l yX3_acceptedAt (Cond.code yX3_acceptedAt cX3_acceptedAt 4 (some (.int))) 2 38 [va_rf p0, .int p1] (f_X3_acceptedAt p0 p1 h) h :=
  CT.of g (by decide) (by simp only [ls_a, ls_i, ls_l, ls_n]; decide) (fun K _ hK hf hlo => by simp only [la_a, la_i, la_l, la_n]; exact sm_X3_acceptedAt hK hf hlo p0 p1 h)
abbrev FR_X3_use : Nat := 3
abbrev LO_X3_use : Nat := 59
theorem dyX3_use : DY yX3_use 1 := ⟨⟨by decide, by decide⟩, by decide +kernel⟩
theorem sm_X3_use {G : GC} {K : SC} (hK : SOK G K RX3 cX3_use 2 (some (.int)) "use" []) (hf : FR_X3_use ≤ (kR K).frames) (hlo : LO_X3_use ≤ (kR K).locals) (p0 : Option Nat) (p1 : Int32) (h : AH) : Sim G K 2 (f_X3_use p0 p1 h) h 0 [(0, va_rf p0), (1, .int p1)] [] := by
  unfold f_X3_use
  refine s_aload_n hK dX3_use_0 rfl 0 rfl ?_
  refine s_aload_n hK dX3_use_1 rfl 0 rfl ?_
  refine s_iload_n hK dX3_use_2 rfl 1 rfl ?_
  refine s_rc (fun _ _ eo er => ?_)
  refine s_cI hK ho_n (cx_v (As := [.int p1]) (rest := [va_rf p0]) hK dyX3_isAddress rfl q1870 fcX3.1 q1872 qs36 q80 q1873 eo er (ct_X3_isAddress hK.1 p0 p1 h) (Nat.le_trans (Nat.le_of_ble_eq_true rfl) hf) (Nat.le_trans (Nat.le_of_ble_eq_true rfl) hlo) (rk_a rk_n) (Nat.le_of_ble_eq_true rfl) dX3_use_3 rfl) (fun v2 h1 => ?_)
  refine s_rc (fun _ _ eo er => ?_)
  refine s_cI hK ho_n (cx_v (As := [.int v2]) (rest := []) hK dyX3_refusal rfl q2029 fcX3.1 q2031 qs63 q80 q2032 eo er (ct_X3_refusal hK.1 p0 v2 h1) (Nat.le_trans (Nat.le_of_ble_eq_true rfl) hf) (Nat.le_trans (Nat.le_of_ble_eq_true rfl) hlo) rk_n (Nat.le_of_ble_eq_true rfl) dX3_use_6 rfl) (fun v4 h3 => ?_)
  refine s_if_le (tgt := 14) hK dX3_use_9 (by decide) (fun c20 => ?_) (fun c20 => ?_)
  · refine s_aload_n hK dX3_use_14 rfl 0 rfl ?_
    refine s_gA hK fcX3 16 (Nat.le_of_ble_eq_true rfl) (Or.inl q1700) (Or.inl rfl) dX3_use_15 (fun v5 => ?_)
    refine s_iload_n hK dX3_use_18 rfl 1 rfl ?_
    refine s_iald hK dX3_use_19 (fun v6 => ?_)
    refine s_if_le (tgt := 25) hK dX3_use_20 (by decide) (fun c19 => ?_) (fun c19 => ?_)
    · refine s_aload_n hK dX3_use_25 rfl 0 rfl ?_
      refine s_gA hK fcX3 17 (Nat.le_of_ble_eq_true rfl) (Or.inl q1701) (Or.inl rfl) dX3_use_26 (fun v7 => ?_)
      refine s_iload_n hK dX3_use_29 rfl 1 rfl ?_
      refine s_iald hK dX3_use_30 (fun v8 => ?_)
      refine s_if_lt (tgt := 36) hK dX3_use_31 (by decide) (fun c18 => ?_) (fun c18 => ?_)
      · refine s_aload_n hK dX3_use_36 rfl 0 rfl ?_
        refine s_gA hK fcX3 20 (Nat.le_of_ble_eq_true rfl) (Or.inl q1704) (Or.inl rfl) dX3_use_37 (fun v9 => ?_)
        refine s_iload_n hK dX3_use_40 rfl 1 rfl ?_
        refine s_zald hK dX3_use_41 (fun v10 => ?_)
        refine s_if_eq (tgt := 47) hK dX3_use_42 (by decide) (fun c17 => ?_) (fun c17 => ?_)
        · refine s_aload_n hK dX3_use_47 rfl 0 rfl ?_
          refine s_gA hK fcX3 18 (Nat.le_of_ble_eq_true rfl) (Or.inl q1702) (Or.inl rfl) dX3_use_48 (fun v11 => ?_)
          refine s_iload_n hK dX3_use_51 rfl 1 rfl ?_
          refine s_iald hK dX3_use_52 (fun v12 => ?_)
          refine s_if_le (tgt := 60) hK dX3_use_53 (by decide) (fun c16 => ?_) (fun c16 => ?_)
          · refine s_aload_n hK dX3_use_60 rfl 0 rfl ?_
            refine s_gA hK fcX3 19 (Nat.le_of_ble_eq_true rfl) (Or.inl q1703) (Or.inl rfl) dX3_use_61 (fun v13 => ?_)
            refine s_iload_n hK dX3_use_64 rfl 1 rfl ?_
            refine s_iald hK dX3_use_65 (fun v14 => ?_)
            refine s_if_lt (tgt := 73) hK dX3_use_66 (by decide) (fun c15 => ?_) (fun c15 => ?_)
            · refine s_iconst (v := 0) hK dX3_use_73 rfl ?_
              exact s_iret hK dX3_use_74
            · refine s_iconst (v := 5) hK dX3_use_69 rfl ?_
              refine s_goto (tgt := 74) hK dX3_use_70 (by decide) ?_
              exact s_iret hK dX3_use_74
          · refine s_iconst (v := 4) hK dX3_use_56 rfl ?_
            refine s_goto (tgt := 74) hK dX3_use_57 (by decide) ?_
            exact s_iret hK dX3_use_74
        · refine s_iconst (v := 3) hK dX3_use_45 rfl ?_
          exact s_iret hK dX3_use_46
      · refine s_iconst (v := 2) hK dX3_use_34 rfl ?_
        exact s_iret hK dX3_use_35
    · refine s_iconst (v := 1) hK dX3_use_23 rfl ?_
      exact s_iret hK dX3_use_24
  · refine s_iconst (v := 0) hK dX3_use_12 rfl ?_
    exact s_iret hK dX3_use_13
theorem ct_X3_use {G : GC} {l : Launch} (g : GOK G l) (p0 : Option Nat) (p1 : Int32) (h : AH) : CT G l yX3_use (Cond.code yX3_use cX3_use 2 (some (.int))) 3 59 [va_rf p0, .int p1] (f_X3_use p0 p1 h) h :=
  CT.of g (by decide) (by simp only [ls_a, ls_i, ls_l, ls_n]; decide) (fun K _ hK hf hlo => by simp only [la_a, la_i, la_l, la_n]; exact sm_X3_use hK hf hlo p0 p1 h)
abbrev FR_X3_conflictCount : Nat := 2
abbrev LO_X3_conflictCount : Nat := 37
theorem dyX3_conflictCount : DY yX3_conflictCount 0 := ⟨⟨by decide, by decide⟩, by decide +kernel⟩
theorem sm_X3_conflictCount {G : GC} {K : SC} (hK : SOK G K RX3 cX3_conflictCount 1 (some (.int)) "conflictCount" []) (hf : FR_X3_conflictCount ≤ (kR K).frames) (hlo : LO_X3_conflictCount ≤ (kR K).locals) (p0 : Option Nat) (h : AH) : Sim G K 1 (f_X3_conflictCount p0 h) h 0 [(0, va_rf p0)] [] := by
  unfold f_X3_conflictCount
  refine s_aload_n hK dX3_conflictCount_0 rfl 0 rfl ?_
  refine s_aload_n hK dX3_conflictCount_1 rfl 0 rfl ?_
  refine s_gI hK fcX3 25 (Nat.le_of_ble_eq_true rfl) (Or.inl q1709) (Or.inl rfl) dX3_conflictCount_2 (fun v1 => ?_)
  refine s_rc (fun _ _ eo er => ?_)
  refine s_cI hK ho_n (cx_v (As := [.int v1]) (rest := []) hK dyX3_ofRecovery rfl q2021 fcX3.1 q2023 qs62 q80 q2024 eo er (ct_X3_ofRecovery hK.1 p0 v1 h) (Nat.le_trans (Nat.le_of_ble_eq_true rfl) hf) (Nat.le_trans (Nat.le_of_ble_eq_true rfl) hlo) rk_n (Nat.le_of_ble_eq_true rfl) dX3_conflictCount_5 rfl) (fun v3 h2 => ?_)
  exact s_iret hK dX3_conflictCount_8
theorem ct_X3_conflictCount {G : GC} {l : Launch} (g : GOK G l) (p0 : Option Nat) (h : AH) : CT G l yX3_conflictCount (Cond.code yX3_conflictCount cX3_conflictCount 1 (some (.int))) 2 37 [va_rf p0] (f_X3_conflictCount p0 h) h :=
  CT.of g (by decide) (by simp only [ls_a, ls_i, ls_l, ls_n]; decide) (fun K _ hK hf hlo => by simp only [la_a, la_i, la_l, la_n]; exact sm_X3_conflictCount hK hf hlo p0 h)
abbrev FR_X3_conflict : Nat := 2
abbrev LO_X3_conflict : Nat := 38
theorem dyX3_conflict : DY yX3_conflict 1 := ⟨⟨by decide, by decide⟩, by decide +kernel⟩
theorem sm_X3_conflict {G : GC} {K : SC} (hK : SOK G K RX3 cX3_conflict 2 (some (.int)) "conflict" []) (hf : FR_X3_conflict ≤ (kR K).frames) (hlo : LO_X3_conflict ≤ (kR K).locals) (p0 : Option Nat) (p1 : Int32) (h : AH) : Sim G K 2 (f_X3_conflict p0 p1 h) h 0 [(0, va_rf p0), (1, .int p1)] [] := by
  unfold f_X3_conflict
  refine s_aload_n hK dX3_conflict_0 rfl 0 rfl ?_
  refine s_iload_n hK dX3_conflict_1 rfl 1 rfl ?_
  refine s_iconst (v := 0) hK dX3_conflict_2 rfl ?_
  refine s_aload_n hK dX3_conflict_3 rfl 0 rfl ?_
  refine s_gI hK fcX3 25 (Nat.le_of_ble_eq_true rfl) (Or.inl q1709) (Or.inl rfl) dX3_conflict_4 (fun v1 => ?_)
  refine s_iconst (v := 1) hK dX3_conflict_7 rfl ?_
  refine s_isub hK dX3_conflict_8 ?_
  refine s_cI hK ho_n (cx_s (As := [.int p1, .int 0, .int (v1 - 1)]) (rest := [va_rf p0]) hK dyX3_in rfl q1844 q1845 q80 q1846 (ct_X3_in hK.1 p1 0 (v1 - 1) h) (Nat.le_trans (Nat.le_of_ble_eq_true rfl) hf) (Nat.le_trans (Nat.le_of_ble_eq_true rfl) hlo) (rk_a rk_n) (Nat.le_of_ble_eq_true rfl) dX3_conflict_9 rfl) (fun v3 h2 => ?_)
  refine s_rc (fun _ _ eo er => ?_)
  refine s_cI hK ho_n (cx_v (As := [.int v3]) (rest := []) hK dyX3_refusal rfl q2029 fcX3.1 q2031 qs63 q80 q2032 eo er (ct_X3_refusal hK.1 p0 v3 h2) (Nat.le_trans (Nat.le_of_ble_eq_true rfl) hf) (Nat.le_trans (Nat.le_of_ble_eq_true rfl) hlo) rk_n (Nat.le_of_ble_eq_true rfl) dX3_conflict_12 rfl) (fun v5 h4 => ?_)
  refine s_if_le (tgt := 22) hK dX3_conflict_15 (by decide) (fun c8 => ?_) (fun c8 => ?_)
  · refine s_aload_n hK dX3_conflict_22 rfl 0 rfl ?_
    refine s_gA hK fcX3 30 (Nat.le_of_ble_eq_true rfl) (Or.inl q1714) (Or.inl rfl) dX3_conflict_23 (fun v6 => ?_)
    refine s_iload_n hK dX3_conflict_26 rfl 1 rfl ?_
    refine s_iald hK dX3_conflict_27 (fun v7 => ?_)
    exact s_iret hK dX3_conflict_28
  · refine s_iconst (v := 0) hK dX3_conflict_18 rfl ?_
    refine s_goto (tgt := 28) hK dX3_conflict_19 (by decide) ?_
    exact s_iret hK dX3_conflict_28
theorem ct_X3_conflict {G : GC} {l : Launch} (g : GOK G l) (p0 : Option Nat) (p1 : Int32) (h : AH) : CT G l yX3_conflict (Cond.code yX3_conflict cX3_conflict 2 (some (.int))) 2 38 [va_rf p0, .int p1] (f_X3_conflict p0 p1 h) h :=
  CT.of g (by decide) (by simp only [ls_a, ls_i, ls_l, ls_n]; decide) (fun K _ hK hf hlo => by simp only [la_a, la_i, la_l, la_n]; exact sm_X3_conflict hK hf hlo p0 p1 h)
abbrev FR_X3_badTargets : Nat := 2
abbrev LO_X3_badTargets : Nat := 37
theorem dyX3_badTargets : DY yX3_badTargets 0 := ⟨⟨by decide, by decide⟩, by decide +kernel⟩
theorem sm_X3_badTargets {G : GC} {K : SC} (hK : SOK G K RX3 cX3_badTargets 1 (some (.int)) "badTargets" []) (hf : FR_X3_badTargets ≤ (kR K).frames) (hlo : LO_X3_badTargets ≤ (kR K).locals) (p0 : Option Nat) (h : AH) : Sim G K 1 (f_X3_badTargets p0 h) h 0 [(0, va_rf p0)] [] := by
  unfold f_X3_badTargets
  refine s_aload_n hK dX3_badTargets_0 rfl 0 rfl ?_
  refine s_aload_n hK dX3_badTargets_1 rfl 0 rfl ?_
  refine s_gI hK fcX3 26 (Nat.le_of_ble_eq_true rfl) (Or.inl q1710) (Or.inl rfl) dX3_badTargets_2 (fun v1 => ?_)
  refine s_rc (fun _ _ eo er => ?_)
  refine s_cI hK ho_n (cx_v (As := [.int v1]) (rest := []) hK dyX3_ofRecovery rfl q2021 fcX3.1 q2023 qs62 q80 q2024 eo er (ct_X3_ofRecovery hK.1 p0 v1 h) (Nat.le_trans (Nat.le_of_ble_eq_true rfl) hf) (Nat.le_trans (Nat.le_of_ble_eq_true rfl) hlo) rk_n (Nat.le_of_ble_eq_true rfl) dX3_badTargets_5 rfl) (fun v3 h2 => ?_)
  exact s_iret hK dX3_badTargets_8
theorem ct_X3_badTargets {G : GC} {l : Launch} (g : GOK G l) (p0 : Option Nat) (h : AH) : CT G l yX3_badTargets (Cond.code yX3_badTargets cX3_badTargets 1 (some (.int))) 2 37 [va_rf p0] (f_X3_badTargets p0 h) h :=
  CT.of g (by decide) (by simp only [ls_a, ls_i, ls_l, ls_n]; decide) (fun K _ hK hf hlo => by simp only [la_a, la_i, la_l, la_n]; exact sm_X3_badTargets hK hf hlo p0 h)
abbrev FR_X3_tableCount : Nat := 2
abbrev LO_X3_tableCount : Nat := 37
theorem dyX3_tableCount : DY yX3_tableCount 0 := ⟨⟨by decide, by decide⟩, by decide +kernel⟩
theorem sm_X3_tableCount {G : GC} {K : SC} (hK : SOK G K RX3 cX3_tableCount 1 (some (.int)) "tableCount" []) (hf : FR_X3_tableCount ≤ (kR K).frames) (hlo : LO_X3_tableCount ≤ (kR K).locals) (p0 : Option Nat) (h : AH) : Sim G K 1 (f_X3_tableCount p0 h) h 0 [(0, va_rf p0)] [] := by
  unfold f_X3_tableCount
  refine s_aload_n hK dX3_tableCount_0 rfl 0 rfl ?_
  refine s_aload_n hK dX3_tableCount_1 rfl 0 rfl ?_
  refine s_gI hK fcX3 27 (Nat.le_of_ble_eq_true rfl) (Or.inl q1711) (Or.inl rfl) dX3_tableCount_2 (fun v1 => ?_)
  refine s_rc (fun _ _ eo er => ?_)
  refine s_cI hK ho_n (cx_v (As := [.int v1]) (rest := []) hK dyX3_ofRecovery rfl q2021 fcX3.1 q2023 qs62 q80 q2024 eo er (ct_X3_ofRecovery hK.1 p0 v1 h) (Nat.le_trans (Nat.le_of_ble_eq_true rfl) hf) (Nat.le_trans (Nat.le_of_ble_eq_true rfl) hlo) rk_n (Nat.le_of_ble_eq_true rfl) dX3_tableCount_5 rfl) (fun v3 h2 => ?_)
  exact s_iret hK dX3_tableCount_8
theorem ct_X3_tableCount {G : GC} {l : Launch} (g : GOK G l) (p0 : Option Nat) (h : AH) : CT G l yX3_tableCount (Cond.code yX3_tableCount cX3_tableCount 1 (some (.int))) 2 37 [va_rf p0] (f_X3_tableCount p0 h) h :=
  CT.of g (by decide) (by simp only [ls_a, ls_i, ls_l, ls_n]; decide) (fun K _ hK hf hlo => by simp only [la_a, la_i, la_l, la_n]; exact sm_X3_tableCount hK hf hlo p0 h)
abbrev FR_X3_table : Nat := 2
abbrev LO_X3_table : Nat := 38
theorem dyX3_table : DY yX3_table 2 := ⟨⟨by decide, by decide⟩, by decide +kernel⟩
theorem sm_X3_table {G : GC} {K : SC} (hK : SOK G K RX3 cX3_table 3 (some (.int)) "table" []) (hf : FR_X3_table ≤ (kR K).frames) (hlo : LO_X3_table ≤ (kR K).locals) (p0 : Option Nat) (p1 : Int32) (p2 : Int32) (h : AH) : Sim G K 3 (f_X3_table p0 p1 p2 h) h 0 [(0, va_rf p0), (1, .int p1), (2, .int p2)] [] := by
  unfold f_X3_table
  refine s_aload_n hK dX3_table_0 rfl 0 rfl ?_
  refine s_iload_n hK dX3_table_1 rfl 1 rfl ?_
  refine s_iconst (v := 0) hK dX3_table_2 rfl ?_
  refine s_aload_n hK dX3_table_3 rfl 0 rfl ?_
  refine s_gI hK fcX3 27 (Nat.le_of_ble_eq_true rfl) (Or.inl q1711) (Or.inl rfl) dX3_table_4 (fun v1 => ?_)
  refine s_iconst (v := 1) hK dX3_table_7 rfl ?_
  refine s_isub hK dX3_table_8 ?_
  refine s_cI hK ho_n (cx_s (As := [.int p1, .int 0, .int (v1 - 1)]) (rest := [va_rf p0]) hK dyX3_in rfl q1844 q1845 q80 q1846 (ct_X3_in hK.1 p1 0 (v1 - 1) h) (Nat.le_trans (Nat.le_of_ble_eq_true rfl) hf) (Nat.le_trans (Nat.le_of_ble_eq_true rfl) hlo) (rk_a rk_n) (Nat.le_of_ble_eq_true rfl) dX3_table_9 rfl) (fun v3 h2 => ?_)
  refine s_rc (fun _ _ eo er => ?_)
  refine s_cI hK ho_n (cx_v (As := [.int v3]) (rest := []) hK dyX3_refusal rfl q2029 fcX3.1 q2031 qs63 q80 q2032 eo er (ct_X3_refusal hK.1 p0 v3 h2) (Nat.le_trans (Nat.le_of_ble_eq_true rfl) hf) (Nat.le_trans (Nat.le_of_ble_eq_true rfl) hlo) rk_n (Nat.le_of_ble_eq_true rfl) dX3_table_12 rfl) (fun v5 h4 => ?_)
  refine s_if_le (tgt := 20) hK dX3_table_15 (by decide) (fun c20 => ?_) (fun c20 => ?_)
  · refine s_iload_n hK dX3_table_20 rfl 2 rfl ?_
    refine s_ite (fun e6 => ?_) (fun e6 => ?_)
    · refine s_tabIn (tgt := 52) hK dX3_table_21 0 e6 (by decide) (by decide) rfl (by decide) ?_
      refine s_aload_n hK dX3_table_52 rfl 0 rfl ?_
      refine s_gA hK fcX3 31 (Nat.le_of_ble_eq_true rfl) (Or.inl q1715) (Or.inl rfl) dX3_table_53 (fun v10 => ?_)
      refine s_iload_n hK dX3_table_56 rfl 1 rfl ?_
      refine s_iald hK dX3_table_57 (fun v11 => ?_)
      exact s_iret hK dX3_table_58
    refine s_ite (fun e7 => ?_) (fun e7 => ?_)
    · refine s_tabIn (tgt := 59) hK dX3_table_21 1 e7 (by decide) (by decide) rfl (by decide) ?_
      refine s_aload_n hK dX3_table_59 rfl 0 rfl ?_
      refine s_gA hK fcX3 32 (Nat.le_of_ble_eq_true rfl) (Or.inl q1716) (Or.inl rfl) dX3_table_60 (fun v12 => ?_)
      refine s_iload_n hK dX3_table_63 rfl 1 rfl ?_
      refine s_iald hK dX3_table_64 (fun v13 => ?_)
      exact s_iret hK dX3_table_65
    refine s_ite (fun e8 => ?_) (fun e8 => ?_)
    · refine s_tabIn (tgt := 66) hK dX3_table_21 2 e8 (by decide) (by decide) rfl (by decide) ?_
      refine s_aload_n hK dX3_table_66 rfl 0 rfl ?_
      refine s_gA hK fcX3 33 (Nat.le_of_ble_eq_true rfl) (Or.inl q1717) (Or.inl rfl) dX3_table_67 (fun v14 => ?_)
      refine s_iload_n hK dX3_table_70 rfl 1 rfl ?_
      refine s_iald hK dX3_table_71 (fun v15 => ?_)
      exact s_iret hK dX3_table_72
    refine s_ite (fun e9 => ?_) (fun e9 => ?_)
    · refine s_tabIn (tgt := 73) hK dX3_table_21 3 e9 (by decide) (by decide) rfl (by decide) ?_
      refine s_aload_n hK dX3_table_73 rfl 0 rfl ?_
      refine s_gA hK fcX3 34 (Nat.le_of_ble_eq_true rfl) (Or.inl q1718) (Or.inl rfl) dX3_table_74 (fun v16 => ?_)
      refine s_iload_n hK dX3_table_77 rfl 1 rfl ?_
      refine s_iald hK dX3_table_78 (fun v17 => ?_)
      exact s_iret hK dX3_table_79
    refine s_tabOut (tgt := 80) hK dX3_table_21 (tsw_out [0, 1, 2, 3] (List.forall_mem_cons.mpr ⟨e6, (List.forall_mem_cons.mpr ⟨e7, (List.forall_mem_cons.mpr ⟨e8, (List.forall_mem_cons.mpr ⟨e9, (fun _ hz => nomatch hz)⟩)⟩)⟩)⟩) (by decide)) (by decide) ?_
    refine s_aload_n hK dX3_table_80 rfl 0 rfl ?_
    refine s_iconst (v := 3) hK dX3_table_81 rfl ?_
    refine s_rc (fun _ _ eo er => ?_)
    refine s_cI hK ho_n (cx_v (As := [.int 3]) (rest := []) hK dyX3_fails rfl q1847 fcX3.1 q1849 qs34 q80 q1850 eo er (ct_X3_fails hK.1 p0 3 h4) (Nat.le_trans (Nat.le_of_ble_eq_true rfl) hf) (Nat.le_trans (Nat.le_of_ble_eq_true rfl) hlo) rk_n (Nat.le_of_ble_eq_true rfl) dX3_table_82 rfl) (fun v19 h18 => ?_)
    exact s_iret hK dX3_table_85
  · refine s_iconst (v := 0) hK dX3_table_18 rfl ?_
    exact s_iret hK dX3_table_19
theorem ct_X3_table {G : GC} {l : Launch} (g : GOK G l) (p0 : Option Nat) (p1 : Int32) (p2 : Int32) (h : AH) : CT G l yX3_table (Cond.code yX3_table cX3_table 3 (some (.int))) 2 38 [va_rf p0, .int p1, .int p2] (f_X3_table p0 p1 p2 h) h :=
  CT.of g (by decide) (by simp only [ls_a, ls_i, ls_l, ls_n]; decide) (fun K _ hK hf hlo => by simp only [la_a, la_i, la_l, la_n]; exact sm_X3_table hK hf hlo p0 p1 p2 h)
abbrev FR_X3_tableEntry : Nat := 2
abbrev LO_X3_tableEntry : Nat := 38
theorem dyX3_tableEntry : DY yX3_tableEntry 2 := ⟨⟨by decide, by decide⟩, by decide +kernel⟩
theorem sm_X3_tableEntry_J35 {G : GC} {K : SC} (hK : SOK G K RX3 cX3_tableEntry 4 (some (.int)) "tableEntry" []) (hf : FR_X3_tableEntry ≤ (kR K).frames) (hlo : LO_X3_tableEntry ≤ (kR K).locals) (x8 : Option Nat) (x9 : Int32) (x10 : Int32) (y11 : Int32) (h12 : AH) : Sim G K 4 (f_X3_tableEntry_J35 x8 x9 x10 y11 h12) h12 35 [(0, va_rf x8), (1, .int x9), (2, .int x10)] [.int y11] := by
  unfold f_X3_tableEntry_J35
  refine s_istore_n (lv' := [(3, .int y11), (0, va_rf x8), (1, .int x9), (2, .int x10)]) hK dX3_tableEntry_35 rfl (Nat.le_of_ble_eq_true rfl) rfl ?_
  refine s_aload_n hK dX3_tableEntry_36 rfl 1 rfl ?_
  refine s_iload_n hK dX3_tableEntry_37 rfl 0 rfl ?_
  refine s_rc (fun _ _ eo er => ?_)
  refine s_cI hK ho_n (cx_v (As := [.int y11]) (rest := []) hK dyX3_refusal rfl q2029 fcX3.1 q2031 qs63 q80 q2032 eo er (ct_X3_refusal hK.1 x8 y11 h12) (Nat.le_trans (Nat.le_of_ble_eq_true rfl) hf) (Nat.le_trans (Nat.le_of_ble_eq_true rfl) hlo) rk_n (Nat.le_of_ble_eq_true rfl) dX3_tableEntry_38 rfl) (fun v14 h13 => ?_)
  refine s_if_le (tgt := 48) hK dX3_tableEntry_41 (by decide) (fun c19 => ?_) (fun c19 => ?_)
  · refine s_aload_n hK dX3_tableEntry_48 rfl 1 rfl ?_
    refine s_gA hK fcX3 1 (Nat.le_of_ble_eq_true rfl) (Or.inl q1685) (Or.inl rfl) dX3_tableEntry_49 (fun v15 => ?_)
    refine s_aload_n hK dX3_tableEntry_52 rfl 1 rfl ?_
    refine s_gA hK fcX3 35 (Nat.le_of_ble_eq_true rfl) (Or.inl q1719) (Or.inl rfl) dX3_tableEntry_53 (fun v16 => ?_)
    refine s_bipush (v := 16) hK dX3_tableEntry_56 rfl ?_
    refine s_iload_n hK dX3_tableEntry_58 rfl 2 rfl ?_
    refine s_imul hK dX3_tableEntry_59 ?_
    refine s_iload_n hK dX3_tableEntry_60 rfl 3 rfl ?_
    refine s_iadd hK dX3_tableEntry_61 ?_
    refine s_iald hK dX3_tableEntry_62 (fun v17 => ?_)
    refine s_iald hK dX3_tableEntry_63 (fun v18 => ?_)
    exact s_iret hK dX3_tableEntry_64
  · refine s_iconst (v := 0) hK dX3_tableEntry_44 rfl ?_
    refine s_goto (tgt := 64) hK dX3_tableEntry_45 (by decide) ?_
    exact s_iret hK dX3_tableEntry_64
theorem sm_X3_tableEntry_J34 {G : GC} {K : SC} (hK : SOK G K RX3 cX3_tableEntry 4 (some (.int)) "tableEntry" []) (hf : FR_X3_tableEntry ≤ (kR K).frames) (hlo : LO_X3_tableEntry ≤ (kR K).locals) (x4 : Option Nat) (x5 : Int32) (x6 : Int32)  (h7 : AH) : Sim G K 4 (f_X3_tableEntry_J34 x4 x5 x6 h7) h7 34 [(0, va_rf x4), (1, .int x5), (2, .int x6)] [] := by
  unfold f_X3_tableEntry_J34
  refine s_iconst (v := 0) hK dX3_tableEntry_34 rfl ?_
  exact sm_X3_tableEntry_J35 hK hf hlo x4 x5 x6 0 h7
theorem sm_X3_tableEntry {G : GC} {K : SC} (hK : SOK G K RX3 cX3_tableEntry 4 (some (.int)) "tableEntry" []) (hf : FR_X3_tableEntry ≤ (kR K).frames) (hlo : LO_X3_tableEntry ≤ (kR K).locals) (p0 : Option Nat) (p1 : Int32) (p2 : Int32) (h : AH) : Sim G K 4 (f_X3_tableEntry p0 p1 p2 h) h 0 [(0, va_rf p0), (1, .int p1), (2, .int p2)] [] := by
  unfold f_X3_tableEntry
  refine s_iload_n hK dX3_tableEntry_0 rfl 1 rfl ?_
  refine s_iconst (v := 0) hK dX3_tableEntry_1 rfl ?_
  refine s_aload_n hK dX3_tableEntry_2 rfl 0 rfl ?_
  refine s_gI hK fcX3 27 (Nat.le_of_ble_eq_true rfl) (Or.inl q1711) (Or.inl rfl) dX3_tableEntry_3 (fun v1 => ?_)
  refine s_iconst (v := 1) hK dX3_tableEntry_6 rfl ?_
  refine s_isub hK dX3_tableEntry_7 ?_
  refine s_cI hK ho_n (cx_s (As := [.int p1, .int 0, .int (v1 - 1)]) (rest := []) hK dyX3_in rfl q1844 q1845 q80 q1846 (ct_X3_in hK.1 p1 0 (v1 - 1) h) (Nat.le_trans (Nat.le_of_ble_eq_true rfl) hf) (Nat.le_trans (Nat.le_of_ble_eq_true rfl) hlo) rk_n (Nat.le_of_ble_eq_true rfl) dX3_tableEntry_8 rfl) (fun v3 h2 => ?_)
  refine s_if_eq (tgt := 34) hK dX3_tableEntry_11 (by decide) (fun c25 => ?_) (fun c25 => ?_)
  · exact sm_X3_tableEntry_J34 hK hf hlo p0 p1 p2 h2
  · refine s_iload_n hK dX3_tableEntry_14 rfl 2 rfl ?_
    refine s_iconst (v := 0) hK dX3_tableEntry_15 rfl ?_
    refine s_aload_n hK dX3_tableEntry_16 rfl 0 rfl ?_
    refine s_gA hK fcX3 34 (Nat.le_of_ble_eq_true rfl) (Or.inl q1718) (Or.inl rfl) dX3_tableEntry_17 (fun v20 => ?_)
    refine s_iload_n hK dX3_tableEntry_20 rfl 1 rfl ?_
    refine s_iald hK dX3_tableEntry_21 (fun v21 => ?_)
    refine s_iconst (v := 1) hK dX3_tableEntry_22 rfl ?_
    refine s_isub hK dX3_tableEntry_23 ?_
    refine s_cI hK ho_n (cx_s (As := [.int p2, .int 0, .int (v21 - 1)]) (rest := []) hK dyX3_in rfl q1844 q1845 q80 q1846 (ct_X3_in hK.1 p2 0 (v21 - 1) h2) (Nat.le_trans (Nat.le_of_ble_eq_true rfl) hf) (Nat.le_trans (Nat.le_of_ble_eq_true rfl) hlo) rk_n (Nat.le_of_ble_eq_true rfl) dX3_tableEntry_24 rfl) (fun v23 h22 => ?_)
    refine s_if_eq (tgt := 34) hK dX3_tableEntry_27 (by decide) (fun c24 => ?_) (fun c24 => ?_)
    · exact sm_X3_tableEntry_J34 hK hf hlo p0 p1 p2 h22
    · refine s_iconst (v := 1) hK dX3_tableEntry_30 rfl ?_
      refine s_goto (tgt := 35) hK dX3_tableEntry_31 (by decide) ?_
      exact sm_X3_tableEntry_J35 hK hf hlo p0 p1 p2 1 h22
theorem ct_X3_tableEntry {G : GC} {l : Launch} (g : GOK G l) (p0 : Option Nat) (p1 : Int32) (p2 : Int32) (h : AH) : CT G l yX3_tableEntry (Cond.code yX3_tableEntry cX3_tableEntry 4 (some (.int))) 2 38 [va_rf p0, .int p1, .int p2] (f_X3_tableEntry p0 p1 p2 h) h :=
  CT.of g (by decide) (by simp only [ls_a, ls_i, ls_l, ls_n]; decide) (fun K _ hK hf hlo => by simp only [la_a, la_i, la_l, la_n]; exact sm_X3_tableEntry hK hf hlo p0 p1 p2 h)
abbrev FR_X3_isBegin : Nat := 3
abbrev LO_X3_isBegin : Nat := 59
theorem dyX3_isBegin : DY yX3_isBegin 1 := ⟨⟨by decide, by decide⟩, by decide +kernel⟩
theorem sm_X3_isBegin {G : GC} {K : SC} (hK : SOK G K RX3 cX3_isBegin 2 (some (.boolean)) "isBegin" []) (hf : FR_X3_isBegin ≤ (kR K).frames) (hlo : LO_X3_isBegin ≤ (kR K).locals) (p0 : Option Nat) (p1 : Int32) (h : AH) : Sim G K 2 (f_X3_isBegin p0 p1 h) h 0 [(0, va_rf p0), (1, .int p1)] [] := by
  unfold f_X3_isBegin
  refine s_aload_n hK dX3_isBegin_0 rfl 0 rfl ?_
  refine s_iload_n hK dX3_isBegin_1 rfl 1 rfl ?_
  refine s_rc (fun _ _ eo er => ?_)
  refine s_cI hK ho_n (cx_v (As := [.int p1]) (rest := []) hK dyX3_isAddress rfl q1870 fcX3.1 q1872 qs36 q80 q1873 eo er (ct_X3_isAddress hK.1 p0 p1 h) (Nat.le_trans (Nat.le_of_ble_eq_true rfl) hf) (Nat.le_trans (Nat.le_of_ble_eq_true rfl) hlo) rk_n (Nat.le_of_ble_eq_true rfl) dX3_isBegin_2 rfl) (fun v2 h1 => ?_)
  refine s_if_eq (tgt := 21) hK dX3_isBegin_5 (by decide) (fun c6 => ?_) (fun c6 => ?_)
  · refine s_iconst (v := 0) hK dX3_isBegin_21 rfl ?_
    exact s_zret hK dX3_isBegin_22
  · refine s_aload_n hK dX3_isBegin_8 rfl 0 rfl ?_
    refine s_gA hK fcX3 16 (Nat.le_of_ble_eq_true rfl) (Or.inl q1700) (Or.inl rfl) dX3_isBegin_9 (fun v3 => ?_)
    refine s_iload_n hK dX3_isBegin_12 rfl 1 rfl ?_
    refine s_iald hK dX3_isBegin_13 (fun v4 => ?_)
    refine s_if_le (tgt := 21) hK dX3_isBegin_14 (by decide) (fun c5 => ?_) (fun c5 => ?_)
    · refine s_iconst (v := 0) hK dX3_isBegin_21 rfl ?_
      exact s_zret hK dX3_isBegin_22
    · refine s_iconst (v := 1) hK dX3_isBegin_17 rfl ?_
      refine s_goto (tgt := 22) hK dX3_isBegin_18 (by decide) ?_
      exact s_zret hK dX3_isBegin_22
theorem ct_X3_isBegin {G : GC} {l : Launch} (g : GOK G l) (p0 : Option Nat) (p1 : Int32) (h : AH) : CT G l yX3_isBegin (Cond.code yX3_isBegin cX3_isBegin 2 (some (.boolean))) 3 59 [va_rf p0, .int p1] (f_X3_isBegin p0 p1 h) h :=
  CT.of g (by decide) (by simp only [ls_a, ls_i, ls_l, ls_n]; decide) (fun K _ hK hf hlo => by simp only [la_a, la_i, la_l, la_n]; exact sm_X3_isBegin hK hf hlo p0 p1 h)
abbrev FR_X3_isComplete : Nat := 4
abbrev LO_X3_isComplete : Nat := 80
theorem dyX3_isComplete : DY yX3_isComplete 1 := ⟨⟨by decide, by decide⟩, by decide +kernel⟩
theorem sm_X3_isComplete_J66 {G : GC} {K : SC} (hK : SOK G K RX3 cX3_isComplete 4 (some (.boolean)) "isComplete" []) (hf : FR_X3_isComplete ≤ (kR K).frames) (hlo : LO_X3_isComplete ≤ (kR K).locals) {rc : Option Nat → Int32 → Int32 → Int32 → AH → RS} (hrc : ∀ (y0 : Option Nat) (y1 : Int32) (y2 : Int32) (y3 : Int32) (h : AH), Sim G K 4 (rc y0 y1 y2 y3 h) h 24 [(0, va_rf y0), (1, .int y1), (2, .int y2), (3, .int y3)] []) {k73 : Int32 → AH → RS} (hk73 : ∀ (y0 : Int32) (h : AH), Sim G K 4 (k73 y0 h) h 73 [(2, .int y0)] []) (x17 : Option Nat) (x18 : Int32) (x19 : Int32) (y20 : Int32) (h21 : AH) : Sim G K 4 (f_X3_isComplete_J66 rc k73 x17 x18 x19 y20 h21) h21 66 [(0, va_rf x17), (1, .int x18), (3, .int x19)] [.int y20] := by
  unfold f_X3_isComplete_J66
  refine s_istore_n (lv' := [(2, .int y20), (0, va_rf x17), (1, .int x18), (3, .int x19)]) hK dX3_isComplete_66 rfl (Nat.le_of_ble_eq_true rfl) rfl ?_
  refine s_iinc (j := 3) (v := 1) (lv' := [(3, .int (x19 + 1)), (2, .int y20), (0, va_rf x17), (1, .int x18)]) hK dX3_isComplete_67 rfl rfl (Nat.le_of_ble_eq_true rfl) rfl ?_
  refine s_goto (tgt := 24) hK dX3_isComplete_70 (by decide) ?_
  refine s_sub [2, 3, 1, 0] rfl ?_
  exact hrc x17 x18 y20 (x19 + 1) h21
theorem sm_X3_isComplete_J65 {G : GC} {K : SC} (hK : SOK G K RX3 cX3_isComplete 4 (some (.boolean)) "isComplete" []) (hf : FR_X3_isComplete ≤ (kR K).frames) (hlo : LO_X3_isComplete ≤ (kR K).locals) {rc : Option Nat → Int32 → Int32 → Int32 → AH → RS} (hrc : ∀ (y0 : Option Nat) (y1 : Int32) (y2 : Int32) (y3 : Int32) (h : AH), Sim G K 4 (rc y0 y1 y2 y3 h) h 24 [(0, va_rf y0), (1, .int y1), (2, .int y2), (3, .int y3)] []) {k73 : Int32 → AH → RS} (hk73 : ∀ (y0 : Int32) (h : AH), Sim G K 4 (k73 y0 h) h 73 [(2, .int y0)] []) (x13 : Option Nat) (x14 : Int32) (x15 : Int32)  (h16 : AH) : Sim G K 4 (f_X3_isComplete_J65 rc k73 x13 x14 x15 h16) h16 65 [(0, va_rf x13), (1, .int x14), (3, .int x15)] [] := by
  unfold f_X3_isComplete_J65
  refine s_iconst (v := 0) hK dX3_isComplete_65 rfl ?_
  exact sm_X3_isComplete_J66 hK hf hlo hrc hk73 x13 x14 x15 0 h16
theorem sm_X3_isComplete_L24 {G : GC} {K : SC} (hK : SOK G K RX3 cX3_isComplete 4 (some (.boolean)) "isComplete" []) (hf : FR_X3_isComplete ≤ (kR K).frames) (hlo : LO_X3_isComplete ≤ (kR K).locals) {k73 : Int32 → AH → RS} (hk73 : ∀ (y0 : Int32) (h : AH), Sim G K 4 (k73 y0 h) h 73 [(2, .int y0)] []) : ∀ (n : Nat) (x6 : Option Nat) (x7 : Int32) (x8 : Int32) (x9 : Int32) (h10 : AH), Sim G K 4 (f_X3_isComplete_L24 k73 n x6 x7 x8 x9 h10) h10 24 [(0, va_rf x6), (1, .int x7), (2, .int x8), (3, .int x9)] [] := by
  intro n
  induction n with
  | zero => intro x6 x7 x8 x9 h10; exact s_none
  | succ n ih =>
    intro x6 x7 x8 x9 h10
    rw [f_X3_isComplete_L24]
    refine s_iload_n hK dX3_isComplete_24 rfl 3 rfl ?_
    refine s_aload_n hK dX3_isComplete_25 rfl 0 rfl ?_
    refine s_gA hK fcX3 34 (Nat.le_of_ble_eq_true rfl) (Or.inl q1718) (Or.inl rfl) dX3_isComplete_26 (fun v11 => ?_)
    refine s_iload_n hK dX3_isComplete_29 rfl 1 rfl ?_
    refine s_iald hK dX3_isComplete_30 (fun v12 => ?_)
    refine s_icmp_ge (tgt := 73) hK dX3_isComplete_31 (by decide) (fun c30 => ?_) (fun c30 => ?_)
    · refine s_sub [2] rfl ?_
      exact hk73 x8 h10
    · refine s_iload_n hK dX3_isComplete_34 rfl 2 rfl ?_
      refine s_if_eq (tgt := 65) hK dX3_isComplete_35 (by decide) (fun c29 => ?_) (fun c29 => ?_)
      · refine s_sub [0, 1, 3] rfl ?_
        exact sm_X3_isComplete_J65 hK hf hlo ih hk73 x6 x7 x9 h10
      · refine s_aload_n hK dX3_isComplete_38 rfl 0 rfl ?_
        refine s_aload_n hK dX3_isComplete_39 rfl 0 rfl ?_
        refine s_gA hK fcX3 1 (Nat.le_of_ble_eq_true rfl) (Or.inl q1685) (Or.inl rfl) dX3_isComplete_40 (fun v22 => ?_)
        refine s_aload_n hK dX3_isComplete_43 rfl 0 rfl ?_
        refine s_gA hK fcX3 35 (Nat.le_of_ble_eq_true rfl) (Or.inl q1719) (Or.inl rfl) dX3_isComplete_44 (fun v23 => ?_)
        refine s_bipush (v := 16) hK dX3_isComplete_47 rfl ?_
        refine s_iload_n hK dX3_isComplete_49 rfl 1 rfl ?_
        refine s_imul hK dX3_isComplete_50 ?_
        refine s_iload_n hK dX3_isComplete_51 rfl 3 rfl ?_
        refine s_iadd hK dX3_isComplete_52 ?_
        refine s_iald hK dX3_isComplete_53 (fun v24 => ?_)
        refine s_iald hK dX3_isComplete_54 (fun v25 => ?_)
        refine s_rc (fun _ _ eo er => ?_)
        refine s_cI hK ho_n (cx_v (As := [.int v25]) (rest := []) hK dyX3_isBegin rfl q2065 fcX3.1 q2067 qs64 q80 q2068 eo er (ct_X3_isBegin hK.1 x6 v25 h10) (Nat.le_trans (Nat.le_of_ble_eq_true rfl) hf) (Nat.le_trans (Nat.le_of_ble_eq_true rfl) hlo) rk_n (Nat.le_of_ble_eq_true rfl) dX3_isComplete_55 rfl) (fun v27 h26 => ?_)
        refine s_if_eq (tgt := 65) hK dX3_isComplete_58 (by decide) (fun c28 => ?_) (fun c28 => ?_)
        · refine s_sub [0, 1, 3] rfl ?_
          exact sm_X3_isComplete_J65 hK hf hlo ih hk73 x6 x7 x9 h26
        · refine s_iconst (v := 1) hK dX3_isComplete_61 rfl ?_
          refine s_goto (tgt := 66) hK dX3_isComplete_62 (by decide) ?_
          refine s_sub [0, 1, 3] rfl ?_
          exact sm_X3_isComplete_J66 hK hf hlo ih hk73 x6 x7 x9 1 h26
theorem sm_X3_isComplete {G : GC} {K : SC} (hK : SOK G K RX3 cX3_isComplete 4 (some (.boolean)) "isComplete" []) (hf : FR_X3_isComplete ≤ (kR K).frames) (hlo : LO_X3_isComplete ≤ (kR K).locals) (p0 : Option Nat) (p1 : Int32) (h : AH) : Sim G K 4 (f_X3_isComplete p0 p1 h) h 0 [(0, va_rf p0), (1, .int p1)] [] := by
  unfold f_X3_isComplete
  refine s_aload_n hK dX3_isComplete_0 rfl 0 rfl ?_
  refine s_iload_n hK dX3_isComplete_1 rfl 1 rfl ?_
  refine s_iconst (v := 0) hK dX3_isComplete_2 rfl ?_
  refine s_aload_n hK dX3_isComplete_3 rfl 0 rfl ?_
  refine s_gI hK fcX3 27 (Nat.le_of_ble_eq_true rfl) (Or.inl q1711) (Or.inl rfl) dX3_isComplete_4 (fun v1 => ?_)
  refine s_iconst (v := 1) hK dX3_isComplete_7 rfl ?_
  refine s_isub hK dX3_isComplete_8 ?_
  refine s_cI hK ho_n (cx_s (As := [.int p1, .int 0, .int (v1 - 1)]) (rest := [va_rf p0]) hK dyX3_in rfl q1844 q1845 q80 q1846 (ct_X3_in hK.1 p1 0 (v1 - 1) h) (Nat.le_trans (Nat.le_of_ble_eq_true rfl) hf) (Nat.le_trans (Nat.le_of_ble_eq_true rfl) hlo) (rk_a rk_n) (Nat.le_of_ble_eq_true rfl) dX3_isComplete_9 rfl) (fun v3 h2 => ?_)
  refine s_rc (fun _ _ eo er => ?_)
  refine s_cI hK ho_n (cx_v (As := [.int v3]) (rest := []) hK dyX3_refusal rfl q2029 fcX3.1 q2031 qs63 q80 q2032 eo er (ct_X3_refusal hK.1 p0 v3 h2) (Nat.le_trans (Nat.le_of_ble_eq_true rfl) hf) (Nat.le_trans (Nat.le_of_ble_eq_true rfl) hlo) rk_n (Nat.le_of_ble_eq_true rfl) dX3_isComplete_12 rfl) (fun v5 h4 => ?_)
  refine s_if_le (tgt := 20) hK dX3_isComplete_15 (by decide) (fun c33 => ?_) (fun c33 => ?_)
  · refine s_iconst (v := 1) hK dX3_isComplete_20 rfl ?_
    refine s_istore_n (lv' := [(2, .int 1), (0, va_rf p0), (1, .int p1)]) hK dX3_isComplete_21 rfl (Nat.le_of_ble_eq_true rfl) rfl ?_
    refine s_iconst (v := 0) hK dX3_isComplete_22 rfl ?_
    refine s_istore_n (lv' := [(3, .int 0), (2, .int 1), (0, va_rf p0), (1, .int p1)]) hK dX3_isComplete_23 rfl (Nat.le_of_ble_eq_true rfl) rfl ?_
    refine s_sub [2, 3, 1, 0] rfl ?_
    refine sm_X3_isComplete_L24 hK hf hlo (fun x31 h32 => ?_) FUEL p0 p1 1 0 h4
    · refine s_iload_n hK dX3_isComplete_73 rfl 0 rfl ?_
      exact s_zret hK dX3_isComplete_74
  · refine s_iconst (v := 0) hK dX3_isComplete_18 rfl ?_
    exact s_zret hK dX3_isComplete_19
theorem ct_X3_isComplete {G : GC} {l : Launch} (g : GOK G l) (p0 : Option Nat) (p1 : Int32) (h : AH) : CT G l yX3_isComplete (Cond.code yX3_isComplete cX3_isComplete 4 (some (.boolean))) 4 80 [va_rf p0, .int p1] (f_X3_isComplete p0 p1 h) h :=
  CT.of g (by decide) (by simp only [ls_a, ls_i, ls_l, ls_n]; decide) (fun K _ hK hf hlo => by simp only [la_a, la_i, la_l, la_n]; exact sm_X3_isComplete hK hf hlo p0 p1 h)
abbrev FR_X3_gapCount : Nat := 2
abbrev LO_X3_gapCount : Nat := 37
theorem dyX3_gapCount : DY yX3_gapCount 0 := ⟨⟨by decide, by decide⟩, by decide +kernel⟩
theorem sm_X3_gapCount {G : GC} {K : SC} (hK : SOK G K RX3 cX3_gapCount 1 (some (.int)) "gapCount" []) (hf : FR_X3_gapCount ≤ (kR K).frames) (hlo : LO_X3_gapCount ≤ (kR K).locals) (p0 : Option Nat) (h : AH) : Sim G K 1 (f_X3_gapCount p0 h) h 0 [(0, va_rf p0)] [] := by
  unfold f_X3_gapCount
  refine s_aload_n hK dX3_gapCount_0 rfl 0 rfl ?_
  refine s_aload_n hK dX3_gapCount_1 rfl 0 rfl ?_
  refine s_gI hK fcX3 28 (Nat.le_of_ble_eq_true rfl) (Or.inl q1712) (Or.inl rfl) dX3_gapCount_2 (fun v1 => ?_)
  refine s_rc (fun _ _ eo er => ?_)
  refine s_cI hK ho_n (cx_v (As := [.int v1]) (rest := []) hK dyX3_ofRecovery rfl q2021 fcX3.1 q2023 qs62 q80 q2024 eo er (ct_X3_ofRecovery hK.1 p0 v1 h) (Nat.le_trans (Nat.le_of_ble_eq_true rfl) hf) (Nat.le_trans (Nat.le_of_ble_eq_true rfl) hlo) rk_n (Nat.le_of_ble_eq_true rfl) dX3_gapCount_5 rfl) (fun v3 h2 => ?_)
  exact s_iret hK dX3_gapCount_8
theorem ct_X3_gapCount {G : GC} {l : Launch} (g : GOK G l) (p0 : Option Nat) (h : AH) : CT G l yX3_gapCount (Cond.code yX3_gapCount cX3_gapCount 1 (some (.int))) 2 37 [va_rf p0] (f_X3_gapCount p0 h) h :=
  CT.of g (by decide) (by simp only [ls_a, ls_i, ls_l, ls_n]; decide) (fun K _ hK hf hlo => by simp only [la_a, la_i, la_l, la_n]; exact sm_X3_gapCount hK hf hlo p0 h)
abbrev FR_X3_gap : Nat := 2
abbrev LO_X3_gap : Nat := 38
theorem dyX3_gap : DY yX3_gap 2 := ⟨⟨by decide, by decide⟩, by decide +kernel⟩
theorem sm_X3_gap {G : GC} {K : SC} (hK : SOK G K RX3 cX3_gap 3 (some (.int)) "gap" []) (hf : FR_X3_gap ≤ (kR K).frames) (hlo : LO_X3_gap ≤ (kR K).locals) (p0 : Option Nat) (p1 : Int32) (p2 : Int32) (h : AH) : Sim G K 3 (f_X3_gap p0 p1 p2 h) h 0 [(0, va_rf p0), (1, .int p1), (2, .int p2)] [] := by
  unfold f_X3_gap
  refine s_aload_n hK dX3_gap_0 rfl 0 rfl ?_
  refine s_iload_n hK dX3_gap_1 rfl 1 rfl ?_
  refine s_iconst (v := 0) hK dX3_gap_2 rfl ?_
  refine s_aload_n hK dX3_gap_3 rfl 0 rfl ?_
  refine s_gI hK fcX3 28 (Nat.le_of_ble_eq_true rfl) (Or.inl q1712) (Or.inl rfl) dX3_gap_4 (fun v1 => ?_)
  refine s_iconst (v := 1) hK dX3_gap_7 rfl ?_
  refine s_isub hK dX3_gap_8 ?_
  refine s_cI hK ho_n (cx_s (As := [.int p1, .int 0, .int (v1 - 1)]) (rest := [va_rf p0]) hK dyX3_in rfl q1844 q1845 q80 q1846 (ct_X3_in hK.1 p1 0 (v1 - 1) h) (Nat.le_trans (Nat.le_of_ble_eq_true rfl) hf) (Nat.le_trans (Nat.le_of_ble_eq_true rfl) hlo) (rk_a rk_n) (Nat.le_of_ble_eq_true rfl) dX3_gap_9 rfl) (fun v3 h2 => ?_)
  refine s_rc (fun _ _ eo er => ?_)
  refine s_cI hK ho_n (cx_v (As := [.int v3]) (rest := []) hK dyX3_refusal rfl q2029 fcX3.1 q2031 qs63 q80 q2032 eo er (ct_X3_refusal hK.1 p0 v3 h2) (Nat.le_trans (Nat.le_of_ble_eq_true rfl) hf) (Nat.le_trans (Nat.le_of_ble_eq_true rfl) hlo) rk_n (Nat.le_of_ble_eq_true rfl) dX3_gap_12 rfl) (fun v5 h4 => ?_)
  refine s_if_le (tgt := 20) hK dX3_gap_15 (by decide) (fun c17 => ?_) (fun c17 => ?_)
  · refine s_iload_n hK dX3_gap_20 rfl 2 rfl ?_
    refine s_if_ne (tgt := 33) hK dX3_gap_21 (by decide) (fun c16 => ?_) (fun c16 => ?_)
    · refine s_iload_n hK dX3_gap_33 rfl 2 rfl ?_
      refine s_iconst (v := 1) hK dX3_gap_34 rfl ?_
      refine s_icmp_ne (tgt := 47) hK dX3_gap_35 (by decide) (fun c13 => ?_) (fun c13 => ?_)
      · refine s_iload_n hK dX3_gap_47 rfl 2 rfl ?_
        refine s_iconst (v := 2) hK dX3_gap_48 rfl ?_
        refine s_icmp_ne (tgt := 61) hK dX3_gap_49 (by decide) (fun c10 => ?_) (fun c10 => ?_)
        · refine s_aload_n hK dX3_gap_61 rfl 0 rfl ?_
          refine s_iconst (v := 3) hK dX3_gap_62 rfl ?_
          refine s_rc (fun _ _ eo er => ?_)
          refine s_cI hK ho_n (cx_v (As := [.int 3]) (rest := []) hK dyX3_fails rfl q1847 fcX3.1 q1849 qs34 q80 q1850 eo er (ct_X3_fails hK.1 p0 3 h4) (Nat.le_trans (Nat.le_of_ble_eq_true rfl) hf) (Nat.le_trans (Nat.le_of_ble_eq_true rfl) hlo) rk_n (Nat.le_of_ble_eq_true rfl) dX3_gap_63 rfl) (fun v7 h6 => ?_)
          exact s_iret hK dX3_gap_66
        · refine s_aload_n hK dX3_gap_52 rfl 0 rfl ?_
          refine s_gA hK fcX3 38 (Nat.le_of_ble_eq_true rfl) (Or.inl q1722) (Or.inl rfl) dX3_gap_53 (fun v8 => ?_)
          refine s_iload_n hK dX3_gap_56 rfl 1 rfl ?_
          refine s_iald hK dX3_gap_57 (fun v9 => ?_)
          refine s_goto (tgt := 66) hK dX3_gap_58 (by decide) ?_
          exact s_iret hK dX3_gap_66
      · refine s_aload_n hK dX3_gap_38 rfl 0 rfl ?_
        refine s_gA hK fcX3 37 (Nat.le_of_ble_eq_true rfl) (Or.inl q1721) (Or.inl rfl) dX3_gap_39 (fun v11 => ?_)
        refine s_iload_n hK dX3_gap_42 rfl 1 rfl ?_
        refine s_iald hK dX3_gap_43 (fun v12 => ?_)
        refine s_goto (tgt := 66) hK dX3_gap_44 (by decide) ?_
        exact s_iret hK dX3_gap_66
    · refine s_aload_n hK dX3_gap_24 rfl 0 rfl ?_
      refine s_gA hK fcX3 36 (Nat.le_of_ble_eq_true rfl) (Or.inl q1720) (Or.inl rfl) dX3_gap_25 (fun v14 => ?_)
      refine s_iload_n hK dX3_gap_28 rfl 1 rfl ?_
      refine s_iald hK dX3_gap_29 (fun v15 => ?_)
      refine s_goto (tgt := 66) hK dX3_gap_30 (by decide) ?_
      exact s_iret hK dX3_gap_66
  · refine s_iconst (v := 0) hK dX3_gap_18 rfl ?_
    exact s_iret hK dX3_gap_19
theorem ct_X3_gap {G : GC} {l : Launch} (g : GOK G l) (p0 : Option Nat) (p1 : Int32) (p2 : Int32) (h : AH) : CT G l yX3_gap (Cond.code yX3_gap cX3_gap 3 (some (.int))) 2 38 [va_rf p0, .int p1, .int p2] (f_X3_gap p0 p1 p2 h) h :=
  CT.of g (by decide) (by simp only [ls_a, ls_i, ls_l, ls_n]; decide) (fun K _ hK hf hlo => by simp only [la_a, la_i, la_l, la_n]; exact sm_X3_gap hK hf hlo p0 p1 p2 h)
abbrev FR_X3_speculative : Nat := 2
abbrev LO_X3_speculative : Nat := 37
theorem dyX3_speculative : DY yX3_speculative 0 := ⟨⟨by decide, by decide⟩, by decide +kernel⟩
theorem sm_X3_speculative {G : GC} {K : SC} (hK : SOK G K RX3 cX3_speculative 1 (some (.int)) "speculative" []) (hf : FR_X3_speculative ≤ (kR K).frames) (hlo : LO_X3_speculative ≤ (kR K).locals) (p0 : Option Nat) (h : AH) : Sim G K 1 (f_X3_speculative p0 h) h 0 [(0, va_rf p0)] [] := by
  unfold f_X3_speculative
  refine s_aload_n hK dX3_speculative_0 rfl 0 rfl ?_
  refine s_aload_n hK dX3_speculative_1 rfl 0 rfl ?_
  refine s_gI hK fcX3 29 (Nat.le_of_ble_eq_true rfl) (Or.inl q1713) (Or.inl rfl) dX3_speculative_2 (fun v1 => ?_)
  refine s_rc (fun _ _ eo er => ?_)
  refine s_cI hK ho_n (cx_v (As := [.int v1]) (rest := []) hK dyX3_ofRecovery rfl q2021 fcX3.1 q2023 qs62 q80 q2024 eo er (ct_X3_ofRecovery hK.1 p0 v1 h) (Nat.le_trans (Nat.le_of_ble_eq_true rfl) hf) (Nat.le_trans (Nat.le_of_ble_eq_true rfl) hlo) rk_n (Nat.le_of_ble_eq_true rfl) dX3_speculative_5 rfl) (fun v3 h2 => ?_)
  exact s_iret hK dX3_speculative_8
theorem ct_X3_speculative {G : GC} {l : Launch} (g : GOK G l) (p0 : Option Nat) (h : AH) : CT G l yX3_speculative (Cond.code yX3_speculative cX3_speculative 1 (some (.int))) 2 37 [va_rf p0] (f_X3_speculative p0 h) h :=
  CT.of g (by decide) (by simp only [ls_a, ls_i, ls_l, ls_n]; decide) (fun K _ hK hf hlo => by simp only [la_a, la_i, la_l, la_n]; exact sm_X3_speculative hK hf hlo p0 h)
abbrev FR_X3_isGoal : Nat := 3
abbrev LO_X3_isGoal : Nat := 59
theorem dyX3_isGoal : DY yX3_isGoal 2 := ⟨⟨by decide, by decide⟩, by decide +kernel⟩
theorem sm_X3_isGoal_J70 {G : GC} {K : SC} (hK : SOK G K RX3 cX3_isGoal 5 (some (.boolean)) "isGoal" []) (hf : FR_X3_isGoal ≤ (kR K).frames) (hlo : LO_X3_isGoal ≤ (kR K).locals) {rc : Option Nat → Int32 → Int32 → Int32 → Int32 → AH → RS} (hrc : ∀ (y0 : Option Nat) (y1 : Int32) (y2 : Int32) (y3 : Int32) (y4 : Int32) (h : AH), Sim G K 5 (rc y0 y1 y2 y3 y4 h) h 5 [(0, va_rf y0), (1, .int y1), (2, .int y2), (3, .int y3), (4, .int y4)] []) {k77 : Int32 → AH → RS} (hk77 : ∀ (y0 : Int32) (h : AH), Sim G K 5 (k77 y0 h) h 77 [(3, .int y0)] []) (x13 : Option Nat) (x14 : Int32) (x15 : Int32) (x16 : Int32) (y17 : Int32) (h18 : AH) : Sim G K 5 (f_X3_isGoal_J70 rc k77 x13 x14 x15 x16 y17 h18) h18 70 [(0, va_rf x13), (1, .int x14), (2, .int x15), (4, .int x16)] [.int y17] := by
  unfold f_X3_isGoal_J70
  refine s_istore_n (lv' := [(3, .int y17), (0, va_rf x13), (1, .int x14), (2, .int x15), (4, .int x16)]) hK dX3_isGoal_70 rfl (Nat.le_of_ble_eq_true rfl) rfl ?_
  refine s_iinc (j := 4) (v := 1) (lv' := [(4, .int (x16 + 1)), (3, .int y17), (0, va_rf x13), (1, .int x14), (2, .int x15)]) hK dX3_isGoal_71 rfl rfl (Nat.le_of_ble_eq_true rfl) rfl ?_
  refine s_goto (tgt := 5) hK dX3_isGoal_74 (by decide) ?_
  refine s_sub [2, 3, 4, 1, 0] rfl ?_
  exact hrc x13 x14 x15 y17 (x16 + 1) h18
theorem sm_X3_isGoal_J65 {G : GC} {K : SC} (hK : SOK G K RX3 cX3_isGoal 5 (some (.boolean)) "isGoal" []) (hf : FR_X3_isGoal ≤ (kR K).frames) (hlo : LO_X3_isGoal ≤ (kR K).locals) {rc : Option Nat → Int32 → Int32 → Int32 → Int32 → AH → RS} (hrc : ∀ (y0 : Option Nat) (y1 : Int32) (y2 : Int32) (y3 : Int32) (y4 : Int32) (h : AH), Sim G K 5 (rc y0 y1 y2 y3 y4 h) h 5 [(0, va_rf y0), (1, .int y1), (2, .int y2), (3, .int y3), (4, .int y4)] []) {k77 : Int32 → AH → RS} (hk77 : ∀ (y0 : Int32) (h : AH), Sim G K 5 (k77 y0 h) h 77 [(3, .int y0)] []) (x8 : Option Nat) (x9 : Int32) (x10 : Int32) (x11 : Int32)  (h12 : AH) : Sim G K 5 (f_X3_isGoal_J65 rc k77 x8 x9 x10 x11 h12) h12 65 [(0, va_rf x8), (1, .int x9), (2, .int x10), (4, .int x11)] [] := by
  unfold f_X3_isGoal_J65
  refine s_iconst (v := 1) hK dX3_isGoal_65 rfl ?_
  refine s_goto (tgt := 70) hK dX3_isGoal_66 (by decide) ?_
  exact sm_X3_isGoal_J70 hK hf hlo hrc hk77 x8 x9 x10 x11 1 h12
theorem sm_X3_isGoal_J69 {G : GC} {K : SC} (hK : SOK G K RX3 cX3_isGoal 5 (some (.boolean)) "isGoal" []) (hf : FR_X3_isGoal ≤ (kR K).frames) (hlo : LO_X3_isGoal ≤ (kR K).locals) {rc : Option Nat → Int32 → Int32 → Int32 → Int32 → AH → RS} (hrc : ∀ (y0 : Option Nat) (y1 : Int32) (y2 : Int32) (y3 : Int32) (y4 : Int32) (h : AH), Sim G K 5 (rc y0 y1 y2 y3 y4 h) h 5 [(0, va_rf y0), (1, .int y1), (2, .int y2), (3, .int y3), (4, .int y4)] []) {k77 : Int32 → AH → RS} (hk77 : ∀ (y0 : Int32) (h : AH), Sim G K 5 (k77 y0 h) h 77 [(3, .int y0)] []) (x21 : Option Nat) (x22 : Int32) (x23 : Int32) (x24 : Int32)  (h25 : AH) : Sim G K 5 (f_X3_isGoal_J69 rc k77 x21 x22 x23 x24 h25) h25 69 [(0, va_rf x21), (1, .int x22), (2, .int x23), (4, .int x24)] [] := by
  unfold f_X3_isGoal_J69
  refine s_iconst (v := 0) hK dX3_isGoal_69 rfl ?_
  exact sm_X3_isGoal_J70 hK hf hlo hrc hk77 x21 x22 x23 x24 0 h25
theorem sm_X3_isGoal_J55 {G : GC} {K : SC} (hK : SOK G K RX3 cX3_isGoal 5 (some (.boolean)) "isGoal" []) (hf : FR_X3_isGoal ≤ (kR K).frames) (hlo : LO_X3_isGoal ≤ (kR K).locals) {rc : Option Nat → Int32 → Int32 → Int32 → Int32 → AH → RS} (hrc : ∀ (y0 : Option Nat) (y1 : Int32) (y2 : Int32) (y3 : Int32) (y4 : Int32) (h : AH), Sim G K 5 (rc y0 y1 y2 y3 y4 h) h 5 [(0, va_rf y0), (1, .int y1), (2, .int y2), (3, .int y3), (4, .int y4)] []) {k77 : Int32 → AH → RS} (hk77 : ∀ (y0 : Int32) (h : AH), Sim G K 5 (k77 y0 h) h 77 [(3, .int y0)] []) (x28 : Option Nat) (x29 : Int32) (x30 : Int32) (x31 : Int32)  (h32 : AH) : Sim G K 5 (f_X3_isGoal_J55 rc k77 x28 x29 x30 x31 h32) h32 55 [(0, va_rf x28), (1, .int x29), (2, .int x30), (4, .int x31)] [] := by
  unfold f_X3_isGoal_J55
  refine s_aload_n hK dX3_isGoal_55 rfl 0 rfl ?_
  refine s_iload hK dX3_isGoal_56 3 rfl ?_
  refine s_rc (fun _ _ eo er => ?_)
  refine s_cI hK ho_n (cx_v (As := [.int x31]) (rest := []) hK dyX3_goal rfl q1925 fcX3.1 q1927 qs41 q80 q1928 eo er (ct_X3_goal hK.1 x28 x31 h32) (Nat.le_trans (Nat.le_of_ble_eq_true rfl) hf) (Nat.le_trans (Nat.le_of_ble_eq_true rfl) hlo) rk_n (Nat.le_of_ble_eq_true rfl) dX3_isGoal_58 rfl) (fun v34 h33 => ?_)
  refine s_iload_n hK dX3_isGoal_61 rfl 1 rfl ?_
  refine s_icmp_ne (tgt := 69) hK dX3_isGoal_62 (by decide) (fun c35 => ?_) (fun c35 => ?_)
  · exact sm_X3_isGoal_J69 hK hf hlo hrc hk77 x28 x29 x30 x31 h33
  · exact sm_X3_isGoal_J65 hK hf hlo hrc hk77 x28 x29 x30 x31 h33
theorem sm_X3_isGoal_L5 {G : GC} {K : SC} (hK : SOK G K RX3 cX3_isGoal 5 (some (.boolean)) "isGoal" []) (hf : FR_X3_isGoal ≤ (kR K).frames) (hlo : LO_X3_isGoal ≤ (kR K).locals) {k77 : Int32 → AH → RS} (hk77 : ∀ (y0 : Int32) (h : AH), Sim G K 5 (k77 y0 h) h 77 [(3, .int y0)] []) : ∀ (n : Nat) (x1 : Option Nat) (x2 : Int32) (x3 : Int32) (x4 : Int32) (x5 : Int32) (h6 : AH), Sim G K 5 (f_X3_isGoal_L5 k77 n x1 x2 x3 x4 x5 h6) h6 5 [(0, va_rf x1), (1, .int x2), (2, .int x3), (3, .int x4), (4, .int x5)] [] := by
  intro n
  induction n with
  | zero => intro x1 x2 x3 x4 x5 h6; exact s_none
  | succ n ih =>
    intro x1 x2 x3 x4 x5 h6
    rw [f_X3_isGoal_L5]
    refine s_iload hK dX3_isGoal_5 4 rfl ?_
    refine s_aload_n hK dX3_isGoal_7 rfl 0 rfl ?_
    refine s_gI hK fcX3 5 (Nat.le_of_ble_eq_true rfl) (Or.inl q1689) (Or.inl rfl) dX3_isGoal_8 (fun v7 => ?_)
    refine s_icmp_ge (tgt := 77) hK dX3_isGoal_11 (by decide) (fun c43 => ?_) (fun c43 => ?_)
    · refine s_sub [3] rfl ?_
      exact hk77 x4 h6
    · refine s_iload_n hK dX3_isGoal_14 rfl 3 rfl ?_
      refine s_if_ne (tgt := 65) hK dX3_isGoal_15 (by decide) (fun c42 => ?_) (fun c42 => ?_)
      · refine s_sub [0, 1, 2, 4] rfl ?_
        exact sm_X3_isGoal_J65 hK hf hlo ih hk77 x1 x2 x3 x5 h6
      · refine s_aload_n hK dX3_isGoal_18 rfl 0 rfl ?_
        refine s_gA hK fcX3 16 (Nat.le_of_ble_eq_true rfl) (Or.inl q1700) (Or.inl rfl) dX3_isGoal_19 (fun v19 => ?_)
        refine s_iload hK dX3_isGoal_22 4 rfl ?_
        refine s_iald hK dX3_isGoal_24 (fun v20 => ?_)
        refine s_if_le (tgt := 69) hK dX3_isGoal_25 (by decide) (fun c41 => ?_) (fun c41 => ?_)
        · refine s_sub [0, 1, 2, 4] rfl ?_
          exact sm_X3_isGoal_J69 hK hf hlo ih hk77 x1 x2 x3 x5 h6
        · refine s_iload_n hK dX3_isGoal_28 rfl 2 rfl ?_
          refine s_if_eq (tgt := 46) hK dX3_isGoal_29 (by decide) (fun c40 => ?_) (fun c40 => ?_)
          · refine s_aload_n hK dX3_isGoal_46 rfl 0 rfl ?_
            refine s_iload hK dX3_isGoal_47 4 rfl ?_
            refine s_rc (fun _ _ eo er => ?_)
            refine s_cI hK ho_n (cx_v (As := [.int x5]) (rest := []) hK dyX3_hasGoal rfl q1921 fcX3.1 q1923 qs40 q80 q1924 eo er (ct_X3_hasGoal hK.1 x1 x5 h6) (Nat.le_trans (Nat.le_of_ble_eq_true rfl) hf) (Nat.le_trans (Nat.le_of_ble_eq_true rfl) hlo) rk_n (Nat.le_of_ble_eq_true rfl) dX3_isGoal_49 rfl) (fun v27 h26 => ?_)
            refine s_if_eq (tgt := 69) hK dX3_isGoal_52 (by decide) (fun c36 => ?_) (fun c36 => ?_)
            · refine s_sub [0, 1, 2, 4] rfl ?_
              exact sm_X3_isGoal_J69 hK hf hlo ih hk77 x1 x2 x3 x5 h26
            · refine s_sub [0, 1, 2, 4] rfl ?_
              exact sm_X3_isGoal_J55 hK hf hlo ih hk77 x1 x2 x3 x5 h26
          · refine s_aload_n hK dX3_isGoal_32 rfl 0 rfl ?_
            refine s_iload hK dX3_isGoal_33 4 rfl ?_
            refine s_rc (fun _ _ eo er => ?_)
            refine s_cI hK ho_n (cx_v (As := [.int x5]) (rest := []) hK dyX3_sort rfl q1914 fcX3.1 q1916 qs39 q80 q1917 eo er (ct_X3_sort hK.1 x1 x5 h6) (Nat.le_trans (Nat.le_of_ble_eq_true rfl) hf) (Nat.le_trans (Nat.le_of_ble_eq_true rfl) hlo) rk_n (Nat.le_of_ble_eq_true rfl) dX3_isGoal_35 rfl) (fun v38 h37 => ?_)
            refine s_bipush (v := 7) hK dX3_isGoal_38 rfl ?_
            refine s_icmp_ne (tgt := 69) hK dX3_isGoal_40 (by decide) (fun c39 => ?_) (fun c39 => ?_)
            · refine s_sub [0, 1, 2, 4] rfl ?_
              exact sm_X3_isGoal_J69 hK hf hlo ih hk77 x1 x2 x3 x5 h37
            · refine s_goto (tgt := 55) hK dX3_isGoal_43 (by decide) ?_
              refine s_sub [0, 1, 2, 4] rfl ?_
              exact sm_X3_isGoal_J55 hK hf hlo ih hk77 x1 x2 x3 x5 h37
theorem sm_X3_isGoal {G : GC} {K : SC} (hK : SOK G K RX3 cX3_isGoal 5 (some (.boolean)) "isGoal" []) (hf : FR_X3_isGoal ≤ (kR K).frames) (hlo : LO_X3_isGoal ≤ (kR K).locals) (p0 : Option Nat) (p1 : Int32) (p2 : Int32) (h : AH) : Sim G K 5 (f_X3_isGoal p0 p1 p2 h) h 0 [(0, va_rf p0), (1, .int p1), (2, .int p2)] [] := by
  unfold f_X3_isGoal
  refine s_iconst (v := 0) hK dX3_isGoal_0 rfl ?_
  refine s_istore_n (lv' := [(3, .int 0), (0, va_rf p0), (1, .int p1), (2, .int p2)]) hK dX3_isGoal_1 rfl (Nat.le_of_ble_eq_true rfl) rfl ?_
  refine s_iconst (v := 0) hK dX3_isGoal_2 rfl ?_
  refine s_istore (lv' := [(4, .int 0), (3, .int 0), (0, va_rf p0), (1, .int p1), (2, .int p2)]) hK dX3_isGoal_3 (Nat.le_of_ble_eq_true rfl) rfl ?_
  refine s_sub [2, 3, 4, 1, 0] rfl ?_
  refine sm_X3_isGoal_L5 hK hf hlo (fun x44 h45 => ?_) FUEL p0 p1 p2 0 0 h
  · refine s_iload_n hK dX3_isGoal_77 rfl 0 rfl ?_
    exact s_zret hK dX3_isGoal_78
theorem ct_X3_isGoal {G : GC} {l : Launch} (g : GOK G l) (p0 : Option Nat) (p1 : Int32) (p2 : Int32) (h : AH) : CT G l yX3_isGoal (Cond.code yX3_isGoal cX3_isGoal 5 (some (.boolean))) 3 59 [va_rf p0, .int p1, .int p2] (f_X3_isGoal p0 p1 p2 h) h :=
  CT.of g (by decide) (by simp only [ls_a, ls_i, ls_l, ls_n]; decide) (fun K _ hK hf hlo => by simp only [la_a, la_i, la_l, la_n]; exact sm_X3_isGoal hK hf hlo p0 p1 p2 h)
abbrev FR_X3_isTableGoal : Nat := 1
abbrev LO_X3_isTableGoal : Nat := 16
theorem dyX3_isTableGoal : DY yX3_isTableGoal 1 := ⟨⟨by decide, by decide⟩, by decide +kernel⟩
theorem sm_X3_isTableGoal_J56 {G : GC} {K : SC} (hK : SOK G K RX3 cX3_isTableGoal 5 (some (.boolean)) "isTableGoal" []) (hf : FR_X3_isTableGoal ≤ (kR K).frames) (hlo : LO_X3_isTableGoal ≤ (kR K).locals) {rc : Option Nat → Int32 → Int32 → Int32 → Int32 → AH → RS} (hrc : ∀ (y0 : Option Nat) (y1 : Int32) (y2 : Int32) (y3 : Int32) (y4 : Int32) (h : AH), Sim G K 5 (rc y0 y1 y2 y3 y4 h) h 15 [(0, va_rf y0), (1, .int y1), (2, .int y2), (3, .int y3), (4, .int y4)] []) {k63 : Option Nat → Int32 → Int32 → Int32 → AH → RS} (hk63 : ∀ (y0 : Option Nat) (y1 : Int32) (y2 : Int32) (y3 : Int32) (h : AH), Sim G K 5 (k63 y0 y1 y2 y3 h) h 63 [(0, va_rf y0), (1, .int y1), (2, .int y2), (3, .int y3)] []) (x20 : Option Nat) (x21 : Int32) (x22 : Int32) (x23 : Int32) (y24 : Int32) (h25 : AH) : Sim G K 5 (f_X3_isTableGoal_J56 rc k63 x20 x21 x22 x23 y24 h25) h25 56 [(0, va_rf x20), (1, .int x21), (3, .int x22), (4, .int x23)] [.int y24] := by
  unfold f_X3_isTableGoal_J56
  refine s_istore_n (lv' := [(2, .int y24), (0, va_rf x20), (1, .int x21), (3, .int x22), (4, .int x23)]) hK dX3_isTableGoal_56 rfl (Nat.le_of_ble_eq_true rfl) rfl ?_
  refine s_iinc (j := 4) (v := 1) (lv' := [(4, .int (x23 + 1)), (2, .int y24), (0, va_rf x20), (1, .int x21), (3, .int x22)]) hK dX3_isTableGoal_57 rfl rfl (Nat.le_of_ble_eq_true rfl) rfl ?_
  refine s_goto (tgt := 15) hK dX3_isTableGoal_60 (by decide) ?_
  refine s_sub [2, 3, 1, 4, 0] rfl ?_
  exact hrc x20 x21 y24 x22 (x23 + 1) h25
theorem sm_X3_isTableGoal_J51 {G : GC} {K : SC} (hK : SOK G K RX3 cX3_isTableGoal 5 (some (.boolean)) "isTableGoal" []) (hf : FR_X3_isTableGoal ≤ (kR K).frames) (hlo : LO_X3_isTableGoal ≤ (kR K).locals) {rc : Option Nat → Int32 → Int32 → Int32 → Int32 → AH → RS} (hrc : ∀ (y0 : Option Nat) (y1 : Int32) (y2 : Int32) (y3 : Int32) (y4 : Int32) (h : AH), Sim G K 5 (rc y0 y1 y2 y3 y4 h) h 15 [(0, va_rf y0), (1, .int y1), (2, .int y2), (3, .int y3), (4, .int y4)] []) {k63 : Option Nat → Int32 → Int32 → Int32 → AH → RS} (hk63 : ∀ (y0 : Option Nat) (y1 : Int32) (y2 : Int32) (y3 : Int32) (h : AH), Sim G K 5 (k63 y0 y1 y2 y3 h) h 63 [(0, va_rf y0), (1, .int y1), (2, .int y2), (3, .int y3)] []) (x15 : Option Nat) (x16 : Int32) (x17 : Int32) (x18 : Int32)  (h19 : AH) : Sim G K 5 (f_X3_isTableGoal_J51 rc k63 x15 x16 x17 x18 h19) h19 51 [(0, va_rf x15), (1, .int x16), (3, .int x17), (4, .int x18)] [] := by
  unfold f_X3_isTableGoal_J51
  refine s_iconst (v := 1) hK dX3_isTableGoal_51 rfl ?_
  refine s_goto (tgt := 56) hK dX3_isTableGoal_52 (by decide) ?_
  exact sm_X3_isTableGoal_J56 hK hf hlo hrc hk63 x15 x16 x17 x18 1 h19
theorem sm_X3_isTableGoal_L15 {G : GC} {K : SC} (hK : SOK G K RX3 cX3_isTableGoal 5 (some (.boolean)) "isTableGoal" []) (hf : FR_X3_isTableGoal ≤ (kR K).frames) (hlo : LO_X3_isTableGoal ≤ (kR K).locals) {k63 : Option Nat → Int32 → Int32 → Int32 → AH → RS} (hk63 : ∀ (y0 : Option Nat) (y1 : Int32) (y2 : Int32) (y3 : Int32) (h : AH), Sim G K 5 (k63 y0 y1 y2 y3 h) h 63 [(0, va_rf y0), (1, .int y1), (2, .int y2), (3, .int y3)] []) : ∀ (n : Nat) (x7 : Option Nat) (x8 : Int32) (x9 : Int32) (x10 : Int32) (x11 : Int32) (h12 : AH), Sim G K 5 (f_X3_isTableGoal_L15 k63 n x7 x8 x9 x10 x11 h12) h12 15 [(0, va_rf x7), (1, .int x8), (2, .int x9), (3, .int x10), (4, .int x11)] [] := by
  intro n
  induction n with
  | zero => intro x7 x8 x9 x10 x11 h12; exact s_none
  | succ n ih =>
    intro x7 x8 x9 x10 x11 h12
    rw [f_X3_isTableGoal_L15]
    refine s_iload hK dX3_isTableGoal_15 4 rfl ?_
    refine s_aload_n hK dX3_isTableGoal_17 rfl 0 rfl ?_
    refine s_gA hK fcX3 34 (Nat.le_of_ble_eq_true rfl) (Or.inl q1718) (Or.inl rfl) dX3_isTableGoal_18 (fun v13 => ?_)
    refine s_iload_n hK dX3_isTableGoal_21 rfl 3 rfl ?_
    refine s_iald hK dX3_isTableGoal_22 (fun v14 => ?_)
    refine s_icmp_ge (tgt := 63) hK dX3_isTableGoal_23 (by decide) (fun c32 => ?_) (fun c32 => ?_)
    · refine s_sub [0, 1, 2, 3] rfl ?_
      exact hk63 x7 x8 x9 x10 h12
    · refine s_iload_n hK dX3_isTableGoal_26 rfl 2 rfl ?_
      refine s_if_ne (tgt := 51) hK dX3_isTableGoal_27 (by decide) (fun c31 => ?_) (fun c31 => ?_)
      · refine s_sub [0, 1, 3, 4] rfl ?_
        exact sm_X3_isTableGoal_J51 hK hf hlo ih hk63 x7 x8 x10 x11 h12
      · refine s_aload_n hK dX3_isTableGoal_30 rfl 0 rfl ?_
        refine s_gA hK fcX3 1 (Nat.le_of_ble_eq_true rfl) (Or.inl q1685) (Or.inl rfl) dX3_isTableGoal_31 (fun v26 => ?_)
        refine s_aload_n hK dX3_isTableGoal_34 rfl 0 rfl ?_
        refine s_gA hK fcX3 35 (Nat.le_of_ble_eq_true rfl) (Or.inl q1719) (Or.inl rfl) dX3_isTableGoal_35 (fun v27 => ?_)
        refine s_bipush (v := 16) hK dX3_isTableGoal_38 rfl ?_
        refine s_iload_n hK dX3_isTableGoal_40 rfl 3 rfl ?_
        refine s_imul hK dX3_isTableGoal_41 ?_
        refine s_iload hK dX3_isTableGoal_42 4 rfl ?_
        refine s_iadd hK dX3_isTableGoal_44 ?_
        refine s_iald hK dX3_isTableGoal_45 (fun v28 => ?_)
        refine s_iald hK dX3_isTableGoal_46 (fun v29 => ?_)
        refine s_iload_n hK dX3_isTableGoal_47 rfl 1 rfl ?_
        refine s_icmp_ne (tgt := 55) hK dX3_isTableGoal_48 (by decide) (fun c30 => ?_) (fun c30 => ?_)
        · refine s_iconst (v := 0) hK dX3_isTableGoal_55 rfl ?_
          refine s_sub [0, 1, 3, 4] rfl ?_
          exact sm_X3_isTableGoal_J56 hK hf hlo ih hk63 x7 x8 x10 x11 0 h12
        · refine s_sub [0, 1, 3, 4] rfl ?_
          exact sm_X3_isTableGoal_J51 hK hf hlo ih hk63 x7 x8 x10 x11 h12
theorem sm_X3_isTableGoal_L4 {G : GC} {K : SC} (hK : SOK G K RX3 cX3_isTableGoal 5 (some (.boolean)) "isTableGoal" []) (hf : FR_X3_isTableGoal ≤ (kR K).frames) (hlo : LO_X3_isTableGoal ≤ (kR K).locals) {k69 : Int32 → AH → RS} (hk69 : ∀ (y0 : Int32) (h : AH), Sim G K 5 (k69 y0 h) h 69 [(2, .int y0)] []) : ∀ (n : Nat) (x1 : Option Nat) (x2 : Int32) (x3 : Int32) (x4 : Int32) (h5 : AH), Sim G K 5 (f_X3_isTableGoal_L4 k69 n x1 x2 x3 x4 h5) h5 4 [(0, va_rf x1), (1, .int x2), (2, .int x3), (3, .int x4)] [] := by
  intro n
  induction n with
  | zero => intro x1 x2 x3 x4 h5; exact s_none
  | succ n ih =>
    intro x1 x2 x3 x4 h5
    rw [f_X3_isTableGoal_L4]
    refine s_iload_n hK dX3_isTableGoal_4 rfl 3 rfl ?_
    refine s_aload_n hK dX3_isTableGoal_5 rfl 0 rfl ?_
    refine s_gI hK fcX3 27 (Nat.le_of_ble_eq_true rfl) (Or.inl q1711) (Or.inl rfl) dX3_isTableGoal_6 (fun v6 => ?_)
    refine s_icmp_ge (tgt := 69) hK dX3_isTableGoal_9 (by decide) (fun c38 => ?_) (fun c38 => ?_)
    · refine s_sub [2] rfl ?_
      exact hk69 x3 h5
    · refine s_iconst (v := 0) hK dX3_isTableGoal_12 rfl ?_
      refine s_istore (lv' := [(4, .int 0), (0, va_rf x1), (1, .int x2), (2, .int x3), (3, .int x4)]) hK dX3_isTableGoal_13 (Nat.le_of_ble_eq_true rfl) rfl ?_
      refine s_sub [1, 2, 3, 4, 0] rfl ?_
      refine sm_X3_isTableGoal_L15 hK hf hlo (fun x33 x34 x35 x36 h37 => ?_) FUEL x1 x2 x3 x4 0 h5
      · refine s_iinc (j := 3) (v := 1) (lv' := [(3, .int (x36 + 1)), (0, va_rf x33), (1, .int x34), (2, .int x35)]) hK dX3_isTableGoal_63 rfl rfl (Nat.le_of_ble_eq_true rfl) rfl ?_
        refine s_goto (tgt := 4) hK dX3_isTableGoal_66 (by decide) ?_
        refine s_sub [1, 2, 3, 0] rfl ?_
        exact ih x33 x34 x35 (x36 + 1) h37
theorem sm_X3_isTableGoal {G : GC} {K : SC} (hK : SOK G K RX3 cX3_isTableGoal 5 (some (.boolean)) "isTableGoal" []) (hf : FR_X3_isTableGoal ≤ (kR K).frames) (hlo : LO_X3_isTableGoal ≤ (kR K).locals) (p0 : Option Nat) (p1 : Int32) (h : AH) : Sim G K 5 (f_X3_isTableGoal p0 p1 h) h 0 [(0, va_rf p0), (1, .int p1)] [] := by
  unfold f_X3_isTableGoal
  refine s_iconst (v := 0) hK dX3_isTableGoal_0 rfl ?_
  refine s_istore_n (lv' := [(2, .int 0), (0, va_rf p0), (1, .int p1)]) hK dX3_isTableGoal_1 rfl (Nat.le_of_ble_eq_true rfl) rfl ?_
  refine s_iconst (v := 0) hK dX3_isTableGoal_2 rfl ?_
  refine s_istore_n (lv' := [(3, .int 0), (2, .int 0), (0, va_rf p0), (1, .int p1)]) hK dX3_isTableGoal_3 rfl (Nat.le_of_ble_eq_true rfl) rfl ?_
  refine s_sub [2, 3, 1, 0] rfl ?_
  refine sm_X3_isTableGoal_L4 hK hf hlo (fun x39 h40 => ?_) FUEL p0 p1 0 0 h
  · refine s_iload_n hK dX3_isTableGoal_69 rfl 0 rfl ?_
    exact s_zret hK dX3_isTableGoal_70
theorem ct_X3_isTableGoal {G : GC} {l : Launch} (g : GOK G l) (p0 : Option Nat) (p1 : Int32) (h : AH) : CT G l yX3_isTableGoal (Cond.code yX3_isTableGoal cX3_isTableGoal 5 (some (.boolean))) 1 16 [va_rf p0, .int p1] (f_X3_isTableGoal p0 p1 h) h :=
  CT.of g (by decide) (by simp only [ls_a, ls_i, ls_l, ls_n]; decide) (fun K _ hK hf hlo => by simp only [la_a, la_i, la_l, la_n]; exact sm_X3_isTableGoal hK hf hlo p0 p1 h)
abbrev FR_X3_endsBlock : Nat := 3
abbrev LO_X3_endsBlock : Nat := 58
theorem dyX3_endsBlock : DY yX3_endsBlock 1 := ⟨⟨by decide, by decide⟩, by decide +kernel⟩
theorem sm_X3_endsBlock {G : GC} {K : SC} (hK : SOK G K RX3 cX3_endsBlock 2 (some (.boolean)) "endsBlock" []) (hf : FR_X3_endsBlock ≤ (kR K).frames) (hlo : LO_X3_endsBlock ≤ (kR K).locals) (p0 : Option Nat) (p1 : Int32) (h : AH) : Sim G K 2 (f_X3_endsBlock p0 p1 h) h 0 [(0, va_rf p0), (1, .int p1)] [] := by
  unfold f_X3_endsBlock
  refine s_aload_n hK dX3_endsBlock_0 rfl 0 rfl ?_
  refine s_iload_n hK dX3_endsBlock_1 rfl 1 rfl ?_
  refine s_rc (fun _ _ eo er => ?_)
  refine s_cI hK ho_n (cx_v (As := [.int p1]) (rest := []) hK dyX3_endsFlow rfl q1981 fcX3.1 q1983 qs53 q80 q1984 eo er (ct_X3_endsFlow hK.1 p0 p1 h) (Nat.le_trans (Nat.le_of_ble_eq_true rfl) hf) (Nat.le_trans (Nat.le_of_ble_eq_true rfl) hlo) rk_n (Nat.le_of_ble_eq_true rfl) dX3_endsBlock_2 rfl) (fun v2 h1 => ?_)
  refine s_if_ne (tgt := 27) hK dX3_endsBlock_5 (by decide) (fun c9 => ?_) (fun c9 => ?_)
  · refine s_iconst (v := 1) hK dX3_endsBlock_27 rfl ?_
    refine s_goto (tgt := 32) hK dX3_endsBlock_28 (by decide) ?_
    exact s_zret hK dX3_endsBlock_32
  · refine s_aload_n hK dX3_endsBlock_8 rfl 0 rfl ?_
    refine s_iload_n hK dX3_endsBlock_9 rfl 1 rfl ?_
    refine s_rc (fun _ _ eo er => ?_)
    refine s_cI hK ho_n (cx_v (As := [.int p1]) (rest := []) hK dyX3_sort rfl q1914 fcX3.1 q1916 qs39 q80 q1917 eo er (ct_X3_sort hK.1 p0 p1 h1) (Nat.le_trans (Nat.le_of_ble_eq_true rfl) hf) (Nat.le_trans (Nat.le_of_ble_eq_true rfl) hlo) rk_n (Nat.le_of_ble_eq_true rfl) dX3_endsBlock_10 rfl) (fun v4 h3 => ?_)
    refine s_iconst (v := 5) hK dX3_endsBlock_13 rfl ?_
    refine s_icmp_eq (tgt := 27) hK dX3_endsBlock_14 (by decide) (fun c8 => ?_) (fun c8 => ?_)
    · refine s_iconst (v := 1) hK dX3_endsBlock_27 rfl ?_
      refine s_goto (tgt := 32) hK dX3_endsBlock_28 (by decide) ?_
      exact s_zret hK dX3_endsBlock_32
    · refine s_aload_n hK dX3_endsBlock_17 rfl 0 rfl ?_
      refine s_iload_n hK dX3_endsBlock_18 rfl 1 rfl ?_
      refine s_rc (fun _ _ eo er => ?_)
      refine s_cI hK ho_n (cx_v (As := [.int p1]) (rest := []) hK dyX3_sort rfl q1914 fcX3.1 q1916 qs39 q80 q1917 eo er (ct_X3_sort hK.1 p0 p1 h3) (Nat.le_trans (Nat.le_of_ble_eq_true rfl) hf) (Nat.le_trans (Nat.le_of_ble_eq_true rfl) hlo) rk_n (Nat.le_of_ble_eq_true rfl) dX3_endsBlock_19 rfl) (fun v6 h5 => ?_)
      refine s_bipush (v := 6) hK dX3_endsBlock_22 rfl ?_
      refine s_icmp_ne (tgt := 31) hK dX3_endsBlock_24 (by decide) (fun c7 => ?_) (fun c7 => ?_)
      · refine s_iconst (v := 0) hK dX3_endsBlock_31 rfl ?_
        exact s_zret hK dX3_endsBlock_32
      · refine s_iconst (v := 1) hK dX3_endsBlock_27 rfl ?_
        refine s_goto (tgt := 32) hK dX3_endsBlock_28 (by decide) ?_
        exact s_zret hK dX3_endsBlock_32
theorem ct_X3_endsBlock {G : GC} {l : Launch} (g : GOK G l) (p0 : Option Nat) (p1 : Int32) (h : AH) : CT G l yX3_endsBlock (Cond.code yX3_endsBlock cX3_endsBlock 2 (some (.boolean))) 3 58 [va_rf p0, .int p1] (f_X3_endsBlock p0 p1 h) h :=
  CT.of g (by decide) (by simp only [ls_a, ls_i, ls_l, ls_n]; decide) (fun K _ hK hf hlo => by simp only [la_a, la_i, la_l, la_n]; exact sm_X3_endsBlock hK hf hlo p0 p1 h)
abbrev FR_X3_isLeader : Nat := 4
abbrev LO_X3_isLeader : Nat := 83
theorem dyX3_isLeader : DY yX3_isLeader 1 := ⟨⟨by decide, by decide⟩, by decide +kernel⟩
theorem sm_X3_isLeader_J27 {G : GC} {K : SC} (hK : SOK G K RX3 cX3_isLeader 3 (some (.boolean)) "isLeader" []) (hf : FR_X3_isLeader ≤ (kR K).frames) (hlo : LO_X3_isLeader ≤ (kR K).locals) (x3 : Option Nat) (x4 : Int32) (y5 : Int32) (h6 : AH) : Sim G K 3 (f_X3_isLeader_J27 x3 x4 y5 h6) h6 27 [(0, va_rf x3), (1, .int x4)] [.int y5] := by
  unfold f_X3_isLeader_J27
  refine s_istore_n (lv' := [(2, .int y5), (0, va_rf x3), (1, .int x4)]) hK dX3_isLeader_27 rfl (Nat.le_of_ble_eq_true rfl) rfl ?_
  refine s_aload_n hK dX3_isLeader_28 rfl 1 rfl ?_
  refine s_iload_n hK dX3_isLeader_29 rfl 2 rfl ?_
  refine s_rc (fun _ _ eo er => ?_)
  refine s_cI hK ho_n (cx_v (As := [.int x4]) (rest := []) hK dyX3_isEntry rfl q1890 fcX3.1 q1892 qs37 q80 q1893 eo er (ct_X3_isEntry hK.1 x3 x4 h6) (Nat.le_trans (Nat.le_of_ble_eq_true rfl) hf) (Nat.le_trans (Nat.le_of_ble_eq_true rfl) hlo) rk_n (Nat.le_of_ble_eq_true rfl) dX3_isLeader_30 rfl) (fun v8 h7 => ?_)
  refine s_if_ne (tgt := 77) hK dX3_isLeader_33 (by decide) (fun c22 => ?_) (fun c22 => ?_)
  · refine s_iconst (v := 1) hK dX3_isLeader_77 rfl ?_
    refine s_goto (tgt := 82) hK dX3_isLeader_78 (by decide) ?_
    exact s_zret hK dX3_isLeader_82
  · refine s_aload_n hK dX3_isLeader_36 rfl 1 rfl ?_
    refine s_iload_n hK dX3_isLeader_37 rfl 2 rfl ?_
    refine s_iconst (v := 0) hK dX3_isLeader_38 rfl ?_
    refine s_rc (fun _ _ eo er => ?_)
    refine s_cI hK ho_n (cx_v (As := [.int x4, .int 0]) (rest := []) hK dyX3_isGoal rfl q2093 fcX3.1 q2095 qs67 q80 q2096 eo er (ct_X3_isGoal hK.1 x3 x4 0 h7) (Nat.le_trans (Nat.le_of_ble_eq_true rfl) hf) (Nat.le_trans (Nat.le_of_ble_eq_true rfl) hlo) rk_n (Nat.le_of_ble_eq_true rfl) dX3_isLeader_39 rfl) (fun v10 h9 => ?_)
    refine s_if_ne (tgt := 77) hK dX3_isLeader_42 (by decide) (fun c21 => ?_) (fun c21 => ?_)
    · refine s_iconst (v := 1) hK dX3_isLeader_77 rfl ?_
      refine s_goto (tgt := 82) hK dX3_isLeader_78 (by decide) ?_
      exact s_zret hK dX3_isLeader_82
    · refine s_aload_n hK dX3_isLeader_45 rfl 1 rfl ?_
      refine s_iload_n hK dX3_isLeader_46 rfl 2 rfl ?_
      refine s_rc (fun _ _ eo er => ?_)
      refine s_cI hK ho_n (cx_v (As := [.int x4]) (rest := []) hK dyX3_isTableGoal rfl q2097 fcX3.1 q2099 qs68 q80 q2100 eo er (ct_X3_isTableGoal hK.1 x3 x4 h9) (Nat.le_trans (Nat.le_of_ble_eq_true rfl) hf) (Nat.le_trans (Nat.le_of_ble_eq_true rfl) hlo) rk_n (Nat.le_of_ble_eq_true rfl) dX3_isLeader_47 rfl) (fun v12 h11 => ?_)
      refine s_if_ne (tgt := 77) hK dX3_isLeader_50 (by decide) (fun c20 => ?_) (fun c20 => ?_)
      · refine s_iconst (v := 1) hK dX3_isLeader_77 rfl ?_
        refine s_goto (tgt := 82) hK dX3_isLeader_78 (by decide) ?_
        exact s_zret hK dX3_isLeader_82
      · refine s_iload_n hK dX3_isLeader_53 rfl 0 rfl ?_
        refine s_if_lt (tgt := 81) hK dX3_isLeader_54 (by decide) (fun c19 => ?_) (fun c19 => ?_)
        · refine s_iconst (v := 0) hK dX3_isLeader_81 rfl ?_
          exact s_zret hK dX3_isLeader_82
        · refine s_iload_n hK dX3_isLeader_57 rfl 0 rfl ?_
          refine s_aload_n hK dX3_isLeader_58 rfl 1 rfl ?_
          refine s_gA hK fcX3 16 (Nat.le_of_ble_eq_true rfl) (Or.inl q1700) (Or.inl rfl) dX3_isLeader_59 (fun v13 => ?_)
          refine s_iload_n hK dX3_isLeader_62 rfl 0 rfl ?_
          refine s_iald hK dX3_isLeader_63 (fun v14 => ?_)
          refine s_iadd hK dX3_isLeader_64 ?_
          refine s_iload_n hK dX3_isLeader_65 rfl 2 rfl ?_
          refine s_icmp_ne (tgt := 81) hK dX3_isLeader_66 (by decide) (fun c18 => ?_) (fun c18 => ?_)
          · refine s_iconst (v := 0) hK dX3_isLeader_81 rfl ?_
            exact s_zret hK dX3_isLeader_82
          · refine s_aload_n hK dX3_isLeader_69 rfl 1 rfl ?_
            refine s_iload_n hK dX3_isLeader_70 rfl 0 rfl ?_
            refine s_rc (fun _ _ eo er => ?_)
            refine s_cI hK ho_n (cx_v (As := [.int y5]) (rest := []) hK dyX3_endsBlock rfl q2101 fcX3.1 q2103 qs69 q80 q2104 eo er (ct_X3_endsBlock hK.1 x3 y5 h11) (Nat.le_trans (Nat.le_of_ble_eq_true rfl) hf) (Nat.le_trans (Nat.le_of_ble_eq_true rfl) hlo) rk_n (Nat.le_of_ble_eq_true rfl) dX3_isLeader_71 rfl) (fun v16 h15 => ?_)
            refine s_if_eq (tgt := 81) hK dX3_isLeader_74 (by decide) (fun c17 => ?_) (fun c17 => ?_)
            · refine s_iconst (v := 0) hK dX3_isLeader_81 rfl ?_
              exact s_zret hK dX3_isLeader_82
            · refine s_iconst (v := 1) hK dX3_isLeader_77 rfl ?_
              refine s_goto (tgt := 82) hK dX3_isLeader_78 (by decide) ?_
              exact s_zret hK dX3_isLeader_82
theorem sm_X3_isLeader {G : GC} {K : SC} (hK : SOK G K RX3 cX3_isLeader 3 (some (.boolean)) "isLeader" []) (hf : FR_X3_isLeader ≤ (kR K).frames) (hlo : LO_X3_isLeader ≤ (kR K).locals) (p0 : Option Nat) (p1 : Int32) (h : AH) : Sim G K 3 (f_X3_isLeader p0 p1 h) h 0 [(0, va_rf p0), (1, .int p1)] [] := by
  unfold f_X3_isLeader
  refine s_aload_n hK dX3_isLeader_0 rfl 0 rfl ?_
  refine s_gA hK fcX3 16 (Nat.le_of_ble_eq_true rfl) (Or.inl q1700) (Or.inl rfl) dX3_isLeader_1 (fun v1 => ?_)
  refine s_iload_n hK dX3_isLeader_4 rfl 1 rfl ?_
  refine s_iald hK dX3_isLeader_5 (fun v2 => ?_)
  refine s_if_ne (tgt := 11) hK dX3_isLeader_6 (by decide) (fun c26 => ?_) (fun c26 => ?_)
  · refine s_iload_n hK dX3_isLeader_11 rfl 1 rfl ?_
    refine s_if_le (tgt := 26) hK dX3_isLeader_12 (by decide) (fun c25 => ?_) (fun c25 => ?_)
    · refine s_iconst (v := (-1)) hK dX3_isLeader_26 rfl ?_
      exact sm_X3_isLeader_J27 hK hf hlo p0 p1 (-1) h
    · refine s_aload_n hK dX3_isLeader_15 rfl 0 rfl ?_
      refine s_gA hK fcX3 17 (Nat.le_of_ble_eq_true rfl) (Or.inl q1701) (Or.inl rfl) dX3_isLeader_16 (fun v23 => ?_)
      refine s_iload_n hK dX3_isLeader_19 rfl 1 rfl ?_
      refine s_iconst (v := 1) hK dX3_isLeader_20 rfl ?_
      refine s_isub hK dX3_isLeader_21 ?_
      refine s_iald hK dX3_isLeader_22 (fun v24 => ?_)
      refine s_goto (tgt := 27) hK dX3_isLeader_23 (by decide) ?_
      exact sm_X3_isLeader_J27 hK hf hlo p0 p1 v24 h
  · refine s_iconst (v := 0) hK dX3_isLeader_9 rfl ?_
    exact s_zret hK dX3_isLeader_10
theorem ct_X3_isLeader {G : GC} {l : Launch} (g : GOK G l) (p0 : Option Nat) (p1 : Int32) (h : AH) : CT G l yX3_isLeader (Cond.code yX3_isLeader cX3_isLeader 3 (some (.boolean))) 4 83 [va_rf p0, .int p1] (f_X3_isLeader p0 p1 h) h :=
  CT.of g (by decide) (by simp only [ls_a, ls_i, ls_l, ls_n]; decide) (fun K _ hK hf hlo => by simp only [la_a, la_i, la_l, la_n]; exact sm_X3_isLeader hK hf hlo p0 p1 h)
abbrev FR_X3_blocks : Nat := 5
abbrev LO_X3_blocks : Nat := 105
theorem dyX3_blocks : DY yX3_blocks 0 := ⟨⟨by decide, by decide⟩, by decide +kernel⟩
theorem sm_X3_blocks_J26 {G : GC} {K : SC} (hK : SOK G K RX3 cX3_blocks 3 (some (.int)) "blocks" []) (hf : FR_X3_blocks ≤ (kR K).frames) (hlo : LO_X3_blocks ≤ (kR K).locals) {rc : Option Nat → Int32 → Int32 → AH → RS} (hrc : ∀ (y0 : Option Nat) (y1 : Int32) (y2 : Int32) (h : AH), Sim G K 3 (rc y0 y1 y2 h) h 4 [(0, va_rf y0), (1, .int y1), (2, .int y2)] []) {k34 : Int32 → AH → RS} (hk34 : ∀ (y0 : Int32) (h : AH), Sim G K 3 (k34 y0 h) h 34 [(1, .int y0)] []) (x8 : Option Nat) (x9 : Int32) (y10 : Int32) (y11 : Int32) (h12 : AH) : Sim G K 3 (f_X3_blocks_J26 rc k34 x8 x9 y10 y11 h12) h12 26 [(0, va_rf x8), (2, .int x9)] [.int y10, .int y11] := by
  unfold f_X3_blocks_J26
  refine s_iadd hK dX3_blocks_26 ?_
  refine s_istore_n (lv' := [(1, .int (y11 + y10)), (0, va_rf x8), (2, .int x9)]) hK dX3_blocks_27 rfl (Nat.le_of_ble_eq_true rfl) (flA (pre := []) (suf := [(2, .int x9)]) rfl rfl) ?_
  refine s_iinc (j := 2) (v := 1) (lv' := [(2, .int (x9 + 1)), (1, .int (y11 + y10)), (0, va_rf x8)]) hK dX3_blocks_28 rfl rfl (Nat.le_of_ble_eq_true rfl) rfl ?_
  refine s_goto (tgt := 4) hK dX3_blocks_31 (by decide) ?_
  refine s_sub [2, 1, 0] rfl ?_
  exact hrc x8 (y11 + y10) (x9 + 1) h12
theorem sm_X3_blocks_L4 {G : GC} {K : SC} (hK : SOK G K RX3 cX3_blocks 3 (some (.int)) "blocks" []) (hf : FR_X3_blocks ≤ (kR K).frames) (hlo : LO_X3_blocks ≤ (kR K).locals) {k34 : Int32 → AH → RS} (hk34 : ∀ (y0 : Int32) (h : AH), Sim G K 3 (k34 y0 h) h 34 [(1, .int y0)] []) : ∀ (n : Nat) (x1 : Option Nat) (x2 : Int32) (x3 : Int32) (h4 : AH), Sim G K 3 (f_X3_blocks_L4 k34 n x1 x2 x3 h4) h4 4 [(0, va_rf x1), (1, .int x2), (2, .int x3)] [] := by
  intro n
  induction n with
  | zero => intro x1 x2 x3 h4; exact s_none
  | succ n ih =>
    intro x1 x2 x3 h4
    rw [f_X3_blocks_L4]
    refine s_iload_n hK dX3_blocks_4 rfl 2 rfl ?_
    refine s_aload_n hK dX3_blocks_5 rfl 0 rfl ?_
    refine s_gI hK fcX3 5 (Nat.le_of_ble_eq_true rfl) (Or.inl q1689) (Or.inl rfl) dX3_blocks_6 (fun v5 => ?_)
    refine s_icmp_ge (tgt := 34) hK dX3_blocks_9 (by decide) (fun c14 => ?_) (fun c14 => ?_)
    · refine s_sub [1] rfl ?_
      exact hk34 x2 h4
    · refine s_iload_n hK dX3_blocks_12 rfl 1 rfl ?_
      refine s_aload_n hK dX3_blocks_13 rfl 0 rfl ?_
      refine s_iload_n hK dX3_blocks_14 rfl 2 rfl ?_
      refine s_rc (fun _ _ eo er => ?_)
      refine s_cI hK ho_n (cx_v (As := [.int x3]) (rest := [.int x2]) hK dyX3_isLeader rfl q2089 fcX3.1 q2091 qs66 q80 q2092 eo er (ct_X3_isLeader hK.1 x1 x3 h4) (Nat.le_trans (Nat.le_of_ble_eq_true rfl) hf) (Nat.le_trans (Nat.le_of_ble_eq_true rfl) hlo) (rk_i rk_n) (Nat.le_of_ble_eq_true rfl) dX3_blocks_15 rfl) (fun v7 h6 => ?_)
      refine s_if_eq (tgt := 25) hK dX3_blocks_18 (by decide) (fun c13 => ?_) (fun c13 => ?_)
      · refine s_iconst (v := 0) hK dX3_blocks_25 rfl ?_
        refine s_sub [0, 2] rfl ?_
        exact sm_X3_blocks_J26 hK hf hlo ih hk34 x1 x3 0 x2 h6
      · refine s_iconst (v := 1) hK dX3_blocks_21 rfl ?_
        refine s_goto (tgt := 26) hK dX3_blocks_22 (by decide) ?_
        refine s_sub [0, 2] rfl ?_
        exact sm_X3_blocks_J26 hK hf hlo ih hk34 x1 x3 1 x2 h6
theorem sm_X3_blocks {G : GC} {K : SC} (hK : SOK G K RX3 cX3_blocks 3 (some (.int)) "blocks" []) (hf : FR_X3_blocks ≤ (kR K).frames) (hlo : LO_X3_blocks ≤ (kR K).locals) (p0 : Option Nat) (h : AH) : Sim G K 3 (f_X3_blocks p0 h) h 0 [(0, va_rf p0)] [] := by
  unfold f_X3_blocks
  refine s_iconst (v := 0) hK dX3_blocks_0 rfl ?_
  refine s_istore_n (lv' := [(1, .int 0), (0, va_rf p0)]) hK dX3_blocks_1 rfl (Nat.le_of_ble_eq_true rfl) (flA (pre := []) (suf := []) rfl rfl) ?_
  refine s_iconst (v := 0) hK dX3_blocks_2 rfl ?_
  refine s_istore_n (lv' := [(2, .int 0), (1, .int 0), (0, va_rf p0)]) hK dX3_blocks_3 rfl (Nat.le_of_ble_eq_true rfl) rfl ?_
  refine s_sub [2, 1, 0] rfl ?_
  refine sm_X3_blocks_L4 hK hf hlo (fun x15 h16 => ?_) FUEL p0 0 0 h
  · refine s_iload_n hK dX3_blocks_34 rfl 0 rfl ?_
    exact s_iret hK dX3_blocks_35
theorem ct_X3_blocks {G : GC} {l : Launch} (g : GOK G l) (p0 : Option Nat) (h : AH) : CT G l yX3_blocks (Cond.code yX3_blocks cX3_blocks 3 (some (.int))) 5 105 [va_rf p0] (f_X3_blocks p0 h) h :=
  CT.of g (by decide) (by simp only [ls_a, ls_i, ls_l, ls_n]; decide) (fun K _ hK hf hlo => by simp only [la_a, la_i, la_l, la_n]; exact sm_X3_blocks hK hf hlo p0 h)
abbrev FR_X3_blockCount : Nat := 6
abbrev LO_X3_blockCount : Nat := 127
theorem dyX3_blockCount : DY yX3_blockCount 0 := ⟨⟨by decide, by decide⟩, by decide +kernel⟩
theorem sm_X3_blockCount {G : GC} {K : SC} (hK : SOK G K RX3 cX3_blockCount 1 (some (.int)) "blockCount" []) (hf : FR_X3_blockCount ≤ (kR K).frames) (hlo : LO_X3_blockCount ≤ (kR K).locals) (p0 : Option Nat) (h : AH) : Sim G K 1 (f_X3_blockCount p0 h) h 0 [(0, va_rf p0)] [] := by
  unfold f_X3_blockCount
  refine s_aload_n hK dX3_blockCount_0 rfl 0 rfl ?_
  refine s_gI hK fcX3 15 (Nat.le_of_ble_eq_true rfl) (Or.inl q1699) (Or.inl rfl) dX3_blockCount_1 (fun v1 => ?_)
  refine s_if_eq (tgt := 18) hK dX3_blockCount_4 (by decide) (fun c8 => ?_) (fun c8 => ?_)
  · refine s_aload_n hK dX3_blockCount_18 rfl 0 rfl ?_
    refine s_iconst (v := 0) hK dX3_blockCount_19 rfl ?_
    refine s_rc (fun _ _ eo er => ?_)
    refine s_cI hK ho_n (cx_v (As := [.int 0]) (rest := []) hK dyX3_ofRecovery rfl q2021 fcX3.1 q2023 qs62 q80 q2024 eo er (ct_X3_ofRecovery hK.1 p0 0 h) (Nat.le_trans (Nat.le_of_ble_eq_true rfl) hf) (Nat.le_trans (Nat.le_of_ble_eq_true rfl) hlo) rk_n (Nat.le_of_ble_eq_true rfl) dX3_blockCount_20 rfl) (fun v3 h2 => ?_)
    exact s_iret hK dX3_blockCount_23
  · refine s_aload_n hK dX3_blockCount_7 rfl 0 rfl ?_
    refine s_aload_n hK dX3_blockCount_8 rfl 0 rfl ?_
    refine s_rc (fun _ _ eo er => ?_)
    refine s_cI hK ho_n (cx_v (As := []) (rest := [va_rf p0]) hK dyX3_blocks rfl q2085 fcX3.1 q2087 qs65 q80 q2088 eo er (ct_X3_blocks hK.1 p0 h) (Nat.le_trans (Nat.le_of_ble_eq_true rfl) hf) (Nat.le_trans (Nat.le_of_ble_eq_true rfl) hlo) (rk_a rk_n) (Nat.le_of_ble_eq_true rfl) dX3_blockCount_9 rfl) (fun v5 h4 => ?_)
    refine s_rc (fun _ _ eo er => ?_)
    refine s_cI hK ho_n (cx_v (As := [.int v5]) (rest := []) hK dyX3_ofRecovery rfl q2021 fcX3.1 q2023 qs62 q80 q2024 eo er (ct_X3_ofRecovery hK.1 p0 v5 h4) (Nat.le_trans (Nat.le_of_ble_eq_true rfl) hf) (Nat.le_trans (Nat.le_of_ble_eq_true rfl) hlo) rk_n (Nat.le_of_ble_eq_true rfl) dX3_blockCount_12 rfl) (fun v7 h6 => ?_)
    refine s_goto (tgt := 23) hK dX3_blockCount_15 (by decide) ?_
    exact s_iret hK dX3_blockCount_23
theorem ct_X3_blockCount {G : GC} {l : Launch} (g : GOK G l) (p0 : Option Nat) (h : AH) : CT G l yX3_blockCount (Cond.code yX3_blockCount cX3_blockCount 1 (some (.int))) 6 127 [va_rf p0] (f_X3_blockCount p0 h) h :=
  CT.of g (by decide) (by simp only [ls_a, ls_i, ls_l, ls_n]; decide) (fun K _ hK hf hlo => by simp only [la_a, la_i, la_l, la_n]; exact sm_X3_blockCount hK hf hlo p0 h)
abbrev FR_X3_blockSize : Nat := 5
abbrev LO_X3_blockSize : Nat := 105
theorem dyX3_blockSize : DY yX3_blockSize 1 := ⟨⟨by decide, by decide⟩, by decide +kernel⟩
theorem sm_X3_blockSize_L4 {G : GC} {K : SC} (hK : SOK G K RX3 cX3_blockSize 4 (some (.int)) "blockSize" []) (hf : FR_X3_blockSize ≤ (kR K).frames) (hlo : LO_X3_blockSize ≤ (kR K).locals) {k57 : Option Nat → Int32 → Int32 → AH → RS} (hk57 : ∀ (y0 : Option Nat) (y1 : Int32) (y2 : Int32) (h : AH), Sim G K 4 (k57 y0 y1 y2 h) h 57 [(0, va_rf y0), (2, .int y1), (3, .int y2)] []) : ∀ (n : Nat) (x1 : Option Nat) (x2 : Int32) (x3 : Int32) (h4 : AH), Sim G K 4 (f_X3_blockSize_L4 k57 n x1 x2 x3 h4) h4 4 [(0, va_rf x1), (2, .int x2), (3, .int x3)] [] := by
  intro n
  induction n with
  | zero => intro x1 x2 x3 h4; exact s_none
  | succ n ih =>
    intro x1 x2 x3 h4
    rw [f_X3_blockSize_L4]
    refine s_aload_n hK dX3_blockSize_4 rfl 0 rfl ?_
    refine s_iload_n hK dX3_blockSize_5 rfl 2 rfl ?_
    refine s_rc (fun _ _ eo er => ?_)
    refine s_cI hK ho_n (cx_v (As := [.int x3]) (rest := []) hK dyX3_endsBlock rfl q2101 fcX3.1 q2103 qs69 q80 q2104 eo er (ct_X3_endsBlock hK.1 x1 x3 h4) (Nat.le_trans (Nat.le_of_ble_eq_true rfl) hf) (Nat.le_trans (Nat.le_of_ble_eq_true rfl) hlo) rk_n (Nat.le_of_ble_eq_true rfl) dX3_blockSize_6 rfl) (fun v6 h5 => ?_)
    refine s_if_ne (tgt := 57) hK dX3_blockSize_9 (by decide) (fun c19 => ?_) (fun c19 => ?_)
    · exact hk57 x1 x2 x3 h5
    · refine s_aload_n hK dX3_blockSize_12 rfl 0 rfl ?_
      refine s_iload_n hK dX3_blockSize_13 rfl 2 rfl ?_
      refine s_aload_n hK dX3_blockSize_14 rfl 0 rfl ?_
      refine s_gA hK fcX3 16 (Nat.le_of_ble_eq_true rfl) (Or.inl q1700) (Or.inl rfl) dX3_blockSize_15 (fun v7 => ?_)
      refine s_iload_n hK dX3_blockSize_18 rfl 2 rfl ?_
      refine s_iald hK dX3_blockSize_19 (fun v8 => ?_)
      refine s_iadd hK dX3_blockSize_20 ?_
      refine s_rc (fun _ _ eo er => ?_)
      refine s_cI hK ho_n (cx_v (As := [.int (x3 + v8)]) (rest := []) hK dyX3_isBegin rfl q2065 fcX3.1 q2067 qs64 q80 q2068 eo er (ct_X3_isBegin hK.1 x1 (x3 + v8) h5) (Nat.le_trans (Nat.le_of_ble_eq_true rfl) hf) (Nat.le_trans (Nat.le_of_ble_eq_true rfl) hlo) rk_n (Nat.le_of_ble_eq_true rfl) dX3_blockSize_21 rfl) (fun v10 h9 => ?_)
      refine s_if_eq (tgt := 57) hK dX3_blockSize_24 (by decide) (fun c18 => ?_) (fun c18 => ?_)
      · exact hk57 x1 x2 x3 h9
      · refine s_aload_n hK dX3_blockSize_27 rfl 0 rfl ?_
        refine s_iload_n hK dX3_blockSize_28 rfl 2 rfl ?_
        refine s_aload_n hK dX3_blockSize_29 rfl 0 rfl ?_
        refine s_gA hK fcX3 16 (Nat.le_of_ble_eq_true rfl) (Or.inl q1700) (Or.inl rfl) dX3_blockSize_30 (fun v11 => ?_)
        refine s_iload_n hK dX3_blockSize_33 rfl 2 rfl ?_
        refine s_iald hK dX3_blockSize_34 (fun v12 => ?_)
        refine s_iadd hK dX3_blockSize_35 ?_
        refine s_rc (fun _ _ eo er => ?_)
        refine s_cI hK ho_n (cx_v (As := [.int (x3 + v12)]) (rest := []) hK dyX3_isLeader rfl q2089 fcX3.1 q2091 qs66 q80 q2092 eo er (ct_X3_isLeader hK.1 x1 (x3 + v12) h9) (Nat.le_trans (Nat.le_of_ble_eq_true rfl) hf) (Nat.le_trans (Nat.le_of_ble_eq_true rfl) hlo) rk_n (Nat.le_of_ble_eq_true rfl) dX3_blockSize_36 rfl) (fun v14 h13 => ?_)
        refine s_if_ne (tgt := 57) hK dX3_blockSize_39 (by decide) (fun c17 => ?_) (fun c17 => ?_)
        · exact hk57 x1 x2 x3 h13
        · refine s_iload_n hK dX3_blockSize_42 rfl 2 rfl ?_
          refine s_aload_n hK dX3_blockSize_43 rfl 0 rfl ?_
          refine s_gA hK fcX3 16 (Nat.le_of_ble_eq_true rfl) (Or.inl q1700) (Or.inl rfl) dX3_blockSize_44 (fun v15 => ?_)
          refine s_iload_n hK dX3_blockSize_47 rfl 2 rfl ?_
          refine s_iald hK dX3_blockSize_48 (fun v16 => ?_)
          refine s_iadd hK dX3_blockSize_49 ?_
          refine s_istore_n (lv' := [(3, .int (x3 + v16)), (0, va_rf x1), (2, .int x2)]) hK dX3_blockSize_50 rfl (Nat.le_of_ble_eq_true rfl) rfl ?_
          refine s_iinc (j := 2) (v := 1) (lv' := [(2, .int (x2 + 1)), (3, .int (x3 + v16)), (0, va_rf x1)]) hK dX3_blockSize_51 rfl rfl (Nat.le_of_ble_eq_true rfl) rfl ?_
          refine s_goto (tgt := 4) hK dX3_blockSize_54 (by decide) ?_
          refine s_sub [2, 0, 1] rfl ?_
          exact ih x1 (x2 + 1) (x3 + v16) h13
theorem sm_X3_blockSize {G : GC} {K : SC} (hK : SOK G K RX3 cX3_blockSize 4 (some (.int)) "blockSize" []) (hf : FR_X3_blockSize ≤ (kR K).frames) (hlo : LO_X3_blockSize ≤ (kR K).locals) (p0 : Option Nat) (p1 : Int32) (h : AH) : Sim G K 4 (f_X3_blockSize p0 p1 h) h 0 [(0, va_rf p0), (1, .int p1)] [] := by
  unfold f_X3_blockSize
  refine s_iconst (v := 1) hK dX3_blockSize_0 rfl ?_
  refine s_istore_n (lv' := [(2, .int 1), (0, va_rf p0), (1, .int p1)]) hK dX3_blockSize_1 rfl (Nat.le_of_ble_eq_true rfl) rfl ?_
  refine s_iload_n hK dX3_blockSize_2 rfl 2 rfl ?_
  refine s_istore_n (lv' := [(3, .int p1), (2, .int 1), (0, va_rf p0), (1, .int p1)]) hK dX3_blockSize_3 rfl (Nat.le_of_ble_eq_true rfl) rfl ?_
  refine s_sub [2, 1, 0] rfl ?_
  refine sm_X3_blockSize_L4 hK hf hlo (fun x20 x21 x22 h23 => ?_) FUEL p0 1 p1 h
  · refine s_aload_n hK dX3_blockSize_57 rfl 0 rfl ?_
    refine s_iload_n hK dX3_blockSize_58 rfl 2 rfl ?_
    refine s_pF hK fcX3 44 (Nat.le_of_ble_eq_true rfl) (Or.inl q1728) (Or.inl rfl) (Or.inl rfl) rfl rfl dX3_blockSize_59 (fun h24 => ?_)
    refine s_iload_n hK dX3_blockSize_62 rfl 1 rfl ?_
    exact s_iret hK dX3_blockSize_63
theorem ct_X3_blockSize {G : GC} {l : Launch} (g : GOK G l) (p0 : Option Nat) (p1 : Int32) (h : AH) : CT G l yX3_blockSize (Cond.code yX3_blockSize cX3_blockSize 4 (some (.int))) 5 105 [va_rf p0, .int p1] (f_X3_blockSize p0 p1 h) h :=
  CT.of g (by decide) (by simp only [ls_a, ls_i, ls_l, ls_n]; decide) (fun K _ hK hf hlo => by simp only [la_a, la_i, la_l, la_n]; exact sm_X3_blockSize hK hf hlo p0 p1 h)
abbrev FR_X3_block : Nat := 6
abbrev LO_X3_block : Nat := 128
theorem dyX3_block : DY yX3_block 2 := ⟨⟨by decide, by decide⟩, by decide +kernel⟩
theorem sm_X3_block_J83 {G : GC} {K : SC} (hK : SOK G K RX3 cX3_block 6 (some (.int)) "block" []) (hf : FR_X3_block ≤ (kR K).frames) (hlo : LO_X3_block ≤ (kR K).locals) {rc : Option Nat → Int32 → Int32 → Int32 → AH → RS} (hrc : ∀ (y0 : Option Nat) (y1 : Int32) (y2 : Int32) (y3 : Int32) (h : AH), Sim G K 6 (rc y0 y1 y2 y3 h) h 55 [(0, va_rf y0), (2, .int y1), (3, .int y2), (4, .int y3)] []) {k91 : Option Nat → Int32 → Int32 → AH → RS} (hk91 : ∀ (y0 : Option Nat) (y1 : Int32) (y2 : Int32) (h : AH), Sim G K 6 (k91 y0 y1 y2 h) h 91 [(0, va_rf y0), (2, .int y1), (4, .int y2)] []) (x31 : Option Nat) (x32 : Int32) (x33 : Int32) (y34 : Int32) (y35 : Int32) (h36 : AH) : Sim G K 6 (f_X3_block_J83 rc k91 x31 x32 x33 y34 y35 h36) h36 83 [(0, va_rf x31), (2, .int x32), (4, .int x33)] [.int y34, .int y35] := by
  unfold f_X3_block_J83
  refine s_isub hK dX3_block_83 ?_
  refine s_istore_n (lv' := [(3, .int (y35 - y34)), (0, va_rf x31), (2, .int x32), (4, .int x33)]) hK dX3_block_84 rfl (Nat.le_of_ble_eq_true rfl) rfl ?_
  refine s_iinc (j := 3) (v := 1) (lv' := [(4, .int (x33 + 1)), (3, .int (y35 - y34)), (0, va_rf x31), (2, .int x32)]) hK dX3_block_85 rfl rfl (Nat.le_of_ble_eq_true rfl) rfl ?_
  refine s_goto (tgt := 55) hK dX3_block_88 (by decide) ?_
  refine s_sub [2, 3, 1, 0] rfl ?_
  exact hrc x31 x32 (y35 - y34) (x33 + 1) h36
theorem sm_X3_block_J68 {G : GC} {K : SC} (hK : SOK G K RX3 cX3_block 6 (some (.int)) "block" []) (hf : FR_X3_block ≤ (kR K).frames) (hlo : LO_X3_block ≤ (kR K).locals) {rc : Option Nat → Int32 → Int32 → Int32 → AH → RS} (hrc : ∀ (y0 : Option Nat) (y1 : Int32) (y2 : Int32) (y3 : Int32) (h : AH), Sim G K 6 (rc y0 y1 y2 y3 h) h 55 [(0, va_rf y0), (2, .int y1), (3, .int y2), (4, .int y3)] []) {k91 : Option Nat → Int32 → Int32 → AH → RS} (hk91 : ∀ (y0 : Option Nat) (y1 : Int32) (y2 : Int32) (h : AH), Sim G K 6 (k91 y0 y1 y2 h) h 91 [(0, va_rf y0), (2, .int y1), (4, .int y2)] []) (x24 : Option Nat) (x25 : Int32) (x26 : Int32) (x27 : Int32)  (h28 : AH) : Sim G K 6 (f_X3_block_J68 rc k91 x24 x25 x26 x27 h28) h28 68 [(0, va_rf x24), (2, .int x25), (3, .int x26), (4, .int x27)] [] := by
  unfold f_X3_block_J68
  refine s_iload_n hK dX3_block_68 rfl 2 rfl ?_
  refine s_aload_n hK dX3_block_69 rfl 0 rfl ?_
  refine s_iload hK dX3_block_70 3 rfl ?_
  refine s_rc (fun _ _ eo er => ?_)
  refine s_cI hK ho_n (cx_v (As := [.int x27]) (rest := [.int x26]) hK dyX3_isLeader rfl q2089 fcX3.1 q2091 qs66 q80 q2092 eo er (ct_X3_isLeader hK.1 x24 x27 h28) (Nat.le_trans (Nat.le_of_ble_eq_true rfl) hf) (Nat.le_trans (Nat.le_of_ble_eq_true rfl) hlo) (rk_i rk_n) (Nat.le_of_ble_eq_true rfl) dX3_block_72 rfl) (fun v30 h29 => ?_)
  refine s_if_eq (tgt := 82) hK dX3_block_75 (by decide) (fun c37 => ?_) (fun c37 => ?_)
  · refine s_iconst (v := 0) hK dX3_block_82 rfl ?_
    refine s_sub [0, 1, 3] rfl ?_
    exact sm_X3_block_J83 hK hf hlo hrc hk91 x24 x25 x27 0 x26 h29
  · refine s_iconst (v := 1) hK dX3_block_78 rfl ?_
    refine s_goto (tgt := 83) hK dX3_block_79 (by decide) ?_
    refine s_sub [0, 1, 3] rfl ?_
    exact sm_X3_block_J83 hK hf hlo hrc hk91 x24 x25 x27 1 x26 h29
theorem sm_X3_block_L55 {G : GC} {K : SC} (hK : SOK G K RX3 cX3_block 6 (some (.int)) "block" []) (hf : FR_X3_block ≤ (kR K).frames) (hlo : LO_X3_block ≤ (kR K).locals) {k91 : Option Nat → Int32 → Int32 → AH → RS} (hk91 : ∀ (y0 : Option Nat) (y1 : Int32) (y2 : Int32) (h : AH), Sim G K 6 (k91 y0 y1 y2 h) h 91 [(0, va_rf y0), (2, .int y1), (4, .int y2)] []) : ∀ (n : Nat) (x17 : Option Nat) (x18 : Int32) (x19 : Int32) (x20 : Int32) (h21 : AH), Sim G K 6 (f_X3_block_L55 k91 n x17 x18 x19 x20 h21) h21 55 [(0, va_rf x17), (2, .int x18), (3, .int x19), (4, .int x20)] [] := by
  intro n
  induction n with
  | zero => intro x17 x18 x19 x20 h21; exact s_none
  | succ n ih =>
    intro x17 x18 x19 x20 h21
    rw [f_X3_block_L55]
    refine s_aload_n hK dX3_block_55 rfl 0 rfl ?_
    refine s_iload hK dX3_block_56 3 rfl ?_
    refine s_rc (fun _ _ eo er => ?_)
    refine s_cI hK ho_n (cx_v (As := [.int x20]) (rest := []) hK dyX3_isLeader rfl q2089 fcX3.1 q2091 qs66 q80 q2092 eo er (ct_X3_isLeader hK.1 x17 x20 h21) (Nat.le_trans (Nat.le_of_ble_eq_true rfl) hf) (Nat.le_trans (Nat.le_of_ble_eq_true rfl) hlo) rk_n (Nat.le_of_ble_eq_true rfl) dX3_block_58 rfl) (fun v23 h22 => ?_)
    refine s_if_eq (tgt := 68) hK dX3_block_61 (by decide) (fun c39 => ?_) (fun c39 => ?_)
    · exact sm_X3_block_J68 hK hf hlo ih hk91 x17 x18 x19 x20 h22
    · refine s_iload_n hK dX3_block_64 rfl 2 rfl ?_
      refine s_if_le (tgt := 91) hK dX3_block_65 (by decide) (fun c38 => ?_) (fun c38 => ?_)
      · refine s_sub [0, 1, 3] rfl ?_
        exact hk91 x17 x18 x20 h22
      · exact sm_X3_block_J68 hK hf hlo ih hk91 x17 x18 x19 x20 h22
theorem sm_X3_block_J27 {G : GC} {K : SC} (hK : SOK G K RX3 cX3_block 6 (some (.int)) "block" []) (hf : FR_X3_block ≤ (kR K).frames) (hlo : LO_X3_block ≤ (kR K).locals) (x7 : Option Nat) (x8 : Int32) (x9 : Int32) (y10 : Int32) (y11 : Option Nat) (h12 : AH) : Sim G K 6 (f_X3_block_J27 x7 x8 x9 y10 y11 h12) h12 27 [(0, va_rf x7), (1, .int x8), (2, .int x9)] [.int y10, va_rf y11] := by
  unfold f_X3_block_J27
  refine s_rc (fun _ _ eo er => ?_)
  refine s_cI hK ho_n (cx_v (As := [.int y10]) (rest := []) hK dyX3_refusal rfl q2029 fcX3.1 q2031 qs63 q80 q2032 eo er (ct_X3_refusal hK.1 y11 y10 h12) (Nat.le_trans (Nat.le_of_ble_eq_true rfl) hf) (Nat.le_trans (Nat.le_of_ble_eq_true rfl) hlo) rk_n (Nat.le_of_ble_eq_true rfl) dX3_block_27 rfl) (fun v14 h13 => ?_)
  refine s_if_le (tgt := 35) hK dX3_block_30 (by decide) (fun c52 => ?_) (fun c52 => ?_)
  · refine s_iload_n hK dX3_block_35 rfl 2 rfl ?_
    refine s_iconst (v := 0) hK dX3_block_36 rfl ?_
    refine s_iconst (v := 2) hK dX3_block_37 rfl ?_
    refine s_cI hK ho_n (cx_s (As := [.int x9, .int 0, .int 2]) (rest := []) hK dyX3_in rfl q1844 q1845 q80 q1846 (ct_X3_in hK.1 x9 0 2 h13) (Nat.le_trans (Nat.le_of_ble_eq_true rfl) hf) (Nat.le_trans (Nat.le_of_ble_eq_true rfl) hlo) rk_n (Nat.le_of_ble_eq_true rfl) dX3_block_38 rfl) (fun v16 h15 => ?_)
    refine s_if_ne (tgt := 50) hK dX3_block_41 (by decide) (fun c51 => ?_) (fun c51 => ?_)
    · refine s_iload_n hK dX3_block_50 rfl 1 rfl ?_
      refine s_istore_n (lv' := [(3, .int x8), (0, va_rf x7), (1, .int x8), (2, .int x9)]) hK dX3_block_51 rfl (Nat.le_of_ble_eq_true rfl) rfl ?_
      refine s_iconst (v := 0) hK dX3_block_52 rfl ?_
      refine s_istore (lv' := [(4, .int 0), (3, .int x8), (0, va_rf x7), (1, .int x8), (2, .int x9)]) hK dX3_block_53 (Nat.le_of_ble_eq_true rfl) rfl ?_
      refine s_sub [2, 4, 1, 0] rfl ?_
      refine sm_X3_block_L55 hK hf hlo (fun x40 x41 x42 h43 => ?_) FUEL x7 x9 x8 0 h15
      · refine s_aload_n hK dX3_block_91 rfl 0 rfl ?_
        refine s_iload hK dX3_block_92 2 rfl ?_
        refine s_rc (fun _ _ eo er => ?_)
        refine s_cI hK ho_n (cx_v (As := [.int x42]) (rest := []) hK dyX3_blockSize rfl q2109 fcX3.1 q2111 qs70 q80 q2112 eo er (ct_X3_blockSize hK.1 x40 x42 h43) (Nat.le_trans (Nat.le_of_ble_eq_true rfl) hf) (Nat.le_trans (Nat.le_of_ble_eq_true rfl) hlo) rk_n (Nat.le_of_ble_eq_true rfl) dX3_block_94 rfl) (fun v45 h44 => ?_)
        refine s_istore (lv' := [(5, .int v45), (0, va_rf x40), (2, .int x41), (4, .int x42)]) hK dX3_block_97 (Nat.le_of_ble_eq_true rfl) rfl ?_
        refine s_iload_n hK dX3_block_99 rfl 2 rfl ?_
        refine s_if_ne (tgt := 108) hK dX3_block_100 (by decide) (fun c48 => ?_) (fun c48 => ?_)
        · refine s_iload_n hK dX3_block_108 rfl 2 rfl ?_
          refine s_iconst (v := 1) hK dX3_block_109 rfl ?_
          refine s_icmp_ne (tgt := 118) hK dX3_block_110 (by decide) (fun c47 => ?_) (fun c47 => ?_)
          · refine s_aload_n hK dX3_block_118 rfl 1 rfl ?_
            refine s_gI hK fcX3 44 (Nat.le_of_ble_eq_true rfl) (Or.inl q1728) (Or.inl rfl) dX3_block_119 (fun v46 => ?_)
            exact s_iret hK dX3_block_122
          · refine s_iload hK dX3_block_113 0 rfl ?_
            refine s_goto (tgt := 122) hK dX3_block_115 (by decide) ?_
            exact s_iret hK dX3_block_122
        · refine s_iload hK dX3_block_103 3 rfl ?_
          refine s_goto (tgt := 122) hK dX3_block_105 (by decide) ?_
          exact s_iret hK dX3_block_122
    · refine s_aload_n hK dX3_block_44 rfl 0 rfl ?_
      refine s_iconst (v := 3) hK dX3_block_45 rfl ?_
      refine s_rc (fun _ _ eo er => ?_)
      refine s_cI hK ho_n (cx_v (As := [.int 3]) (rest := []) hK dyX3_fails rfl q1847 fcX3.1 q1849 qs34 q80 q1850 eo er (ct_X3_fails hK.1 x7 3 h15) (Nat.le_trans (Nat.le_of_ble_eq_true rfl) hf) (Nat.le_trans (Nat.le_of_ble_eq_true rfl) hlo) rk_n (Nat.le_of_ble_eq_true rfl) dX3_block_46 rfl) (fun v50 h49 => ?_)
      exact s_iret hK dX3_block_49
  · refine s_iconst (v := 0) hK dX3_block_33 rfl ?_
    exact s_iret hK dX3_block_34
theorem sm_X3_block_J26 {G : GC} {K : SC} (hK : SOK G K RX3 cX3_block 6 (some (.int)) "block" []) (hf : FR_X3_block ≤ (kR K).frames) (hlo : LO_X3_block ≤ (kR K).locals) (x2 : Option Nat) (x3 : Int32) (x4 : Int32) (y5 : Option Nat) (h6 : AH) : Sim G K 6 (f_X3_block_J26 x2 x3 x4 y5 h6) h6 26 [(0, va_rf x2), (1, .int x3), (2, .int x4)] [va_rf y5] := by
  unfold f_X3_block_J26
  refine s_iconst (v := 0) hK dX3_block_26 rfl ?_
  exact sm_X3_block_J27 hK hf hlo x2 x3 x4 0 y5 h6
theorem sm_X3_block {G : GC} {K : SC} (hK : SOK G K RX3 cX3_block 6 (some (.int)) "block" []) (hf : FR_X3_block ≤ (kR K).frames) (hlo : LO_X3_block ≤ (kR K).locals) (p0 : Option Nat) (p1 : Int32) (p2 : Int32) (h : AH) : Sim G K 6 (f_X3_block p0 p1 p2 h) h 0 [(0, va_rf p0), (1, .int p1), (2, .int p2)] [] := by
  unfold f_X3_block
  refine s_aload_n hK dX3_block_0 rfl 0 rfl ?_
  refine s_aload_n hK dX3_block_1 rfl 0 rfl ?_
  refine s_gI hK fcX3 15 (Nat.le_of_ble_eq_true rfl) (Or.inl q1699) (Or.inl rfl) dX3_block_2 (fun v1 => ?_)
  refine s_if_eq (tgt := 26) hK dX3_block_5 (by decide) (fun c58 => ?_) (fun c58 => ?_)
  · exact sm_X3_block_J26 hK hf hlo p0 p1 p2 p0 h
  · refine s_iload_n hK dX3_block_8 rfl 1 rfl ?_
    refine s_iconst (v := 0) hK dX3_block_9 rfl ?_
    refine s_aload_n hK dX3_block_10 rfl 0 rfl ?_
    refine s_rc (fun _ _ eo er => ?_)
    refine s_cI hK ho_n (cx_v (As := []) (rest := [.int 0, .int p1, va_rf p0]) hK dyX3_blocks rfl q2085 fcX3.1 q2087 qs65 q80 q2088 eo er (ct_X3_blocks hK.1 p0 h) (Nat.le_trans (Nat.le_of_ble_eq_true rfl) hf) (Nat.le_trans (Nat.le_of_ble_eq_true rfl) hlo) (rk_i (rk_i (rk_a rk_n))) (Nat.le_of_ble_eq_true rfl) dX3_block_11 rfl) (fun v54 h53 => ?_)
    refine s_iconst (v := 1) hK dX3_block_14 rfl ?_
    refine s_isub hK dX3_block_15 ?_
    refine s_cI hK ho_n (cx_s (As := [.int p1, .int 0, .int (v54 - 1)]) (rest := [va_rf p0]) hK dyX3_in rfl q1844 q1845 q80 q1846 (ct_X3_in hK.1 p1 0 (v54 - 1) h53) (Nat.le_trans (Nat.le_of_ble_eq_true rfl) hf) (Nat.le_trans (Nat.le_of_ble_eq_true rfl) hlo) (rk_a rk_n) (Nat.le_of_ble_eq_true rfl) dX3_block_16 rfl) (fun v56 h55 => ?_)
    refine s_if_eq (tgt := 26) hK dX3_block_19 (by decide) (fun c57 => ?_) (fun c57 => ?_)
    · exact sm_X3_block_J26 hK hf hlo p0 p1 p2 p0 h55
    · refine s_iconst (v := 1) hK dX3_block_22 rfl ?_
      refine s_goto (tgt := 27) hK dX3_block_23 (by decide) ?_
      exact sm_X3_block_J27 hK hf hlo p0 p1 p2 1 p0 h55
theorem ct_X3_block {G : GC} {l : Launch} (g : GOK G l) (p0 : Option Nat) (p1 : Int32) (p2 : Int32) (h : AH) : CT G l yX3_block (Cond.code yX3_block cX3_block 6 (some (.int))) 6 128 [va_rf p0, .int p1, .int p2] (f_X3_block p0 p1 p2 h) h :=
  CT.of g (by decide) (by simp only [ls_a, ls_i, ls_l, ls_n]; decide) (fun K _ hK hf hlo => by simp only [la_a, la_i, la_l, la_n]; exact sm_X3_block hK hf hlo p0 p1 p2 h)
abbrev FR_X3_isHead : Nat := 4
abbrev LO_X3_isHead : Nat := 83
theorem dyX3_isHead : DY yX3_isHead 1 := ⟨⟨by decide, by decide⟩, by decide +kernel⟩
theorem sm_X3_isHead {G : GC} {K : SC} (hK : SOK G K RX3 cX3_isHead 2 (some (.boolean)) "isHead" []) (hf : FR_X3_isHead ≤ (kR K).frames) (hlo : LO_X3_isHead ≤ (kR K).locals) (p0 : Option Nat) (p1 : Int32) (h : AH) : Sim G K 2 (f_X3_isHead p0 p1 h) h 0 [(0, va_rf p0), (1, .int p1)] [] := by
  unfold f_X3_isHead
  refine s_aload_n hK dX3_isHead_0 rfl 0 rfl ?_
  refine s_gA hK fcX3 16 (Nat.le_of_ble_eq_true rfl) (Or.inl q1700) (Or.inl rfl) dX3_isHead_1 (fun v1 => ?_)
  refine s_iload_n hK dX3_isHead_4 rfl 1 rfl ?_
  refine s_iald hK dX3_isHead_5 (fun v2 => ?_)
  refine s_if_le (tgt := 30) hK dX3_isHead_6 (by decide) (fun c9 => ?_) (fun c9 => ?_)
  · refine s_iconst (v := 0) hK dX3_isHead_30 rfl ?_
    exact s_zret hK dX3_isHead_31
  · refine s_aload_n hK dX3_isHead_9 rfl 0 rfl ?_
    refine s_iload_n hK dX3_isHead_10 rfl 1 rfl ?_
    refine s_rc (fun _ _ eo er => ?_)
    refine s_cI hK ho_n (cx_v (As := [.int p1]) (rest := []) hK dyX3_isEntry rfl q1890 fcX3.1 q1892 qs37 q80 q1893 eo er (ct_X3_isEntry hK.1 p0 p1 h) (Nat.le_trans (Nat.le_of_ble_eq_true rfl) hf) (Nat.le_trans (Nat.le_of_ble_eq_true rfl) hlo) rk_n (Nat.le_of_ble_eq_true rfl) dX3_isHead_11 rfl) (fun v4 h3 => ?_)
    refine s_if_ne (tgt := 26) hK dX3_isHead_14 (by decide) (fun c8 => ?_) (fun c8 => ?_)
    · refine s_iconst (v := 1) hK dX3_isHead_26 rfl ?_
      refine s_goto (tgt := 31) hK dX3_isHead_27 (by decide) ?_
      exact s_zret hK dX3_isHead_31
    · refine s_aload_n hK dX3_isHead_17 rfl 0 rfl ?_
      refine s_iload_n hK dX3_isHead_18 rfl 1 rfl ?_
      refine s_iconst (v := 1) hK dX3_isHead_19 rfl ?_
      refine s_rc (fun _ _ eo er => ?_)
      refine s_cI hK ho_n (cx_v (As := [.int p1, .int 1]) (rest := []) hK dyX3_isGoal rfl q2093 fcX3.1 q2095 qs67 q80 q2096 eo er (ct_X3_isGoal hK.1 p0 p1 1 h3) (Nat.le_trans (Nat.le_of_ble_eq_true rfl) hf) (Nat.le_trans (Nat.le_of_ble_eq_true rfl) hlo) rk_n (Nat.le_of_ble_eq_true rfl) dX3_isHead_20 rfl) (fun v6 h5 => ?_)
      refine s_if_eq (tgt := 30) hK dX3_isHead_23 (by decide) (fun c7 => ?_) (fun c7 => ?_)
      · refine s_iconst (v := 0) hK dX3_isHead_30 rfl ?_
        exact s_zret hK dX3_isHead_31
      · refine s_iconst (v := 1) hK dX3_isHead_26 rfl ?_
        refine s_goto (tgt := 31) hK dX3_isHead_27 (by decide) ?_
        exact s_zret hK dX3_isHead_31
theorem ct_X3_isHead {G : GC} {l : Launch} (g : GOK G l) (p0 : Option Nat) (p1 : Int32) (h : AH) : CT G l yX3_isHead (Cond.code yX3_isHead cX3_isHead 2 (some (.boolean))) 4 83 [va_rf p0, .int p1] (f_X3_isHead p0 p1 h) h :=
  CT.of g (by decide) (by simp only [ls_a, ls_i, ls_l, ls_n]; decide) (fun K _ hK hf hlo => by simp only [la_a, la_i, la_l, la_n]; exact sm_X3_isHead hK hf hlo p0 p1 h)
abbrev FR_X3_functionCount : Nat := 5
abbrev LO_X3_functionCount : Nat := 104
theorem dyX3_functionCount : DY yX3_functionCount 0 := ⟨⟨by decide, by decide⟩, by decide +kernel⟩
theorem sm_X3_functionCount_J33 {G : GC} {K : SC} (hK : SOK G K RX3 cX3_functionCount 3 (some (.int)) "functionCount" []) (hf : FR_X3_functionCount ≤ (kR K).frames) (hlo : LO_X3_functionCount ≤ (kR K).locals) {rc : Option Nat → Int32 → Int32 → AH → RS} (hrc : ∀ (y0 : Option Nat) (y1 : Int32) (y2 : Int32) (h : AH), Sim G K 3 (rc y0 y1 y2 h) h 4 [(0, va_rf y0), (1, .int y1), (2, .int y2)] []) {k41 : Option Nat → Int32 → AH → RS} (hk41 : ∀ (y0 : Option Nat) (y1 : Int32) (h : AH), Sim G K 3 (k41 y0 y1 h) h 41 [(0, va_rf y0), (1, .int y1)] []) (x9 : Option Nat) (x10 : Int32) (y11 : Int32) (y12 : Int32) (h13 : AH) : Sim G K 3 (f_X3_functionCount_J33 rc k41 x9 x10 y11 y12 h13) h13 33 [(0, va_rf x9), (2, .int x10)] [.int y11, .int y12] := by
  unfold f_X3_functionCount_J33
  refine s_iadd hK dX3_functionCount_33 ?_
  refine s_istore_n (lv' := [(1, .int (y12 + y11)), (0, va_rf x9), (2, .int x10)]) hK dX3_functionCount_34 rfl (Nat.le_of_ble_eq_true rfl) (flA (pre := []) (suf := [(2, .int x10)]) rfl rfl) ?_
  refine s_iinc (j := 2) (v := 1) (lv' := [(2, .int (x10 + 1)), (1, .int (y12 + y11)), (0, va_rf x9)]) hK dX3_functionCount_35 rfl rfl (Nat.le_of_ble_eq_true rfl) rfl ?_
  refine s_goto (tgt := 4) hK dX3_functionCount_38 (by decide) ?_
  refine s_sub [2, 1, 0] rfl ?_
  exact hrc x9 (y12 + y11) (x10 + 1) h13
theorem sm_X3_functionCount_L4 {G : GC} {K : SC} (hK : SOK G K RX3 cX3_functionCount 3 (some (.int)) "functionCount" []) (hf : FR_X3_functionCount ≤ (kR K).frames) (hlo : LO_X3_functionCount ≤ (kR K).locals) {k41 : Option Nat → Int32 → AH → RS} (hk41 : ∀ (y0 : Option Nat) (y1 : Int32) (h : AH), Sim G K 3 (k41 y0 y1 h) h 41 [(0, va_rf y0), (1, .int y1)] []) : ∀ (n : Nat) (x1 : Option Nat) (x2 : Int32) (x3 : Int32) (h4 : AH), Sim G K 3 (f_X3_functionCount_L4 k41 n x1 x2 x3 h4) h4 4 [(0, va_rf x1), (1, .int x2), (2, .int x3)] [] := by
  intro n
  induction n with
  | zero => intro x1 x2 x3 h4; exact s_none
  | succ n ih =>
    intro x1 x2 x3 h4
    rw [f_X3_functionCount_L4]
    refine s_iload_n hK dX3_functionCount_4 rfl 2 rfl ?_
    refine s_aload_n hK dX3_functionCount_5 rfl 0 rfl ?_
    refine s_gI hK fcX3 5 (Nat.le_of_ble_eq_true rfl) (Or.inl q1689) (Or.inl rfl) dX3_functionCount_6 (fun v5 => ?_)
    refine s_icmp_ge (tgt := 41) hK dX3_functionCount_9 (by decide) (fun c16 => ?_) (fun c16 => ?_)
    · refine s_sub [0, 1] rfl ?_
      exact hk41 x1 x2 h4
    · refine s_aload_n hK dX3_functionCount_12 rfl 0 rfl ?_
      refine s_gI hK fcX3 15 (Nat.le_of_ble_eq_true rfl) (Or.inl q1699) (Or.inl rfl) dX3_functionCount_13 (fun v6 => ?_)
      refine s_if_eq (tgt := 41) hK dX3_functionCount_16 (by decide) (fun c15 => ?_) (fun c15 => ?_)
      · refine s_sub [0, 1] rfl ?_
        exact hk41 x1 x2 h4
      · refine s_iload_n hK dX3_functionCount_19 rfl 1 rfl ?_
        refine s_aload_n hK dX3_functionCount_20 rfl 0 rfl ?_
        refine s_iload_n hK dX3_functionCount_21 rfl 2 rfl ?_
        refine s_rc (fun _ _ eo er => ?_)
        refine s_cI hK ho_n (cx_v (As := [.int x3]) (rest := [.int x2]) hK dyX3_isHead rfl q2117 fcX3.1 q2119 qs71 q80 q2120 eo er (ct_X3_isHead hK.1 x1 x3 h4) (Nat.le_trans (Nat.le_of_ble_eq_true rfl) hf) (Nat.le_trans (Nat.le_of_ble_eq_true rfl) hlo) (rk_i rk_n) (Nat.le_of_ble_eq_true rfl) dX3_functionCount_22 rfl) (fun v8 h7 => ?_)
        refine s_if_eq (tgt := 32) hK dX3_functionCount_25 (by decide) (fun c14 => ?_) (fun c14 => ?_)
        · refine s_iconst (v := 0) hK dX3_functionCount_32 rfl ?_
          refine s_sub [0, 2] rfl ?_
          exact sm_X3_functionCount_J33 hK hf hlo ih hk41 x1 x3 0 x2 h7
        · refine s_iconst (v := 1) hK dX3_functionCount_28 rfl ?_
          refine s_goto (tgt := 33) hK dX3_functionCount_29 (by decide) ?_
          refine s_sub [0, 2] rfl ?_
          exact sm_X3_functionCount_J33 hK hf hlo ih hk41 x1 x3 1 x2 h7
theorem sm_X3_functionCount_J41 {G : GC} {K : SC} (hK : SOK G K RX3 cX3_functionCount 3 (some (.int)) "functionCount" []) (hf : FR_X3_functionCount ≤ (kR K).frames) (hlo : LO_X3_functionCount ≤ (kR K).locals) (x20 : Option Nat) (x21 : Int32)  (h22 : AH) : Sim G K 3 (f_X3_functionCount_J41 x20 x21 h22) h22 41 [(0, va_rf x20), (1, .int x21)] [] := by
  unfold f_X3_functionCount_J41
  refine s_aload_n hK dX3_functionCount_41 rfl 0 rfl ?_
  refine s_iload_n hK dX3_functionCount_42 rfl 1 rfl ?_
  refine s_rc (fun _ _ eo er => ?_)
  refine s_cI hK ho_n (cx_v (As := [.int x21]) (rest := []) hK dyX3_ofRecovery rfl q2021 fcX3.1 q2023 qs62 q80 q2024 eo er (ct_X3_ofRecovery hK.1 x20 x21 h22) (Nat.le_trans (Nat.le_of_ble_eq_true rfl) hf) (Nat.le_trans (Nat.le_of_ble_eq_true rfl) hlo) rk_n (Nat.le_of_ble_eq_true rfl) dX3_functionCount_43 rfl) (fun v24 h23 => ?_)
  exact s_iret hK dX3_functionCount_46
theorem sm_X3_functionCount {G : GC} {K : SC} (hK : SOK G K RX3 cX3_functionCount 3 (some (.int)) "functionCount" []) (hf : FR_X3_functionCount ≤ (kR K).frames) (hlo : LO_X3_functionCount ≤ (kR K).locals) (p0 : Option Nat) (h : AH) : Sim G K 3 (f_X3_functionCount p0 h) h 0 [(0, va_rf p0)] [] := by
  unfold f_X3_functionCount
  refine s_iconst (v := 0) hK dX3_functionCount_0 rfl ?_
  refine s_istore_n (lv' := [(1, .int 0), (0, va_rf p0)]) hK dX3_functionCount_1 rfl (Nat.le_of_ble_eq_true rfl) (flA (pre := []) (suf := []) rfl rfl) ?_
  refine s_iconst (v := 0) hK dX3_functionCount_2 rfl ?_
  refine s_istore_n (lv' := [(2, .int 0), (1, .int 0), (0, va_rf p0)]) hK dX3_functionCount_3 rfl (Nat.le_of_ble_eq_true rfl) rfl ?_
  refine s_sub [2, 1, 0] rfl ?_
  refine sm_X3_functionCount_L4 hK hf hlo (fun x17 x18 h19 => ?_) FUEL p0 0 0 h
  · exact sm_X3_functionCount_J41 hK hf hlo x17 x18 h19
theorem ct_X3_functionCount {G : GC} {l : Launch} (g : GOK G l) (p0 : Option Nat) (h : AH) : CT G l yX3_functionCount (Cond.code yX3_functionCount cX3_functionCount 3 (some (.int))) 5 104 [va_rf p0] (f_X3_functionCount p0 h) h :=
  CT.of g (by decide) (by simp only [ls_a, ls_i, ls_l, ls_n]; decide) (fun K _ hK hf hlo => by simp only [la_a, la_i, la_l, la_n]; exact sm_X3_functionCount hK hf hlo p0 h)
abbrev FR_X3_reaches : Nat := 4
abbrev LO_X3_reaches : Nat := 80
theorem dyX3_reaches : DY yX3_reaches 1 := ⟨⟨by decide, by decide⟩, by decide +kernel⟩
theorem sm_X3_reaches {G : GC} {K : SC} (hK : SOK G K RX3 cX3_reaches 2 (none) "reaches" []) (hf : FR_X3_reaches ≤ (kR K).frames) (hlo : LO_X3_reaches ≤ (kR K).locals) (p0 : Option Nat) (p1 : Int32) (h : AH) : Sim G K 2 (f_X3_reaches p0 p1 h) h 0 [(0, va_rf p0), (1, .int p1)] [] := by
  unfold f_X3_reaches
  refine s_aload_n hK dX3_reaches_0 rfl 0 rfl ?_
  refine s_iload_n hK dX3_reaches_1 rfl 1 rfl ?_
  refine s_rc (fun _ _ eo er => ?_)
  refine s_cI hK ho_n (cx_v (As := [.int p1]) (rest := []) hK dyX3_isBegin rfl q2065 fcX3.1 q2067 qs64 q80 q2068 eo er (ct_X3_isBegin hK.1 p0 p1 h) (Nat.le_trans (Nat.le_of_ble_eq_true rfl) hf) (Nat.le_trans (Nat.le_of_ble_eq_true rfl) hlo) rk_n (Nat.le_of_ble_eq_true rfl) dX3_reaches_2 rfl) (fun v2 h1 => ?_)
  refine s_if_eq (tgt := 17) hK dX3_reaches_5 (by decide) (fun c13 => ?_) (fun c13 => ?_)
  · exact s_vret hK dX3_reaches_17
  · refine s_aload_n hK dX3_reaches_8 rfl 0 rfl ?_
    refine s_gA hK fcX3 45 (Nat.le_of_ble_eq_true rfl) (Or.inl q1729) (Or.inl rfl) dX3_reaches_9 (fun v3 => ?_)
    refine s_iload_n hK dX3_reaches_12 rfl 1 rfl ?_
    refine s_zald hK dX3_reaches_13 (fun v4 => ?_)
    refine s_if_eq (tgt := 18) hK dX3_reaches_14 (by decide) (fun c12 => ?_) (fun c12 => ?_)
    · refine s_aload_n hK dX3_reaches_18 rfl 0 rfl ?_
      refine s_gA hK fcX3 45 (Nat.le_of_ble_eq_true rfl) (Or.inl q1729) (Or.inl rfl) dX3_reaches_19 (fun v5 => ?_)
      refine s_iload_n hK dX3_reaches_22 rfl 1 rfl ?_
      refine s_iconst (v := 1) hK dX3_reaches_23 rfl ?_
      refine s_zast hK dX3_reaches_24 (fun h6 => ?_)
      refine s_aload_n hK dX3_reaches_25 rfl 0 rfl ?_
      refine s_gA hK fcX3 46 (Nat.le_of_ble_eq_true rfl) (Or.inl q1730) (Or.inl rfl) dX3_reaches_26 (fun v7 => ?_)
      refine s_aload_n hK dX3_reaches_29 rfl 0 rfl ?_
      refine s_gI hK fcX3 47 (Nat.le_of_ble_eq_true rfl) (Or.inl q1731) (Or.inl rfl) dX3_reaches_30 (fun v8 => ?_)
      refine s_iload_n hK dX3_reaches_33 rfl 1 rfl ?_
      refine s_iast hK dX3_reaches_34 (fun h9 => ?_)
      refine s_aload_n hK dX3_reaches_35 rfl 0 rfl ?_
      refine s_dup hK dX3_reaches_36 (va_cat _) ?_
      refine s_gI hK fcX3 47 (Nat.le_of_ble_eq_true rfl) (Or.inl q1731) (Or.inl rfl) dX3_reaches_37 (fun v10 => ?_)
      refine s_iconst (v := 1) hK dX3_reaches_40 rfl ?_
      refine s_iadd hK dX3_reaches_41 ?_
      refine s_pF hK fcX3 47 (Nat.le_of_ble_eq_true rfl) (Or.inl q1731) (Or.inl rfl) (Or.inl rfl) rfl rfl dX3_reaches_42 (fun h11 => ?_)
      exact s_vret hK dX3_reaches_45
    · exact s_vret hK dX3_reaches_17
theorem ct_X3_reaches {G : GC} {l : Launch} (g : GOK G l) (p0 : Option Nat) (p1 : Int32) (h : AH) : CT G l yX3_reaches (Cond.code yX3_reaches cX3_reaches 2 (none)) 4 80 [va_rf p0, .int p1] (f_X3_reaches p0 p1 h) h :=
  CT.of g (by decide) (by simp only [ls_a, ls_i, ls_l, ls_n]; decide) (fun K _ hK hf hlo => by simp only [la_a, la_i, la_l, la_n]; exact sm_X3_reaches hK hf hlo p0 p1 h)
abbrev FR_X3_functionSize : Nat := 5
abbrev LO_X3_functionSize : Nat := 104
theorem dyX3_functionSize : DY yX3_functionSize 1 := ⟨⟨by decide, by decide⟩, by decide +kernel⟩
theorem sm_X3_functionSize_L30 {G : GC} {K : SC} (hK : SOK G K RX3 cX3_functionSize 6 (some (.int)) "functionSize" []) (hf : FR_X3_functionSize ≤ (kR K).frames) (hlo : LO_X3_functionSize ≤ (kR K).locals) {k49 : Option Nat → Int32 → AH → RS} (hk49 : ∀ (y0 : Option Nat) (y1 : Int32) (h : AH), Sim G K 6 (k49 y0 y1 h) h 49 [(0, va_rf y0), (1, .int y1)] []) : ∀ (n : Nat) (x7 : Option Nat) (x8 : Int32) (x9 : Int32) (h10 : AH), Sim G K 6 (f_X3_functionSize_L30 k49 n x7 x8 x9 h10) h10 30 [(0, va_rf x7), (1, .int x8), (2, .int x9)] [] := by
  intro n
  induction n with
  | zero => intro x7 x8 x9 h10; exact s_none
  | succ n ih =>
    intro x7 x8 x9 h10
    rw [f_X3_functionSize_L30]
    refine s_iload_n hK dX3_functionSize_30 rfl 2 rfl ?_
    refine s_bipush (v := 96) hK dX3_functionSize_31 rfl ?_
    refine s_icmp_ge (tgt := 49) hK dX3_functionSize_33 (by decide) (fun c13 => ?_) (fun c13 => ?_)
    · refine s_sub [0, 1] rfl ?_
      exact hk49 x7 x8 h10
    · refine s_aload_n hK dX3_functionSize_36 rfl 0 rfl ?_
      refine s_gA hK fcX3 45 (Nat.le_of_ble_eq_true rfl) (Or.inl q1729) (Or.inl rfl) dX3_functionSize_37 (fun v11 => ?_)
      refine s_iload_n hK dX3_functionSize_40 rfl 2 rfl ?_
      refine s_iconst (v := 0) hK dX3_functionSize_41 rfl ?_
      refine s_zast hK dX3_functionSize_42 (fun h12 => ?_)
      refine s_iinc (j := 2) (v := 1) (lv' := [(2, .int (x9 + 1)), (0, va_rf x7), (1, .int x8)]) hK dX3_functionSize_43 rfl rfl (Nat.le_of_ble_eq_true rfl) rfl ?_
      refine s_goto (tgt := 30) hK dX3_functionSize_46 (by decide) ?_
      refine s_sub [1, 2, 0] rfl ?_
      exact ih x7 x8 (x9 + 1) h12
theorem sm_X3_functionSize_L134 {G : GC} {K : SC} (hK : SOK G K RX3 cX3_functionSize 6 (some (.int)) "functionSize" []) (hf : FR_X3_functionSize ≤ (kR K).frames) (hlo : LO_X3_functionSize ≤ (kR K).locals) {k185 : Option Nat → Int32 → Int32 → Int32 → AH → RS} (hk185 : ∀ (y0 : Option Nat) (y1 : Int32) (y2 : Int32) (y3 : Int32) (h : AH), Sim G K 6 (k185 y0 y1 y2 y3 h) h 185 [(0, va_rf y0), (2, .int y1), (3, .int y2), (4, .int y3)] []) : ∀ (n : Nat) (x45 : Option Nat) (x46 : Int32) (x47 : Int32) (x48 : Int32) (x49 : Int32) (h50 : AH), Sim G K 6 (f_X3_functionSize_L134 k185 n x45 x46 x47 x48 x49 h50) h50 134 [(0, va_rf x45), (2, .int x46), (3, .int x47), (4, .int x48), (5, .int x49)] [] := by
  intro n
  induction n with
  | zero => intro x45 x46 x47 x48 x49 h50; exact s_none
  | succ n ih =>
    intro x45 x46 x47 x48 x49 h50
    rw [f_X3_functionSize_L134]
    refine s_iload hK dX3_functionSize_134 4 rfl ?_
    refine s_aload_n hK dX3_functionSize_136 rfl 0 rfl ?_
    refine s_gA hK fcX3 34 (Nat.le_of_ble_eq_true rfl) (Or.inl q1718) (Or.inl rfl) dX3_functionSize_137 (fun v51 => ?_)
    refine s_iload hK dX3_functionSize_140 3 rfl ?_
    refine s_iald hK dX3_functionSize_142 (fun v52 => ?_)
    refine s_icmp_ge (tgt := 185) hK dX3_functionSize_143 (by decide) (fun c61 => ?_) (fun c61 => ?_)
    · refine s_sub [0, 1, 2, 3] rfl ?_
      exact hk185 x45 x46 x47 x48 h50
    · refine s_aload_n hK dX3_functionSize_146 rfl 0 rfl ?_
      refine s_gA hK fcX3 31 (Nat.le_of_ble_eq_true rfl) (Or.inl q1715) (Or.inl rfl) dX3_functionSize_147 (fun v53 => ?_)
      refine s_iload hK dX3_functionSize_150 3 rfl ?_
      refine s_iald hK dX3_functionSize_152 (fun v54 => ?_)
      refine s_iload_n hK dX3_functionSize_153 rfl 2 rfl ?_
      refine s_icmp_ne (tgt := 185) hK dX3_functionSize_154 (by decide) (fun c60 => ?_) (fun c60 => ?_)
      · refine s_sub [0, 1, 2, 3] rfl ?_
        exact hk185 x45 x46 x47 x48 h50
      · refine s_aload_n hK dX3_functionSize_157 rfl 0 rfl ?_
        refine s_aload_n hK dX3_functionSize_158 rfl 0 rfl ?_
        refine s_gA hK fcX3 1 (Nat.le_of_ble_eq_true rfl) (Or.inl q1685) (Or.inl rfl) dX3_functionSize_159 (fun v55 => ?_)
        refine s_aload_n hK dX3_functionSize_162 rfl 0 rfl ?_
        refine s_gA hK fcX3 35 (Nat.le_of_ble_eq_true rfl) (Or.inl q1719) (Or.inl rfl) dX3_functionSize_163 (fun v56 => ?_)
        refine s_bipush (v := 16) hK dX3_functionSize_166 rfl ?_
        refine s_iload hK dX3_functionSize_168 3 rfl ?_
        refine s_imul hK dX3_functionSize_170 ?_
        refine s_iload hK dX3_functionSize_171 4 rfl ?_
        refine s_iadd hK dX3_functionSize_173 ?_
        refine s_iald hK dX3_functionSize_174 (fun v57 => ?_)
        refine s_iald hK dX3_functionSize_175 (fun v58 => ?_)
        refine s_rc (fun _ _ eo er => ?_)
        refine s_cV hK ho_n (cx_v (As := [.int v58]) (rest := []) hK dyX3_reaches rfl q2125 fcX3.1 q2127 qs72 q80 q2128 eo er (ct_X3_reaches hK.1 x45 v58 h50) (Nat.le_trans (Nat.le_of_ble_eq_true rfl) hf) (Nat.le_trans (Nat.le_of_ble_eq_true rfl) hlo) rk_n (Nat.le_of_ble_eq_true rfl) dX3_functionSize_176 rfl) (fun h59 => ?_)
        refine s_iinc (j := 4) (v := 1) (lv' := [(5, .int (x49 + 1)), (0, va_rf x45), (2, .int x46), (3, .int x47), (4, .int x48)]) hK dX3_functionSize_179 rfl rfl (Nat.le_of_ble_eq_true rfl) rfl ?_
        refine s_goto (tgt := 134) hK dX3_functionSize_182 (by decide) ?_
        refine s_sub [1, 2, 3, 4, 0] rfl ?_
        exact ih x45 x46 x47 x48 (x49 + 1) h59
theorem sm_X3_functionSize_J185 {G : GC} {K : SC} (hK : SOK G K RX3 cX3_functionSize 6 (some (.int)) "functionSize" []) (hf : FR_X3_functionSize ≤ (kR K).frames) (hlo : LO_X3_functionSize ≤ (kR K).locals) {rc : Option Nat → Int32 → Int32 → Int32 → AH → RS} (hrc : ∀ (y0 : Option Nat) (y1 : Int32) (y2 : Int32) (y3 : Int32) (h : AH), Sim G K 6 (rc y0 y1 y2 y3 h) h 122 [(0, va_rf y0), (2, .int y1), (3, .int y2), (4, .int y3)] []) {k191 : Option Nat → Int32 → AH → RS} (hk191 : ∀ (y0 : Option Nat) (y1 : Int32) (h : AH), Sim G K 6 (k191 y0 y1 h) h 191 [(0, va_rf y0), (2, .int y1)] []) (x67 : Option Nat) (x68 : Int32) (x69 : Int32) (x70 : Int32)  (h71 : AH) : Sim G K 6 (f_X3_functionSize_J185 rc k191 x67 x68 x69 x70 h71) h71 185 [(0, va_rf x67), (2, .int x68), (3, .int x69), (4, .int x70)] [] := by
  unfold f_X3_functionSize_J185
  refine s_iinc (j := 3) (v := 1) (lv' := [(4, .int (x70 + 1)), (0, va_rf x67), (2, .int x68), (3, .int x69)]) hK dX3_functionSize_185 rfl rfl (Nat.le_of_ble_eq_true rfl) rfl ?_
  refine s_goto (tgt := 122) hK dX3_functionSize_188 (by decide) ?_
  refine s_sub [1, 2, 3, 0] rfl ?_
  exact hrc x67 x68 x69 (x70 + 1) h71
theorem sm_X3_functionSize_L122 {G : GC} {K : SC} (hK : SOK G K RX3 cX3_functionSize 6 (some (.int)) "functionSize" []) (hf : FR_X3_functionSize ≤ (kR K).frames) (hlo : LO_X3_functionSize ≤ (kR K).locals) {k191 : Option Nat → Int32 → AH → RS} (hk191 : ∀ (y0 : Option Nat) (y1 : Int32) (h : AH), Sim G K 6 (k191 y0 y1 h) h 191 [(0, va_rf y0), (2, .int y1)] []) : ∀ (n : Nat) (x39 : Option Nat) (x40 : Int32) (x41 : Int32) (x42 : Int32) (h43 : AH), Sim G K 6 (f_X3_functionSize_L122 k191 n x39 x40 x41 x42 h43) h43 122 [(0, va_rf x39), (2, .int x40), (3, .int x41), (4, .int x42)] [] := by
  intro n
  induction n with
  | zero => intro x39 x40 x41 x42 h43; exact s_none
  | succ n ih =>
    intro x39 x40 x41 x42 h43
    rw [f_X3_functionSize_L122]
    refine s_iload hK dX3_functionSize_122 3 rfl ?_
    refine s_aload_n hK dX3_functionSize_124 rfl 0 rfl ?_
    refine s_gI hK fcX3 27 (Nat.le_of_ble_eq_true rfl) (Or.inl q1711) (Or.inl rfl) dX3_functionSize_125 (fun v44 => ?_)
    refine s_icmp_ge (tgt := 191) hK dX3_functionSize_128 (by decide) (fun c72 => ?_) (fun c72 => ?_)
    · refine s_sub [0, 1] rfl ?_
      exact hk191 x39 x40 h43
    · refine s_iconst (v := 0) hK dX3_functionSize_131 rfl ?_
      refine s_istore (lv' := [(5, .int 0), (0, va_rf x39), (2, .int x40), (3, .int x41), (4, .int x42)]) hK dX3_functionSize_132 (Nat.le_of_ble_eq_true rfl) rfl ?_
      refine s_sub [1, 2, 3, 4, 0] rfl ?_
      refine sm_X3_functionSize_L134 hK hf hlo (fun x62 x63 x64 x65 h66 => ?_) FUEL x39 x40 x41 x42 0 h43
      · exact sm_X3_functionSize_J185 hK hf hlo ih hk191 x62 x63 x64 x65 h66
theorem sm_X3_functionSize_J119 {G : GC} {K : SC} (hK : SOK G K RX3 cX3_functionSize 6 (some (.int)) "functionSize" []) (hf : FR_X3_functionSize ≤ (kR K).frames) (hlo : LO_X3_functionSize ≤ (kR K).locals) {rc : Option Nat → Int32 → AH → RS} (hrc : ∀ (y0 : Option Nat) (y1 : Int32) (h : AH), Sim G K 6 (rc y0 y1 h) h 61 [(0, va_rf y0), (2, .int y1)] []) {k197 : Option Nat → AH → RS} (hk197 : ∀ (y0 : Option Nat) (h : AH), Sim G K 6 (k197 y0 h) h 197 [(0, va_rf y0)] []) (x35 : Option Nat) (x36 : Int32) (x37 : Int32)  (h38 : AH) : Sim G K 6 (f_X3_functionSize_J119 rc k197 x35 x36 x37 h38) h38 119 [(0, va_rf x35), (2, .int x36), (3, .int x37)] [] := by
  unfold f_X3_functionSize_J119
  refine s_iconst (v := 0) hK dX3_functionSize_119 rfl ?_
  refine s_istore (lv' := [(4, .int 0), (0, va_rf x35), (2, .int x36), (3, .int x37)]) hK dX3_functionSize_120 (Nat.le_of_ble_eq_true rfl) rfl ?_
  refine s_sub [1, 2, 3, 0] rfl ?_
  refine sm_X3_functionSize_L122 hK hf hlo (fun x73 x74 h75 => ?_) FUEL x35 x36 x37 0 h38
  · refine s_iinc (j := 1) (v := 1) (lv' := [(2, .int (x74 + 1)), (0, va_rf x73)]) hK dX3_functionSize_191 rfl rfl (Nat.le_of_ble_eq_true rfl) rfl ?_
    refine s_goto (tgt := 61) hK dX3_functionSize_194 (by decide) ?_
    refine s_sub [1, 0] rfl ?_
    exact hrc x73 (x74 + 1) h75
theorem sm_X3_functionSize_J96 {G : GC} {K : SC} (hK : SOK G K RX3 cX3_functionSize 6 (some (.int)) "functionSize" []) (hf : FR_X3_functionSize ≤ (kR K).frames) (hlo : LO_X3_functionSize ≤ (kR K).locals) {rc : Option Nat → Int32 → AH → RS} (hrc : ∀ (y0 : Option Nat) (y1 : Int32) (h : AH), Sim G K 6 (rc y0 y1 h) h 61 [(0, va_rf y0), (2, .int y1)] []) {k197 : Option Nat → AH → RS} (hk197 : ∀ (y0 : Option Nat) (h : AH), Sim G K 6 (k197 y0 h) h 197 [(0, va_rf y0)] []) (x27 : Option Nat) (x28 : Int32) (x29 : Int32)  (h30 : AH) : Sim G K 6 (f_X3_functionSize_J96 rc k197 x27 x28 x29 h30) h30 96 [(0, va_rf x27), (2, .int x28), (3, .int x29)] [] := by
  unfold f_X3_functionSize_J96
  refine s_aload_n hK dX3_functionSize_96 rfl 0 rfl ?_
  refine s_iload_n hK dX3_functionSize_97 rfl 2 rfl ?_
  refine s_rc (fun _ _ eo er => ?_)
  refine s_cI hK ho_n (cx_v (As := [.int x29]) (rest := []) hK dyX3_sort rfl q1914 fcX3.1 q1916 qs39 q80 q1917 eo er (ct_X3_sort hK.1 x27 x29 h30) (Nat.le_trans (Nat.le_of_ble_eq_true rfl) hf) (Nat.le_trans (Nat.le_of_ble_eq_true rfl) hlo) rk_n (Nat.le_of_ble_eq_true rfl) dX3_functionSize_98 rfl) (fun v32 h31 => ?_)
  refine s_iconst (v := 4) hK dX3_functionSize_101 rfl ?_
  refine s_bipush (v := 6) hK dX3_functionSize_102 rfl ?_
  refine s_cI hK ho_n (cx_s (As := [.int v32, .int 4, .int 6]) (rest := []) hK dyX3_in rfl q1844 q1845 q80 q1846 (ct_X3_in hK.1 v32 4 6 h31) (Nat.le_trans (Nat.le_of_ble_eq_true rfl) hf) (Nat.le_trans (Nat.le_of_ble_eq_true rfl) hlo) rk_n (Nat.le_of_ble_eq_true rfl) dX3_functionSize_104 rfl) (fun v34 h33 => ?_)
  refine s_if_eq (tgt := 119) hK dX3_functionSize_107 (by decide) (fun c79 => ?_) (fun c79 => ?_)
  · exact sm_X3_functionSize_J119 hK hf hlo hrc hk197 x27 x28 x29 h33
  · refine s_aload_n hK dX3_functionSize_110 rfl 0 rfl ?_
    refine s_aload_n hK dX3_functionSize_111 rfl 0 rfl ?_
    refine s_iload_n hK dX3_functionSize_112 rfl 2 rfl ?_
    refine s_rc (fun _ _ eo er => ?_)
    refine s_cI hK ho_n (cx_v (As := [.int x29]) (rest := [va_rf x27]) hK dyX3_goal rfl q1925 fcX3.1 q1927 qs41 q80 q1928 eo er (ct_X3_goal hK.1 x27 x29 h33) (Nat.le_trans (Nat.le_of_ble_eq_true rfl) hf) (Nat.le_trans (Nat.le_of_ble_eq_true rfl) hlo) (rk_a rk_n) (Nat.le_of_ble_eq_true rfl) dX3_functionSize_113 rfl) (fun v77 h76 => ?_)
    refine s_rc (fun _ _ eo er => ?_)
    refine s_cV hK ho_n (cx_v (As := [.int v77]) (rest := []) hK dyX3_reaches rfl q2125 fcX3.1 q2127 qs72 q80 q2128 eo er (ct_X3_reaches hK.1 x27 v77 h76) (Nat.le_trans (Nat.le_of_ble_eq_true rfl) hf) (Nat.le_trans (Nat.le_of_ble_eq_true rfl) hlo) rk_n (Nat.le_of_ble_eq_true rfl) dX3_functionSize_116 rfl) (fun h78 => ?_)
    exact sm_X3_functionSize_J119 hK hf hlo hrc hk197 x27 x28 x29 h78
theorem sm_X3_functionSize_L61 {G : GC} {K : SC} (hK : SOK G K RX3 cX3_functionSize 6 (some (.int)) "functionSize" []) (hf : FR_X3_functionSize ≤ (kR K).frames) (hlo : LO_X3_functionSize ≤ (kR K).locals) {k197 : Option Nat → AH → RS} (hk197 : ∀ (y0 : Option Nat) (h : AH), Sim G K 6 (k197 y0 h) h 197 [(0, va_rf y0)] []) : ∀ (n : Nat) (x19 : Option Nat) (x20 : Int32) (h21 : AH), Sim G K 6 (f_X3_functionSize_L61 k197 n x19 x20 h21) h21 61 [(0, va_rf x19), (2, .int x20)] [] := by
  intro n
  induction n with
  | zero => intro x19 x20 h21; exact s_none
  | succ n ih =>
    intro x19 x20 h21
    rw [f_X3_functionSize_L61]
    refine s_iload_n hK dX3_functionSize_61 rfl 1 rfl ?_
    refine s_aload_n hK dX3_functionSize_62 rfl 0 rfl ?_
    refine s_gI hK fcX3 47 (Nat.le_of_ble_eq_true rfl) (Or.inl q1731) (Or.inl rfl) dX3_functionSize_63 (fun v22 => ?_)
    refine s_icmp_ge (tgt := 197) hK dX3_functionSize_66 (by decide) (fun c84 => ?_) (fun c84 => ?_)
    · refine s_sub [0] rfl ?_
      exact hk197 x19 h21
    · refine s_aload_n hK dX3_functionSize_69 rfl 0 rfl ?_
      refine s_gA hK fcX3 46 (Nat.le_of_ble_eq_true rfl) (Or.inl q1730) (Or.inl rfl) dX3_functionSize_70 (fun v23 => ?_)
      refine s_iload_n hK dX3_functionSize_73 rfl 1 rfl ?_
      refine s_iald hK dX3_functionSize_74 (fun v24 => ?_)
      refine s_istore_n (lv' := [(3, .int v24), (0, va_rf x19), (2, .int x20)]) hK dX3_functionSize_75 rfl (Nat.le_of_ble_eq_true rfl) rfl ?_
      refine s_aload_n hK dX3_functionSize_76 rfl 1 rfl ?_
      refine s_iload_n hK dX3_functionSize_77 rfl 0 rfl ?_
      refine s_rc (fun _ _ eo er => ?_)
      refine s_cI hK ho_n (cx_v (As := [.int v24]) (rest := []) hK dyX3_endsFlow rfl q1981 fcX3.1 q1983 qs53 q80 q1984 eo er (ct_X3_endsFlow hK.1 x19 v24 h21) (Nat.le_trans (Nat.le_of_ble_eq_true rfl) hf) (Nat.le_trans (Nat.le_of_ble_eq_true rfl) hlo) rk_n (Nat.le_of_ble_eq_true rfl) dX3_functionSize_78 rfl) (fun v26 h25 => ?_)
      refine s_if_ne (tgt := 96) hK dX3_functionSize_81 (by decide) (fun c83 => ?_) (fun c83 => ?_)
      · refine s_sub [1, 2, 0] rfl ?_
        exact sm_X3_functionSize_J96 hK hf hlo ih hk197 x19 x20 v24 h25
      · refine s_aload_n hK dX3_functionSize_84 rfl 1 rfl ?_
        refine s_iload_n hK dX3_functionSize_85 rfl 0 rfl ?_
        refine s_aload_n hK dX3_functionSize_86 rfl 1 rfl ?_
        refine s_gA hK fcX3 16 (Nat.le_of_ble_eq_true rfl) (Or.inl q1700) (Or.inl rfl) dX3_functionSize_87 (fun v80 => ?_)
        refine s_iload_n hK dX3_functionSize_90 rfl 0 rfl ?_
        refine s_iald hK dX3_functionSize_91 (fun v81 => ?_)
        refine s_iadd hK dX3_functionSize_92 ?_
        refine s_rc (fun _ _ eo er => ?_)
        refine s_cV hK ho_n (cx_v (As := [.int (v24 + v81)]) (rest := []) hK dyX3_reaches rfl q2125 fcX3.1 q2127 qs72 q80 q2128 eo er (ct_X3_reaches hK.1 x19 (v24 + v81) h25) (Nat.le_trans (Nat.le_of_ble_eq_true rfl) hf) (Nat.le_trans (Nat.le_of_ble_eq_true rfl) hlo) rk_n (Nat.le_of_ble_eq_true rfl) dX3_functionSize_93 rfl) (fun h82 => ?_)
        refine s_sub [1, 2, 0] rfl ?_
        exact sm_X3_functionSize_J96 hK hf hlo ih hk197 x19 x20 v24 h82
theorem sm_X3_functionSize {G : GC} {K : SC} (hK : SOK G K RX3 cX3_functionSize 6 (some (.int)) "functionSize" []) (hf : FR_X3_functionSize ≤ (kR K).frames) (hlo : LO_X3_functionSize ≤ (kR K).locals) (p0 : Option Nat) (p1 : Int32) (h : AH) : Sim G K 6 (f_X3_functionSize p0 p1 h) h 0 [(0, va_rf p0), (1, .int p1)] [] := by
  unfold f_X3_functionSize
  refine s_aload_n hK dX3_functionSize_0 rfl 0 rfl ?_
  refine s_aload_n hK dX3_functionSize_1 rfl 0 rfl ?_
  refine s_iload_n hK dX3_functionSize_2 rfl 1 rfl ?_
  refine s_rc (fun _ _ eo er => ?_)
  refine s_cI hK ho_n (cx_v (As := [.int p1]) (rest := [va_rf p0]) hK dyX3_isAddress rfl q1870 fcX3.1 q1872 qs36 q80 q1873 eo er (ct_X3_isAddress hK.1 p0 p1 h) (Nat.le_trans (Nat.le_of_ble_eq_true rfl) hf) (Nat.le_trans (Nat.le_of_ble_eq_true rfl) hlo) (rk_a rk_n) (Nat.le_of_ble_eq_true rfl) dX3_functionSize_3 rfl) (fun v2 h1 => ?_)
  refine s_rc (fun _ _ eo er => ?_)
  refine s_cI hK ho_n (cx_v (As := [.int v2]) (rest := []) hK dyX3_refusal rfl q2029 fcX3.1 q2031 qs63 q80 q2032 eo er (ct_X3_refusal hK.1 p0 v2 h1) (Nat.le_trans (Nat.le_of_ble_eq_true rfl) hf) (Nat.le_trans (Nat.le_of_ble_eq_true rfl) hlo) rk_n (Nat.le_of_ble_eq_true rfl) dX3_functionSize_6 rfl) (fun v4 h3 => ?_)
  refine s_if_le (tgt := 14) hK dX3_functionSize_9 (by decide) (fun c91 => ?_) (fun c91 => ?_)
  · refine s_aload_n hK dX3_functionSize_14 rfl 0 rfl ?_
    refine s_iload_n hK dX3_functionSize_15 rfl 1 rfl ?_
    refine s_rc (fun _ _ eo er => ?_)
    refine s_cI hK ho_n (cx_v (As := [.int p1]) (rest := []) hK dyX3_isHead rfl q2117 fcX3.1 q2119 qs71 q80 q2120 eo er (ct_X3_isHead hK.1 p0 p1 h3) (Nat.le_trans (Nat.le_of_ble_eq_true rfl) hf) (Nat.le_trans (Nat.le_of_ble_eq_true rfl) hlo) rk_n (Nat.le_of_ble_eq_true rfl) dX3_functionSize_16 rfl) (fun v6 h5 => ?_)
    refine s_if_ne (tgt := 28) hK dX3_functionSize_19 (by decide) (fun c90 => ?_) (fun c90 => ?_)
    · refine s_iconst (v := 0) hK dX3_functionSize_28 rfl ?_
      refine s_istore_n (lv' := [(2, .int 0), (0, va_rf p0), (1, .int p1)]) hK dX3_functionSize_29 rfl (Nat.le_of_ble_eq_true rfl) rfl ?_
      refine s_sub [1, 2, 0] rfl ?_
      refine sm_X3_functionSize_L30 hK hf hlo (fun x14 x15 h16 => ?_) FUEL p0 p1 0 h5
      · refine s_aload_n hK dX3_functionSize_49 rfl 0 rfl ?_
        refine s_iconst (v := 0) hK dX3_functionSize_50 rfl ?_
        refine s_pF hK fcX3 47 (Nat.le_of_ble_eq_true rfl) (Or.inl q1731) (Or.inl rfl) (Or.inl rfl) rfl rfl dX3_functionSize_51 (fun h17 => ?_)
        refine s_aload_n hK dX3_functionSize_54 rfl 0 rfl ?_
        refine s_iload_n hK dX3_functionSize_55 rfl 1 rfl ?_
        refine s_rc (fun _ _ eo er => ?_)
        refine s_cV hK ho_n (cx_v (As := [.int x15]) (rest := []) hK dyX3_reaches rfl q2125 fcX3.1 q2127 qs72 q80 q2128 eo er (ct_X3_reaches hK.1 x14 x15 h17) (Nat.le_trans (Nat.le_of_ble_eq_true rfl) hf) (Nat.le_trans (Nat.le_of_ble_eq_true rfl) hlo) rk_n (Nat.le_of_ble_eq_true rfl) dX3_functionSize_56 rfl) (fun h18 => ?_)
        refine s_iconst (v := 0) hK dX3_functionSize_59 rfl ?_
        refine s_istore_n (lv' := [(2, .int 0), (0, va_rf x14), (1, .int x15)]) hK dX3_functionSize_60 rfl (Nat.le_of_ble_eq_true rfl) rfl ?_
        refine s_sub [1, 0] rfl ?_
        refine sm_X3_functionSize_L61 hK hf hlo (fun x85 h86 => ?_) FUEL x14 0 h18
        · refine s_aload_n hK dX3_functionSize_197 rfl 0 rfl ?_
          refine s_gI hK fcX3 47 (Nat.le_of_ble_eq_true rfl) (Or.inl q1731) (Or.inl rfl) dX3_functionSize_198 (fun v87 => ?_)
          exact s_iret hK dX3_functionSize_201
    · refine s_aload_n hK dX3_functionSize_22 rfl 0 rfl ?_
      refine s_iconst (v := 3) hK dX3_functionSize_23 rfl ?_
      refine s_rc (fun _ _ eo er => ?_)
      refine s_cI hK ho_n (cx_v (As := [.int 3]) (rest := []) hK dyX3_fails rfl q1847 fcX3.1 q1849 qs34 q80 q1850 eo er (ct_X3_fails hK.1 p0 3 h5) (Nat.le_trans (Nat.le_of_ble_eq_true rfl) hf) (Nat.le_trans (Nat.le_of_ble_eq_true rfl) hlo) rk_n (Nat.le_of_ble_eq_true rfl) dX3_functionSize_24 rfl) (fun v89 h88 => ?_)
      exact s_iret hK dX3_functionSize_27
  · refine s_iconst (v := 0) hK dX3_functionSize_12 rfl ?_
    exact s_iret hK dX3_functionSize_13
theorem ct_X3_functionSize {G : GC} {l : Launch} (g : GOK G l) (p0 : Option Nat) (p1 : Int32) (h : AH) : CT G l yX3_functionSize (Cond.code yX3_functionSize cX3_functionSize 6 (some (.int))) 5 104 [va_rf p0, .int p1] (f_X3_functionSize p0 p1 h) h :=
  CT.of g (by decide) (by simp only [ls_a, ls_i, ls_l, ls_n]; decide) (fun K _ hK hf hlo => by simp only [la_a, la_i, la_l, la_n]; exact sm_X3_functionSize hK hf hlo p0 p1 h)
abbrev FR_X3_calls : Nat := 3
abbrev LO_X3_calls : Nat := 58
theorem dyX3_calls : DY yX3_calls 2 := ⟨⟨by decide, by decide⟩, by decide +kernel⟩
theorem sm_X3_calls {G : GC} {K : SC} (hK : SOK G K RX3 cX3_calls 3 (some (.int)) "calls" []) (hf : FR_X3_calls ≤ (kR K).frames) (hlo : LO_X3_calls ≤ (kR K).locals) (p0 : Option Nat) (p1 : Int32) (p2 : Int32) (h : AH) : Sim G K 3 (f_X3_calls p0 p1 p2 h) h 0 [(0, va_rf p0), (1, .int p1), (2, .int p2)] [] := by
  unfold f_X3_calls
  refine s_aload_n hK dX3_calls_0 rfl 0 rfl ?_
  refine s_gI hK fcX3 48 (Nat.le_of_ble_eq_true rfl) (Or.inl q1732) (Or.inl rfl) dX3_calls_1 (fun v1 => ?_)
  refine s_bipush (v := 8) hK dX3_calls_4 rfl ?_
  refine s_icmp_ne (tgt := 11) hK dX3_calls_6 (by decide) (fun c9 => ?_) (fun c9 => ?_)
  · refine s_aload_n hK dX3_calls_11 rfl 0 rfl ?_
    refine s_gA hK fcX3 42 (Nat.le_of_ble_eq_true rfl) (Or.inl q1726) (Or.inl rfl) dX3_calls_12 (fun v2 => ?_)
    refine s_aload_n hK dX3_calls_15 rfl 0 rfl ?_
    refine s_gI hK fcX3 48 (Nat.le_of_ble_eq_true rfl) (Or.inl q1732) (Or.inl rfl) dX3_calls_16 (fun v3 => ?_)
    refine s_iload_n hK dX3_calls_19 rfl 2 rfl ?_
    refine s_iast hK dX3_calls_20 (fun h4 => ?_)
    refine s_aload_n hK dX3_calls_21 rfl 0 rfl ?_
    refine s_dup hK dX3_calls_22 (va_cat _) ?_
    refine s_gI hK fcX3 48 (Nat.le_of_ble_eq_true rfl) (Or.inl q1732) (Or.inl rfl) dX3_calls_23 (fun v5 => ?_)
    refine s_iconst (v := 1) hK dX3_calls_26 rfl ?_
    refine s_iadd hK dX3_calls_27 ?_
    refine s_pF hK fcX3 48 (Nat.le_of_ble_eq_true rfl) (Or.inl q1732) (Or.inl rfl) (Or.inl rfl) rfl rfl dX3_calls_28 (fun h6 => ?_)
    refine s_aload_n hK dX3_calls_31 rfl 0 rfl ?_
    refine s_iload_n hK dX3_calls_32 rfl 1 rfl ?_
    refine s_rc (fun _ _ eo er => ?_)
    refine s_cI hK ho_n (cx_v (As := [.int p1]) (rest := []) hK dyX3_goal rfl q1925 fcX3.1 q1927 qs41 q80 q1928 eo er (ct_X3_goal hK.1 p0 p1 h6) (Nat.le_trans (Nat.le_of_ble_eq_true rfl) hf) (Nat.le_trans (Nat.le_of_ble_eq_true rfl) hlo) rk_n (Nat.le_of_ble_eq_true rfl) dX3_calls_33 rfl) (fun v8 h7 => ?_)
    exact s_iret hK dX3_calls_36
  · refine s_iconst (v := (-1)) hK dX3_calls_9 rfl ?_
    exact s_iret hK dX3_calls_10
theorem ct_X3_calls {G : GC} {l : Launch} (g : GOK G l) (p0 : Option Nat) (p1 : Int32) (p2 : Int32) (h : AH) : CT G l yX3_calls (Cond.code yX3_calls cX3_calls 3 (some (.int))) 3 58 [va_rf p0, .int p1, .int p2] (f_X3_calls p0 p1 p2 h) h :=
  CT.of g (by decide) (by simp only [ls_a, ls_i, ls_l, ls_n]; decide) (fun K _ hK hf hlo => by simp only [la_a, la_i, la_l, la_n]; exact sm_X3_calls hK hf hlo p0 p1 p2 h)
abbrev FR_X3_returns : Nat := 1
abbrev LO_X3_returns : Nat := 16
theorem dyX3_returns : DY yX3_returns 0 := ⟨⟨by decide, by decide⟩, by decide +kernel⟩
theorem sm_X3_returns {G : GC} {K : SC} (hK : SOK G K RX3 cX3_returns 1 (some (.int)) "returns" []) (hf : FR_X3_returns ≤ (kR K).frames) (hlo : LO_X3_returns ≤ (kR K).locals) (p0 : Option Nat) (h : AH) : Sim G K 1 (f_X3_returns p0 h) h 0 [(0, va_rf p0)] [] := by
  unfold f_X3_returns
  refine s_aload_n hK dX3_returns_0 rfl 0 rfl ?_
  refine s_gI hK fcX3 48 (Nat.le_of_ble_eq_true rfl) (Or.inl q1732) (Or.inl rfl) dX3_returns_1 (fun v1 => ?_)
  refine s_if_ne (tgt := 9) hK dX3_returns_4 (by decide) (fun c7 => ?_) (fun c7 => ?_)
  · refine s_aload_n hK dX3_returns_9 rfl 0 rfl ?_
    refine s_dup hK dX3_returns_10 (va_cat _) ?_
    refine s_gI hK fcX3 48 (Nat.le_of_ble_eq_true rfl) (Or.inl q1732) (Or.inl rfl) dX3_returns_11 (fun v2 => ?_)
    refine s_iconst (v := 1) hK dX3_returns_14 rfl ?_
    refine s_isub hK dX3_returns_15 ?_
    refine s_pF hK fcX3 48 (Nat.le_of_ble_eq_true rfl) (Or.inl q1732) (Or.inl rfl) (Or.inl rfl) rfl rfl dX3_returns_16 (fun h3 => ?_)
    refine s_aload_n hK dX3_returns_19 rfl 0 rfl ?_
    refine s_gA hK fcX3 42 (Nat.le_of_ble_eq_true rfl) (Or.inl q1726) (Or.inl rfl) dX3_returns_20 (fun v4 => ?_)
    refine s_aload_n hK dX3_returns_23 rfl 0 rfl ?_
    refine s_gI hK fcX3 48 (Nat.le_of_ble_eq_true rfl) (Or.inl q1732) (Or.inl rfl) dX3_returns_24 (fun v5 => ?_)
    refine s_iald hK dX3_returns_27 (fun v6 => ?_)
    exact s_iret hK dX3_returns_28
  · refine s_iconst (v := (-1)) hK dX3_returns_7 rfl ?_
    exact s_iret hK dX3_returns_8
theorem ct_X3_returns {G : GC} {l : Launch} (g : GOK G l) (p0 : Option Nat) (h : AH) : CT G l yX3_returns (Cond.code yX3_returns cX3_returns 1 (some (.int))) 1 16 [va_rf p0] (f_X3_returns p0 h) h :=
  CT.of g (by decide) (by simp only [ls_a, ls_i, ls_l, ls_n]; decide) (fun K _ hK hf hlo => by simp only [la_a, la_i, la_l, la_n]; exact sm_X3_returns hK hf hlo p0 h)
abbrev FR_X3_loads : Nat := 3
abbrev LO_X3_loads : Nat := 59
theorem dyX3_loads : DY yX3_loads 3 := ⟨⟨by decide, by decide⟩, by decide +kernel⟩
theorem sm_X3_loads {G : GC} {K : SC} (hK : SOK G K RX3 cX3_loads 4 (some (.int)) "loads" []) (hf : FR_X3_loads ≤ (kR K).frames) (hlo : LO_X3_loads ≤ (kR K).locals) (p0 : Option Nat) (p1 : Int32) (p2 : Int32) (p3 : Int32) (h : AH) : Sim G K 4 (f_X3_loads p0 p1 p2 p3 h) h 0 [(0, va_rf p0), (1, .int p1), (2, .int p2), (3, .int p3)] [] := by
  unfold f_X3_loads
  refine s_aload_n hK dX3_loads_0 rfl 0 rfl ?_
  refine s_iload_n hK dX3_loads_1 rfl 2 rfl ?_
  refine s_rc (fun _ _ eo er => ?_)
  refine s_cI hK ho_n (cx_v (As := [.int p2]) (rest := []) hK dyX3_isAddress rfl q1870 fcX3.1 q1872 qs36 q80 q1873 eo er (ct_X3_isAddress hK.1 p0 p2 h) (Nat.le_trans (Nat.le_of_ble_eq_true rfl) hf) (Nat.le_trans (Nat.le_of_ble_eq_true rfl) hlo) rk_n (Nat.le_of_ble_eq_true rfl) dX3_loads_2 rfl) (fun v2 h1 => ?_)
  refine s_if_ne (tgt := 10) hK dX3_loads_5 (by decide) (fun c7 => ?_) (fun c7 => ?_)
  · refine s_aload_n hK dX3_loads_10 rfl 0 rfl ?_
    refine s_gA hK fcX3 41 (Nat.le_of_ble_eq_true rfl) (Or.inl q1725) (Or.inl rfl) dX3_loads_11 (fun v3 => ?_)
    refine s_iload_n hK dX3_loads_14 rfl 1 rfl ?_
    refine s_aload_n hK dX3_loads_15 rfl 0 rfl ?_
    refine s_gA hK fcX3 1 (Nat.le_of_ble_eq_true rfl) (Or.inl q1685) (Or.inl rfl) dX3_loads_16 (fun v4 => ?_)
    refine s_iload_n hK dX3_loads_19 rfl 2 rfl ?_
    refine s_iald hK dX3_loads_20 (fun v5 => ?_)
    refine s_iast hK dX3_loads_21 (fun h6 => ?_)
    refine s_iload_n hK dX3_loads_22 rfl 3 rfl ?_
    exact s_iret hK dX3_loads_23
  · refine s_iconst (v := (-1)) hK dX3_loads_8 rfl ?_
    exact s_iret hK dX3_loads_9
theorem ct_X3_loads {G : GC} {l : Launch} (g : GOK G l) (p0 : Option Nat) (p1 : Int32) (p2 : Int32) (p3 : Int32) (h : AH) : CT G l yX3_loads (Cond.code yX3_loads cX3_loads 4 (some (.int))) 3 59 [va_rf p0, .int p1, .int p2, .int p3] (f_X3_loads p0 p1 p2 p3 h) h :=
  CT.of g (by decide) (by simp only [ls_a, ls_i, ls_l, ls_n]; decide) (fun K _ hK hf hlo => by simp only [la_a, la_i, la_l, la_n]; exact sm_X3_loads hK hf hlo p0 p1 p2 p3 h)
abbrev FR_X3_executes : Nat := 4
abbrev LO_X3_executes : Nat := 82
theorem dyX3_executes : DY yX3_executes 1 := ⟨⟨by decide, by decide⟩, by decide +kernel⟩
theorem sm_X3_executes_J38 {G : GC} {K : SC} (hK : SOK G K RX3 cX3_executes 6 (some (.int)) "executes" []) (hf : FR_X3_executes ≤ (kR K).frames) (hlo : LO_X3_executes ≤ (kR K).locals) (x11 : Option Nat) (x12 : Int32) (x13 : Int32) (x14 : Int32) (y15 : Int32) (h16 : AH) : Sim G K 6 (f_X3_executes_J38 x11 x12 x13 x14 y15 h16) h16 38 [(0, va_rf x11), (1, .int x12), (2, .int x13), (3, .int x14)] [.int y15] := by
  unfold f_X3_executes_J38
  refine s_istore (lv' := [(4, .int y15), (0, va_rf x11), (1, .int x12), (2, .int x13), (3, .int x14)]) hK dX3_executes_38 (Nat.le_of_ble_eq_true rfl) rfl ?_
  refine s_aload_n hK dX3_executes_40 rfl 1 rfl ?_
  refine s_gA hK fcX3 1 (Nat.le_of_ble_eq_true rfl) (Or.inl q1685) (Or.inl rfl) dX3_executes_41 (fun v17 => ?_)
  refine s_iload_n hK dX3_executes_44 rfl 2 rfl ?_
  refine s_iald hK dX3_executes_45 (fun v18 => ?_)
  refine s_iconst (v := 3) hK dX3_executes_46 rfl ?_
  refine s_iand hK dX3_executes_47 ?_
  refine s_istore (lv' := [(5, .int (v18 &&& 3)), (4, .int y15), (0, va_rf x11), (1, .int x12), (2, .int x13), (3, .int x14)]) hK dX3_executes_48 (Nat.le_of_ble_eq_true rfl) rfl ?_
  refine s_aload_n hK dX3_executes_50 rfl 2 rfl ?_
  refine s_iload_n hK dX3_executes_51 rfl 3 rfl ?_
  refine s_rc (fun _ _ eo er => ?_)
  refine s_cI hK ho_n (cx_v (As := [.int x12]) (rest := []) hK dyX3_sort rfl q1914 fcX3.1 q1916 qs39 q80 q1917 eo er (ct_X3_sort hK.1 x11 x12 h16) (Nat.le_trans (Nat.le_of_ble_eq_true rfl) hf) (Nat.le_trans (Nat.le_of_ble_eq_true rfl) hlo) rk_n (Nat.le_of_ble_eq_true rfl) dX3_executes_52 rfl) (fun v20 h19 => ?_)
  refine s_ite (fun e21 => ?_) (fun e21 => ?_)
  · refine s_tabIn (tgt := 120) hK dX3_executes_55 1 e21 (by decide) (by decide) rfl (by decide) ?_
    refine s_aload_n hK dX3_executes_120 rfl 2 rfl ?_
    refine s_gA hK fcX3 41 (Nat.le_of_ble_eq_true rfl) (Or.inl q1725) (Or.inl rfl) dX3_executes_121 (fun v34 => ?_)
    refine s_iload_n hK dX3_executes_124 rfl 4 rfl ?_
    refine s_iload hK dX3_executes_125 1 rfl ?_
    refine s_iast hK dX3_executes_127 (fun h35 => ?_)
    refine s_iload_n hK dX3_executes_128 rfl 5 rfl ?_
    exact s_iret hK dX3_executes_129
  refine s_ite (fun e22 => ?_) (fun e22 => ?_)
  · refine s_tabIn (tgt := 130) hK dX3_executes_55 2 e22 (by decide) (by decide) rfl (by decide) ?_
    refine s_aload_n hK dX3_executes_130 rfl 2 rfl ?_
    refine s_gA hK fcX3 41 (Nat.le_of_ble_eq_true rfl) (Or.inl q1725) (Or.inl rfl) dX3_executes_131 (fun v36 => ?_)
    refine s_iload_n hK dX3_executes_134 rfl 4 rfl ?_
    refine s_aload_n hK dX3_executes_135 rfl 2 rfl ?_
    refine s_gA hK fcX3 41 (Nat.le_of_ble_eq_true rfl) (Or.inl q1725) (Or.inl rfl) dX3_executes_136 (fun v37 => ?_)
    refine s_iload_n hK dX3_executes_139 rfl 4 rfl ?_
    refine s_iald hK dX3_executes_140 (fun v38 => ?_)
    refine s_aload_n hK dX3_executes_141 rfl 2 rfl ?_
    refine s_gA hK fcX3 41 (Nat.le_of_ble_eq_true rfl) (Or.inl q1725) (Or.inl rfl) dX3_executes_142 (fun v39 => ?_)
    refine s_iload hK dX3_executes_145 0 rfl ?_
    refine s_iald hK dX3_executes_147 (fun v40 => ?_)
    refine s_iadd hK dX3_executes_148 ?_
    refine s_sipush (v := 256) hK dX3_executes_149 rfl ?_
    refine s_irem hK dX3_executes_152 (by decide) ?_
    refine s_iast hK dX3_executes_153 (fun h41 => ?_)
    refine s_iload_n hK dX3_executes_154 rfl 5 rfl ?_
    exact s_iret hK dX3_executes_155
  refine s_ite (fun e23 => ?_) (fun e23 => ?_)
  · refine s_tabIn (tgt := 156) hK dX3_executes_55 3 e23 (by decide) (by decide) rfl (by decide) ?_
    refine s_aload_n hK dX3_executes_156 rfl 2 rfl ?_
    refine s_aload_n hK dX3_executes_157 rfl 2 rfl ?_
    refine s_gA hK fcX3 41 (Nat.le_of_ble_eq_true rfl) (Or.inl q1725) (Or.inl rfl) dX3_executes_158 (fun v42 => ?_)
    refine s_iload_n hK dX3_executes_161 rfl 4 rfl ?_
    refine s_iald hK dX3_executes_162 (fun v43 => ?_)
    refine s_iload hK dX3_executes_163 1 rfl ?_
    refine s_icmp_ge (tgt := 172) hK dX3_executes_165 (by decide) (fun c46 => ?_) (fun c46 => ?_)
    · refine s_iconst (v := 0) hK dX3_executes_172 rfl ?_
      refine s_pZ hK fcX3 49 (Nat.le_of_ble_eq_true rfl) (Or.inl q1733) (Or.inl rfl) (Or.inl rfl) rfl dX3_executes_173 (fun h44 => ?_)
      refine s_iload_n hK dX3_executes_176 rfl 5 rfl ?_
      exact s_iret hK dX3_executes_177
    · refine s_iconst (v := 1) hK dX3_executes_168 rfl ?_
      refine s_goto (tgt := 173) hK dX3_executes_169 (by decide) ?_
      refine s_pZ hK fcX3 49 (Nat.le_of_ble_eq_true rfl) (Or.inl q1733) (Or.inl rfl) (Or.inl rfl) rfl dX3_executes_173 (fun h45 => ?_)
      refine s_iload_n hK dX3_executes_176 rfl 5 rfl ?_
      exact s_iret hK dX3_executes_177
  refine s_ite (fun e24 => ?_) (fun e24 => ?_)
  · refine s_tabIn (tgt := 178) hK dX3_executes_55 4 e24 (by decide) (by decide) rfl (by decide) ?_
    refine s_aload_n hK dX3_executes_178 rfl 2 rfl ?_
    refine s_iload_n hK dX3_executes_179 rfl 3 rfl ?_
    refine s_rc (fun _ _ eo er => ?_)
    refine s_cI hK ho_n (cx_v (As := [.int x12]) (rest := []) hK dyX3_goal rfl q1925 fcX3.1 q1927 qs41 q80 q1928 eo er (ct_X3_goal hK.1 x11 x12 h19) (Nat.le_trans (Nat.le_of_ble_eq_true rfl) hf) (Nat.le_trans (Nat.le_of_ble_eq_true rfl) hlo) rk_n (Nat.le_of_ble_eq_true rfl) dX3_executes_180 rfl) (fun v48 h47 => ?_)
    exact s_iret hK dX3_executes_183
  refine s_ite (fun e25 => ?_) (fun e25 => ?_)
  · refine s_tabIn (tgt := 184) hK dX3_executes_55 5 e25 (by decide) (by decide) rfl (by decide) ?_
    refine s_aload_n hK dX3_executes_184 rfl 2 rfl ?_
    refine s_gI hK fcX3 49 (Nat.le_of_ble_eq_true rfl) (Or.inl q1733) (Or.inl rfl) dX3_executes_185 (fun v49 => ?_)
    refine s_if_eq (tgt := 199) hK dX3_executes_188 (by decide) (fun c52 => ?_) (fun c52 => ?_)
    · refine s_iload_n hK dX3_executes_199 rfl 5 rfl ?_
      exact s_iret hK dX3_executes_200
    · refine s_aload_n hK dX3_executes_191 rfl 2 rfl ?_
      refine s_iload_n hK dX3_executes_192 rfl 3 rfl ?_
      refine s_rc (fun _ _ eo er => ?_)
      refine s_cI hK ho_n (cx_v (As := [.int x12]) (rest := []) hK dyX3_goal rfl q1925 fcX3.1 q1927 qs41 q80 q1928 eo er (ct_X3_goal hK.1 x11 x12 h19) (Nat.le_trans (Nat.le_of_ble_eq_true rfl) hf) (Nat.le_trans (Nat.le_of_ble_eq_true rfl) hlo) rk_n (Nat.le_of_ble_eq_true rfl) dX3_executes_193 rfl) (fun v51 h50 => ?_)
      refine s_goto (tgt := 200) hK dX3_executes_196 (by decide) ?_
      exact s_iret hK dX3_executes_200
  refine s_ite (fun e26 => ?_) (fun e26 => ?_)
  · refine s_tabIn (tgt := 201) hK dX3_executes_55 6 e26 (by decide) (by decide) rfl (by decide) ?_
    refine s_aload_n hK dX3_executes_201 rfl 2 rfl ?_
    refine s_gI hK fcX3 49 (Nat.le_of_ble_eq_true rfl) (Or.inl q1733) (Or.inl rfl) dX3_executes_202 (fun v53 => ?_)
    refine s_if_eq (tgt := 212) hK dX3_executes_205 (by decide) (fun c56 => ?_) (fun c56 => ?_)
    · refine s_aload_n hK dX3_executes_212 rfl 2 rfl ?_
      refine s_iload_n hK dX3_executes_213 rfl 3 rfl ?_
      refine s_rc (fun _ _ eo er => ?_)
      refine s_cI hK ho_n (cx_v (As := [.int x12]) (rest := []) hK dyX3_goal rfl q1925 fcX3.1 q1927 qs41 q80 q1928 eo er (ct_X3_goal hK.1 x11 x12 h19) (Nat.le_trans (Nat.le_of_ble_eq_true rfl) hf) (Nat.le_trans (Nat.le_of_ble_eq_true rfl) hlo) rk_n (Nat.le_of_ble_eq_true rfl) dX3_executes_214 rfl) (fun v55 h54 => ?_)
      exact s_iret hK dX3_executes_217
    · refine s_iload_n hK dX3_executes_208 rfl 5 rfl ?_
      refine s_goto (tgt := 217) hK dX3_executes_209 (by decide) ?_
      exact s_iret hK dX3_executes_217
  refine s_ite (fun e27 => ?_) (fun e27 => ?_)
  · refine s_tabIn (tgt := 218) hK dX3_executes_55 7 e27 (by decide) (by decide) rfl (by decide) ?_
    refine s_aload_n hK dX3_executes_218 rfl 2 rfl ?_
    refine s_iload_n hK dX3_executes_219 rfl 3 rfl ?_
    refine s_iload_n hK dX3_executes_220 rfl 5 rfl ?_
    refine s_rc (fun _ _ eo er => ?_)
    refine s_cI hK ho_n (cx_v (As := [.int x12, .int x14]) (rest := []) hK dyX3_calls rfl q2137 fcX3.1 q2139 qs74 q80 q2140 eo er (ct_X3_calls hK.1 x11 x12 x14 h19) (Nat.le_trans (Nat.le_of_ble_eq_true rfl) hf) (Nat.le_trans (Nat.le_of_ble_eq_true rfl) hlo) rk_n (Nat.le_of_ble_eq_true rfl) dX3_executes_221 rfl) (fun v58 h57 => ?_)
    exact s_iret hK dX3_executes_224
  refine s_ite (fun e28 => ?_) (fun e28 => ?_)
  · refine s_tabIn (tgt := 225) hK dX3_executes_55 8 e28 (by decide) (by decide) rfl (by decide) ?_
    refine s_aload_n hK dX3_executes_225 rfl 2 rfl ?_
    refine s_rc (fun _ _ eo er => ?_)
    refine s_cI hK ho_n (cx_v (As := []) (rest := []) hK dyX3_returns rfl q2141 fcX3.1 q2143 qs75 q80 q2144 eo er (ct_X3_returns hK.1 x11 h19) (Nat.le_trans (Nat.le_of_ble_eq_true rfl) hf) (Nat.le_trans (Nat.le_of_ble_eq_true rfl) hlo) rk_n (Nat.le_of_ble_eq_true rfl) dX3_executes_226 rfl) (fun v60 h59 => ?_)
    exact s_iret hK dX3_executes_229
  refine s_ite (fun e29 => ?_) (fun e29 => ?_)
  · refine s_tabIn (tgt := 230) hK dX3_executes_55 9 e29 (by decide) (by decide) rfl (by decide) ?_
    refine s_aload_n hK dX3_executes_230 rfl 2 rfl ?_
    refine s_iload hK dX3_executes_231 1 rfl ?_
    refine s_aload_n hK dX3_executes_233 rfl 2 rfl ?_
    refine s_gA hK fcX3 41 (Nat.le_of_ble_eq_true rfl) (Or.inl q1725) (Or.inl rfl) dX3_executes_234 (fun v61 => ?_)
    refine s_iload_n hK dX3_executes_237 rfl 4 rfl ?_
    refine s_iald hK dX3_executes_238 (fun v62 => ?_)
    refine s_iadd hK dX3_executes_239 ?_
    refine s_rc (fun _ _ eo er => ?_)
    refine s_cI hK ho_n (cx_v (As := [.int (y15 + v62)]) (rest := []) hK dyX3_isAddress rfl q1870 fcX3.1 q1872 qs36 q80 q1873 eo er (ct_X3_isAddress hK.1 x11 (y15 + v62) h19) (Nat.le_trans (Nat.le_of_ble_eq_true rfl) hf) (Nat.le_trans (Nat.le_of_ble_eq_true rfl) hlo) rk_n (Nat.le_of_ble_eq_true rfl) dX3_executes_240 rfl) (fun v64 h63 => ?_)
    refine s_if_eq (tgt := 263) hK dX3_executes_243 (by decide) (fun c69 => ?_) (fun c69 => ?_)
    · refine s_iconst (v := (-1)) hK dX3_executes_263 rfl ?_
      exact s_iret hK dX3_executes_264
    · refine s_aload_n hK dX3_executes_246 rfl 2 rfl ?_
      refine s_gA hK fcX3 1 (Nat.le_of_ble_eq_true rfl) (Or.inl q1685) (Or.inl rfl) dX3_executes_247 (fun v65 => ?_)
      refine s_iload hK dX3_executes_250 1 rfl ?_
      refine s_aload_n hK dX3_executes_252 rfl 2 rfl ?_
      refine s_gA hK fcX3 41 (Nat.le_of_ble_eq_true rfl) (Or.inl q1725) (Or.inl rfl) dX3_executes_253 (fun v66 => ?_)
      refine s_iload_n hK dX3_executes_256 rfl 4 rfl ?_
      refine s_iald hK dX3_executes_257 (fun v67 => ?_)
      refine s_iadd hK dX3_executes_258 ?_
      refine s_iald hK dX3_executes_259 (fun v68 => ?_)
      refine s_goto (tgt := 264) hK dX3_executes_260 (by decide) ?_
      exact s_iret hK dX3_executes_264
  refine s_ite (fun e30 => ?_) (fun e30 => ?_)
  · refine s_tabIn (tgt := 265) hK dX3_executes_55 10 e30 (by decide) (by decide) rfl (by decide) ?_
    refine s_aload_n hK dX3_executes_265 rfl 2 rfl ?_
    refine s_iload_n hK dX3_executes_266 rfl 4 rfl ?_
    refine s_iload hK dX3_executes_267 1 rfl ?_
    refine s_iload_n hK dX3_executes_269 rfl 5 rfl ?_
    refine s_rc (fun _ _ eo er => ?_)
    refine s_cI hK ho_n (cx_v (As := [.int x13, .int y15, .int x14]) (rest := []) hK dyX3_loads rfl q2145 fcX3.1 q2147 qs76 q80 q2148 eo er (ct_X3_loads hK.1 x11 x13 y15 x14 h19) (Nat.le_trans (Nat.le_of_ble_eq_true rfl) hf) (Nat.le_trans (Nat.le_of_ble_eq_true rfl) hlo) rk_n (Nat.le_of_ble_eq_true rfl) dX3_executes_270 rfl) (fun v71 h70 => ?_)
    exact s_iret hK dX3_executes_273
  refine s_ite (fun e31 => ?_) (fun e31 => ?_)
  · refine s_tabIn (tgt := 274) hK dX3_executes_55 11 e31 (by decide) (by decide) rfl (by decide) ?_
    refine s_aload_n hK dX3_executes_274 rfl 2 rfl ?_
    refine s_gA hK fcX3 41 (Nat.le_of_ble_eq_true rfl) (Or.inl q1725) (Or.inl rfl) dX3_executes_275 (fun v72 => ?_)
    refine s_iload_n hK dX3_executes_278 rfl 4 rfl ?_
    refine s_aload_n hK dX3_executes_279 rfl 2 rfl ?_
    refine s_gA hK fcX3 41 (Nat.le_of_ble_eq_true rfl) (Or.inl q1725) (Or.inl rfl) dX3_executes_280 (fun v73 => ?_)
    refine s_iload hK dX3_executes_283 0 rfl ?_
    refine s_iald hK dX3_executes_285 (fun v74 => ?_)
    refine s_iast hK dX3_executes_286 (fun h75 => ?_)
    refine s_iload_n hK dX3_executes_287 rfl 5 rfl ?_
    exact s_iret hK dX3_executes_288
  refine s_ite (fun e32 => ?_) (fun e32 => ?_)
  · refine s_tabIn (tgt := 289) hK dX3_executes_55 12 e32 (by decide) (by decide) rfl (by decide) ?_
    refine s_aload_n hK dX3_executes_289 rfl 2 rfl ?_
    refine s_gA hK fcX3 41 (Nat.le_of_ble_eq_true rfl) (Or.inl q1725) (Or.inl rfl) dX3_executes_290 (fun v76 => ?_)
    refine s_iload_n hK dX3_executes_293 rfl 4 rfl ?_
    refine s_dup2 hK dX3_executes_294 rfl (va_cat _) ?_
    refine s_iald hK dX3_executes_295 (fun v77 => ?_)
    refine s_iload hK dX3_executes_296 1 rfl ?_
    refine s_iand hK dX3_executes_298 ?_
    refine s_iast hK dX3_executes_299 (fun h78 => ?_)
    refine s_iload_n hK dX3_executes_300 rfl 5 rfl ?_
    exact s_iret hK dX3_executes_301
  refine s_ite (fun e33 => ?_) (fun e33 => ?_)
  · refine s_tabIn (tgt := 302) hK dX3_executes_55 13 e33 (by decide) (by decide) rfl (by decide) ?_
    refine s_iconst (v := (-1)) hK dX3_executes_302 rfl ?_
    exact s_iret hK dX3_executes_303
  refine s_tabOut (tgt := 304) hK dX3_executes_55 (tsw_out [1, 2, 3, 4, 5, 6, 7, 8, 9, 10, 11, 12, 13] (List.forall_mem_cons.mpr ⟨e21, (List.forall_mem_cons.mpr ⟨e22, (List.forall_mem_cons.mpr ⟨e23, (List.forall_mem_cons.mpr ⟨e24, (List.forall_mem_cons.mpr ⟨e25, (List.forall_mem_cons.mpr ⟨e26, (List.forall_mem_cons.mpr ⟨e27, (List.forall_mem_cons.mpr ⟨e28, (List.forall_mem_cons.mpr ⟨e29, (List.forall_mem_cons.mpr ⟨e30, (List.forall_mem_cons.mpr ⟨e31, (List.forall_mem_cons.mpr ⟨e32, (List.forall_mem_cons.mpr ⟨e33, (fun _ hz => nomatch hz)⟩)⟩)⟩)⟩)⟩)⟩)⟩)⟩)⟩)⟩)⟩)⟩)⟩) (by decide)) (by decide) ?_
  refine s_iload_n hK dX3_executes_304 rfl 5 rfl ?_
  exact s_iret hK dX3_executes_305
theorem sm_X3_executes {G : GC} {K : SC} (hK : SOK G K RX3 cX3_executes 6 (some (.int)) "executes" []) (hf : FR_X3_executes ≤ (kR K).frames) (hlo : LO_X3_executes ≤ (kR K).locals) (p0 : Option Nat) (p1 : Int32) (h : AH) : Sim G K 6 (f_X3_executes p0 p1 h) h 0 [(0, va_rf p0), (1, .int p1)] [] := by
  unfold f_X3_executes
  refine s_aload_n hK dX3_executes_0 rfl 0 rfl ?_
  refine s_iload_n hK dX3_executes_1 rfl 1 rfl ?_
  refine s_rc (fun _ _ eo er => ?_)
  refine s_cI hK ho_n (cx_v (As := [.int p1]) (rest := []) hK dyX3_first rfl q1937 fcX3.1 q1939 qs43 q80 q1940 eo er (ct_X3_first hK.1 p0 p1 h) (Nat.le_trans (Nat.le_of_ble_eq_true rfl) hf) (Nat.le_trans (Nat.le_of_ble_eq_true rfl) hlo) rk_n (Nat.le_of_ble_eq_true rfl) dX3_executes_2 rfl) (fun v2 h1 => ?_)
  refine s_istore_n (lv' := [(2, .int v2), (0, va_rf p0), (1, .int p1)]) hK dX3_executes_5 rfl (Nat.le_of_ble_eq_true rfl) rfl ?_
  refine s_iload_n hK dX3_executes_6 rfl 2 rfl ?_
  refine s_aload_n hK dX3_executes_7 rfl 1 rfl ?_
  refine s_iload_n hK dX3_executes_8 rfl 2 rfl ?_
  refine s_rc (fun _ _ eo er => ?_)
  refine s_cI hK ho_n (cx_v (As := [.int p1]) (rest := [.int p1]) hK dyX3_sort rfl q1914 fcX3.1 q1916 qs39 q80 q1917 eo er (ct_X3_sort hK.1 p0 p1 h1) (Nat.le_trans (Nat.le_of_ble_eq_true rfl) hf) (Nat.le_trans (Nat.le_of_ble_eq_true rfl) hlo) (rk_i rk_n) (Nat.le_of_ble_eq_true rfl) dX3_executes_9 rfl) (fun v4 h3 => ?_)
  refine s_cI hK ho_n (cx_s (As := [.int v4]) (rest := [.int p1]) hK dyX3_lengthOf rfl q1918 q1919 q80 q1920 (ct_X3_lengthOf hK.1 v4 h3) (Nat.le_trans (Nat.le_of_ble_eq_true rfl) hf) (Nat.le_trans (Nat.le_of_ble_eq_true rfl) hlo) (rk_i rk_n) (Nat.le_of_ble_eq_true rfl) dX3_executes_12 rfl) (fun v6 h5 => ?_)
  refine s_iadd hK dX3_executes_15 ?_
  refine s_istore_n (lv' := [(3, .int (p1 + v6)), (2, .int v2), (0, va_rf p0), (1, .int p1)]) hK dX3_executes_16 rfl (Nat.le_of_ble_eq_true rfl) rfl ?_
  refine s_aload_n hK dX3_executes_17 rfl 2 rfl ?_
  refine s_iload_n hK dX3_executes_18 rfl 3 rfl ?_
  refine s_rc (fun _ _ eo er => ?_)
  refine s_cI hK ho_n (cx_v (As := [.int p1]) (rest := []) hK dyX3_sort rfl q1914 fcX3.1 q1916 qs39 q80 q1917 eo er (ct_X3_sort hK.1 p0 p1 h5) (Nat.le_trans (Nat.le_of_ble_eq_true rfl) hf) (Nat.le_trans (Nat.le_of_ble_eq_true rfl) hlo) rk_n (Nat.le_of_ble_eq_true rfl) dX3_executes_19 rfl) (fun v8 h7 => ?_)
  refine s_cI hK ho_n (cx_s (As := [.int v8]) (rest := []) hK dyX3_lengthOf rfl q1918 q1919 q80 q1920 (ct_X3_lengthOf hK.1 v8 h7) (Nat.le_trans (Nat.le_of_ble_eq_true rfl) hf) (Nat.le_trans (Nat.le_of_ble_eq_true rfl) hlo) rk_n (Nat.le_of_ble_eq_true rfl) dX3_executes_22 rfl) (fun v10 h9 => ?_)
  refine s_iconst (v := 2) hK dX3_executes_25 rfl ?_
  refine s_icmp_ne (tgt := 37) hK dX3_executes_26 (by decide) (fun c81 => ?_) (fun c81 => ?_)
  · refine s_iconst (v := 0) hK dX3_executes_37 rfl ?_
    refine s_sub [2, 3, 1, 0] rfl ?_
    exact sm_X3_executes_J38 hK hf hlo p0 p1 v2 (p1 + v6) 0 h9
  · refine s_aload_n hK dX3_executes_29 rfl 2 rfl ?_
    refine s_iload_n hK dX3_executes_30 rfl 3 rfl ?_
    refine s_rc (fun _ _ eo er => ?_)
    refine s_cI hK ho_n (cx_v (As := [.int p1]) (rest := []) hK dyX3_operand rfl q1929 fcX3.1 q1931 qs42 q80 q1932 eo er (ct_X3_operand hK.1 p0 p1 h9) (Nat.le_trans (Nat.le_of_ble_eq_true rfl) hf) (Nat.le_trans (Nat.le_of_ble_eq_true rfl) hlo) rk_n (Nat.le_of_ble_eq_true rfl) dX3_executes_31 rfl) (fun v80 h79 => ?_)
    refine s_goto (tgt := 38) hK dX3_executes_34 (by decide) ?_
    refine s_sub [2, 3, 1, 0] rfl ?_
    exact sm_X3_executes_J38 hK hf hlo p0 p1 v2 (p1 + v6) v80 h79
theorem ct_X3_executes {G : GC} {l : Launch} (g : GOK G l) (p0 : Option Nat) (p1 : Int32) (h : AH) : CT G l yX3_executes (Cond.code yX3_executes cX3_executes 6 (some (.int))) 4 82 [va_rf p0, .int p1] (f_X3_executes p0 p1 h) h :=
  CT.of g (by decide) (by simp only [ls_a, ls_i, ls_l, ls_n]; decide) (fun K _ hK hf hlo => by simp only [la_a, la_i, la_l, la_n]; exact sm_X3_executes hK hf hlo p0 p1 h)
abbrev FR_X3_run : Nat := 5
abbrev LO_X3_run : Nat := 107
theorem dyX3_run : DY yX3_run 1 := ⟨⟨by decide, by decide⟩, by decide +kernel⟩
theorem sm_X3_run_L21 {G : GC} {K : SC} (hK : SOK G K RX3 cX3_run 4 (some (.int)) "run" []) (hf : FR_X3_run ≤ (kR K).frames) (hlo : LO_X3_run ≤ (kR K).locals) {k40 : Option Nat → Int32 → AH → RS} (hk40 : ∀ (y0 : Option Nat) (y1 : Int32) (h : AH), Sim G K 4 (k40 y0 y1 h) h 40 [(0, va_rf y0), (1, .int y1)] []) : ∀ (n : Nat) (x4 : Option Nat) (x5 : Int32) (x6 : Int32) (h7 : AH), Sim G K 4 (f_X3_run_L21 k40 n x4 x5 x6 h7) h7 21 [(0, va_rf x4), (1, .int x5), (2, .int x6)] [] := by
  intro n
  induction n with
  | zero => intro x4 x5 x6 h7; exact s_none
  | succ n ih =>
    intro x4 x5 x6 h7
    rw [f_X3_run_L21]
    refine s_iload_n hK dX3_run_21 rfl 2 rfl ?_
    refine s_bipush (v := 96) hK dX3_run_22 rfl ?_
    refine s_icmp_ge (tgt := 40) hK dX3_run_24 (by decide) (fun c10 => ?_) (fun c10 => ?_)
    · refine s_sub [0, 1] rfl ?_
      exact hk40 x4 x5 h7
    · refine s_aload_n hK dX3_run_27 rfl 0 rfl ?_
      refine s_gA hK fcX3 40 (Nat.le_of_ble_eq_true rfl) (Or.inl q1724) (Or.inl rfl) dX3_run_28 (fun v8 => ?_)
      refine s_iload_n hK dX3_run_31 rfl 2 rfl ?_
      refine s_iconst (v := 0) hK dX3_run_32 rfl ?_
      refine s_iast hK dX3_run_33 (fun h9 => ?_)
      refine s_iinc (j := 2) (v := 1) (lv' := [(2, .int (x6 + 1)), (0, va_rf x4), (1, .int x5)]) hK dX3_run_34 rfl rfl (Nat.le_of_ble_eq_true rfl) rfl ?_
      refine s_goto (tgt := 21) hK dX3_run_37 (by decide) ?_
      refine s_sub [1, 2, 0] rfl ?_
      exact ih x4 x5 (x6 + 1) h9
theorem sm_X3_run_L42 {G : GC} {K : SC} (hK : SOK G K RX3 cX3_run 4 (some (.int)) "run" []) (hf : FR_X3_run ≤ (kR K).frames) (hlo : LO_X3_run ≤ (kR K).locals) {k60 : Option Nat → Int32 → AH → RS} (hk60 : ∀ (y0 : Option Nat) (y1 : Int32) (h : AH), Sim G K 4 (k60 y0 y1 h) h 60 [(0, va_rf y0), (1, .int y1)] []) : ∀ (n : Nat) (x14 : Option Nat) (x15 : Int32) (x16 : Int32) (h17 : AH), Sim G K 4 (f_X3_run_L42 k60 n x14 x15 x16 h17) h17 42 [(0, va_rf x14), (1, .int x15), (2, .int x16)] [] := by
  intro n
  induction n with
  | zero => intro x14 x15 x16 h17; exact s_none
  | succ n ih =>
    intro x14 x15 x16 h17
    rw [f_X3_run_L42]
    refine s_iload_n hK dX3_run_42 rfl 2 rfl ?_
    refine s_iconst (v := 4) hK dX3_run_43 rfl ?_
    refine s_icmp_ge (tgt := 60) hK dX3_run_44 (by decide) (fun c20 => ?_) (fun c20 => ?_)
    · refine s_sub [0, 1] rfl ?_
      exact hk60 x14 x15 h17
    · refine s_aload_n hK dX3_run_47 rfl 0 rfl ?_
      refine s_gA hK fcX3 41 (Nat.le_of_ble_eq_true rfl) (Or.inl q1725) (Or.inl rfl) dX3_run_48 (fun v18 => ?_)
      refine s_iload_n hK dX3_run_51 rfl 2 rfl ?_
      refine s_iconst (v := 0) hK dX3_run_52 rfl ?_
      refine s_iast hK dX3_run_53 (fun h19 => ?_)
      refine s_iinc (j := 2) (v := 1) (lv' := [(2, .int (x16 + 1)), (0, va_rf x14), (1, .int x15)]) hK dX3_run_54 rfl rfl (Nat.le_of_ble_eq_true rfl) rfl ?_
      refine s_goto (tgt := 42) hK dX3_run_57 (by decide) ?_
      refine s_sub [1, 2, 0] rfl ?_
      exact ih x14 x15 (x16 + 1) h19
theorem sm_X3_run_L74 {G : GC} {K : SC} (hK : SOK G K RX3 cX3_run 4 (some (.int)) "run" []) (hf : FR_X3_run ≤ (kR K).frames) (hlo : LO_X3_run ≤ (kR K).locals) {k111 : Option Nat → Int32 → AH → RS} (hk111 : ∀ (y0 : Option Nat) (y1 : Int32) (h : AH), Sim G K 4 (k111 y0 y1 h) h 111 [(0, va_rf y0), (2, .int y1)] []) : ∀ (n : Nat) (x26 : Option Nat) (x27 : Int32) (x28 : Int32) (h29 : AH), Sim G K 4 (f_X3_run_L74 k111 n x26 x27 x28 h29) h29 74 [(0, va_rf x26), (2, .int x27), (3, .int x28)] [] := by
  intro n
  induction n with
  | zero => intro x26 x27 x28 h29; exact s_none
  | succ n ih =>
    intro x26 x27 x28 h29
    rw [f_X3_run_L74]
    refine s_iload_n hK dX3_run_74 rfl 1 rfl ?_
    refine s_sipush (v := 200) hK dX3_run_75 rfl ?_
    refine s_icmp_ge (tgt := 111) hK dX3_run_78 (by decide) (fun c38 => ?_) (fun c38 => ?_)
    · refine s_sub [0, 1] rfl ?_
      exact hk111 x26 x27 h29
    · refine s_aload_n hK dX3_run_81 rfl 0 rfl ?_
      refine s_iload_n hK dX3_run_82 rfl 2 rfl ?_
      refine s_rc (fun _ _ eo er => ?_)
      refine s_cI hK ho_n (cx_v (As := [.int x28]) (rest := []) hK dyX3_isSound rfl q1910 fcX3.1 q1912 qs38 q80 q1913 eo er (ct_X3_isSound hK.1 x26 x28 h29) (Nat.le_trans (Nat.le_of_ble_eq_true rfl) hf) (Nat.le_trans (Nat.le_of_ble_eq_true rfl) hlo) rk_n (Nat.le_of_ble_eq_true rfl) dX3_run_83 rfl) (fun v31 h30 => ?_)
      refine s_if_eq (tgt := 111) hK dX3_run_86 (by decide) (fun c37 => ?_) (fun c37 => ?_)
      · refine s_sub [0, 1] rfl ?_
        exact hk111 x26 x27 h30
      · refine s_aload_n hK dX3_run_89 rfl 0 rfl ?_
        refine s_gA hK fcX3 40 (Nat.le_of_ble_eq_true rfl) (Or.inl q1724) (Or.inl rfl) dX3_run_90 (fun v32 => ?_)
        refine s_iload_n hK dX3_run_93 rfl 2 rfl ?_
        refine s_dup2 hK dX3_run_94 rfl (va_cat _) ?_
        refine s_iald hK dX3_run_95 (fun v33 => ?_)
        refine s_iconst (v := 1) hK dX3_run_96 rfl ?_
        refine s_iadd hK dX3_run_97 ?_
        refine s_iast hK dX3_run_98 (fun h34 => ?_)
        refine s_iinc (j := 1) (v := 1) (lv' := [(2, .int (x27 + 1)), (0, va_rf x26), (3, .int x28)]) hK dX3_run_99 rfl rfl (Nat.le_of_ble_eq_true rfl) rfl ?_
        refine s_aload_n hK dX3_run_102 rfl 1 rfl ?_
        refine s_iload_n hK dX3_run_103 rfl 2 rfl ?_
        refine s_rc (fun _ _ eo er => ?_)
        refine s_cI hK ho_n (cx_v (As := [.int x28]) (rest := []) hK dyX3_executes rfl q2133 fcX3.1 q2135 qs73 q80 q2136 eo er (ct_X3_executes hK.1 x26 x28 h34) (Nat.le_trans (Nat.le_of_ble_eq_true rfl) hf) (Nat.le_trans (Nat.le_of_ble_eq_true rfl) hlo) rk_n (Nat.le_of_ble_eq_true rfl) dX3_run_104 rfl) (fun v36 h35 => ?_)
        refine s_istore_n (lv' := [(3, .int v36), (2, .int (x27 + 1)), (0, va_rf x26)]) hK dX3_run_107 rfl (Nat.le_of_ble_eq_true rfl) rfl ?_
        refine s_goto (tgt := 74) hK dX3_run_108 (by decide) ?_
        refine s_sub [2, 1, 0] rfl ?_
        exact ih x26 (x27 + 1) v36 h35
theorem sm_X3_run {G : GC} {K : SC} (hK : SOK G K RX3 cX3_run 4 (some (.int)) "run" []) (hf : FR_X3_run ≤ (kR K).frames) (hlo : LO_X3_run ≤ (kR K).locals) (p0 : Option Nat) (p1 : Int32) (h : AH) : Sim G K 4 (f_X3_run p0 p1 h) h 0 [(0, va_rf p0), (1, .int p1)] [] := by
  unfold f_X3_run
  refine s_aload_n hK dX3_run_0 rfl 0 rfl ?_
  refine s_iconst (v := 0) hK dX3_run_1 rfl ?_
  refine s_pF hK fcX3 0 (Nat.le_of_ble_eq_true rfl) (Or.inl q1684) (Or.inl rfl) (Or.inl rfl) rfl rfl dX3_run_2 (fun h1 => ?_)
  refine s_aload_n hK dX3_run_5 rfl 0 rfl ?_
  refine s_iload_n hK dX3_run_6 rfl 1 rfl ?_
  refine s_rc (fun _ _ eo er => ?_)
  refine s_cI hK ho_n (cx_v (As := [.int p1]) (rest := []) hK dyX3_isAddress rfl q1870 fcX3.1 q1872 qs36 q80 q1873 eo er (ct_X3_isAddress hK.1 p0 p1 h1) (Nat.le_trans (Nat.le_of_ble_eq_true rfl) hf) (Nat.le_trans (Nat.le_of_ble_eq_true rfl) hlo) rk_n (Nat.le_of_ble_eq_true rfl) dX3_run_7 rfl) (fun v3 h2 => ?_)
  refine s_if_ne (tgt := 19) hK dX3_run_10 (by decide) (fun c45 => ?_) (fun c45 => ?_)
  · refine s_iconst (v := 0) hK dX3_run_19 rfl ?_
    refine s_istore_n (lv' := [(2, .int 0), (0, va_rf p0), (1, .int p1)]) hK dX3_run_20 rfl (Nat.le_of_ble_eq_true rfl) rfl ?_
    refine s_sub [1, 2, 0] rfl ?_
    refine sm_X3_run_L21 hK hf hlo (fun x11 x12 h13 => ?_) FUEL p0 p1 0 h2
    · refine s_iconst (v := 0) hK dX3_run_40 rfl ?_
      refine s_istore_n (lv' := [(2, .int 0), (0, va_rf x11), (1, .int x12)]) hK dX3_run_41 rfl (Nat.le_of_ble_eq_true rfl) rfl ?_
      refine s_sub [1, 2, 0] rfl ?_
      refine sm_X3_run_L42 hK hf hlo (fun x21 x22 h23 => ?_) FUEL x11 x12 0 h13
      · refine s_aload_n hK dX3_run_60 rfl 0 rfl ?_
        refine s_iconst (v := 0) hK dX3_run_61 rfl ?_
        refine s_pZ hK fcX3 49 (Nat.le_of_ble_eq_true rfl) (Or.inl q1733) (Or.inl rfl) (Or.inl rfl) rfl dX3_run_62 (fun h24 => ?_)
        refine s_aload_n hK dX3_run_65 rfl 0 rfl ?_
        refine s_iconst (v := 0) hK dX3_run_66 rfl ?_
        refine s_pF hK fcX3 48 (Nat.le_of_ble_eq_true rfl) (Or.inl q1732) (Or.inl rfl) (Or.inl rfl) rfl rfl dX3_run_67 (fun h25 => ?_)
        refine s_iconst (v := 0) hK dX3_run_70 rfl ?_
        refine s_istore_n (lv' := [(2, .int 0), (0, va_rf x21), (1, .int x22)]) hK dX3_run_71 rfl (Nat.le_of_ble_eq_true rfl) rfl ?_
        refine s_iload_n hK dX3_run_72 rfl 2 rfl ?_
        refine s_istore_n (lv' := [(3, .int x22), (2, .int 0), (0, va_rf x21), (1, .int x22)]) hK dX3_run_73 rfl (Nat.le_of_ble_eq_true rfl) rfl ?_
        refine s_sub [2, 1, 0] rfl ?_
        refine sm_X3_run_L74 hK hf hlo (fun x39 x40 h41 => ?_) FUEL x21 0 x22 h25
        · refine s_aload_n hK dX3_run_111 rfl 0 rfl ?_
          refine s_iconst (v := 1) hK dX3_run_112 rfl ?_
          refine s_pZ hK fcX3 39 (Nat.le_of_ble_eq_true rfl) (Or.inl q1723) (Or.inl rfl) (Or.inl rfl) rfl dX3_run_113 (fun h42 => ?_)
          refine s_iload_n hK dX3_run_116 rfl 1 rfl ?_
          exact s_iret hK dX3_run_117
  · refine s_aload_n hK dX3_run_13 rfl 0 rfl ?_
    refine s_iconst (v := 1) hK dX3_run_14 rfl ?_
    refine s_rc (fun _ _ eo er => ?_)
    refine s_cI hK ho_n (cx_v (As := [.int 1]) (rest := []) hK dyX3_fails rfl q1847 fcX3.1 q1849 qs34 q80 q1850 eo er (ct_X3_fails hK.1 p0 1 h2) (Nat.le_trans (Nat.le_of_ble_eq_true rfl) hf) (Nat.le_trans (Nat.le_of_ble_eq_true rfl) hlo) rk_n (Nat.le_of_ble_eq_true rfl) dX3_run_15 rfl) (fun v44 h43 => ?_)
    exact s_iret hK dX3_run_18
theorem ct_X3_run {G : GC} {l : Launch} (g : GOK G l) (p0 : Option Nat) (p1 : Int32) (h : AH) : CT G l yX3_run (Cond.code yX3_run cX3_run 4 (some (.int))) 5 107 [va_rf p0, .int p1] (f_X3_run p0 p1 h) h :=
  CT.of g (by decide) (by simp only [ls_a, ls_i, ls_l, ls_n]; decide) (fun K _ hK hf hlo => by simp only [la_a, la_i, la_l, la_n]; exact sm_X3_run hK hf hlo p0 p1 h)
abbrev FR_X3_executedAt : Nat := 3
abbrev LO_X3_executedAt : Nat := 59
theorem dyX3_executedAt : DY yX3_executedAt 1 := ⟨⟨by decide, by decide⟩, by decide +kernel⟩
theorem sm_X3_executedAt_J25 {G : GC} {K : SC} (hK : SOK G K RX3 cX3_executedAt 2 (some (.int)) "executedAt" []) (hf : FR_X3_executedAt ≤ (kR K).frames) (hlo : LO_X3_executedAt ≤ (kR K).locals) (x2 : Option Nat) (x3 : Int32) (y4 : Int32) (y5 : Option Nat) (h6 : AH) : Sim G K 2 (f_X3_executedAt_J25 x2 x3 y4 y5 h6) h6 25 [(0, va_rf x2), (1, .int x3)] [.int y4, va_rf y5] := by
  unfold f_X3_executedAt_J25
  refine s_pF hK fcX3 0 (Nat.le_of_ble_eq_true rfl) (Or.inl q1684) (Or.inl rfl) (Or.inl rfl) rfl rfl dX3_executedAt_25 (fun h7 => ?_)
  refine s_aload_n hK dX3_executedAt_28 rfl 0 rfl ?_
  refine s_gI hK fcX3 0 (Nat.le_of_ble_eq_true rfl) (Or.inl q1684) (Or.inl rfl) dX3_executedAt_29 (fun v8 => ?_)
  refine s_if_ne (tgt := 44) hK dX3_executedAt_32 (by decide) (fun c11 => ?_) (fun c11 => ?_)
  · refine s_iconst (v := 0) hK dX3_executedAt_44 rfl ?_
    exact s_iret hK dX3_executedAt_45
  · refine s_aload_n hK dX3_executedAt_35 rfl 0 rfl ?_
    refine s_gA hK fcX3 40 (Nat.le_of_ble_eq_true rfl) (Or.inl q1724) (Or.inl rfl) dX3_executedAt_36 (fun v9 => ?_)
    refine s_iload_n hK dX3_executedAt_39 rfl 1 rfl ?_
    refine s_iald hK dX3_executedAt_40 (fun v10 => ?_)
    refine s_goto (tgt := 45) hK dX3_executedAt_41 (by decide) ?_
    exact s_iret hK dX3_executedAt_45
theorem sm_X3_executedAt {G : GC} {K : SC} (hK : SOK G K RX3 cX3_executedAt 2 (some (.int)) "executedAt" []) (hf : FR_X3_executedAt ≤ (kR K).frames) (hlo : LO_X3_executedAt ≤ (kR K).locals) (p0 : Option Nat) (p1 : Int32) (h : AH) : Sim G K 2 (f_X3_executedAt p0 p1 h) h 0 [(0, va_rf p0), (1, .int p1)] [] := by
  unfold f_X3_executedAt
  refine s_aload_n hK dX3_executedAt_0 rfl 0 rfl ?_
  refine s_aload_n hK dX3_executedAt_1 rfl 0 rfl ?_
  refine s_gI hK fcX3 39 (Nat.le_of_ble_eq_true rfl) (Or.inl q1723) (Or.inl rfl) dX3_executedAt_2 (fun v1 => ?_)
  refine s_if_eq (tgt := 24) hK dX3_executedAt_5 (by decide) (fun c15 => ?_) (fun c15 => ?_)
  · refine s_iconst (v := 1) hK dX3_executedAt_24 rfl ?_
    exact sm_X3_executedAt_J25 hK hf hlo p0 p1 1 p0 h
  · refine s_aload_n hK dX3_executedAt_8 rfl 0 rfl ?_
    refine s_iload_n hK dX3_executedAt_9 rfl 1 rfl ?_
    refine s_rc (fun _ _ eo er => ?_)
    refine s_cI hK ho_n (cx_v (As := [.int p1]) (rest := [va_rf p0]) hK dyX3_isAddress rfl q1870 fcX3.1 q1872 qs36 q80 q1873 eo er (ct_X3_isAddress hK.1 p0 p1 h) (Nat.le_trans (Nat.le_of_ble_eq_true rfl) hf) (Nat.le_trans (Nat.le_of_ble_eq_true rfl) hlo) (rk_a rk_n) (Nat.le_of_ble_eq_true rfl) dX3_executedAt_10 rfl) (fun v13 h12 => ?_)
    refine s_if_eq (tgt := 20) hK dX3_executedAt_13 (by decide) (fun c14 => ?_) (fun c14 => ?_)
    · refine s_iconst (v := 2) hK dX3_executedAt_20 rfl ?_
      refine s_goto (tgt := 25) hK dX3_executedAt_21 (by decide) ?_
      exact sm_X3_executedAt_J25 hK hf hlo p0 p1 2 p0 h12
    · refine s_iconst (v := 0) hK dX3_executedAt_16 rfl ?_
      refine s_goto (tgt := 25) hK dX3_executedAt_17 (by decide) ?_
      exact sm_X3_executedAt_J25 hK hf hlo p0 p1 0 p0 h12
theorem ct_X3_executedAt {G : GC} {l : Launch} (g : GOK G l) (p0 : Option Nat) (p1 : Int32) (h : AH) : CT G l yX3_executedAt (Cond.code yX3_executedAt cX3_executedAt 2 (some (.int))) 3 59 [va_rf p0, .int p1] (f_X3_executedAt p0 p1 h) h :=
  CT.of g (by decide) (by simp only [ls_a, ls_i, ls_l, ls_n]; decide) (fun K _ hK hf hlo => by simp only [la_a, la_i, la_l, la_n]; exact sm_X3_executedAt hK hf hlo p0 p1 h)
abbrev FR_X3_unrecovered : Nat := 1
abbrev LO_X3_unrecovered : Nat := 16
theorem dyX3_unrecovered : DY yX3_unrecovered 0 := ⟨⟨by decide, by decide⟩, by decide +kernel⟩
theorem sm_X3_unrecovered_J59 {G : GC} {K : SC} (hK : SOK G K RX3 cX3_unrecovered 3 (some (.int)) "unrecovered" []) (hf : FR_X3_unrecovered ≤ (kR K).frames) (hlo : LO_X3_unrecovered ≤ (kR K).locals) {rc : Option Nat → Int32 → Int32 → AH → RS} (hrc : ∀ (y0 : Option Nat) (y1 : Int32) (y2 : Int32) (h : AH), Sim G K 3 (rc y0 y1 y2 h) h 27 [(0, va_rf y0), (1, .int y1), (2, .int y2)] []) {k67 : Option Nat → Int32 → AH → RS} (hk67 : ∀ (y0 : Option Nat) (y1 : Int32) (h : AH), Sim G K 3 (k67 y0 y1 h) h 67 [(0, va_rf y0), (1, .int y1)] []) (x21 : Option Nat) (x22 : Int32) (y23 : Int32) (y24 : Int32) (h25 : AH) : Sim G K 3 (f_X3_unrecovered_J59 rc k67 x21 x22 y23 y24 h25) h25 59 [(0, va_rf x21), (2, .int x22)] [.int y23, .int y24] := by
  unfold f_X3_unrecovered_J59
  refine s_iadd hK dX3_unrecovered_59 ?_
  refine s_istore_n (lv' := [(1, .int (y24 + y23)), (0, va_rf x21), (2, .int x22)]) hK dX3_unrecovered_60 rfl (Nat.le_of_ble_eq_true rfl) (flA (pre := []) (suf := [(2, .int x22)]) rfl rfl) ?_
  refine s_iinc (j := 2) (v := 1) (lv' := [(2, .int (x22 + 1)), (1, .int (y24 + y23)), (0, va_rf x21)]) hK dX3_unrecovered_61 rfl rfl (Nat.le_of_ble_eq_true rfl) rfl ?_
  refine s_goto (tgt := 27) hK dX3_unrecovered_64 (by decide) ?_
  refine s_sub [2, 1, 0] rfl ?_
  exact hrc x21 (y24 + y23) (x22 + 1) h25
theorem sm_X3_unrecovered_J58 {G : GC} {K : SC} (hK : SOK G K RX3 cX3_unrecovered 3 (some (.int)) "unrecovered" []) (hf : FR_X3_unrecovered ≤ (kR K).frames) (hlo : LO_X3_unrecovered ≤ (kR K).locals) {rc : Option Nat → Int32 → Int32 → AH → RS} (hrc : ∀ (y0 : Option Nat) (y1 : Int32) (y2 : Int32) (h : AH), Sim G K 3 (rc y0 y1 y2 h) h 27 [(0, va_rf y0), (1, .int y1), (2, .int y2)] []) {k67 : Option Nat → Int32 → AH → RS} (hk67 : ∀ (y0 : Option Nat) (y1 : Int32) (h : AH), Sim G K 3 (k67 y0 y1 h) h 67 [(0, va_rf y0), (1, .int y1)] []) (x17 : Option Nat) (x18 : Int32) (y19 : Int32) (h20 : AH) : Sim G K 3 (f_X3_unrecovered_J58 rc k67 x17 x18 y19 h20) h20 58 [(0, va_rf x17), (2, .int x18)] [.int y19] := by
  unfold f_X3_unrecovered_J58
  refine s_iconst (v := 0) hK dX3_unrecovered_58 rfl ?_
  exact sm_X3_unrecovered_J59 hK hf hlo hrc hk67 x17 x18 0 y19 h20
theorem sm_X3_unrecovered_L27 {G : GC} {K : SC} (hK : SOK G K RX3 cX3_unrecovered 3 (some (.int)) "unrecovered" []) (hf : FR_X3_unrecovered ≤ (kR K).frames) (hlo : LO_X3_unrecovered ≤ (kR K).locals) {k67 : Option Nat → Int32 → AH → RS} (hk67 : ∀ (y0 : Option Nat) (y1 : Int32) (h : AH), Sim G K 3 (k67 y0 y1 h) h 67 [(0, va_rf y0), (1, .int y1)] []) : ∀ (n : Nat) (x10 : Option Nat) (x11 : Int32) (x12 : Int32) (h13 : AH), Sim G K 3 (f_X3_unrecovered_L27 k67 n x10 x11 x12 h13) h13 27 [(0, va_rf x10), (1, .int x11), (2, .int x12)] [] := by
  intro n
  induction n with
  | zero => intro x10 x11 x12 h13; exact s_none
  | succ n ih =>
    intro x10 x11 x12 h13
    rw [f_X3_unrecovered_L27]
    refine s_iload_n hK dX3_unrecovered_27 rfl 2 rfl ?_
    refine s_aload_n hK dX3_unrecovered_28 rfl 0 rfl ?_
    refine s_gI hK fcX3 5 (Nat.le_of_ble_eq_true rfl) (Or.inl q1689) (Or.inl rfl) dX3_unrecovered_29 (fun v14 => ?_)
    refine s_icmp_ge (tgt := 67) hK dX3_unrecovered_32 (by decide) (fun c30 => ?_) (fun c30 => ?_)
    · refine s_sub [0, 1] rfl ?_
      exact hk67 x10 x11 h13
    · refine s_iload_n hK dX3_unrecovered_35 rfl 1 rfl ?_
      refine s_aload_n hK dX3_unrecovered_36 rfl 0 rfl ?_
      refine s_gA hK fcX3 40 (Nat.le_of_ble_eq_true rfl) (Or.inl q1724) (Or.inl rfl) dX3_unrecovered_37 (fun v15 => ?_)
      refine s_iload_n hK dX3_unrecovered_40 rfl 2 rfl ?_
      refine s_iald hK dX3_unrecovered_41 (fun v16 => ?_)
      refine s_if_le (tgt := 58) hK dX3_unrecovered_42 (by decide) (fun c29 => ?_) (fun c29 => ?_)
      · refine s_sub [0, 2] rfl ?_
        exact sm_X3_unrecovered_J58 hK hf hlo ih hk67 x10 x12 x11 h13
      · refine s_aload_n hK dX3_unrecovered_45 rfl 0 rfl ?_
        refine s_gA hK fcX3 16 (Nat.le_of_ble_eq_true rfl) (Or.inl q1700) (Or.inl rfl) dX3_unrecovered_46 (fun v26 => ?_)
        refine s_iload_n hK dX3_unrecovered_49 rfl 2 rfl ?_
        refine s_iald hK dX3_unrecovered_50 (fun v27 => ?_)
        refine s_if_ne (tgt := 58) hK dX3_unrecovered_51 (by decide) (fun c28 => ?_) (fun c28 => ?_)
        · refine s_sub [0, 2] rfl ?_
          exact sm_X3_unrecovered_J58 hK hf hlo ih hk67 x10 x12 x11 h13
        · refine s_iconst (v := 1) hK dX3_unrecovered_54 rfl ?_
          refine s_goto (tgt := 59) hK dX3_unrecovered_55 (by decide) ?_
          refine s_sub [0, 2] rfl ?_
          exact sm_X3_unrecovered_J59 hK hf hlo ih hk67 x10 x12 1 x11 h13
theorem sm_X3_unrecovered_J20 {G : GC} {K : SC} (hK : SOK G K RX3 cX3_unrecovered 3 (some (.int)) "unrecovered" []) (hf : FR_X3_unrecovered ≤ (kR K).frames) (hlo : LO_X3_unrecovered ≤ (kR K).locals) (x5 : Option Nat) (y6 : Int32) (y7 : Option Nat) (h8 : AH) : Sim G K 3 (f_X3_unrecovered_J20 x5 y6 y7 h8) h8 20 [(0, va_rf x5)] [.int y6, va_rf y7] := by
  unfold f_X3_unrecovered_J20
  refine s_pF hK fcX3 0 (Nat.le_of_ble_eq_true rfl) (Or.inl q1684) (Or.inl rfl) (Or.inl rfl) rfl rfl dX3_unrecovered_20 (fun h9 => ?_)
  refine s_iconst (v := 0) hK dX3_unrecovered_23 rfl ?_
  refine s_istore_n (lv' := [(1, .int 0), (0, va_rf x5)]) hK dX3_unrecovered_24 rfl (Nat.le_of_ble_eq_true rfl) (flA (pre := []) (suf := []) rfl rfl) ?_
  refine s_iconst (v := 0) hK dX3_unrecovered_25 rfl ?_
  refine s_istore_n (lv' := [(2, .int 0), (1, .int 0), (0, va_rf x5)]) hK dX3_unrecovered_26 rfl (Nat.le_of_ble_eq_true rfl) rfl ?_
  refine s_sub [2, 1, 0] rfl ?_
  refine sm_X3_unrecovered_L27 hK hf hlo (fun x31 x32 h33 => ?_) FUEL x5 0 0 h9
  · refine s_aload_n hK dX3_unrecovered_67 rfl 0 rfl ?_
    refine s_gI hK fcX3 0 (Nat.le_of_ble_eq_true rfl) (Or.inl q1684) (Or.inl rfl) dX3_unrecovered_68 (fun v34 => ?_)
    refine s_if_ne (tgt := 78) hK dX3_unrecovered_71 (by decide) (fun c35 => ?_) (fun c35 => ?_)
    · refine s_iconst (v := 0) hK dX3_unrecovered_78 rfl ?_
      exact s_iret hK dX3_unrecovered_79
    · refine s_iload_n hK dX3_unrecovered_74 rfl 1 rfl ?_
      refine s_goto (tgt := 79) hK dX3_unrecovered_75 (by decide) ?_
      exact s_iret hK dX3_unrecovered_79
theorem sm_X3_unrecovered_J19 {G : GC} {K : SC} (hK : SOK G K RX3 cX3_unrecovered 3 (some (.int)) "unrecovered" []) (hf : FR_X3_unrecovered ≤ (kR K).frames) (hlo : LO_X3_unrecovered ≤ (kR K).locals) (x2 : Option Nat) (y3 : Option Nat) (h4 : AH) : Sim G K 3 (f_X3_unrecovered_J19 x2 y3 h4) h4 19 [(0, va_rf x2)] [va_rf y3] := by
  unfold f_X3_unrecovered_J19
  refine s_iconst (v := 1) hK dX3_unrecovered_19 rfl ?_
  exact sm_X3_unrecovered_J20 hK hf hlo x2 1 y3 h4
theorem sm_X3_unrecovered {G : GC} {K : SC} (hK : SOK G K RX3 cX3_unrecovered 3 (some (.int)) "unrecovered" []) (hf : FR_X3_unrecovered ≤ (kR K).frames) (hlo : LO_X3_unrecovered ≤ (kR K).locals) (p0 : Option Nat) (h : AH) : Sim G K 3 (f_X3_unrecovered p0 h) h 0 [(0, va_rf p0)] [] := by
  unfold f_X3_unrecovered
  refine s_aload_n hK dX3_unrecovered_0 rfl 0 rfl ?_
  refine s_aload_n hK dX3_unrecovered_1 rfl 0 rfl ?_
  refine s_gI hK fcX3 15 (Nat.le_of_ble_eq_true rfl) (Or.inl q1699) (Or.inl rfl) dX3_unrecovered_2 (fun v1 => ?_)
  refine s_if_eq (tgt := 19) hK dX3_unrecovered_5 (by decide) (fun c38 => ?_) (fun c38 => ?_)
  · exact sm_X3_unrecovered_J19 hK hf hlo p0 p0 h
  · refine s_aload_n hK dX3_unrecovered_8 rfl 0 rfl ?_
    refine s_gI hK fcX3 39 (Nat.le_of_ble_eq_true rfl) (Or.inl q1723) (Or.inl rfl) dX3_unrecovered_9 (fun v36 => ?_)
    refine s_if_eq (tgt := 19) hK dX3_unrecovered_12 (by decide) (fun c37 => ?_) (fun c37 => ?_)
    · exact sm_X3_unrecovered_J19 hK hf hlo p0 p0 h
    · refine s_iconst (v := 0) hK dX3_unrecovered_15 rfl ?_
      refine s_goto (tgt := 20) hK dX3_unrecovered_16 (by decide) ?_
      exact sm_X3_unrecovered_J20 hK hf hlo p0 0 p0 h
theorem ct_X3_unrecovered {G : GC} {l : Launch} (g : GOK G l) (p0 : Option Nat) (h : AH) : CT G l yX3_unrecovered (Cond.code yX3_unrecovered cX3_unrecovered 3 (some (.int))) 1 16 [va_rf p0] (f_X3_unrecovered p0 h) h :=
  CT.of g (by decide) (by simp only [ls_a, ls_i, ls_l, ls_n]; decide) (fun K _ hK hf hlo => by simp only [la_a, la_i, la_l, la_n]; exact sm_X3_unrecovered hK hf hlo p0 h)
abbrev FR_X3_register : Nat := 2
abbrev LO_X3_register : Nat := 38
theorem dyX3_register : DY yX3_register 1 := ⟨⟨by decide, by decide⟩, by decide +kernel⟩
theorem sm_X3_register_J26 {G : GC} {K : SC} (hK : SOK G K RX3 cX3_register 2 (some (.int)) "register" []) (hf : FR_X3_register ≤ (kR K).frames) (hlo : LO_X3_register ≤ (kR K).locals) (x2 : Option Nat) (x3 : Int32) (y4 : Int32) (y5 : Option Nat) (h6 : AH) : Sim G K 2 (f_X3_register_J26 x2 x3 y4 y5 h6) h6 26 [(0, va_rf x2), (1, .int x3)] [.int y4, va_rf y5] := by
  unfold f_X3_register_J26
  refine s_pF hK fcX3 0 (Nat.le_of_ble_eq_true rfl) (Or.inl q1684) (Or.inl rfl) (Or.inl rfl) rfl rfl dX3_register_26 (fun h7 => ?_)
  refine s_aload_n hK dX3_register_29 rfl 0 rfl ?_
  refine s_gI hK fcX3 0 (Nat.le_of_ble_eq_true rfl) (Or.inl q1684) (Or.inl rfl) dX3_register_30 (fun v8 => ?_)
  refine s_if_ne (tgt := 45) hK dX3_register_33 (by decide) (fun c11 => ?_) (fun c11 => ?_)
  · refine s_iconst (v := 0) hK dX3_register_45 rfl ?_
    exact s_iret hK dX3_register_46
  · refine s_aload_n hK dX3_register_36 rfl 0 rfl ?_
    refine s_gA hK fcX3 41 (Nat.le_of_ble_eq_true rfl) (Or.inl q1725) (Or.inl rfl) dX3_register_37 (fun v9 => ?_)
    refine s_iload_n hK dX3_register_40 rfl 1 rfl ?_
    refine s_iald hK dX3_register_41 (fun v10 => ?_)
    refine s_goto (tgt := 46) hK dX3_register_42 (by decide) ?_
    exact s_iret hK dX3_register_46
theorem sm_X3_register {G : GC} {K : SC} (hK : SOK G K RX3 cX3_register 2 (some (.int)) "register" []) (hf : FR_X3_register ≤ (kR K).frames) (hlo : LO_X3_register ≤ (kR K).locals) (p0 : Option Nat) (p1 : Int32) (h : AH) : Sim G K 2 (f_X3_register p0 p1 h) h 0 [(0, va_rf p0), (1, .int p1)] [] := by
  unfold f_X3_register
  refine s_aload_n hK dX3_register_0 rfl 0 rfl ?_
  refine s_aload_n hK dX3_register_1 rfl 0 rfl ?_
  refine s_gI hK fcX3 39 (Nat.le_of_ble_eq_true rfl) (Or.inl q1723) (Or.inl rfl) dX3_register_2 (fun v1 => ?_)
  refine s_if_eq (tgt := 25) hK dX3_register_5 (by decide) (fun c15 => ?_) (fun c15 => ?_)
  · refine s_iconst (v := 1) hK dX3_register_25 rfl ?_
    exact sm_X3_register_J26 hK hf hlo p0 p1 1 p0 h
  · refine s_iload_n hK dX3_register_8 rfl 1 rfl ?_
    refine s_iconst (v := 0) hK dX3_register_9 rfl ?_
    refine s_iconst (v := 3) hK dX3_register_10 rfl ?_
    refine s_cI hK ho_n (cx_s (As := [.int p1, .int 0, .int 3]) (rest := [va_rf p0]) hK dyX3_in rfl q1844 q1845 q80 q1846 (ct_X3_in hK.1 p1 0 3 h) (Nat.le_trans (Nat.le_of_ble_eq_true rfl) hf) (Nat.le_trans (Nat.le_of_ble_eq_true rfl) hlo) (rk_a rk_n) (Nat.le_of_ble_eq_true rfl) dX3_register_11 rfl) (fun v13 h12 => ?_)
    refine s_if_eq (tgt := 21) hK dX3_register_14 (by decide) (fun c14 => ?_) (fun c14 => ?_)
    · refine s_iconst (v := 2) hK dX3_register_21 rfl ?_
      refine s_goto (tgt := 26) hK dX3_register_22 (by decide) ?_
      exact sm_X3_register_J26 hK hf hlo p0 p1 2 p0 h12
    · refine s_iconst (v := 0) hK dX3_register_17 rfl ?_
      refine s_goto (tgt := 26) hK dX3_register_18 (by decide) ?_
      exact sm_X3_register_J26 hK hf hlo p0 p1 0 p0 h12
theorem ct_X3_register {G : GC} {l : Launch} (g : GOK G l) (p0 : Option Nat) (p1 : Int32) (h : AH) : CT G l yX3_register (Cond.code yX3_register cX3_register 2 (some (.int))) 2 38 [va_rf p0, .int p1] (f_X3_register p0 p1 h) h :=
  CT.of g (by decide) (by simp only [ls_a, ls_i, ls_l, ls_n]; decide) (fun K _ hK hf hlo => by simp only [la_a, la_i, la_l, la_n]; exact sm_X3_register hK hf hlo p0 p1 h)
abbrev FR_X3_coverage : Nat := 2
abbrev LO_X3_coverage : Nat := 37
theorem dyX3_coverage : DY yX3_coverage 0 := ⟨⟨by decide, by decide⟩, by decide +kernel⟩
theorem sm_X3_coverage_J60 {G : GC} {K : SC} (hK : SOK G K RX3 cX3_coverage 3 (some (.double)) "coverage" []) (hf : FR_X3_coverage ≤ (kR K).frames) (hlo : LO_X3_coverage ≤ (kR K).locals) {rc : Option Nat → Int32 → Int32 → AH → RS} (hrc : ∀ (y0 : Option Nat) (y1 : Int32) (y2 : Int32) (h : AH), Sim G K 3 (rc y0 y1 y2 h) h 31 [(0, va_rf y0), (1, .int y1), (2, .int y2)] []) {k68 : Option Nat → Int32 → AH → RS} (hk68 : ∀ (y0 : Option Nat) (y1 : Int32) (h : AH), Sim G K 3 (k68 y0 y1 h) h 68 [(0, va_rf y0), (1, .int y1)] []) (x15 : Option Nat) (x16 : Int32) (y17 : Int32) (y18 : Int32) (h19 : AH) : Sim G K 3 (f_X3_coverage_J60 rc k68 x15 x16 y17 y18 h19) h19 60 [(0, va_rf x15), (2, .int x16)] [.int y17, .int y18] := by
  unfold f_X3_coverage_J60
  refine s_iadd hK dX3_coverage_60 ?_
  refine s_istore_n (lv' := [(1, .int (y18 + y17)), (0, va_rf x15), (2, .int x16)]) hK dX3_coverage_61 rfl (Nat.le_of_ble_eq_true rfl) (flA (pre := []) (suf := [(2, .int x16)]) rfl rfl) ?_
  refine s_iinc (j := 2) (v := 1) (lv' := [(2, .int (x16 + 1)), (1, .int (y18 + y17)), (0, va_rf x15)]) hK dX3_coverage_62 rfl rfl (Nat.le_of_ble_eq_true rfl) rfl ?_
  refine s_goto (tgt := 31) hK dX3_coverage_65 (by decide) ?_
  refine s_sub [2, 1, 0] rfl ?_
  exact hrc x15 (y18 + y17) (x16 + 1) h19
theorem sm_X3_coverage_L31 {G : GC} {K : SC} (hK : SOK G K RX3 cX3_coverage 3 (some (.double)) "coverage" []) (hf : FR_X3_coverage ≤ (kR K).frames) (hlo : LO_X3_coverage ≤ (kR K).locals) {k68 : Option Nat → Int32 → AH → RS} (hk68 : ∀ (y0 : Option Nat) (y1 : Int32) (h : AH), Sim G K 3 (k68 y0 y1 h) h 68 [(0, va_rf y0), (1, .int y1)] []) : ∀ (n : Nat) (x7 : Option Nat) (x8 : Int32) (x9 : Int32) (h10 : AH), Sim G K 3 (f_X3_coverage_L31 k68 n x7 x8 x9 h10) h10 31 [(0, va_rf x7), (1, .int x8), (2, .int x9)] [] := by
  intro n
  induction n with
  | zero => intro x7 x8 x9 h10; exact s_none
  | succ n ih =>
    intro x7 x8 x9 h10
    rw [f_X3_coverage_L31]
    refine s_iload_n hK dX3_coverage_31 rfl 2 rfl ?_
    refine s_aload_n hK dX3_coverage_32 rfl 0 rfl ?_
    refine s_gI hK fcX3 5 (Nat.le_of_ble_eq_true rfl) (Or.inl q1689) (Or.inl rfl) dX3_coverage_33 (fun v11 => ?_)
    refine s_icmp_ge (tgt := 68) hK dX3_coverage_36 (by decide) (fun c22 => ?_) (fun c22 => ?_)
    · refine s_sub [0, 1] rfl ?_
      exact hk68 x7 x8 h10
    · refine s_aload_n hK dX3_coverage_39 rfl 0 rfl ?_
      refine s_gI hK fcX3 0 (Nat.le_of_ble_eq_true rfl) (Or.inl q1684) (Or.inl rfl) dX3_coverage_40 (fun v12 => ?_)
      refine s_if_ne (tgt := 68) hK dX3_coverage_43 (by decide) (fun c21 => ?_) (fun c21 => ?_)
      · refine s_sub [0, 1] rfl ?_
        exact hk68 x7 x8 h10
      · refine s_iload_n hK dX3_coverage_46 rfl 1 rfl ?_
        refine s_aload_n hK dX3_coverage_47 rfl 0 rfl ?_
        refine s_iload_n hK dX3_coverage_48 rfl 2 rfl ?_
        refine s_rc (fun _ _ eo er => ?_)
        refine s_cI hK ho_n (cx_v (As := [.int x9]) (rest := [.int x8]) hK dyX3_isUsed rfl q1997 fcX3.1 q1999 qs57 q80 q2000 eo er (ct_X3_isUsed hK.1 x7 x9 h10) (Nat.le_trans (Nat.le_of_ble_eq_true rfl) hf) (Nat.le_trans (Nat.le_of_ble_eq_true rfl) hlo) (rk_i rk_n) (Nat.le_of_ble_eq_true rfl) dX3_coverage_49 rfl) (fun v14 h13 => ?_)
        refine s_if_eq (tgt := 59) hK dX3_coverage_52 (by decide) (fun c20 => ?_) (fun c20 => ?_)
        · refine s_iconst (v := 0) hK dX3_coverage_59 rfl ?_
          refine s_sub [0, 2] rfl ?_
          exact sm_X3_coverage_J60 hK hf hlo ih hk68 x7 x9 0 x8 h13
        · refine s_iconst (v := 1) hK dX3_coverage_55 rfl ?_
          refine s_goto (tgt := 60) hK dX3_coverage_56 (by decide) ?_
          refine s_sub [0, 2] rfl ?_
          exact sm_X3_coverage_J60 hK hf hlo ih hk68 x7 x9 1 x8 h13
theorem sm_X3_coverage_J68 {G : GC} {K : SC} (hK : SOK G K RX3 cX3_coverage 3 (some (.double)) "coverage" []) (hf : FR_X3_coverage ≤ (kR K).frames) (hlo : LO_X3_coverage ≤ (kR K).locals) (x26 : Option Nat) (x27 : Int32)  (h28 : AH) : Sim G K 3 (f_X3_coverage_J68 x26 x27 h28) h28 68 [(0, va_rf x26), (1, .int x27)] [] := by
  unfold f_X3_coverage_J68
  refine s_aload_n hK dX3_coverage_68 rfl 0 rfl ?_
  refine s_gI hK fcX3 0 (Nat.le_of_ble_eq_true rfl) (Or.inl q1684) (Or.inl rfl) dX3_coverage_69 (fun v29 => ?_)
  refine s_if_ne (tgt := 86) hK dX3_coverage_72 (by decide) (fun c32 => ?_) (fun c32 => ?_)
  · refine s_dconst0 hK dX3_coverage_86 ?_
    exact s_dret hK dX3_coverage_87
  · refine s_iload_n hK dX3_coverage_75 rfl 1 rfl ?_
    refine s_i2d hK dX3_coverage_76 ?_
    refine s_aload_n hK dX3_coverage_77 rfl 0 rfl ?_
    refine s_gI hK fcX3 5 (Nat.le_of_ble_eq_true rfl) (Or.inl q1689) (Or.inl rfl) dX3_coverage_78 (fun v30 => ?_)
    refine s_i2d hK dX3_coverage_81 ?_
    refine s_ddiv hK dX3_coverage_82 (fun v31 => ?_)
    refine s_goto (tgt := 87) hK dX3_coverage_83 (by decide) ?_
    exact s_dret hK dX3_coverage_87
theorem sm_X3_coverage_J24 {G : GC} {K : SC} (hK : SOK G K RX3 cX3_coverage 3 (some (.double)) "coverage" []) (hf : FR_X3_coverage ≤ (kR K).frames) (hlo : LO_X3_coverage ≤ (kR K).locals) (x2 : Option Nat) (y3 : Int32) (y4 : Option Nat) (h5 : AH) : Sim G K 3 (f_X3_coverage_J24 x2 y3 y4 h5) h5 24 [(0, va_rf x2)] [.int y3, va_rf y4] := by
  unfold f_X3_coverage_J24
  refine s_pF hK fcX3 0 (Nat.le_of_ble_eq_true rfl) (Or.inl q1684) (Or.inl rfl) (Or.inl rfl) rfl rfl dX3_coverage_24 (fun h6 => ?_)
  refine s_iconst (v := 0) hK dX3_coverage_27 rfl ?_
  refine s_istore_n (lv' := [(1, .int 0), (0, va_rf x2)]) hK dX3_coverage_28 rfl (Nat.le_of_ble_eq_true rfl) (flA (pre := []) (suf := []) rfl rfl) ?_
  refine s_iconst (v := 0) hK dX3_coverage_29 rfl ?_
  refine s_istore_n (lv' := [(2, .int 0), (1, .int 0), (0, va_rf x2)]) hK dX3_coverage_30 rfl (Nat.le_of_ble_eq_true rfl) rfl ?_
  refine s_sub [2, 1, 0] rfl ?_
  refine sm_X3_coverage_L31 hK hf hlo (fun x23 x24 h25 => ?_) FUEL x2 0 0 h6
  · exact sm_X3_coverage_J68 hK hf hlo x23 x24 h25
theorem sm_X3_coverage {G : GC} {K : SC} (hK : SOK G K RX3 cX3_coverage 3 (some (.double)) "coverage" []) (hf : FR_X3_coverage ≤ (kR K).frames) (hlo : LO_X3_coverage ≤ (kR K).locals) (p0 : Option Nat) (h : AH) : Sim G K 3 (f_X3_coverage p0 h) h 0 [(0, va_rf p0)] [] := by
  unfold f_X3_coverage
  refine s_aload_n hK dX3_coverage_0 rfl 0 rfl ?_
  refine s_aload_n hK dX3_coverage_1 rfl 0 rfl ?_
  refine s_gI hK fcX3 15 (Nat.le_of_ble_eq_true rfl) (Or.inl q1699) (Or.inl rfl) dX3_coverage_2 (fun v1 => ?_)
  refine s_if_eq (tgt := 23) hK dX3_coverage_5 (by decide) (fun c35 => ?_) (fun c35 => ?_)
  · refine s_iconst (v := 1) hK dX3_coverage_23 rfl ?_
    exact sm_X3_coverage_J24 hK hf hlo p0 1 p0 h
  · refine s_aload_n hK dX3_coverage_8 rfl 0 rfl ?_
    refine s_gI hK fcX3 5 (Nat.le_of_ble_eq_true rfl) (Or.inl q1689) (Or.inl rfl) dX3_coverage_9 (fun v33 => ?_)
    refine s_if_le (tgt := 19) hK dX3_coverage_12 (by decide) (fun c34 => ?_) (fun c34 => ?_)
    · refine s_iconst (v := 2) hK dX3_coverage_19 rfl ?_
      refine s_goto (tgt := 24) hK dX3_coverage_20 (by decide) ?_
      exact sm_X3_coverage_J24 hK hf hlo p0 2 p0 h
    · refine s_iconst (v := 0) hK dX3_coverage_15 rfl ?_
      refine s_goto (tgt := 24) hK dX3_coverage_16 (by decide) ?_
      exact sm_X3_coverage_J24 hK hf hlo p0 0 p0 h
theorem ct_X3_coverage {G : GC} {l : Launch} (g : GOK G l) (p0 : Option Nat) (h : AH) : CT G l yX3_coverage (Cond.code yX3_coverage cX3_coverage 3 (some (.double))) 2 37 [va_rf p0] (f_X3_coverage p0 h) h :=
  CT.of g (by decide) (by simp only [ls_a, ls_i, ls_l, ls_n]; decide) (fun K _ hK hf hlo => by simp only [la_a, la_i, la_l, la_n]; exact sm_X3_coverage hK hf hlo p0 h)
abbrev FR_X3_averageBlock : Nat := 6
abbrev LO_X3_averageBlock : Nat := 128
theorem dyX3_averageBlock : DY yX3_averageBlock 0 := ⟨⟨by decide, by decide⟩, by decide +kernel⟩
theorem sm_X3_averageBlock_J77 {G : GC} {K : SC} (hK : SOK G K RX3 cX3_averageBlock 4 (some (.float)) "averageBlock" []) (hf : FR_X3_averageBlock ≤ (kR K).frames) (hlo : LO_X3_averageBlock ≤ (kR K).locals) {rc : Option Nat → Int32 → Int32 → Int32 → AH → RS} (hrc : ∀ (y0 : Option Nat) (y1 : Int32) (y2 : Int32) (y3 : Int32) (h : AH), Sim G K 4 (rc y0 y1 y2 y3 h) h 44 [(0, va_rf y0), (1, .int y1), (2, .int y2), (3, .int y3)] []) {k85 : Option Nat → Int32 → Int32 → AH → RS} (hk85 : ∀ (y0 : Option Nat) (y1 : Int32) (y2 : Int32) (h : AH), Sim G K 4 (k85 y0 y1 y2 h) h 85 [(0, va_rf y0), (1, .int y1), (2, .int y2)] []) (x21 : Option Nat) (x22 : Int32) (x23 : Int32) (y24 : Int32) (y25 : Int32) (h26 : AH) : Sim G K 4 (f_X3_averageBlock_J77 rc k85 x21 x22 x23 y24 y25 h26) h26 77 [(0, va_rf x21), (1, .int x22), (3, .int x23)] [.int y24, .int y25] := by
  unfold f_X3_averageBlock_J77
  refine s_iadd hK dX3_averageBlock_77 ?_
  refine s_istore_n (lv' := [(2, .int (y25 + y24)), (0, va_rf x21), (1, .int x22), (3, .int x23)]) hK dX3_averageBlock_78 rfl (Nat.le_of_ble_eq_true rfl) rfl ?_
  refine s_iinc (j := 3) (v := 1) (lv' := [(3, .int (x23 + 1)), (2, .int (y25 + y24)), (0, va_rf x21), (1, .int x22)]) hK dX3_averageBlock_79 rfl rfl (Nat.le_of_ble_eq_true rfl) rfl ?_
  refine s_goto (tgt := 44) hK dX3_averageBlock_82 (by decide) ?_
  refine s_sub [2, 3, 1, 0] rfl ?_
  exact hrc x21 x22 (y25 + y24) (x23 + 1) h26
theorem sm_X3_averageBlock_L44 {G : GC} {K : SC} (hK : SOK G K RX3 cX3_averageBlock 4 (some (.float)) "averageBlock" []) (hf : FR_X3_averageBlock ≤ (kR K).frames) (hlo : LO_X3_averageBlock ≤ (kR K).locals) {k85 : Option Nat → Int32 → Int32 → AH → RS} (hk85 : ∀ (y0 : Option Nat) (y1 : Int32) (y2 : Int32) (h : AH), Sim G K 4 (k85 y0 y1 y2 h) h 85 [(0, va_rf y0), (1, .int y1), (2, .int y2)] []) : ∀ (n : Nat) (x12 : Option Nat) (x13 : Int32) (x14 : Int32) (x15 : Int32) (h16 : AH), Sim G K 4 (f_X3_averageBlock_L44 k85 n x12 x13 x14 x15 h16) h16 44 [(0, va_rf x12), (1, .int x13), (2, .int x14), (3, .int x15)] [] := by
  intro n
  induction n with
  | zero => intro x12 x13 x14 x15 h16; exact s_none
  | succ n ih =>
    intro x12 x13 x14 x15 h16
    rw [f_X3_averageBlock_L44]
    refine s_iload_n hK dX3_averageBlock_44 rfl 3 rfl ?_
    refine s_aload_n hK dX3_averageBlock_45 rfl 0 rfl ?_
    refine s_gI hK fcX3 5 (Nat.le_of_ble_eq_true rfl) (Or.inl q1689) (Or.inl rfl) dX3_averageBlock_46 (fun v17 => ?_)
    refine s_icmp_ge (tgt := 85) hK dX3_averageBlock_49 (by decide) (fun c31 => ?_) (fun c31 => ?_)
    · refine s_sub [0, 1, 2] rfl ?_
      exact hk85 x12 x13 x14 h16
    · refine s_aload_n hK dX3_averageBlock_52 rfl 0 rfl ?_
      refine s_gI hK fcX3 0 (Nat.le_of_ble_eq_true rfl) (Or.inl q1684) (Or.inl rfl) dX3_averageBlock_53 (fun v18 => ?_)
      refine s_if_ne (tgt := 85) hK dX3_averageBlock_56 (by decide) (fun c30 => ?_) (fun c30 => ?_)
      · refine s_sub [0, 1, 2] rfl ?_
        exact hk85 x12 x13 x14 h16
      · refine s_iload_n hK dX3_averageBlock_59 rfl 2 rfl ?_
        refine s_aload_n hK dX3_averageBlock_60 rfl 0 rfl ?_
        refine s_iload_n hK dX3_averageBlock_61 rfl 3 rfl ?_
        refine s_rc (fun _ _ eo er => ?_)
        refine s_cI hK ho_n (cx_v (As := [.int x15]) (rest := [.int x14]) hK dyX3_isLeader rfl q2089 fcX3.1 q2091 qs66 q80 q2092 eo er (ct_X3_isLeader hK.1 x12 x15 h16) (Nat.le_trans (Nat.le_of_ble_eq_true rfl) hf) (Nat.le_trans (Nat.le_of_ble_eq_true rfl) hlo) (rk_i rk_n) (Nat.le_of_ble_eq_true rfl) dX3_averageBlock_62 rfl) (fun v20 h19 => ?_)
        refine s_if_eq (tgt := 76) hK dX3_averageBlock_65 (by decide) (fun c29 => ?_) (fun c29 => ?_)
        · refine s_iconst (v := 0) hK dX3_averageBlock_76 rfl ?_
          refine s_sub [0, 1, 3] rfl ?_
          exact sm_X3_averageBlock_J77 hK hf hlo ih hk85 x12 x13 x15 0 x14 h19
        · refine s_aload_n hK dX3_averageBlock_68 rfl 0 rfl ?_
          refine s_iload_n hK dX3_averageBlock_69 rfl 3 rfl ?_
          refine s_rc (fun _ _ eo er => ?_)
          refine s_cI hK ho_n (cx_v (As := [.int x15]) (rest := [.int x14]) hK dyX3_blockSize rfl q2109 fcX3.1 q2111 qs70 q80 q2112 eo er (ct_X3_blockSize hK.1 x12 x15 h19) (Nat.le_trans (Nat.le_of_ble_eq_true rfl) hf) (Nat.le_trans (Nat.le_of_ble_eq_true rfl) hlo) (rk_i rk_n) (Nat.le_of_ble_eq_true rfl) dX3_averageBlock_70 rfl) (fun v28 h27 => ?_)
          refine s_goto (tgt := 77) hK dX3_averageBlock_73 (by decide) ?_
          refine s_sub [0, 1, 3] rfl ?_
          exact sm_X3_averageBlock_J77 hK hf hlo ih hk85 x12 x13 x15 v28 x14 h27
theorem sm_X3_averageBlock_J85 {G : GC} {K : SC} (hK : SOK G K RX3 cX3_averageBlock 4 (some (.float)) "averageBlock" []) (hf : FR_X3_averageBlock ≤ (kR K).frames) (hlo : LO_X3_averageBlock ≤ (kR K).locals) (x36 : Option Nat) (x37 : Int32) (x38 : Int32)  (h39 : AH) : Sim G K 4 (f_X3_averageBlock_J85 x36 x37 x38 h39) h39 85 [(0, va_rf x36), (1, .int x37), (2, .int x38)] [] := by
  unfold f_X3_averageBlock_J85
  refine s_aload_n hK dX3_averageBlock_85 rfl 0 rfl ?_
  refine s_gI hK fcX3 0 (Nat.le_of_ble_eq_true rfl) (Or.inl q1684) (Or.inl rfl) dX3_averageBlock_86 (fun v40 => ?_)
  refine s_if_ne (tgt := 100) hK dX3_averageBlock_89 (by decide) (fun c42 => ?_) (fun c42 => ?_)
  · refine s_fconst0 hK dX3_averageBlock_100 ?_
    exact s_fret hK dX3_averageBlock_101
  · refine s_iload_n hK dX3_averageBlock_92 rfl 2 rfl ?_
    refine s_i2f hK dX3_averageBlock_93 ?_
    refine s_iload_n hK dX3_averageBlock_94 rfl 1 rfl ?_
    refine s_i2f hK dX3_averageBlock_95 ?_
    refine s_fdiv hK dX3_averageBlock_96 (fun v41 => ?_)
    refine s_goto (tgt := 101) hK dX3_averageBlock_97 (by decide) ?_
    exact s_fret hK dX3_averageBlock_101
theorem sm_X3_averageBlock_J37 {G : GC} {K : SC} (hK : SOK G K RX3 cX3_averageBlock 4 (some (.float)) "averageBlock" []) (hf : FR_X3_averageBlock ≤ (kR K).frames) (hlo : LO_X3_averageBlock ≤ (kR K).locals) (x6 : Option Nat) (x7 : Int32) (y8 : Int32) (y9 : Option Nat) (h10 : AH) : Sim G K 4 (f_X3_averageBlock_J37 x6 x7 y8 y9 h10) h10 37 [(0, va_rf x6), (1, .int x7)] [.int y8, va_rf y9] := by
  unfold f_X3_averageBlock_J37
  refine s_pF hK fcX3 0 (Nat.le_of_ble_eq_true rfl) (Or.inl q1684) (Or.inl rfl) (Or.inl rfl) rfl rfl dX3_averageBlock_37 (fun h11 => ?_)
  refine s_iconst (v := 0) hK dX3_averageBlock_40 rfl ?_
  refine s_istore_n (lv' := [(2, .int 0), (0, va_rf x6), (1, .int x7)]) hK dX3_averageBlock_41 rfl (Nat.le_of_ble_eq_true rfl) rfl ?_
  refine s_iconst (v := 0) hK dX3_averageBlock_42 rfl ?_
  refine s_istore_n (lv' := [(3, .int 0), (2, .int 0), (0, va_rf x6), (1, .int x7)]) hK dX3_averageBlock_43 rfl (Nat.le_of_ble_eq_true rfl) rfl ?_
  refine s_sub [2, 3, 1, 0] rfl ?_
  refine sm_X3_averageBlock_L44 hK hf hlo (fun x32 x33 x34 h35 => ?_) FUEL x6 x7 0 0 h11
  · exact sm_X3_averageBlock_J85 hK hf hlo x32 x33 x34 h35
theorem sm_X3_averageBlock_J15 {G : GC} {K : SC} (hK : SOK G K RX3 cX3_averageBlock 4 (some (.float)) "averageBlock" []) (hf : FR_X3_averageBlock ≤ (kR K).frames) (hlo : LO_X3_averageBlock ≤ (kR K).locals) (x2 : Option Nat) (y3 : Int32) (h4 : AH) : Sim G K 4 (f_X3_averageBlock_J15 x2 y3 h4) h4 15 [(0, va_rf x2)] [.int y3] := by
  unfold f_X3_averageBlock_J15
  refine s_istore_n (lv' := [(1, .int y3), (0, va_rf x2)]) hK dX3_averageBlock_15 rfl (Nat.le_of_ble_eq_true rfl) (flA (pre := []) (suf := []) rfl rfl) ?_
  refine s_aload_n hK dX3_averageBlock_16 rfl 1 rfl ?_
  refine s_aload_n hK dX3_averageBlock_17 rfl 1 rfl ?_
  refine s_gI hK fcX3 15 (Nat.le_of_ble_eq_true rfl) (Or.inl q1699) (Or.inl rfl) dX3_averageBlock_18 (fun v5 => ?_)
  refine s_if_eq (tgt := 36) hK dX3_averageBlock_21 (by decide) (fun c44 => ?_) (fun c44 => ?_)
  · refine s_iconst (v := 1) hK dX3_averageBlock_36 rfl ?_
    refine s_sub [1, 0] rfl ?_
    exact sm_X3_averageBlock_J37 hK hf hlo x2 y3 1 x2 h4
  · refine s_iload_n hK dX3_averageBlock_24 rfl 0 rfl ?_
    refine s_if_le (tgt := 32) hK dX3_averageBlock_25 (by decide) (fun c43 => ?_) (fun c43 => ?_)
    · refine s_iconst (v := 2) hK dX3_averageBlock_32 rfl ?_
      refine s_goto (tgt := 37) hK dX3_averageBlock_33 (by decide) ?_
      refine s_sub [1, 0] rfl ?_
      exact sm_X3_averageBlock_J37 hK hf hlo x2 y3 2 x2 h4
    · refine s_iconst (v := 0) hK dX3_averageBlock_28 rfl ?_
      refine s_goto (tgt := 37) hK dX3_averageBlock_29 (by decide) ?_
      refine s_sub [1, 0] rfl ?_
      exact sm_X3_averageBlock_J37 hK hf hlo x2 y3 0 x2 h4
theorem sm_X3_averageBlock {G : GC} {K : SC} (hK : SOK G K RX3 cX3_averageBlock 4 (some (.float)) "averageBlock" []) (hf : FR_X3_averageBlock ≤ (kR K).frames) (hlo : LO_X3_averageBlock ≤ (kR K).locals) (p0 : Option Nat) (h : AH) : Sim G K 4 (f_X3_averageBlock p0 h) h 0 [(0, va_rf p0)] [] := by
  unfold f_X3_averageBlock
  refine s_aload_n hK dX3_averageBlock_0 rfl 0 rfl ?_
  refine s_gI hK fcX3 15 (Nat.le_of_ble_eq_true rfl) (Or.inl q1699) (Or.inl rfl) dX3_averageBlock_1 (fun v1 => ?_)
  refine s_if_eq (tgt := 14) hK dX3_averageBlock_4 (by decide) (fun c47 => ?_) (fun c47 => ?_)
  · refine s_iconst (v := 0) hK dX3_averageBlock_14 rfl ?_
    exact sm_X3_averageBlock_J15 hK hf hlo p0 0 h
  · refine s_aload_n hK dX3_averageBlock_7 rfl 0 rfl ?_
    refine s_rc (fun _ _ eo er => ?_)
    refine s_cI hK ho_n (cx_v (As := []) (rest := []) hK dyX3_blocks rfl q2085 fcX3.1 q2087 qs65 q80 q2088 eo er (ct_X3_blocks hK.1 p0 h) (Nat.le_trans (Nat.le_of_ble_eq_true rfl) hf) (Nat.le_trans (Nat.le_of_ble_eq_true rfl) hlo) rk_n (Nat.le_of_ble_eq_true rfl) dX3_averageBlock_8 rfl) (fun v46 h45 => ?_)
    refine s_goto (tgt := 15) hK dX3_averageBlock_11 (by decide) ?_
    exact sm_X3_averageBlock_J15 hK hf hlo p0 v46 h45
theorem ct_X3_averageBlock {G : GC} {l : Launch} (g : GOK G l) (p0 : Option Nat) (h : AH) : CT G l yX3_averageBlock (Cond.code yX3_averageBlock cX3_averageBlock 4 (some (.float))) 6 128 [va_rf p0] (f_X3_averageBlock p0 h) h :=
  CT.of g (by decide) (by simp only [ls_a, ls_i, ls_l, ls_n]; decide) (fun K _ hK hf hlo => by simp only [la_a, la_i, la_l, la_n]; exact sm_X3_averageBlock hK hf hlo p0 h)
abbrev FR_X3_save : Nat := 1
abbrev LO_X3_save : Nat := 16
theorem dyX3_save : DY yX3_save 0 := ⟨⟨by decide, by decide⟩, by decide +kernel⟩
theorem sm_X3_save_L7 {G : GC} {K : SC} (hK : SOK G K RX3 cX3_save 2 (none) "save" []) (hf : FR_X3_save ≤ (kR K).frames) (hlo : LO_X3_save ≤ (kR K).locals) {k31 : Option Nat → AH → RS} (hk31 : ∀ (y0 : Option Nat) (h : AH), Sim G K 2 (k31 y0 h) h 31 [(0, va_rf y0)] []) : ∀ (n : Nat) (x2 : Option Nat) (x3 : Int32) (h4 : AH), Sim G K 2 (f_X3_save_L7 k31 n x2 x3 h4) h4 7 [(0, va_rf x2), (1, .int x3)] [] := by
  intro n
  induction n with
  | zero => intro x2 x3 h4; exact s_none
  | succ n ih =>
    intro x2 x3 h4
    rw [f_X3_save_L7]
    refine s_iload_n hK dX3_save_7 rfl 1 rfl ?_
    refine s_bipush (v := 96) hK dX3_save_8 rfl ?_
    refine s_icmp_ge (tgt := 31) hK dX3_save_10 (by decide) (fun c9 => ?_) (fun c9 => ?_)
    · refine s_sub [0] rfl ?_
      exact hk31 x2 h4
    · refine s_aload_n hK dX3_save_13 rfl 0 rfl ?_
      refine s_gA hK fcX3 2 (Nat.le_of_ble_eq_true rfl) (Or.inl q1686) (Or.inl rfl) dX3_save_14 (fun v5 => ?_)
      refine s_iload_n hK dX3_save_17 rfl 1 rfl ?_
      refine s_aload_n hK dX3_save_18 rfl 0 rfl ?_
      refine s_gA hK fcX3 1 (Nat.le_of_ble_eq_true rfl) (Or.inl q1685) (Or.inl rfl) dX3_save_19 (fun v6 => ?_)
      refine s_iload_n hK dX3_save_22 rfl 1 rfl ?_
      refine s_iald hK dX3_save_23 (fun v7 => ?_)
      refine s_iast hK dX3_save_24 (fun h8 => ?_)
      refine s_iinc (j := 1) (v := 1) (lv' := [(1, .int (x3 + 1)), (0, va_rf x2)]) hK dX3_save_25 rfl rfl (Nat.le_of_ble_eq_true rfl) (flA (pre := []) (suf := [(1, .int x3)]) rfl rfl) ?_
      refine s_goto (tgt := 7) hK dX3_save_28 (by decide) ?_
      refine s_sub [1, 0] rfl ?_
      exact ih x2 (x3 + 1) h8
theorem sm_X3_save_L33 {G : GC} {K : SC} (hK : SOK G K RX3 cX3_save 2 (none) "save" []) (hf : FR_X3_save ≤ (kR K).frames) (hlo : LO_X3_save ≤ (kR K).locals) {k56 : Option Nat → AH → RS} (hk56 : ∀ (y0 : Option Nat) (h : AH), Sim G K 2 (k56 y0 h) h 56 [(0, va_rf y0)] []) : ∀ (n : Nat) (x12 : Option Nat) (x13 : Int32) (h14 : AH), Sim G K 2 (f_X3_save_L33 k56 n x12 x13 h14) h14 33 [(0, va_rf x12), (1, .int x13)] [] := by
  intro n
  induction n with
  | zero => intro x12 x13 h14; exact s_none
  | succ n ih =>
    intro x12 x13 h14
    rw [f_X3_save_L33]
    refine s_iload_n hK dX3_save_33 rfl 1 rfl ?_
    refine s_iconst (v := 4) hK dX3_save_34 rfl ?_
    refine s_icmp_ge (tgt := 56) hK dX3_save_35 (by decide) (fun c19 => ?_) (fun c19 => ?_)
    · refine s_sub [0] rfl ?_
      exact hk56 x12 h14
    · refine s_aload_n hK dX3_save_38 rfl 0 rfl ?_
      refine s_gA hK fcX3 4 (Nat.le_of_ble_eq_true rfl) (Or.inl q1688) (Or.inl rfl) dX3_save_39 (fun v15 => ?_)
      refine s_iload_n hK dX3_save_42 rfl 1 rfl ?_
      refine s_aload_n hK dX3_save_43 rfl 0 rfl ?_
      refine s_gA hK fcX3 3 (Nat.le_of_ble_eq_true rfl) (Or.inl q1687) (Or.inl rfl) dX3_save_44 (fun v16 => ?_)
      refine s_iload_n hK dX3_save_47 rfl 1 rfl ?_
      refine s_iald hK dX3_save_48 (fun v17 => ?_)
      refine s_iast hK dX3_save_49 (fun h18 => ?_)
      refine s_iinc (j := 1) (v := 1) (lv' := [(1, .int (x13 + 1)), (0, va_rf x12)]) hK dX3_save_50 rfl rfl (Nat.le_of_ble_eq_true rfl) (flA (pre := []) (suf := [(1, .int x13)]) rfl rfl) ?_
      refine s_goto (tgt := 33) hK dX3_save_53 (by decide) ?_
      refine s_sub [1, 0] rfl ?_
      exact ih x12 (x13 + 1) h18
theorem sm_X3_save {G : GC} {K : SC} (hK : SOK G K RX3 cX3_save 2 (none) "save" []) (hf : FR_X3_save ≤ (kR K).frames) (hlo : LO_X3_save ≤ (kR K).locals) (p0 : Option Nat) (h : AH) : Sim G K 2 (f_X3_save p0 h) h 0 [(0, va_rf p0)] [] := by
  unfold f_X3_save
  refine s_aload_n hK dX3_save_0 rfl 0 rfl ?_
  refine s_iconst (v := 0) hK dX3_save_1 rfl ?_
  refine s_pF hK fcX3 0 (Nat.le_of_ble_eq_true rfl) (Or.inl q1684) (Or.inl rfl) (Or.inl rfl) rfl rfl dX3_save_2 (fun h1 => ?_)
  refine s_iconst (v := 0) hK dX3_save_5 rfl ?_
  refine s_istore_n (lv' := [(1, .int 0), (0, va_rf p0)]) hK dX3_save_6 rfl (Nat.le_of_ble_eq_true rfl) (flA (pre := []) (suf := []) rfl rfl) ?_
  refine s_sub [1, 0] rfl ?_
  refine sm_X3_save_L7 hK hf hlo (fun x10 h11 => ?_) FUEL p0 0 h1
  · refine s_iconst (v := 0) hK dX3_save_31 rfl ?_
    refine s_istore_n (lv' := [(1, .int 0), (0, va_rf x10)]) hK dX3_save_32 rfl (Nat.le_of_ble_eq_true rfl) (flA (pre := []) (suf := []) rfl rfl) ?_
    refine s_sub [1, 0] rfl ?_
    refine sm_X3_save_L33 hK hf hlo (fun x20 h21 => ?_) FUEL x10 0 h11
    · refine s_aload_n hK dX3_save_56 rfl 0 rfl ?_
      refine s_aload_n hK dX3_save_57 rfl 0 rfl ?_
      refine s_gI hK fcX3 5 (Nat.le_of_ble_eq_true rfl) (Or.inl q1689) (Or.inl rfl) dX3_save_58 (fun v22 => ?_)
      refine s_pF hK fcX3 8 (Nat.le_of_ble_eq_true rfl) (Or.inl q1692) (Or.inl rfl) (Or.inl rfl) rfl rfl dX3_save_61 (fun h23 => ?_)
      refine s_aload_n hK dX3_save_64 rfl 0 rfl ?_
      refine s_aload_n hK dX3_save_65 rfl 0 rfl ?_
      refine s_gI hK fcX3 6 (Nat.le_of_ble_eq_true rfl) (Or.inl q1690) (Or.inl rfl) dX3_save_66 (fun v24 => ?_)
      refine s_pF hK fcX3 9 (Nat.le_of_ble_eq_true rfl) (Or.inl q1693) (Or.inl rfl) (Or.inl rfl) rfl rfl dX3_save_69 (fun h25 => ?_)
      refine s_aload_n hK dX3_save_72 rfl 0 rfl ?_
      refine s_aload_n hK dX3_save_73 rfl 0 rfl ?_
      refine s_gI hK fcX3 7 (Nat.le_of_ble_eq_true rfl) (Or.inl q1691) (Or.inl rfl) dX3_save_74 (fun v26 => ?_)
      refine s_pF hK fcX3 10 (Nat.le_of_ble_eq_true rfl) (Or.inl q1694) (Or.inl rfl) (Or.inl rfl) rfl rfl dX3_save_77 (fun h27 => ?_)
      refine s_aload_n hK dX3_save_80 rfl 0 rfl ?_
      refine s_iconst (v := 1) hK dX3_save_81 rfl ?_
      refine s_pZ hK fcX3 11 (Nat.le_of_ble_eq_true rfl) (Or.inl q1695) (Or.inl rfl) (Or.inl rfl) rfl dX3_save_82 (fun h28 => ?_)
      exact s_vret hK dX3_save_85
theorem ct_X3_save {G : GC} {l : Launch} (g : GOK G l) (p0 : Option Nat) (h : AH) : CT G l yX3_save (Cond.code yX3_save cX3_save 2 (none)) 1 16 [va_rf p0] (f_X3_save p0 h) h :=
  CT.of g (by decide) (by simp only [ls_a, ls_i, ls_l, ls_n]; decide) (fun K _ hK hf hlo => by simp only [la_a, la_i, la_l, la_n]; exact sm_X3_save hK hf hlo p0 h)
abbrev FR_X3_restore : Nat := 2
abbrev LO_X3_restore : Nat := 37
theorem dyX3_restore : DY yX3_restore 0 := ⟨⟨by decide, by decide⟩, by decide +kernel⟩
theorem sm_X3_restore_L26 {G : GC} {K : SC} (hK : SOK G K RX3 cX3_restore 2 (none) "restore" []) (hf : FR_X3_restore ≤ (kR K).frames) (hlo : LO_X3_restore ≤ (kR K).locals) {k50 : Option Nat → AH → RS} (hk50 : ∀ (y0 : Option Nat) (h : AH), Sim G K 2 (k50 y0 h) h 50 [(0, va_rf y0)] []) : ∀ (n : Nat) (x8 : Option Nat) (x9 : Int32) (h10 : AH), Sim G K 2 (f_X3_restore_L26 k50 n x8 x9 h10) h10 26 [(0, va_rf x8), (1, .int x9)] [] := by
  intro n
  induction n with
  | zero => intro x8 x9 h10; exact s_none
  | succ n ih =>
    intro x8 x9 h10
    rw [f_X3_restore_L26]
    refine s_iload_n hK dX3_restore_26 rfl 1 rfl ?_
    refine s_bipush (v := 96) hK dX3_restore_27 rfl ?_
    refine s_icmp_ge (tgt := 50) hK dX3_restore_29 (by decide) (fun c15 => ?_) (fun c15 => ?_)
    · refine s_sub [0] rfl ?_
      exact hk50 x8 h10
    · refine s_aload_n hK dX3_restore_32 rfl 0 rfl ?_
      refine s_gA hK fcX3 1 (Nat.le_of_ble_eq_true rfl) (Or.inl q1685) (Or.inl rfl) dX3_restore_33 (fun v11 => ?_)
      refine s_iload_n hK dX3_restore_36 rfl 1 rfl ?_
      refine s_aload_n hK dX3_restore_37 rfl 0 rfl ?_
      refine s_gA hK fcX3 2 (Nat.le_of_ble_eq_true rfl) (Or.inl q1686) (Or.inl rfl) dX3_restore_38 (fun v12 => ?_)
      refine s_iload_n hK dX3_restore_41 rfl 1 rfl ?_
      refine s_iald hK dX3_restore_42 (fun v13 => ?_)
      refine s_iast hK dX3_restore_43 (fun h14 => ?_)
      refine s_iinc (j := 1) (v := 1) (lv' := [(1, .int (x9 + 1)), (0, va_rf x8)]) hK dX3_restore_44 rfl rfl (Nat.le_of_ble_eq_true rfl) (flA (pre := []) (suf := [(1, .int x9)]) rfl rfl) ?_
      refine s_goto (tgt := 26) hK dX3_restore_47 (by decide) ?_
      refine s_sub [1, 0] rfl ?_
      exact ih x8 (x9 + 1) h14
theorem sm_X3_restore_L52 {G : GC} {K : SC} (hK : SOK G K RX3 cX3_restore 2 (none) "restore" []) (hf : FR_X3_restore ≤ (kR K).frames) (hlo : LO_X3_restore ≤ (kR K).locals) {k75 : Option Nat → AH → RS} (hk75 : ∀ (y0 : Option Nat) (h : AH), Sim G K 2 (k75 y0 h) h 75 [(0, va_rf y0)] []) : ∀ (n : Nat) (x18 : Option Nat) (x19 : Int32) (h20 : AH), Sim G K 2 (f_X3_restore_L52 k75 n x18 x19 h20) h20 52 [(0, va_rf x18), (1, .int x19)] [] := by
  intro n
  induction n with
  | zero => intro x18 x19 h20; exact s_none
  | succ n ih =>
    intro x18 x19 h20
    rw [f_X3_restore_L52]
    refine s_iload_n hK dX3_restore_52 rfl 1 rfl ?_
    refine s_iconst (v := 4) hK dX3_restore_53 rfl ?_
    refine s_icmp_ge (tgt := 75) hK dX3_restore_54 (by decide) (fun c25 => ?_) (fun c25 => ?_)
    · refine s_sub [0] rfl ?_
      exact hk75 x18 h20
    · refine s_aload_n hK dX3_restore_57 rfl 0 rfl ?_
      refine s_gA hK fcX3 3 (Nat.le_of_ble_eq_true rfl) (Or.inl q1687) (Or.inl rfl) dX3_restore_58 (fun v21 => ?_)
      refine s_iload_n hK dX3_restore_61 rfl 1 rfl ?_
      refine s_aload_n hK dX3_restore_62 rfl 0 rfl ?_
      refine s_gA hK fcX3 4 (Nat.le_of_ble_eq_true rfl) (Or.inl q1688) (Or.inl rfl) dX3_restore_63 (fun v22 => ?_)
      refine s_iload_n hK dX3_restore_66 rfl 1 rfl ?_
      refine s_iald hK dX3_restore_67 (fun v23 => ?_)
      refine s_iast hK dX3_restore_68 (fun h24 => ?_)
      refine s_iinc (j := 1) (v := 1) (lv' := [(1, .int (x19 + 1)), (0, va_rf x18)]) hK dX3_restore_69 rfl rfl (Nat.le_of_ble_eq_true rfl) (flA (pre := []) (suf := [(1, .int x19)]) rfl rfl) ?_
      refine s_goto (tgt := 52) hK dX3_restore_72 (by decide) ?_
      refine s_sub [1, 0] rfl ?_
      exact ih x18 (x19 + 1) h24
theorem sm_X3_restore_J13 {G : GC} {K : SC} (hK : SOK G K RX3 cX3_restore 2 (none) "restore" []) (hf : FR_X3_restore ≤ (kR K).frames) (hlo : LO_X3_restore ≤ (kR K).locals) (x2 : Option Nat) (y3 : Int32) (y4 : Option Nat) (h5 : AH) : Sim G K 2 (f_X3_restore_J13 x2 y3 y4 h5) h5 13 [(0, va_rf x2)] [.int y3, va_rf y4] := by
  unfold f_X3_restore_J13
  refine s_pF hK fcX3 0 (Nat.le_of_ble_eq_true rfl) (Or.inl q1684) (Or.inl rfl) (Or.inl rfl) rfl rfl dX3_restore_13 (fun h6 => ?_)
  refine s_aload_n hK dX3_restore_16 rfl 0 rfl ?_
  refine s_gI hK fcX3 11 (Nat.le_of_ble_eq_true rfl) (Or.inl q1695) (Or.inl rfl) dX3_restore_17 (fun v7 => ?_)
  refine s_if_ne (tgt := 24) hK dX3_restore_20 (by decide) (fun c35 => ?_) (fun c35 => ?_)
  · refine s_iconst (v := 0) hK dX3_restore_24 rfl ?_
    refine s_istore_n (lv' := [(1, .int 0), (0, va_rf x2)]) hK dX3_restore_25 rfl (Nat.le_of_ble_eq_true rfl) (flA (pre := []) (suf := []) rfl rfl) ?_
    refine s_sub [1, 0] rfl ?_
    refine sm_X3_restore_L26 hK hf hlo (fun x16 h17 => ?_) FUEL x2 0 h6
    · refine s_iconst (v := 0) hK dX3_restore_50 rfl ?_
      refine s_istore_n (lv' := [(1, .int 0), (0, va_rf x16)]) hK dX3_restore_51 rfl (Nat.le_of_ble_eq_true rfl) (flA (pre := []) (suf := []) rfl rfl) ?_
      refine s_sub [1, 0] rfl ?_
      refine sm_X3_restore_L52 hK hf hlo (fun x26 h27 => ?_) FUEL x16 0 h17
      · refine s_aload_n hK dX3_restore_75 rfl 0 rfl ?_
        refine s_aload_n hK dX3_restore_76 rfl 0 rfl ?_
        refine s_gI hK fcX3 8 (Nat.le_of_ble_eq_true rfl) (Or.inl q1692) (Or.inl rfl) dX3_restore_77 (fun v28 => ?_)
        refine s_pF hK fcX3 5 (Nat.le_of_ble_eq_true rfl) (Or.inl q1689) (Or.inl rfl) (Or.inl rfl) rfl rfl dX3_restore_80 (fun h29 => ?_)
        refine s_aload_n hK dX3_restore_83 rfl 0 rfl ?_
        refine s_aload_n hK dX3_restore_84 rfl 0 rfl ?_
        refine s_gI hK fcX3 9 (Nat.le_of_ble_eq_true rfl) (Or.inl q1693) (Or.inl rfl) dX3_restore_85 (fun v30 => ?_)
        refine s_pF hK fcX3 6 (Nat.le_of_ble_eq_true rfl) (Or.inl q1690) (Or.inl rfl) (Or.inl rfl) rfl rfl dX3_restore_88 (fun h31 => ?_)
        refine s_aload_n hK dX3_restore_91 rfl 0 rfl ?_
        refine s_aload_n hK dX3_restore_92 rfl 0 rfl ?_
        refine s_gI hK fcX3 10 (Nat.le_of_ble_eq_true rfl) (Or.inl q1694) (Or.inl rfl) dX3_restore_93 (fun v32 => ?_)
        refine s_pF hK fcX3 7 (Nat.le_of_ble_eq_true rfl) (Or.inl q1691) (Or.inl rfl) (Or.inl rfl) rfl rfl dX3_restore_96 (fun h33 => ?_)
        refine s_aload_n hK dX3_restore_99 rfl 0 rfl ?_
        refine s_iconst (v := 1) hK dX3_restore_100 rfl ?_
        refine s_rc (fun _ _ eo er => ?_)
        refine s_cV hK ho_n (cx_v (As := [.int 1]) (rest := []) hK dyX3_changes rfl q1858 fcX3.1 q1860 qs35 q80 q1861 eo er (ct_X3_changes hK.1 x26 1 h33) (Nat.le_trans (Nat.le_of_ble_eq_true rfl) hf) (Nat.le_trans (Nat.le_of_ble_eq_true rfl) hlo) rk_n (Nat.le_of_ble_eq_true rfl) dX3_restore_101 rfl) (fun h34 => ?_)
        exact s_vret hK dX3_restore_104
  · exact s_vret hK dX3_restore_23
theorem sm_X3_restore {G : GC} {K : SC} (hK : SOK G K RX3 cX3_restore 2 (none) "restore" []) (hf : FR_X3_restore ≤ (kR K).frames) (hlo : LO_X3_restore ≤ (kR K).locals) (p0 : Option Nat) (h : AH) : Sim G K 2 (f_X3_restore p0 h) h 0 [(0, va_rf p0)] [] := by
  unfold f_X3_restore
  refine s_aload_n hK dX3_restore_0 rfl 0 rfl ?_
  refine s_aload_n hK dX3_restore_1 rfl 0 rfl ?_
  refine s_gI hK fcX3 11 (Nat.le_of_ble_eq_true rfl) (Or.inl q1695) (Or.inl rfl) dX3_restore_2 (fun v1 => ?_)
  refine s_if_eq (tgt := 12) hK dX3_restore_5 (by decide) (fun c36 => ?_) (fun c36 => ?_)
  · refine s_iconst (v := 1) hK dX3_restore_12 rfl ?_
    exact sm_X3_restore_J13 hK hf hlo p0 1 p0 h
  · refine s_iconst (v := 0) hK dX3_restore_8 rfl ?_
    refine s_goto (tgt := 13) hK dX3_restore_9 (by decide) ?_
    exact sm_X3_restore_J13 hK hf hlo p0 0 p0 h
theorem ct_X3_restore {G : GC} {l : Launch} (g : GOK G l) (p0 : Option Nat) (h : AH) : CT G l yX3_restore (Cond.code yX3_restore cX3_restore 2 (none)) 2 37 [va_rf p0] (f_X3_restore p0 h) h :=
  CT.of g (by decide) (by simp only [ls_a, ls_i, ls_l, ls_n]; decide) (fun K _ hK hf hlo => by simp only [la_a, la_i, la_l, la_n]; exact sm_X3_restore hK hf hlo p0 h)
