/-! printed by mk.py/gen.py -/
set_option maxRecDepth 100000
def f_X5_isAccepted (p0 : Option Nat) (p1 : Int32) (h : AH) : RS := if p1 < 0 then rtZ 0 h else xgA h p0 4 8 (fun v1 => xrc h v1 13 (xcI (f_J20_get v1 p1 h) (fun v3 h2 => if v3 = 0 then rtZ 0 h2 else rtZ 1 h2)))
def f_X5_isTaken (p0 : Option Nat) (p1 : Int32) (h : AH) : RS := xgA h p0 4 1 (fun v1 => xlI h v1 0 p1 (fun v2 => if v2 = 1 then rtZ 1 h else xgA h p0 4 1 (fun v3 => xlI h v3 0 p1 (fun v4 => if v4 = 2 then rtZ 1 h else xgA h p0 4 1 (fun v5 => xlI h v5 0 p1 (fun v6 => if ¬ v6 = 3 then rtZ 0 h else rtZ 1 h))))))
def f_X5_before_J54 (rc : Option Nat → Int32 → Int32 → Int32 → AH → RS) (k61 : Int32 → AH → RS) (x13 : Option Nat) (x14 : Int32) (x15 : Int32) (y16 : Int32) (h17 : AH) : RS := rc x13 x14 y16 (x15 + 1) h17
def f_X5_before_J53 (rc : Option Nat → Int32 → Int32 → Int32 → AH → RS) (k61 : Int32 → AH → RS) (x8 : Option Nat) (x9 : Int32) (x10 : Int32) (x11 : Int32)  (h12 : AH) : RS := f_X5_before_J54 rc k61 x8 x9 x11 x10 h12
def f_X5_before_L4 (k61 : Int32 → AH → RS) : Nat → Option Nat → Int32 → Int32 → Int32 → AH → RS
  | 0, _, _, _, _, _ => none
  | n + 1, x1, x2, x3, x4, h5 => if 2 < x4 then k61 x3 h5 else xrc h5 x1 4 (xcI (f_X5_isAccepted x1 (x2 - x4) h5) (fun v7 h6 => if v7 = 0 then f_X5_before_J53 (f_X5_before_L4 k61 n) k61 x1 x2 x3 x4 h6 else xgA h6 x1 4 0 (fun v18 => xrc h6 v18 1 (xcI (f_X2_length v18 (x2 - x4) h6) (fun v20 h19 => if ¬ v20 = x4 then f_X5_before_J53 (f_X5_before_L4 k61 n) k61 x1 x2 x3 x4 h19 else xgA h19 x1 4 0 (fun v21 => xrc h19 v21 1 (xcI (f_X2_endsFlow v21 (x2 - x4) h19) (fun v23 h22 => if ¬ v23 = 0 then f_X5_before_J53 (f_X5_before_L4 k61 n) k61 x1 x2 x3 x4 h22 else f_X5_before_J54 (f_X5_before_L4 k61 n) k61 x1 x2 x4 (x2 - x4) h22))))))))
def f_X5_before (p0 : Option Nat) (p1 : Int32) (h : AH) : RS := f_X5_before_L4 (fun x28 h29 => rtI x28 h29) FUEL p0 p1 (-1) 1 h
noncomputable def f_X5_takeEntry (p0 : Option Nat) (p1 : Option Nat) (p2 : Int32) (h : AH) : RS := xgA h p0 4 0 (fun v1 => xrc h v1 1 (xcI (f_X2_contains v1 p2 h) (fun v3 h2 => if v3 = 0 then rtV h2 else xgA h2 p0 4 1 (fun v4 => xlI h2 v4 0 p2 (fun v5 => if v5 = 1 then rtV h2 else xgA h2 p0 4 1 (fun v6 => xlI h2 v6 0 p2 (fun v7 => if v7 = 2 then rtV h2 else xgA h2 p1 6 4 (fun v8 => xgA h2 p0 4 0 (fun v9 => xgA h2 v9 1 0 (fun v10 => xlI h2 v10 0 p2 (fun v11 => xcA (f_J9_valueOf v11 h2) (fun v13 h12 => xrc h12 v8 10 (xcI (f_J7_add v8 v13 h12) (fun v15 h14 => xgA h14 p0 4 1 (fun v16 => xsI h14 v16 0 p2 3 (fun h17 => rtV h17))))))))))))))))
noncomputable def f_X5_takeEntries_J130 (rc : Option Nat → Option Nat → Int32 → Int32 → AH → RS) (k143 : AH → RS) (x31 : Option Nat) (x32 : Option Nat) (x33 : Int32) (x34 : Int32) (x35 : Int32)  (h36 : AH) : RS := xrc h36 x31 4 (xcV (f_X5_takeEntry x31 x32 x35 h36) (fun h37 => rc x31 x32 x33 (x34 + 1) h37))
noncomputable def f_X5_takeEntries_J94 (rc : Option Nat → Option Nat → Int32 → Int32 → AH → RS) (k143 : AH → RS) (x23 : Option Nat) (x24 : Option Nat) (x25 : Int32) (x26 : Int32) (x27 : Int32) (y28 : Int32) (h29 : AH) : RS := xgI h29 x24 6 2 (fun v30 => if ¬ v30 = (-1) then f_X5_takeEntries_J130 rc k143 x23 x24 x25 x26 x27 h29 else if y28 = 0 then rtV h29 else xgA h29 x23 4 0 (fun v38 => xgA h29 x23 4 0 (fun v39 => xgA h29 v39 1 0 (fun v40 => xlI h29 v40 0 x27 (fun v41 => xrc h29 v38 1 (xcI (f_X2_isValid v38 v41 h29) (fun v43 h42 => if ¬ v43 = 0 then f_X5_takeEntries_J130 rc k143 x23 x24 x25 x26 x27 h42 else rtV h42)))))))
noncomputable def f_X5_takeEntries_J93 (rc : Option Nat → Option Nat → Int32 → Int32 → AH → RS) (k143 : AH → RS) (x17 : Option Nat) (x18 : Option Nat) (x19 : Int32) (x20 : Int32) (x21 : Int32)  (h22 : AH) : RS := f_X5_takeEntries_J94 rc k143 x17 x18 x19 x20 x21 0 h22
noncomputable def f_X5_takeEntries_L42 (k143 : AH → RS) : Nat → Option Nat → Option Nat → Int32 → Int32 → AH → RS
  | 0, _, _, _, _, _ => none
  | n + 1, x8, x9, x10, x11, h12 => if x10 ≤ x11 then k143  h12 else xgI h12 x9 6 1 (fun v13 => xgA h12 x8 4 0 (fun v14 => xrc h12 v14 1 (xcI (f_X2_contains v14 (v13 + x11) h12) (fun v16 h15 => if v16 = 0 then f_X5_takeEntries_J93 (f_X5_takeEntries_L42 k143 n) k143 x8 x9 x10 x11 (v13 + x11) h15 else xgA h15 x8 4 1 (fun v47 => xlI h15 v47 0 (v13 + x11) (fun v48 => if v48 = 1 then f_X5_takeEntries_J93 (f_X5_takeEntries_L42 k143 n) k143 x8 x9 x10 x11 (v13 + x11) h15 else xgA h15 x8 4 1 (fun v49 => xlI h15 v49 0 (v13 + x11) (fun v50 => if v50 = 2 then f_X5_takeEntries_J93 (f_X5_takeEntries_L42 k143 n) k143 x8 x9 x10 x11 (v13 + x11) h15 else f_X5_takeEntries_J94 (f_X5_takeEntries_L42 k143 n) k143 x8 x9 x10 x11 (v13 + x11) 1 h15))))))))
noncomputable def f_X5_takeEntries_J39 (x4 : Option Nat) (x5 : Option Nat) (y6 : Int32) (h7 : AH) : RS := f_X5_takeEntries_L42 (fun h55 => rtV h55) FUEL x4 x5 y6 0 h7
noncomputable def f_X5_takeEntries (p0 : Option Nat) (p1 : Option Nat) (h : AH) : RS := xgI h p1 6 3 (fun v1 => if v1 < 0 then xgI h p1 6 2 (fun v2 => if ¬ v2 = (-1) then xgI h p1 6 2 (fun v3 => f_X5_takeEntries_J39 p0 p1 v3 h) else f_X5_takeEntries_J39 p0 p1 8 h) else xgI h p1 6 1 (fun v57 => xgI h p1 6 3 (fun v58 => xrc h p0 4 (xcV (f_X5_takeEntry p0 p1 (v57 + v58) h) (fun h59 => rtV h59)))))
noncomputable def f_X5_makeTable_J263 (rc : Option Nat → Int32 → Int32 → Int32 → Int32 → Int32 → Int32 → Int32 → AH → RS) (k269 : Option Nat → Int32 → Int32 → Int32 → AH → RS) (x33 : Option Nat) (x34 : Int32) (x35 : Int32) (x36 : Int32) (x37 : Int32) (x38 : Int32) (x39 : Int32) (x40 : Int32)  (h41 : AH) : RS := rc x33 x34 x35 x36 x37 x38 x39 (x40 + 1) h41
noncomputable def f_X5_makeTable_J258 (rc : Option Nat → Int32 → Int32 → Int32 → Int32 → Int32 → Int32 → Int32 → AH → RS) (k269 : Option Nat → Int32 → Int32 → Int32 → AH → RS) (x85 : Option Nat) (x86 : Int32) (x87 : Int32) (x88 : Int32) (x89 : Int32) (x90 : Int32) (y91 : Int32) (h92 : AH) : RS := f_X5_makeTable_J263 rc k269 x85 x86 x87 x88 y91 x89 0 x90 h92
noncomputable def f_X5_makeTable_J238 (rc : Option Nat → Int32 → Int32 → Int32 → Int32 → Int32 → Int32 → Int32 → AH → RS) (k269 : Option Nat → Int32 → Int32 → Int32 → AH → RS) (x76 : Option Nat) (x77 : Int32) (x78 : Int32) (x79 : Int32) (x80 : Int32) (x81 : Int32) (x82 : Int32) (y83 : Int32) (h84 : AH) : RS := if x82 = 0 then f_X5_makeTable_J258 rc k269 x76 x77 x78 y83 x80 x81 x79 h84 else xgA h84 x76 4 0 (fun v93 => xrc h84 v93 1 (xcI (f_X2_operand v93 x80 h84) (fun v95 h94 => f_X5_makeTable_J258 rc k269 x76 x77 x78 y83 x80 x81 v95 h94)))
noncomputable def f_X5_makeTable_J216 (rc : Option Nat → Int32 → Int32 → Int32 → Int32 → Int32 → Int32 → Int32 → AH → RS) (k269 : Option Nat → Int32 → Int32 → Int32 → AH → RS) (x66 : Option Nat) (x67 : Int32) (x68 : Int32) (x69 : Int32) (x70 : Int32) (x71 : Int32) (x72 : Int32) (x73 : Int32) (y74 : Int32) (h75 : AH) : RS := if y74 = 0 then f_X5_makeTable_J238 rc k269 x66 x67 x68 x70 x71 x72 x73 x69 h75 else xgA h75 x66 4 0 (fun v97 => xrc h75 v97 1 (xcI (f_X2_operand v97 x71 h75) (fun v99 h98 => f_X5_makeTable_J238 rc k269 x66 x67 x68 x70 x71 x72 x73 (v99 + 1) h98)))
noncomputable def f_X5_makeTable_J211 (rc : Option Nat → Int32 → Int32 → Int32 → Int32 → Int32 → Int32 → Int32 → AH → RS) (k269 : Option Nat → Int32 → Int32 → Int32 → AH → RS) (x57 : Option Nat) (x58 : Int32) (x59 : Int32) (x60 : Int32) (x61 : Int32) (x62 : Int32) (x63 : Int32) (x64 : Int32)  (h65 : AH) : RS := f_X5_makeTable_J216 rc k269 x57 x58 x59 x60 x61 x62 x63 x64 1 h65
noncomputable def f_X5_makeTable_J190 (rc : Option Nat → Int32 → Int32 → Int32 → Int32 → Int32 → Int32 → Int32 → AH → RS) (k269 : Option Nat → Int32 → Int32 → Int32 → AH → RS) (x48 : Option Nat) (x49 : Int32) (x50 : Int32) (x51 : Int32) (x52 : Int32) (x53 : Int32) (x54 : Int32) (y55 : Int32) (h56 : AH) : RS := if ¬ y55 = 0 then f_X5_makeTable_J211 rc k269 x48 x49 x50 x51 x52 x53 x54 y55 h56 else xgA h56 x48 4 0 (fun v101 => xrc h56 v101 1 (xcI (f_X2_kind v101 x53 h56) (fun v103 h102 => if ¬ v103 = 12 then f_X5_makeTable_J216 rc k269 x48 x49 x50 x51 x52 x53 x54 y55 0 h102 else f_X5_makeTable_J211 rc k269 x48 x49 x50 x51 x52 x53 x54 y55 h102)))
noncomputable def f_X5_makeTable_J154 (rc : Option Nat → Int32 → Int32 → Int32 → Int32 → Int32 → Int32 → Int32 → AH → RS) (k269 : Option Nat → Int32 → Int32 → Int32 → AH → RS) (x24 : Option Nat) (x25 : Int32) (x26 : Int32) (x27 : Int32) (x28 : Int32) (x29 : Int32) (x30 : Int32) (x31 : Int32)  (h32 : AH) : RS := if x30 = 0 then f_X5_makeTable_J263 rc k269 x24 x25 x26 x27 x28 x29 x30 x31 h32 else xgA h32 x24 4 0 (fun v42 => xrc h32 v42 1 (xcI (f_X2_changes v42 x29 x26 h32) (fun v44 h43 => if v44 = 0 then f_X5_makeTable_J263 rc k269 x24 x25 x26 x27 x28 x29 x30 x31 h43 else xgA h43 x24 4 0 (fun v45 => xrc h43 v45 1 (xcI (f_X2_kind v45 x29 h43) (fun v47 h46 => if ¬ v47 = 1 then f_X5_makeTable_J190 rc k269 x24 x25 x26 x27 x28 x29 x31 0 h46 else f_X5_makeTable_J190 rc k269 x24 x25 x26 x27 x28 x29 x31 1 h46))))))
noncomputable def f_X5_makeTable_J149 (rc : Option Nat → Int32 → Int32 → Int32 → Int32 → Int32 → Int32 → Int32 → AH → RS) (k269 : Option Nat → Int32 → Int32 → Int32 → AH → RS) (x142 : Option Nat) (x143 : Int32) (x144 : Int32) (x145 : Int32) (x146 : Int32) (x147 : Int32) (x148 : Int32) (y149 : Int32) (h150 : AH) : RS := f_X5_makeTable_J263 rc k269 x142 x143 x144 x145 x146 x147 y149 x148 h150
noncomputable def f_X5_makeTable_J138 (rc : Option Nat → Int32 → Int32 → Int32 → Int32 → Int32 → Int32 → Int32 → AH → RS) (k269 : Option Nat → Int32 → Int32 → Int32 → AH → RS) (x133 : Option Nat) (x134 : Int32) (x135 : Int32) (x136 : Int32) (x137 : Int32) (x138 : Int32) (x139 : Int32) (y140 : Int32) (h141 : AH) : RS := if ¬ x139 = 0 then f_X5_makeTable_J149 rc k269 x133 x134 x135 y140 x136 x137 x138 0 h141 else f_X5_makeTable_J149 rc k269 x133 x134 x135 y140 x136 x137 x138 1 h141
noncomputable def f_X5_makeTable_J118 (rc : Option Nat → Int32 → Int32 → Int32 → Int32 → Int32 → Int32 → Int32 → AH → RS) (k269 : Option Nat → Int32 → Int32 → Int32 → AH → RS) (x123 : Option Nat) (x124 : Int32) (x125 : Int32) (x126 : Int32) (x127 : Int32) (x128 : Int32) (x129 : Int32) (x130 : Int32) (y131 : Int32) (h132 : AH) : RS := if y131 = 0 then f_X5_makeTable_J138 rc k269 x123 x124 x125 x127 x128 x129 y131 x126 h132 else xgA h132 x123 4 0 (fun v152 => xrc h132 v152 1 (xcI (f_X2_operand v152 x130 h132) (fun v154 h153 => f_X5_makeTable_J138 rc k269 x123 x124 x125 x127 x128 x129 y131 v154 h153)))
noncomputable def f_X5_makeTable_J117 (rc : Option Nat → Int32 → Int32 → Int32 → Int32 → Int32 → Int32 → Int32 → AH → RS) (k269 : Option Nat → Int32 → Int32 → Int32 → AH → RS) (x114 : Option Nat) (x115 : Int32) (x116 : Int32) (x117 : Int32) (x118 : Int32) (x119 : Int32) (x120 : Int32) (x121 : Int32)  (h122 : AH) : RS := f_X5_makeTable_J118 rc k269 x114 x115 x116 x117 x118 x119 x120 x121 0 h122
noncomputable def f_X5_makeTable_J53 (rc : Option Nat → Int32 → Int32 → Int32 → Int32 → Int32 → Int32 → Int32 → AH → RS) (k269 : Option Nat → Int32 → Int32 → Int32 → AH → RS) (x15 : Option Nat) (x16 : Int32) (x17 : Int32) (x18 : Int32) (x19 : Int32) (x20 : Int32) (x21 : Int32) (y22 : Int32) (h23 : AH) : RS := if y22 = 0 then f_X5_makeTable_J154 rc k269 x15 x16 x17 x18 x19 x20 y22 x21 h23 else xgA h23 x15 4 0 (fun v109 => xrc h23 v109 1 (xcI (f_X2_kind v109 x20 h23) (fun v111 h110 => if ¬ v111 = 6 then f_X5_makeTable_J154 rc k269 x15 x16 x17 x18 x19 x20 y22 x21 h110 else xrc h110 x15 4 (xcI (f_X5_before x15 x20 h110) (fun v113 h112 => if v113 < 0 then f_X5_makeTable_J117 rc k269 x15 x16 x17 x18 x19 x20 x21 v113 h112 else xgA h112 x15 4 0 (fun v156 => xrc h112 v156 1 (xcI (f_X2_kind v156 v113 h112) (fun v158 h157 => if ¬ v158 = 3 then f_X5_makeTable_J117 rc k269 x15 x16 x17 x18 x19 x20 x21 v113 h157 else xgA h157 x15 4 0 (fun v159 => xrc h157 v159 1 (xcI (f_X2_first v159 v113 h157) (fun v161 h160 => if ¬ v161 = x17 then f_X5_makeTable_J117 rc k269 x15 x16 x17 x18 x19 x20 x21 v113 h160 else f_X5_makeTable_J118 rc k269 x15 x16 x17 x18 x19 x20 x21 v113 1 h160)))))))))))
noncomputable def f_X5_makeTable_L23 (k269 : Option Nat → Int32 → Int32 → Int32 → AH → RS) : Nat → Option Nat → Int32 → Int32 → Int32 → Int32 → Int32 → Int32 → Int32 → AH → RS
  | 0, _, _, _, _, _, _, _, _, _ => none
  | n + 1, x4, x5, x6, x7, x8, x9, x10, x11, h12 => if 6 ≤ x11 then k269 x4 x5 x7 x8 h12 else if x10 = 0 then k269 x4 x5 x7 x8 h12 else xrc h12 x4 4 (xcI (f_X5_before x4 x9 h12) (fun v14 h13 => if v14 < 0 then f_X5_makeTable_J53 (f_X5_makeTable_L23 k269 n) k269 x4 x5 x6 x7 x8 v14 x11 0 h13 else f_X5_makeTable_J53 (f_X5_makeTable_L23 k269 n) k269 x4 x5 x6 x7 x8 v14 x11 1 h13))
noncomputable def f_X5_makeTable_J297 (x185 : Option Nat) (x186 : Int32) (y187 : Int32) (y188 : Int32) (y189 : Int32) (y190 : Option Nat) (y191 : Option Nat) (h192 : AH) : RS := xnn y190 (xcV (f_X7_init y190 y189 y188 y187 x186 h192) (fun h193 => xrc h193 x185 4 (xcV (f_X5_takeEntries x185 y191 h193) (fun h194 => rtA y191 h194))))
noncomputable def f_X5_makeTable_J269 (x175 : Option Nat) (x176 : Int32) (x177 : Int32) (x178 : Int32)  (h179 : AH) : RS := xnO h179 6 5 fsX7 (fun a180 h181 => xgA h181 x175 4 0 (fun v182 => xrc h181 v182 1 (xcI (f_X2_operand v182 x176 h181) (fun v184 h183 => if ¬ x177 = (-1) then f_X5_makeTable_J297 x175 x178 (mnI x177 16) v184 x176 a180 a180 h183 else f_X5_makeTable_J297 x175 x178 x177 v184 x176 a180 a180 h183))))
noncomputable def f_X5_makeTable (p0 : Option Nat) (p1 : Int32) (h : AH) : RS := xgA h p0 4 0 (fun v1 => xrc h v1 1 (xcI (f_X2_first v1 p1 h) (fun v3 h2 => f_X5_makeTable_L23 (fun x170 x171 x172 x173 h174 => f_X5_makeTable_J269 x170 x171 x172 x173 h174) FUEL p0 p1 v3 (-1) (-1) p1 1 0 h2)))
noncomputable def f_X5_follow_J64 (x11 : Option Nat) (x12 : Int32)  (h13 : AH) : RS := xgA h13 x11 4 3 (fun v14 => xcA (f_J9_valueOf x12 h13) (fun v16 h15 => xrc h15 v14 5 (xcI (f_X6_add v14 v16 h15) (fun v18 h17 => rtI (-1) h17))))
noncomputable def f_X5_follow_J175 (x39 : Option Nat) (x40 : Int32) (x41 : Int32)  (h42 : AH) : RS := xgA h42 x39 4 0 (fun v43 => xrc h42 v43 1 (xcI (f_X2_endsFlow v43 x40 h42) (fun v45 h44 => if v45 = 0 then rtI (x40 + x41) h44 else rtI (-1) h44)))
noncomputable def f_X5_follow_J136 (x32 : Option Nat) (x33 : Int32) (x34 : Int32)  (h35 : AH) : RS := xgA h35 x32 4 0 (fun v36 => xrc h35 v36 1 (xcI (f_X2_kind v36 x33 h35) (fun v38 h37 => if ¬ v38 = 9 then f_X5_follow_J175 x32 x33 x34 h37 else xrc h37 x32 4 (xcA (f_X5_makeTable x32 x33 h37) (fun v48 h47 => xgA h47 x32 4 5 (fun v49 => xrc h47 v49 10 (xcI (f_J7_add v49 v48 h47) (fun v51 h50 => xgA h50 v48 6 4 (fun v52 => xgA h50 x32 4 2 (fun v53 => xcV (f_X1_addAll v52 v53 h50) (fun h54 => f_X5_follow_J175 x32 x33 x34 h54)))))))))))
noncomputable def f_X5_follow_J107 (x25 : Option Nat) (x26 : Int32) (x27 : Int32)  (h28 : AH) : RS := xgA h28 x25 4 0 (fun v29 => xrc h28 v29 1 (xcI (f_X2_hasTarget v29 x26 h28) (fun v31 h30 => if v31 = 0 then f_X5_follow_J136 x25 x26 x27 h30 else xgA h30 x25 4 2 (fun v56 => xgA h30 x25 4 0 (fun v57 => xrc h30 v57 1 (xcI (f_X2_target v57 x26 h30) (fun v59 h58 => xcA (f_J9_valueOf v59 h58) (fun v61 h60 => xrc h60 v56 12 (xcV (f_J19_addLast v56 v61 h60) (fun h62 => f_X5_follow_J136 x25 x26 x27 h62))))))))))
noncomputable def f_X5_follow (p0 : Option Nat) (p1 : Int32) (h : AH) : RS := xrc h p0 4 (xcI (f_X5_isAccepted p0 p1 h) (fun v2 h1 => if v2 = 0 then xgA h1 p0 4 0 (fun v3 => xrc h1 v3 1 (xcI (f_X2_isValid v3 p1 h1) (fun v5 h4 => if ¬ v5 = 0 then xgA h4 p0 4 0 (fun v6 => xrc h4 v6 1 (xcI (f_X2_length v6 p1 h4) (fun v8 h7 => xrc h7 p0 4 (xcI (f_X5_isTaken p0 p1 h7) (fun v10 h9 => if ¬ v10 = 0 then f_X5_follow_J64 p0 p1 h9 else xrc h9 p0 4 (xcI (f_X5_isTaken p0 ((p1 + v8) - 1) h9) (fun v20 h19 => if v20 = 0 then xgA h19 p0 4 8 (fun v21 => xrc h19 v21 13 (xcV (f_J20_set v21 p1 h19) (fun h22 => xgA h22 p0 4 1 (fun v23 => xsI h22 v23 0 p1 1 (fun h24 => if ¬ v8 = 2 then f_X5_follow_J107 p0 p1 v8 h24 else xgA h24 p0 4 1 (fun v64 => xsI h24 v64 0 (p1 + 1) 2 (fun h65 => f_X5_follow_J107 p0 p1 v8 h65))))))) else f_X5_follow_J64 p0 p1 h19))))))) else xgA h4 p0 4 4 (fun v69 => xcA (f_J9_valueOf p1 h4) (fun v71 h70 => xrc h70 v69 5 (xcI (f_X6_add v69 v71 h70) (fun v73 h72 => rtI (-1) h72))))))) else rtI (-1) h1))
noncomputable def f_X5_findGaps_J62 (rc : Option Nat → Int32 → Int32 → AH → RS) (k68 : AH → RS) (x18 : Option Nat) (x19 : Int32) (x20 : Int32)  (h21 : AH) : RS := rc x18 x19 (x20 + 1) h21
noncomputable def f_X5_findGaps_J58 (rc : Option Nat → Int32 → Int32 → AH → RS) (k68 : AH → RS) (x15 : Option Nat) (x16 : Int32)  (h17 : AH) : RS := f_X5_findGaps_J62 rc k68 x15 (x16 + 1) x16 h17
noncomputable def f_X5_findGaps_J34 (rc : Option Nat → Int32 → Int32 → AH → RS) (k68 : AH → RS) (x11 : Option Nat) (x12 : Int32) (x13 : Int32)  (h14 : AH) : RS := if x13 ≤ x12 then f_X5_findGaps_J58 rc k68 x11 x13 h14 else xgA h14 x11 4 6 (fun v22 => xnO h14 7 4 fsX8 (fun a23 h24 => xnn a23 (xcV (f_X8_init a23 x12 (x13 - x12) h24) (fun h25 => xrc h25 v22 10 (xcI (f_J7_add v22 a23 h25) (fun v27 h26 => f_X5_findGaps_J58 rc k68 x11 x13 h26))))))
noncomputable def f_X5_findGaps_L4 (k68 : AH → RS) : Nat → Option Nat → Int32 → Int32 → AH → RS
  | 0, _, _, _, _ => none
  | n + 1, x1, x2, x3, h4 => xgA h4 x1 4 0 (fun v5 => xrc h4 v5 1 (xcI (f_X2_size v5 h4) (fun v7 h6 => if v7 < x3 then k68  h6 else xgA h6 x1 4 0 (fun v8 => xrc h6 v8 1 (xcI (f_X2_size v8 h6) (fun v10 h9 => if x3 = v10 then f_X5_findGaps_J34 (f_X5_findGaps_L4 k68 n) k68 x1 x2 x3 h9 else xrc h9 x1 4 (xcI (f_X5_isTaken x1 x3 h9) (fun v30 h29 => if v30 = 0 then f_X5_findGaps_J62 (f_X5_findGaps_L4 k68 n) k68 x1 x2 x3 h29 else f_X5_findGaps_J34 (f_X5_findGaps_L4 k68 n) k68 x1 x2 x3 h29))))))))
noncomputable def f_X5_findGaps (p0 : Option Nat) (h : AH) : RS := f_X5_findGaps_L4 (fun h34 => rtV h34) FUEL p0 0 0 h
noncomputable def f_X5_test_J105 (rc : Option Nat → Option Nat → Option Nat → Int32 → Int32 → Int32 → Int32 → AH → RS) (k136 : Option Nat → Option Nat → Option Nat → Int32 → Int32 → AH → RS) (x30 : Option Nat) (x31 : Option Nat) (x32 : Option Nat) (x33 : Int32) (x34 : Int32) (y35 : Int32) (y36 : Int32) (y37 : Int32) (h38 : AH) : RS := xgA h38 x30 4 0 (fun v39 => xrc h38 v39 1 (xcI (f_X2_endsFlow v39 x33 h38) (fun v41 h40 => xgA h40 x30 4 0 (fun v42 => xrc h40 v42 1 (xcI (f_X2_length v42 x33 h40) (fun v44 h43 => rc x30 x31 x32 (x33 + v44) (y37 + (y36 + y35)) (x34 + 1) v41 h43))))))
noncomputable def f_X5_test_L22 (k136 : Option Nat → Option Nat → Option Nat → Int32 → Int32 → AH → RS) : Nat → Option Nat → Option Nat → Option Nat → Int32 → Int32 → Int32 → Int32 → AH → RS
  | 0, _, _, _, _, _, _, _, _ => none
  | n + 1, x5, x6, x7, x8, x9, x10, x11, h12 => if ¬ x11 = 0 then k136 x5 x6 x7 x9 x10 h12 else xrc h12 x6 7 (xcI (f_X8_end x6 h12) (fun v14 h13 => if v14 ≤ x8 then rtV h13 else xgA h13 x5 4 0 (fun v15 => xrc h13 v15 1 (xcI (f_X2_isValid v15 x8 h13) (fun v17 h16 => if v17 = 0 then rtV h16 else xgA h16 x5 4 0 (fun v18 => xrc h16 v18 1 (xcI (f_X2_length v18 x8 h16) (fun v20 h19 => xrc h19 x6 7 (xcI (f_X8_end x6 h19) (fun v22 h21 => if (x8 + v20) ≤ v22 then xrc h21 x7 13 (xcV (f_J20_set x7 x8 h21) (fun h23 => xgA h23 x5 4 0 (fun v24 => xrc h23 v24 1 (xcI (f_X2_kind v24 x8 h23) (fun v26 h25 => if ¬ v26 = 7 then xgA h25 x5 4 0 (fun v27 => xrc h25 v27 1 (xcI (f_X2_hasTarget v27 x8 h25) (fun v29 h28 => if v29 = 0 then f_X5_test_J105 (f_X5_test_L22 k136 n) k136 x5 x6 x7 x8 x10 0 1 x9 h28 else f_X5_test_J105 (f_X5_test_L22 k136 n) k136 x5 x6 x7 x8 x10 2 1 x9 h28))) else f_X5_test_J105 (f_X5_test_L22 k136 n) k136 x5 x6 x7 x8 x10 3 1 x9 h25))))) else rtV h21))))))))))
noncomputable def f_X5_test_J193 (rc : Option Nat → Option Nat → Option Nat → Int32 → Int32 → Int32 → AH → RS) (k206 : Option Nat → Int32 → Int32 → AH → RS) (x69 : Option Nat) (x70 : Option Nat) (x71 : Option Nat) (x72 : Int32) (x73 : Int32) (x74 : Int32)  (h75 : AH) : RS := xrc h75 x71 13 (xcI (f_J20_nextSetBit x71 (x74 + 1) h75) (fun v77 h76 => rc x69 x70 x71 x72 x73 v77 h76))
noncomputable def f_X5_test_L143 (k206 : Option Nat → Int32 → Int32 → AH → RS) : Nat → Option Nat → Option Nat → Option Nat → Int32 → Int32 → Int32 → AH → RS
  | 0, _, _, _, _, _, _, _ => none
  | n + 1, x59, x60, x61, x62, x63, x64, h65 => if x64 < 0 then k206 x60 x62 x63 h65 else xgA h65 x59 4 0 (fun v66 => xrc h65 v66 1 (xcI (f_X2_hasTarget v66 x64 h65) (fun v68 h67 => if v68 = 0 then f_X5_test_J193 (f_X5_test_L143 k206 n) k206 x59 x60 x61 x62 x63 x64 h67 else xgA h67 x59 4 0 (fun v78 => xrc h67 v78 1 (xcI (f_X2_target v78 x64 h67) (fun v80 h79 => xrc h79 x59 4 (xcI (f_X5_isAccepted x59 v80 h79) (fun v82 h81 => if ¬ v82 = 0 then f_X5_test_J193 (f_X5_test_L143 k206 n) k206 x59 x60 x61 x62 x63 x64 h81 else xgA h81 x59 4 0 (fun v83 => xrc h81 v83 1 (xcI (f_X2_target v83 x64 h81) (fun v85 h84 => xrc h84 x61 13 (xcI (f_J20_get x61 v85 h84) (fun v87 h86 => if ¬ v87 = 0 then f_X5_test_J193 (f_X5_test_L143 k206 n) k206 x59 x60 x61 x62 x63 x64 h86 else rtV h86)))))))))))))
noncomputable def f_X5_test (p0 : Option Nat) (p1 : Option Nat) (h : AH) : RS := xnO h 13 3 fsJ20 (fun a1 h2 => xnn a1 (xcV (f_J20_init a1 h2) (fun h3 => xgI h3 p1 7 0 (fun v4 => f_X5_test_L22 (fun x51 x52 x53 x54 x55 h56 => xrc h56 x53 13 (xcI (f_J20_nextSetBit x53 0 h56) (fun v58 h57 => f_X5_test_L143 (fun x92 x93 x94 h95 => xpF h95 x92 7 2 (.int x93) (fun h96 => xpF h96 x92 7 3 (.int x94) (fun h97 => rtV h97))) FUEL x51 x52 x53 x54 x55 v58 h57))) FUEL p0 p1 a1 v4 0 0 0 h3))))
def f_X5_speculate_J57 (rc : Option Nat → Option Nat → Int32 → Int32 → AH → RS) (k74 : AH → RS) (x16 : Option Nat) (x17 : Option Nat) (x18 : Int32) (x19 : Int32)  (h20 : AH) : RS := xgA h20 x16 4 0 (fun v21 => xrc h20 v21 1 (xcI (f_X2_length v21 x18 h20) (fun v23 h22 => rc x16 x17 (x18 + v23) (x19 + 1) h22)))
def f_X5_speculate_L7 (k74 : AH → RS) : Nat → Option Nat → Option Nat → Int32 → Int32 → AH → RS
  | 0, _, _, _, _, _ => none
  | n + 1, x2, x3, x4, x5, h6 => xgI h6 x3 7 3 (fun v7 => if v7 ≤ x5 then k74  h6 else xgI h6 x3 7 2 (fun v8 => xgA h6 x2 4 0 (fun v9 => xgI h6 v9 1 2 (fun v10 => if v8 < v10 then k74  h6 else xgA h6 x2 4 1 (fun v11 => xsI h6 v11 0 x4 4 (fun h12 => xgA h12 x2 4 0 (fun v13 => xrc h12 v13 1 (xcI (f_X2_length v13 x4 h12) (fun v15 h14 => if ¬ v15 = 2 then f_X5_speculate_J57 (f_X5_speculate_L7 k74 n) k74 x2 x3 x4 x5 h14 else xgA h14 x2 4 1 (fun v24 => xsI h14 v24 0 (x4 + 1) 5 (fun h25 => f_X5_speculate_J57 (f_X5_speculate_L7 k74 n) k74 x2 x3 x4 x5 h25)))))))))))
def f_X5_speculate (p0 : Option Nat) (p1 : Option Nat) (h : AH) : RS := xgI h p1 7 0 (fun v1 => f_X5_speculate_L7 (fun h29 => rtV h29) FUEL p0 p1 v1 0 h)
def f_X5_countSpeculative_J58 (rc : Option Nat → Int32 → Int32 → AH → RS) (k66 : Int32 → AH → RS) (x14 : Option Nat) (x15 : Int32) (y16 : Int32) (y17 : Int32) (h18 : AH) : RS := rc x14 (y17 + y16) (x15 + 1) h18
def f_X5_countSpeculative_L4 (k66 : Int32 → AH → RS) : Nat → Option Nat → Int32 → Int32 → AH → RS
  | 0, _, _, _, _ => none
  | n + 1, x1, x2, x3, h4 => xgA h4 x1 4 6 (fun v5 => xrc h4 v5 10 (xcI (f_J7_size v5 h4) (fun v7 h6 => if v7 ≤ x3 then k66 x2 h6 else xgA h6 x1 4 6 (fun v8 => xrc h6 v8 10 (xcA (f_J7_get v8 x3 h6) (fun v10 h9 => xck h9 v10 [7] (xgI h9 v10 7 2 (fun v11 => xgA h9 x1 4 0 (fun v12 => xgI h9 v12 1 2 (fun v13 => if v11 < v13 then f_X5_countSpeculative_J58 (f_X5_countSpeculative_L4 k66 n) k66 x1 x3 0 x2 h9 else xgA h9 x1 4 6 (fun v19 => xrc h9 v19 10 (xcA (f_J7_get v19 x3 h9) (fun v21 h20 => xck h20 v21 [7] (xgI h20 v21 7 3 (fun v22 => f_X5_countSpeculative_J58 (f_X5_countSpeculative_L4 k66 n) k66 x1 x3 v22 x2 h20)))))))))))))))
def f_X5_countSpeculative (p0 : Option Nat) (h : AH) : RS := f_X5_countSpeculative_L4 (fun x25 h26 => rtI x25 h26) FUEL p0 0 0 h
noncomputable def f_X5_findLeaders_L10 (k41 : Option Nat → Option Nat → AH → RS) : Nat → Option Nat → Option Nat → Int32 → AH → RS
  | 0, _, _, _, _ => none
  | n + 1, x4, x5, x6, h7 => xgA h7 x4 4 0 (fun v8 => xgA h7 v8 1 1 (fun v9 => xaL h7 v9 (fun v10 => if v10 ≤ x6 then k41 x4 x5 h7 else xgA h7 x4 4 0 (fun v11 => xgA h7 v11 1 1 (fun v12 => xlI h7 v12 0 x6 (fun v13 => xrc h7 x5 13 (xcV (f_J20_set x5 v13 h7) (fun h14 => f_X5_findLeaders_L10 k41 n x4 x5 (x6 + 1) h14))))))))
noncomputable def f_X5_findLeaders_J102 (rc : Option Nat → Option Nat → Int32 → AH → RS) (k116 : Option Nat → Option Nat → AH → RS) (x36 : Option Nat) (x37 : Option Nat) (x38 : Int32)  (h39 : AH) : RS := xgA h39 x36 4 8 (fun v40 => xrc h39 v40 13 (xcI (f_J20_nextSetBit v40 (x38 + 1) h39) (fun v42 h41 => rc x36 x37 v42 h41)))
noncomputable def f_X5_findLeaders_J77 (rc : Option Nat → Option Nat → Int32 → AH → RS) (k116 : Option Nat → Option Nat → AH → RS) (x29 : Option Nat) (x30 : Option Nat) (x31 : Int32)  (h32 : AH) : RS := xgA h32 x29 4 0 (fun v33 => xrc h32 v33 1 (xcI (f_X2_endsBlock v33 x31 h32) (fun v35 h34 => if v35 = 0 then f_X5_findLeaders_J102 rc k116 x29 x30 x31 h34 else xgA h34 x29 4 0 (fun v43 => xrc h34 v43 1 (xcI (f_X2_length v43 x31 h34) (fun v45 h44 => xrc h44 x30 13 (xcV (f_J20_set x30 (x31 + v45) h44) (fun h46 => f_X5_findLeaders_J102 rc k116 x29 x30 x31 h46))))))))
noncomputable def f_X5_findLeaders_L50 (k116 : Option Nat → Option Nat → AH → RS) : Nat → Option Nat → Option Nat → Int32 → AH → RS
  | 0, _, _, _, _ => none
  | n + 1, x22, x23, x24, h25 => if x24 < 0 then k116 x22 x23 h25 else xgA h25 x22 4 0 (fun v26 => xrc h25 v26 1 (xcI (f_X2_hasTarget v26 x24 h25) (fun v28 h27 => if v28 = 0 then f_X5_findLeaders_J77 (f_X5_findLeaders_L50 k116 n) k116 x22 x23 x24 h27 else xgA h27 x22 4 0 (fun v48 => xrc h27 v48 1 (xcI (f_X2_target v48 x24 h27) (fun v50 h49 => xrc h49 x23 13 (xcV (f_J20_set x23 v50 h49) (fun h51 => f_X5_findLeaders_J77 (f_X5_findLeaders_L50 k116 n) k116 x22 x23 x24 h51))))))))
noncomputable def f_X5_findLeaders_L131 (k186 : Option Nat → Option Nat → Int32 → AH → RS) : Nat → Option Nat → Option Nat → Int32 → Int32 → AH → RS
  | 0, _, _, _, _, _ => none
  | n + 1, x64, x65, x66, x67, h68 => xgA h68 x64 4 5 (fun v69 => xrc h68 v69 10 (xcA (f_J7_get v69 x66 h68) (fun v71 h70 => xck h70 v71 [6] (xgA h70 v71 6 4 (fun v72 => xrc h70 v72 10 (xcI (f_J7_size v72 h70) (fun v74 h73 => if v74 ≤ x67 then k186 x64 x65 x66 h73 else xgA h73 x64 4 5 (fun v75 => xrc h73 v75 10 (xcA (f_J7_get v75 x66 h73) (fun v77 h76 => xck h76 v77 [6] (xgA h76 v77 6 4 (fun v78 => xrc h76 v78 10 (xcA (f_J7_get v78 x67 h76) (fun v80 h79 => xck h79 v80 [11] (xrc h79 v80 11 (xcI (f_J9_intValue v80 h79) (fun v82 h81 => xrc h81 x65 13 (xcV (f_J20_set x65 v82 h81) (fun h83 => f_X5_findLeaders_L131 k186 n x64 x65 x66 (x67 + 1) h83)))))))))))))))))))
noncomputable def f_X5_findLeaders_L118 (k192 : Option Nat → Option Nat → AH → RS) : Nat → Option Nat → Option Nat → Int32 → AH → RS
  | 0, _, _, _, _ => none
  | n + 1, x57, x58, x59, h60 => xgA h60 x57 4 5 (fun v61 => xrc h60 v61 10 (xcI (f_J7_size v61 h60) (fun v63 h62 => if v63 ≤ x59 then k192 x57 x58 h62 else f_X5_findLeaders_L131 (fun x85 x86 x87 h88 => f_X5_findLeaders_L118 k192 n x85 x86 (x87 + 1) h88) FUEL x57 x58 x59 0 h62)))
noncomputable def f_X5_findLeaders (p0 : Option Nat) (h : AH) : RS := xnO h 13 3 fsJ20 (fun a1 h2 => xnn a1 (xcV (f_J20_init a1 h2) (fun h3 => f_X5_findLeaders_L10 (fun x16 x17 h18 => xgA h18 x16 4 8 (fun v19 => xrc h18 v19 13 (xcI (f_J20_nextSetBit v19 0 h18) (fun v21 h20 => f_X5_findLeaders_L50 (fun x54 x55 h56 => f_X5_findLeaders_L118 (fun x90 x91 h92 => xgA h92 x90 4 8 (fun v93 => xrc h92 x91 13 (xcV (f_J20_and x91 v93 h92) (fun h94 => rtA x91 h94)))) FUEL x54 x55 0 h56) FUEL x16 x17 v21 h20)))) FUEL p0 a1 0 h3)))
noncomputable def f_X5_findBlocks_J104 (rc : Option Nat → Option Nat → Int32 → Option Nat → Int32 → Int32 → AH → RS) (k109 : Option Nat → Option Nat → Int32 → Option Nat → AH → RS) (x34 : Option Nat) (x35 : Option Nat) (x36 : Int32) (x37 : Option Nat) (x38 : Int32) (y39 : Int32) (h40 : AH) : RS := rc x34 x35 x36 x37 x38 y39 h40
noncomputable def f_X5_findBlocks_J103 (rc : Option Nat → Option Nat → Int32 → Option Nat → Int32 → Int32 → AH → RS) (k109 : Option Nat → Option Nat → Int32 → Option Nat → AH → RS) (x28 : Option Nat) (x29 : Option Nat) (x30 : Int32) (x31 : Option Nat) (x32 : Int32)  (h33 : AH) : RS := f_X5_findBlocks_J104 rc k109 x28 x29 x30 x31 x32 0 h33
noncomputable def f_X5_findBlocks_L30 (k109 : Option Nat → Option Nat → Int32 → Option Nat → AH → RS) : Nat → Option Nat → Option Nat → Int32 → Option Nat → Int32 → Int32 → AH → RS
  | 0, _, _, _, _, _, _, _ => none
  | n + 1, x12, x13, x14, x15, x16, x17, h18 => if x17 = 0 then k109 x12 x13 x14 x15 h18 else xgI h18 x15 8 1 (fun v19 => xpF h18 x15 8 1 (.int (v19 + 1)) (fun h20 => xpF h20 x15 8 2 (.int x16) (fun h21 => xgA h21 x12 4 0 (fun v22 => xrc h21 v22 1 (xcI (f_X2_endsBlock v22 x16 h21) (fun v24 h23 => xgA h23 x12 4 0 (fun v25 => xrc h23 v25 1 (xcI (f_X2_length v25 x16 h23) (fun v27 h26 => if ¬ v24 = 0 then f_X5_findBlocks_J103 (f_X5_findBlocks_L30 k109 n) k109 x12 x13 x14 x15 (x16 + v27) h26 else xrc h26 x12 4 (xcI (f_X5_isAccepted x12 (x16 + v27) h26) (fun v42 h41 => if v42 = 0 then f_X5_findBlocks_J103 (f_X5_findBlocks_L30 k109 n) k109 x12 x13 x14 x15 (x16 + v27) h41 else xrc h41 x13 13 (xcI (f_J20_get x13 (x16 + v27) h41) (fun v44 h43 => if ¬ v44 = 0 then f_X5_findBlocks_J103 (f_X5_findBlocks_L30 k109 n) k109 x12 x13 x14 x15 (x16 + v27) h43 else f_X5_findBlocks_J104 (f_X5_findBlocks_L30 k109 n) k109 x12 x13 x14 x15 (x16 + v27) 1 h43)))))))))))))
noncomputable def f_X5_findBlocks_L11 (k129 : AH → RS) : Nat → Option Nat → Option Nat → Int32 → AH → RS
  | 0, _, _, _, _ => none
  | n + 1, x5, x6, x7, h8 => if x7 < 0 then k129  h8 else xnO h8 8 3 fsX9 (fun a9 h10 => xnn a9 (xcV (f_X9_init a9 x7 h10) (fun h11 => f_X5_findBlocks_L30 (fun x49 x50 x51 x52 h53 => xgA h53 x49 4 7 (fun v54 => xrc h53 v54 10 (xcI (f_J7_add v54 x52 h53) (fun v56 h55 => xrc h55 x50 13 (xcI (f_J20_nextSetBit x50 (x51 + 1) h55) (fun v58 h57 => f_X5_findBlocks_L11 k129 n x49 x50 v58 h57)))))) FUEL x5 x6 x7 a9 x7 1 h11)))
noncomputable def f_X5_findBlocks (p0 : Option Nat) (h : AH) : RS := xrc h p0 4 (xcA (f_X5_findLeaders p0 h) (fun v2 h1 => xrc h1 v2 13 (xcI (f_J20_nextSetBit v2 0 h1) (fun v4 h3 => f_X5_findBlocks_L11 (fun h60 => rtV h60) FUEL p0 v2 v4 h3))))
def f_X5_countInBlocks_L4 (k38 : Int32 → AH → RS) : Nat → Option Nat → Int32 → Int32 → AH → RS
  | 0, _, _, _, _ => none
  | n + 1, x1, x2, x3, h4 => xgA h4 x1 4 7 (fun v5 => xrc h4 v5 10 (xcI (f_J7_size v5 h4) (fun v7 h6 => if v7 ≤ x3 then k38 x2 h6 else xgA h6 x1 4 7 (fun v8 => xrc h6 v8 10 (xcA (f_J7_get v8 x3 h6) (fun v10 h9 => xck h9 v10 [8] (xgI h9 v10 8 1 (fun v11 => f_X5_countInBlocks_L4 k38 n x1 (x2 + v11) (x3 + 1) h9))))))))
def f_X5_countInBlocks (p0 : Option Nat) (h : AH) : RS := f_X5_countInBlocks_L4 (fun x13 h14 => rtI x13 h14) FUEL p0 0 0 h
noncomputable def f_X5_findHeads_L10 (k41 : Option Nat → Option Nat → AH → RS) : Nat → Option Nat → Option Nat → Int32 → AH → RS
  | 0, _, _, _, _ => none
  | n + 1, x4, x5, x6, h7 => xgA h7 x4 4 0 (fun v8 => xgA h7 v8 1 1 (fun v9 => xaL h7 v9 (fun v10 => if v10 ≤ x6 then k41 x4 x5 h7 else xgA h7 x4 4 0 (fun v11 => xgA h7 v11 1 1 (fun v12 => xlI h7 v12 0 x6 (fun v13 => xrc h7 x5 13 (xcV (f_J20_set x5 v13 h7) (fun h14 => f_X5_findHeads_L10 k41 n x4 x5 (x6 + 1) h14))))))))
noncomputable def f_X5_findHeads_J79 (rc : Option Nat → Option Nat → Int32 → AH → RS) (k93 : Option Nat → Option Nat → AH → RS) (x29 : Option Nat) (x30 : Option Nat) (x31 : Int32)  (h32 : AH) : RS := xgA h32 x29 4 8 (fun v33 => xrc h32 v33 13 (xcI (f_J20_nextSetBit v33 (x31 + 1) h32) (fun v35 h34 => rc x29 x30 v35 h34)))
noncomputable def f_X5_findHeads_L50 (k93 : Option Nat → Option Nat → AH → RS) : Nat → Option Nat → Option Nat → Int32 → AH → RS
  | 0, _, _, _, _ => none
  | n + 1, x22, x23, x24, h25 => if x24 < 0 then k93 x22 x23 h25 else xgA h25 x22 4 0 (fun v26 => xrc h25 v26 1 (xcI (f_X2_kind v26 x24 h25) (fun v28 h27 => if ¬ v28 = 7 then f_X5_findHeads_J79 (f_X5_findHeads_L50 k93 n) k93 x22 x23 x24 h27 else xgA h27 x22 4 0 (fun v36 => xrc h27 v36 1 (xcI (f_X2_target v36 x24 h27) (fun v38 h37 => xrc h37 x23 13 (xcV (f_J20_set x23 v38 h37) (fun h39 => f_X5_findHeads_J79 (f_X5_findHeads_L50 k93 n) k93 x22 x23 x24 h39))))))))
noncomputable def f_X5_findHeads (p0 : Option Nat) (h : AH) : RS := xnO h 13 3 fsJ20 (fun a1 h2 => xnn a1 (xcV (f_J20_init a1 h2) (fun h3 => f_X5_findHeads_L10 (fun x16 x17 h18 => xgA h18 x16 4 8 (fun v19 => xrc h18 v19 13 (xcI (f_J20_nextSetBit v19 0 h18) (fun v21 h20 => f_X5_findHeads_L50 (fun x42 x43 h44 => xgA h44 x42 4 8 (fun v45 => xrc h44 x43 13 (xcV (f_J20_and x43 v45 h44) (fun h46 => rtA x43 h46)))) FUEL x16 x17 v21 h20)))) FUEL p0 a1 0 h3)))
noncomputable def f_X5_addNext_J116 (rc : Option Nat → Int32 → Option Nat → Int32 → AH → RS) (k122 : AH → RS) (x27 : Option Nat) (x28 : Int32) (x29 : Option Nat) (x30 : Int32)  (h31 : AH) : RS := rc x27 x28 x29 (x30 + 1) h31
noncomputable def f_X5_addNext_L69 (k122 : AH → RS) : Nat → Option Nat → Int32 → Option Nat → Int32 → AH → RS
  | 0, _, _, _, _, _ => none
  | n + 1, x15, x16, x17, x18, h19 => xgA h19 x15 4 5 (fun v20 => xrc h19 v20 10 (xcI (f_J7_size v20 h19) (fun v22 h21 => if v22 ≤ x18 then k122  h21 else xgA h21 x15 4 5 (fun v23 => xrc h21 v23 10 (xcA (f_J7_get v23 x18 h21) (fun v25 h24 => xck h24 v25 [6] (xgI h24 v25 6 0 (fun v26 => if ¬ v26 = x16 then f_X5_addNext_J116 (f_X5_addNext_L69 k122 n) k122 x15 x16 x17 x18 h24 else xgA h24 x15 4 5 (fun v32 => xrc h24 v32 10 (xcA (f_J7_get v32 x18 h24) (fun v34 h33 => xck h33 v34 [6] (xgA h33 v34 6 4 (fun v35 => xcV (f_X1_addAll v35 x17 h33) (fun h36 => f_X5_addNext_J116 (f_X5_addNext_L69 k122 n) k122 x15 x16 x17 x18 h36))))))))))))))
noncomputable def f_X5_addNext_J67 (x11 : Option Nat) (x12 : Int32) (x13 : Option Nat)  (h14 : AH) : RS := f_X5_addNext_L69 (fun h39 => rtV h39) FUEL x11 x12 x13 0 h14
noncomputable def f_X5_addNext_J28 (x4 : Option Nat) (x5 : Int32) (x6 : Option Nat)  (h7 : AH) : RS := xgA h7 x4 4 0 (fun v8 => xrc h7 v8 1 (xcI (f_X2_hasTarget v8 x5 h7) (fun v10 h9 => if v10 = 0 then f_X5_addNext_J67 x4 x5 x6 h9 else xgA h9 x4 4 0 (fun v40 => xrc h9 v40 1 (xcI (f_X2_kind v40 x5 h9) (fun v42 h41 => if v42 = 7 then f_X5_addNext_J67 x4 x5 x6 h41 else xgA h41 x4 4 0 (fun v43 => xrc h41 v43 1 (xcI (f_X2_target v43 x5 h41) (fun v45 h44 => xcA (f_J9_valueOf v45 h44) (fun v47 h46 => xrc h46 x6 12 (xcV (f_J19_addLast x6 v47 h46) (fun h48 => f_X5_addNext_J67 x4 x5 x6 h48))))))))))))
noncomputable def f_X5_addNext (p0 : Option Nat) (p1 : Int32) (p2 : Option Nat) (h : AH) : RS := xgA h p0 4 0 (fun v1 => xrc h v1 1 (xcI (f_X2_endsFlow v1 p1 h) (fun v3 h2 => if ¬ v3 = 0 then f_X5_addNext_J28 p0 p1 p2 h2 else xgA h2 p0 4 0 (fun v51 => xrc h2 v51 1 (xcI (f_X2_length v51 p1 h2) (fun v53 h52 => xcA (f_J9_valueOf (p1 + v53) h52) (fun v55 h54 => xrc h54 p2 12 (xcV (f_J19_addLast p2 v55 h54) (fun h56 => f_X5_addNext_J28 p0 p1 p2 h56)))))))))
noncomputable def f_X5_countReached_J74 (rc : Option Nat → Option Nat → Option Nat → AH → RS) (k77 : Option Nat → AH → RS) (x22 : Option Nat) (x23 : Option Nat) (x24 : Option Nat)  (h25 : AH) : RS := rc x22 x23 x24 h25
noncomputable def f_X5_countReached_L24 (k77 : Option Nat → AH → RS) : Nat → Option Nat → Option Nat → Option Nat → AH → RS
  | 0, _, _, _, _ => none
  | n + 1, x10, x11, x12, h13 => xrc h13 x12 12 (xcI (f_J19_isEmpty x12 h13) (fun v15 h14 => if ¬ v15 = 0 then k77 x11 h14 else xrc h14 x12 12 (xcA (f_J19_removeFirst x12 h14) (fun v17 h16 => xck h16 v17 [11] (xrc h16 v17 11 (xcI (f_J9_intValue v17 h16) (fun v19 h18 => xrc h18 x10 4 (xcI (f_X5_isAccepted x10 v19 h18) (fun v21 h20 => if v21 = 0 then f_X5_countReached_J74 (f_X5_countReached_L24 k77 n) k77 x10 x11 x12 h20 else xrc h20 x11 13 (xcI (f_J20_get x11 v19 h20) (fun v27 h26 => if ¬ v27 = 0 then f_X5_countReached_J74 (f_X5_countReached_L24 k77 n) k77 x10 x11 x12 h26 else xrc h26 x11 13 (xcV (f_J20_set x11 v19 h26) (fun h28 => xrc h28 x10 4 (xcV (f_X5_addNext x10 v19 x12 h28) (fun h29 => f_X5_countReached_J74 (f_X5_countReached_L24 k77 n) k77 x10 x11 x12 h29)))))))))))))))
noncomputable def f_X5_countReached (p0 : Option Nat) (p1 : Int32) (h : AH) : RS := xnO h 13 3 fsJ20 (fun a1 h2 => xnn a1 (xcV (f_J20_init a1 h2) (fun h3 => xnO h3 12 3 fsJ19 (fun a4 h5 => xnn a4 (xcV (f_J19_init a4 h5) (fun h6 => xcA (f_J9_valueOf p1 h6) (fun v8 h7 => xrc h7 a4 12 (xcV (f_J19_addLast a4 v8 h7) (fun h9 => f_X5_countReached_L24 (fun x33 h34 => xrc h34 x33 13 (xcI (f_J20_cardinality x33 h34) (fun v36 h35 => rtI v36 h35))) FUEL p0 a1 a4 h9)))))))))
def f_X5_countBytes_J27 (rc : Option Nat → Int32 → Int32 → AH → RS) (k35 : Int32 → AH → RS) (x9 : Option Nat) (x10 : Int32) (y11 : Int32) (y12 : Int32) (h13 : AH) : RS := rc x9 (y12 + y11) (x10 + 1) h13
def f_X5_countBytes_L4 (k35 : Int32 → AH → RS) : Nat → Option Nat → Int32 → Int32 → AH → RS
  | 0, _, _, _, _ => none
  | n + 1, x1, x2, x3, h4 => xgA h4 x1 4 1 (fun v5 => xaL h4 v5 (fun v6 => if v6 ≤ x3 then k35 x2 h4 else xrc h4 x1 4 (xcI (f_X5_isTaken x1 x3 h4) (fun v8 h7 => if v8 = 0 then f_X5_countBytes_J27 (f_X5_countBytes_L4 k35 n) k35 x1 x3 0 x2 h7 else f_X5_countBytes_J27 (f_X5_countBytes_L4 k35 n) k35 x1 x3 1 x2 h7))))
def f_X5_countBytes (p0 : Option Nat) (h : AH) : RS := f_X5_countBytes_L4 (fun x16 h17 => rtI x16 h17) FUEL p0 0 0 h
noncomputable def f_X5_init_L98 (k129 : Option Nat → AH → RS) : Nat → Option Nat → Option Nat → Int32 → AH → RS
  | 0, _, _, _, _ => none
  | n + 1, x35, x36, x37, h38 => xgA h38 x36 1 1 (fun v39 => xaL h38 v39 (fun v40 => if v40 ≤ x37 then k129 x35 h38 else xgA h38 x35 4 2 (fun v41 => xgA h38 x36 1 1 (fun v42 => xlI h38 v42 0 x37 (fun v43 => xcA (f_J9_valueOf v43 h38) (fun v45 h44 => xrc h44 v41 12 (xcV (f_J19_addLast v41 v45 h44) (fun h46 => f_X5_init_L98 k129 n x35 x36 (x37 + 1) h46))))))))
noncomputable def f_X5_init_L153 (k166 : Option Nat → AH → RS) : Nat → Option Nat → Int32 → AH → RS
  | 0, _, _, _ => none
  | n + 1, x60, x61, h62 => if x61 < 0 then k166 x60 h62 else xrc h62 x60 4 (xcI (f_X5_follow x60 x61 h62) (fun v64 h63 => f_X5_init_L153 k166 n x60 v64 h63))
noncomputable def f_X5_init_L129 (k169 : Option Nat → AH → RS) : Nat → Option Nat → AH → RS
  | 0, _, _ => none
  | n + 1, x50, h51 => xgA h51 x50 4 2 (fun v52 => xrc h51 v52 12 (xcI (f_J19_isEmpty v52 h51) (fun v54 h53 => if ¬ v54 = 0 then k169 x50 h53 else xgA h53 x50 4 2 (fun v55 => xrc h53 v55 12 (xcA (f_J19_removeFirst v55 h53) (fun v57 h56 => xck h56 v57 [11] (xrc h56 v57 11 (xcI (f_J9_intValue v57 h56) (fun v59 h58 => f_X5_init_L153 (fun x66 h67 => f_X5_init_L129 k169 n x66 h67) FUEL x50 v59 h58)))))))))
noncomputable def f_X5_init_L175 (k222 : Option Nat → AH → RS) : Nat → Option Nat → Int32 → AH → RS
  | 0, _, _, _ => none
  | n + 1, x72, x73, h74 => xgA h74 x72 4 6 (fun v75 => xrc h74 v75 10 (xcI (f_J7_size v75 h74) (fun v77 h76 => if v77 ≤ x73 then k222 x72 h76 else xgA h76 x72 4 6 (fun v78 => xrc h76 v78 10 (xcA (f_J7_get v78 x73 h76) (fun v80 h79 => xck h79 v80 [7] (xrc h79 x72 4 (xcV (f_X5_test x72 v80 h79) (fun h81 => xgA h81 x72 4 6 (fun v82 => xrc h81 v82 10 (xcA (f_J7_get v82 x73 h81) (fun v84 h83 => xck h83 v84 [7] (xrc h83 x72 4 (xcV (f_X5_speculate x72 v84 h83) (fun h85 => f_X5_init_L175 k222 n x72 (x73 + 1) h85)))))))))))))))
noncomputable def f_X5_init (p0 : Option Nat) (p1 : Option Nat) (h : AH) : RS := xnn p0 (xnO h 12 3 fsJ19 (fun a1 h2 => xnn a1 (xcV (f_J19_init a1 h2) (fun h3 => xpF h3 p0 4 2 (va_rf a1) (fun h4 => xnO h4 5 1 fsX6 (fun a5 h6 => xnn a5 (xcV (f_X6_init a5 h6) (fun h7 => xpF h7 p0 4 3 (va_rf a5) (fun h8 => xnO h8 5 1 fsX6 (fun a9 h10 => xnn a9 (xcV (f_X6_init a9 h10) (fun h11 => xpF h11 p0 4 4 (va_rf a9) (fun h12 => xnO h12 10 3 fsJ7 (fun a13 h14 => xnn a13 (xcV (f_J7_init a13 h14) (fun h15 => xpF h15 p0 4 5 (va_rf a13) (fun h16 => xnO h16 10 3 fsJ7 (fun a17 h18 => xnn a17 (xcV (f_J7_init a17 h18) (fun h19 => xpF h19 p0 4 6 (va_rf a17) (fun h20 => xnO h20 10 3 fsJ7 (fun a21 h22 => xnn a21 (xcV (f_J7_init a21 h22) (fun h23 => xpF h23 p0 4 7 (va_rf a21) (fun h24 => xnO h24 13 3 fsJ20 (fun a25 h26 => xnn a25 (xcV (f_J20_init a25 h26) (fun h27 => xpF h27 p0 4 8 (va_rf a25) (fun h28 => xpF h28 p0 4 0 (va_rf p1) (fun h29 => xrc h29 p1 1 (xcI (f_X2_size p1 h29) (fun v31 h30 => xnA h30 0 v31 (fun a32 h33 => xpF h33 p0 4 1 (va_rf a32) (fun h34 => f_X5_init_L98 (fun x48 h49 => f_X5_init_L129 (fun x69 h70 => xrc h70 x69 4 (xcV (f_X5_findGaps x69 h70) (fun h71 => f_X5_init_L175 (fun x87 h88 => xrc h88 x87 4 (xcV (f_X5_findBlocks x87 h88) (fun h89 => rtV h89))) FUEL x69 0 h71))) FUEL x48 h49) FUEL p0 p1 0 h34))))))))))))))))))))))))))))))))))
abbrev FR_X5_isAccepted : Nat := 3
abbrev LO_X5_isAccepted : Nat := 58
theorem dyX5_isAccepted : DY yX5_isAccepted 1 := ⟨⟨by decide, by decide⟩, by decide +kernel⟩
theorem sm_X5_isAccepted {G : GC} {K : SC} (hK : SOK G K RX5 cX5_isAccepted 2 (some (.boolean)) "isAccepted" []) (hf : FR_X5_isAccepted ≤ (kR K).frames) (hlo : LO_X5_isAccepted ≤ (kR K).locals) (p0 : Option Nat) (p1 : Int32) (h : AH) : Sim G K 2 (f_X5_isAccepted p0 p1 h) h 0 [(0, va_rf p0), (1, .int p1)] [] := by
  unfold f_X5_isAccepted
  refine s_iload_n hK dX5_isAccepted_0 rfl 1 rfl ?_
  refine s_if_lt (tgt := 19) hK dX5_isAccepted_1 (by decide) (fun c5 => ?_) (fun c5 => ?_)
  · refine s_iconst (v := 0) hK dX5_isAccepted_19 rfl ?_
    exact s_zret hK dX5_isAccepted_20
  · refine s_aload_n hK dX5_isAccepted_4 rfl 0 rfl ?_
    refine s_gA hK fcX5 8 (Nat.le_of_ble_eq_true rfl) (Or.inl q1100) (Or.inl rfl) dX5_isAccepted_5 (fun v1 => ?_)
    refine s_iload_n hK dX5_isAccepted_8 rfl 1 rfl ?_
    refine s_rc (fun _ _ eo er => ?_)
    refine s_cI hK ho_n (cx_v (As := [.int p1]) (rest := []) hK dyJ20_get rfl q489 fcJ20.1 q490 q491 q106 q492 eo er (ct_J20_get hK.1 v1 p1 h) (Nat.le_trans (Nat.le_of_ble_eq_true rfl) hf) (Nat.le_trans (Nat.le_of_ble_eq_true rfl) hlo) rk_n (Nat.le_of_ble_eq_true rfl) dX5_isAccepted_9 rfl) (fun v3 h2 => ?_)
    refine s_if_eq (tgt := 19) hK dX5_isAccepted_12 (by decide) (fun c4 => ?_) (fun c4 => ?_)
    · refine s_iconst (v := 0) hK dX5_isAccepted_19 rfl ?_
      exact s_zret hK dX5_isAccepted_20
    · refine s_iconst (v := 1) hK dX5_isAccepted_15 rfl ?_
      refine s_goto (tgt := 20) hK dX5_isAccepted_16 (by decide) ?_
      exact s_zret hK dX5_isAccepted_20
theorem ct_X5_isAccepted {G : GC} {l : Launch} (g : GOK G l) (p0 : Option Nat) (p1 : Int32) (h : AH) : CT G l yX5_isAccepted (Cond.code yX5_isAccepted cX5_isAccepted 2 (some (.boolean))) 3 58 [va_rf p0, .int p1] (f_X5_isAccepted p0 p1 h) h :=
  CT.of g (by decide) (by simp only [ls_a, ls_i, ls_l, ls_n]; decide) (fun K _ hK hf hlo => by simp only [la_a, la_i, la_l, la_n]; exact sm_X5_isAccepted hK hf hlo p0 p1 h)
abbrev FR_X5_isTaken : Nat := 1
abbrev LO_X5_isTaken : Nat := 16
theorem dyX5_isTaken : DY yX5_isTaken 1 := ⟨⟨by decide, by decide⟩, by decide +kernel⟩
theorem sm_X5_isTaken {G : GC} {K : SC} (hK : SOK G K RX5 cX5_isTaken 2 (some (.boolean)) "isTaken" []) (hf : FR_X5_isTaken ≤ (kR K).frames) (hlo : LO_X5_isTaken ≤ (kR K).locals) (p0 : Option Nat) (p1 : Int32) (h : AH) : Sim G K 2 (f_X5_isTaken p0 p1 h) h 0 [(0, va_rf p0), (1, .int p1)] [] := by
  unfold f_X5_isTaken
  refine s_aload_n hK dX5_isTaken_0 rfl 0 rfl ?_
  refine s_gA hK fcX5 1 (Nat.le_of_ble_eq_true rfl) (Or.inl q1087) (Or.inl rfl) dX5_isTaken_1 (fun v1 => ?_)
  refine s_iload_n hK dX5_isTaken_4 rfl 1 rfl ?_
  refine s_iald hK dX5_isTaken_5 (fun v2 => ?_)
  refine s_iconst (v := 1) hK dX5_isTaken_6 rfl ?_
  refine s_icmp_eq (tgt := 30) hK dX5_isTaken_7 (by decide) (fun c9 => ?_) (fun c9 => ?_)
  · refine s_iconst (v := 1) hK dX5_isTaken_30 rfl ?_
    refine s_goto (tgt := 35) hK dX5_isTaken_31 (by decide) ?_
    exact s_zret hK dX5_isTaken_35
  · refine s_aload_n hK dX5_isTaken_10 rfl 0 rfl ?_
    refine s_gA hK fcX5 1 (Nat.le_of_ble_eq_true rfl) (Or.inl q1087) (Or.inl rfl) dX5_isTaken_11 (fun v3 => ?_)
    refine s_iload_n hK dX5_isTaken_14 rfl 1 rfl ?_
    refine s_iald hK dX5_isTaken_15 (fun v4 => ?_)
    refine s_iconst (v := 2) hK dX5_isTaken_16 rfl ?_
    refine s_icmp_eq (tgt := 30) hK dX5_isTaken_17 (by decide) (fun c8 => ?_) (fun c8 => ?_)
    · refine s_iconst (v := 1) hK dX5_isTaken_30 rfl ?_
      refine s_goto (tgt := 35) hK dX5_isTaken_31 (by decide) ?_
      exact s_zret hK dX5_isTaken_35
    · refine s_aload_n hK dX5_isTaken_20 rfl 0 rfl ?_
      refine s_gA hK fcX5 1 (Nat.le_of_ble_eq_true rfl) (Or.inl q1087) (Or.inl rfl) dX5_isTaken_21 (fun v5 => ?_)
      refine s_iload_n hK dX5_isTaken_24 rfl 1 rfl ?_
      refine s_iald hK dX5_isTaken_25 (fun v6 => ?_)
      refine s_iconst (v := 3) hK dX5_isTaken_26 rfl ?_
      refine s_icmp_ne (tgt := 34) hK dX5_isTaken_27 (by decide) (fun c7 => ?_) (fun c7 => ?_)
      · refine s_iconst (v := 0) hK dX5_isTaken_34 rfl ?_
        exact s_zret hK dX5_isTaken_35
      · refine s_iconst (v := 1) hK dX5_isTaken_30 rfl ?_
        refine s_goto (tgt := 35) hK dX5_isTaken_31 (by decide) ?_
        exact s_zret hK dX5_isTaken_35
theorem ct_X5_isTaken {G : GC} {l : Launch} (g : GOK G l) (p0 : Option Nat) (p1 : Int32) (h : AH) : CT G l yX5_isTaken (Cond.code yX5_isTaken cX5_isTaken 2 (some (.boolean))) 1 16 [va_rf p0, .int p1] (f_X5_isTaken p0 p1 h) h :=
  CT.of g (by decide) (by simp only [ls_a, ls_i, ls_l, ls_n]; decide) (fun K _ hK hf hlo => by simp only [la_a, la_i, la_l, la_n]; exact sm_X5_isTaken hK hf hlo p0 p1 h)
abbrev FR_X5_before : Nat := 4
abbrev LO_X5_before : Nat := 81
theorem dyX5_before : DY yX5_before 1 := ⟨⟨by decide, by decide⟩, by decide +kernel⟩
theorem sm_X5_before_J54 {G : GC} {K : SC} (hK : SOK G K RX5 cX5_before 5 (some (.int)) "before" []) (hf : FR_X5_before ≤ (kR K).frames) (hlo : LO_X5_before ≤ (kR K).locals) {rc : Option Nat → Int32 → Int32 → Int32 → AH → RS} (hrc : ∀ (y0 : Option Nat) (y1 : Int32) (y2 : Int32) (y3 : Int32) (h : AH), Sim G K 5 (rc y0 y1 y2 y3 h) h 4 [(0, va_rf y0), (1, .int y1), (2, .int y2), (3, .int y3)] []) {k61 : Int32 → AH → RS} (hk61 : ∀ (y0 : Int32) (h : AH), Sim G K 5 (k61 y0 h) h 61 [(2, .int y0)] []) (x13 : Option Nat) (x14 : Int32) (x15 : Int32) (y16 : Int32) (h17 : AH) : Sim G K 5 (f_X5_before_J54 rc k61 x13 x14 x15 y16 h17) h17 54 [(0, va_rf x13), (1, .int x14), (3, .int x15)] [.int y16] := by
  unfold f_X5_before_J54
  refine s_istore_n (lv' := [(2, .int y16), (0, va_rf x13), (1, .int x14), (3, .int x15)]) hK dX5_before_54 rfl (Nat.le_of_ble_eq_true rfl) rfl ?_
  refine s_iinc (j := 3) (v := 1) (lv' := [(3, .int (x15 + 1)), (2, .int y16), (0, va_rf x13), (1, .int x14)]) hK dX5_before_55 rfl rfl (Nat.le_of_ble_eq_true rfl) rfl ?_
  refine s_goto (tgt := 4) hK dX5_before_58 (by decide) ?_
  refine s_sub [2, 3, 1, 0] rfl ?_
  exact hrc x13 x14 y16 (x15 + 1) h17
theorem sm_X5_before_J53 {G : GC} {K : SC} (hK : SOK G K RX5 cX5_before 5 (some (.int)) "before" []) (hf : FR_X5_before ≤ (kR K).frames) (hlo : LO_X5_before ≤ (kR K).locals) {rc : Option Nat → Int32 → Int32 → Int32 → AH → RS} (hrc : ∀ (y0 : Option Nat) (y1 : Int32) (y2 : Int32) (y3 : Int32) (h : AH), Sim G K 5 (rc y0 y1 y2 y3 h) h 4 [(0, va_rf y0), (1, .int y1), (2, .int y2), (3, .int y3)] []) {k61 : Int32 → AH → RS} (hk61 : ∀ (y0 : Int32) (h : AH), Sim G K 5 (k61 y0 h) h 61 [(2, .int y0)] []) (x8 : Option Nat) (x9 : Int32) (x10 : Int32) (x11 : Int32)  (h12 : AH) : Sim G K 5 (f_X5_before_J53 rc k61 x8 x9 x10 x11 h12) h12 53 [(0, va_rf x8), (1, .int x9), (2, .int x10), (3, .int x11)] [] := by
  unfold f_X5_before_J53
  refine s_iload_n hK dX5_before_53 rfl 2 rfl ?_
  refine s_sub [0, 1, 3] rfl ?_
  exact sm_X5_before_J54 hK hf hlo hrc hk61 x8 x9 x11 x10 h12
theorem sm_X5_before_L4 {G : GC} {K : SC} (hK : SOK G K RX5 cX5_before 5 (some (.int)) "before" []) (hf : FR_X5_before ≤ (kR K).frames) (hlo : LO_X5_before ≤ (kR K).locals) {k61 : Int32 → AH → RS} (hk61 : ∀ (y0 : Int32) (h : AH), Sim G K 5 (k61 y0 h) h 61 [(2, .int y0)] []) : ∀ (n : Nat) (x1 : Option Nat) (x2 : Int32) (x3 : Int32) (x4 : Int32) (h5 : AH), Sim G K 5 (f_X5_before_L4 k61 n x1 x2 x3 x4 h5) h5 4 [(0, va_rf x1), (1, .int x2), (2, .int x3), (3, .int x4)] [] := by
  intro n
  induction n with
  | zero => intro x1 x2 x3 x4 h5; exact s_none
  | succ n ih =>
    intro x1 x2 x3 x4 h5
    rw [f_X5_before_L4]
    refine s_iload_n hK dX5_before_4 rfl 3 rfl ?_
    refine s_iconst (v := 2) hK dX5_before_5 rfl ?_
    refine s_icmp_gt (tgt := 61) hK dX5_before_6 (by decide) (fun c27 => ?_) (fun c27 => ?_)
    · refine s_sub [2] rfl ?_
      exact hk61 x3 h5
    · refine s_iload_n hK dX5_before_9 rfl 1 rfl ?_
      refine s_iload_n hK dX5_before_10 rfl 3 rfl ?_
      refine s_isub hK dX5_before_11 ?_
      refine s_istore (lv' := [(4, .int (x2 - x4)), (0, va_rf x1), (1, .int x2), (2, .int x3), (3, .int x4)]) hK dX5_before_12 (Nat.le_of_ble_eq_true rfl) rfl ?_
      refine s_aload_n hK dX5_before_14 rfl 1 rfl ?_
      refine s_iload hK dX5_before_15 0 rfl ?_
      refine s_rc (fun _ _ eo er => ?_)
      refine s_cI hK ho_n (cx_v (As := [.int (x2 - x4)]) (rest := []) hK dyX5_isAccepted rfl q485 fcX5.1 q486 q487 q103 q488 eo er (ct_X5_isAccepted hK.1 x1 (x2 - x4) h5) (Nat.le_trans (Nat.le_of_ble_eq_true rfl) hf) (Nat.le_trans (Nat.le_of_ble_eq_true rfl) hlo) rk_n (Nat.le_of_ble_eq_true rfl) dX5_before_17 rfl) (fun v7 h6 => ?_)
      refine s_if_eq (tgt := 53) hK dX5_before_20 (by decide) (fun c26 => ?_) (fun c26 => ?_)
      · refine s_sub [1, 2, 3, 4] rfl ?_
        exact sm_X5_before_J53 hK hf hlo ih hk61 x1 x2 x3 x4 h6
      · refine s_aload_n hK dX5_before_23 rfl 1 rfl ?_
        refine s_gA hK fcX5 0 (Nat.le_of_ble_eq_true rfl) (Or.inl q1086) (Or.inl rfl) dX5_before_24 (fun v18 => ?_)
        refine s_iload hK dX5_before_27 0 rfl ?_
        refine s_rc (fun _ _ eo er => ?_)
        refine s_cI hK ho_n (cx_v (As := [.int (x2 - x4)]) (rest := []) hK dyX2_length rfl q870 fcX2.1 q782 q783 q79 q784 eo er (ct_X2_length hK.1 v18 (x2 - x4) h6) (Nat.le_trans (Nat.le_of_ble_eq_true rfl) hf) (Nat.le_trans (Nat.le_of_ble_eq_true rfl) hlo) rk_n (Nat.le_of_ble_eq_true rfl) dX5_before_29 rfl) (fun v20 h19 => ?_)
        refine s_iload_n hK dX5_before_32 rfl 4 rfl ?_
        refine s_icmp_ne (tgt := 53) hK dX5_before_33 (by decide) (fun c25 => ?_) (fun c25 => ?_)
        · refine s_sub [1, 2, 3, 4] rfl ?_
          exact sm_X5_before_J53 hK hf hlo ih hk61 x1 x2 x3 x4 h19
        · refine s_aload_n hK dX5_before_36 rfl 1 rfl ?_
          refine s_gA hK fcX5 0 (Nat.le_of_ble_eq_true rfl) (Or.inl q1086) (Or.inl rfl) dX5_before_37 (fun v21 => ?_)
          refine s_iload hK dX5_before_40 0 rfl ?_
          refine s_rc (fun _ _ eo er => ?_)
          refine s_cI hK ho_n (cx_v (As := [.int (x2 - x4)]) (rest := []) hK dyX2_endsFlow rfl q911 fcX2.1 q912 q913 q79 q914 eo er (ct_X2_endsFlow hK.1 v21 (x2 - x4) h19) (Nat.le_trans (Nat.le_of_ble_eq_true rfl) hf) (Nat.le_trans (Nat.le_of_ble_eq_true rfl) hlo) rk_n (Nat.le_of_ble_eq_true rfl) dX5_before_42 rfl) (fun v23 h22 => ?_)
          refine s_if_ne (tgt := 53) hK dX5_before_45 (by decide) (fun c24 => ?_) (fun c24 => ?_)
          · refine s_sub [1, 2, 3, 4] rfl ?_
            exact sm_X5_before_J53 hK hf hlo ih hk61 x1 x2 x3 x4 h22
          · refine s_iload hK dX5_before_48 0 rfl ?_
            refine s_goto (tgt := 54) hK dX5_before_50 (by decide) ?_
            refine s_sub [1, 2, 4] rfl ?_
            exact sm_X5_before_J54 hK hf hlo ih hk61 x1 x2 x4 (x2 - x4) h22
theorem sm_X5_before {G : GC} {K : SC} (hK : SOK G K RX5 cX5_before 5 (some (.int)) "before" []) (hf : FR_X5_before ≤ (kR K).frames) (hlo : LO_X5_before ≤ (kR K).locals) (p0 : Option Nat) (p1 : Int32) (h : AH) : Sim G K 5 (f_X5_before p0 p1 h) h 0 [(0, va_rf p0), (1, .int p1)] [] := by
  unfold f_X5_before
  refine s_iconst (v := (-1)) hK dX5_before_0 rfl ?_
  refine s_istore_n (lv' := [(2, .int (-1)), (0, va_rf p0), (1, .int p1)]) hK dX5_before_1 rfl (Nat.le_of_ble_eq_true rfl) rfl ?_
  refine s_iconst (v := 1) hK dX5_before_2 rfl ?_
  refine s_istore_n (lv' := [(3, .int 1), (2, .int (-1)), (0, va_rf p0), (1, .int p1)]) hK dX5_before_3 rfl (Nat.le_of_ble_eq_true rfl) rfl ?_
  refine s_sub [2, 3, 1, 0] rfl ?_
  refine sm_X5_before_L4 hK hf hlo (fun x28 h29 => ?_) FUEL p0 p1 (-1) 1 h
  · refine s_iload_n hK dX5_before_61 rfl 0 rfl ?_
    exact s_iret hK dX5_before_62
theorem ct_X5_before {G : GC} {l : Launch} (g : GOK G l) (p0 : Option Nat) (p1 : Int32) (h : AH) : CT G l yX5_before (Cond.code yX5_before cX5_before 5 (some (.int))) 4 81 [va_rf p0, .int p1] (f_X5_before p0 p1 h) h :=
  CT.of g (by decide) (by simp only [ls_a, ls_i, ls_l, ls_n]; decide) (fun K _ hK hf hlo => by simp only [la_a, la_i, la_l, la_n]; exact sm_X5_before hK hf hlo p0 p1 h)
abbrev FR_X5_takeEntry : Nat := 7
abbrev LO_X5_takeEntry : Nat := 251
theorem dyX5_takeEntry : DY yX5_takeEntry 2 := ⟨⟨by decide, by decide⟩, by decide +kernel⟩
theorem sm_X5_takeEntry {G : GC} {K : SC} (hK : SOK G K RX5 cX5_takeEntry 3 (none) "takeEntry" []) (hf : FR_X5_takeEntry ≤ (kR K).frames) (hlo : LO_X5_takeEntry ≤ (kR K).locals) (p0 : Option Nat) (p1 : Option Nat) (p2 : Int32) (h : AH) : Sim G K 3 (f_X5_takeEntry p0 p1 p2 h) h 0 [(0, va_rf p0), (1, va_rf p1), (2, .int p2)] [] := by
  unfold f_X5_takeEntry
  refine s_aload_n hK dX5_takeEntry_0 rfl 0 rfl ?_
  refine s_gA hK fcX5 0 (Nat.le_of_ble_eq_true rfl) (Or.inl q1086) (Or.inl rfl) dX5_takeEntry_1 (fun v1 => ?_)
  refine s_iload_n hK dX5_takeEntry_4 rfl 2 rfl ?_
  refine s_rc (fun _ _ eo er => ?_)
  refine s_cI hK ho_n (cx_v (As := [.int p2]) (rest := []) hK dyX2_contains rfl q960 fcX2.1 q771 q772 q79 q773 eo er (ct_X2_contains hK.1 v1 p2 h) (Nat.le_trans (Nat.le_of_ble_eq_true rfl) hf) (Nat.le_trans (Nat.le_of_ble_eq_true rfl) hlo) rk_n (Nat.le_of_ble_eq_true rfl) dX5_takeEntry_5 rfl) (fun v3 h2 => ?_)
  refine s_if_eq (tgt := 58) hK dX5_takeEntry_8 (by decide) (fun c20 => ?_) (fun c20 => ?_)
  · exact s_vret hK dX5_takeEntry_58
  · refine s_aload_n hK dX5_takeEntry_11 rfl 0 rfl ?_
    refine s_gA hK fcX5 1 (Nat.le_of_ble_eq_true rfl) (Or.inl q1087) (Or.inl rfl) dX5_takeEntry_12 (fun v4 => ?_)
    refine s_iload_n hK dX5_takeEntry_15 rfl 2 rfl ?_
    refine s_iald hK dX5_takeEntry_16 (fun v5 => ?_)
    refine s_iconst (v := 1) hK dX5_takeEntry_17 rfl ?_
    refine s_icmp_eq (tgt := 58) hK dX5_takeEntry_18 (by decide) (fun c19 => ?_) (fun c19 => ?_)
    · exact s_vret hK dX5_takeEntry_58
    · refine s_aload_n hK dX5_takeEntry_21 rfl 0 rfl ?_
      refine s_gA hK fcX5 1 (Nat.le_of_ble_eq_true rfl) (Or.inl q1087) (Or.inl rfl) dX5_takeEntry_22 (fun v6 => ?_)
      refine s_iload_n hK dX5_takeEntry_25 rfl 2 rfl ?_
      refine s_iald hK dX5_takeEntry_26 (fun v7 => ?_)
      refine s_iconst (v := 2) hK dX5_takeEntry_27 rfl ?_
      refine s_icmp_eq (tgt := 58) hK dX5_takeEntry_28 (by decide) (fun c18 => ?_) (fun c18 => ?_)
      · exact s_vret hK dX5_takeEntry_58
      · refine s_aload_n hK dX5_takeEntry_31 rfl 1 rfl ?_
        refine s_gA hK fcX7 4 (Nat.le_of_ble_eq_true rfl) (Or.inr ⟨_, q939⟩) (Or.inl rfl) dX5_takeEntry_32 (fun v8 => ?_)
        refine s_aload_n hK dX5_takeEntry_35 rfl 0 rfl ?_
        refine s_gA hK fcX5 0 (Nat.le_of_ble_eq_true rfl) (Or.inl q1086) (Or.inl rfl) dX5_takeEntry_36 (fun v9 => ?_)
        refine s_gA hK fcX2 0 (Nat.le_of_ble_eq_true rfl) (Or.inr ⟨_, q134⟩) (Or.inl rfl) dX5_takeEntry_39 (fun v10 => ?_)
        refine s_iload_n hK dX5_takeEntry_42 rfl 2 rfl ?_
        refine s_iald hK dX5_takeEntry_43 (fun v11 => ?_)
        refine s_cA hK ho_n (cx_s (As := [.int v11]) (rest := [va_rf v8]) hK dyJ9_valueOf rfl q288 q289 q91 q290 (ct_J9_valueOf hK.1 v11 h2) (Nat.le_trans (Nat.le_of_ble_eq_true rfl) hf) (Nat.le_trans (Nat.le_of_ble_eq_true rfl) hlo) (rk_a rk_n) (Nat.le_of_ble_eq_true rfl) dX5_takeEntry_44 rfl) (fun v13 h12 => ?_)
        refine s_rc (fun _ _ eo er => ?_)
        refine s_cI hK ho_n (cx_v (As := [va_rf v13]) (rest := []) hK dyJ7_add rfl q961 fcJ7.1 q851 q852 q88 q853 eo er (ct_J7_add hK.1 v8 v13 h12) (Nat.le_trans (Nat.le_of_ble_eq_true rfl) hf) (Nat.le_trans (Nat.le_of_ble_eq_true rfl) hlo) rk_n (Nat.le_of_ble_eq_true rfl) dX5_takeEntry_47 rfl) (fun v15 h14 => ?_)
        refine s_pop hK dX5_takeEntry_50 rfl ?_
        refine s_aload_n hK dX5_takeEntry_51 rfl 0 rfl ?_
        refine s_gA hK fcX5 1 (Nat.le_of_ble_eq_true rfl) (Or.inl q1087) (Or.inl rfl) dX5_takeEntry_52 (fun v16 => ?_)
        refine s_iload_n hK dX5_takeEntry_55 rfl 2 rfl ?_
        refine s_iconst (v := 3) hK dX5_takeEntry_56 rfl ?_
        refine s_iast hK dX5_takeEntry_57 (fun h17 => ?_)
        exact s_vret hK dX5_takeEntry_58
theorem ct_X5_takeEntry {G : GC} {l : Launch} (g : GOK G l) (p0 : Option Nat) (p1 : Option Nat) (p2 : Int32) (h : AH) : CT G l yX5_takeEntry (Cond.code yX5_takeEntry cX5_takeEntry 3 (none)) 7 251 [va_rf p0, va_rf p1, .int p2] (f_X5_takeEntry p0 p1 p2 h) h :=
  CT.of g (by decide) (by simp only [ls_a, ls_i, ls_l, ls_n]; decide) (fun K _ hK hf hlo => by simp only [la_a, la_i, la_l, la_n]; exact sm_X5_takeEntry hK hf hlo p0 p1 p2 h)
abbrev FR_X5_takeEntries : Nat := 8
abbrev LO_X5_takeEntries : Nat := 273
theorem dyX5_takeEntries : DY yX5_takeEntries 1 := ⟨⟨by decide, by decide⟩, by decide +kernel⟩
theorem sm_X5_takeEntries_J130 {G : GC} {K : SC} (hK : SOK G K RX5 cX5_takeEntries 6 (none) "takeEntries" []) (hf : FR_X5_takeEntries ≤ (kR K).frames) (hlo : LO_X5_takeEntries ≤ (kR K).locals) {rc : Option Nat → Option Nat → Int32 → Int32 → AH → RS} (hrc : ∀ (y0 : Option Nat) (y1 : Option Nat) (y2 : Int32) (y3 : Int32) (h : AH), Sim G K 6 (rc y0 y1 y2 y3 h) h 42 [(0, va_rf y0), (1, va_rf y1), (2, .int y2), (3, .int y3)] []) {k143 : AH → RS} (hk143 : ∀  (h : AH), Sim G K 6 (k143  h) h 143 [] []) (x31 : Option Nat) (x32 : Option Nat) (x33 : Int32) (x34 : Int32) (x35 : Int32)  (h36 : AH) : Sim G K 6 (f_X5_takeEntries_J130 rc k143 x31 x32 x33 x34 x35 h36) h36 130 [(0, va_rf x31), (1, va_rf x32), (2, .int x33), (3, .int x34), (4, .int x35)] [] := by
  unfold f_X5_takeEntries_J130
  refine s_aload_n hK dX5_takeEntries_130 rfl 0 rfl ?_
  refine s_aload_n hK dX5_takeEntries_131 rfl 1 rfl ?_
  refine s_iload hK dX5_takeEntries_132 4 rfl ?_
  refine s_rc (fun _ _ eo er => ?_)
  refine s_cV hK ho_n (cx_v (As := [va_rf x32, .int x35]) (rest := []) hK dyX5_takeEntry rfl q956 fcX5.1 q958 qs16 q103 q959 eo er (ct_X5_takeEntry hK.1 x31 x32 x35 h36) (Nat.le_trans (Nat.le_of_ble_eq_true rfl) hf) (Nat.le_trans (Nat.le_of_ble_eq_true rfl) hlo) rk_n (Nat.le_of_ble_eq_true rfl) dX5_takeEntries_134 rfl) (fun h37 => ?_)
  refine s_iinc (j := 3) (v := 1) (lv' := [(3, .int (x34 + 1)), (0, va_rf x31), (1, va_rf x32), (2, .int x33), (4, .int x35)]) hK dX5_takeEntries_137 rfl rfl (Nat.le_of_ble_eq_true rfl) rfl ?_
  refine s_goto (tgt := 42) hK dX5_takeEntries_140 (by decide) ?_
  refine s_sub [1, 2, 3, 0] rfl ?_
  exact hrc x31 x32 x33 (x34 + 1) h37
theorem sm_X5_takeEntries_J94 {G : GC} {K : SC} (hK : SOK G K RX5 cX5_takeEntries 6 (none) "takeEntries" []) (hf : FR_X5_takeEntries ≤ (kR K).frames) (hlo : LO_X5_takeEntries ≤ (kR K).locals) {rc : Option Nat → Option Nat → Int32 → Int32 → AH → RS} (hrc : ∀ (y0 : Option Nat) (y1 : Option Nat) (y2 : Int32) (y3 : Int32) (h : AH), Sim G K 6 (rc y0 y1 y2 y3 h) h 42 [(0, va_rf y0), (1, va_rf y1), (2, .int y2), (3, .int y3)] []) {k143 : AH → RS} (hk143 : ∀  (h : AH), Sim G K 6 (k143  h) h 143 [] []) (x23 : Option Nat) (x24 : Option Nat) (x25 : Int32) (x26 : Int32) (x27 : Int32) (y28 : Int32) (h29 : AH) : Sim G K 6 (f_X5_takeEntries_J94 rc k143 x23 x24 x25 x26 x27 y28 h29) h29 94 [(0, va_rf x23), (1, va_rf x24), (2, .int x25), (3, .int x26), (4, .int x27)] [.int y28] := by
  unfold f_X5_takeEntries_J94
  refine s_istore (lv' := [(5, .int y28), (0, va_rf x23), (1, va_rf x24), (2, .int x25), (3, .int x26), (4, .int x27)]) hK dX5_takeEntries_94 (Nat.le_of_ble_eq_true rfl) rfl ?_
  refine s_aload_n hK dX5_takeEntries_96 rfl 2 rfl ?_
  refine s_gI hK fcX7 2 (Nat.le_of_ble_eq_true rfl) (Or.inr ⟨_, q935⟩) (Or.inl rfl) dX5_takeEntries_97 (fun v30 => ?_)
  refine s_iconst (v := (-1)) hK dX5_takeEntries_100 rfl ?_
  refine s_icmp_ne (tgt := 130) hK dX5_takeEntries_101 (by decide) (fun c46 => ?_) (fun c46 => ?_)
  · refine s_sub [1, 2, 3, 4, 5] rfl ?_
    exact sm_X5_takeEntries_J130 hK hf hlo hrc hk143 x23 x24 x25 x26 x27 h29
  · refine s_iload hK dX5_takeEntries_104 0 rfl ?_
    refine s_if_eq (tgt := 129) hK dX5_takeEntries_106 (by decide) (fun c45 => ?_) (fun c45 => ?_)
    · exact s_vret hK dX5_takeEntries_129
    · refine s_aload_n hK dX5_takeEntries_109 rfl 1 rfl ?_
      refine s_gA hK fcX5 0 (Nat.le_of_ble_eq_true rfl) (Or.inl q1086) (Or.inl rfl) dX5_takeEntries_110 (fun v38 => ?_)
      refine s_aload_n hK dX5_takeEntries_113 rfl 1 rfl ?_
      refine s_gA hK fcX5 0 (Nat.le_of_ble_eq_true rfl) (Or.inl q1086) (Or.inl rfl) dX5_takeEntries_114 (fun v39 => ?_)
      refine s_gA hK fcX2 0 (Nat.le_of_ble_eq_true rfl) (Or.inr ⟨_, q134⟩) (Or.inl rfl) dX5_takeEntries_117 (fun v40 => ?_)
      refine s_iload hK dX5_takeEntries_120 5 rfl ?_
      refine s_iald hK dX5_takeEntries_122 (fun v41 => ?_)
      refine s_rc (fun _ _ eo er => ?_)
      refine s_cI hK ho_n (cx_v (As := [.int v41]) (rest := []) hK dyX2_isValid rfl q766 fcX2.1 q767 q768 q79 q769 eo er (ct_X2_isValid hK.1 v38 v41 h29) (Nat.le_trans (Nat.le_of_ble_eq_true rfl) hf) (Nat.le_trans (Nat.le_of_ble_eq_true rfl) hlo) rk_n (Nat.le_of_ble_eq_true rfl) dX5_takeEntries_123 rfl) (fun v43 h42 => ?_)
      refine s_if_ne (tgt := 130) hK dX5_takeEntries_126 (by decide) (fun c44 => ?_) (fun c44 => ?_)
      · refine s_sub [1, 2, 3, 4, 5] rfl ?_
        exact sm_X5_takeEntries_J130 hK hf hlo hrc hk143 x23 x24 x25 x26 x27 h42
      · exact s_vret hK dX5_takeEntries_129
theorem sm_X5_takeEntries_J93 {G : GC} {K : SC} (hK : SOK G K RX5 cX5_takeEntries 6 (none) "takeEntries" []) (hf : FR_X5_takeEntries ≤ (kR K).frames) (hlo : LO_X5_takeEntries ≤ (kR K).locals) {rc : Option Nat → Option Nat → Int32 → Int32 → AH → RS} (hrc : ∀ (y0 : Option Nat) (y1 : Option Nat) (y2 : Int32) (y3 : Int32) (h : AH), Sim G K 6 (rc y0 y1 y2 y3 h) h 42 [(0, va_rf y0), (1, va_rf y1), (2, .int y2), (3, .int y3)] []) {k143 : AH → RS} (hk143 : ∀  (h : AH), Sim G K 6 (k143  h) h 143 [] []) (x17 : Option Nat) (x18 : Option Nat) (x19 : Int32) (x20 : Int32) (x21 : Int32)  (h22 : AH) : Sim G K 6 (f_X5_takeEntries_J93 rc k143 x17 x18 x19 x20 x21 h22) h22 93 [(0, va_rf x17), (1, va_rf x18), (2, .int x19), (3, .int x20), (4, .int x21)] [] := by
  unfold f_X5_takeEntries_J93
  refine s_iconst (v := 0) hK dX5_takeEntries_93 rfl ?_
  exact sm_X5_takeEntries_J94 hK hf hlo hrc hk143 x17 x18 x19 x20 x21 0 h22
theorem sm_X5_takeEntries_L42 {G : GC} {K : SC} (hK : SOK G K RX5 cX5_takeEntries 6 (none) "takeEntries" []) (hf : FR_X5_takeEntries ≤ (kR K).frames) (hlo : LO_X5_takeEntries ≤ (kR K).locals) {k143 : AH → RS} (hk143 : ∀  (h : AH), Sim G K 6 (k143  h) h 143 [] []) : ∀ (n : Nat) (x8 : Option Nat) (x9 : Option Nat) (x10 : Int32) (x11 : Int32) (h12 : AH), Sim G K 6 (f_X5_takeEntries_L42 k143 n x8 x9 x10 x11 h12) h12 42 [(0, va_rf x8), (1, va_rf x9), (2, .int x10), (3, .int x11)] [] := by
  intro n
  induction n with
  | zero => intro x8 x9 x10 x11 h12; exact s_none
  | succ n ih =>
    intro x8 x9 x10 x11 h12
    rw [f_X5_takeEntries_L42]
    refine s_iload_n hK dX5_takeEntries_42 rfl 3 rfl ?_
    refine s_iload_n hK dX5_takeEntries_43 rfl 2 rfl ?_
    refine s_icmp_ge (tgt := 143) hK dX5_takeEntries_44 (by decide) (fun c54 => ?_) (fun c54 => ?_)
    · refine s_sub [] rfl ?_
      exact hk143  h12
    · refine s_aload_n hK dX5_takeEntries_47 rfl 1 rfl ?_
      refine s_gI hK fcX7 1 (Nat.le_of_ble_eq_true rfl) (Or.inr ⟨_, q933⟩) (Or.inl rfl) dX5_takeEntries_48 (fun v13 => ?_)
      refine s_iload_n hK dX5_takeEntries_51 rfl 3 rfl ?_
      refine s_iadd hK dX5_takeEntries_52 ?_
      refine s_istore (lv' := [(4, .int (v13 + x11)), (0, va_rf x8), (1, va_rf x9), (2, .int x10), (3, .int x11)]) hK dX5_takeEntries_53 (Nat.le_of_ble_eq_true rfl) rfl ?_
      refine s_aload_n hK dX5_takeEntries_55 rfl 1 rfl ?_
      refine s_gA hK fcX5 0 (Nat.le_of_ble_eq_true rfl) (Or.inl q1086) (Or.inl rfl) dX5_takeEntries_56 (fun v14 => ?_)
      refine s_iload hK dX5_takeEntries_59 0 rfl ?_
      refine s_rc (fun _ _ eo er => ?_)
      refine s_cI hK ho_n (cx_v (As := [.int (v13 + x11)]) (rest := []) hK dyX2_contains rfl q960 fcX2.1 q771 q772 q79 q773 eo er (ct_X2_contains hK.1 v14 (v13 + x11) h12) (Nat.le_trans (Nat.le_of_ble_eq_true rfl) hf) (Nat.le_trans (Nat.le_of_ble_eq_true rfl) hlo) rk_n (Nat.le_of_ble_eq_true rfl) dX5_takeEntries_61 rfl) (fun v16 h15 => ?_)
      refine s_if_eq (tgt := 93) hK dX5_takeEntries_64 (by decide) (fun c53 => ?_) (fun c53 => ?_)
      · refine s_sub [1, 2, 3, 4, 0] rfl ?_
        exact sm_X5_takeEntries_J93 hK hf hlo ih hk143 x8 x9 x10 x11 (v13 + x11) h15
      · refine s_aload_n hK dX5_takeEntries_67 rfl 1 rfl ?_
        refine s_gA hK fcX5 1 (Nat.le_of_ble_eq_true rfl) (Or.inl q1087) (Or.inl rfl) dX5_takeEntries_68 (fun v47 => ?_)
        refine s_iload hK dX5_takeEntries_71 0 rfl ?_
        refine s_iald hK dX5_takeEntries_73 (fun v48 => ?_)
        refine s_iconst (v := 1) hK dX5_takeEntries_74 rfl ?_
        refine s_icmp_eq (tgt := 93) hK dX5_takeEntries_75 (by decide) (fun c52 => ?_) (fun c52 => ?_)
        · refine s_sub [1, 2, 3, 4, 0] rfl ?_
          exact sm_X5_takeEntries_J93 hK hf hlo ih hk143 x8 x9 x10 x11 (v13 + x11) h15
        · refine s_aload_n hK dX5_takeEntries_78 rfl 1 rfl ?_
          refine s_gA hK fcX5 1 (Nat.le_of_ble_eq_true rfl) (Or.inl q1087) (Or.inl rfl) dX5_takeEntries_79 (fun v49 => ?_)
          refine s_iload hK dX5_takeEntries_82 0 rfl ?_
          refine s_iald hK dX5_takeEntries_84 (fun v50 => ?_)
          refine s_iconst (v := 2) hK dX5_takeEntries_85 rfl ?_
          refine s_icmp_eq (tgt := 93) hK dX5_takeEntries_86 (by decide) (fun c51 => ?_) (fun c51 => ?_)
          · refine s_sub [1, 2, 3, 4, 0] rfl ?_
            exact sm_X5_takeEntries_J93 hK hf hlo ih hk143 x8 x9 x10 x11 (v13 + x11) h15
          · refine s_iconst (v := 1) hK dX5_takeEntries_89 rfl ?_
            refine s_goto (tgt := 94) hK dX5_takeEntries_90 (by decide) ?_
            refine s_sub [1, 2, 3, 4, 0] rfl ?_
            exact sm_X5_takeEntries_J94 hK hf hlo ih hk143 x8 x9 x10 x11 (v13 + x11) 1 h15
theorem sm_X5_takeEntries_J39 {G : GC} {K : SC} (hK : SOK G K RX5 cX5_takeEntries 6 (none) "takeEntries" []) (hf : FR_X5_takeEntries ≤ (kR K).frames) (hlo : LO_X5_takeEntries ≤ (kR K).locals) (x4 : Option Nat) (x5 : Option Nat) (y6 : Int32) (h7 : AH) : Sim G K 6 (f_X5_takeEntries_J39 x4 x5 y6 h7) h7 39 [(0, va_rf x4), (1, va_rf x5)] [.int y6] := by
  unfold f_X5_takeEntries_J39
  refine s_istore_n (lv' := [(2, .int y6), (0, va_rf x4), (1, va_rf x5)]) hK dX5_takeEntries_39 rfl (Nat.le_of_ble_eq_true rfl) (flA (pre := [(0, va_rf x4)]) (suf := []) rfl rfl) ?_
  refine s_iconst (v := 0) hK dX5_takeEntries_40 rfl ?_
  refine s_istore_n (lv' := [(3, .int 0), (2, .int y6), (0, va_rf x4), (1, va_rf x5)]) hK dX5_takeEntries_41 rfl (Nat.le_of_ble_eq_true rfl) rfl ?_
  refine s_sub [2, 3, 1, 0] rfl ?_
  refine sm_X5_takeEntries_L42 hK hf hlo (fun h55 => ?_) FUEL x4 x5 y6 0 h7
  · exact s_vret hK dX5_takeEntries_143
theorem sm_X5_takeEntries {G : GC} {K : SC} (hK : SOK G K RX5 cX5_takeEntries 6 (none) "takeEntries" []) (hf : FR_X5_takeEntries ≤ (kR K).frames) (hlo : LO_X5_takeEntries ≤ (kR K).locals) (p0 : Option Nat) (p1 : Option Nat) (h : AH) : Sim G K 6 (f_X5_takeEntries p0 p1 h) h 0 [(0, va_rf p0), (1, va_rf p1)] [] := by
  unfold f_X5_takeEntries
  refine s_aload_n hK dX5_takeEntries_0 rfl 1 rfl ?_
  refine s_gI hK fcX7 3 (Nat.le_of_ble_eq_true rfl) (Or.inr ⟨_, q937⟩) (Or.inl rfl) dX5_takeEntries_1 (fun v1 => ?_)
  refine s_if_lt (tgt := 22) hK dX5_takeEntries_4 (by decide) (fun c60 => ?_) (fun c60 => ?_)
  · refine s_aload_n hK dX5_takeEntries_22 rfl 1 rfl ?_
    refine s_gI hK fcX7 2 (Nat.le_of_ble_eq_true rfl) (Or.inr ⟨_, q935⟩) (Or.inl rfl) dX5_takeEntries_23 (fun v2 => ?_)
    refine s_iconst (v := (-1)) hK dX5_takeEntries_26 rfl ?_
    refine s_icmp_ne (tgt := 35) hK dX5_takeEntries_27 (by decide) (fun c56 => ?_) (fun c56 => ?_)
    · refine s_aload_n hK dX5_takeEntries_35 rfl 1 rfl ?_
      refine s_gI hK fcX7 2 (Nat.le_of_ble_eq_true rfl) (Or.inr ⟨_, q935⟩) (Or.inl rfl) dX5_takeEntries_36 (fun v3 => ?_)
      exact sm_X5_takeEntries_J39 hK hf hlo p0 p1 v3 h
    · refine s_bipush (v := 8) hK dX5_takeEntries_30 rfl ?_
      refine s_goto (tgt := 39) hK dX5_takeEntries_32 (by decide) ?_
      exact sm_X5_takeEntries_J39 hK hf hlo p0 p1 8 h
  · refine s_aload_n hK dX5_takeEntries_7 rfl 0 rfl ?_
    refine s_aload_n hK dX5_takeEntries_8 rfl 1 rfl ?_
    refine s_aload_n hK dX5_takeEntries_9 rfl 1 rfl ?_
    refine s_gI hK fcX7 1 (Nat.le_of_ble_eq_true rfl) (Or.inr ⟨_, q933⟩) (Or.inl rfl) dX5_takeEntries_10 (fun v57 => ?_)
    refine s_aload_n hK dX5_takeEntries_13 rfl 1 rfl ?_
    refine s_gI hK fcX7 3 (Nat.le_of_ble_eq_true rfl) (Or.inr ⟨_, q937⟩) (Or.inl rfl) dX5_takeEntries_14 (fun v58 => ?_)
    refine s_iadd hK dX5_takeEntries_17 ?_
    refine s_rc (fun _ _ eo er => ?_)
    refine s_cV hK ho_n (cx_v (As := [va_rf p1, .int (v57 + v58)]) (rest := []) hK dyX5_takeEntry rfl q956 fcX5.1 q958 qs16 q103 q959 eo er (ct_X5_takeEntry hK.1 p0 p1 (v57 + v58) h) (Nat.le_trans (Nat.le_of_ble_eq_true rfl) hf) (Nat.le_trans (Nat.le_of_ble_eq_true rfl) hlo) rk_n (Nat.le_of_ble_eq_true rfl) dX5_takeEntries_18 rfl) (fun h59 => ?_)
    exact s_vret hK dX5_takeEntries_21
theorem ct_X5_takeEntries {G : GC} {l : Launch} (g : GOK G l) (p0 : Option Nat) (p1 : Option Nat) (h : AH) : CT G l yX5_takeEntries (Cond.code yX5_takeEntries cX5_takeEntries 6 (none)) 8 273 [va_rf p0, va_rf p1] (f_X5_takeEntries p0 p1 h) h :=
  CT.of g (by decide) (by simp only [ls_a, ls_i, ls_l, ls_n]; decide) (fun K _ hK hf hlo => by simp only [la_a, la_i, la_l, la_n]; exact sm_X5_takeEntries hK hf hlo p0 p1 h)
abbrev FR_X5_makeTable : Nat := 9
abbrev LO_X5_makeTable : Nat := 298
theorem dyX5_makeTable : DY yX5_makeTable 1 := ⟨⟨by decide, by decide⟩, by decide +kernel⟩
theorem sm_X5_makeTable_J263 {G : GC} {K : SC} (hK : SOK G K RX5 cX5_makeTable 10 (some (.object "CodeRecovery$Table")) "makeTable" []) (hf : FR_X5_makeTable ≤ (kR K).frames) (hlo : LO_X5_makeTable ≤ (kR K).locals) {rc : Option Nat → Int32 → Int32 → Int32 → Int32 → Int32 → Int32 → Int32 → AH → RS} (hrc : ∀ (y0 : Option Nat) (y1 : Int32) (y2 : Int32) (y3 : Int32) (y4 : Int32) (y5 : Int32) (y6 : Int32) (y7 : Int32) (h : AH), Sim G K 10 (rc y0 y1 y2 y3 y4 y5 y6 y7 h) h 23 [(0, va_rf y0), (1, .int y1), (2, .int y2), (3, .int y3), (4, .int y4), (5, .int y5), (6, .int y6), (7, .int y7)] []) {k269 : Option Nat → Int32 → Int32 → Int32 → AH → RS} (hk269 : ∀ (y0 : Option Nat) (y1 : Int32) (y2 : Int32) (y3 : Int32) (h : AH), Sim G K 10 (k269 y0 y1 y2 y3 h) h 269 [(0, va_rf y0), (1, .int y1), (3, .int y2), (4, .int y3)] []) (x33 : Option Nat) (x34 : Int32) (x35 : Int32) (x36 : Int32) (x37 : Int32) (x38 : Int32) (x39 : Int32) (x40 : Int32)  (h41 : AH) : Sim G K 10 (f_X5_makeTable_J263 rc k269 x33 x34 x35 x36 x37 x38 x39 x40 h41) h41 263 [(0, va_rf x33), (1, .int x34), (2, .int x35), (3, .int x36), (4, .int x37), (5, .int x38), (6, .int x39), (7, .int x40)] [] := by
  unfold f_X5_makeTable_J263
  refine s_iinc (j := 7) (v := 1) (lv' := [(7, .int (x40 + 1)), (0, va_rf x33), (1, .int x34), (2, .int x35), (3, .int x36), (4, .int x37), (5, .int x38), (6, .int x39)]) hK dX5_makeTable_263 rfl rfl (Nat.le_of_ble_eq_true rfl) rfl ?_
  refine s_goto (tgt := 23) hK dX5_makeTable_266 (by decide) ?_
  refine s_sub [1, 2, 3, 4, 5, 6, 7, 0] rfl ?_
  exact hrc x33 x34 x35 x36 x37 x38 x39 (x40 + 1) h41
theorem sm_X5_makeTable_J258 {G : GC} {K : SC} (hK : SOK G K RX5 cX5_makeTable 10 (some (.object "CodeRecovery$Table")) "makeTable" []) (hf : FR_X5_makeTable ≤ (kR K).frames) (hlo : LO_X5_makeTable ≤ (kR K).locals) {rc : Option Nat → Int32 → Int32 → Int32 → Int32 → Int32 → Int32 → Int32 → AH → RS} (hrc : ∀ (y0 : Option Nat) (y1 : Int32) (y2 : Int32) (y3 : Int32) (y4 : Int32) (y5 : Int32) (y6 : Int32) (y7 : Int32) (h : AH), Sim G K 10 (rc y0 y1 y2 y3 y4 y5 y6 y7 h) h 23 [(0, va_rf y0), (1, .int y1), (2, .int y2), (3, .int y3), (4, .int y4), (5, .int y5), (6, .int y6), (7, .int y7)] []) {k269 : Option Nat → Int32 → Int32 → Int32 → AH → RS} (hk269 : ∀ (y0 : Option Nat) (y1 : Int32) (y2 : Int32) (y3 : Int32) (h : AH), Sim G K 10 (k269 y0 y1 y2 y3 h) h 269 [(0, va_rf y0), (1, .int y1), (3, .int y2), (4, .int y3)] []) (x85 : Option Nat) (x86 : Int32) (x87 : Int32) (x88 : Int32) (x89 : Int32) (x90 : Int32) (y91 : Int32) (h92 : AH) : Sim G K 10 (f_X5_makeTable_J258 rc k269 x85 x86 x87 x88 x89 x90 y91 h92) h92 258 [(0, va_rf x85), (1, .int x86), (2, .int x87), (3, .int x88), (5, .int x89), (7, .int x90)] [.int y91] := by
  unfold f_X5_makeTable_J258
  refine s_istore (lv' := [(4, .int y91), (0, va_rf x85), (1, .int x86), (2, .int x87), (3, .int x88), (5, .int x89), (7, .int x90)]) hK dX5_makeTable_258 (Nat.le_of_ble_eq_true rfl) rfl ?_
  refine s_iconst (v := 0) hK dX5_makeTable_260 rfl ?_
  refine s_istore (lv' := [(6, .int 0), (4, .int y91), (0, va_rf x85), (1, .int x86), (2, .int x87), (3, .int x88), (5, .int x89), (7, .int x90)]) hK dX5_makeTable_261 (Nat.le_of_ble_eq_true rfl) rfl ?_
  refine s_sub [2, 3, 4, 5, 1, 6, 0, 7] rfl ?_
  exact sm_X5_makeTable_J263 hK hf hlo hrc hk269 x85 x86 x87 x88 y91 x89 0 x90 h92
theorem sm_X5_makeTable_J238 {G : GC} {K : SC} (hK : SOK G K RX5 cX5_makeTable 10 (some (.object "CodeRecovery$Table")) "makeTable" []) (hf : FR_X5_makeTable ≤ (kR K).frames) (hlo : LO_X5_makeTable ≤ (kR K).locals) {rc : Option Nat → Int32 → Int32 → Int32 → Int32 → Int32 → Int32 → Int32 → AH → RS} (hrc : ∀ (y0 : Option Nat) (y1 : Int32) (y2 : Int32) (y3 : Int32) (y4 : Int32) (y5 : Int32) (y6 : Int32) (y7 : Int32) (h : AH), Sim G K 10 (rc y0 y1 y2 y3 y4 y5 y6 y7 h) h 23 [(0, va_rf y0), (1, .int y1), (2, .int y2), (3, .int y3), (4, .int y4), (5, .int y5), (6, .int y6), (7, .int y7)] []) {k269 : Option Nat → Int32 → Int32 → Int32 → AH → RS} (hk269 : ∀ (y0 : Option Nat) (y1 : Int32) (y2 : Int32) (y3 : Int32) (h : AH), Sim G K 10 (k269 y0 y1 y2 y3 h) h 269 [(0, va_rf y0), (1, .int y1), (3, .int y2), (4, .int y3)] []) (x76 : Option Nat) (x77 : Int32) (x78 : Int32) (x79 : Int32) (x80 : Int32) (x81 : Int32) (x82 : Int32) (y83 : Int32) (h84 : AH) : Sim G K 10 (f_X5_makeTable_J238 rc k269 x76 x77 x78 x79 x80 x81 x82 y83 h84) h84 238 [(0, va_rf x76), (1, .int x77), (2, .int x78), (4, .int x79), (5, .int x80), (7, .int x81), (8, .int x82)] [.int y83] := by
  unfold f_X5_makeTable_J238
  refine s_istore_n (lv' := [(3, .int y83), (0, va_rf x76), (1, .int x77), (2, .int x78), (4, .int x79), (5, .int x80), (7, .int x81), (8, .int x82)]) hK dX5_makeTable_238 rfl (Nat.le_of_ble_eq_true rfl) rfl ?_
  refine s_iload hK dX5_makeTable_239 7 rfl ?_
  refine s_if_eq (tgt := 256) hK dX5_makeTable_241 (by decide) (fun c96 => ?_) (fun c96 => ?_)
  · refine s_iload hK dX5_makeTable_256 4 rfl ?_
    refine s_sub [1, 2, 3, 0, 5, 6] rfl ?_
    exact sm_X5_makeTable_J258 hK hf hlo hrc hk269 x76 x77 x78 y83 x80 x81 x79 h84
  · refine s_aload_n hK dX5_makeTable_244 rfl 1 rfl ?_
    refine s_gA hK fcX5 0 (Nat.le_of_ble_eq_true rfl) (Or.inl q1086) (Or.inl rfl) dX5_makeTable_245 (fun v93 => ?_)
    refine s_iload hK dX5_makeTable_248 5 rfl ?_
    refine s_rc (fun _ _ eo er => ?_)
    refine s_cI hK ho_n (cx_v (As := [.int x80]) (rest := []) hK dyX2_operand rfl q915 fcX2.1 q798 q799 q79 q800 eo er (ct_X2_operand hK.1 v93 x80 h84) (Nat.le_trans (Nat.le_of_ble_eq_true rfl) hf) (Nat.le_trans (Nat.le_of_ble_eq_true rfl) hlo) rk_n (Nat.le_of_ble_eq_true rfl) dX5_makeTable_250 rfl) (fun v95 h94 => ?_)
    refine s_goto (tgt := 258) hK dX5_makeTable_253 (by decide) ?_
    refine s_sub [1, 2, 3, 0, 5, 6] rfl ?_
    exact sm_X5_makeTable_J258 hK hf hlo hrc hk269 x76 x77 x78 y83 x80 x81 v95 h94
theorem sm_X5_makeTable_J216 {G : GC} {K : SC} (hK : SOK G K RX5 cX5_makeTable 10 (some (.object "CodeRecovery$Table")) "makeTable" []) (hf : FR_X5_makeTable ≤ (kR K).frames) (hlo : LO_X5_makeTable ≤ (kR K).locals) {rc : Option Nat → Int32 → Int32 → Int32 → Int32 → Int32 → Int32 → Int32 → AH → RS} (hrc : ∀ (y0 : Option Nat) (y1 : Int32) (y2 : Int32) (y3 : Int32) (y4 : Int32) (y5 : Int32) (y6 : Int32) (y7 : Int32) (h : AH), Sim G K 10 (rc y0 y1 y2 y3 y4 y5 y6 y7 h) h 23 [(0, va_rf y0), (1, .int y1), (2, .int y2), (3, .int y3), (4, .int y4), (5, .int y5), (6, .int y6), (7, .int y7)] []) {k269 : Option Nat → Int32 → Int32 → Int32 → AH → RS} (hk269 : ∀ (y0 : Option Nat) (y1 : Int32) (y2 : Int32) (y3 : Int32) (h : AH), Sim G K 10 (k269 y0 y1 y2 y3 h) h 269 [(0, va_rf y0), (1, .int y1), (3, .int y2), (4, .int y3)] []) (x66 : Option Nat) (x67 : Int32) (x68 : Int32) (x69 : Int32) (x70 : Int32) (x71 : Int32) (x72 : Int32) (x73 : Int32) (y74 : Int32) (h75 : AH) : Sim G K 10 (f_X5_makeTable_J216 rc k269 x66 x67 x68 x69 x70 x71 x72 x73 y74 h75) h75 216 [(0, va_rf x66), (1, .int x67), (2, .int x68), (3, .int x69), (4, .int x70), (5, .int x71), (7, .int x72), (8, .int x73)] [.int y74] := by
  unfold f_X5_makeTable_J216
  refine s_istore (lv' := [(9, .int y74), (0, va_rf x66), (1, .int x67), (2, .int x68), (3, .int x69), (4, .int x70), (5, .int x71), (7, .int x72), (8, .int x73)]) hK dX5_makeTable_216 (Nat.le_of_ble_eq_true rfl) rfl ?_
  refine s_iload hK dX5_makeTable_218 0 rfl ?_
  refine s_if_eq (tgt := 237) hK dX5_makeTable_220 (by decide) (fun c100 => ?_) (fun c100 => ?_)
  · refine s_iload_n hK dX5_makeTable_237 rfl 4 rfl ?_
    refine s_sub [1, 2, 3, 5, 6, 7, 8] rfl ?_
    exact sm_X5_makeTable_J238 hK hf hlo hrc hk269 x66 x67 x68 x70 x71 x72 x73 x69 h75
  · refine s_aload_n hK dX5_makeTable_223 rfl 1 rfl ?_
    refine s_gA hK fcX5 0 (Nat.le_of_ble_eq_true rfl) (Or.inl q1086) (Or.inl rfl) dX5_makeTable_224 (fun v97 => ?_)
    refine s_iload hK dX5_makeTable_227 6 rfl ?_
    refine s_rc (fun _ _ eo er => ?_)
    refine s_cI hK ho_n (cx_v (As := [.int x71]) (rest := []) hK dyX2_operand rfl q915 fcX2.1 q798 q799 q79 q800 eo er (ct_X2_operand hK.1 v97 x71 h75) (Nat.le_trans (Nat.le_of_ble_eq_true rfl) hf) (Nat.le_trans (Nat.le_of_ble_eq_true rfl) hlo) rk_n (Nat.le_of_ble_eq_true rfl) dX5_makeTable_229 rfl) (fun v99 h98 => ?_)
    refine s_iconst (v := 1) hK dX5_makeTable_232 rfl ?_
    refine s_iadd hK dX5_makeTable_233 ?_
    refine s_goto (tgt := 238) hK dX5_makeTable_234 (by decide) ?_
    refine s_sub [1, 2, 3, 5, 6, 7, 8] rfl ?_
    exact sm_X5_makeTable_J238 hK hf hlo hrc hk269 x66 x67 x68 x70 x71 x72 x73 (v99 + 1) h98
theorem sm_X5_makeTable_J211 {G : GC} {K : SC} (hK : SOK G K RX5 cX5_makeTable 10 (some (.object "CodeRecovery$Table")) "makeTable" []) (hf : FR_X5_makeTable ≤ (kR K).frames) (hlo : LO_X5_makeTable ≤ (kR K).locals) {rc : Option Nat → Int32 → Int32 → Int32 → Int32 → Int32 → Int32 → Int32 → AH → RS} (hrc : ∀ (y0 : Option Nat) (y1 : Int32) (y2 : Int32) (y3 : Int32) (y4 : Int32) (y5 : Int32) (y6 : Int32) (y7 : Int32) (h : AH), Sim G K 10 (rc y0 y1 y2 y3 y4 y5 y6 y7 h) h 23 [(0, va_rf y0), (1, .int y1), (2, .int y2), (3, .int y3), (4, .int y4), (5, .int y5), (6, .int y6), (7, .int y7)] []) {k269 : Option Nat → Int32 → Int32 → Int32 → AH → RS} (hk269 : ∀ (y0 : Option Nat) (y1 : Int32) (y2 : Int32) (y3 : Int32) (h : AH), Sim G K 10 (k269 y0 y1 y2 y3 h) h 269 [(0, va_rf y0), (1, .int y1), (3, .int y2), (4, .int y3)] []) (x57 : Option Nat) (x58 : Int32) (x59 : Int32) (x60 : Int32) (x61 : Int32) (x62 : Int32) (x63 : Int32) (x64 : Int32)  (h65 : AH) : Sim G K 10 (f_X5_makeTable_J211 rc k269 x57 x58 x59 x60 x61 x62 x63 x64 h65) h65 211 [(0, va_rf x57), (1, .int x58), (2, .int x59), (3, .int x60), (4, .int x61), (5, .int x62), (7, .int x63), (8, .int x64)] [] := by
  unfold f_X5_makeTable_J211
  refine s_iconst (v := 1) hK dX5_makeTable_211 rfl ?_
  refine s_goto (tgt := 216) hK dX5_makeTable_212 (by decide) ?_
  exact sm_X5_makeTable_J216 hK hf hlo hrc hk269 x57 x58 x59 x60 x61 x62 x63 x64 1 h65
theorem sm_X5_makeTable_J190 {G : GC} {K : SC} (hK : SOK G K RX5 cX5_makeTable 10 (some (.object "CodeRecovery$Table")) "makeTable" []) (hf : FR_X5_makeTable ≤ (kR K).frames) (hlo : LO_X5_makeTable ≤ (kR K).locals) {rc : Option Nat → Int32 → Int32 → Int32 → Int32 → Int32 → Int32 → Int32 → AH → RS} (hrc : ∀ (y0 : Option Nat) (y1 : Int32) (y2 : Int32) (y3 : Int32) (y4 : Int32) (y5 : Int32) (y6 : Int32) (y7 : Int32) (h : AH), Sim G K 10 (rc y0 y1 y2 y3 y4 y5 y6 y7 h) h 23 [(0, va_rf y0), (1, .int y1), (2, .int y2), (3, .int y3), (4, .int y4), (5, .int y5), (6, .int y6), (7, .int y7)] []) {k269 : Option Nat → Int32 → Int32 → Int32 → AH → RS} (hk269 : ∀ (y0 : Option Nat) (y1 : Int32) (y2 : Int32) (y3 : Int32) (h : AH), Sim G K 10 (k269 y0 y1 y2 y3 h) h 269 [(0, va_rf y0), (1, .int y1), (3, .int y2), (4, .int y3)] []) (x48 : Option Nat) (x49 : Int32) (x50 : Int32) (x51 : Int32) (x52 : Int32) (x53 : Int32) (x54 : Int32) (y55 : Int32) (h56 : AH) : Sim G K 10 (f_X5_makeTable_J190 rc k269 x48 x49 x50 x51 x52 x53 x54 y55 h56) h56 190 [(0, va_rf x48), (1, .int x49), (2, .int x50), (3, .int x51), (4, .int x52), (5, .int x53), (7, .int x54)] [.int y55] := by
  unfold f_X5_makeTable_J190
  refine s_istore (lv' := [(8, .int y55), (0, va_rf x48), (1, .int x49), (2, .int x50), (3, .int x51), (4, .int x52), (5, .int x53), (7, .int x54)]) hK dX5_makeTable_190 (Nat.le_of_ble_eq_true rfl) rfl ?_
  refine s_iload hK dX5_makeTable_192 0 rfl ?_
  refine s_if_ne (tgt := 211) hK dX5_makeTable_194 (by decide) (fun c105 => ?_) (fun c105 => ?_)
  · refine s_sub [1, 2, 3, 4, 5, 6, 7, 0] rfl ?_
    exact sm_X5_makeTable_J211 hK hf hlo hrc hk269 x48 x49 x50 x51 x52 x53 x54 y55 h56
  · refine s_aload_n hK dX5_makeTable_197 rfl 1 rfl ?_
    refine s_gA hK fcX5 0 (Nat.le_of_ble_eq_true rfl) (Or.inl q1086) (Or.inl rfl) dX5_makeTable_198 (fun v101 => ?_)
    refine s_iload hK dX5_makeTable_201 6 rfl ?_
    refine s_rc (fun _ _ eo er => ?_)
    refine s_cI hK ho_n (cx_v (As := [.int x53]) (rest := []) hK dyX2_kind rfl q898 fcX2.1 q778 q779 q79 q780 eo er (ct_X2_kind hK.1 v101 x53 h56) (Nat.le_trans (Nat.le_of_ble_eq_true rfl) hf) (Nat.le_trans (Nat.le_of_ble_eq_true rfl) hlo) rk_n (Nat.le_of_ble_eq_true rfl) dX5_makeTable_203 rfl) (fun v103 h102 => ?_)
    refine s_bipush (v := 12) hK dX5_makeTable_206 rfl ?_
    refine s_icmp_ne (tgt := 215) hK dX5_makeTable_208 (by decide) (fun c104 => ?_) (fun c104 => ?_)
    · refine s_iconst (v := 0) hK dX5_makeTable_215 rfl ?_
      refine s_sub [1, 2, 3, 4, 5, 6, 7, 0] rfl ?_
      exact sm_X5_makeTable_J216 hK hf hlo hrc hk269 x48 x49 x50 x51 x52 x53 x54 y55 0 h102
    · refine s_sub [1, 2, 3, 4, 5, 6, 7, 0] rfl ?_
      exact sm_X5_makeTable_J211 hK hf hlo hrc hk269 x48 x49 x50 x51 x52 x53 x54 y55 h102
theorem sm_X5_makeTable_J154 {G : GC} {K : SC} (hK : SOK G K RX5 cX5_makeTable 10 (some (.object "CodeRecovery$Table")) "makeTable" []) (hf : FR_X5_makeTable ≤ (kR K).frames) (hlo : LO_X5_makeTable ≤ (kR K).locals) {rc : Option Nat → Int32 → Int32 → Int32 → Int32 → Int32 → Int32 → Int32 → AH → RS} (hrc : ∀ (y0 : Option Nat) (y1 : Int32) (y2 : Int32) (y3 : Int32) (y4 : Int32) (y5 : Int32) (y6 : Int32) (y7 : Int32) (h : AH), Sim G K 10 (rc y0 y1 y2 y3 y4 y5 y6 y7 h) h 23 [(0, va_rf y0), (1, .int y1), (2, .int y2), (3, .int y3), (4, .int y4), (5, .int y5), (6, .int y6), (7, .int y7)] []) {k269 : Option Nat → Int32 → Int32 → Int32 → AH → RS} (hk269 : ∀ (y0 : Option Nat) (y1 : Int32) (y2 : Int32) (y3 : Int32) (h : AH), Sim G K 10 (k269 y0 y1 y2 y3 h) h 269 [(0, va_rf y0), (1, .int y1), (3, .int y2), (4, .int y3)] []) (x24 : Option Nat) (x25 : Int32) (x26 : Int32) (x27 : Int32) (x28 : Int32) (x29 : Int32) (x30 : Int32) (x31 : Int32)  (h32 : AH) : Sim G K 10 (f_X5_makeTable_J154 rc k269 x24 x25 x26 x27 x28 x29 x30 x31 h32) h32 154 [(0, va_rf x24), (1, .int x25), (2, .int x26), (3, .int x27), (4, .int x28), (5, .int x29), (6, .int x30), (7, .int x31)] [] := by
  unfold f_X5_makeTable_J154
  refine s_iload hK dX5_makeTable_154 6 rfl ?_
  refine s_if_eq (tgt := 263) hK dX5_makeTable_156 (by decide) (fun c108 => ?_) (fun c108 => ?_)
  · exact sm_X5_makeTable_J263 hK hf hlo hrc hk269 x24 x25 x26 x27 x28 x29 x30 x31 h32
  · refine s_aload_n hK dX5_makeTable_159 rfl 0 rfl ?_
    refine s_gA hK fcX5 0 (Nat.le_of_ble_eq_true rfl) (Or.inl q1086) (Or.inl rfl) dX5_makeTable_160 (fun v42 => ?_)
    refine s_iload hK dX5_makeTable_163 5 rfl ?_
    refine s_iload_n hK dX5_makeTable_165 rfl 2 rfl ?_
    refine s_rc (fun _ _ eo er => ?_)
    refine s_cI hK ho_n (cx_v (As := [.int x29, .int x26]) (rest := []) hK dyX2_changes rfl q916 fcX2.1 q917 q918 q79 q919 eo er (ct_X2_changes hK.1 v42 x29 x26 h32) (Nat.le_trans (Nat.le_of_ble_eq_true rfl) hf) (Nat.le_trans (Nat.le_of_ble_eq_true rfl) hlo) rk_n (Nat.le_of_ble_eq_true rfl) dX5_makeTable_166 rfl) (fun v44 h43 => ?_)
    refine s_if_eq (tgt := 263) hK dX5_makeTable_169 (by decide) (fun c107 => ?_) (fun c107 => ?_)
    · exact sm_X5_makeTable_J263 hK hf hlo hrc hk269 x24 x25 x26 x27 x28 x29 x30 x31 h43
    · refine s_aload_n hK dX5_makeTable_172 rfl 0 rfl ?_
      refine s_gA hK fcX5 0 (Nat.le_of_ble_eq_true rfl) (Or.inl q1086) (Or.inl rfl) dX5_makeTable_173 (fun v45 => ?_)
      refine s_iload hK dX5_makeTable_176 5 rfl ?_
      refine s_rc (fun _ _ eo er => ?_)
      refine s_cI hK ho_n (cx_v (As := [.int x29]) (rest := []) hK dyX2_kind rfl q898 fcX2.1 q778 q779 q79 q780 eo er (ct_X2_kind hK.1 v45 x29 h43) (Nat.le_trans (Nat.le_of_ble_eq_true rfl) hf) (Nat.le_trans (Nat.le_of_ble_eq_true rfl) hlo) rk_n (Nat.le_of_ble_eq_true rfl) dX5_makeTable_178 rfl) (fun v47 h46 => ?_)
      refine s_iconst (v := 1) hK dX5_makeTable_181 rfl ?_
      refine s_icmp_ne (tgt := 189) hK dX5_makeTable_182 (by decide) (fun c106 => ?_) (fun c106 => ?_)
      · refine s_iconst (v := 0) hK dX5_makeTable_189 rfl ?_
        refine s_sub [0, 1, 2, 3, 4, 5, 7] rfl ?_
        exact sm_X5_makeTable_J190 hK hf hlo hrc hk269 x24 x25 x26 x27 x28 x29 x31 0 h46
      · refine s_iconst (v := 1) hK dX5_makeTable_185 rfl ?_
        refine s_goto (tgt := 190) hK dX5_makeTable_186 (by decide) ?_
        refine s_sub [0, 1, 2, 3, 4, 5, 7] rfl ?_
        exact sm_X5_makeTable_J190 hK hf hlo hrc hk269 x24 x25 x26 x27 x28 x29 x31 1 h46
theorem sm_X5_makeTable_J149 {G : GC} {K : SC} (hK : SOK G K RX5 cX5_makeTable 10 (some (.object "CodeRecovery$Table")) "makeTable" []) (hf : FR_X5_makeTable ≤ (kR K).frames) (hlo : LO_X5_makeTable ≤ (kR K).locals) {rc : Option Nat → Int32 → Int32 → Int32 → Int32 → Int32 → Int32 → Int32 → AH → RS} (hrc : ∀ (y0 : Option Nat) (y1 : Int32) (y2 : Int32) (y3 : Int32) (y4 : Int32) (y5 : Int32) (y6 : Int32) (y7 : Int32) (h : AH), Sim G K 10 (rc y0 y1 y2 y3 y4 y5 y6 y7 h) h 23 [(0, va_rf y0), (1, .int y1), (2, .int y2), (3, .int y3), (4, .int y4), (5, .int y5), (6, .int y6), (7, .int y7)] []) {k269 : Option Nat → Int32 → Int32 → Int32 → AH → RS} (hk269 : ∀ (y0 : Option Nat) (y1 : Int32) (y2 : Int32) (y3 : Int32) (h : AH), Sim G K 10 (k269 y0 y1 y2 y3 h) h 269 [(0, va_rf y0), (1, .int y1), (3, .int y2), (4, .int y3)] []) (x142 : Option Nat) (x143 : Int32) (x144 : Int32) (x145 : Int32) (x146 : Int32) (x147 : Int32) (x148 : Int32) (y149 : Int32) (h150 : AH) : Sim G K 10 (f_X5_makeTable_J149 rc k269 x142 x143 x144 x145 x146 x147 x148 y149 h150) h150 149 [(0, va_rf x142), (1, .int x143), (2, .int x144), (3, .int x145), (4, .int x146), (5, .int x147), (7, .int x148)] [.int y149] := by
  unfold f_X5_makeTable_J149
  refine s_istore (lv' := [(6, .int y149), (0, va_rf x142), (1, .int x143), (2, .int x144), (3, .int x145), (4, .int x146), (5, .int x147), (7, .int x148)]) hK dX5_makeTable_149 (Nat.le_of_ble_eq_true rfl) rfl ?_
  refine s_goto (tgt := 263) hK dX5_makeTable_151 (by decide) ?_
  refine s_sub [1, 2, 3, 4, 5, 6, 0, 7] rfl ?_
  exact sm_X5_makeTable_J263 hK hf hlo hrc hk269 x142 x143 x144 x145 x146 x147 y149 x148 h150
theorem sm_X5_makeTable_J138 {G : GC} {K : SC} (hK : SOK G K RX5 cX5_makeTable 10 (some (.object "CodeRecovery$Table")) "makeTable" []) (hf : FR_X5_makeTable ≤ (kR K).frames) (hlo : LO_X5_makeTable ≤ (kR K).locals) {rc : Option Nat → Int32 → Int32 → Int32 → Int32 → Int32 → Int32 → Int32 → AH → RS} (hrc : ∀ (y0 : Option Nat) (y1 : Int32) (y2 : Int32) (y3 : Int32) (y4 : Int32) (y5 : Int32) (y6 : Int32) (y7 : Int32) (h : AH), Sim G K 10 (rc y0 y1 y2 y3 y4 y5 y6 y7 h) h 23 [(0, va_rf y0), (1, .int y1), (2, .int y2), (3, .int y3), (4, .int y4), (5, .int y5), (6, .int y6), (7, .int y7)] []) {k269 : Option Nat → Int32 → Int32 → Int32 → AH → RS} (hk269 : ∀ (y0 : Option Nat) (y1 : Int32) (y2 : Int32) (y3 : Int32) (h : AH), Sim G K 10 (k269 y0 y1 y2 y3 h) h 269 [(0, va_rf y0), (1, .int y1), (3, .int y2), (4, .int y3)] []) (x133 : Option Nat) (x134 : Int32) (x135 : Int32) (x136 : Int32) (x137 : Int32) (x138 : Int32) (x139 : Int32) (y140 : Int32) (h141 : AH) : Sim G K 10 (f_X5_makeTable_J138 rc k269 x133 x134 x135 x136 x137 x138 x139 y140 h141) h141 138 [(0, va_rf x133), (1, .int x134), (2, .int x135), (4, .int x136), (5, .int x137), (7, .int x138), (9, .int x139)] [.int y140] := by
  unfold f_X5_makeTable_J138
  refine s_istore_n (lv' := [(3, .int y140), (0, va_rf x133), (1, .int x134), (2, .int x135), (4, .int x136), (5, .int x137), (7, .int x138), (9, .int x139)]) hK dX5_makeTable_138 rfl (Nat.le_of_ble_eq_true rfl) rfl ?_
  refine s_iload hK dX5_makeTable_139 7 rfl ?_
  refine s_if_ne (tgt := 148) hK dX5_makeTable_141 (by decide) (fun c151 => ?_) (fun c151 => ?_)
  · refine s_iconst (v := 0) hK dX5_makeTable_148 rfl ?_
    refine s_sub [1, 2, 3, 0, 4, 5, 6] rfl ?_
    exact sm_X5_makeTable_J149 hK hf hlo hrc hk269 x133 x134 x135 y140 x136 x137 x138 0 h141
  · refine s_iconst (v := 1) hK dX5_makeTable_144 rfl ?_
    refine s_goto (tgt := 149) hK dX5_makeTable_145 (by decide) ?_
    refine s_sub [1, 2, 3, 0, 4, 5, 6] rfl ?_
    exact sm_X5_makeTable_J149 hK hf hlo hrc hk269 x133 x134 x135 y140 x136 x137 x138 1 h141
theorem sm_X5_makeTable_J118 {G : GC} {K : SC} (hK : SOK G K RX5 cX5_makeTable 10 (some (.object "CodeRecovery$Table")) "makeTable" []) (hf : FR_X5_makeTable ≤ (kR K).frames) (hlo : LO_X5_makeTable ≤ (kR K).locals) {rc : Option Nat → Int32 → Int32 → Int32 → Int32 → Int32 → Int32 → Int32 → AH → RS} (hrc : ∀ (y0 : Option Nat) (y1 : Int32) (y2 : Int32) (y3 : Int32) (y4 : Int32) (y5 : Int32) (y6 : Int32) (y7 : Int32) (h : AH), Sim G K 10 (rc y0 y1 y2 y3 y4 y5 y6 y7 h) h 23 [(0, va_rf y0), (1, .int y1), (2, .int y2), (3, .int y3), (4, .int y4), (5, .int y5), (6, .int y6), (7, .int y7)] []) {k269 : Option Nat → Int32 → Int32 → Int32 → AH → RS} (hk269 : ∀ (y0 : Option Nat) (y1 : Int32) (y2 : Int32) (y3 : Int32) (h : AH), Sim G K 10 (k269 y0 y1 y2 y3 h) h 269 [(0, va_rf y0), (1, .int y1), (3, .int y2), (4, .int y3)] []) (x123 : Option Nat) (x124 : Int32) (x125 : Int32) (x126 : Int32) (x127 : Int32) (x128 : Int32) (x129 : Int32) (x130 : Int32) (y131 : Int32) (h132 : AH) : Sim G K 10 (f_X5_makeTable_J118 rc k269 x123 x124 x125 x126 x127 x128 x129 x130 y131 h132) h132 118 [(0, va_rf x123), (1, .int x124), (2, .int x125), (3, .int x126), (4, .int x127), (5, .int x128), (7, .int x129), (8, .int x130)] [.int y131] := by
  unfold f_X5_makeTable_J118
  refine s_istore (lv' := [(9, .int y131), (0, va_rf x123), (1, .int x124), (2, .int x125), (3, .int x126), (4, .int x127), (5, .int x128), (7, .int x129), (8, .int x130)]) hK dX5_makeTable_118 (Nat.le_of_ble_eq_true rfl) rfl ?_
  refine s_iload hK dX5_makeTable_120 0 rfl ?_
  refine s_if_eq (tgt := 137) hK dX5_makeTable_122 (by decide) (fun c155 => ?_) (fun c155 => ?_)
  · refine s_iload_n hK dX5_makeTable_137 rfl 4 rfl ?_
    refine s_sub [1, 2, 3, 5, 6, 7, 0] rfl ?_
    exact sm_X5_makeTable_J138 hK hf hlo hrc hk269 x123 x124 x125 x127 x128 x129 y131 x126 h132
  · refine s_aload_n hK dX5_makeTable_125 rfl 1 rfl ?_
    refine s_gA hK fcX5 0 (Nat.le_of_ble_eq_true rfl) (Or.inl q1086) (Or.inl rfl) dX5_makeTable_126 (fun v152 => ?_)
    refine s_iload hK dX5_makeTable_129 8 rfl ?_
    refine s_rc (fun _ _ eo er => ?_)
    refine s_cI hK ho_n (cx_v (As := [.int x130]) (rest := []) hK dyX2_operand rfl q915 fcX2.1 q798 q799 q79 q800 eo er (ct_X2_operand hK.1 v152 x130 h132) (Nat.le_trans (Nat.le_of_ble_eq_true rfl) hf) (Nat.le_trans (Nat.le_of_ble_eq_true rfl) hlo) rk_n (Nat.le_of_ble_eq_true rfl) dX5_makeTable_131 rfl) (fun v154 h153 => ?_)
    refine s_goto (tgt := 138) hK dX5_makeTable_134 (by decide) ?_
    refine s_sub [1, 2, 3, 5, 6, 7, 0] rfl ?_
    exact sm_X5_makeTable_J138 hK hf hlo hrc hk269 x123 x124 x125 x127 x128 x129 y131 v154 h153
theorem sm_X5_makeTable_J117 {G : GC} {K : SC} (hK : SOK G K RX5 cX5_makeTable 10 (some (.object "CodeRecovery$Table")) "makeTable" []) (hf : FR_X5_makeTable ≤ (kR K).frames) (hlo : LO_X5_makeTable ≤ (kR K).locals) {rc : Option Nat → Int32 → Int32 → Int32 → Int32 → Int32 → Int32 → Int32 → AH → RS} (hrc : ∀ (y0 : Option Nat) (y1 : Int32) (y2 : Int32) (y3 : Int32) (y4 : Int32) (y5 : Int32) (y6 : Int32) (y7 : Int32) (h : AH), Sim G K 10 (rc y0 y1 y2 y3 y4 y5 y6 y7 h) h 23 [(0, va_rf y0), (1, .int y1), (2, .int y2), (3, .int y3), (4, .int y4), (5, .int y5), (6, .int y6), (7, .int y7)] []) {k269 : Option Nat → Int32 → Int32 → Int32 → AH → RS} (hk269 : ∀ (y0 : Option Nat) (y1 : Int32) (y2 : Int32) (y3 : Int32) (h : AH), Sim G K 10 (k269 y0 y1 y2 y3 h) h 269 [(0, va_rf y0), (1, .int y1), (3, .int y2), (4, .int y3)] []) (x114 : Option Nat) (x115 : Int32) (x116 : Int32) (x117 : Int32) (x118 : Int32) (x119 : Int32) (x120 : Int32) (x121 : Int32)  (h122 : AH) : Sim G K 10 (f_X5_makeTable_J117 rc k269 x114 x115 x116 x117 x118 x119 x120 x121 h122) h122 117 [(0, va_rf x114), (1, .int x115), (2, .int x116), (3, .int x117), (4, .int x118), (5, .int x119), (7, .int x120), (8, .int x121)] [] := by
  unfold f_X5_makeTable_J117
  refine s_iconst (v := 0) hK dX5_makeTable_117 rfl ?_
  exact sm_X5_makeTable_J118 hK hf hlo hrc hk269 x114 x115 x116 x117 x118 x119 x120 x121 0 h122
theorem sm_X5_makeTable_J53 {G : GC} {K : SC} (hK : SOK G K RX5 cX5_makeTable 10 (some (.object "CodeRecovery$Table")) "makeTable" []) (hf : FR_X5_makeTable ≤ (kR K).frames) (hlo : LO_X5_makeTable ≤ (kR K).locals) {rc : Option Nat → Int32 → Int32 → Int32 → Int32 → Int32 → Int32 → Int32 → AH → RS} (hrc : ∀ (y0 : Option Nat) (y1 : Int32) (y2 : Int32) (y3 : Int32) (y4 : Int32) (y5 : Int32) (y6 : Int32) (y7 : Int32) (h : AH), Sim G K 10 (rc y0 y1 y2 y3 y4 y5 y6 y7 h) h 23 [(0, va_rf y0), (1, .int y1), (2, .int y2), (3, .int y3), (4, .int y4), (5, .int y5), (6, .int y6), (7, .int y7)] []) {k269 : Option Nat → Int32 → Int32 → Int32 → AH → RS} (hk269 : ∀ (y0 : Option Nat) (y1 : Int32) (y2 : Int32) (y3 : Int32) (h : AH), Sim G K 10 (k269 y0 y1 y2 y3 h) h 269 [(0, va_rf y0), (1, .int y1), (3, .int y2), (4, .int y3)] []) (x15 : Option Nat) (x16 : Int32) (x17 : Int32) (x18 : Int32) (x19 : Int32) (x20 : Int32) (x21 : Int32) (y22 : Int32) (h23 : AH) : Sim G K 10 (f_X5_makeTable_J53 rc k269 x15 x16 x17 x18 x19 x20 x21 y22 h23) h23 53 [(0, va_rf x15), (1, .int x16), (2, .int x17), (3, .int x18), (4, .int x19), (5, .int x20), (7, .int x21)] [.int y22] := by
  unfold f_X5_makeTable_J53
  refine s_istore (lv' := [(6, .int y22), (0, va_rf x15), (1, .int x16), (2, .int x17), (3, .int x18), (4, .int x19), (5, .int x20), (7, .int x21)]) hK dX5_makeTable_53 (Nat.le_of_ble_eq_true rfl) rfl ?_
  refine s_iload hK dX5_makeTable_55 0 rfl ?_
  refine s_if_eq (tgt := 154) hK dX5_makeTable_57 (by decide) (fun c166 => ?_) (fun c166 => ?_)
  · refine s_sub [1, 2, 3, 4, 5, 6, 0, 7] rfl ?_
    exact sm_X5_makeTable_J154 hK hf hlo hrc hk269 x15 x16 x17 x18 x19 x20 y22 x21 h23
  · refine s_aload_n hK dX5_makeTable_60 rfl 1 rfl ?_
    refine s_gA hK fcX5 0 (Nat.le_of_ble_eq_true rfl) (Or.inl q1086) (Or.inl rfl) dX5_makeTable_61 (fun v109 => ?_)
    refine s_iload hK dX5_makeTable_64 6 rfl ?_
    refine s_rc (fun _ _ eo er => ?_)
    refine s_cI hK ho_n (cx_v (As := [.int x20]) (rest := []) hK dyX2_kind rfl q898 fcX2.1 q778 q779 q79 q780 eo er (ct_X2_kind hK.1 v109 x20 h23) (Nat.le_trans (Nat.le_of_ble_eq_true rfl) hf) (Nat.le_trans (Nat.le_of_ble_eq_true rfl) hlo) rk_n (Nat.le_of_ble_eq_true rfl) dX5_makeTable_66 rfl) (fun v111 h110 => ?_)
    refine s_bipush (v := 6) hK dX5_makeTable_69 rfl ?_
    refine s_icmp_ne (tgt := 154) hK dX5_makeTable_71 (by decide) (fun c165 => ?_) (fun c165 => ?_)
    · refine s_sub [1, 2, 3, 4, 5, 6, 0, 7] rfl ?_
      exact sm_X5_makeTable_J154 hK hf hlo hrc hk269 x15 x16 x17 x18 x19 x20 y22 x21 h110
    · refine s_aload_n hK dX5_makeTable_74 rfl 1 rfl ?_
      refine s_iload hK dX5_makeTable_75 6 rfl ?_
      refine s_rc (fun _ _ eo er => ?_)
      refine s_cI hK ho_n (cx_v (As := [.int x20]) (rest := []) hK dyX5_before rfl q907 fcX5.1 q909 qs14 q103 q910 eo er (ct_X5_before hK.1 x15 x20 h110) (Nat.le_trans (Nat.le_of_ble_eq_true rfl) hf) (Nat.le_trans (Nat.le_of_ble_eq_true rfl) hlo) rk_n (Nat.le_of_ble_eq_true rfl) dX5_makeTable_77 rfl) (fun v113 h112 => ?_)
      refine s_istore (lv' := [(8, .int v113), (6, .int y22), (0, va_rf x15), (1, .int x16), (2, .int x17), (3, .int x18), (4, .int x19), (5, .int x20), (7, .int x21)]) hK dX5_makeTable_80 (Nat.le_of_ble_eq_true rfl) rfl ?_
      refine s_iload hK dX5_makeTable_82 0 rfl ?_
      refine s_if_lt (tgt := 117) hK dX5_makeTable_84 (by decide) (fun c164 => ?_) (fun c164 => ?_)
      · refine s_sub [2, 3, 4, 5, 6, 7, 8, 0] rfl ?_
        exact sm_X5_makeTable_J117 hK hf hlo hrc hk269 x15 x16 x17 x18 x19 x20 x21 v113 h112
      · refine s_aload_n hK dX5_makeTable_87 rfl 2 rfl ?_
        refine s_gA hK fcX5 0 (Nat.le_of_ble_eq_true rfl) (Or.inl q1086) (Or.inl rfl) dX5_makeTable_88 (fun v156 => ?_)
        refine s_iload hK dX5_makeTable_91 0 rfl ?_
        refine s_rc (fun _ _ eo er => ?_)
        refine s_cI hK ho_n (cx_v (As := [.int v113]) (rest := []) hK dyX2_kind rfl q898 fcX2.1 q778 q779 q79 q780 eo er (ct_X2_kind hK.1 v156 v113 h112) (Nat.le_trans (Nat.le_of_ble_eq_true rfl) hf) (Nat.le_trans (Nat.le_of_ble_eq_true rfl) hlo) rk_n (Nat.le_of_ble_eq_true rfl) dX5_makeTable_93 rfl) (fun v158 h157 => ?_)
        refine s_iconst (v := 3) hK dX5_makeTable_96 rfl ?_
        refine s_icmp_ne (tgt := 117) hK dX5_makeTable_97 (by decide) (fun c163 => ?_) (fun c163 => ?_)
        · refine s_sub [2, 3, 4, 5, 6, 7, 8, 0] rfl ?_
          exact sm_X5_makeTable_J117 hK hf hlo hrc hk269 x15 x16 x17 x18 x19 x20 x21 v113 h157
        · refine s_aload_n hK dX5_makeTable_100 rfl 2 rfl ?_
          refine s_gA hK fcX5 0 (Nat.le_of_ble_eq_true rfl) (Or.inl q1086) (Or.inl rfl) dX5_makeTable_101 (fun v159 => ?_)
          refine s_iload hK dX5_makeTable_104 0 rfl ?_
          refine s_rc (fun _ _ eo er => ?_)
          refine s_cI hK ho_n (cx_v (As := [.int v113]) (rest := []) hK dyX2_first rfl q903 fcX2.1 q904 q905 q79 q906 eo er (ct_X2_first hK.1 v159 v113 h157) (Nat.le_trans (Nat.le_of_ble_eq_true rfl) hf) (Nat.le_trans (Nat.le_of_ble_eq_true rfl) hlo) rk_n (Nat.le_of_ble_eq_true rfl) dX5_makeTable_106 rfl) (fun v161 h160 => ?_)
          refine s_iload_n hK dX5_makeTable_109 rfl 4 rfl ?_
          refine s_icmp_ne (tgt := 117) hK dX5_makeTable_110 (by decide) (fun c162 => ?_) (fun c162 => ?_)
          · refine s_sub [2, 3, 4, 5, 6, 7, 8, 0] rfl ?_
            exact sm_X5_makeTable_J117 hK hf hlo hrc hk269 x15 x16 x17 x18 x19 x20 x21 v113 h160
          · refine s_iconst (v := 1) hK dX5_makeTable_113 rfl ?_
            refine s_goto (tgt := 118) hK dX5_makeTable_114 (by decide) ?_
            refine s_sub [2, 3, 4, 5, 6, 7, 8, 0] rfl ?_
            exact sm_X5_makeTable_J118 hK hf hlo hrc hk269 x15 x16 x17 x18 x19 x20 x21 v113 1 h160
theorem sm_X5_makeTable_L23 {G : GC} {K : SC} (hK : SOK G K RX5 cX5_makeTable 10 (some (.object "CodeRecovery$Table")) "makeTable" []) (hf : FR_X5_makeTable ≤ (kR K).frames) (hlo : LO_X5_makeTable ≤ (kR K).locals) {k269 : Option Nat → Int32 → Int32 → Int32 → AH → RS} (hk269 : ∀ (y0 : Option Nat) (y1 : Int32) (y2 : Int32) (y3 : Int32) (h : AH), Sim G K 10 (k269 y0 y1 y2 y3 h) h 269 [(0, va_rf y0), (1, .int y1), (3, .int y2), (4, .int y3)] []) : ∀ (n : Nat) (x4 : Option Nat) (x5 : Int32) (x6 : Int32) (x7 : Int32) (x8 : Int32) (x9 : Int32) (x10 : Int32) (x11 : Int32) (h12 : AH), Sim G K 10 (f_X5_makeTable_L23 k269 n x4 x5 x6 x7 x8 x9 x10 x11 h12) h12 23 [(0, va_rf x4), (1, .int x5), (2, .int x6), (3, .int x7), (4, .int x8), (5, .int x9), (6, .int x10), (7, .int x11)] [] := by
  intro n
  induction n with
  | zero => intro x4 x5 x6 x7 x8 x9 x10 x11 h12; exact s_none
  | succ n ih =>
    intro x4 x5 x6 x7 x8 x9 x10 x11 h12
    rw [f_X5_makeTable_L23]
    refine s_iload hK dX5_makeTable_23 7 rfl ?_
    refine s_bipush (v := 6) hK dX5_makeTable_25 rfl ?_
    refine s_icmp_ge (tgt := 269) hK dX5_makeTable_27 (by decide) (fun c169 => ?_) (fun c169 => ?_)
    · refine s_sub [0, 1, 3, 4] rfl ?_
      exact hk269 x4 x5 x7 x8 h12
    · refine s_iload hK dX5_makeTable_30 6 rfl ?_
      refine s_if_eq (tgt := 269) hK dX5_makeTable_32 (by decide) (fun c168 => ?_) (fun c168 => ?_)
      · refine s_sub [0, 1, 3, 4] rfl ?_
        exact hk269 x4 x5 x7 x8 h12
      · refine s_aload_n hK dX5_makeTable_35 rfl 0 rfl ?_
        refine s_iload hK dX5_makeTable_36 5 rfl ?_
        refine s_rc (fun _ _ eo er => ?_)
        refine s_cI hK ho_n (cx_v (As := [.int x9]) (rest := []) hK dyX5_before rfl q907 fcX5.1 q909 qs14 q103 q910 eo er (ct_X5_before hK.1 x4 x9 h12) (Nat.le_trans (Nat.le_of_ble_eq_true rfl) hf) (Nat.le_trans (Nat.le_of_ble_eq_true rfl) hlo) rk_n (Nat.le_of_ble_eq_true rfl) dX5_makeTable_38 rfl) (fun v14 h13 => ?_)
        refine s_istore (lv' := [(5, .int v14), (0, va_rf x4), (1, .int x5), (2, .int x6), (3, .int x7), (4, .int x8), (6, .int x10), (7, .int x11)]) hK dX5_makeTable_41 (Nat.le_of_ble_eq_true rfl) rfl ?_
        refine s_iload hK dX5_makeTable_43 0 rfl ?_
        refine s_if_lt (tgt := 52) hK dX5_makeTable_45 (by decide) (fun c167 => ?_) (fun c167 => ?_)
        · refine s_iconst (v := 0) hK dX5_makeTable_52 rfl ?_
          refine s_sub [1, 2, 3, 4, 5, 0, 7] rfl ?_
          exact sm_X5_makeTable_J53 hK hf hlo ih hk269 x4 x5 x6 x7 x8 v14 x11 0 h13
        · refine s_iconst (v := 1) hK dX5_makeTable_48 rfl ?_
          refine s_goto (tgt := 53) hK dX5_makeTable_49 (by decide) ?_
          refine s_sub [1, 2, 3, 4, 5, 0, 7] rfl ?_
          exact sm_X5_makeTable_J53 hK hf hlo ih hk269 x4 x5 x6 x7 x8 v14 x11 1 h13
theorem sm_X5_makeTable_J297 {G : GC} {K : SC} (hK : SOK G K RX5 cX5_makeTable 10 (some (.object "CodeRecovery$Table")) "makeTable" []) (hf : FR_X5_makeTable ≤ (kR K).frames) (hlo : LO_X5_makeTable ≤ (kR K).locals) (x185 : Option Nat) (x186 : Int32) (y187 : Int32) (y188 : Int32) (y189 : Int32) (y190 : Option Nat) (y191 : Option Nat) (h192 : AH) : Sim G K 10 (f_X5_makeTable_J297 x185 x186 y187 y188 y189 y190 y191 h192) h192 297 [(0, va_rf x185), (4, .int x186)] [.int y187, .int y188, .int y189, va_rf y190, va_rf y191] := by
  unfold f_X5_makeTable_J297
  refine s_iload hK dX5_makeTable_297 1 rfl ?_
  refine s_nn (fun _ eo => ?_)
  refine s_cV hK ho_n (cx_i (As := [.int y189, .int y188, .int y187, .int x186]) (rest := [va_rf y191]) hK dyX7_init rfl q924 rfl q925 q112 q926 eo (ct_X7_init hK.1 y190 y189 y188 y187 x186 h192) (Nat.le_trans (Nat.le_of_ble_eq_true rfl) hf) (Nat.le_trans (Nat.le_of_ble_eq_true rfl) hlo) (rk_a rk_n) (Nat.le_of_ble_eq_true rfl) dX5_makeTable_299 rfl) (fun h193 => ?_)
  refine s_astore (lv' := [(7, va_rf y191), (0, va_rf x185), (4, .int x186)]) hK dX5_makeTable_302 (Nat.le_of_ble_eq_true rfl) rfl ?_
  refine s_aload_n hK dX5_makeTable_304 rfl 1 rfl ?_
  refine s_aload hK dX5_makeTable_305 0 rfl ?_
  refine s_rc (fun _ _ eo er => ?_)
  refine s_cV hK ho_n (cx_v (As := [va_rf y191]) (rest := []) hK dyX5_takeEntries rfl q952 fcX5.1 q954 qs15 q103 q955 eo er (ct_X5_takeEntries hK.1 x185 y191 h193) (Nat.le_trans (Nat.le_of_ble_eq_true rfl) hf) (Nat.le_trans (Nat.le_of_ble_eq_true rfl) hlo) rk_n (Nat.le_of_ble_eq_true rfl) dX5_makeTable_307 rfl) (fun h194 => ?_)
  refine s_aload hK dX5_makeTable_310 0 rfl ?_
  exact s_aret hK (Or.inl ⟨_, rfl⟩) dX5_makeTable_312
theorem sm_X5_makeTable_J269 {G : GC} {K : SC} (hK : SOK G K RX5 cX5_makeTable 10 (some (.object "CodeRecovery$Table")) "makeTable" []) (hf : FR_X5_makeTable ≤ (kR K).frames) (hlo : LO_X5_makeTable ≤ (kR K).locals) (x175 : Option Nat) (x176 : Int32) (x177 : Int32) (x178 : Int32)  (h179 : AH) : Sim G K 10 (f_X5_makeTable_J269 x175 x176 x177 x178 h179) h179 269 [(0, va_rf x175), (1, .int x176), (3, .int x177), (4, .int x178)] [] := by
  unfold f_X5_makeTable_J269
  refine s_new hK fcX7 q921 q922 q112 fsX7_ok dX5_makeTable_269 (fun a180 h181 => ?_)
  refine s_dup hK dX5_makeTable_272 (va_cat _) ?_
  refine s_iload_n hK dX5_makeTable_273 rfl 1 rfl ?_
  refine s_aload_n hK dX5_makeTable_274 rfl 0 rfl ?_
  refine s_gA hK fcX5 0 (Nat.le_of_ble_eq_true rfl) (Or.inl q1086) (Or.inl rfl) dX5_makeTable_275 (fun v182 => ?_)
  refine s_iload_n hK dX5_makeTable_278 rfl 1 rfl ?_
  refine s_rc (fun _ _ eo er => ?_)
  refine s_cI hK ho_n (cx_v (As := [.int x176]) (rest := [.int x176, va_rf a180, va_rf a180]) hK dyX2_operand rfl q915 fcX2.1 q798 q799 q79 q800 eo er (ct_X2_operand hK.1 v182 x176 h181) (Nat.le_trans (Nat.le_of_ble_eq_true rfl) hf) (Nat.le_trans (Nat.le_of_ble_eq_true rfl) hlo) (rk_i (rk_a (rk_a rk_n))) (Nat.le_of_ble_eq_true rfl) dX5_makeTable_279 rfl) (fun v184 h183 => ?_)
  refine s_iload_n hK dX5_makeTable_282 rfl 2 rfl ?_
  refine s_iconst (v := (-1)) hK dX5_makeTable_283 rfl ?_
  refine s_icmp_ne (tgt := 291) hK dX5_makeTable_284 (by decide) (fun c195 => ?_) (fun c195 => ?_)
  · refine s_iload_n hK dX5_makeTable_291 rfl 2 rfl ?_
    refine s_bipush (v := 16) hK dX5_makeTable_292 rfl ?_
    refine s_mmin hK q923 q434 q94 q435 (Nat.le_trans (Nat.le_of_ble_eq_true rfl) hf) (rk_i (rk_i (rk_a (rk_a rk_n)))) (Nat.le_trans (Nat.le_of_ble_eq_true rfl) hlo) dX5_makeTable_294 ?_
    refine s_sub [0, 3] rfl ?_
    exact sm_X5_makeTable_J297 hK hf hlo x175 x178 (mnI x177 16) v184 x176 a180 a180 h183
  · refine s_iload_n hK dX5_makeTable_287 rfl 2 rfl ?_
    refine s_goto (tgt := 297) hK dX5_makeTable_288 (by decide) ?_
    refine s_sub [0, 3] rfl ?_
    exact sm_X5_makeTable_J297 hK hf hlo x175 x178 x177 v184 x176 a180 a180 h183
theorem sm_X5_makeTable {G : GC} {K : SC} (hK : SOK G K RX5 cX5_makeTable 10 (some (.object "CodeRecovery$Table")) "makeTable" []) (hf : FR_X5_makeTable ≤ (kR K).frames) (hlo : LO_X5_makeTable ≤ (kR K).locals) (p0 : Option Nat) (p1 : Int32) (h : AH) : Sim G K 10 (f_X5_makeTable p0 p1 h) h 0 [(0, va_rf p0), (1, .int p1)] [] := by
  unfold f_X5_makeTable
  refine s_aload_n hK dX5_makeTable_0 rfl 0 rfl ?_
  refine s_gA hK fcX5 0 (Nat.le_of_ble_eq_true rfl) (Or.inl q1086) (Or.inl rfl) dX5_makeTable_1 (fun v1 => ?_)
  refine s_iload_n hK dX5_makeTable_4 rfl 1 rfl ?_
  refine s_rc (fun _ _ eo er => ?_)
  refine s_cI hK ho_n (cx_v (As := [.int p1]) (rest := []) hK dyX2_first rfl q903 fcX2.1 q904 q905 q79 q906 eo er (ct_X2_first hK.1 v1 p1 h) (Nat.le_trans (Nat.le_of_ble_eq_true rfl) hf) (Nat.le_trans (Nat.le_of_ble_eq_true rfl) hlo) rk_n (Nat.le_of_ble_eq_true rfl) dX5_makeTable_5 rfl) (fun v3 h2 => ?_)
  refine s_istore_n (lv' := [(2, .int v3), (0, va_rf p0), (1, .int p1)]) hK dX5_makeTable_8 rfl (Nat.le_of_ble_eq_true rfl) rfl ?_
  refine s_iconst (v := (-1)) hK dX5_makeTable_9 rfl ?_
  refine s_istore_n (lv' := [(3, .int (-1)), (2, .int v3), (0, va_rf p0), (1, .int p1)]) hK dX5_makeTable_10 rfl (Nat.le_of_ble_eq_true rfl) rfl ?_
  refine s_iconst (v := (-1)) hK dX5_makeTable_11 rfl ?_
  refine s_istore (lv' := [(4, .int (-1)), (3, .int (-1)), (2, .int v3), (0, va_rf p0), (1, .int p1)]) hK dX5_makeTable_12 (Nat.le_of_ble_eq_true rfl) rfl ?_
  refine s_iload_n hK dX5_makeTable_14 rfl 4 rfl ?_
  refine s_istore (lv' := [(5, .int p1), (4, .int (-1)), (3, .int (-1)), (2, .int v3), (0, va_rf p0), (1, .int p1)]) hK dX5_makeTable_15 (Nat.le_of_ble_eq_true rfl) rfl ?_
  refine s_iconst (v := 1) hK dX5_makeTable_17 rfl ?_
  refine s_istore (lv' := [(6, .int 1), (5, .int p1), (4, .int (-1)), (3, .int (-1)), (2, .int v3), (0, va_rf p0), (1, .int p1)]) hK dX5_makeTable_18 (Nat.le_of_ble_eq_true rfl) rfl ?_
  refine s_iconst (v := 0) hK dX5_makeTable_20 rfl ?_
  refine s_istore (lv' := [(7, .int 0), (6, .int 1), (5, .int p1), (4, .int (-1)), (3, .int (-1)), (2, .int v3), (0, va_rf p0), (1, .int p1)]) hK dX5_makeTable_21 (Nat.le_of_ble_eq_true rfl) rfl ?_
  refine s_sub [6, 7, 5, 4, 3, 2, 1, 0] rfl ?_
  refine sm_X5_makeTable_L23 hK hf hlo (fun x170 x171 x172 x173 h174 => ?_) FUEL p0 p1 v3 (-1) (-1) p1 1 0 h2
  · exact sm_X5_makeTable_J269 hK hf hlo x170 x171 x172 x173 h174
theorem ct_X5_makeTable {G : GC} {l : Launch} (g : GOK G l) (p0 : Option Nat) (p1 : Int32) (h : AH) : CT G l yX5_makeTable (Cond.code yX5_makeTable cX5_makeTable 10 (some (.object "CodeRecovery$Table"))) 9 298 [va_rf p0, .int p1] (f_X5_makeTable p0 p1 h) h :=
  CT.of g (by decide) (by simp only [ls_a, ls_i, ls_l, ls_n]; decide) (fun K _ hK hf hlo => by simp only [la_a, la_i, la_l, la_n]; exact sm_X5_makeTable hK hf hlo p0 p1 h)
abbrev FR_X5_follow : Nat := 10
abbrev LO_X5_follow : Nat := 327
theorem dyX5_follow : DY yX5_follow 1 := ⟨⟨by decide, by decide⟩, by decide +kernel⟩
theorem sm_X5_follow_J64 {G : GC} {K : SC} (hK : SOK G K RX5 cX5_follow 4 (some (.int)) "follow" []) (hf : FR_X5_follow ≤ (kR K).frames) (hlo : LO_X5_follow ≤ (kR K).locals) (x11 : Option Nat) (x12 : Int32)  (h13 : AH) : Sim G K 4 (f_X5_follow_J64 x11 x12 h13) h13 64 [(0, va_rf x11), (1, .int x12)] [] := by
  unfold f_X5_follow_J64
  refine s_aload_n hK dX5_follow_64 rfl 0 rfl ?_
  refine s_gA hK fcX5 3 (Nat.le_of_ble_eq_true rfl) (Or.inl q1090) (Or.inl rfl) dX5_follow_65 (fun v14 => ?_)
  refine s_iload_n hK dX5_follow_68 rfl 1 rfl ?_
  refine s_cA hK ho_n (cx_s (As := [.int x12]) (rest := [va_rf v14]) hK dyJ9_valueOf rfl q288 q289 q91 q290 (ct_J9_valueOf hK.1 x12 h13) (Nat.le_trans (Nat.le_of_ble_eq_true rfl) hf) (Nat.le_trans (Nat.le_of_ble_eq_true rfl) hlo) (rk_a rk_n) (Nat.le_of_ble_eq_true rfl) dX5_follow_69 rfl) (fun v16 h15 => ?_)
  refine s_rc (fun _ _ eo er => ?_)
  refine s_cI hK ho_n (cx_v (As := [va_rf v16]) (rest := []) hK dyX6_add rfl q801 fcX6.1 q802 q803 q105 q804 eo er (ct_X6_add hK.1 v14 v16 h15) (Nat.le_trans (Nat.le_of_ble_eq_true rfl) hf) (Nat.le_trans (Nat.le_of_ble_eq_true rfl) hlo) rk_n (Nat.le_of_ble_eq_true rfl) dX5_follow_72 rfl) (fun v18 h17 => ?_)
  refine s_pop hK dX5_follow_75 rfl ?_
  refine s_iconst (v := (-1)) hK dX5_follow_76 rfl ?_
  exact s_iret hK dX5_follow_77
theorem sm_X5_follow_J175 {G : GC} {K : SC} (hK : SOK G K RX5 cX5_follow 4 (some (.int)) "follow" []) (hf : FR_X5_follow ≤ (kR K).frames) (hlo : LO_X5_follow ≤ (kR K).locals) (x39 : Option Nat) (x40 : Int32) (x41 : Int32)  (h42 : AH) : Sim G K 4 (f_X5_follow_J175 x39 x40 x41 h42) h42 175 [(0, va_rf x39), (1, .int x40), (2, .int x41)] [] := by
  unfold f_X5_follow_J175
  refine s_aload_n hK dX5_follow_175 rfl 0 rfl ?_
  refine s_gA hK fcX5 0 (Nat.le_of_ble_eq_true rfl) (Or.inl q1086) (Or.inl rfl) dX5_follow_176 (fun v43 => ?_)
  refine s_iload_n hK dX5_follow_179 rfl 1 rfl ?_
  refine s_rc (fun _ _ eo er => ?_)
  refine s_cI hK ho_n (cx_v (As := [.int x40]) (rest := []) hK dyX2_endsFlow rfl q911 fcX2.1 q912 q913 q79 q914 eo er (ct_X2_endsFlow hK.1 v43 x40 h42) (Nat.le_trans (Nat.le_of_ble_eq_true rfl) hf) (Nat.le_trans (Nat.le_of_ble_eq_true rfl) hlo) rk_n (Nat.le_of_ble_eq_true rfl) dX5_follow_180 rfl) (fun v45 h44 => ?_)
  refine s_if_eq (tgt := 190) hK dX5_follow_183 (by decide) (fun c46 => ?_) (fun c46 => ?_)
  · refine s_iload_n hK dX5_follow_190 rfl 1 rfl ?_
    refine s_iload_n hK dX5_follow_191 rfl 2 rfl ?_
    refine s_iadd hK dX5_follow_192 ?_
    exact s_iret hK dX5_follow_193
  · refine s_iconst (v := (-1)) hK dX5_follow_186 rfl ?_
    refine s_goto (tgt := 193) hK dX5_follow_187 (by decide) ?_
    exact s_iret hK dX5_follow_193
theorem sm_X5_follow_J136 {G : GC} {K : SC} (hK : SOK G K RX5 cX5_follow 4 (some (.int)) "follow" []) (hf : FR_X5_follow ≤ (kR K).frames) (hlo : LO_X5_follow ≤ (kR K).locals) (x32 : Option Nat) (x33 : Int32) (x34 : Int32)  (h35 : AH) : Sim G K 4 (f_X5_follow_J136 x32 x33 x34 h35) h35 136 [(0, va_rf x32), (1, .int x33), (2, .int x34)] [] := by
  unfold f_X5_follow_J136
  refine s_aload_n hK dX5_follow_136 rfl 0 rfl ?_
  refine s_gA hK fcX5 0 (Nat.le_of_ble_eq_true rfl) (Or.inl q1086) (Or.inl rfl) dX5_follow_137 (fun v36 => ?_)
  refine s_iload_n hK dX5_follow_140 rfl 1 rfl ?_
  refine s_rc (fun _ _ eo er => ?_)
  refine s_cI hK ho_n (cx_v (As := [.int x33]) (rest := []) hK dyX2_kind rfl q898 fcX2.1 q778 q779 q79 q780 eo er (ct_X2_kind hK.1 v36 x33 h35) (Nat.le_trans (Nat.le_of_ble_eq_true rfl) hf) (Nat.le_trans (Nat.le_of_ble_eq_true rfl) hlo) rk_n (Nat.le_of_ble_eq_true rfl) dX5_follow_141 rfl) (fun v38 h37 => ?_)
  refine s_bipush (v := 9) hK dX5_follow_144 rfl ?_
  refine s_icmp_ne (tgt := 175) hK dX5_follow_146 (by decide) (fun c55 => ?_) (fun c55 => ?_)
  · exact sm_X5_follow_J175 hK hf hlo x32 x33 x34 h37
  · refine s_aload_n hK dX5_follow_149 rfl 0 rfl ?_
    refine s_iload_n hK dX5_follow_150 rfl 1 rfl ?_
    refine s_rc (fun _ _ eo er => ?_)
    refine s_cA hK ho_n (cx_v (As := [.int x33]) (rest := []) hK dyX5_makeTable rfl q899 fcX5.1 q901 qs13 q103 q902 eo er (ct_X5_makeTable hK.1 x32 x33 h37) (Nat.le_trans (Nat.le_of_ble_eq_true rfl) hf) (Nat.le_trans (Nat.le_of_ble_eq_true rfl) hlo) rk_n (Nat.le_of_ble_eq_true rfl) dX5_follow_151 rfl) (fun v48 h47 => ?_)
    refine s_astore_n (lv' := [(3, va_rf v48), (0, va_rf x32), (1, .int x33), (2, .int x34)]) hK dX5_follow_154 rfl (Nat.le_of_ble_eq_true rfl) rfl ?_
    refine s_aload_n hK dX5_follow_155 rfl 1 rfl ?_
    refine s_gA hK fcX5 5 (Nat.le_of_ble_eq_true rfl) (Or.inl q1094) (Or.inl rfl) dX5_follow_156 (fun v49 => ?_)
    refine s_aload_n hK dX5_follow_159 rfl 0 rfl ?_
    refine s_rc (fun _ _ eo er => ?_)
    refine s_cI hK ho_n (cx_v (As := [va_rf v48]) (rest := []) hK dyJ7_add rfl q961 fcJ7.1 q851 q852 q88 q853 eo er (ct_J7_add hK.1 v49 v48 h47) (Nat.le_trans (Nat.le_of_ble_eq_true rfl) hf) (Nat.le_trans (Nat.le_of_ble_eq_true rfl) hlo) rk_n (Nat.le_of_ble_eq_true rfl) dX5_follow_160 rfl) (fun v51 h50 => ?_)
    refine s_pop hK dX5_follow_163 rfl ?_
    refine s_aload_n hK dX5_follow_164 rfl 0 rfl ?_
    refine s_gA hK fcX7 4 (Nat.le_of_ble_eq_true rfl) (Or.inr ⟨_, q939⟩) (Or.inl rfl) dX5_follow_165 (fun v52 => ?_)
    refine s_aload_n hK dX5_follow_168 rfl 1 rfl ?_
    refine s_gA hK fcX5 2 (Nat.le_of_ble_eq_true rfl) (Or.inl q1089) (Or.inl rfl) dX5_follow_169 (fun v53 => ?_)
    refine s_cV hK ho_n (cx_sN (As := [va_rf v52, va_rf v53]) (rest := []) hK dyX1_addAll rfl q962 q963 q78 q964 (ct_X1_addAll hK.1 v52 v53 h50) (Nat.le_trans (Nat.le_of_ble_eq_true rfl) hf) (Nat.le_trans (Nat.le_of_ble_eq_true rfl) hlo) rk_n (Nat.le_of_ble_eq_true rfl) dX5_follow_172 rfl) (fun h54 => ?_)
    refine s_sub [1, 2, 3] rfl ?_
    exact sm_X5_follow_J175 hK hf hlo x32 x33 x34 h54
theorem sm_X5_follow_J107 {G : GC} {K : SC} (hK : SOK G K RX5 cX5_follow 4 (some (.int)) "follow" []) (hf : FR_X5_follow ≤ (kR K).frames) (hlo : LO_X5_follow ≤ (kR K).locals) (x25 : Option Nat) (x26 : Int32) (x27 : Int32)  (h28 : AH) : Sim G K 4 (f_X5_follow_J107 x25 x26 x27 h28) h28 107 [(0, va_rf x25), (1, .int x26), (2, .int x27)] [] := by
  unfold f_X5_follow_J107
  refine s_aload_n hK dX5_follow_107 rfl 0 rfl ?_
  refine s_gA hK fcX5 0 (Nat.le_of_ble_eq_true rfl) (Or.inl q1086) (Or.inl rfl) dX5_follow_108 (fun v29 => ?_)
  refine s_iload_n hK dX5_follow_111 rfl 1 rfl ?_
  refine s_rc (fun _ _ eo er => ?_)
  refine s_cI hK ho_n (cx_v (As := [.int x26]) (rest := []) hK dyX2_hasTarget rfl q896 fcX2.1 q790 q791 q79 q792 eo er (ct_X2_hasTarget hK.1 v29 x26 h28) (Nat.le_trans (Nat.le_of_ble_eq_true rfl) hf) (Nat.le_trans (Nat.le_of_ble_eq_true rfl) hlo) rk_n (Nat.le_of_ble_eq_true rfl) dX5_follow_112 rfl) (fun v31 h30 => ?_)
  refine s_if_eq (tgt := 136) hK dX5_follow_115 (by decide) (fun c63 => ?_) (fun c63 => ?_)
  · exact sm_X5_follow_J136 hK hf hlo x25 x26 x27 h30
  · refine s_aload_n hK dX5_follow_118 rfl 0 rfl ?_
    refine s_gA hK fcX5 2 (Nat.le_of_ble_eq_true rfl) (Or.inl q1089) (Or.inl rfl) dX5_follow_119 (fun v56 => ?_)
    refine s_aload_n hK dX5_follow_122 rfl 0 rfl ?_
    refine s_gA hK fcX5 0 (Nat.le_of_ble_eq_true rfl) (Or.inl q1086) (Or.inl rfl) dX5_follow_123 (fun v57 => ?_)
    refine s_iload_n hK dX5_follow_126 rfl 1 rfl ?_
    refine s_rc (fun _ _ eo er => ?_)
    refine s_cI hK ho_n (cx_v (As := [.int x26]) (rest := [va_rf v56]) hK dyX2_target rfl q897 fcX2.1 q794 q795 q79 q796 eo er (ct_X2_target hK.1 v57 x26 h30) (Nat.le_trans (Nat.le_of_ble_eq_true rfl) hf) (Nat.le_trans (Nat.le_of_ble_eq_true rfl) hlo) (rk_a rk_n) (Nat.le_of_ble_eq_true rfl) dX5_follow_127 rfl) (fun v59 h58 => ?_)
    refine s_cA hK ho_n (cx_s (As := [.int v59]) (rest := [va_rf v56]) hK dyJ9_valueOf rfl q288 q289 q91 q290 (ct_J9_valueOf hK.1 v59 h58) (Nat.le_trans (Nat.le_of_ble_eq_true rfl) hf) (Nat.le_trans (Nat.le_of_ble_eq_true rfl) hlo) (rk_a rk_n) (Nat.le_of_ble_eq_true rfl) dX5_follow_130 rfl) (fun v61 h60 => ?_)
    refine s_rc (fun _ _ eo er => ?_)
    refine s_cV hK ho_n (cx_v (As := [va_rf v61]) (rest := []) hK dyJ19_addLast rfl q308 fcJ19.1 q309 q310 q104 q311 eo er (ct_J19_addLast hK.1 v56 v61 h60) (Nat.le_trans (Nat.le_of_ble_eq_true rfl) hf) (Nat.le_trans (Nat.le_of_ble_eq_true rfl) hlo) rk_n (Nat.le_of_ble_eq_true rfl) dX5_follow_133 rfl) (fun h62 => ?_)
    exact sm_X5_follow_J136 hK hf hlo x25 x26 x27 h62
theorem sm_X5_follow {G : GC} {K : SC} (hK : SOK G K RX5 cX5_follow 4 (some (.int)) "follow" []) (hf : FR_X5_follow ≤ (kR K).frames) (hlo : LO_X5_follow ≤ (kR K).locals) (p0 : Option Nat) (p1 : Int32) (h : AH) : Sim G K 4 (f_X5_follow p0 p1 h) h 0 [(0, va_rf p0), (1, .int p1)] [] := by
  unfold f_X5_follow
  refine s_aload_n hK dX5_follow_0 rfl 0 rfl ?_
  refine s_iload_n hK dX5_follow_1 rfl 1 rfl ?_
  refine s_rc (fun _ _ eo er => ?_)
  refine s_cI hK ho_n (cx_v (As := [.int p1]) (rest := []) hK dyX5_isAccepted rfl q485 fcX5.1 q486 q487 q103 q488 eo er (ct_X5_isAccepted hK.1 p0 p1 h) (Nat.le_trans (Nat.le_of_ble_eq_true rfl) hf) (Nat.le_trans (Nat.le_of_ble_eq_true rfl) hlo) rk_n (Nat.le_of_ble_eq_true rfl) dX5_follow_2 rfl) (fun v2 h1 => ?_)
  refine s_if_eq (tgt := 10) hK dX5_follow_5 (by decide) (fun c75 => ?_) (fun c75 => ?_)
  · refine s_aload_n hK dX5_follow_10 rfl 0 rfl ?_
    refine s_gA hK fcX5 0 (Nat.le_of_ble_eq_true rfl) (Or.inl q1086) (Or.inl rfl) dX5_follow_11 (fun v3 => ?_)
    refine s_iload_n hK dX5_follow_14 rfl 1 rfl ?_
    refine s_rc (fun _ _ eo er => ?_)
    refine s_cI hK ho_n (cx_v (As := [.int p1]) (rest := []) hK dyX2_isValid rfl q766 fcX2.1 q767 q768 q79 q769 eo er (ct_X2_isValid hK.1 v3 p1 h1) (Nat.le_trans (Nat.le_of_ble_eq_true rfl) hf) (Nat.le_trans (Nat.le_of_ble_eq_true rfl) hlo) rk_n (Nat.le_of_ble_eq_true rfl) dX5_follow_15 rfl) (fun v5 h4 => ?_)
    refine s_if_ne (tgt := 35) hK dX5_follow_18 (by decide) (fun c74 => ?_) (fun c74 => ?_)
    · refine s_aload_n hK dX5_follow_35 rfl 0 rfl ?_
      refine s_gA hK fcX5 0 (Nat.le_of_ble_eq_true rfl) (Or.inl q1086) (Or.inl rfl) dX5_follow_36 (fun v6 => ?_)
      refine s_iload_n hK dX5_follow_39 rfl 1 rfl ?_
      refine s_rc (fun _ _ eo er => ?_)
      refine s_cI hK ho_n (cx_v (As := [.int p1]) (rest := []) hK dyX2_length rfl q870 fcX2.1 q782 q783 q79 q784 eo er (ct_X2_length hK.1 v6 p1 h4) (Nat.le_trans (Nat.le_of_ble_eq_true rfl) hf) (Nat.le_trans (Nat.le_of_ble_eq_true rfl) hlo) rk_n (Nat.le_of_ble_eq_true rfl) dX5_follow_40 rfl) (fun v8 h7 => ?_)
      refine s_istore_n (lv' := [(2, .int v8), (0, va_rf p0), (1, .int p1)]) hK dX5_follow_43 rfl (Nat.le_of_ble_eq_true rfl) rfl ?_
      refine s_aload_n hK dX5_follow_44 rfl 1 rfl ?_
      refine s_iload_n hK dX5_follow_45 rfl 2 rfl ?_
      refine s_rc (fun _ _ eo er => ?_)
      refine s_cI hK ho_n (cx_v (As := [.int p1]) (rest := []) hK dyX5_isTaken rfl q871 fcX5.1 q873 qs10 q103 q874 eo er (ct_X5_isTaken hK.1 p0 p1 h7) (Nat.le_trans (Nat.le_of_ble_eq_true rfl) hf) (Nat.le_trans (Nat.le_of_ble_eq_true rfl) hlo) rk_n (Nat.le_of_ble_eq_true rfl) dX5_follow_46 rfl) (fun v10 h9 => ?_)
      refine s_if_ne (tgt := 64) hK dX5_follow_49 (by decide) (fun c68 => ?_) (fun c68 => ?_)
      · refine s_sub [1, 2] rfl ?_
        exact sm_X5_follow_J64 hK hf hlo p0 p1 h9
      · refine s_aload_n hK dX5_follow_52 rfl 1 rfl ?_
        refine s_iload_n hK dX5_follow_53 rfl 2 rfl ?_
        refine s_iload_n hK dX5_follow_54 rfl 0 rfl ?_
        refine s_iadd hK dX5_follow_55 ?_
        refine s_iconst (v := 1) hK dX5_follow_56 rfl ?_
        refine s_isub hK dX5_follow_57 ?_
        refine s_rc (fun _ _ eo er => ?_)
        refine s_cI hK ho_n (cx_v (As := [.int ((p1 + v8) - 1)]) (rest := []) hK dyX5_isTaken rfl q871 fcX5.1 q873 qs10 q103 q874 eo er (ct_X5_isTaken hK.1 p0 ((p1 + v8) - 1) h9) (Nat.le_trans (Nat.le_of_ble_eq_true rfl) hf) (Nat.le_trans (Nat.le_of_ble_eq_true rfl) hlo) rk_n (Nat.le_of_ble_eq_true rfl) dX5_follow_58 rfl) (fun v20 h19 => ?_)
        refine s_if_eq (tgt := 78) hK dX5_follow_61 (by decide) (fun c67 => ?_) (fun c67 => ?_)
        · refine s_aload_n hK dX5_follow_78 rfl 1 rfl ?_
          refine s_gA hK fcX5 8 (Nat.le_of_ble_eq_true rfl) (Or.inl q1100) (Or.inl rfl) dX5_follow_79 (fun v21 => ?_)
          refine s_iload_n hK dX5_follow_82 rfl 2 rfl ?_
          refine s_rc (fun _ _ eo er => ?_)
          refine s_cV hK ho_n (cx_v (As := [.int p1]) (rest := []) hK dyJ20_set rfl q875 fcJ20.1 q876 q877 q106 q878 eo er (ct_J20_set hK.1 v21 p1 h19) (Nat.le_trans (Nat.le_of_ble_eq_true rfl) hf) (Nat.le_trans (Nat.le_of_ble_eq_true rfl) hlo) rk_n (Nat.le_of_ble_eq_true rfl) dX5_follow_83 rfl) (fun h22 => ?_)
          refine s_aload_n hK dX5_follow_86 rfl 1 rfl ?_
          refine s_gA hK fcX5 1 (Nat.le_of_ble_eq_true rfl) (Or.inl q1087) (Or.inl rfl) dX5_follow_87 (fun v23 => ?_)
          refine s_iload_n hK dX5_follow_90 rfl 2 rfl ?_
          refine s_iconst (v := 1) hK dX5_follow_91 rfl ?_
          refine s_iast hK dX5_follow_92 (fun h24 => ?_)
          refine s_iload_n hK dX5_follow_93 rfl 0 rfl ?_
          refine s_iconst (v := 2) hK dX5_follow_94 rfl ?_
          refine s_icmp_ne (tgt := 107) hK dX5_follow_95 (by decide) (fun c66 => ?_) (fun c66 => ?_)
          · refine s_sub [1, 2, 0] rfl ?_
            exact sm_X5_follow_J107 hK hf hlo p0 p1 v8 h24
          · refine s_aload_n hK dX5_follow_98 rfl 1 rfl ?_
            refine s_gA hK fcX5 1 (Nat.le_of_ble_eq_true rfl) (Or.inl q1087) (Or.inl rfl) dX5_follow_99 (fun v64 => ?_)
            refine s_iload_n hK dX5_follow_102 rfl 2 rfl ?_
            refine s_iconst (v := 1) hK dX5_follow_103 rfl ?_
            refine s_iadd hK dX5_follow_104 ?_
            refine s_iconst (v := 2) hK dX5_follow_105 rfl ?_
            refine s_iast hK dX5_follow_106 (fun h65 => ?_)
            refine s_sub [1, 2, 0] rfl ?_
            exact sm_X5_follow_J107 hK hf hlo p0 p1 v8 h65
        · refine s_sub [1, 2] rfl ?_
          exact sm_X5_follow_J64 hK hf hlo p0 p1 h19
    · refine s_aload_n hK dX5_follow_21 rfl 0 rfl ?_
      refine s_gA hK fcX5 4 (Nat.le_of_ble_eq_true rfl) (Or.inl q1092) (Or.inl rfl) dX5_follow_22 (fun v69 => ?_)
      refine s_iload_n hK dX5_follow_25 rfl 1 rfl ?_
      refine s_cA hK ho_n (cx_s (As := [.int p1]) (rest := [va_rf v69]) hK dyJ9_valueOf rfl q288 q289 q91 q290 (ct_J9_valueOf hK.1 p1 h4) (Nat.le_trans (Nat.le_of_ble_eq_true rfl) hf) (Nat.le_trans (Nat.le_of_ble_eq_true rfl) hlo) (rk_a rk_n) (Nat.le_of_ble_eq_true rfl) dX5_follow_26 rfl) (fun v71 h70 => ?_)
      refine s_rc (fun _ _ eo er => ?_)
      refine s_cI hK ho_n (cx_v (As := [va_rf v71]) (rest := []) hK dyX6_add rfl q801 fcX6.1 q802 q803 q105 q804 eo er (ct_X6_add hK.1 v69 v71 h70) (Nat.le_trans (Nat.le_of_ble_eq_true rfl) hf) (Nat.le_trans (Nat.le_of_ble_eq_true rfl) hlo) rk_n (Nat.le_of_ble_eq_true rfl) dX5_follow_29 rfl) (fun v73 h72 => ?_)
      refine s_pop hK dX5_follow_32 rfl ?_
      refine s_iconst (v := (-1)) hK dX5_follow_33 rfl ?_
      exact s_iret hK dX5_follow_34
  · refine s_iconst (v := (-1)) hK dX5_follow_8 rfl ?_
    exact s_iret hK dX5_follow_9
theorem ct_X5_follow {G : GC} {l : Launch} (g : GOK G l) (p0 : Option Nat) (p1 : Int32) (h : AH) : CT G l yX5_follow (Cond.code yX5_follow cX5_follow 4 (some (.int))) 10 327 [va_rf p0, .int p1] (f_X5_follow p0 p1 h) h :=
  CT.of g (by decide) (by simp only [ls_a, ls_i, ls_l, ls_n]; decide) (fun K _ hK hf hlo => by simp only [la_a, la_i, la_l, la_n]; exact sm_X5_follow hK hf hlo p0 p1 h)
abbrev FR_X5_findGaps : Nat := 7
abbrev LO_X5_findGaps : Nat := 251
theorem dyX5_findGaps : DY yX5_findGaps 0 := ⟨⟨by decide, by decide⟩, by decide +kernel⟩
theorem sm_X5_findGaps_J62 {G : GC} {K : SC} (hK : SOK G K RX5 cX5_findGaps 3 (none) "findGaps" []) (hf : FR_X5_findGaps ≤ (kR K).frames) (hlo : LO_X5_findGaps ≤ (kR K).locals) {rc : Option Nat → Int32 → Int32 → AH → RS} (hrc : ∀ (y0 : Option Nat) (y1 : Int32) (y2 : Int32) (h : AH), Sim G K 3 (rc y0 y1 y2 h) h 4 [(0, va_rf y0), (1, .int y1), (2, .int y2)] []) {k68 : AH → RS} (hk68 : ∀  (h : AH), Sim G K 3 (k68  h) h 68 [] []) (x18 : Option Nat) (x19 : Int32) (x20 : Int32)  (h21 : AH) : Sim G K 3 (f_X5_findGaps_J62 rc k68 x18 x19 x20 h21) h21 62 [(0, va_rf x18), (1, .int x19), (2, .int x20)] [] := by
  unfold f_X5_findGaps_J62
  refine s_iinc (j := 2) (v := 1) (lv' := [(2, .int (x20 + 1)), (0, va_rf x18), (1, .int x19)]) hK dX5_findGaps_62 rfl rfl (Nat.le_of_ble_eq_true rfl) rfl ?_
  refine s_goto (tgt := 4) hK dX5_findGaps_65 (by decide) ?_
  refine s_sub [1, 2, 0] rfl ?_
  exact hrc x18 x19 (x20 + 1) h21
theorem sm_X5_findGaps_J58 {G : GC} {K : SC} (hK : SOK G K RX5 cX5_findGaps 3 (none) "findGaps" []) (hf : FR_X5_findGaps ≤ (kR K).frames) (hlo : LO_X5_findGaps ≤ (kR K).locals) {rc : Option Nat → Int32 → Int32 → AH → RS} (hrc : ∀ (y0 : Option Nat) (y1 : Int32) (y2 : Int32) (h : AH), Sim G K 3 (rc y0 y1 y2 h) h 4 [(0, va_rf y0), (1, .int y1), (2, .int y2)] []) {k68 : AH → RS} (hk68 : ∀  (h : AH), Sim G K 3 (k68  h) h 68 [] []) (x15 : Option Nat) (x16 : Int32)  (h17 : AH) : Sim G K 3 (f_X5_findGaps_J58 rc k68 x15 x16 h17) h17 58 [(0, va_rf x15), (2, .int x16)] [] := by
  unfold f_X5_findGaps_J58
  refine s_iload_n hK dX5_findGaps_58 rfl 1 rfl ?_
  refine s_iconst (v := 1) hK dX5_findGaps_59 rfl ?_
  refine s_iadd hK dX5_findGaps_60 ?_
  refine s_istore_n (lv' := [(1, .int (x16 + 1)), (0, va_rf x15), (2, .int x16)]) hK dX5_findGaps_61 rfl (Nat.le_of_ble_eq_true rfl) (flA (pre := []) (suf := [(2, .int x16)]) rfl rfl) ?_
  refine s_sub [1, 0, 2] rfl ?_
  exact sm_X5_findGaps_J62 hK hf hlo hrc hk68 x15 (x16 + 1) x16 h17
theorem sm_X5_findGaps_J34 {G : GC} {K : SC} (hK : SOK G K RX5 cX5_findGaps 3 (none) "findGaps" []) (hf : FR_X5_findGaps ≤ (kR K).frames) (hlo : LO_X5_findGaps ≤ (kR K).locals) {rc : Option Nat → Int32 → Int32 → AH → RS} (hrc : ∀ (y0 : Option Nat) (y1 : Int32) (y2 : Int32) (h : AH), Sim G K 3 (rc y0 y1 y2 h) h 4 [(0, va_rf y0), (1, .int y1), (2, .int y2)] []) {k68 : AH → RS} (hk68 : ∀  (h : AH), Sim G K 3 (k68  h) h 68 [] []) (x11 : Option Nat) (x12 : Int32) (x13 : Int32)  (h14 : AH) : Sim G K 3 (f_X5_findGaps_J34 rc k68 x11 x12 x13 h14) h14 34 [(0, va_rf x11), (1, .int x12), (2, .int x13)] [] := by
  unfold f_X5_findGaps_J34
  refine s_iload_n hK dX5_findGaps_34 rfl 2 rfl ?_
  refine s_iload_n hK dX5_findGaps_35 rfl 1 rfl ?_
  refine s_icmp_le (tgt := 58) hK dX5_findGaps_36 (by decide) (fun c28 => ?_) (fun c28 => ?_)
  · refine s_sub [0, 2] rfl ?_
    exact sm_X5_findGaps_J58 hK hf hlo hrc hk68 x11 x13 h14
  · refine s_aload_n hK dX5_findGaps_39 rfl 0 rfl ?_
    refine s_gA hK fcX5 6 (Nat.le_of_ble_eq_true rfl) (Or.inl q1096) (Or.inl rfl) dX5_findGaps_40 (fun v22 => ?_)
    refine s_new hK fcX8 q999 q1000 q113 fsX8_ok dX5_findGaps_43 (fun a23 h24 => ?_)
    refine s_dup hK dX5_findGaps_46 (va_cat _) ?_
    refine s_iload_n hK dX5_findGaps_47 rfl 1 rfl ?_
    refine s_iload_n hK dX5_findGaps_48 rfl 2 rfl ?_
    refine s_iload_n hK dX5_findGaps_49 rfl 1 rfl ?_
    refine s_isub hK dX5_findGaps_50 ?_
    refine s_nn (fun _ eo => ?_)
    refine s_cV hK ho_n (cx_i (As := [.int x12, .int (x13 - x12)]) (rest := [va_rf a23, va_rf v22]) hK dyX8_init rfl q1001 rfl q1002 q113 q1003 eo (ct_X8_init hK.1 a23 x12 (x13 - x12) h24) (Nat.le_trans (Nat.le_of_ble_eq_true rfl) hf) (Nat.le_trans (Nat.le_of_ble_eq_true rfl) hlo) (rk_a (rk_a rk_n)) (Nat.le_of_ble_eq_true rfl) dX5_findGaps_51 rfl) (fun h25 => ?_)
    refine s_rc (fun _ _ eo er => ?_)
    refine s_cI hK ho_n (cx_v (As := [va_rf a23]) (rest := []) hK dyJ7_add rfl q961 fcJ7.1 q851 q852 q88 q853 eo er (ct_J7_add hK.1 v22 a23 h25) (Nat.le_trans (Nat.le_of_ble_eq_true rfl) hf) (Nat.le_trans (Nat.le_of_ble_eq_true rfl) hlo) rk_n (Nat.le_of_ble_eq_true rfl) dX5_findGaps_54 rfl) (fun v27 h26 => ?_)
    refine s_pop hK dX5_findGaps_57 rfl ?_
    refine s_sub [0, 2] rfl ?_
    exact sm_X5_findGaps_J58 hK hf hlo hrc hk68 x11 x13 h26
theorem sm_X5_findGaps_L4 {G : GC} {K : SC} (hK : SOK G K RX5 cX5_findGaps 3 (none) "findGaps" []) (hf : FR_X5_findGaps ≤ (kR K).frames) (hlo : LO_X5_findGaps ≤ (kR K).locals) {k68 : AH → RS} (hk68 : ∀  (h : AH), Sim G K 3 (k68  h) h 68 [] []) : ∀ (n : Nat) (x1 : Option Nat) (x2 : Int32) (x3 : Int32) (h4 : AH), Sim G K 3 (f_X5_findGaps_L4 k68 n x1 x2 x3 h4) h4 4 [(0, va_rf x1), (1, .int x2), (2, .int x3)] [] := by
  intro n
  induction n with
  | zero => intro x1 x2 x3 h4; exact s_none
  | succ n ih =>
    intro x1 x2 x3 h4
    rw [f_X5_findGaps_L4]
    refine s_iload_n hK dX5_findGaps_4 rfl 2 rfl ?_
    refine s_aload_n hK dX5_findGaps_5 rfl 0 rfl ?_
    refine s_gA hK fcX5 0 (Nat.le_of_ble_eq_true rfl) (Or.inl q1086) (Or.inl rfl) dX5_findGaps_6 (fun v5 => ?_)
    refine s_rc (fun _ _ eo er => ?_)
    refine s_cI hK ho_n (cx_v (As := []) (rest := [.int x3]) hK dyX2_size rfl q287 fcX2.1 q182 q183 q79 q184 eo er (ct_X2_size hK.1 v5 h4) (Nat.le_trans (Nat.le_of_ble_eq_true rfl) hf) (Nat.le_trans (Nat.le_of_ble_eq_true rfl) hlo) (rk_i rk_n) (Nat.le_of_ble_eq_true rfl) dX5_findGaps_9 rfl) (fun v7 h6 => ?_)
    refine s_icmp_gt (tgt := 68) hK dX5_findGaps_12 (by decide) (fun c33 => ?_) (fun c33 => ?_)
    · refine s_sub [] rfl ?_
      exact hk68  h6
    · refine s_iload_n hK dX5_findGaps_15 rfl 2 rfl ?_
      refine s_aload_n hK dX5_findGaps_16 rfl 0 rfl ?_
      refine s_gA hK fcX5 0 (Nat.le_of_ble_eq_true rfl) (Or.inl q1086) (Or.inl rfl) dX5_findGaps_17 (fun v8 => ?_)
      refine s_rc (fun _ _ eo er => ?_)
      refine s_cI hK ho_n (cx_v (As := []) (rest := [.int x3]) hK dyX2_size rfl q287 fcX2.1 q182 q183 q79 q184 eo er (ct_X2_size hK.1 v8 h6) (Nat.le_trans (Nat.le_of_ble_eq_true rfl) hf) (Nat.le_trans (Nat.le_of_ble_eq_true rfl) hlo) (rk_i rk_n) (Nat.le_of_ble_eq_true rfl) dX5_findGaps_20 rfl) (fun v10 h9 => ?_)
      refine s_icmp_eq (tgt := 34) hK dX5_findGaps_23 (by decide) (fun c32 => ?_) (fun c32 => ?_)
      · exact sm_X5_findGaps_J34 hK hf hlo ih hk68 x1 x2 x3 h9
      · refine s_aload_n hK dX5_findGaps_26 rfl 0 rfl ?_
        refine s_iload_n hK dX5_findGaps_27 rfl 2 rfl ?_
        refine s_rc (fun _ _ eo er => ?_)
        refine s_cI hK ho_n (cx_v (As := [.int x3]) (rest := []) hK dyX5_isTaken rfl q871 fcX5.1 q873 qs10 q103 q874 eo er (ct_X5_isTaken hK.1 x1 x3 h9) (Nat.le_trans (Nat.le_of_ble_eq_true rfl) hf) (Nat.le_trans (Nat.le_of_ble_eq_true rfl) hlo) rk_n (Nat.le_of_ble_eq_true rfl) dX5_findGaps_28 rfl) (fun v30 h29 => ?_)
        refine s_if_eq (tgt := 62) hK dX5_findGaps_31 (by decide) (fun c31 => ?_) (fun c31 => ?_)
        · exact sm_X5_findGaps_J62 hK hf hlo ih hk68 x1 x2 x3 h29
        · exact sm_X5_findGaps_J34 hK hf hlo ih hk68 x1 x2 x3 h29
theorem sm_X5_findGaps {G : GC} {K : SC} (hK : SOK G K RX5 cX5_findGaps 3 (none) "findGaps" []) (hf : FR_X5_findGaps ≤ (kR K).frames) (hlo : LO_X5_findGaps ≤ (kR K).locals) (p0 : Option Nat) (h : AH) : Sim G K 3 (f_X5_findGaps p0 h) h 0 [(0, va_rf p0)] [] := by
  unfold f_X5_findGaps
  refine s_iconst (v := 0) hK dX5_findGaps_0 rfl ?_
  refine s_istore_n (lv' := [(1, .int 0), (0, va_rf p0)]) hK dX5_findGaps_1 rfl (Nat.le_of_ble_eq_true rfl) (flA (pre := []) (suf := []) rfl rfl) ?_
  refine s_iconst (v := 0) hK dX5_findGaps_2 rfl ?_
  refine s_istore_n (lv' := [(2, .int 0), (1, .int 0), (0, va_rf p0)]) hK dX5_findGaps_3 rfl (Nat.le_of_ble_eq_true rfl) rfl ?_
  refine s_sub [2, 1, 0] rfl ?_
  refine sm_X5_findGaps_L4 hK hf hlo (fun h34 => ?_) FUEL p0 0 0 h
  · exact s_vret hK dX5_findGaps_68
theorem ct_X5_findGaps {G : GC} {l : Launch} (g : GOK G l) (p0 : Option Nat) (h : AH) : CT G l yX5_findGaps (Cond.code yX5_findGaps cX5_findGaps 3 (none)) 7 251 [va_rf p0] (f_X5_findGaps p0 h) h :=
  CT.of g (by decide) (by simp only [ls_a, ls_i, ls_l, ls_n]; decide) (fun K _ hK hf hlo => by simp only [la_a, la_i, la_l, la_n]; exact sm_X5_findGaps hK hf hlo p0 h)
abbrev FR_X5_test : Nat := 5
abbrev LO_X5_test : Nat := 208
theorem dyX5_test : DY yX5_test 1 := ⟨⟨by decide, by decide⟩, by decide +kernel⟩
theorem sm_X5_test_J105 {G : GC} {K : SC} (hK : SOK G K RX5 cX5_test 8 (none) "test" []) (hf : FR_X5_test ≤ (kR K).frames) (hlo : LO_X5_test ≤ (kR K).locals) {rc : Option Nat → Option Nat → Option Nat → Int32 → Int32 → Int32 → Int32 → AH → RS} (hrc : ∀ (y0 : Option Nat) (y1 : Option Nat) (y2 : Option Nat) (y3 : Int32) (y4 : Int32) (y5 : Int32) (y6 : Int32) (h : AH), Sim G K 8 (rc y0 y1 y2 y3 y4 y5 y6 h) h 22 [(0, va_rf y0), (1, va_rf y1), (2, va_rf y2), (3, .int y3), (4, .int y4), (5, .int y5), (6, .int y6)] []) {k136 : Option Nat → Option Nat → Option Nat → Int32 → Int32 → AH → RS} (hk136 : ∀ (y0 : Option Nat) (y1 : Option Nat) (y2 : Option Nat) (y3 : Int32) (y4 : Int32) (h : AH), Sim G K 8 (k136 y0 y1 y2 y3 y4 h) h 136 [(0, va_rf y0), (1, va_rf y1), (2, va_rf y2), (4, .int y3), (5, .int y4)] []) (x30 : Option Nat) (x31 : Option Nat) (x32 : Option Nat) (x33 : Int32) (x34 : Int32) (y35 : Int32) (y36 : Int32) (y37 : Int32) (h38 : AH) : Sim G K 8 (f_X5_test_J105 rc k136 x30 x31 x32 x33 x34 y35 y36 y37 h38) h38 105 [(0, va_rf x30), (1, va_rf x31), (2, va_rf x32), (3, .int x33), (5, .int x34)] [.int y35, .int y36, .int y37] := by
  unfold f_X5_test_J105
  refine s_iadd hK dX5_test_105 ?_
  refine s_iadd hK dX5_test_106 ?_
  refine s_istore (lv' := [(4, .int (y37 + (y36 + y35))), (0, va_rf x30), (1, va_rf x31), (2, va_rf x32), (3, .int x33), (5, .int x34)]) hK dX5_test_107 (Nat.le_of_ble_eq_true rfl) rfl ?_
  refine s_iinc (j := 5) (v := 1) (lv' := [(5, .int (x34 + 1)), (4, .int (y37 + (y36 + y35))), (0, va_rf x30), (1, va_rf x31), (2, va_rf x32), (3, .int x33)]) hK dX5_test_109 rfl rfl (Nat.le_of_ble_eq_true rfl) rfl ?_
  refine s_aload_n hK dX5_test_112 rfl 2 rfl ?_
  refine s_gA hK fcX5 0 (Nat.le_of_ble_eq_true rfl) (Or.inl q1086) (Or.inl rfl) dX5_test_113 (fun v39 => ?_)
  refine s_iload_n hK dX5_test_116 rfl 5 rfl ?_
  refine s_rc (fun _ _ eo er => ?_)
  refine s_cI hK ho_n (cx_v (As := [.int x33]) (rest := []) hK dyX2_endsFlow rfl q911 fcX2.1 q912 q913 q79 q914 eo er (ct_X2_endsFlow hK.1 v39 x33 h38) (Nat.le_trans (Nat.le_of_ble_eq_true rfl) hf) (Nat.le_trans (Nat.le_of_ble_eq_true rfl) hlo) rk_n (Nat.le_of_ble_eq_true rfl) dX5_test_117 rfl) (fun v41 h40 => ?_)
  refine s_istore (lv' := [(6, .int v41), (5, .int (x34 + 1)), (4, .int (y37 + (y36 + y35))), (0, va_rf x30), (1, va_rf x31), (2, va_rf x32), (3, .int x33)]) hK dX5_test_120 (Nat.le_of_ble_eq_true rfl) rfl ?_
  refine s_iload_n hK dX5_test_122 rfl 6 rfl ?_
  refine s_aload_n hK dX5_test_123 rfl 3 rfl ?_
  refine s_gA hK fcX5 0 (Nat.le_of_ble_eq_true rfl) (Or.inl q1086) (Or.inl rfl) dX5_test_124 (fun v42 => ?_)
  refine s_iload_n hK dX5_test_127 rfl 6 rfl ?_
  refine s_rc (fun _ _ eo er => ?_)
  refine s_cI hK ho_n (cx_v (As := [.int x33]) (rest := [.int x33]) hK dyX2_length rfl q870 fcX2.1 q782 q783 q79 q784 eo er (ct_X2_length hK.1 v42 x33 h40) (Nat.le_trans (Nat.le_of_ble_eq_true rfl) hf) (Nat.le_trans (Nat.le_of_ble_eq_true rfl) hlo) (rk_i rk_n) (Nat.le_of_ble_eq_true rfl) dX5_test_128 rfl) (fun v44 h43 => ?_)
  refine s_iadd hK dX5_test_131 ?_
  refine s_istore_n (lv' := [(3, .int (x33 + v44)), (6, .int v41), (5, .int (x34 + 1)), (4, .int (y37 + (y36 + y35))), (0, va_rf x30), (1, va_rf x31), (2, va_rf x32)]) hK dX5_test_132 rfl (Nat.le_of_ble_eq_true rfl) (flA (pre := [(6, .int v41), (5, .int (x34 + 1)), (4, .int (y37 + (y36 + y35))), (0, va_rf x30), (1, va_rf x31)]) (suf := [(3, .int x33)]) rfl rfl) ?_
  refine s_goto (tgt := 22) hK dX5_test_133 (by decide) ?_
  refine s_sub [4, 5, 6, 0, 3, 2, 1] rfl ?_
  exact hrc x30 x31 x32 (x33 + v44) (y37 + (y36 + y35)) (x34 + 1) v41 h43
theorem sm_X5_test_L22 {G : GC} {K : SC} (hK : SOK G K RX5 cX5_test 8 (none) "test" []) (hf : FR_X5_test ≤ (kR K).frames) (hlo : LO_X5_test ≤ (kR K).locals) {k136 : Option Nat → Option Nat → Option Nat → Int32 → Int32 → AH → RS} (hk136 : ∀ (y0 : Option Nat) (y1 : Option Nat) (y2 : Option Nat) (y3 : Int32) (y4 : Int32) (h : AH), Sim G K 8 (k136 y0 y1 y2 y3 y4 h) h 136 [(0, va_rf y0), (1, va_rf y1), (2, va_rf y2), (4, .int y3), (5, .int y4)] []) : ∀ (n : Nat) (x5 : Option Nat) (x6 : Option Nat) (x7 : Option Nat) (x8 : Int32) (x9 : Int32) (x10 : Int32) (x11 : Int32) (h12 : AH), Sim G K 8 (f_X5_test_L22 k136 n x5 x6 x7 x8 x9 x10 x11 h12) h12 22 [(0, va_rf x5), (1, va_rf x6), (2, va_rf x7), (3, .int x8), (4, .int x9), (5, .int x10), (6, .int x11)] [] := by
  intro n
  induction n with
  | zero => intro x5 x6 x7 x8 x9 x10 x11 h12; exact s_none
  | succ n ih =>
    intro x5 x6 x7 x8 x9 x10 x11 h12
    rw [f_X5_test_L22]
    refine s_iload hK dX5_test_22 6 rfl ?_
    refine s_if_ne (tgt := 136) hK dX5_test_24 (by decide) (fun c50 => ?_) (fun c50 => ?_)
    · refine s_sub [0, 1, 2, 4, 5] rfl ?_
      exact hk136 x5 x6 x7 x9 x10 h12
    · refine s_iload_n hK dX5_test_27 rfl 3 rfl ?_
      refine s_aload_n hK dX5_test_28 rfl 1 rfl ?_
      refine s_rc (fun _ _ eo er => ?_)
      refine s_cI hK ho_n (cx_v (As := []) (rest := [.int x8]) hK dyX8_end rfl q1026 fcX8.1 q1027 q1028 q113 q1029 eo er (ct_X8_end hK.1 x6 h12) (Nat.le_trans (Nat.le_of_ble_eq_true rfl) hf) (Nat.le_trans (Nat.le_of_ble_eq_true rfl) hlo) (rk_i rk_n) (Nat.le_of_ble_eq_true rfl) dX5_test_29 rfl) (fun v14 h13 => ?_)
      refine s_icmp_ge (tgt := 63) hK dX5_test_32 (by decide) (fun c49 => ?_) (fun c49 => ?_)
      · exact s_vret hK dX5_test_63
      · refine s_aload_n hK dX5_test_35 rfl 0 rfl ?_
        refine s_gA hK fcX5 0 (Nat.le_of_ble_eq_true rfl) (Or.inl q1086) (Or.inl rfl) dX5_test_36 (fun v15 => ?_)
        refine s_iload_n hK dX5_test_39 rfl 3 rfl ?_
        refine s_rc (fun _ _ eo er => ?_)
        refine s_cI hK ho_n (cx_v (As := [.int x8]) (rest := []) hK dyX2_isValid rfl q766 fcX2.1 q767 q768 q79 q769 eo er (ct_X2_isValid hK.1 v15 x8 h13) (Nat.le_trans (Nat.le_of_ble_eq_true rfl) hf) (Nat.le_trans (Nat.le_of_ble_eq_true rfl) hlo) rk_n (Nat.le_of_ble_eq_true rfl) dX5_test_40 rfl) (fun v17 h16 => ?_)
        refine s_if_eq (tgt := 63) hK dX5_test_43 (by decide) (fun c48 => ?_) (fun c48 => ?_)
        · exact s_vret hK dX5_test_63
        · refine s_iload_n hK dX5_test_46 rfl 3 rfl ?_
          refine s_aload_n hK dX5_test_47 rfl 0 rfl ?_
          refine s_gA hK fcX5 0 (Nat.le_of_ble_eq_true rfl) (Or.inl q1086) (Or.inl rfl) dX5_test_48 (fun v18 => ?_)
          refine s_iload_n hK dX5_test_51 rfl 3 rfl ?_
          refine s_rc (fun _ _ eo er => ?_)
          refine s_cI hK ho_n (cx_v (As := [.int x8]) (rest := [.int x8]) hK dyX2_length rfl q870 fcX2.1 q782 q783 q79 q784 eo er (ct_X2_length hK.1 v18 x8 h16) (Nat.le_trans (Nat.le_of_ble_eq_true rfl) hf) (Nat.le_trans (Nat.le_of_ble_eq_true rfl) hlo) (rk_i rk_n) (Nat.le_of_ble_eq_true rfl) dX5_test_52 rfl) (fun v20 h19 => ?_)
          refine s_iadd hK dX5_test_55 ?_
          refine s_aload_n hK dX5_test_56 rfl 1 rfl ?_
          refine s_rc (fun _ _ eo er => ?_)
          refine s_cI hK ho_n (cx_v (As := []) (rest := [.int (x8 + v20)]) hK dyX8_end rfl q1026 fcX8.1 q1027 q1028 q113 q1029 eo er (ct_X8_end hK.1 x6 h19) (Nat.le_trans (Nat.le_of_ble_eq_true rfl) hf) (Nat.le_trans (Nat.le_of_ble_eq_true rfl) hlo) (rk_i rk_n) (Nat.le_of_ble_eq_true rfl) dX5_test_57 rfl) (fun v22 h21 => ?_)
          refine s_icmp_le (tgt := 64) hK dX5_test_60 (by decide) (fun c47 => ?_) (fun c47 => ?_)
          · refine s_aload_n hK dX5_test_64 rfl 2 rfl ?_
            refine s_iload_n hK dX5_test_65 rfl 3 rfl ?_
            refine s_rc (fun _ _ eo er => ?_)
            refine s_cV hK ho_n (cx_v (As := [.int x8]) (rest := []) hK dyJ20_set rfl q875 fcJ20.1 q876 q877 q106 q878 eo er (ct_J20_set hK.1 x7 x8 h21) (Nat.le_trans (Nat.le_of_ble_eq_true rfl) hf) (Nat.le_trans (Nat.le_of_ble_eq_true rfl) hlo) rk_n (Nat.le_of_ble_eq_true rfl) dX5_test_66 rfl) (fun h23 => ?_)
            refine s_iload hK dX5_test_69 4 rfl ?_
            refine s_iconst (v := 1) hK dX5_test_71 rfl ?_
            refine s_aload_n hK dX5_test_72 rfl 0 rfl ?_
            refine s_gA hK fcX5 0 (Nat.le_of_ble_eq_true rfl) (Or.inl q1086) (Or.inl rfl) dX5_test_73 (fun v24 => ?_)
            refine s_iload_n hK dX5_test_76 rfl 3 rfl ?_
            refine s_rc (fun _ _ eo er => ?_)
            refine s_cI hK ho_n (cx_v (As := [.int x8]) (rest := [.int 1, .int x9]) hK dyX2_kind rfl q898 fcX2.1 q778 q779 q79 q780 eo er (ct_X2_kind hK.1 v24 x8 h23) (Nat.le_trans (Nat.le_of_ble_eq_true rfl) hf) (Nat.le_trans (Nat.le_of_ble_eq_true rfl) hlo) (rk_i (rk_i rk_n)) (Nat.le_of_ble_eq_true rfl) dX5_test_77 rfl) (fun v26 h25 => ?_)
            refine s_bipush (v := 7) hK dX5_test_80 rfl ?_
            refine s_icmp_ne (tgt := 89) hK dX5_test_82 (by decide) (fun c46 => ?_) (fun c46 => ?_)
            · refine s_aload_n hK dX5_test_89 rfl 0 rfl ?_
              refine s_gA hK fcX5 0 (Nat.le_of_ble_eq_true rfl) (Or.inl q1086) (Or.inl rfl) dX5_test_90 (fun v27 => ?_)
              refine s_iload_n hK dX5_test_93 rfl 3 rfl ?_
              refine s_rc (fun _ _ eo er => ?_)
              refine s_cI hK ho_n (cx_v (As := [.int x8]) (rest := [.int 1, .int x9]) hK dyX2_hasTarget rfl q896 fcX2.1 q790 q791 q79 q792 eo er (ct_X2_hasTarget hK.1 v27 x8 h25) (Nat.le_trans (Nat.le_of_ble_eq_true rfl) hf) (Nat.le_trans (Nat.le_of_ble_eq_true rfl) hlo) (rk_i (rk_i rk_n)) (Nat.le_of_ble_eq_true rfl) dX5_test_94 rfl) (fun v29 h28 => ?_)
              refine s_if_eq (tgt := 104) hK dX5_test_97 (by decide) (fun c45 => ?_) (fun c45 => ?_)
              · refine s_iconst (v := 0) hK dX5_test_104 rfl ?_
                refine s_sub [0, 1, 2, 3, 5] rfl ?_
                exact sm_X5_test_J105 hK hf hlo ih hk136 x5 x6 x7 x8 x10 0 1 x9 h28
              · refine s_iconst (v := 2) hK dX5_test_100 rfl ?_
                refine s_goto (tgt := 105) hK dX5_test_101 (by decide) ?_
                refine s_sub [0, 1, 2, 3, 5] rfl ?_
                exact sm_X5_test_J105 hK hf hlo ih hk136 x5 x6 x7 x8 x10 2 1 x9 h28
            · refine s_iconst (v := 3) hK dX5_test_85 rfl ?_
              refine s_goto (tgt := 105) hK dX5_test_86 (by decide) ?_
              refine s_sub [0, 1, 2, 3, 5] rfl ?_
              exact sm_X5_test_J105 hK hf hlo ih hk136 x5 x6 x7 x8 x10 3 1 x9 h25
          · exact s_vret hK dX5_test_63
theorem sm_X5_test_J193 {G : GC} {K : SC} (hK : SOK G K RX5 cX5_test 8 (none) "test" []) (hf : FR_X5_test ≤ (kR K).frames) (hlo : LO_X5_test ≤ (kR K).locals) {rc : Option Nat → Option Nat → Option Nat → Int32 → Int32 → Int32 → AH → RS} (hrc : ∀ (y0 : Option Nat) (y1 : Option Nat) (y2 : Option Nat) (y3 : Int32) (y4 : Int32) (y5 : Int32) (h : AH), Sim G K 8 (rc y0 y1 y2 y3 y4 y5 h) h 143 [(0, va_rf y0), (1, va_rf y1), (2, va_rf y2), (4, .int y3), (5, .int y4), (7, .int y5)] []) {k206 : Option Nat → Int32 → Int32 → AH → RS} (hk206 : ∀ (y0 : Option Nat) (y1 : Int32) (y2 : Int32) (h : AH), Sim G K 8 (k206 y0 y1 y2 h) h 206 [(1, va_rf y0), (4, .int y1), (5, .int y2)] []) (x69 : Option Nat) (x70 : Option Nat) (x71 : Option Nat) (x72 : Int32) (x73 : Int32) (x74 : Int32)  (h75 : AH) : Sim G K 8 (f_X5_test_J193 rc k206 x69 x70 x71 x72 x73 x74 h75) h75 193 [(0, va_rf x69), (1, va_rf x70), (2, va_rf x71), (4, .int x72), (5, .int x73), (7, .int x74)] [] := by
  unfold f_X5_test_J193
  refine s_aload_n hK dX5_test_193 rfl 2 rfl ?_
  refine s_iload hK dX5_test_194 5 rfl ?_
  refine s_iconst (v := 1) hK dX5_test_196 rfl ?_
  refine s_iadd hK dX5_test_197 ?_
  refine s_rc (fun _ _ eo er => ?_)
  refine s_cI hK ho_n (cx_v (As := [.int (x74 + 1)]) (rest := []) hK dyJ20_nextSetBit rfl q1030 fcJ20.1 q1031 q1032 q106 q1033 eo er (ct_J20_nextSetBit hK.1 x71 (x74 + 1) h75) (Nat.le_trans (Nat.le_of_ble_eq_true rfl) hf) (Nat.le_trans (Nat.le_of_ble_eq_true rfl) hlo) rk_n (Nat.le_of_ble_eq_true rfl) dX5_test_198 rfl) (fun v77 h76 => ?_)
  refine s_istore (lv' := [(7, .int v77), (0, va_rf x69), (1, va_rf x70), (2, va_rf x71), (4, .int x72), (5, .int x73)]) hK dX5_test_201 (Nat.le_of_ble_eq_true rfl) rfl ?_
  refine s_goto (tgt := 143) hK dX5_test_203 (by decide) ?_
  refine s_sub [1, 2, 3, 4, 5, 0] rfl ?_
  exact hrc x69 x70 x71 x72 x73 v77 h76
theorem sm_X5_test_L143 {G : GC} {K : SC} (hK : SOK G K RX5 cX5_test 8 (none) "test" []) (hf : FR_X5_test ≤ (kR K).frames) (hlo : LO_X5_test ≤ (kR K).locals) {k206 : Option Nat → Int32 → Int32 → AH → RS} (hk206 : ∀ (y0 : Option Nat) (y1 : Int32) (y2 : Int32) (h : AH), Sim G K 8 (k206 y0 y1 y2 h) h 206 [(1, va_rf y0), (4, .int y1), (5, .int y2)] []) : ∀ (n : Nat) (x59 : Option Nat) (x60 : Option Nat) (x61 : Option Nat) (x62 : Int32) (x63 : Int32) (x64 : Int32) (h65 : AH), Sim G K 8 (f_X5_test_L143 k206 n x59 x60 x61 x62 x63 x64 h65) h65 143 [(0, va_rf x59), (1, va_rf x60), (2, va_rf x61), (4, .int x62), (5, .int x63), (7, .int x64)] [] := by
  intro n
  induction n with
  | zero => intro x59 x60 x61 x62 x63 x64 h65; exact s_none
  | succ n ih =>
    intro x59 x60 x61 x62 x63 x64 h65
    rw [f_X5_test_L143]
    refine s_iload hK dX5_test_143 5 rfl ?_
    refine s_if_lt (tgt := 206) hK dX5_test_145 (by decide) (fun c91 => ?_) (fun c91 => ?_)
    · refine s_sub [1, 3, 4] rfl ?_
      exact hk206 x60 x62 x63 h65
    · refine s_aload_n hK dX5_test_148 rfl 0 rfl ?_
      refine s_gA hK fcX5 0 (Nat.le_of_ble_eq_true rfl) (Or.inl q1086) (Or.inl rfl) dX5_test_149 (fun v66 => ?_)
      refine s_iload hK dX5_test_152 5 rfl ?_
      refine s_rc (fun _ _ eo er => ?_)
      refine s_cI hK ho_n (cx_v (As := [.int x64]) (rest := []) hK dyX2_hasTarget rfl q896 fcX2.1 q790 q791 q79 q792 eo er (ct_X2_hasTarget hK.1 v66 x64 h65) (Nat.le_trans (Nat.le_of_ble_eq_true rfl) hf) (Nat.le_trans (Nat.le_of_ble_eq_true rfl) hlo) rk_n (Nat.le_of_ble_eq_true rfl) dX5_test_154 rfl) (fun v68 h67 => ?_)
      refine s_if_eq (tgt := 193) hK dX5_test_157 (by decide) (fun c90 => ?_) (fun c90 => ?_)
      · exact sm_X5_test_J193 hK hf hlo ih hk206 x59 x60 x61 x62 x63 x64 h67
      · refine s_aload_n hK dX5_test_160 rfl 0 rfl ?_
        refine s_aload_n hK dX5_test_161 rfl 0 rfl ?_
        refine s_gA hK fcX5 0 (Nat.le_of_ble_eq_true rfl) (Or.inl q1086) (Or.inl rfl) dX5_test_162 (fun v78 => ?_)
        refine s_iload hK dX5_test_165 5 rfl ?_
        refine s_rc (fun _ _ eo er => ?_)
        refine s_cI hK ho_n (cx_v (As := [.int x64]) (rest := [va_rf x59]) hK dyX2_target rfl q897 fcX2.1 q794 q795 q79 q796 eo er (ct_X2_target hK.1 v78 x64 h67) (Nat.le_trans (Nat.le_of_ble_eq_true rfl) hf) (Nat.le_trans (Nat.le_of_ble_eq_true rfl) hlo) (rk_a rk_n) (Nat.le_of_ble_eq_true rfl) dX5_test_167 rfl) (fun v80 h79 => ?_)
        refine s_rc (fun _ _ eo er => ?_)
        refine s_cI hK ho_n (cx_v (As := [.int v80]) (rest := []) hK dyX5_isAccepted rfl q485 fcX5.1 q486 q487 q103 q488 eo er (ct_X5_isAccepted hK.1 x59 v80 h79) (Nat.le_trans (Nat.le_of_ble_eq_true rfl) hf) (Nat.le_trans (Nat.le_of_ble_eq_true rfl) hlo) rk_n (Nat.le_of_ble_eq_true rfl) dX5_test_170 rfl) (fun v82 h81 => ?_)
        refine s_if_ne (tgt := 193) hK dX5_test_173 (by decide) (fun c89 => ?_) (fun c89 => ?_)
        · exact sm_X5_test_J193 hK hf hlo ih hk206 x59 x60 x61 x62 x63 x64 h81
        · refine s_aload_n hK dX5_test_176 rfl 2 rfl ?_
          refine s_aload_n hK dX5_test_177 rfl 0 rfl ?_
          refine s_gA hK fcX5 0 (Nat.le_of_ble_eq_true rfl) (Or.inl q1086) (Or.inl rfl) dX5_test_178 (fun v83 => ?_)
          refine s_iload hK dX5_test_181 5 rfl ?_
          refine s_rc (fun _ _ eo er => ?_)
          refine s_cI hK ho_n (cx_v (As := [.int x64]) (rest := [va_rf x61]) hK dyX2_target rfl q897 fcX2.1 q794 q795 q79 q796 eo er (ct_X2_target hK.1 v83 x64 h81) (Nat.le_trans (Nat.le_of_ble_eq_true rfl) hf) (Nat.le_trans (Nat.le_of_ble_eq_true rfl) hlo) (rk_a rk_n) (Nat.le_of_ble_eq_true rfl) dX5_test_183 rfl) (fun v85 h84 => ?_)
          refine s_rc (fun _ _ eo er => ?_)
          refine s_cI hK ho_n (cx_v (As := [.int v85]) (rest := []) hK dyJ20_get rfl q489 fcJ20.1 q490 q491 q106 q492 eo er (ct_J20_get hK.1 x61 v85 h84) (Nat.le_trans (Nat.le_of_ble_eq_true rfl) hf) (Nat.le_trans (Nat.le_of_ble_eq_true rfl) hlo) rk_n (Nat.le_of_ble_eq_true rfl) dX5_test_186 rfl) (fun v87 h86 => ?_)
          refine s_if_ne (tgt := 193) hK dX5_test_189 (by decide) (fun c88 => ?_) (fun c88 => ?_)
          · exact sm_X5_test_J193 hK hf hlo ih hk206 x59 x60 x61 x62 x63 x64 h86
          · exact s_vret hK dX5_test_192
theorem sm_X5_test {G : GC} {K : SC} (hK : SOK G K RX5 cX5_test 8 (none) "test" []) (hf : FR_X5_test ≤ (kR K).frames) (hlo : LO_X5_test ≤ (kR K).locals) (p0 : Option Nat) (p1 : Option Nat) (h : AH) : Sim G K 8 (f_X5_test p0 p1 h) h 0 [(0, va_rf p0), (1, va_rf p1)] [] := by
  unfold f_X5_test
  refine s_new hK fcJ20 q263 q264 q106 fsJ20_ok dX5_test_0 (fun a1 h2 => ?_)
  refine s_dup hK dX5_test_3 (va_cat _) ?_
  refine s_nn (fun _ eo => ?_)
  refine s_cV hK ho_n (cx_i (As := []) (rest := [va_rf a1]) hK dyJ20_init rfl q265 rfl q266 q106 q267 eo (ct_J20_init hK.1 a1 h2) (Nat.le_trans (Nat.le_of_ble_eq_true rfl) hf) (Nat.le_trans (Nat.le_of_ble_eq_true rfl) hlo) (rk_a rk_n) (Nat.le_of_ble_eq_true rfl) dX5_test_4 rfl) (fun h3 => ?_)
  refine s_astore_n (lv' := [(2, va_rf a1), (0, va_rf p0), (1, va_rf p1)]) hK dX5_test_7 rfl (Nat.le_of_ble_eq_true rfl) (flA (pre := [(0, va_rf p0)]) (suf := []) rfl rfl) ?_
  refine s_aload_n hK dX5_test_8 rfl 2 rfl ?_
  refine s_gI hK fcX8 0 (Nat.le_of_ble_eq_true rfl) (Or.inr ⟨_, q1006⟩) (Or.inl rfl) dX5_test_9 (fun v4 => ?_)
  refine s_istore_n (lv' := [(3, .int v4), (2, va_rf a1), (0, va_rf p0), (1, va_rf p1)]) hK dX5_test_12 rfl (Nat.le_of_ble_eq_true rfl) (flA (pre := []) (suf := [(0, va_rf p0), (1, va_rf p1)]) rfl rfl) ?_
  refine s_iconst (v := 0) hK dX5_test_13 rfl ?_
  refine s_istore (lv' := [(4, .int 0), (3, .int v4), (2, va_rf a1), (0, va_rf p0), (1, va_rf p1)]) hK dX5_test_14 (Nat.le_of_ble_eq_true rfl) rfl ?_
  refine s_iconst (v := 0) hK dX5_test_16 rfl ?_
  refine s_istore (lv' := [(5, .int 0), (4, .int 0), (3, .int v4), (2, va_rf a1), (0, va_rf p0), (1, va_rf p1)]) hK dX5_test_17 (Nat.le_of_ble_eq_true rfl) rfl ?_
  refine s_iconst (v := 0) hK dX5_test_19 rfl ?_
  refine s_istore (lv' := [(6, .int 0), (5, .int 0), (4, .int 0), (3, .int v4), (2, va_rf a1), (0, va_rf p0), (1, va_rf p1)]) hK dX5_test_20 (Nat.le_of_ble_eq_true rfl) rfl ?_
  refine s_sub [5, 6, 4, 3, 2, 1, 0] rfl ?_
  refine sm_X5_test_L22 hK hf hlo (fun x51 x52 x53 x54 x55 h56 => ?_) FUEL p0 p1 a1 v4 0 0 0 h3
  · refine s_aload_n hK dX5_test_136 rfl 2 rfl ?_
    refine s_iconst (v := 0) hK dX5_test_137 rfl ?_
    refine s_rc (fun _ _ eo er => ?_)
    refine s_cI hK ho_n (cx_v (As := [.int 0]) (rest := []) hK dyJ20_nextSetBit rfl q1030 fcJ20.1 q1031 q1032 q106 q1033 eo er (ct_J20_nextSetBit hK.1 x53 0 h56) (Nat.le_trans (Nat.le_of_ble_eq_true rfl) hf) (Nat.le_trans (Nat.le_of_ble_eq_true rfl) hlo) rk_n (Nat.le_of_ble_eq_true rfl) dX5_test_138 rfl) (fun v58 h57 => ?_)
    refine s_istore (lv' := [(7, .int v58), (0, va_rf x51), (1, va_rf x52), (2, va_rf x53), (4, .int x54), (5, .int x55)]) hK dX5_test_141 (Nat.le_of_ble_eq_true rfl) rfl ?_
    refine s_sub [1, 2, 3, 4, 5, 0] rfl ?_
    refine sm_X5_test_L143 hK hf hlo (fun x92 x93 x94 h95 => ?_) FUEL x51 x52 x53 x54 x55 v58 h57
    · refine s_aload_n hK dX5_test_206 rfl 0 rfl ?_
      refine s_iload hK dX5_test_207 1 rfl ?_
      refine s_pF hK fcX8 2 (Nat.le_of_ble_eq_true rfl) (Or.inr ⟨_, q1009⟩) (Or.inl rfl) (Or.inl rfl) rfl rfl dX5_test_209 (fun h96 => ?_)
      refine s_aload_n hK dX5_test_212 rfl 0 rfl ?_
      refine s_iload hK dX5_test_213 2 rfl ?_
      refine s_pF hK fcX8 3 (Nat.le_of_ble_eq_true rfl) (Or.inr ⟨_, q1010⟩) (Or.inl rfl) (Or.inl rfl) rfl rfl dX5_test_215 (fun h97 => ?_)
      exact s_vret hK dX5_test_218
theorem ct_X5_test {G : GC} {l : Launch} (g : GOK G l) (p0 : Option Nat) (p1 : Option Nat) (h : AH) : CT G l yX5_test (Cond.code yX5_test cX5_test 8 (none)) 5 208 [va_rf p0, va_rf p1] (f_X5_test p0 p1 h) h :=
  CT.of g (by decide) (by simp only [ls_a, ls_i, ls_l, ls_n]; decide) (fun K _ hK hf hlo => by simp only [la_a, la_i, la_l, la_n]; exact sm_X5_test hK hf hlo p0 p1 h)
abbrev FR_X5_speculate : Nat := 4
abbrev LO_X5_speculate : Nat := 81
theorem dyX5_speculate : DY yX5_speculate 1 := ⟨⟨by decide, by decide⟩, by decide +kernel⟩
theorem sm_X5_speculate_J57 {G : GC} {K : SC} (hK : SOK G K RX5 cX5_speculate 4 (none) "speculate" []) (hf : FR_X5_speculate ≤ (kR K).frames) (hlo : LO_X5_speculate ≤ (kR K).locals) {rc : Option Nat → Option Nat → Int32 → Int32 → AH → RS} (hrc : ∀ (y0 : Option Nat) (y1 : Option Nat) (y2 : Int32) (y3 : Int32) (h : AH), Sim G K 4 (rc y0 y1 y2 y3 h) h 7 [(0, va_rf y0), (1, va_rf y1), (2, .int y2), (3, .int y3)] []) {k74 : AH → RS} (hk74 : ∀  (h : AH), Sim G K 4 (k74  h) h 74 [] []) (x16 : Option Nat) (x17 : Option Nat) (x18 : Int32) (x19 : Int32)  (h20 : AH) : Sim G K 4 (f_X5_speculate_J57 rc k74 x16 x17 x18 x19 h20) h20 57 [(0, va_rf x16), (1, va_rf x17), (2, .int x18), (3, .int x19)] [] := by
  unfold f_X5_speculate_J57
  refine s_iload_n hK dX5_speculate_57 rfl 2 rfl ?_
  refine s_aload_n hK dX5_speculate_58 rfl 0 rfl ?_
  refine s_gA hK fcX5 0 (Nat.le_of_ble_eq_true rfl) (Or.inl q1086) (Or.inl rfl) dX5_speculate_59 (fun v21 => ?_)
  refine s_iload_n hK dX5_speculate_62 rfl 2 rfl ?_
  refine s_rc (fun _ _ eo er => ?_)
  refine s_cI hK ho_n (cx_v (As := [.int x18]) (rest := [.int x18]) hK dyX2_length rfl q870 fcX2.1 q782 q783 q79 q784 eo er (ct_X2_length hK.1 v21 x18 h20) (Nat.le_trans (Nat.le_of_ble_eq_true rfl) hf) (Nat.le_trans (Nat.le_of_ble_eq_true rfl) hlo) (rk_i rk_n) (Nat.le_of_ble_eq_true rfl) dX5_speculate_63 rfl) (fun v23 h22 => ?_)
  refine s_iadd hK dX5_speculate_66 ?_
  refine s_istore_n (lv' := [(2, .int (x18 + v23)), (0, va_rf x16), (1, va_rf x17), (3, .int x19)]) hK dX5_speculate_67 rfl (Nat.le_of_ble_eq_true rfl) (flA (pre := [(0, va_rf x16)]) (suf := [(2, .int x18), (3, .int x19)]) rfl rfl) ?_
  refine s_iinc (j := 3) (v := 1) (lv' := [(3, .int (x19 + 1)), (2, .int (x18 + v23)), (0, va_rf x16), (1, va_rf x17)]) hK dX5_speculate_68 rfl rfl (Nat.le_of_ble_eq_true rfl) rfl ?_
  refine s_goto (tgt := 7) hK dX5_speculate_71 (by decide) ?_
  refine s_sub [2, 3, 1, 0] rfl ?_
  exact hrc x16 x17 (x18 + v23) (x19 + 1) h22
theorem sm_X5_speculate_L7 {G : GC} {K : SC} (hK : SOK G K RX5 cX5_speculate 4 (none) "speculate" []) (hf : FR_X5_speculate ≤ (kR K).frames) (hlo : LO_X5_speculate ≤ (kR K).locals) {k74 : AH → RS} (hk74 : ∀  (h : AH), Sim G K 4 (k74  h) h 74 [] []) : ∀ (n : Nat) (x2 : Option Nat) (x3 : Option Nat) (x4 : Int32) (x5 : Int32) (h6 : AH), Sim G K 4 (f_X5_speculate_L7 k74 n x2 x3 x4 x5 h6) h6 7 [(0, va_rf x2), (1, va_rf x3), (2, .int x4), (3, .int x5)] [] := by
  intro n
  induction n with
  | zero => intro x2 x3 x4 x5 h6; exact s_none
  | succ n ih =>
    intro x2 x3 x4 x5 h6
    rw [f_X5_speculate_L7]
    refine s_iload_n hK dX5_speculate_7 rfl 3 rfl ?_
    refine s_aload_n hK dX5_speculate_8 rfl 1 rfl ?_
    refine s_gI hK fcX8 3 (Nat.le_of_ble_eq_true rfl) (Or.inr ⟨_, q1010⟩) (Or.inl rfl) dX5_speculate_9 (fun v7 => ?_)
    refine s_icmp_ge (tgt := 74) hK dX5_speculate_12 (by decide) (fun c28 => ?_) (fun c28 => ?_)
    · refine s_sub [] rfl ?_
      exact hk74  h6
    · refine s_aload_n hK dX5_speculate_15 rfl 1 rfl ?_
      refine s_gI hK fcX8 2 (Nat.le_of_ble_eq_true rfl) (Or.inr ⟨_, q1009⟩) (Or.inl rfl) dX5_speculate_16 (fun v8 => ?_)
      refine s_aload_n hK dX5_speculate_19 rfl 0 rfl ?_
      refine s_gA hK fcX5 0 (Nat.le_of_ble_eq_true rfl) (Or.inl q1086) (Or.inl rfl) dX5_speculate_20 (fun v9 => ?_)
      refine s_gI hK fcX2 2 (Nat.le_of_ble_eq_true rfl) (Or.inr ⟨_, q140⟩) (Or.inl rfl) dX5_speculate_23 (fun v10 => ?_)
      refine s_icmp_lt (tgt := 74) hK dX5_speculate_26 (by decide) (fun c27 => ?_) (fun c27 => ?_)
      · refine s_sub [] rfl ?_
        exact hk74  h6
      · refine s_aload_n hK dX5_speculate_29 rfl 0 rfl ?_
        refine s_gA hK fcX5 1 (Nat.le_of_ble_eq_true rfl) (Or.inl q1087) (Or.inl rfl) dX5_speculate_30 (fun v11 => ?_)
        refine s_iload_n hK dX5_speculate_33 rfl 2 rfl ?_
        refine s_iconst (v := 4) hK dX5_speculate_34 rfl ?_
        refine s_iast hK dX5_speculate_35 (fun h12 => ?_)
        refine s_aload_n hK dX5_speculate_36 rfl 0 rfl ?_
        refine s_gA hK fcX5 0 (Nat.le_of_ble_eq_true rfl) (Or.inl q1086) (Or.inl rfl) dX5_speculate_37 (fun v13 => ?_)
        refine s_iload_n hK dX5_speculate_40 rfl 2 rfl ?_
        refine s_rc (fun _ _ eo er => ?_)
        refine s_cI hK ho_n (cx_v (As := [.int x4]) (rest := []) hK dyX2_length rfl q870 fcX2.1 q782 q783 q79 q784 eo er (ct_X2_length hK.1 v13 x4 h12) (Nat.le_trans (Nat.le_of_ble_eq_true rfl) hf) (Nat.le_trans (Nat.le_of_ble_eq_true rfl) hlo) rk_n (Nat.le_of_ble_eq_true rfl) dX5_speculate_41 rfl) (fun v15 h14 => ?_)
        refine s_iconst (v := 2) hK dX5_speculate_44 rfl ?_
        refine s_icmp_ne (tgt := 57) hK dX5_speculate_45 (by decide) (fun c26 => ?_) (fun c26 => ?_)
        · exact sm_X5_speculate_J57 hK hf hlo ih hk74 x2 x3 x4 x5 h14
        · refine s_aload_n hK dX5_speculate_48 rfl 0 rfl ?_
          refine s_gA hK fcX5 1 (Nat.le_of_ble_eq_true rfl) (Or.inl q1087) (Or.inl rfl) dX5_speculate_49 (fun v24 => ?_)
          refine s_iload_n hK dX5_speculate_52 rfl 2 rfl ?_
          refine s_iconst (v := 1) hK dX5_speculate_53 rfl ?_
          refine s_iadd hK dX5_speculate_54 ?_
          refine s_iconst (v := 5) hK dX5_speculate_55 rfl ?_
          refine s_iast hK dX5_speculate_56 (fun h25 => ?_)
          exact sm_X5_speculate_J57 hK hf hlo ih hk74 x2 x3 x4 x5 h25
theorem sm_X5_speculate {G : GC} {K : SC} (hK : SOK G K RX5 cX5_speculate 4 (none) "speculate" []) (hf : FR_X5_speculate ≤ (kR K).frames) (hlo : LO_X5_speculate ≤ (kR K).locals) (p0 : Option Nat) (p1 : Option Nat) (h : AH) : Sim G K 4 (f_X5_speculate p0 p1 h) h 0 [(0, va_rf p0), (1, va_rf p1)] [] := by
  unfold f_X5_speculate
  refine s_aload_n hK dX5_speculate_0 rfl 1 rfl ?_
  refine s_gI hK fcX8 0 (Nat.le_of_ble_eq_true rfl) (Or.inr ⟨_, q1006⟩) (Or.inl rfl) dX5_speculate_1 (fun v1 => ?_)
  refine s_istore_n (lv' := [(2, .int v1), (0, va_rf p0), (1, va_rf p1)]) hK dX5_speculate_4 rfl (Nat.le_of_ble_eq_true rfl) (flA (pre := [(0, va_rf p0)]) (suf := []) rfl rfl) ?_
  refine s_iconst (v := 0) hK dX5_speculate_5 rfl ?_
  refine s_istore_n (lv' := [(3, .int 0), (2, .int v1), (0, va_rf p0), (1, va_rf p1)]) hK dX5_speculate_6 rfl (Nat.le_of_ble_eq_true rfl) rfl ?_
  refine s_sub [2, 3, 1, 0] rfl ?_
  refine sm_X5_speculate_L7 hK hf hlo (fun h29 => ?_) FUEL p0 p1 v1 0 h
  · exact s_vret hK dX5_speculate_74
theorem ct_X5_speculate {G : GC} {l : Launch} (g : GOK G l) (p0 : Option Nat) (p1 : Option Nat) (h : AH) : CT G l yX5_speculate (Cond.code yX5_speculate cX5_speculate 4 (none)) 4 81 [va_rf p0, va_rf p1] (f_X5_speculate p0 p1 h) h :=
  CT.of g (by decide) (by simp only [ls_a, ls_i, ls_l, ls_n]; decide) (fun K _ hK hf hlo => by simp only [la_a, la_i, la_l, la_n]; exact sm_X5_speculate hK hf hlo p0 p1 h)
abbrev FR_X5_countSpeculative : Nat := 4
abbrev LO_X5_countSpeculative : Nat := 80
theorem dyX5_countSpeculative : DY yX5_countSpeculative 0 := ⟨⟨by decide, by decide⟩, by decide +kernel⟩
theorem sm_X5_countSpeculative_J58 {G : GC} {K : SC} (hK : SOK G K RX5 cX5_countSpeculative 3 (some (.int)) "countSpeculative" []) (hf : FR_X5_countSpeculative ≤ (kR K).frames) (hlo : LO_X5_countSpeculative ≤ (kR K).locals) {rc : Option Nat → Int32 → Int32 → AH → RS} (hrc : ∀ (y0 : Option Nat) (y1 : Int32) (y2 : Int32) (h : AH), Sim G K 3 (rc y0 y1 y2 h) h 4 [(0, va_rf y0), (1, .int y1), (2, .int y2)] []) {k66 : Int32 → AH → RS} (hk66 : ∀ (y0 : Int32) (h : AH), Sim G K 3 (k66 y0 h) h 66 [(1, .int y0)] []) (x14 : Option Nat) (x15 : Int32) (y16 : Int32) (y17 : Int32) (h18 : AH) : Sim G K 3 (f_X5_countSpeculative_J58 rc k66 x14 x15 y16 y17 h18) h18 58 [(0, va_rf x14), (2, .int x15)] [.int y16, .int y17] := by
  unfold f_X5_countSpeculative_J58
  refine s_iadd hK dX5_countSpeculative_58 ?_
  refine s_istore_n (lv' := [(1, .int (y17 + y16)), (0, va_rf x14), (2, .int x15)]) hK dX5_countSpeculative_59 rfl (Nat.le_of_ble_eq_true rfl) (flA (pre := []) (suf := [(2, .int x15)]) rfl rfl) ?_
  refine s_iinc (j := 2) (v := 1) (lv' := [(2, .int (x15 + 1)), (1, .int (y17 + y16)), (0, va_rf x14)]) hK dX5_countSpeculative_60 rfl rfl (Nat.le_of_ble_eq_true rfl) rfl ?_
  refine s_goto (tgt := 4) hK dX5_countSpeculative_63 (by decide) ?_
  refine s_sub [2, 1, 0] rfl ?_
  exact hrc x14 (y17 + y16) (x15 + 1) h18
theorem sm_X5_countSpeculative_L4 {G : GC} {K : SC} (hK : SOK G K RX5 cX5_countSpeculative 3 (some (.int)) "countSpeculative" []) (hf : FR_X5_countSpeculative ≤ (kR K).frames) (hlo : LO_X5_countSpeculative ≤ (kR K).locals) {k66 : Int32 → AH → RS} (hk66 : ∀ (y0 : Int32) (h : AH), Sim G K 3 (k66 y0 h) h 66 [(1, .int y0)] []) : ∀ (n : Nat) (x1 : Option Nat) (x2 : Int32) (x3 : Int32) (h4 : AH), Sim G K 3 (f_X5_countSpeculative_L4 k66 n x1 x2 x3 h4) h4 4 [(0, va_rf x1), (1, .int x2), (2, .int x3)] [] := by
  intro n
  induction n with
  | zero => intro x1 x2 x3 h4; exact s_none
  | succ n ih =>
    intro x1 x2 x3 h4
    rw [f_X5_countSpeculative_L4]
    refine s_iload_n hK dX5_countSpeculative_4 rfl 2 rfl ?_
    refine s_aload_n hK dX5_countSpeculative_5 rfl 0 rfl ?_
    refine s_gA hK fcX5 6 (Nat.le_of_ble_eq_true rfl) (Or.inl q1096) (Or.inl rfl) dX5_countSpeculative_6 (fun v5 => ?_)
    refine s_rc (fun _ _ eo er => ?_)
    refine s_cI hK ho_n (cx_v (As := []) (rest := [.int x3]) hK dyJ7_size rfl q1020 fcJ7.1 q972 q2187 q88 q974 eo er (ct_J7_size hK.1 v5 h4) (Nat.le_trans (Nat.le_of_ble_eq_true rfl) hf) (Nat.le_trans (Nat.le_of_ble_eq_true rfl) hlo) (rk_i rk_n) (Nat.le_of_ble_eq_true rfl) dX5_countSpeculative_9 rfl) (fun v7 h6 => ?_)
    refine s_icmp_ge (tgt := 66) hK dX5_countSpeculative_12 (by decide) (fun c24 => ?_) (fun c24 => ?_)
    · refine s_sub [1] rfl ?_
      exact hk66 x2 h6
    · refine s_iload_n hK dX5_countSpeculative_15 rfl 1 rfl ?_
      refine s_aload_n hK dX5_countSpeculative_16 rfl 0 rfl ?_
      refine s_gA hK fcX5 6 (Nat.le_of_ble_eq_true rfl) (Or.inl q1096) (Or.inl rfl) dX5_countSpeculative_17 (fun v8 => ?_)
      refine s_iload_n hK dX5_countSpeculative_20 rfl 2 rfl ?_
      refine s_rc (fun _ _ eo er => ?_)
      refine s_cA hK ho_n (cx_v (As := [.int x3]) (rest := [.int x2]) hK dyJ7_get rfl q1021 fcJ7.1 q981 q2188 q88 q983 eo er (ct_J7_get hK.1 v8 x3 h6) (Nat.le_trans (Nat.le_of_ble_eq_true rfl) hf) (Nat.le_trans (Nat.le_of_ble_eq_true rfl) hlo) (rk_i rk_n) (Nat.le_of_ble_eq_true rfl) dX5_countSpeculative_21 rfl) (fun v10 h9 => ?_)
      refine s_ck hK q999 (ck1 fcX8.1 (Or.inl rfl)) dX5_countSpeculative_24 ?_
      refine s_gI hK fcX8 2 (Nat.le_of_ble_eq_true rfl) (Or.inr ⟨_, q1009⟩) (Or.inl rfl) dX5_countSpeculative_27 (fun v11 => ?_)
      refine s_aload_n hK dX5_countSpeculative_30 rfl 0 rfl ?_
      refine s_gA hK fcX5 0 (Nat.le_of_ble_eq_true rfl) (Or.inl q1086) (Or.inl rfl) dX5_countSpeculative_31 (fun v12 => ?_)
      refine s_gI hK fcX2 2 (Nat.le_of_ble_eq_true rfl) (Or.inr ⟨_, q140⟩) (Or.inl rfl) dX5_countSpeculative_34 (fun v13 => ?_)
      refine s_icmp_lt (tgt := 57) hK dX5_countSpeculative_37 (by decide) (fun c23 => ?_) (fun c23 => ?_)
      · refine s_iconst (v := 0) hK dX5_countSpeculative_57 rfl ?_
        refine s_sub [0, 2] rfl ?_
        exact sm_X5_countSpeculative_J58 hK hf hlo ih hk66 x1 x3 0 x2 h9
      · refine s_aload_n hK dX5_countSpeculative_40 rfl 0 rfl ?_
        refine s_gA hK fcX5 6 (Nat.le_of_ble_eq_true rfl) (Or.inl q1096) (Or.inl rfl) dX5_countSpeculative_41 (fun v19 => ?_)
        refine s_iload_n hK dX5_countSpeculative_44 rfl 2 rfl ?_
        refine s_rc (fun _ _ eo er => ?_)
        refine s_cA hK ho_n (cx_v (As := [.int x3]) (rest := [.int x2]) hK dyJ7_get rfl q1021 fcJ7.1 q981 q2188 q88 q983 eo er (ct_J7_get hK.1 v19 x3 h9) (Nat.le_trans (Nat.le_of_ble_eq_true rfl) hf) (Nat.le_trans (Nat.le_of_ble_eq_true rfl) hlo) (rk_i rk_n) (Nat.le_of_ble_eq_true rfl) dX5_countSpeculative_45 rfl) (fun v21 h20 => ?_)
        refine s_ck hK q999 (ck1 fcX8.1 (Or.inl rfl)) dX5_countSpeculative_48 ?_
        refine s_gI hK fcX8 3 (Nat.le_of_ble_eq_true rfl) (Or.inr ⟨_, q1010⟩) (Or.inl rfl) dX5_countSpeculative_51 (fun v22 => ?_)
        refine s_goto (tgt := 58) hK dX5_countSpeculative_54 (by decide) ?_
        refine s_sub [0, 2] rfl ?_
        exact sm_X5_countSpeculative_J58 hK hf hlo ih hk66 x1 x3 v22 x2 h20
theorem sm_X5_countSpeculative {G : GC} {K : SC} (hK : SOK G K RX5 cX5_countSpeculative 3 (some (.int)) "countSpeculative" []) (hf : FR_X5_countSpeculative ≤ (kR K).frames) (hlo : LO_X5_countSpeculative ≤ (kR K).locals) (p0 : Option Nat) (h : AH) : Sim G K 3 (f_X5_countSpeculative p0 h) h 0 [(0, va_rf p0)] [] := by
  unfold f_X5_countSpeculative
  refine s_iconst (v := 0) hK dX5_countSpeculative_0 rfl ?_
  refine s_istore_n (lv' := [(1, .int 0), (0, va_rf p0)]) hK dX5_countSpeculative_1 rfl (Nat.le_of_ble_eq_true rfl) (flA (pre := []) (suf := []) rfl rfl) ?_
  refine s_iconst (v := 0) hK dX5_countSpeculative_2 rfl ?_
  refine s_istore_n (lv' := [(2, .int 0), (1, .int 0), (0, va_rf p0)]) hK dX5_countSpeculative_3 rfl (Nat.le_of_ble_eq_true rfl) rfl ?_
  refine s_sub [2, 1, 0] rfl ?_
  refine sm_X5_countSpeculative_L4 hK hf hlo (fun x25 h26 => ?_) FUEL p0 0 0 h
  · refine s_iload_n hK dX5_countSpeculative_66 rfl 0 rfl ?_
    exact s_iret hK dX5_countSpeculative_67
theorem ct_X5_countSpeculative {G : GC} {l : Launch} (g : GOK G l) (p0 : Option Nat) (h : AH) : CT G l yX5_countSpeculative (Cond.code yX5_countSpeculative cX5_countSpeculative 3 (some (.int))) 4 80 [va_rf p0] (f_X5_countSpeculative p0 h) h :=
  CT.of g (by decide) (by simp only [ls_a, ls_i, ls_l, ls_n]; decide) (fun K _ hK hf hlo => by simp only [la_a, la_i, la_l, la_n]; exact sm_X5_countSpeculative hK hf hlo p0 h)
abbrev FR_X5_findLeaders : Nat := 5
abbrev LO_X5_findLeaders : Nat := 208
theorem dyX5_findLeaders : DY yX5_findLeaders 0 := ⟨⟨by decide, by decide⟩, by decide +kernel⟩
theorem sm_X5_findLeaders_L10 {G : GC} {K : SC} (hK : SOK G K RX5 cX5_findLeaders 4 (some (.object "java/util/BitSet")) "findLeaders" []) (hf : FR_X5_findLeaders ≤ (kR K).frames) (hlo : LO_X5_findLeaders ≤ (kR K).locals) {k41 : Option Nat → Option Nat → AH → RS} (hk41 : ∀ (y0 : Option Nat) (y1 : Option Nat) (h : AH), Sim G K 4 (k41 y0 y1 h) h 41 [(0, va_rf y0), (1, va_rf y1)] []) : ∀ (n : Nat) (x4 : Option Nat) (x5 : Option Nat) (x6 : Int32) (h7 : AH), Sim G K 4 (f_X5_findLeaders_L10 k41 n x4 x5 x6 h7) h7 10 [(0, va_rf x4), (1, va_rf x5), (2, .int x6)] [] := by
  intro n
  induction n with
  | zero => intro x4 x5 x6 h7; exact s_none
  | succ n ih =>
    intro x4 x5 x6 h7
    rw [f_X5_findLeaders_L10]
    refine s_iload_n hK dX5_findLeaders_10 rfl 2 rfl ?_
    refine s_aload_n hK dX5_findLeaders_11 rfl 0 rfl ?_
    refine s_gA hK fcX5 0 (Nat.le_of_ble_eq_true rfl) (Or.inl q1086) (Or.inl rfl) dX5_findLeaders_12 (fun v8 => ?_)
    refine s_gA hK fcX2 1 (Nat.le_of_ble_eq_true rfl) (Or.inr ⟨_, q137⟩) (Or.inl rfl) dX5_findLeaders_15 (fun v9 => ?_)
    refine s_alen hK dX5_findLeaders_18 (fun v10 => ?_)
    refine s_icmp_ge (tgt := 41) hK dX5_findLeaders_19 (by decide) (fun c15 => ?_) (fun c15 => ?_)
    · refine s_sub [0, 1] rfl ?_
      exact hk41 x4 x5 h7
    · refine s_aload_n hK dX5_findLeaders_22 rfl 1 rfl ?_
      refine s_aload_n hK dX5_findLeaders_23 rfl 0 rfl ?_
      refine s_gA hK fcX5 0 (Nat.le_of_ble_eq_true rfl) (Or.inl q1086) (Or.inl rfl) dX5_findLeaders_24 (fun v11 => ?_)
      refine s_gA hK fcX2 1 (Nat.le_of_ble_eq_true rfl) (Or.inr ⟨_, q137⟩) (Or.inl rfl) dX5_findLeaders_27 (fun v12 => ?_)
      refine s_iload_n hK dX5_findLeaders_30 rfl 2 rfl ?_
      refine s_iald hK dX5_findLeaders_31 (fun v13 => ?_)
      refine s_rc (fun _ _ eo er => ?_)
      refine s_cV hK ho_n (cx_v (As := [.int v13]) (rest := []) hK dyJ20_set rfl q875 fcJ20.1 q876 q877 q106 q878 eo er (ct_J20_set hK.1 x5 v13 h7) (Nat.le_trans (Nat.le_of_ble_eq_true rfl) hf) (Nat.le_trans (Nat.le_of_ble_eq_true rfl) hlo) rk_n (Nat.le_of_ble_eq_true rfl) dX5_findLeaders_32 rfl) (fun h14 => ?_)
      refine s_iinc (j := 2) (v := 1) (lv' := [(2, .int (x6 + 1)), (0, va_rf x4), (1, va_rf x5)]) hK dX5_findLeaders_35 rfl rfl (Nat.le_of_ble_eq_true rfl) (flA (pre := [(0, va_rf x4)]) (suf := [(2, .int x6)]) rfl rfl) ?_
      refine s_goto (tgt := 10) hK dX5_findLeaders_38 (by decide) ?_
      refine s_sub [1, 2, 0] rfl ?_
      exact ih x4 x5 (x6 + 1) h14
theorem sm_X5_findLeaders_J102 {G : GC} {K : SC} (hK : SOK G K RX5 cX5_findLeaders 4 (some (.object "java/util/BitSet")) "findLeaders" []) (hf : FR_X5_findLeaders ≤ (kR K).frames) (hlo : LO_X5_findLeaders ≤ (kR K).locals) {rc : Option Nat → Option Nat → Int32 → AH → RS} (hrc : ∀ (y0 : Option Nat) (y1 : Option Nat) (y2 : Int32) (h : AH), Sim G K 4 (rc y0 y1 y2 h) h 50 [(0, va_rf y0), (1, va_rf y1), (2, .int y2)] []) {k116 : Option Nat → Option Nat → AH → RS} (hk116 : ∀ (y0 : Option Nat) (y1 : Option Nat) (h : AH), Sim G K 4 (k116 y0 y1 h) h 116 [(0, va_rf y0), (1, va_rf y1)] []) (x36 : Option Nat) (x37 : Option Nat) (x38 : Int32)  (h39 : AH) : Sim G K 4 (f_X5_findLeaders_J102 rc k116 x36 x37 x38 h39) h39 102 [(0, va_rf x36), (1, va_rf x37), (2, .int x38)] [] := by
  unfold f_X5_findLeaders_J102
  refine s_aload_n hK dX5_findLeaders_102 rfl 0 rfl ?_
  refine s_gA hK fcX5 8 (Nat.le_of_ble_eq_true rfl) (Or.inl q1100) (Or.inl rfl) dX5_findLeaders_103 (fun v40 => ?_)
  refine s_iload_n hK dX5_findLeaders_106 rfl 2 rfl ?_
  refine s_iconst (v := 1) hK dX5_findLeaders_107 rfl ?_
  refine s_iadd hK dX5_findLeaders_108 ?_
  refine s_rc (fun _ _ eo er => ?_)
  refine s_cI hK ho_n (cx_v (As := [.int (x38 + 1)]) (rest := []) hK dyJ20_nextSetBit rfl q1030 fcJ20.1 q1031 q1032 q106 q1033 eo er (ct_J20_nextSetBit hK.1 v40 (x38 + 1) h39) (Nat.le_trans (Nat.le_of_ble_eq_true rfl) hf) (Nat.le_trans (Nat.le_of_ble_eq_true rfl) hlo) rk_n (Nat.le_of_ble_eq_true rfl) dX5_findLeaders_109 rfl) (fun v42 h41 => ?_)
  refine s_istore_n (lv' := [(2, .int v42), (0, va_rf x36), (1, va_rf x37)]) hK dX5_findLeaders_112 rfl (Nat.le_of_ble_eq_true rfl) (flA (pre := [(0, va_rf x36)]) (suf := [(2, .int x38)]) rfl rfl) ?_
  refine s_goto (tgt := 50) hK dX5_findLeaders_113 (by decide) ?_
  refine s_sub [1, 2, 0] rfl ?_
  exact hrc x36 x37 v42 h41
theorem sm_X5_findLeaders_J77 {G : GC} {K : SC} (hK : SOK G K RX5 cX5_findLeaders 4 (some (.object "java/util/BitSet")) "findLeaders" []) (hf : FR_X5_findLeaders ≤ (kR K).frames) (hlo : LO_X5_findLeaders ≤ (kR K).locals) {rc : Option Nat → Option Nat → Int32 → AH → RS} (hrc : ∀ (y0 : Option Nat) (y1 : Option Nat) (y2 : Int32) (h : AH), Sim G K 4 (rc y0 y1 y2 h) h 50 [(0, va_rf y0), (1, va_rf y1), (2, .int y2)] []) {k116 : Option Nat → Option Nat → AH → RS} (hk116 : ∀ (y0 : Option Nat) (y1 : Option Nat) (h : AH), Sim G K 4 (k116 y0 y1 h) h 116 [(0, va_rf y0), (1, va_rf y1)] []) (x29 : Option Nat) (x30 : Option Nat) (x31 : Int32)  (h32 : AH) : Sim G K 4 (f_X5_findLeaders_J77 rc k116 x29 x30 x31 h32) h32 77 [(0, va_rf x29), (1, va_rf x30), (2, .int x31)] [] := by
  unfold f_X5_findLeaders_J77
  refine s_aload_n hK dX5_findLeaders_77 rfl 0 rfl ?_
  refine s_gA hK fcX5 0 (Nat.le_of_ble_eq_true rfl) (Or.inl q1086) (Or.inl rfl) dX5_findLeaders_78 (fun v33 => ?_)
  refine s_iload_n hK dX5_findLeaders_81 rfl 2 rfl ?_
  refine s_rc (fun _ _ eo er => ?_)
  refine s_cI hK ho_n (cx_v (As := [.int x31]) (rest := []) hK dyX2_endsBlock rfl q1055 fcX2.1 q1056 q1057 q79 q1058 eo er (ct_X2_endsBlock hK.1 v33 x31 h32) (Nat.le_trans (Nat.le_of_ble_eq_true rfl) hf) (Nat.le_trans (Nat.le_of_ble_eq_true rfl) hlo) rk_n (Nat.le_of_ble_eq_true rfl) dX5_findLeaders_82 rfl) (fun v35 h34 => ?_)
  refine s_if_eq (tgt := 102) hK dX5_findLeaders_85 (by decide) (fun c47 => ?_) (fun c47 => ?_)
  · exact sm_X5_findLeaders_J102 hK hf hlo hrc hk116 x29 x30 x31 h34
  · refine s_aload_n hK dX5_findLeaders_88 rfl 1 rfl ?_
    refine s_iload_n hK dX5_findLeaders_89 rfl 2 rfl ?_
    refine s_aload_n hK dX5_findLeaders_90 rfl 0 rfl ?_
    refine s_gA hK fcX5 0 (Nat.le_of_ble_eq_true rfl) (Or.inl q1086) (Or.inl rfl) dX5_findLeaders_91 (fun v43 => ?_)
    refine s_iload_n hK dX5_findLeaders_94 rfl 2 rfl ?_
    refine s_rc (fun _ _ eo er => ?_)
    refine s_cI hK ho_n (cx_v (As := [.int x31]) (rest := [.int x31, va_rf x30]) hK dyX2_length rfl q870 fcX2.1 q782 q783 q79 q784 eo er (ct_X2_length hK.1 v43 x31 h34) (Nat.le_trans (Nat.le_of_ble_eq_true rfl) hf) (Nat.le_trans (Nat.le_of_ble_eq_true rfl) hlo) (rk_i (rk_a rk_n)) (Nat.le_of_ble_eq_true rfl) dX5_findLeaders_95 rfl) (fun v45 h44 => ?_)
    refine s_iadd hK dX5_findLeaders_98 ?_
    refine s_rc (fun _ _ eo er => ?_)
    refine s_cV hK ho_n (cx_v (As := [.int (x31 + v45)]) (rest := []) hK dyJ20_set rfl q875 fcJ20.1 q876 q877 q106 q878 eo er (ct_J20_set hK.1 x30 (x31 + v45) h44) (Nat.le_trans (Nat.le_of_ble_eq_true rfl) hf) (Nat.le_trans (Nat.le_of_ble_eq_true rfl) hlo) rk_n (Nat.le_of_ble_eq_true rfl) dX5_findLeaders_99 rfl) (fun h46 => ?_)
    exact sm_X5_findLeaders_J102 hK hf hlo hrc hk116 x29 x30 x31 h46
theorem sm_X5_findLeaders_L50 {G : GC} {K : SC} (hK : SOK G K RX5 cX5_findLeaders 4 (some (.object "java/util/BitSet")) "findLeaders" []) (hf : FR_X5_findLeaders ≤ (kR K).frames) (hlo : LO_X5_findLeaders ≤ (kR K).locals) {k116 : Option Nat → Option Nat → AH → RS} (hk116 : ∀ (y0 : Option Nat) (y1 : Option Nat) (h : AH), Sim G K 4 (k116 y0 y1 h) h 116 [(0, va_rf y0), (1, va_rf y1)] []) : ∀ (n : Nat) (x22 : Option Nat) (x23 : Option Nat) (x24 : Int32) (h25 : AH), Sim G K 4 (f_X5_findLeaders_L50 k116 n x22 x23 x24 h25) h25 50 [(0, va_rf x22), (1, va_rf x23), (2, .int x24)] [] := by
  intro n
  induction n with
  | zero => intro x22 x23 x24 h25; exact s_none
  | succ n ih =>
    intro x22 x23 x24 h25
    rw [f_X5_findLeaders_L50]
    refine s_iload_n hK dX5_findLeaders_50 rfl 2 rfl ?_
    refine s_if_lt (tgt := 116) hK dX5_findLeaders_51 (by decide) (fun c53 => ?_) (fun c53 => ?_)
    · refine s_sub [0, 1] rfl ?_
      exact hk116 x22 x23 h25
    · refine s_aload_n hK dX5_findLeaders_54 rfl 0 rfl ?_
      refine s_gA hK fcX5 0 (Nat.le_of_ble_eq_true rfl) (Or.inl q1086) (Or.inl rfl) dX5_findLeaders_55 (fun v26 => ?_)
      refine s_iload_n hK dX5_findLeaders_58 rfl 2 rfl ?_
      refine s_rc (fun _ _ eo er => ?_)
      refine s_cI hK ho_n (cx_v (As := [.int x24]) (rest := []) hK dyX2_hasTarget rfl q896 fcX2.1 q790 q791 q79 q792 eo er (ct_X2_hasTarget hK.1 v26 x24 h25) (Nat.le_trans (Nat.le_of_ble_eq_true rfl) hf) (Nat.le_trans (Nat.le_of_ble_eq_true rfl) hlo) rk_n (Nat.le_of_ble_eq_true rfl) dX5_findLeaders_59 rfl) (fun v28 h27 => ?_)
      refine s_if_eq (tgt := 77) hK dX5_findLeaders_62 (by decide) (fun c52 => ?_) (fun c52 => ?_)
      · exact sm_X5_findLeaders_J77 hK hf hlo ih hk116 x22 x23 x24 h27
      · refine s_aload_n hK dX5_findLeaders_65 rfl 1 rfl ?_
        refine s_aload_n hK dX5_findLeaders_66 rfl 0 rfl ?_
        refine s_gA hK fcX5 0 (Nat.le_of_ble_eq_true rfl) (Or.inl q1086) (Or.inl rfl) dX5_findLeaders_67 (fun v48 => ?_)
        refine s_iload_n hK dX5_findLeaders_70 rfl 2 rfl ?_
        refine s_rc (fun _ _ eo er => ?_)
        refine s_cI hK ho_n (cx_v (As := [.int x24]) (rest := [va_rf x23]) hK dyX2_target rfl q897 fcX2.1 q794 q795 q79 q796 eo er (ct_X2_target hK.1 v48 x24 h27) (Nat.le_trans (Nat.le_of_ble_eq_true rfl) hf) (Nat.le_trans (Nat.le_of_ble_eq_true rfl) hlo) (rk_a rk_n) (Nat.le_of_ble_eq_true rfl) dX5_findLeaders_71 rfl) (fun v50 h49 => ?_)
        refine s_rc (fun _ _ eo er => ?_)
        refine s_cV hK ho_n (cx_v (As := [.int v50]) (rest := []) hK dyJ20_set rfl q875 fcJ20.1 q876 q877 q106 q878 eo er (ct_J20_set hK.1 x23 v50 h49) (Nat.le_trans (Nat.le_of_ble_eq_true rfl) hf) (Nat.le_trans (Nat.le_of_ble_eq_true rfl) hlo) rk_n (Nat.le_of_ble_eq_true rfl) dX5_findLeaders_74 rfl) (fun h51 => ?_)
        exact sm_X5_findLeaders_J77 hK hf hlo ih hk116 x22 x23 x24 h51
theorem sm_X5_findLeaders_L131 {G : GC} {K : SC} (hK : SOK G K RX5 cX5_findLeaders 4 (some (.object "java/util/BitSet")) "findLeaders" []) (hf : FR_X5_findLeaders ≤ (kR K).frames) (hlo : LO_X5_findLeaders ≤ (kR K).locals) {k186 : Option Nat → Option Nat → Int32 → AH → RS} (hk186 : ∀ (y0 : Option Nat) (y1 : Option Nat) (y2 : Int32) (h : AH), Sim G K 4 (k186 y0 y1 y2 h) h 186 [(0, va_rf y0), (1, va_rf y1), (2, .int y2)] []) : ∀ (n : Nat) (x64 : Option Nat) (x65 : Option Nat) (x66 : Int32) (x67 : Int32) (h68 : AH), Sim G K 4 (f_X5_findLeaders_L131 k186 n x64 x65 x66 x67 h68) h68 131 [(0, va_rf x64), (1, va_rf x65), (2, .int x66), (3, .int x67)] [] := by
  intro n
  induction n with
  | zero => intro x64 x65 x66 x67 h68; exact s_none
  | succ n ih =>
    intro x64 x65 x66 x67 h68
    rw [f_X5_findLeaders_L131]
    refine s_iload_n hK dX5_findLeaders_131 rfl 3 rfl ?_
    refine s_aload_n hK dX5_findLeaders_132 rfl 0 rfl ?_
    refine s_gA hK fcX5 5 (Nat.le_of_ble_eq_true rfl) (Or.inl q1094) (Or.inl rfl) dX5_findLeaders_133 (fun v69 => ?_)
    refine s_iload_n hK dX5_findLeaders_136 rfl 2 rfl ?_
    refine s_rc (fun _ _ eo er => ?_)
    refine s_cA hK ho_n (cx_v (As := [.int x66]) (rest := [.int x67]) hK dyJ7_get rfl q1021 fcJ7.1 q981 q2188 q88 q983 eo er (ct_J7_get hK.1 v69 x66 h68) (Nat.le_trans (Nat.le_of_ble_eq_true rfl) hf) (Nat.le_trans (Nat.le_of_ble_eq_true rfl) hlo) (rk_i rk_n) (Nat.le_of_ble_eq_true rfl) dX5_findLeaders_137 rfl) (fun v71 h70 => ?_)
    refine s_ck hK q921 (ck1 fcX7.1 (Or.inl rfl)) dX5_findLeaders_140 ?_
    refine s_gA hK fcX7 4 (Nat.le_of_ble_eq_true rfl) (Or.inr ⟨_, q939⟩) (Or.inl rfl) dX5_findLeaders_143 (fun v72 => ?_)
    refine s_rc (fun _ _ eo er => ?_)
    refine s_cI hK ho_n (cx_v (As := []) (rest := [.int x67]) hK dyJ7_size rfl q1020 fcJ7.1 q972 q2187 q88 q974 eo er (ct_J7_size hK.1 v72 h70) (Nat.le_trans (Nat.le_of_ble_eq_true rfl) hf) (Nat.le_trans (Nat.le_of_ble_eq_true rfl) hlo) (rk_i rk_n) (Nat.le_of_ble_eq_true rfl) dX5_findLeaders_146 rfl) (fun v74 h73 => ?_)
    refine s_icmp_ge (tgt := 186) hK dX5_findLeaders_149 (by decide) (fun c84 => ?_) (fun c84 => ?_)
    · refine s_sub [0, 1, 2] rfl ?_
      exact hk186 x64 x65 x66 h73
    · refine s_aload_n hK dX5_findLeaders_152 rfl 1 rfl ?_
      refine s_aload_n hK dX5_findLeaders_153 rfl 0 rfl ?_
      refine s_gA hK fcX5 5 (Nat.le_of_ble_eq_true rfl) (Or.inl q1094) (Or.inl rfl) dX5_findLeaders_154 (fun v75 => ?_)
      refine s_iload_n hK dX5_findLeaders_157 rfl 2 rfl ?_
      refine s_rc (fun _ _ eo er => ?_)
      refine s_cA hK ho_n (cx_v (As := [.int x66]) (rest := [va_rf x65]) hK dyJ7_get rfl q1021 fcJ7.1 q981 q2188 q88 q983 eo er (ct_J7_get hK.1 v75 x66 h73) (Nat.le_trans (Nat.le_of_ble_eq_true rfl) hf) (Nat.le_trans (Nat.le_of_ble_eq_true rfl) hlo) (rk_a rk_n) (Nat.le_of_ble_eq_true rfl) dX5_findLeaders_158 rfl) (fun v77 h76 => ?_)
      refine s_ck hK q921 (ck1 fcX7.1 (Or.inl rfl)) dX5_findLeaders_161 ?_
      refine s_gA hK fcX7 4 (Nat.le_of_ble_eq_true rfl) (Or.inr ⟨_, q939⟩) (Or.inl rfl) dX5_findLeaders_164 (fun v78 => ?_)
      refine s_iload_n hK dX5_findLeaders_167 rfl 3 rfl ?_
      refine s_rc (fun _ _ eo er => ?_)
      refine s_cA hK ho_n (cx_v (As := [.int x67]) (rest := [va_rf x65]) hK dyJ7_get rfl q1021 fcJ7.1 q981 q2188 q88 q983 eo er (ct_J7_get hK.1 v78 x67 h76) (Nat.le_trans (Nat.le_of_ble_eq_true rfl) hf) (Nat.le_trans (Nat.le_of_ble_eq_true rfl) hlo) (rk_a rk_n) (Nat.le_of_ble_eq_true rfl) dX5_findLeaders_168 rfl) (fun v80 h79 => ?_)
      refine s_ck hK q476 (ck1 fcJ9.1 (Or.inl rfl)) dX5_findLeaders_171 ?_
      refine s_rc (fun _ _ eo er => ?_)
      refine s_cI hK ho_n (cx_v (As := []) (rest := [va_rf x65]) hK dyJ9_intValue rfl q477 fcJ9.1 q478 q479 q91 q480 eo er (ct_J9_intValue hK.1 v80 h79) (Nat.le_trans (Nat.le_of_ble_eq_true rfl) hf) (Nat.le_trans (Nat.le_of_ble_eq_true rfl) hlo) (rk_a rk_n) (Nat.le_of_ble_eq_true rfl) dX5_findLeaders_174 rfl) (fun v82 h81 => ?_)
      refine s_rc (fun _ _ eo er => ?_)
      refine s_cV hK ho_n (cx_v (As := [.int v82]) (rest := []) hK dyJ20_set rfl q875 fcJ20.1 q876 q877 q106 q878 eo er (ct_J20_set hK.1 x65 v82 h81) (Nat.le_trans (Nat.le_of_ble_eq_true rfl) hf) (Nat.le_trans (Nat.le_of_ble_eq_true rfl) hlo) rk_n (Nat.le_of_ble_eq_true rfl) dX5_findLeaders_177 rfl) (fun h83 => ?_)
      refine s_iinc (j := 3) (v := 1) (lv' := [(3, .int (x67 + 1)), (0, va_rf x64), (1, va_rf x65), (2, .int x66)]) hK dX5_findLeaders_180 rfl rfl (Nat.le_of_ble_eq_true rfl) rfl ?_
      refine s_goto (tgt := 131) hK dX5_findLeaders_183 (by decide) ?_
      refine s_sub [1, 2, 3, 0] rfl ?_
      exact ih x64 x65 x66 (x67 + 1) h83
theorem sm_X5_findLeaders_L118 {G : GC} {K : SC} (hK : SOK G K RX5 cX5_findLeaders 4 (some (.object "java/util/BitSet")) "findLeaders" []) (hf : FR_X5_findLeaders ≤ (kR K).frames) (hlo : LO_X5_findLeaders ≤ (kR K).locals) {k192 : Option Nat → Option Nat → AH → RS} (hk192 : ∀ (y0 : Option Nat) (y1 : Option Nat) (h : AH), Sim G K 4 (k192 y0 y1 h) h 192 [(0, va_rf y0), (1, va_rf y1)] []) : ∀ (n : Nat) (x57 : Option Nat) (x58 : Option Nat) (x59 : Int32) (h60 : AH), Sim G K 4 (f_X5_findLeaders_L118 k192 n x57 x58 x59 h60) h60 118 [(0, va_rf x57), (1, va_rf x58), (2, .int x59)] [] := by
  intro n
  induction n with
  | zero => intro x57 x58 x59 h60; exact s_none
  | succ n ih =>
    intro x57 x58 x59 h60
    rw [f_X5_findLeaders_L118]
    refine s_iload_n hK dX5_findLeaders_118 rfl 2 rfl ?_
    refine s_aload_n hK dX5_findLeaders_119 rfl 0 rfl ?_
    refine s_gA hK fcX5 5 (Nat.le_of_ble_eq_true rfl) (Or.inl q1094) (Or.inl rfl) dX5_findLeaders_120 (fun v61 => ?_)
    refine s_rc (fun _ _ eo er => ?_)
    refine s_cI hK ho_n (cx_v (As := []) (rest := [.int x59]) hK dyJ7_size rfl q1020 fcJ7.1 q972 q2187 q88 q974 eo er (ct_J7_size hK.1 v61 h60) (Nat.le_trans (Nat.le_of_ble_eq_true rfl) hf) (Nat.le_trans (Nat.le_of_ble_eq_true rfl) hlo) (rk_i rk_n) (Nat.le_of_ble_eq_true rfl) dX5_findLeaders_123 rfl) (fun v63 h62 => ?_)
    refine s_icmp_ge (tgt := 192) hK dX5_findLeaders_126 (by decide) (fun c89 => ?_) (fun c89 => ?_)
    · refine s_sub [0, 1] rfl ?_
      exact hk192 x57 x58 h62
    · refine s_iconst (v := 0) hK dX5_findLeaders_129 rfl ?_
      refine s_istore_n (lv' := [(3, .int 0), (0, va_rf x57), (1, va_rf x58), (2, .int x59)]) hK dX5_findLeaders_130 rfl (Nat.le_of_ble_eq_true rfl) rfl ?_
      refine s_sub [1, 2, 3, 0] rfl ?_
      refine sm_X5_findLeaders_L131 hK hf hlo (fun x85 x86 x87 h88 => ?_) FUEL x57 x58 x59 0 h62
      · refine s_iinc (j := 2) (v := 1) (lv' := [(2, .int (x87 + 1)), (0, va_rf x85), (1, va_rf x86)]) hK dX5_findLeaders_186 rfl rfl (Nat.le_of_ble_eq_true rfl) (flA (pre := [(0, va_rf x85)]) (suf := [(2, .int x87)]) rfl rfl) ?_
        refine s_goto (tgt := 118) hK dX5_findLeaders_189 (by decide) ?_
        refine s_sub [1, 2, 0] rfl ?_
        exact ih x85 x86 (x87 + 1) h88
theorem sm_X5_findLeaders {G : GC} {K : SC} (hK : SOK G K RX5 cX5_findLeaders 4 (some (.object "java/util/BitSet")) "findLeaders" []) (hf : FR_X5_findLeaders ≤ (kR K).frames) (hlo : LO_X5_findLeaders ≤ (kR K).locals) (p0 : Option Nat) (h : AH) : Sim G K 4 (f_X5_findLeaders p0 h) h 0 [(0, va_rf p0)] [] := by
  unfold f_X5_findLeaders
  refine s_new hK fcJ20 q263 q264 q106 fsJ20_ok dX5_findLeaders_0 (fun a1 h2 => ?_)
  refine s_dup hK dX5_findLeaders_3 (va_cat _) ?_
  refine s_nn (fun _ eo => ?_)
  refine s_cV hK ho_n (cx_i (As := []) (rest := [va_rf a1]) hK dyJ20_init rfl q265 rfl q266 q106 q267 eo (ct_J20_init hK.1 a1 h2) (Nat.le_trans (Nat.le_of_ble_eq_true rfl) hf) (Nat.le_trans (Nat.le_of_ble_eq_true rfl) hlo) (rk_a rk_n) (Nat.le_of_ble_eq_true rfl) dX5_findLeaders_4 rfl) (fun h3 => ?_)
  refine s_astore_n (lv' := [(1, va_rf a1), (0, va_rf p0)]) hK dX5_findLeaders_7 rfl (Nat.le_of_ble_eq_true rfl) (flA (pre := []) (suf := []) rfl rfl) ?_
  refine s_iconst (v := 0) hK dX5_findLeaders_8 rfl ?_
  refine s_istore_n (lv' := [(2, .int 0), (1, va_rf a1), (0, va_rf p0)]) hK dX5_findLeaders_9 rfl (Nat.le_of_ble_eq_true rfl) (flA (pre := []) (suf := [(0, va_rf p0)]) rfl rfl) ?_
  refine s_sub [2, 1, 0] rfl ?_
  refine sm_X5_findLeaders_L10 hK hf hlo (fun x16 x17 h18 => ?_) FUEL p0 a1 0 h3
  · refine s_aload_n hK dX5_findLeaders_41 rfl 0 rfl ?_
    refine s_gA hK fcX5 8 (Nat.le_of_ble_eq_true rfl) (Or.inl q1100) (Or.inl rfl) dX5_findLeaders_42 (fun v19 => ?_)
    refine s_iconst (v := 0) hK dX5_findLeaders_45 rfl ?_
    refine s_rc (fun _ _ eo er => ?_)
    refine s_cI hK ho_n (cx_v (As := [.int 0]) (rest := []) hK dyJ20_nextSetBit rfl q1030 fcJ20.1 q1031 q1032 q106 q1033 eo er (ct_J20_nextSetBit hK.1 v19 0 h18) (Nat.le_trans (Nat.le_of_ble_eq_true rfl) hf) (Nat.le_trans (Nat.le_of_ble_eq_true rfl) hlo) rk_n (Nat.le_of_ble_eq_true rfl) dX5_findLeaders_46 rfl) (fun v21 h20 => ?_)
    refine s_istore_n (lv' := [(2, .int v21), (0, va_rf x16), (1, va_rf x17)]) hK dX5_findLeaders_49 rfl (Nat.le_of_ble_eq_true rfl) (flA (pre := [(0, va_rf x16)]) (suf := []) rfl rfl) ?_
    refine s_sub [1, 2, 0] rfl ?_
    refine sm_X5_findLeaders_L50 hK hf hlo (fun x54 x55 h56 => ?_) FUEL x16 x17 v21 h20
    · refine s_iconst (v := 0) hK dX5_findLeaders_116 rfl ?_
      refine s_istore_n (lv' := [(2, .int 0), (0, va_rf x54), (1, va_rf x55)]) hK dX5_findLeaders_117 rfl (Nat.le_of_ble_eq_true rfl) (flA (pre := [(0, va_rf x54)]) (suf := []) rfl rfl) ?_
      refine s_sub [1, 2, 0] rfl ?_
      refine sm_X5_findLeaders_L118 hK hf hlo (fun x90 x91 h92 => ?_) FUEL x54 x55 0 h56
      · refine s_aload_n hK dX5_findLeaders_192 rfl 1 rfl ?_
        refine s_aload_n hK dX5_findLeaders_193 rfl 0 rfl ?_
        refine s_gA hK fcX5 8 (Nat.le_of_ble_eq_true rfl) (Or.inl q1100) (Or.inl rfl) dX5_findLeaders_194 (fun v93 => ?_)
        refine s_rc (fun _ _ eo er => ?_)
        refine s_cV hK ho_n (cx_v (As := [va_rf v93]) (rest := []) hK dyJ20_and rfl q1060 fcJ20.1 q1061 q1062 q106 q1063 eo er (ct_J20_and hK.1 x91 v93 h92) (Nat.le_trans (Nat.le_of_ble_eq_true rfl) hf) (Nat.le_trans (Nat.le_of_ble_eq_true rfl) hlo) rk_n (Nat.le_of_ble_eq_true rfl) dX5_findLeaders_197 rfl) (fun h94 => ?_)
        refine s_aload_n hK dX5_findLeaders_200 rfl 1 rfl ?_
        exact s_aret hK (Or.inl ⟨_, rfl⟩) dX5_findLeaders_201
theorem ct_X5_findLeaders {G : GC} {l : Launch} (g : GOK G l) (p0 : Option Nat) (h : AH) : CT G l yX5_findLeaders (Cond.code yX5_findLeaders cX5_findLeaders 4 (some (.object "java/util/BitSet"))) 5 208 [va_rf p0] (f_X5_findLeaders p0 h) h :=
  CT.of g (by decide) (by simp only [ls_a, ls_i, ls_l, ls_n]; decide) (fun K _ hK hf hlo => by simp only [la_a, la_i, la_l, la_n]; exact sm_X5_findLeaders hK hf hlo p0 h)
abbrev FR_X5_findBlocks : Nat := 7
abbrev LO_X5_findBlocks : Nat := 251
theorem dyX5_findBlocks : DY yX5_findBlocks 0 := ⟨⟨by decide, by decide⟩, by decide +kernel⟩
theorem sm_X5_findBlocks_J104 {G : GC} {K : SC} (hK : SOK G K RX5 cX5_findBlocks 7 (none) "findBlocks" []) (hf : FR_X5_findBlocks ≤ (kR K).frames) (hlo : LO_X5_findBlocks ≤ (kR K).locals) {rc : Option Nat → Option Nat → Int32 → Option Nat → Int32 → Int32 → AH → RS} (hrc : ∀ (y0 : Option Nat) (y1 : Option Nat) (y2 : Int32) (y3 : Option Nat) (y4 : Int32) (y5 : Int32) (h : AH), Sim G K 7 (rc y0 y1 y2 y3 y4 y5 h) h 30 [(0, va_rf y0), (1, va_rf y1), (2, .int y2), (3, va_rf y3), (4, .int y4), (5, .int y5)] []) {k109 : Option Nat → Option Nat → Int32 → Option Nat → AH → RS} (hk109 : ∀ (y0 : Option Nat) (y1 : Option Nat) (y2 : Int32) (y3 : Option Nat) (h : AH), Sim G K 7 (k109 y0 y1 y2 y3 h) h 109 [(0, va_rf y0), (1, va_rf y1), (2, .int y2), (3, va_rf y3)] []) (x34 : Option Nat) (x35 : Option Nat) (x36 : Int32) (x37 : Option Nat) (x38 : Int32) (y39 : Int32) (h40 : AH) : Sim G K 7 (f_X5_findBlocks_J104 rc k109 x34 x35 x36 x37 x38 y39 h40) h40 104 [(0, va_rf x34), (1, va_rf x35), (2, .int x36), (3, va_rf x37), (4, .int x38)] [.int y39] := by
  unfold f_X5_findBlocks_J104
  refine s_istore (lv' := [(5, .int y39), (0, va_rf x34), (1, va_rf x35), (2, .int x36), (3, va_rf x37), (4, .int x38)]) hK dX5_findBlocks_104 (Nat.le_of_ble_eq_true rfl) rfl ?_
  refine s_goto (tgt := 30) hK dX5_findBlocks_106 (by decide) ?_
  refine s_sub [1, 2, 3, 4, 5, 0] rfl ?_
  exact hrc x34 x35 x36 x37 x38 y39 h40
theorem sm_X5_findBlocks_J103 {G : GC} {K : SC} (hK : SOK G K RX5 cX5_findBlocks 7 (none) "findBlocks" []) (hf : FR_X5_findBlocks ≤ (kR K).frames) (hlo : LO_X5_findBlocks ≤ (kR K).locals) {rc : Option Nat → Option Nat → Int32 → Option Nat → Int32 → Int32 → AH → RS} (hrc : ∀ (y0 : Option Nat) (y1 : Option Nat) (y2 : Int32) (y3 : Option Nat) (y4 : Int32) (y5 : Int32) (h : AH), Sim G K 7 (rc y0 y1 y2 y3 y4 y5 h) h 30 [(0, va_rf y0), (1, va_rf y1), (2, .int y2), (3, va_rf y3), (4, .int y4), (5, .int y5)] []) {k109 : Option Nat → Option Nat → Int32 → Option Nat → AH → RS} (hk109 : ∀ (y0 : Option Nat) (y1 : Option Nat) (y2 : Int32) (y3 : Option Nat) (h : AH), Sim G K 7 (k109 y0 y1 y2 y3 h) h 109 [(0, va_rf y0), (1, va_rf y1), (2, .int y2), (3, va_rf y3)] []) (x28 : Option Nat) (x29 : Option Nat) (x30 : Int32) (x31 : Option Nat) (x32 : Int32)  (h33 : AH) : Sim G K 7 (f_X5_findBlocks_J103 rc k109 x28 x29 x30 x31 x32 h33) h33 103 [(0, va_rf x28), (1, va_rf x29), (2, .int x30), (3, va_rf x31), (4, .int x32)] [] := by
  unfold f_X5_findBlocks_J103
  refine s_iconst (v := 0) hK dX5_findBlocks_103 rfl ?_
  exact sm_X5_findBlocks_J104 hK hf hlo hrc hk109 x28 x29 x30 x31 x32 0 h33
theorem sm_X5_findBlocks_L30 {G : GC} {K : SC} (hK : SOK G K RX5 cX5_findBlocks 7 (none) "findBlocks" []) (hf : FR_X5_findBlocks ≤ (kR K).frames) (hlo : LO_X5_findBlocks ≤ (kR K).locals) {k109 : Option Nat → Option Nat → Int32 → Option Nat → AH → RS} (hk109 : ∀ (y0 : Option Nat) (y1 : Option Nat) (y2 : Int32) (y3 : Option Nat) (h : AH), Sim G K 7 (k109 y0 y1 y2 y3 h) h 109 [(0, va_rf y0), (1, va_rf y1), (2, .int y2), (3, va_rf y3)] []) : ∀ (n : Nat) (x12 : Option Nat) (x13 : Option Nat) (x14 : Int32) (x15 : Option Nat) (x16 : Int32) (x17 : Int32) (h18 : AH), Sim G K 7 (f_X5_findBlocks_L30 k109 n x12 x13 x14 x15 x16 x17 h18) h18 30 [(0, va_rf x12), (1, va_rf x13), (2, .int x14), (3, va_rf x15), (4, .int x16), (5, .int x17)] [] := by
  intro n
  induction n with
  | zero => intro x12 x13 x14 x15 x16 x17 h18; exact s_none
  | succ n ih =>
    intro x12 x13 x14 x15 x16 x17 h18
    rw [f_X5_findBlocks_L30]
    refine s_iload hK dX5_findBlocks_30 5 rfl ?_
    refine s_if_eq (tgt := 109) hK dX5_findBlocks_32 (by decide) (fun c48 => ?_) (fun c48 => ?_)
    · refine s_sub [0, 1, 2, 3] rfl ?_
      exact hk109 x12 x13 x14 x15 h18
    · refine s_aload_n hK dX5_findBlocks_35 rfl 3 rfl ?_
      refine s_dup hK dX5_findBlocks_36 (va_cat _) ?_
      refine s_gI hK fcX9 1 (Nat.le_of_ble_eq_true rfl) (Or.inr ⟨_, q1076⟩) (Or.inl rfl) dX5_findBlocks_37 (fun v19 => ?_)
      refine s_iconst (v := 1) hK dX5_findBlocks_40 rfl ?_
      refine s_iadd hK dX5_findBlocks_41 ?_
      refine s_pF hK fcX9 1 (Nat.le_of_ble_eq_true rfl) (Or.inr ⟨_, q1076⟩) (Or.inl rfl) (Or.inl rfl) rfl rfl dX5_findBlocks_42 (fun h20 => ?_)
      refine s_aload_n hK dX5_findBlocks_45 rfl 3 rfl ?_
      refine s_iload hK dX5_findBlocks_46 4 rfl ?_
      refine s_pF hK fcX9 2 (Nat.le_of_ble_eq_true rfl) (Or.inr ⟨_, q1078⟩) (Or.inl rfl) (Or.inl rfl) rfl rfl dX5_findBlocks_48 (fun h21 => ?_)
      refine s_aload_n hK dX5_findBlocks_51 rfl 0 rfl ?_
      refine s_gA hK fcX5 0 (Nat.le_of_ble_eq_true rfl) (Or.inl q1086) (Or.inl rfl) dX5_findBlocks_52 (fun v22 => ?_)
      refine s_iload hK dX5_findBlocks_55 4 rfl ?_
      refine s_rc (fun _ _ eo er => ?_)
      refine s_cI hK ho_n (cx_v (As := [.int x16]) (rest := []) hK dyX2_endsBlock rfl q1055 fcX2.1 q1056 q1057 q79 q1058 eo er (ct_X2_endsBlock hK.1 v22 x16 h21) (Nat.le_trans (Nat.le_of_ble_eq_true rfl) hf) (Nat.le_trans (Nat.le_of_ble_eq_true rfl) hlo) rk_n (Nat.le_of_ble_eq_true rfl) dX5_findBlocks_57 rfl) (fun v24 h23 => ?_)
      refine s_istore (lv' := [(6, .int v24), (0, va_rf x12), (1, va_rf x13), (2, .int x14), (3, va_rf x15), (4, .int x16), (5, .int x17)]) hK dX5_findBlocks_60 (Nat.le_of_ble_eq_true rfl) rfl ?_
      refine s_iload hK dX5_findBlocks_62 5 rfl ?_
      refine s_aload_n hK dX5_findBlocks_64 rfl 1 rfl ?_
      refine s_gA hK fcX5 0 (Nat.le_of_ble_eq_true rfl) (Or.inl q1086) (Or.inl rfl) dX5_findBlocks_65 (fun v25 => ?_)
      refine s_iload hK dX5_findBlocks_68 5 rfl ?_
      refine s_rc (fun _ _ eo er => ?_)
      refine s_cI hK ho_n (cx_v (As := [.int x16]) (rest := [.int x16]) hK dyX2_length rfl q870 fcX2.1 q782 q783 q79 q784 eo er (ct_X2_length hK.1 v25 x16 h23) (Nat.le_trans (Nat.le_of_ble_eq_true rfl) hf) (Nat.le_trans (Nat.le_of_ble_eq_true rfl) hlo) (rk_i rk_n) (Nat.le_of_ble_eq_true rfl) dX5_findBlocks_70 rfl) (fun v27 h26 => ?_)
      refine s_iadd hK dX5_findBlocks_73 ?_
      refine s_istore (lv' := [(4, .int (x16 + v27)), (6, .int v24), (0, va_rf x12), (1, va_rf x13), (2, .int x14), (3, va_rf x15), (5, .int x17)]) hK dX5_findBlocks_74 (Nat.le_of_ble_eq_true rfl) (flA (pre := [(6, .int v24), (0, va_rf x12), (1, va_rf x13), (2, .int x14)]) (suf := [(4, .int x16), (5, .int x17)]) rfl rfl) ?_
      refine s_iload hK dX5_findBlocks_76 1 rfl ?_
      refine s_if_ne (tgt := 103) hK dX5_findBlocks_78 (by decide) (fun c47 => ?_) (fun c47 => ?_)
      · refine s_sub [2, 3, 4, 5, 0] rfl ?_
        exact sm_X5_findBlocks_J103 hK hf hlo ih hk109 x12 x13 x14 x15 (x16 + v27) h26
      · refine s_aload_n hK dX5_findBlocks_81 rfl 2 rfl ?_
        refine s_iload hK dX5_findBlocks_82 0 rfl ?_
        refine s_rc (fun _ _ eo er => ?_)
        refine s_cI hK ho_n (cx_v (As := [.int (x16 + v27)]) (rest := []) hK dyX5_isAccepted rfl q485 fcX5.1 q486 q487 q103 q488 eo er (ct_X5_isAccepted hK.1 x12 (x16 + v27) h26) (Nat.le_trans (Nat.le_of_ble_eq_true rfl) hf) (Nat.le_trans (Nat.le_of_ble_eq_true rfl) hlo) rk_n (Nat.le_of_ble_eq_true rfl) dX5_findBlocks_84 rfl) (fun v42 h41 => ?_)
        refine s_if_eq (tgt := 103) hK dX5_findBlocks_87 (by decide) (fun c46 => ?_) (fun c46 => ?_)
        · refine s_sub [2, 3, 4, 5, 0] rfl ?_
          exact sm_X5_findBlocks_J103 hK hf hlo ih hk109 x12 x13 x14 x15 (x16 + v27) h41
        · refine s_aload_n hK dX5_findBlocks_90 rfl 3 rfl ?_
          refine s_iload hK dX5_findBlocks_91 0 rfl ?_
          refine s_rc (fun _ _ eo er => ?_)
          refine s_cI hK ho_n (cx_v (As := [.int (x16 + v27)]) (rest := []) hK dyJ20_get rfl q489 fcJ20.1 q490 q491 q106 q492 eo er (ct_J20_get hK.1 x13 (x16 + v27) h41) (Nat.le_trans (Nat.le_of_ble_eq_true rfl) hf) (Nat.le_trans (Nat.le_of_ble_eq_true rfl) hlo) rk_n (Nat.le_of_ble_eq_true rfl) dX5_findBlocks_93 rfl) (fun v44 h43 => ?_)
          refine s_if_ne (tgt := 103) hK dX5_findBlocks_96 (by decide) (fun c45 => ?_) (fun c45 => ?_)
          · refine s_sub [2, 3, 4, 5, 0] rfl ?_
            exact sm_X5_findBlocks_J103 hK hf hlo ih hk109 x12 x13 x14 x15 (x16 + v27) h43
          · refine s_iconst (v := 1) hK dX5_findBlocks_99 rfl ?_
            refine s_goto (tgt := 104) hK dX5_findBlocks_100 (by decide) ?_
            refine s_sub [2, 3, 4, 5, 0] rfl ?_
            exact sm_X5_findBlocks_J104 hK hf hlo ih hk109 x12 x13 x14 x15 (x16 + v27) 1 h43
theorem sm_X5_findBlocks_L11 {G : GC} {K : SC} (hK : SOK G K RX5 cX5_findBlocks 7 (none) "findBlocks" []) (hf : FR_X5_findBlocks ≤ (kR K).frames) (hlo : LO_X5_findBlocks ≤ (kR K).locals) {k129 : AH → RS} (hk129 : ∀  (h : AH), Sim G K 7 (k129  h) h 129 [] []) : ∀ (n : Nat) (x5 : Option Nat) (x6 : Option Nat) (x7 : Int32) (h8 : AH), Sim G K 7 (f_X5_findBlocks_L11 k129 n x5 x6 x7 h8) h8 11 [(0, va_rf x5), (1, va_rf x6), (2, .int x7)] [] := by
  intro n
  induction n with
  | zero => intro x5 x6 x7 h8; exact s_none
  | succ n ih =>
    intro x5 x6 x7 h8
    rw [f_X5_findBlocks_L11]
    refine s_iload_n hK dX5_findBlocks_11 rfl 2 rfl ?_
    refine s_if_lt (tgt := 129) hK dX5_findBlocks_12 (by decide) (fun c59 => ?_) (fun c59 => ?_)
    · refine s_sub [] rfl ?_
      exact hk129  h8
    · refine s_new hK fcX9 q1068 q1069 q115 fsX9_ok dX5_findBlocks_15 (fun a9 h10 => ?_)
      refine s_dup hK dX5_findBlocks_18 (va_cat _) ?_
      refine s_iload_n hK dX5_findBlocks_19 rfl 2 rfl ?_
      refine s_nn (fun _ eo => ?_)
      refine s_cV hK ho_n (cx_i (As := [.int x7]) (rest := [va_rf a9]) hK dyX9_init rfl q1070 rfl q1071 q115 q1072 eo (ct_X9_init hK.1 a9 x7 h10) (Nat.le_trans (Nat.le_of_ble_eq_true rfl) hf) (Nat.le_trans (Nat.le_of_ble_eq_true rfl) hlo) (rk_a rk_n) (Nat.le_of_ble_eq_true rfl) dX5_findBlocks_20 rfl) (fun h11 => ?_)
      refine s_astore_n (lv' := [(3, va_rf a9), (0, va_rf x5), (1, va_rf x6), (2, .int x7)]) hK dX5_findBlocks_23 rfl (Nat.le_of_ble_eq_true rfl) rfl ?_
      refine s_iload_n hK dX5_findBlocks_24 rfl 3 rfl ?_
      refine s_istore (lv' := [(4, .int x7), (3, va_rf a9), (0, va_rf x5), (1, va_rf x6), (2, .int x7)]) hK dX5_findBlocks_25 (Nat.le_of_ble_eq_true rfl) (flA (pre := []) (suf := [(0, va_rf x5), (1, va_rf x6), (2, .int x7)]) rfl rfl) ?_
      refine s_iconst (v := 1) hK dX5_findBlocks_27 rfl ?_
      refine s_istore (lv' := [(5, .int 1), (4, .int x7), (3, va_rf a9), (0, va_rf x5), (1, va_rf x6), (2, .int x7)]) hK dX5_findBlocks_28 (Nat.le_of_ble_eq_true rfl) rfl ?_
      refine s_sub [3, 4, 5, 2, 1, 0] rfl ?_
      refine sm_X5_findBlocks_L30 hK hf hlo (fun x49 x50 x51 x52 h53 => ?_) FUEL x5 x6 x7 a9 x7 1 h11
      · refine s_aload_n hK dX5_findBlocks_109 rfl 0 rfl ?_
        refine s_gA hK fcX5 7 (Nat.le_of_ble_eq_true rfl) (Or.inl q1098) (Or.inl rfl) dX5_findBlocks_110 (fun v54 => ?_)
        refine s_aload_n hK dX5_findBlocks_113 rfl 3 rfl ?_
        refine s_rc (fun _ _ eo er => ?_)
        refine s_cI hK ho_n (cx_v (As := [va_rf x52]) (rest := []) hK dyJ7_add rfl q961 fcJ7.1 q851 q852 q88 q853 eo er (ct_J7_add hK.1 v54 x52 h53) (Nat.le_trans (Nat.le_of_ble_eq_true rfl) hf) (Nat.le_trans (Nat.le_of_ble_eq_true rfl) hlo) rk_n (Nat.le_of_ble_eq_true rfl) dX5_findBlocks_114 rfl) (fun v56 h55 => ?_)
        refine s_pop hK dX5_findBlocks_117 rfl ?_
        refine s_aload_n hK dX5_findBlocks_118 rfl 1 rfl ?_
        refine s_iload_n hK dX5_findBlocks_119 rfl 2 rfl ?_
        refine s_iconst (v := 1) hK dX5_findBlocks_120 rfl ?_
        refine s_iadd hK dX5_findBlocks_121 ?_
        refine s_rc (fun _ _ eo er => ?_)
        refine s_cI hK ho_n (cx_v (As := [.int (x51 + 1)]) (rest := []) hK dyJ20_nextSetBit rfl q1030 fcJ20.1 q1031 q1032 q106 q1033 eo er (ct_J20_nextSetBit hK.1 x50 (x51 + 1) h55) (Nat.le_trans (Nat.le_of_ble_eq_true rfl) hf) (Nat.le_trans (Nat.le_of_ble_eq_true rfl) hlo) rk_n (Nat.le_of_ble_eq_true rfl) dX5_findBlocks_122 rfl) (fun v58 h57 => ?_)
        refine s_istore_n (lv' := [(2, .int v58), (0, va_rf x49), (1, va_rf x50), (3, va_rf x52)]) hK dX5_findBlocks_125 rfl (Nat.le_of_ble_eq_true rfl) (flA (pre := [(0, va_rf x49)]) (suf := [(2, .int x51), (3, va_rf x52)]) rfl rfl) ?_
        refine s_goto (tgt := 11) hK dX5_findBlocks_126 (by decide) ?_
        refine s_sub [1, 2, 0] rfl ?_
        exact ih x49 x50 v58 h57
theorem sm_X5_findBlocks {G : GC} {K : SC} (hK : SOK G K RX5 cX5_findBlocks 7 (none) "findBlocks" []) (hf : FR_X5_findBlocks ≤ (kR K).frames) (hlo : LO_X5_findBlocks ≤ (kR K).locals) (p0 : Option Nat) (h : AH) : Sim G K 7 (f_X5_findBlocks p0 h) h 0 [(0, va_rf p0)] [] := by
  unfold f_X5_findBlocks
  refine s_aload_n hK dX5_findBlocks_0 rfl 0 rfl ?_
  refine s_rc (fun _ _ eo er => ?_)
  refine s_cA hK ho_n (cx_v (As := []) (rest := []) hK dyX5_findLeaders rfl q1051 fcX5.1 q1053 qs21 q103 q1054 eo er (ct_X5_findLeaders hK.1 p0 h) (Nat.le_trans (Nat.le_of_ble_eq_true rfl) hf) (Nat.le_trans (Nat.le_of_ble_eq_true rfl) hlo) rk_n (Nat.le_of_ble_eq_true rfl) dX5_findBlocks_1 rfl) (fun v2 h1 => ?_)
  refine s_astore_n (lv' := [(1, va_rf v2), (0, va_rf p0)]) hK dX5_findBlocks_4 rfl (Nat.le_of_ble_eq_true rfl) (flA (pre := []) (suf := []) rfl rfl) ?_
  refine s_aload_n hK dX5_findBlocks_5 rfl 0 rfl ?_
  refine s_iconst (v := 0) hK dX5_findBlocks_6 rfl ?_
  refine s_rc (fun _ _ eo er => ?_)
  refine s_cI hK ho_n (cx_v (As := [.int 0]) (rest := []) hK dyJ20_nextSetBit rfl q1030 fcJ20.1 q1031 q1032 q106 q1033 eo er (ct_J20_nextSetBit hK.1 v2 0 h1) (Nat.le_trans (Nat.le_of_ble_eq_true rfl) hf) (Nat.le_trans (Nat.le_of_ble_eq_true rfl) hlo) rk_n (Nat.le_of_ble_eq_true rfl) dX5_findBlocks_7 rfl) (fun v4 h3 => ?_)
  refine s_istore_n (lv' := [(2, .int v4), (1, va_rf v2), (0, va_rf p0)]) hK dX5_findBlocks_10 rfl (Nat.le_of_ble_eq_true rfl) (flA (pre := []) (suf := [(0, va_rf p0)]) rfl rfl) ?_
  refine s_sub [2, 1, 0] rfl ?_
  refine sm_X5_findBlocks_L11 hK hf hlo (fun h60 => ?_) FUEL p0 v2 v4 h3
  · exact s_vret hK dX5_findBlocks_129
theorem ct_X5_findBlocks {G : GC} {l : Launch} (g : GOK G l) (p0 : Option Nat) (h : AH) : CT G l yX5_findBlocks (Cond.code yX5_findBlocks cX5_findBlocks 7 (none)) 7 251 [va_rf p0] (f_X5_findBlocks p0 h) h :=
  CT.of g (by decide) (by simp only [ls_a, ls_i, ls_l, ls_n]; decide) (fun K _ hK hf hlo => by simp only [la_a, la_i, la_l, la_n]; exact sm_X5_findBlocks hK hf hlo p0 h)
abbrev FR_X5_countInBlocks : Nat := 4
abbrev LO_X5_countInBlocks : Nat := 80
theorem dyX5_countInBlocks : DY yX5_countInBlocks 0 := ⟨⟨by decide, by decide⟩, by decide +kernel⟩
theorem sm_X5_countInBlocks_L4 {G : GC} {K : SC} (hK : SOK G K RX5 cX5_countInBlocks 3 (some (.int)) "countInBlocks" []) (hf : FR_X5_countInBlocks ≤ (kR K).frames) (hlo : LO_X5_countInBlocks ≤ (kR K).locals) {k38 : Int32 → AH → RS} (hk38 : ∀ (y0 : Int32) (h : AH), Sim G K 3 (k38 y0 h) h 38 [(1, .int y0)] []) : ∀ (n : Nat) (x1 : Option Nat) (x2 : Int32) (x3 : Int32) (h4 : AH), Sim G K 3 (f_X5_countInBlocks_L4 k38 n x1 x2 x3 h4) h4 4 [(0, va_rf x1), (1, .int x2), (2, .int x3)] [] := by
  intro n
  induction n with
  | zero => intro x1 x2 x3 h4; exact s_none
  | succ n ih =>
    intro x1 x2 x3 h4
    rw [f_X5_countInBlocks_L4]
    refine s_iload_n hK dX5_countInBlocks_4 rfl 2 rfl ?_
    refine s_aload_n hK dX5_countInBlocks_5 rfl 0 rfl ?_
    refine s_gA hK fcX5 7 (Nat.le_of_ble_eq_true rfl) (Or.inl q1098) (Or.inl rfl) dX5_countInBlocks_6 (fun v5 => ?_)
    refine s_rc (fun _ _ eo er => ?_)
    refine s_cI hK ho_n (cx_v (As := []) (rest := [.int x3]) hK dyJ7_size rfl q1020 fcJ7.1 q972 q2187 q88 q974 eo er (ct_J7_size hK.1 v5 h4) (Nat.le_trans (Nat.le_of_ble_eq_true rfl) hf) (Nat.le_trans (Nat.le_of_ble_eq_true rfl) hlo) (rk_i rk_n) (Nat.le_of_ble_eq_true rfl) dX5_countInBlocks_9 rfl) (fun v7 h6 => ?_)
    refine s_icmp_ge (tgt := 38) hK dX5_countInBlocks_12 (by decide) (fun c12 => ?_) (fun c12 => ?_)
    · refine s_sub [1] rfl ?_
      exact hk38 x2 h6
    · refine s_iload_n hK dX5_countInBlocks_15 rfl 1 rfl ?_
      refine s_aload_n hK dX5_countInBlocks_16 rfl 0 rfl ?_
      refine s_gA hK fcX5 7 (Nat.le_of_ble_eq_true rfl) (Or.inl q1098) (Or.inl rfl) dX5_countInBlocks_17 (fun v8 => ?_)
      refine s_iload_n hK dX5_countInBlocks_20 rfl 2 rfl ?_
      refine s_rc (fun _ _ eo er => ?_)
      refine s_cA hK ho_n (cx_v (As := [.int x3]) (rest := [.int x2]) hK dyJ7_get rfl q1021 fcJ7.1 q981 q2188 q88 q983 eo er (ct_J7_get hK.1 v8 x3 h6) (Nat.le_trans (Nat.le_of_ble_eq_true rfl) hf) (Nat.le_trans (Nat.le_of_ble_eq_true rfl) hlo) (rk_i rk_n) (Nat.le_of_ble_eq_true rfl) dX5_countInBlocks_21 rfl) (fun v10 h9 => ?_)
      refine s_ck hK q1068 (ck1 fcX9.1 (Or.inl rfl)) dX5_countInBlocks_24 ?_
      refine s_gI hK fcX9 1 (Nat.le_of_ble_eq_true rfl) (Or.inr ⟨_, q1076⟩) (Or.inl rfl) dX5_countInBlocks_27 (fun v11 => ?_)
      refine s_iadd hK dX5_countInBlocks_30 ?_
      refine s_istore_n (lv' := [(1, .int (x2 + v11)), (0, va_rf x1), (2, .int x3)]) hK dX5_countInBlocks_31 rfl (Nat.le_of_ble_eq_true rfl) (flA (pre := []) (suf := [(1, .int x2), (2, .int x3)]) rfl rfl) ?_
      refine s_iinc (j := 2) (v := 1) (lv' := [(2, .int (x3 + 1)), (1, .int (x2 + v11)), (0, va_rf x1)]) hK dX5_countInBlocks_32 rfl rfl (Nat.le_of_ble_eq_true rfl) rfl ?_
      refine s_goto (tgt := 4) hK dX5_countInBlocks_35 (by decide) ?_
      refine s_sub [2, 1, 0] rfl ?_
      exact ih x1 (x2 + v11) (x3 + 1) h9
theorem sm_X5_countInBlocks {G : GC} {K : SC} (hK : SOK G K RX5 cX5_countInBlocks 3 (some (.int)) "countInBlocks" []) (hf : FR_X5_countInBlocks ≤ (kR K).frames) (hlo : LO_X5_countInBlocks ≤ (kR K).locals) (p0 : Option Nat) (h : AH) : Sim G K 3 (f_X5_countInBlocks p0 h) h 0 [(0, va_rf p0)] [] := by
  unfold f_X5_countInBlocks
  refine s_iconst (v := 0) hK dX5_countInBlocks_0 rfl ?_
  refine s_istore_n (lv' := [(1, .int 0), (0, va_rf p0)]) hK dX5_countInBlocks_1 rfl (Nat.le_of_ble_eq_true rfl) (flA (pre := []) (suf := []) rfl rfl) ?_
  refine s_iconst (v := 0) hK dX5_countInBlocks_2 rfl ?_
  refine s_istore_n (lv' := [(2, .int 0), (1, .int 0), (0, va_rf p0)]) hK dX5_countInBlocks_3 rfl (Nat.le_of_ble_eq_true rfl) rfl ?_
  refine s_sub [2, 1, 0] rfl ?_
  refine sm_X5_countInBlocks_L4 hK hf hlo (fun x13 h14 => ?_) FUEL p0 0 0 h
  · refine s_iload_n hK dX5_countInBlocks_38 rfl 0 rfl ?_
    exact s_iret hK dX5_countInBlocks_39
theorem ct_X5_countInBlocks {G : GC} {l : Launch} (g : GOK G l) (p0 : Option Nat) (h : AH) : CT G l yX5_countInBlocks (Cond.code yX5_countInBlocks cX5_countInBlocks 3 (some (.int))) 4 80 [va_rf p0] (f_X5_countInBlocks p0 h) h :=
  CT.of g (by decide) (by simp only [ls_a, ls_i, ls_l, ls_n]; decide) (fun K _ hK hf hlo => by simp only [la_a, la_i, la_l, la_n]; exact sm_X5_countInBlocks hK hf hlo p0 h)
abbrev FR_X5_findHeads : Nat := 5
abbrev LO_X5_findHeads : Nat := 208
theorem dyX5_findHeads : DY yX5_findHeads 0 := ⟨⟨by decide, by decide⟩, by decide +kernel⟩
theorem sm_X5_findHeads_L10 {G : GC} {K : SC} (hK : SOK G K RX5 cX5_findHeads 3 (some (.object "java/util/BitSet")) "findHeads" []) (hf : FR_X5_findHeads ≤ (kR K).frames) (hlo : LO_X5_findHeads ≤ (kR K).locals) {k41 : Option Nat → Option Nat → AH → RS} (hk41 : ∀ (y0 : Option Nat) (y1 : Option Nat) (h : AH), Sim G K 3 (k41 y0 y1 h) h 41 [(0, va_rf y0), (1, va_rf y1)] []) : ∀ (n : Nat) (x4 : Option Nat) (x5 : Option Nat) (x6 : Int32) (h7 : AH), Sim G K 3 (f_X5_findHeads_L10 k41 n x4 x5 x6 h7) h7 10 [(0, va_rf x4), (1, va_rf x5), (2, .int x6)] [] := by
  intro n
  induction n with
  | zero => intro x4 x5 x6 h7; exact s_none
  | succ n ih =>
    intro x4 x5 x6 h7
    rw [f_X5_findHeads_L10]
    refine s_iload_n hK dX5_findHeads_10 rfl 2 rfl ?_
    refine s_aload_n hK dX5_findHeads_11 rfl 0 rfl ?_
    refine s_gA hK fcX5 0 (Nat.le_of_ble_eq_true rfl) (Or.inl q1086) (Or.inl rfl) dX5_findHeads_12 (fun v8 => ?_)
    refine s_gA hK fcX2 1 (Nat.le_of_ble_eq_true rfl) (Or.inr ⟨_, q137⟩) (Or.inl rfl) dX5_findHeads_15 (fun v9 => ?_)
    refine s_alen hK dX5_findHeads_18 (fun v10 => ?_)
    refine s_icmp_ge (tgt := 41) hK dX5_findHeads_19 (by decide) (fun c15 => ?_) (fun c15 => ?_)
    · refine s_sub [0, 1] rfl ?_
      exact hk41 x4 x5 h7
    · refine s_aload_n hK dX5_findHeads_22 rfl 1 rfl ?_
      refine s_aload_n hK dX5_findHeads_23 rfl 0 rfl ?_
      refine s_gA hK fcX5 0 (Nat.le_of_ble_eq_true rfl) (Or.inl q1086) (Or.inl rfl) dX5_findHeads_24 (fun v11 => ?_)
      refine s_gA hK fcX2 1 (Nat.le_of_ble_eq_true rfl) (Or.inr ⟨_, q137⟩) (Or.inl rfl) dX5_findHeads_27 (fun v12 => ?_)
      refine s_iload_n hK dX5_findHeads_30 rfl 2 rfl ?_
      refine s_iald hK dX5_findHeads_31 (fun v13 => ?_)
      refine s_rc (fun _ _ eo er => ?_)
      refine s_cV hK ho_n (cx_v (As := [.int v13]) (rest := []) hK dyJ20_set rfl q875 fcJ20.1 q876 q877 q106 q878 eo er (ct_J20_set hK.1 x5 v13 h7) (Nat.le_trans (Nat.le_of_ble_eq_true rfl) hf) (Nat.le_trans (Nat.le_of_ble_eq_true rfl) hlo) rk_n (Nat.le_of_ble_eq_true rfl) dX5_findHeads_32 rfl) (fun h14 => ?_)
      refine s_iinc (j := 2) (v := 1) (lv' := [(2, .int (x6 + 1)), (0, va_rf x4), (1, va_rf x5)]) hK dX5_findHeads_35 rfl rfl (Nat.le_of_ble_eq_true rfl) (flA (pre := [(0, va_rf x4)]) (suf := [(2, .int x6)]) rfl rfl) ?_
      refine s_goto (tgt := 10) hK dX5_findHeads_38 (by decide) ?_
      refine s_sub [1, 2, 0] rfl ?_
      exact ih x4 x5 (x6 + 1) h14
theorem sm_X5_findHeads_J79 {G : GC} {K : SC} (hK : SOK G K RX5 cX5_findHeads 3 (some (.object "java/util/BitSet")) "findHeads" []) (hf : FR_X5_findHeads ≤ (kR K).frames) (hlo : LO_X5_findHeads ≤ (kR K).locals) {rc : Option Nat → Option Nat → Int32 → AH → RS} (hrc : ∀ (y0 : Option Nat) (y1 : Option Nat) (y2 : Int32) (h : AH), Sim G K 3 (rc y0 y1 y2 h) h 50 [(0, va_rf y0), (1, va_rf y1), (2, .int y2)] []) {k93 : Option Nat → Option Nat → AH → RS} (hk93 : ∀ (y0 : Option Nat) (y1 : Option Nat) (h : AH), Sim G K 3 (k93 y0 y1 h) h 93 [(0, va_rf y0), (1, va_rf y1)] []) (x29 : Option Nat) (x30 : Option Nat) (x31 : Int32)  (h32 : AH) : Sim G K 3 (f_X5_findHeads_J79 rc k93 x29 x30 x31 h32) h32 79 [(0, va_rf x29), (1, va_rf x30), (2, .int x31)] [] := by
  unfold f_X5_findHeads_J79
  refine s_aload_n hK dX5_findHeads_79 rfl 0 rfl ?_
  refine s_gA hK fcX5 8 (Nat.le_of_ble_eq_true rfl) (Or.inl q1100) (Or.inl rfl) dX5_findHeads_80 (fun v33 => ?_)
  refine s_iload_n hK dX5_findHeads_83 rfl 2 rfl ?_
  refine s_iconst (v := 1) hK dX5_findHeads_84 rfl ?_
  refine s_iadd hK dX5_findHeads_85 ?_
  refine s_rc (fun _ _ eo er => ?_)
  refine s_cI hK ho_n (cx_v (As := [.int (x31 + 1)]) (rest := []) hK dyJ20_nextSetBit rfl q1030 fcJ20.1 q1031 q1032 q106 q1033 eo er (ct_J20_nextSetBit hK.1 v33 (x31 + 1) h32) (Nat.le_trans (Nat.le_of_ble_eq_true rfl) hf) (Nat.le_trans (Nat.le_of_ble_eq_true rfl) hlo) rk_n (Nat.le_of_ble_eq_true rfl) dX5_findHeads_86 rfl) (fun v35 h34 => ?_)
  refine s_istore_n (lv' := [(2, .int v35), (0, va_rf x29), (1, va_rf x30)]) hK dX5_findHeads_89 rfl (Nat.le_of_ble_eq_true rfl) (flA (pre := [(0, va_rf x29)]) (suf := [(2, .int x31)]) rfl rfl) ?_
  refine s_goto (tgt := 50) hK dX5_findHeads_90 (by decide) ?_
  refine s_sub [1, 2, 0] rfl ?_
  exact hrc x29 x30 v35 h34
theorem sm_X5_findHeads_L50 {G : GC} {K : SC} (hK : SOK G K RX5 cX5_findHeads 3 (some (.object "java/util/BitSet")) "findHeads" []) (hf : FR_X5_findHeads ≤ (kR K).frames) (hlo : LO_X5_findHeads ≤ (kR K).locals) {k93 : Option Nat → Option Nat → AH → RS} (hk93 : ∀ (y0 : Option Nat) (y1 : Option Nat) (h : AH), Sim G K 3 (k93 y0 y1 h) h 93 [(0, va_rf y0), (1, va_rf y1)] []) : ∀ (n : Nat) (x22 : Option Nat) (x23 : Option Nat) (x24 : Int32) (h25 : AH), Sim G K 3 (f_X5_findHeads_L50 k93 n x22 x23 x24 h25) h25 50 [(0, va_rf x22), (1, va_rf x23), (2, .int x24)] [] := by
  intro n
  induction n with
  | zero => intro x22 x23 x24 h25; exact s_none
  | succ n ih =>
    intro x22 x23 x24 h25
    rw [f_X5_findHeads_L50]
    refine s_iload_n hK dX5_findHeads_50 rfl 2 rfl ?_
    refine s_if_lt (tgt := 93) hK dX5_findHeads_51 (by decide) (fun c41 => ?_) (fun c41 => ?_)
    · refine s_sub [0, 1] rfl ?_
      exact hk93 x22 x23 h25
    · refine s_aload_n hK dX5_findHeads_54 rfl 0 rfl ?_
      refine s_gA hK fcX5 0 (Nat.le_of_ble_eq_true rfl) (Or.inl q1086) (Or.inl rfl) dX5_findHeads_55 (fun v26 => ?_)
      refine s_iload_n hK dX5_findHeads_58 rfl 2 rfl ?_
      refine s_rc (fun _ _ eo er => ?_)
      refine s_cI hK ho_n (cx_v (As := [.int x24]) (rest := []) hK dyX2_kind rfl q898 fcX2.1 q778 q779 q79 q780 eo er (ct_X2_kind hK.1 v26 x24 h25) (Nat.le_trans (Nat.le_of_ble_eq_true rfl) hf) (Nat.le_trans (Nat.le_of_ble_eq_true rfl) hlo) rk_n (Nat.le_of_ble_eq_true rfl) dX5_findHeads_59 rfl) (fun v28 h27 => ?_)
      refine s_bipush (v := 7) hK dX5_findHeads_62 rfl ?_
      refine s_icmp_ne (tgt := 79) hK dX5_findHeads_64 (by decide) (fun c40 => ?_) (fun c40 => ?_)
      · exact sm_X5_findHeads_J79 hK hf hlo ih hk93 x22 x23 x24 h27
      · refine s_aload_n hK dX5_findHeads_67 rfl 1 rfl ?_
        refine s_aload_n hK dX5_findHeads_68 rfl 0 rfl ?_
        refine s_gA hK fcX5 0 (Nat.le_of_ble_eq_true rfl) (Or.inl q1086) (Or.inl rfl) dX5_findHeads_69 (fun v36 => ?_)
        refine s_iload_n hK dX5_findHeads_72 rfl 2 rfl ?_
        refine s_rc (fun _ _ eo er => ?_)
        refine s_cI hK ho_n (cx_v (As := [.int x24]) (rest := [va_rf x23]) hK dyX2_target rfl q897 fcX2.1 q794 q795 q79 q796 eo er (ct_X2_target hK.1 v36 x24 h27) (Nat.le_trans (Nat.le_of_ble_eq_true rfl) hf) (Nat.le_trans (Nat.le_of_ble_eq_true rfl) hlo) (rk_a rk_n) (Nat.le_of_ble_eq_true rfl) dX5_findHeads_73 rfl) (fun v38 h37 => ?_)
        refine s_rc (fun _ _ eo er => ?_)
        refine s_cV hK ho_n (cx_v (As := [.int v38]) (rest := []) hK dyJ20_set rfl q875 fcJ20.1 q876 q877 q106 q878 eo er (ct_J20_set hK.1 x23 v38 h37) (Nat.le_trans (Nat.le_of_ble_eq_true rfl) hf) (Nat.le_trans (Nat.le_of_ble_eq_true rfl) hlo) rk_n (Nat.le_of_ble_eq_true rfl) dX5_findHeads_76 rfl) (fun h39 => ?_)
        exact sm_X5_findHeads_J79 hK hf hlo ih hk93 x22 x23 x24 h39
theorem sm_X5_findHeads {G : GC} {K : SC} (hK : SOK G K RX5 cX5_findHeads 3 (some (.object "java/util/BitSet")) "findHeads" []) (hf : FR_X5_findHeads ≤ (kR K).frames) (hlo : LO_X5_findHeads ≤ (kR K).locals) (p0 : Option Nat) (h : AH) : Sim G K 3 (f_X5_findHeads p0 h) h 0 [(0, va_rf p0)] [] := by
  unfold f_X5_findHeads
  refine s_new hK fcJ20 q263 q264 q106 fsJ20_ok dX5_findHeads_0 (fun a1 h2 => ?_)
  refine s_dup hK dX5_findHeads_3 (va_cat _) ?_
  refine s_nn (fun _ eo => ?_)
  refine s_cV hK ho_n (cx_i (As := []) (rest := [va_rf a1]) hK dyJ20_init rfl q265 rfl q266 q106 q267 eo (ct_J20_init hK.1 a1 h2) (Nat.le_trans (Nat.le_of_ble_eq_true rfl) hf) (Nat.le_trans (Nat.le_of_ble_eq_true rfl) hlo) (rk_a rk_n) (Nat.le_of_ble_eq_true rfl) dX5_findHeads_4 rfl) (fun h3 => ?_)
  refine s_astore_n (lv' := [(1, va_rf a1), (0, va_rf p0)]) hK dX5_findHeads_7 rfl (Nat.le_of_ble_eq_true rfl) (flA (pre := []) (suf := []) rfl rfl) ?_
  refine s_iconst (v := 0) hK dX5_findHeads_8 rfl ?_
  refine s_istore_n (lv' := [(2, .int 0), (1, va_rf a1), (0, va_rf p0)]) hK dX5_findHeads_9 rfl (Nat.le_of_ble_eq_true rfl) (flA (pre := []) (suf := [(0, va_rf p0)]) rfl rfl) ?_
  refine s_sub [2, 1, 0] rfl ?_
  refine sm_X5_findHeads_L10 hK hf hlo (fun x16 x17 h18 => ?_) FUEL p0 a1 0 h3
  · refine s_aload_n hK dX5_findHeads_41 rfl 0 rfl ?_
    refine s_gA hK fcX5 8 (Nat.le_of_ble_eq_true rfl) (Or.inl q1100) (Or.inl rfl) dX5_findHeads_42 (fun v19 => ?_)
    refine s_iconst (v := 0) hK dX5_findHeads_45 rfl ?_
    refine s_rc (fun _ _ eo er => ?_)
    refine s_cI hK ho_n (cx_v (As := [.int 0]) (rest := []) hK dyJ20_nextSetBit rfl q1030 fcJ20.1 q1031 q1032 q106 q1033 eo er (ct_J20_nextSetBit hK.1 v19 0 h18) (Nat.le_trans (Nat.le_of_ble_eq_true rfl) hf) (Nat.le_trans (Nat.le_of_ble_eq_true rfl) hlo) rk_n (Nat.le_of_ble_eq_true rfl) dX5_findHeads_46 rfl) (fun v21 h20 => ?_)
    refine s_istore_n (lv' := [(2, .int v21), (0, va_rf x16), (1, va_rf x17)]) hK dX5_findHeads_49 rfl (Nat.le_of_ble_eq_true rfl) (flA (pre := [(0, va_rf x16)]) (suf := []) rfl rfl) ?_
    refine s_sub [1, 2, 0] rfl ?_
    refine sm_X5_findHeads_L50 hK hf hlo (fun x42 x43 h44 => ?_) FUEL x16 x17 v21 h20
    · refine s_aload_n hK dX5_findHeads_93 rfl 1 rfl ?_
      refine s_aload_n hK dX5_findHeads_94 rfl 0 rfl ?_
      refine s_gA hK fcX5 8 (Nat.le_of_ble_eq_true rfl) (Or.inl q1100) (Or.inl rfl) dX5_findHeads_95 (fun v45 => ?_)
      refine s_rc (fun _ _ eo er => ?_)
      refine s_cV hK ho_n (cx_v (As := [va_rf v45]) (rest := []) hK dyJ20_and rfl q1060 fcJ20.1 q1061 q1062 q106 q1063 eo er (ct_J20_and hK.1 x43 v45 h44) (Nat.le_trans (Nat.le_of_ble_eq_true rfl) hf) (Nat.le_trans (Nat.le_of_ble_eq_true rfl) hlo) rk_n (Nat.le_of_ble_eq_true rfl) dX5_findHeads_98 rfl) (fun h46 => ?_)
      refine s_aload_n hK dX5_findHeads_101 rfl 1 rfl ?_
      exact s_aret hK (Or.inl ⟨_, rfl⟩) dX5_findHeads_102
theorem ct_X5_findHeads {G : GC} {l : Launch} (g : GOK G l) (p0 : Option Nat) (h : AH) : CT G l yX5_findHeads (Cond.code yX5_findHeads cX5_findHeads 3 (some (.object "java/util/BitSet"))) 5 208 [va_rf p0] (f_X5_findHeads p0 h) h :=
  CT.of g (by decide) (by simp only [ls_a, ls_i, ls_l, ls_n]; decide) (fun K _ hK hf hlo => by simp only [la_a, la_i, la_l, la_n]; exact sm_X5_findHeads hK hf hlo p0 h)
abbrev FR_X5_addNext : Nat := 6
abbrev LO_X5_addNext : Nat := 236
theorem dyX5_addNext : DY yX5_addNext 2 := ⟨⟨by decide, by decide⟩, by decide +kernel⟩
theorem sm_X5_addNext_J116 {G : GC} {K : SC} (hK : SOK G K RX5 cX5_addNext 4 (none) "addNext" []) (hf : FR_X5_addNext ≤ (kR K).frames) (hlo : LO_X5_addNext ≤ (kR K).locals) {rc : Option Nat → Int32 → Option Nat → Int32 → AH → RS} (hrc : ∀ (y0 : Option Nat) (y1 : Int32) (y2 : Option Nat) (y3 : Int32) (h : AH), Sim G K 4 (rc y0 y1 y2 y3 h) h 69 [(0, va_rf y0), (1, .int y1), (2, va_rf y2), (3, .int y3)] []) {k122 : AH → RS} (hk122 : ∀  (h : AH), Sim G K 4 (k122  h) h 122 [] []) (x27 : Option Nat) (x28 : Int32) (x29 : Option Nat) (x30 : Int32)  (h31 : AH) : Sim G K 4 (f_X5_addNext_J116 rc k122 x27 x28 x29 x30 h31) h31 116 [(0, va_rf x27), (1, .int x28), (2, va_rf x29), (3, .int x30)] [] := by
  unfold f_X5_addNext_J116
  refine s_iinc (j := 3) (v := 1) (lv' := [(3, .int (x30 + 1)), (0, va_rf x27), (1, .int x28), (2, va_rf x29)]) hK dX5_addNext_116 rfl rfl (Nat.le_of_ble_eq_true rfl) (flA (pre := [(0, va_rf x27), (1, .int x28)]) (suf := [(3, .int x30)]) rfl rfl) ?_
  refine s_goto (tgt := 69) hK dX5_addNext_119 (by decide) ?_
  refine s_sub [1, 2, 3, 0] rfl ?_
  exact hrc x27 x28 x29 (x30 + 1) h31
theorem sm_X5_addNext_L69 {G : GC} {K : SC} (hK : SOK G K RX5 cX5_addNext 4 (none) "addNext" []) (hf : FR_X5_addNext ≤ (kR K).frames) (hlo : LO_X5_addNext ≤ (kR K).locals) {k122 : AH → RS} (hk122 : ∀  (h : AH), Sim G K 4 (k122  h) h 122 [] []) : ∀ (n : Nat) (x15 : Option Nat) (x16 : Int32) (x17 : Option Nat) (x18 : Int32) (h19 : AH), Sim G K 4 (f_X5_addNext_L69 k122 n x15 x16 x17 x18 h19) h19 69 [(0, va_rf x15), (1, .int x16), (2, va_rf x17), (3, .int x18)] [] := by
  intro n
  induction n with
  | zero => intro x15 x16 x17 x18 h19; exact s_none
  | succ n ih =>
    intro x15 x16 x17 x18 h19
    rw [f_X5_addNext_L69]
    refine s_iload_n hK dX5_addNext_69 rfl 3 rfl ?_
    refine s_aload_n hK dX5_addNext_70 rfl 0 rfl ?_
    refine s_gA hK fcX5 5 (Nat.le_of_ble_eq_true rfl) (Or.inl q1094) (Or.inl rfl) dX5_addNext_71 (fun v20 => ?_)
    refine s_rc (fun _ _ eo er => ?_)
    refine s_cI hK ho_n (cx_v (As := []) (rest := [.int x18]) hK dyJ7_size rfl q1020 fcJ7.1 q972 q2187 q88 q974 eo er (ct_J7_size hK.1 v20 h19) (Nat.le_trans (Nat.le_of_ble_eq_true rfl) hf) (Nat.le_trans (Nat.le_of_ble_eq_true rfl) hlo) (rk_i rk_n) (Nat.le_of_ble_eq_true rfl) dX5_addNext_74 rfl) (fun v22 h21 => ?_)
    refine s_icmp_ge (tgt := 122) hK dX5_addNext_77 (by decide) (fun c38 => ?_) (fun c38 => ?_)
    · refine s_sub [] rfl ?_
      exact hk122  h21
    · refine s_aload_n hK dX5_addNext_80 rfl 0 rfl ?_
      refine s_gA hK fcX5 5 (Nat.le_of_ble_eq_true rfl) (Or.inl q1094) (Or.inl rfl) dX5_addNext_81 (fun v23 => ?_)
      refine s_iload_n hK dX5_addNext_84 rfl 3 rfl ?_
      refine s_rc (fun _ _ eo er => ?_)
      refine s_cA hK ho_n (cx_v (As := [.int x18]) (rest := []) hK dyJ7_get rfl q1021 fcJ7.1 q981 q2188 q88 q983 eo er (ct_J7_get hK.1 v23 x18 h21) (Nat.le_trans (Nat.le_of_ble_eq_true rfl) hf) (Nat.le_trans (Nat.le_of_ble_eq_true rfl) hlo) rk_n (Nat.le_of_ble_eq_true rfl) dX5_addNext_85 rfl) (fun v25 h24 => ?_)
      refine s_ck hK q921 (ck1 fcX7.1 (Or.inl rfl)) dX5_addNext_88 ?_
      refine s_gI hK fcX7 0 (Nat.le_of_ble_eq_true rfl) (Or.inr ⟨_, q931⟩) (Or.inl rfl) dX5_addNext_91 (fun v26 => ?_)
      refine s_iload_n hK dX5_addNext_94 rfl 1 rfl ?_
      refine s_icmp_ne (tgt := 116) hK dX5_addNext_95 (by decide) (fun c37 => ?_) (fun c37 => ?_)
      · exact sm_X5_addNext_J116 hK hf hlo ih hk122 x15 x16 x17 x18 h24
      · refine s_aload_n hK dX5_addNext_98 rfl 0 rfl ?_
        refine s_gA hK fcX5 5 (Nat.le_of_ble_eq_true rfl) (Or.inl q1094) (Or.inl rfl) dX5_addNext_99 (fun v32 => ?_)
        refine s_iload_n hK dX5_addNext_102 rfl 3 rfl ?_
        refine s_rc (fun _ _ eo er => ?_)
        refine s_cA hK ho_n (cx_v (As := [.int x18]) (rest := []) hK dyJ7_get rfl q1021 fcJ7.1 q981 q2188 q88 q983 eo er (ct_J7_get hK.1 v32 x18 h24) (Nat.le_trans (Nat.le_of_ble_eq_true rfl) hf) (Nat.le_trans (Nat.le_of_ble_eq_true rfl) hlo) rk_n (Nat.le_of_ble_eq_true rfl) dX5_addNext_103 rfl) (fun v34 h33 => ?_)
        refine s_ck hK q921 (ck1 fcX7.1 (Or.inl rfl)) dX5_addNext_106 ?_
        refine s_gA hK fcX7 4 (Nat.le_of_ble_eq_true rfl) (Or.inr ⟨_, q939⟩) (Or.inl rfl) dX5_addNext_109 (fun v35 => ?_)
        refine s_aload_n hK dX5_addNext_112 rfl 2 rfl ?_
        refine s_cV hK ho_n (cx_sN (As := [va_rf v35, va_rf x17]) (rest := []) hK dyX1_addAll rfl q962 q963 q78 q964 (ct_X1_addAll hK.1 v35 x17 h33) (Nat.le_trans (Nat.le_of_ble_eq_true rfl) hf) (Nat.le_trans (Nat.le_of_ble_eq_true rfl) hlo) rk_n (Nat.le_of_ble_eq_true rfl) dX5_addNext_113 rfl) (fun h36 => ?_)
        exact sm_X5_addNext_J116 hK hf hlo ih hk122 x15 x16 x17 x18 h36
theorem sm_X5_addNext_J67 {G : GC} {K : SC} (hK : SOK G K RX5 cX5_addNext 4 (none) "addNext" []) (hf : FR_X5_addNext ≤ (kR K).frames) (hlo : LO_X5_addNext ≤ (kR K).locals) (x11 : Option Nat) (x12 : Int32) (x13 : Option Nat)  (h14 : AH) : Sim G K 4 (f_X5_addNext_J67 x11 x12 x13 h14) h14 67 [(0, va_rf x11), (1, .int x12), (2, va_rf x13)] [] := by
  unfold f_X5_addNext_J67
  refine s_iconst (v := 0) hK dX5_addNext_67 rfl ?_
  refine s_istore_n (lv' := [(3, .int 0), (0, va_rf x11), (1, .int x12), (2, va_rf x13)]) hK dX5_addNext_68 rfl (Nat.le_of_ble_eq_true rfl) (flA (pre := [(0, va_rf x11), (1, .int x12)]) (suf := []) rfl rfl) ?_
  refine s_sub [1, 2, 3, 0] rfl ?_
  refine sm_X5_addNext_L69 hK hf hlo (fun h39 => ?_) FUEL x11 x12 x13 0 h14
  · exact s_vret hK dX5_addNext_122
theorem sm_X5_addNext_J28 {G : GC} {K : SC} (hK : SOK G K RX5 cX5_addNext 4 (none) "addNext" []) (hf : FR_X5_addNext ≤ (kR K).frames) (hlo : LO_X5_addNext ≤ (kR K).locals) (x4 : Option Nat) (x5 : Int32) (x6 : Option Nat)  (h7 : AH) : Sim G K 4 (f_X5_addNext_J28 x4 x5 x6 h7) h7 28 [(0, va_rf x4), (1, .int x5), (2, va_rf x6)] [] := by
  unfold f_X5_addNext_J28
  refine s_aload_n hK dX5_addNext_28 rfl 0 rfl ?_
  refine s_gA hK fcX5 0 (Nat.le_of_ble_eq_true rfl) (Or.inl q1086) (Or.inl rfl) dX5_addNext_29 (fun v8 => ?_)
  refine s_iload_n hK dX5_addNext_32 rfl 1 rfl ?_
  refine s_rc (fun _ _ eo er => ?_)
  refine s_cI hK ho_n (cx_v (As := [.int x5]) (rest := []) hK dyX2_hasTarget rfl q896 fcX2.1 q790 q791 q79 q792 eo er (ct_X2_hasTarget hK.1 v8 x5 h7) (Nat.le_trans (Nat.le_of_ble_eq_true rfl) hf) (Nat.le_trans (Nat.le_of_ble_eq_true rfl) hlo) rk_n (Nat.le_of_ble_eq_true rfl) dX5_addNext_33 rfl) (fun v10 h9 => ?_)
  refine s_if_eq (tgt := 67) hK dX5_addNext_36 (by decide) (fun c50 => ?_) (fun c50 => ?_)
  · exact sm_X5_addNext_J67 hK hf hlo x4 x5 x6 h9
  · refine s_aload_n hK dX5_addNext_39 rfl 0 rfl ?_
    refine s_gA hK fcX5 0 (Nat.le_of_ble_eq_true rfl) (Or.inl q1086) (Or.inl rfl) dX5_addNext_40 (fun v40 => ?_)
    refine s_iload_n hK dX5_addNext_43 rfl 1 rfl ?_
    refine s_rc (fun _ _ eo er => ?_)
    refine s_cI hK ho_n (cx_v (As := [.int x5]) (rest := []) hK dyX2_kind rfl q898 fcX2.1 q778 q779 q79 q780 eo er (ct_X2_kind hK.1 v40 x5 h9) (Nat.le_trans (Nat.le_of_ble_eq_true rfl) hf) (Nat.le_trans (Nat.le_of_ble_eq_true rfl) hlo) rk_n (Nat.le_of_ble_eq_true rfl) dX5_addNext_44 rfl) (fun v42 h41 => ?_)
    refine s_bipush (v := 7) hK dX5_addNext_47 rfl ?_
    refine s_icmp_eq (tgt := 67) hK dX5_addNext_49 (by decide) (fun c49 => ?_) (fun c49 => ?_)
    · exact sm_X5_addNext_J67 hK hf hlo x4 x5 x6 h41
    · refine s_aload_n hK dX5_addNext_52 rfl 2 rfl ?_
      refine s_aload_n hK dX5_addNext_53 rfl 0 rfl ?_
      refine s_gA hK fcX5 0 (Nat.le_of_ble_eq_true rfl) (Or.inl q1086) (Or.inl rfl) dX5_addNext_54 (fun v43 => ?_)
      refine s_iload_n hK dX5_addNext_57 rfl 1 rfl ?_
      refine s_rc (fun _ _ eo er => ?_)
      refine s_cI hK ho_n (cx_v (As := [.int x5]) (rest := [va_rf x6]) hK dyX2_target rfl q897 fcX2.1 q794 q795 q79 q796 eo er (ct_X2_target hK.1 v43 x5 h41) (Nat.le_trans (Nat.le_of_ble_eq_true rfl) hf) (Nat.le_trans (Nat.le_of_ble_eq_true rfl) hlo) (rk_a rk_n) (Nat.le_of_ble_eq_true rfl) dX5_addNext_58 rfl) (fun v45 h44 => ?_)
      refine s_cA hK ho_n (cx_s (As := [.int v45]) (rest := [va_rf x6]) hK dyJ9_valueOf rfl q288 q289 q91 q290 (ct_J9_valueOf hK.1 v45 h44) (Nat.le_trans (Nat.le_of_ble_eq_true rfl) hf) (Nat.le_trans (Nat.le_of_ble_eq_true rfl) hlo) (rk_a rk_n) (Nat.le_of_ble_eq_true rfl) dX5_addNext_61 rfl) (fun v47 h46 => ?_)
      refine s_rc (fun _ _ eo er => ?_)
      refine s_cV hK ho_n (cx_v (As := [va_rf v47]) (rest := []) hK dyJ19_addLast rfl q308 fcJ19.1 q309 q310 q104 q311 eo er (ct_J19_addLast hK.1 x6 v47 h46) (Nat.le_trans (Nat.le_of_ble_eq_true rfl) hf) (Nat.le_trans (Nat.le_of_ble_eq_true rfl) hlo) rk_n (Nat.le_of_ble_eq_true rfl) dX5_addNext_64 rfl) (fun h48 => ?_)
      exact sm_X5_addNext_J67 hK hf hlo x4 x5 x6 h48
theorem sm_X5_addNext {G : GC} {K : SC} (hK : SOK G K RX5 cX5_addNext 4 (none) "addNext" []) (hf : FR_X5_addNext ≤ (kR K).frames) (hlo : LO_X5_addNext ≤ (kR K).locals) (p0 : Option Nat) (p1 : Int32) (p2 : Option Nat) (h : AH) : Sim G K 4 (f_X5_addNext p0 p1 p2 h) h 0 [(0, va_rf p0), (1, .int p1), (2, va_rf p2)] [] := by
  unfold f_X5_addNext
  refine s_aload_n hK dX5_addNext_0 rfl 0 rfl ?_
  refine s_gA hK fcX5 0 (Nat.le_of_ble_eq_true rfl) (Or.inl q1086) (Or.inl rfl) dX5_addNext_1 (fun v1 => ?_)
  refine s_iload_n hK dX5_addNext_4 rfl 1 rfl ?_
  refine s_rc (fun _ _ eo er => ?_)
  refine s_cI hK ho_n (cx_v (As := [.int p1]) (rest := []) hK dyX2_endsFlow rfl q911 fcX2.1 q912 q913 q79 q914 eo er (ct_X2_endsFlow hK.1 v1 p1 h) (Nat.le_trans (Nat.le_of_ble_eq_true rfl) hf) (Nat.le_trans (Nat.le_of_ble_eq_true rfl) hlo) rk_n (Nat.le_of_ble_eq_true rfl) dX5_addNext_5 rfl) (fun v3 h2 => ?_)
  refine s_if_ne (tgt := 28) hK dX5_addNext_8 (by decide) (fun c57 => ?_) (fun c57 => ?_)
  · exact sm_X5_addNext_J28 hK hf hlo p0 p1 p2 h2
  · refine s_aload_n hK dX5_addNext_11 rfl 2 rfl ?_
    refine s_iload_n hK dX5_addNext_12 rfl 1 rfl ?_
    refine s_aload_n hK dX5_addNext_13 rfl 0 rfl ?_
    refine s_gA hK fcX5 0 (Nat.le_of_ble_eq_true rfl) (Or.inl q1086) (Or.inl rfl) dX5_addNext_14 (fun v51 => ?_)
    refine s_iload_n hK dX5_addNext_17 rfl 1 rfl ?_
    refine s_rc (fun _ _ eo er => ?_)
    refine s_cI hK ho_n (cx_v (As := [.int p1]) (rest := [.int p1, va_rf p2]) hK dyX2_length rfl q870 fcX2.1 q782 q783 q79 q784 eo er (ct_X2_length hK.1 v51 p1 h2) (Nat.le_trans (Nat.le_of_ble_eq_true rfl) hf) (Nat.le_trans (Nat.le_of_ble_eq_true rfl) hlo) (rk_i (rk_a rk_n)) (Nat.le_of_ble_eq_true rfl) dX5_addNext_18 rfl) (fun v53 h52 => ?_)
    refine s_iadd hK dX5_addNext_21 ?_
    refine s_cA hK ho_n (cx_s (As := [.int (p1 + v53)]) (rest := [va_rf p2]) hK dyJ9_valueOf rfl q288 q289 q91 q290 (ct_J9_valueOf hK.1 (p1 + v53) h52) (Nat.le_trans (Nat.le_of_ble_eq_true rfl) hf) (Nat.le_trans (Nat.le_of_ble_eq_true rfl) hlo) (rk_a rk_n) (Nat.le_of_ble_eq_true rfl) dX5_addNext_22 rfl) (fun v55 h54 => ?_)
    refine s_rc (fun _ _ eo er => ?_)
    refine s_cV hK ho_n (cx_v (As := [va_rf v55]) (rest := []) hK dyJ19_addLast rfl q308 fcJ19.1 q309 q310 q104 q311 eo er (ct_J19_addLast hK.1 p2 v55 h54) (Nat.le_trans (Nat.le_of_ble_eq_true rfl) hf) (Nat.le_trans (Nat.le_of_ble_eq_true rfl) hlo) rk_n (Nat.le_of_ble_eq_true rfl) dX5_addNext_25 rfl) (fun h56 => ?_)
    exact sm_X5_addNext_J28 hK hf hlo p0 p1 p2 h56
theorem ct_X5_addNext {G : GC} {l : Launch} (g : GOK G l) (p0 : Option Nat) (p1 : Int32) (p2 : Option Nat) (h : AH) : CT G l yX5_addNext (Cond.code yX5_addNext cX5_addNext 4 (none)) 6 236 [va_rf p0, .int p1, va_rf p2] (f_X5_addNext p0 p1 p2 h) h :=
  CT.of g (by decide) (by simp only [ls_a, ls_i, ls_l, ls_n]; decide) (fun K _ hK hf hlo => by simp only [la_a, la_i, la_l, la_n]; exact sm_X5_addNext hK hf hlo p0 p1 p2 h)
abbrev FR_X5_countReached : Nat := 7
abbrev LO_X5_countReached : Nat := 259
theorem dyX5_countReached : DY yX5_countReached 1 := ⟨⟨by decide, by decide⟩, by decide +kernel⟩
theorem sm_X5_countReached_J74 {G : GC} {K : SC} (hK : SOK G K RX5 cX5_countReached 5 (some (.int)) "countReached" []) (hf : FR_X5_countReached ≤ (kR K).frames) (hlo : LO_X5_countReached ≤ (kR K).locals) {rc : Option Nat → Option Nat → Option Nat → AH → RS} (hrc : ∀ (y0 : Option Nat) (y1 : Option Nat) (y2 : Option Nat) (h : AH), Sim G K 5 (rc y0 y1 y2 h) h 24 [(0, va_rf y0), (2, va_rf y1), (3, va_rf y2)] []) {k77 : Option Nat → AH → RS} (hk77 : ∀ (y0 : Option Nat) (h : AH), Sim G K 5 (k77 y0 h) h 77 [(2, va_rf y0)] []) (x22 : Option Nat) (x23 : Option Nat) (x24 : Option Nat)  (h25 : AH) : Sim G K 5 (f_X5_countReached_J74 rc k77 x22 x23 x24 h25) h25 74 [(0, va_rf x22), (2, va_rf x23), (3, va_rf x24)] [] := by
  unfold f_X5_countReached_J74
  refine s_goto (tgt := 24) hK dX5_countReached_74 (by decide) ?_
  exact hrc x22 x23 x24 h25
theorem sm_X5_countReached_L24 {G : GC} {K : SC} (hK : SOK G K RX5 cX5_countReached 5 (some (.int)) "countReached" []) (hf : FR_X5_countReached ≤ (kR K).frames) (hlo : LO_X5_countReached ≤ (kR K).locals) {k77 : Option Nat → AH → RS} (hk77 : ∀ (y0 : Option Nat) (h : AH), Sim G K 5 (k77 y0 h) h 77 [(2, va_rf y0)] []) : ∀ (n : Nat) (x10 : Option Nat) (x11 : Option Nat) (x12 : Option Nat) (h13 : AH), Sim G K 5 (f_X5_countReached_L24 k77 n x10 x11 x12 h13) h13 24 [(0, va_rf x10), (2, va_rf x11), (3, va_rf x12)] [] := by
  intro n
  induction n with
  | zero => intro x10 x11 x12 h13; exact s_none
  | succ n ih =>
    intro x10 x11 x12 h13
    rw [f_X5_countReached_L24]
    refine s_aload_n hK dX5_countReached_24 rfl 2 rfl ?_
    refine s_rc (fun _ _ eo er => ?_)
    refine s_cI hK ho_n (cx_v (As := []) (rest := []) hK dyJ19_isEmpty rfl q440 fcJ19.1 q441 q442 q104 q443 eo er (ct_J19_isEmpty hK.1 x12 h13) (Nat.le_trans (Nat.le_of_ble_eq_true rfl) hf) (Nat.le_trans (Nat.le_of_ble_eq_true rfl) hlo) rk_n (Nat.le_of_ble_eq_true rfl) dX5_countReached_25 rfl) (fun v15 h14 => ?_)
    refine s_if_ne (tgt := 77) hK dX5_countReached_28 (by decide) (fun c32 => ?_) (fun c32 => ?_)
    · refine s_sub [1] rfl ?_
      exact hk77 x11 h14
    · refine s_aload_n hK dX5_countReached_31 rfl 2 rfl ?_
      refine s_rc (fun _ _ eo er => ?_)
      refine s_cA hK ho_n (cx_v (As := []) (rest := []) hK dyJ19_removeFirst rfl q444 fcJ19.1 q445 q446 q104 q447 eo er (ct_J19_removeFirst hK.1 x12 h14) (Nat.le_trans (Nat.le_of_ble_eq_true rfl) hf) (Nat.le_trans (Nat.le_of_ble_eq_true rfl) hlo) rk_n (Nat.le_of_ble_eq_true rfl) dX5_countReached_32 rfl) (fun v17 h16 => ?_)
      refine s_ck hK q476 (ck1 fcJ9.1 (Or.inl rfl)) dX5_countReached_35 ?_
      refine s_rc (fun _ _ eo er => ?_)
      refine s_cI hK ho_n (cx_v (As := []) (rest := []) hK dyJ9_intValue rfl q477 fcJ9.1 q478 q479 q91 q480 eo er (ct_J9_intValue hK.1 v17 h16) (Nat.le_trans (Nat.le_of_ble_eq_true rfl) hf) (Nat.le_trans (Nat.le_of_ble_eq_true rfl) hlo) rk_n (Nat.le_of_ble_eq_true rfl) dX5_countReached_38 rfl) (fun v19 h18 => ?_)
      refine s_istore (lv' := [(4, .int v19), (0, va_rf x10), (2, va_rf x11), (3, va_rf x12)]) hK dX5_countReached_41 (Nat.le_of_ble_eq_true rfl) (flA (pre := [(0, va_rf x10), (2, va_rf x11)]) (suf := []) rfl rfl) ?_
      refine s_aload_n hK dX5_countReached_43 rfl 1 rfl ?_
      refine s_iload hK dX5_countReached_44 0 rfl ?_
      refine s_rc (fun _ _ eo er => ?_)
      refine s_cI hK ho_n (cx_v (As := [.int v19]) (rest := []) hK dyX5_isAccepted rfl q485 fcX5.1 q486 q487 q103 q488 eo er (ct_X5_isAccepted hK.1 x10 v19 h18) (Nat.le_trans (Nat.le_of_ble_eq_true rfl) hf) (Nat.le_trans (Nat.le_of_ble_eq_true rfl) hlo) rk_n (Nat.le_of_ble_eq_true rfl) dX5_countReached_46 rfl) (fun v21 h20 => ?_)
      refine s_if_eq (tgt := 74) hK dX5_countReached_49 (by decide) (fun c31 => ?_) (fun c31 => ?_)
      · refine s_sub [1, 2, 3] rfl ?_
        exact sm_X5_countReached_J74 hK hf hlo ih hk77 x10 x11 x12 h20
      · refine s_aload_n hK dX5_countReached_52 rfl 2 rfl ?_
        refine s_iload hK dX5_countReached_53 0 rfl ?_
        refine s_rc (fun _ _ eo er => ?_)
        refine s_cI hK ho_n (cx_v (As := [.int v19]) (rest := []) hK dyJ20_get rfl q489 fcJ20.1 q490 q491 q106 q492 eo er (ct_J20_get hK.1 x11 v19 h20) (Nat.le_trans (Nat.le_of_ble_eq_true rfl) hf) (Nat.le_trans (Nat.le_of_ble_eq_true rfl) hlo) rk_n (Nat.le_of_ble_eq_true rfl) dX5_countReached_55 rfl) (fun v27 h26 => ?_)
        refine s_if_ne (tgt := 74) hK dX5_countReached_58 (by decide) (fun c30 => ?_) (fun c30 => ?_)
        · refine s_sub [1, 2, 3] rfl ?_
          exact sm_X5_countReached_J74 hK hf hlo ih hk77 x10 x11 x12 h26
        · refine s_aload_n hK dX5_countReached_61 rfl 2 rfl ?_
          refine s_iload hK dX5_countReached_62 0 rfl ?_
          refine s_rc (fun _ _ eo er => ?_)
          refine s_cV hK ho_n (cx_v (As := [.int v19]) (rest := []) hK dyJ20_set rfl q875 fcJ20.1 q876 q877 q106 q878 eo er (ct_J20_set hK.1 x11 v19 h26) (Nat.le_trans (Nat.le_of_ble_eq_true rfl) hf) (Nat.le_trans (Nat.le_of_ble_eq_true rfl) hlo) rk_n (Nat.le_of_ble_eq_true rfl) dX5_countReached_64 rfl) (fun h28 => ?_)
          refine s_aload_n hK dX5_countReached_67 rfl 1 rfl ?_
          refine s_iload hK dX5_countReached_68 0 rfl ?_
          refine s_aload_n hK dX5_countReached_70 rfl 3 rfl ?_
          refine s_rc (fun _ _ eo er => ?_)
          refine s_cV hK ho_n (cx_v (As := [.int v19, va_rf x12]) (rest := []) hK dyX5_addNext rfl q1512 fcX5.1 q1514 qs28 q103 q1515 eo er (ct_X5_addNext hK.1 x10 v19 x12 h28) (Nat.le_trans (Nat.le_of_ble_eq_true rfl) hf) (Nat.le_trans (Nat.le_of_ble_eq_true rfl) hlo) rk_n (Nat.le_of_ble_eq_true rfl) dX5_countReached_71 rfl) (fun h29 => ?_)
          refine s_sub [1, 2, 3] rfl ?_
          exact sm_X5_countReached_J74 hK hf hlo ih hk77 x10 x11 x12 h29
theorem sm_X5_countReached {G : GC} {K : SC} (hK : SOK G K RX5 cX5_countReached 5 (some (.int)) "countReached" []) (hf : FR_X5_countReached ≤ (kR K).frames) (hlo : LO_X5_countReached ≤ (kR K).locals) (p0 : Option Nat) (p1 : Int32) (h : AH) : Sim G K 5 (f_X5_countReached p0 p1 h) h 0 [(0, va_rf p0), (1, .int p1)] [] := by
  unfold f_X5_countReached
  refine s_new hK fcJ20 q263 q264 q106 fsJ20_ok dX5_countReached_0 (fun a1 h2 => ?_)
  refine s_dup hK dX5_countReached_3 (va_cat _) ?_
  refine s_nn (fun _ eo => ?_)
  refine s_cV hK ho_n (cx_i (As := []) (rest := [va_rf a1]) hK dyJ20_init rfl q265 rfl q266 q106 q267 eo (ct_J20_init hK.1 a1 h2) (Nat.le_trans (Nat.le_of_ble_eq_true rfl) hf) (Nat.le_trans (Nat.le_of_ble_eq_true rfl) hlo) (rk_a rk_n) (Nat.le_of_ble_eq_true rfl) dX5_countReached_4 rfl) (fun h3 => ?_)
  refine s_astore_n (lv' := [(2, va_rf a1), (0, va_rf p0), (1, .int p1)]) hK dX5_countReached_7 rfl (Nat.le_of_ble_eq_true rfl) rfl ?_
  refine s_new hK fcJ19 q207 q208 q104 fsJ19_ok dX5_countReached_8 (fun a4 h5 => ?_)
  refine s_dup hK dX5_countReached_11 (va_cat _) ?_
  refine s_nn (fun _ eo => ?_)
  refine s_cV hK ho_n (cx_i (As := []) (rest := [va_rf a4]) hK dyJ19_init rfl q209 rfl q210 q104 q211 eo (ct_J19_init hK.1 a4 h5) (Nat.le_trans (Nat.le_of_ble_eq_true rfl) hf) (Nat.le_trans (Nat.le_of_ble_eq_true rfl) hlo) (rk_a rk_n) (Nat.le_of_ble_eq_true rfl) dX5_countReached_12 rfl) (fun h6 => ?_)
  refine s_astore_n (lv' := [(3, va_rf a4), (2, va_rf a1), (0, va_rf p0), (1, .int p1)]) hK dX5_countReached_15 rfl (Nat.le_of_ble_eq_true rfl) (flA (pre := []) (suf := [(0, va_rf p0), (1, .int p1)]) rfl rfl) ?_
  refine s_aload_n hK dX5_countReached_16 rfl 0 rfl ?_
  refine s_iload_n hK dX5_countReached_17 rfl 3 rfl ?_
  refine s_cA hK ho_n (cx_s (As := [.int p1]) (rest := [va_rf a4]) hK dyJ9_valueOf rfl q288 q289 q91 q290 (ct_J9_valueOf hK.1 p1 h6) (Nat.le_trans (Nat.le_of_ble_eq_true rfl) hf) (Nat.le_trans (Nat.le_of_ble_eq_true rfl) hlo) (rk_a rk_n) (Nat.le_of_ble_eq_true rfl) dX5_countReached_18 rfl) (fun v8 h7 => ?_)
  refine s_rc (fun _ _ eo er => ?_)
  refine s_cV hK ho_n (cx_v (As := [va_rf v8]) (rest := []) hK dyJ19_addLast rfl q308 fcJ19.1 q309 q310 q104 q311 eo er (ct_J19_addLast hK.1 a4 v8 h7) (Nat.le_trans (Nat.le_of_ble_eq_true rfl) hf) (Nat.le_trans (Nat.le_of_ble_eq_true rfl) hlo) rk_n (Nat.le_of_ble_eq_true rfl) dX5_countReached_21 rfl) (fun h9 => ?_)
  refine s_sub [2, 1, 0] rfl ?_
  refine sm_X5_countReached_L24 hK hf hlo (fun x33 h34 => ?_) FUEL p0 a1 a4 h9
  · refine s_aload_n hK dX5_countReached_77 rfl 0 rfl ?_
    refine s_rc (fun _ _ eo er => ?_)
    refine s_cI hK ho_n (cx_v (As := []) (rest := []) hK dyJ20_cardinality rfl q1516 fcJ20.1 q1122 q1123 q106 q1124 eo er (ct_J20_cardinality hK.1 x33 h34) (Nat.le_trans (Nat.le_of_ble_eq_true rfl) hf) (Nat.le_trans (Nat.le_of_ble_eq_true rfl) hlo) rk_n (Nat.le_of_ble_eq_true rfl) dX5_countReached_78 rfl) (fun v36 h35 => ?_)
    exact s_iret hK dX5_countReached_81
theorem ct_X5_countReached {G : GC} {l : Launch} (g : GOK G l) (p0 : Option Nat) (p1 : Int32) (h : AH) : CT G l yX5_countReached (Cond.code yX5_countReached cX5_countReached 5 (some (.int))) 7 259 [va_rf p0, .int p1] (f_X5_countReached p0 p1 h) h :=
  CT.of g (by decide) (by simp only [ls_a, ls_i, ls_l, ls_n]; decide) (fun K _ hK hf hlo => by simp only [la_a, la_i, la_l, la_n]; exact sm_X5_countReached hK hf hlo p0 p1 h)
abbrev FR_X5_countBytes : Nat := 2
abbrev LO_X5_countBytes : Nat := 37
theorem dyX5_countBytes : DY yX5_countBytes 0 := ⟨⟨by decide, by decide⟩, by decide +kernel⟩
theorem sm_X5_countBytes_J27 {G : GC} {K : SC} (hK : SOK G K RX5 cX5_countBytes 3 (some (.int)) "countBytes" []) (hf : FR_X5_countBytes ≤ (kR K).frames) (hlo : LO_X5_countBytes ≤ (kR K).locals) {rc : Option Nat → Int32 → Int32 → AH → RS} (hrc : ∀ (y0 : Option Nat) (y1 : Int32) (y2 : Int32) (h : AH), Sim G K 3 (rc y0 y1 y2 h) h 4 [(0, va_rf y0), (1, .int y1), (2, .int y2)] []) {k35 : Int32 → AH → RS} (hk35 : ∀ (y0 : Int32) (h : AH), Sim G K 3 (k35 y0 h) h 35 [(1, .int y0)] []) (x9 : Option Nat) (x10 : Int32) (y11 : Int32) (y12 : Int32) (h13 : AH) : Sim G K 3 (f_X5_countBytes_J27 rc k35 x9 x10 y11 y12 h13) h13 27 [(0, va_rf x9), (2, .int x10)] [.int y11, .int y12] := by
  unfold f_X5_countBytes_J27
  refine s_iadd hK dX5_countBytes_27 ?_
  refine s_istore_n (lv' := [(1, .int (y12 + y11)), (0, va_rf x9), (2, .int x10)]) hK dX5_countBytes_28 rfl (Nat.le_of_ble_eq_true rfl) (flA (pre := []) (suf := [(2, .int x10)]) rfl rfl) ?_
  refine s_iinc (j := 2) (v := 1) (lv' := [(2, .int (x10 + 1)), (1, .int (y12 + y11)), (0, va_rf x9)]) hK dX5_countBytes_29 rfl rfl (Nat.le_of_ble_eq_true rfl) rfl ?_
  refine s_goto (tgt := 4) hK dX5_countBytes_32 (by decide) ?_
  refine s_sub [2, 1, 0] rfl ?_
  exact hrc x9 (y12 + y11) (x10 + 1) h13
theorem sm_X5_countBytes_L4 {G : GC} {K : SC} (hK : SOK G K RX5 cX5_countBytes 3 (some (.int)) "countBytes" []) (hf : FR_X5_countBytes ≤ (kR K).frames) (hlo : LO_X5_countBytes ≤ (kR K).locals) {k35 : Int32 → AH → RS} (hk35 : ∀ (y0 : Int32) (h : AH), Sim G K 3 (k35 y0 h) h 35 [(1, .int y0)] []) : ∀ (n : Nat) (x1 : Option Nat) (x2 : Int32) (x3 : Int32) (h4 : AH), Sim G K 3 (f_X5_countBytes_L4 k35 n x1 x2 x3 h4) h4 4 [(0, va_rf x1), (1, .int x2), (2, .int x3)] [] := by
  intro n
  induction n with
  | zero => intro x1 x2 x3 h4; exact s_none
  | succ n ih =>
    intro x1 x2 x3 h4
    rw [f_X5_countBytes_L4]
    refine s_iload_n hK dX5_countBytes_4 rfl 2 rfl ?_
    refine s_aload_n hK dX5_countBytes_5 rfl 0 rfl ?_
    refine s_gA hK fcX5 1 (Nat.le_of_ble_eq_true rfl) (Or.inl q1087) (Or.inl rfl) dX5_countBytes_6 (fun v5 => ?_)
    refine s_alen hK dX5_countBytes_9 (fun v6 => ?_)
    refine s_icmp_ge (tgt := 35) hK dX5_countBytes_10 (by decide) (fun c15 => ?_) (fun c15 => ?_)
    · refine s_sub [1] rfl ?_
      exact hk35 x2 h4
    · refine s_iload_n hK dX5_countBytes_13 rfl 1 rfl ?_
      refine s_aload_n hK dX5_countBytes_14 rfl 0 rfl ?_
      refine s_iload_n hK dX5_countBytes_15 rfl 2 rfl ?_
      refine s_rc (fun _ _ eo er => ?_)
      refine s_cI hK ho_n (cx_v (As := [.int x3]) (rest := [.int x2]) hK dyX5_isTaken rfl q871 fcX5.1 q873 qs10 q103 q874 eo er (ct_X5_isTaken hK.1 x1 x3 h4) (Nat.le_trans (Nat.le_of_ble_eq_true rfl) hf) (Nat.le_trans (Nat.le_of_ble_eq_true rfl) hlo) (rk_i rk_n) (Nat.le_of_ble_eq_true rfl) dX5_countBytes_16 rfl) (fun v8 h7 => ?_)
      refine s_if_eq (tgt := 26) hK dX5_countBytes_19 (by decide) (fun c14 => ?_) (fun c14 => ?_)
      · refine s_iconst (v := 0) hK dX5_countBytes_26 rfl ?_
        refine s_sub [0, 2] rfl ?_
        exact sm_X5_countBytes_J27 hK hf hlo ih hk35 x1 x3 0 x2 h7
      · refine s_iconst (v := 1) hK dX5_countBytes_22 rfl ?_
        refine s_goto (tgt := 27) hK dX5_countBytes_23 (by decide) ?_
        refine s_sub [0, 2] rfl ?_
        exact sm_X5_countBytes_J27 hK hf hlo ih hk35 x1 x3 1 x2 h7
theorem sm_X5_countBytes {G : GC} {K : SC} (hK : SOK G K RX5 cX5_countBytes 3 (some (.int)) "countBytes" []) (hf : FR_X5_countBytes ≤ (kR K).frames) (hlo : LO_X5_countBytes ≤ (kR K).locals) (p0 : Option Nat) (h : AH) : Sim G K 3 (f_X5_countBytes p0 h) h 0 [(0, va_rf p0)] [] := by
  unfold f_X5_countBytes
  refine s_iconst (v := 0) hK dX5_countBytes_0 rfl ?_
  refine s_istore_n (lv' := [(1, .int 0), (0, va_rf p0)]) hK dX5_countBytes_1 rfl (Nat.le_of_ble_eq_true rfl) (flA (pre := []) (suf := []) rfl rfl) ?_
  refine s_iconst (v := 0) hK dX5_countBytes_2 rfl ?_
  refine s_istore_n (lv' := [(2, .int 0), (1, .int 0), (0, va_rf p0)]) hK dX5_countBytes_3 rfl (Nat.le_of_ble_eq_true rfl) rfl ?_
  refine s_sub [2, 1, 0] rfl ?_
  refine sm_X5_countBytes_L4 hK hf hlo (fun x16 h17 => ?_) FUEL p0 0 0 h
  · refine s_iload_n hK dX5_countBytes_35 rfl 0 rfl ?_
    exact s_iret hK dX5_countBytes_36
theorem ct_X5_countBytes {G : GC} {l : Launch} (g : GOK G l) (p0 : Option Nat) (h : AH) : CT G l yX5_countBytes (Cond.code yX5_countBytes cX5_countBytes 3 (some (.int))) 2 37 [va_rf p0] (f_X5_countBytes p0 h) h :=
  CT.of g (by decide) (by simp only [ls_a, ls_i, ls_l, ls_n]; decide) (fun K _ hK hf hlo => by simp only [la_a, la_i, la_l, la_n]; exact sm_X5_countBytes hK hf hlo p0 h)
abbrev FR_X5_init : Nat := 11
abbrev LO_X5_init : Nat := 350
theorem dyX5_init : DY yX5_init 1 := ⟨⟨by decide, by decide⟩, by decide +kernel⟩
theorem sm_X5_init_L98 {G : GC} {K : SC} (hK : SOK G K RX5 cX5_init 3 (none) "<init>" []) (hf : FR_X5_init ≤ (kR K).frames) (hlo : LO_X5_init ≤ (kR K).locals) {k129 : Option Nat → AH → RS} (hk129 : ∀ (y0 : Option Nat) (h : AH), Sim G K 3 (k129 y0 h) h 129 [(0, va_rf y0)] []) : ∀ (n : Nat) (x35 : Option Nat) (x36 : Option Nat) (x37 : Int32) (h38 : AH), Sim G K 3 (f_X5_init_L98 k129 n x35 x36 x37 h38) h38 98 [(0, va_rf x35), (1, va_rf x36), (2, .int x37)] [] := by
  intro n
  induction n with
  | zero => intro x35 x36 x37 h38; exact s_none
  | succ n ih =>
    intro x35 x36 x37 h38
    rw [f_X5_init_L98]
    refine s_iload_n hK dX5_init_98 rfl 2 rfl ?_
    refine s_aload_n hK dX5_init_99 rfl 1 rfl ?_
    refine s_gA hK fcX2 1 (Nat.le_of_ble_eq_true rfl) (Or.inr ⟨_, q137⟩) (Or.inl rfl) dX5_init_100 (fun v39 => ?_)
    refine s_alen hK dX5_init_103 (fun v40 => ?_)
    refine s_icmp_ge (tgt := 129) hK dX5_init_104 (by decide) (fun c47 => ?_) (fun c47 => ?_)
    · refine s_sub [0] rfl ?_
      exact hk129 x35 h38
    · refine s_aload_n hK dX5_init_107 rfl 0 rfl ?_
      refine s_gA hK fcX5 2 (Nat.le_of_ble_eq_true rfl) (Or.inl q1089) (Or.inl rfl) dX5_init_108 (fun v41 => ?_)
      refine s_aload_n hK dX5_init_111 rfl 1 rfl ?_
      refine s_gA hK fcX2 1 (Nat.le_of_ble_eq_true rfl) (Or.inr ⟨_, q137⟩) (Or.inl rfl) dX5_init_112 (fun v42 => ?_)
      refine s_iload_n hK dX5_init_115 rfl 2 rfl ?_
      refine s_iald hK dX5_init_116 (fun v43 => ?_)
      refine s_cA hK ho_n (cx_s (As := [.int v43]) (rest := [va_rf v41]) hK dyJ9_valueOf rfl q288 q289 q91 q290 (ct_J9_valueOf hK.1 v43 h38) (Nat.le_trans (Nat.le_of_ble_eq_true rfl) hf) (Nat.le_trans (Nat.le_of_ble_eq_true rfl) hlo) (rk_a rk_n) (Nat.le_of_ble_eq_true rfl) dX5_init_117 rfl) (fun v45 h44 => ?_)
      refine s_rc (fun _ _ eo er => ?_)
      refine s_cV hK ho_n (cx_v (As := [va_rf v45]) (rest := []) hK dyJ19_addLast rfl q308 fcJ19.1 q309 q310 q104 q311 eo er (ct_J19_addLast hK.1 v41 v45 h44) (Nat.le_trans (Nat.le_of_ble_eq_true rfl) hf) (Nat.le_trans (Nat.le_of_ble_eq_true rfl) hlo) rk_n (Nat.le_of_ble_eq_true rfl) dX5_init_120 rfl) (fun h46 => ?_)
      refine s_iinc (j := 2) (v := 1) (lv' := [(2, .int (x37 + 1)), (0, va_rf x35), (1, va_rf x36)]) hK dX5_init_123 rfl rfl (Nat.le_of_ble_eq_true rfl) (flA (pre := [(0, va_rf x35)]) (suf := [(2, .int x37)]) rfl rfl) ?_
      refine s_goto (tgt := 98) hK dX5_init_126 (by decide) ?_
      refine s_sub [1, 2, 0] rfl ?_
      exact ih x35 x36 (x37 + 1) h46
theorem sm_X5_init_L153 {G : GC} {K : SC} (hK : SOK G K RX5 cX5_init 3 (none) "<init>" []) (hf : FR_X5_init ≤ (kR K).frames) (hlo : LO_X5_init ≤ (kR K).locals) {k166 : Option Nat → AH → RS} (hk166 : ∀ (y0 : Option Nat) (h : AH), Sim G K 3 (k166 y0 h) h 166 [(0, va_rf y0)] []) : ∀ (n : Nat) (x60 : Option Nat) (x61 : Int32) (h62 : AH), Sim G K 3 (f_X5_init_L153 k166 n x60 x61 h62) h62 153 [(0, va_rf x60), (2, .int x61)] [] := by
  intro n
  induction n with
  | zero => intro x60 x61 h62; exact s_none
  | succ n ih =>
    intro x60 x61 h62
    rw [f_X5_init_L153]
    refine s_iload_n hK dX5_init_153 rfl 1 rfl ?_
    refine s_if_lt (tgt := 166) hK dX5_init_154 (by decide) (fun c65 => ?_) (fun c65 => ?_)
    · refine s_sub [0] rfl ?_
      exact hk166 x60 h62
    · refine s_aload_n hK dX5_init_157 rfl 0 rfl ?_
      refine s_iload_n hK dX5_init_158 rfl 1 rfl ?_
      refine s_rc (fun _ _ eo er => ?_)
      refine s_cI hK ho_n (cx_v (As := [.int x61]) (rest := []) hK dyX5_follow rfl q481 fcX5.1 q483 qs5 q103 q484 eo er (ct_X5_follow hK.1 x60 x61 h62) (Nat.le_trans (Nat.le_of_ble_eq_true rfl) hf) (Nat.le_trans (Nat.le_of_ble_eq_true rfl) hlo) rk_n (Nat.le_of_ble_eq_true rfl) dX5_init_159 rfl) (fun v64 h63 => ?_)
      refine s_istore_n (lv' := [(2, .int v64), (0, va_rf x60)]) hK dX5_init_162 rfl (Nat.le_of_ble_eq_true rfl) rfl ?_
      refine s_goto (tgt := 153) hK dX5_init_163 (by decide) ?_
      refine s_sub [1, 0] rfl ?_
      exact ih x60 v64 h63
theorem sm_X5_init_L129 {G : GC} {K : SC} (hK : SOK G K RX5 cX5_init 3 (none) "<init>" []) (hf : FR_X5_init ≤ (kR K).frames) (hlo : LO_X5_init ≤ (kR K).locals) {k169 : Option Nat → AH → RS} (hk169 : ∀ (y0 : Option Nat) (h : AH), Sim G K 3 (k169 y0 h) h 169 [(0, va_rf y0)] []) : ∀ (n : Nat) (x50 : Option Nat) (h51 : AH), Sim G K 3 (f_X5_init_L129 k169 n x50 h51) h51 129 [(0, va_rf x50)] [] := by
  intro n
  induction n with
  | zero => intro x50 h51; exact s_none
  | succ n ih =>
    intro x50 h51
    rw [f_X5_init_L129]
    refine s_aload_n hK dX5_init_129 rfl 0 rfl ?_
    refine s_gA hK fcX5 2 (Nat.le_of_ble_eq_true rfl) (Or.inl q1089) (Or.inl rfl) dX5_init_130 (fun v52 => ?_)
    refine s_rc (fun _ _ eo er => ?_)
    refine s_cI hK ho_n (cx_v (As := []) (rest := []) hK dyJ19_isEmpty rfl q440 fcJ19.1 q441 q442 q104 q443 eo er (ct_J19_isEmpty hK.1 v52 h51) (Nat.le_trans (Nat.le_of_ble_eq_true rfl) hf) (Nat.le_trans (Nat.le_of_ble_eq_true rfl) hlo) rk_n (Nat.le_of_ble_eq_true rfl) dX5_init_133 rfl) (fun v54 h53 => ?_)
    refine s_if_ne (tgt := 169) hK dX5_init_136 (by decide) (fun c68 => ?_) (fun c68 => ?_)
    · exact hk169 x50 h53
    · refine s_aload_n hK dX5_init_139 rfl 0 rfl ?_
      refine s_gA hK fcX5 2 (Nat.le_of_ble_eq_true rfl) (Or.inl q1089) (Or.inl rfl) dX5_init_140 (fun v55 => ?_)
      refine s_rc (fun _ _ eo er => ?_)
      refine s_cA hK ho_n (cx_v (As := []) (rest := []) hK dyJ19_removeFirst rfl q444 fcJ19.1 q445 q446 q104 q447 eo er (ct_J19_removeFirst hK.1 v55 h53) (Nat.le_trans (Nat.le_of_ble_eq_true rfl) hf) (Nat.le_trans (Nat.le_of_ble_eq_true rfl) hlo) rk_n (Nat.le_of_ble_eq_true rfl) dX5_init_143 rfl) (fun v57 h56 => ?_)
      refine s_ck hK q476 (ck1 fcJ9.1 (Or.inl rfl)) dX5_init_146 ?_
      refine s_rc (fun _ _ eo er => ?_)
      refine s_cI hK ho_n (cx_v (As := []) (rest := []) hK dyJ9_intValue rfl q477 fcJ9.1 q478 q479 q91 q480 eo er (ct_J9_intValue hK.1 v57 h56) (Nat.le_trans (Nat.le_of_ble_eq_true rfl) hf) (Nat.le_trans (Nat.le_of_ble_eq_true rfl) hlo) rk_n (Nat.le_of_ble_eq_true rfl) dX5_init_149 rfl) (fun v59 h58 => ?_)
      refine s_istore_n (lv' := [(2, .int v59), (0, va_rf x50)]) hK dX5_init_152 rfl (Nat.le_of_ble_eq_true rfl) rfl ?_
      refine s_sub [1, 0] rfl ?_
      refine sm_X5_init_L153 hK hf hlo (fun x66 h67 => ?_) FUEL x50 v59 h58
      · refine s_goto (tgt := 129) hK dX5_init_166 (by decide) ?_
        exact ih x66 h67
theorem sm_X5_init_L175 {G : GC} {K : SC} (hK : SOK G K RX5 cX5_init 3 (none) "<init>" []) (hf : FR_X5_init ≤ (kR K).frames) (hlo : LO_X5_init ≤ (kR K).locals) {k222 : Option Nat → AH → RS} (hk222 : ∀ (y0 : Option Nat) (h : AH), Sim G K 3 (k222 y0 h) h 222 [(0, va_rf y0)] []) : ∀ (n : Nat) (x72 : Option Nat) (x73 : Int32) (h74 : AH), Sim G K 3 (f_X5_init_L175 k222 n x72 x73 h74) h74 175 [(0, va_rf x72), (2, .int x73)] [] := by
  intro n
  induction n with
  | zero => intro x72 x73 h74; exact s_none
  | succ n ih =>
    intro x72 x73 h74
    rw [f_X5_init_L175]
    refine s_iload_n hK dX5_init_175 rfl 1 rfl ?_
    refine s_aload_n hK dX5_init_176 rfl 0 rfl ?_
    refine s_gA hK fcX5 6 (Nat.le_of_ble_eq_true rfl) (Or.inl q1096) (Or.inl rfl) dX5_init_177 (fun v75 => ?_)
    refine s_rc (fun _ _ eo er => ?_)
    refine s_cI hK ho_n (cx_v (As := []) (rest := [.int x73]) hK dyJ7_size rfl q1020 fcJ7.1 q972 q2187 q88 q974 eo er (ct_J7_size hK.1 v75 h74) (Nat.le_trans (Nat.le_of_ble_eq_true rfl) hf) (Nat.le_trans (Nat.le_of_ble_eq_true rfl) hlo) (rk_i rk_n) (Nat.le_of_ble_eq_true rfl) dX5_init_180 rfl) (fun v77 h76 => ?_)
    refine s_icmp_ge (tgt := 222) hK dX5_init_183 (by decide) (fun c86 => ?_) (fun c86 => ?_)
    · refine s_sub [0] rfl ?_
      exact hk222 x72 h76
    · refine s_aload_n hK dX5_init_186 rfl 0 rfl ?_
      refine s_aload_n hK dX5_init_187 rfl 0 rfl ?_
      refine s_gA hK fcX5 6 (Nat.le_of_ble_eq_true rfl) (Or.inl q1096) (Or.inl rfl) dX5_init_188 (fun v78 => ?_)
      refine s_iload_n hK dX5_init_191 rfl 1 rfl ?_
      refine s_rc (fun _ _ eo er => ?_)
      refine s_cA hK ho_n (cx_v (As := [.int x73]) (rest := [va_rf x72]) hK dyJ7_get rfl q1021 fcJ7.1 q981 q2188 q88 q983 eo er (ct_J7_get hK.1 v78 x73 h76) (Nat.le_trans (Nat.le_of_ble_eq_true rfl) hf) (Nat.le_trans (Nat.le_of_ble_eq_true rfl) hlo) (rk_a rk_n) (Nat.le_of_ble_eq_true rfl) dX5_init_192 rfl) (fun v80 h79 => ?_)
      refine s_ck hK q999 (ck1 fcX8.1 (Or.inl rfl)) dX5_init_195 ?_
      refine s_rc (fun _ _ eo er => ?_)
      refine s_cV hK ho_n (cx_v (As := [va_rf v80]) (rest := []) hK dyX5_test rfl q1022 fcX5.1 q1024 qs18 q103 q1025 eo er (ct_X5_test hK.1 x72 v80 h79) (Nat.le_trans (Nat.le_of_ble_eq_true rfl) hf) (Nat.le_trans (Nat.le_of_ble_eq_true rfl) hlo) rk_n (Nat.le_of_ble_eq_true rfl) dX5_init_198 rfl) (fun h81 => ?_)
      refine s_aload_n hK dX5_init_201 rfl 0 rfl ?_
      refine s_aload_n hK dX5_init_202 rfl 0 rfl ?_
      refine s_gA hK fcX5 6 (Nat.le_of_ble_eq_true rfl) (Or.inl q1096) (Or.inl rfl) dX5_init_203 (fun v82 => ?_)
      refine s_iload_n hK dX5_init_206 rfl 1 rfl ?_
      refine s_rc (fun _ _ eo er => ?_)
      refine s_cA hK ho_n (cx_v (As := [.int x73]) (rest := [va_rf x72]) hK dyJ7_get rfl q1021 fcJ7.1 q981 q2188 q88 q983 eo er (ct_J7_get hK.1 v82 x73 h81) (Nat.le_trans (Nat.le_of_ble_eq_true rfl) hf) (Nat.le_trans (Nat.le_of_ble_eq_true rfl) hlo) (rk_a rk_n) (Nat.le_of_ble_eq_true rfl) dX5_init_207 rfl) (fun v84 h83 => ?_)
      refine s_ck hK q999 (ck1 fcX8.1 (Or.inl rfl)) dX5_init_210 ?_
      refine s_rc (fun _ _ eo er => ?_)
      refine s_cV hK ho_n (cx_v (As := [va_rf v84]) (rest := []) hK dyX5_speculate rfl q1043 fcX5.1 q1045 qs19 q103 q1046 eo er (ct_X5_speculate hK.1 x72 v84 h83) (Nat.le_trans (Nat.le_of_ble_eq_true rfl) hf) (Nat.le_trans (Nat.le_of_ble_eq_true rfl) hlo) rk_n (Nat.le_of_ble_eq_true rfl) dX5_init_213 rfl) (fun h85 => ?_)
      refine s_iinc (j := 1) (v := 1) (lv' := [(2, .int (x73 + 1)), (0, va_rf x72)]) hK dX5_init_216 rfl rfl (Nat.le_of_ble_eq_true rfl) rfl ?_
      refine s_goto (tgt := 175) hK dX5_init_219 (by decide) ?_
      refine s_sub [1, 0] rfl ?_
      exact ih x72 (x73 + 1) h85
theorem sm_X5_init {G : GC} {K : SC} (hK : SOK G K RX5 cX5_init 3 (none) "<init>" []) (hf : FR_X5_init ≤ (kR K).frames) (hlo : LO_X5_init ≤ (kR K).locals) (p0 : Option Nat) (p1 : Option Nat) (h : AH) : Sim G K 3 (f_X5_init p0 p1 h) h 0 [(0, va_rf p0), (1, va_rf p1)] [] := by
  unfold f_X5_init
  refine s_aload_n hK dX5_init_0 rfl 0 rfl ?_
  refine s_oinit hK q206 q124 q125 dX5_init_1 (Nat.le_trans (Nat.le_of_ble_eq_true rfl) hf) rk_n (Nat.le_trans (Nat.le_of_ble_eq_true rfl) hlo) ?_
  refine s_aload_n hK dX5_init_4 rfl 0 rfl ?_
  refine s_new hK fcJ19 q207 q208 q104 fsJ19_ok dX5_init_5 (fun a1 h2 => ?_)
  refine s_dup hK dX5_init_8 (va_cat _) ?_
  refine s_nn (fun _ eo => ?_)
  refine s_cV hK ho_n (cx_i (As := []) (rest := [va_rf a1, va_rf p0]) hK dyJ19_init rfl q209 rfl q210 q104 q211 eo (ct_J19_init hK.1 a1 h2) (Nat.le_trans (Nat.le_of_ble_eq_true rfl) hf) (Nat.le_trans (Nat.le_of_ble_eq_true rfl) hlo) (rk_a (rk_a rk_n)) (Nat.le_of_ble_eq_true rfl) dX5_init_9 rfl) (fun h3 => ?_)
  refine s_pF hK fcX5 2 (Nat.le_of_ble_eq_true rfl) (Or.inl q1089) (Or.inl rfl) (Or.inr ⟨rfl, rfl, rfl, q1089⟩) (nr_o _) (ft_o _) dX5_init_12 (fun h4 => ?_)
  refine s_aload_n hK dX5_init_15 rfl 0 rfl ?_
  refine s_new hK fcX6 q228 q229 q105 fsX6_ok dX5_init_16 (fun a5 h6 => ?_)
  refine s_dup hK dX5_init_19 (va_cat _) ?_
  refine s_nn (fun _ eo => ?_)
  refine s_cV hK ho_n (cx_iN (As := []) (rest := [va_rf a5, va_rf p0]) hK dyX6_init rfl q230 rfl q231 q105 q232 eo (ct_X6_init hK.1 a5 h6) (Nat.le_trans (Nat.le_of_ble_eq_true rfl) hf) (Nat.le_trans (Nat.le_of_ble_eq_true rfl) hlo) (rk_a (rk_a rk_n)) (Nat.le_of_ble_eq_true rfl) dX5_init_20 rfl) (fun h7 => ?_)
  refine s_pF hK fcX5 3 (Nat.le_of_ble_eq_true rfl) (Or.inl q1090) (Or.inl rfl) (Or.inr ⟨rfl, rfl, rfl, q1090⟩) (nr_o _) (ft_o _) dX5_init_23 (fun h8 => ?_)
  refine s_aload_n hK dX5_init_26 rfl 0 rfl ?_
  refine s_new hK fcX6 q228 q229 q105 fsX6_ok dX5_init_27 (fun a9 h10 => ?_)
  refine s_dup hK dX5_init_30 (va_cat _) ?_
  refine s_nn (fun _ eo => ?_)
  refine s_cV hK ho_n (cx_iN (As := []) (rest := [va_rf a9, va_rf p0]) hK dyX6_init rfl q230 rfl q231 q105 q232 eo (ct_X6_init hK.1 a9 h10) (Nat.le_trans (Nat.le_of_ble_eq_true rfl) hf) (Nat.le_trans (Nat.le_of_ble_eq_true rfl) hlo) (rk_a (rk_a rk_n)) (Nat.le_of_ble_eq_true rfl) dX5_init_31 rfl) (fun h11 => ?_)
  refine s_pF hK fcX5 4 (Nat.le_of_ble_eq_true rfl) (Or.inl q1092) (Or.inl rfl) (Or.inr ⟨rfl, rfl, rfl, q1092⟩) (nr_o _) (ft_o _) dX5_init_34 (fun h12 => ?_)
  refine s_aload_n hK dX5_init_37 rfl 0 rfl ?_
  refine s_new hK fcJ7 q261 q235 q88 fsJ7_ok dX5_init_38 (fun a13 h14 => ?_)
  refine s_dup hK dX5_init_41 (va_cat _) ?_
  refine s_nn (fun _ eo => ?_)
  refine s_cV hK ho_n (cx_i (As := []) (rest := [va_rf a13, va_rf p0]) hK dyJ7_init rfl q262 rfl q237 q88 q238 eo (ct_J7_init hK.1 a13 h14) (Nat.le_trans (Nat.le_of_ble_eq_true rfl) hf) (Nat.le_trans (Nat.le_of_ble_eq_true rfl) hlo) (rk_a (rk_a rk_n)) (Nat.le_of_ble_eq_true rfl) dX5_init_42 rfl) (fun h15 => ?_)
  refine s_pF hK fcX5 5 (Nat.le_of_ble_eq_true rfl) (Or.inl q1094) (Or.inl rfl) (Or.inr ⟨rfl, rfl, rfl, q1094⟩) (nr_o _) (ft_o _) dX5_init_45 (fun h16 => ?_)
  refine s_aload_n hK dX5_init_48 rfl 0 rfl ?_
  refine s_new hK fcJ7 q261 q235 q88 fsJ7_ok dX5_init_49 (fun a17 h18 => ?_)
  refine s_dup hK dX5_init_52 (va_cat _) ?_
  refine s_nn (fun _ eo => ?_)
  refine s_cV hK ho_n (cx_i (As := []) (rest := [va_rf a17, va_rf p0]) hK dyJ7_init rfl q262 rfl q237 q88 q238 eo (ct_J7_init hK.1 a17 h18) (Nat.le_trans (Nat.le_of_ble_eq_true rfl) hf) (Nat.le_trans (Nat.le_of_ble_eq_true rfl) hlo) (rk_a (rk_a rk_n)) (Nat.le_of_ble_eq_true rfl) dX5_init_53 rfl) (fun h19 => ?_)
  refine s_pF hK fcX5 6 (Nat.le_of_ble_eq_true rfl) (Or.inl q1096) (Or.inl rfl) (Or.inr ⟨rfl, rfl, rfl, q1096⟩) (nr_o _) (ft_o _) dX5_init_56 (fun h20 => ?_)
  refine s_aload_n hK dX5_init_59 rfl 0 rfl ?_
  refine s_new hK fcJ7 q261 q235 q88 fsJ7_ok dX5_init_60 (fun a21 h22 => ?_)
  refine s_dup hK dX5_init_63 (va_cat _) ?_
  refine s_nn (fun _ eo => ?_)
  refine s_cV hK ho_n (cx_i (As := []) (rest := [va_rf a21, va_rf p0]) hK dyJ7_init rfl q262 rfl q237 q88 q238 eo (ct_J7_init hK.1 a21 h22) (Nat.le_trans (Nat.le_of_ble_eq_true rfl) hf) (Nat.le_trans (Nat.le_of_ble_eq_true rfl) hlo) (rk_a (rk_a rk_n)) (Nat.le_of_ble_eq_true rfl) dX5_init_64 rfl) (fun h23 => ?_)
  refine s_pF hK fcX5 7 (Nat.le_of_ble_eq_true rfl) (Or.inl q1098) (Or.inl rfl) (Or.inr ⟨rfl, rfl, rfl, q1098⟩) (nr_o _) (ft_o _) dX5_init_67 (fun h24 => ?_)
  refine s_aload_n hK dX5_init_70 rfl 0 rfl ?_
  refine s_new hK fcJ20 q263 q264 q106 fsJ20_ok dX5_init_71 (fun a25 h26 => ?_)
  refine s_dup hK dX5_init_74 (va_cat _) ?_
  refine s_nn (fun _ eo => ?_)
  refine s_cV hK ho_n (cx_i (As := []) (rest := [va_rf a25, va_rf p0]) hK dyJ20_init rfl q265 rfl q266 q106 q267 eo (ct_J20_init hK.1 a25 h26) (Nat.le_trans (Nat.le_of_ble_eq_true rfl) hf) (Nat.le_trans (Nat.le_of_ble_eq_true rfl) hlo) (rk_a (rk_a rk_n)) (Nat.le_of_ble_eq_true rfl) dX5_init_75 rfl) (fun h27 => ?_)
  refine s_pF hK fcX5 8 (Nat.le_of_ble_eq_true rfl) (Or.inl q1100) (Or.inl rfl) (Or.inr ⟨rfl, rfl, rfl, q1100⟩) (nr_o _) (ft_o _) dX5_init_78 (fun h28 => ?_)
  refine s_aload_n hK dX5_init_81 rfl 0 rfl ?_
  refine s_aload_n hK dX5_init_82 rfl 1 rfl ?_
  refine s_pF hK fcX5 0 (Nat.le_of_ble_eq_true rfl) (Or.inl q1086) (Or.inl rfl) (Or.inr ⟨rfl, rfl, rfl, q1086⟩) (nr_o _) (ft_o _) dX5_init_83 (fun h29 => ?_)
  refine s_aload_n hK dX5_init_86 rfl 0 rfl ?_
  refine s_aload_n hK dX5_init_87 rfl 1 rfl ?_
  refine s_rc (fun _ _ eo er => ?_)
  refine s_cI hK ho_n (cx_v (As := []) (rest := [va_rf p0]) hK dyX2_size rfl q287 fcX2.1 q182 q183 q79 q184 eo er (ct_X2_size hK.1 p1 h29) (Nat.le_trans (Nat.le_of_ble_eq_true rfl) hf) (Nat.le_trans (Nat.le_of_ble_eq_true rfl) hlo) (rk_a rk_n) (Nat.le_of_ble_eq_true rfl) dX5_init_88 rfl) (fun v31 h30 => ?_)
  refine s_newI hK dX5_init_91 (fun a32 h33 => ?_)
  refine s_pF hK fcX5 1 (Nat.le_of_ble_eq_true rfl) (Or.inl q1087) (Or.inl rfl) (Or.inr ⟨rfl, rfl, rfl, q1087⟩) (nr_r _) (ft_r _) dX5_init_93 (fun h34 => ?_)
  refine s_iconst (v := 0) hK dX5_init_96 rfl ?_
  refine s_istore_n (lv' := [(2, .int 0), (0, va_rf p0), (1, va_rf p1)]) hK dX5_init_97 rfl (Nat.le_of_ble_eq_true rfl) (flA (pre := [(0, va_rf p0)]) (suf := []) rfl rfl) ?_
  refine s_sub [1, 2, 0] rfl ?_
  refine sm_X5_init_L98 hK hf hlo (fun x48 h49 => ?_) FUEL p0 p1 0 h34
  · refine sm_X5_init_L129 hK hf hlo (fun x69 h70 => ?_) FUEL x48 h49
    · refine s_aload_n hK dX5_init_169 rfl 0 rfl ?_
      refine s_rc (fun _ _ eo er => ?_)
      refine s_cV hK ho_n (cx_v (As := []) (rest := []) hK dyX5_findGaps rfl q995 fcX5.1 q997 qs17 q103 q998 eo er (ct_X5_findGaps hK.1 x69 h70) (Nat.le_trans (Nat.le_of_ble_eq_true rfl) hf) (Nat.le_trans (Nat.le_of_ble_eq_true rfl) hlo) rk_n (Nat.le_of_ble_eq_true rfl) dX5_init_170 rfl) (fun h71 => ?_)
      refine s_iconst (v := 0) hK dX5_init_173 rfl ?_
      refine s_istore_n (lv' := [(2, .int 0), (0, va_rf x69)]) hK dX5_init_174 rfl (Nat.le_of_ble_eq_true rfl) rfl ?_
      refine s_sub [1, 0] rfl ?_
      refine sm_X5_init_L175 hK hf hlo (fun x87 h88 => ?_) FUEL x69 0 h71
      · refine s_aload_n hK dX5_init_222 rfl 0 rfl ?_
        refine s_rc (fun _ _ eo er => ?_)
        refine s_cV hK ho_n (cx_v (As := []) (rest := []) hK dyX5_findBlocks rfl q1047 fcX5.1 q1049 qs20 q103 q1050 eo er (ct_X5_findBlocks hK.1 x87 h88) (Nat.le_trans (Nat.le_of_ble_eq_true rfl) hf) (Nat.le_trans (Nat.le_of_ble_eq_true rfl) hlo) rk_n (Nat.le_of_ble_eq_true rfl) dX5_init_223 rfl) (fun h89 => ?_)
        exact s_vret hK dX5_init_226
theorem ct_X5_init {G : GC} {l : Launch} (g : GOK G l) (p0 : Option Nat) (p1 : Option Nat) (h : AH) : CT G l yX5_init (Cond.code yX5_init cX5_init 3 (none)) 11 350 [va_rf p0, va_rf p1] (f_X5_init p0 p1 h) h :=
  CT.of g (by decide) (by simp only [ls_a, ls_i, ls_l, ls_n]; decide) (fun K _ hK hf hlo => by simp only [la_a, la_i, la_l, la_n]; exact sm_X5_init hK hf hlo p0 p1 h)
