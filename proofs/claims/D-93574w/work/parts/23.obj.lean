/-! printed by mk.py/gen.py -/
set_option maxRecDepth 100000
def f_X1_requireArgument (p0 : Int32) (h : AH) : RS := if ¬ p0 = 0 then rtV h else xmk h 14 (fun a1 h2 => xat h2 a1 14 (fun q3 => some (.inr ("java/lang/IllegalArgumentException", q3), h2)))
def f_X1_requireState (p0 : Int32) (h : AH) : RS := if ¬ p0 = 0 then rtV h else xmk h 15 (fun a1 h2 => xat h2 a1 15 (fun q3 => some (.inr ("java/lang/IllegalStateException", q3), h2)))
def f_X1_requireIndex (p0 : Int32) (h : AH) : RS := if ¬ p0 = 0 then rtV h else xmk h 16 (fun a1 h2 => xat h2 a1 16 (fun q3 => some (.inr ("java/lang/IndexOutOfBoundsException", q3), h2)))
def f_X1_requireSupport (p0 : Int32) (h : AH) : RS := if ¬ p0 = 0 then rtV h else xmk h 17 (fun a1 h2 => xat h2 a1 17 (fun q3 => some (.inr ("java/lang/UnsupportedOperationException", q3), h2)))
def f_X1_requireDivisor (p0 : Int32) (h : AH) : RS := if ¬ p0 = 0 then rtV h else xmk h 19 (fun a1 h2 => xat h2 a1 19 (fun q3 => some (.inr ("java/lang/ArithmeticException", q3), h2)))
def f_X6_init (p0 : Option Nat) (h : AH) : RS := xnn p0 (xnO h 10 3 fsJ7 (fun a1 h2 => xnn a1 (xcV (f_J7_init a1 h2) (fun h3 => xpF h3 p0 5 0 (va_rf a1) (fun h4 => rtV h4)))))
noncomputable def f_X6_add (p0 : Option Nat) (p1 : Option Nat) (h : AH) : RS := xgA h p0 5 0 (fun v1 => xrc h v1 10 (xcI (f_J7_contains v1 p1 h) (fun v3 h2 => if ¬ v3 = 0 then rtZ 0 h2 else xgA h2 p0 5 0 (fun v4 => xrc h2 v4 10 (xcI (f_J7_add v4 p1 h2) (fun v6 h5 => if v6 = 0 then rtZ 0 h5 else rtZ 1 h5))))))
def f_X6_get (p0 : Option Nat) (p1 : Int32) (h : AH) : RS := xgA h p0 5 0 (fun v1 => xrc h v1 10 (xcI (f_J7_size v1 h) (fun v3 h2 => xcI (f_X1_isBetween p1 0 (v3 - 1) h2) (fun v5 h4 => xcV (f_X1_requireIndex v5 h4) (fun h6 => xgA h6 p0 5 0 (fun v7 => xrc h6 v7 10 (xcA (f_J7_get v7 p1 h6) (fun v9 h8 => rtA v9 h8))))))))
def f_X6_size (p0 : Option Nat) (h : AH) : RS := xgA h p0 5 0 (fun v1 => xrc h v1 10 (xcI (f_J7_size v1 h) (fun v3 h2 => rtI v3 h2)))
def f_X7_init (p0 : Option Nat) (p1 : Int32) (p2 : Int32) (p3 : Int32) (p4 : Int32) (h : AH) : RS := xnn p0 (xnO h 10 3 fsJ7 (fun a1 h2 => xnn a1 (xcV (f_J7_init a1 h2) (fun h3 => xpF h3 p0 6 4 (va_rf a1) (fun h4 => xpF h4 p0 6 0 (.int p1) (fun h5 => xpF h5 p0 6 1 (.int p2) (fun h6 => xpF h6 p0 6 2 (.int p3) (fun h7 => xpF h7 p0 6 3 (.int p4) (fun h8 => rtV h8)))))))))
def f_X7_part (p0 : Option Nat) (p1 : Int32) (h : AH) : RS := if ¬ p1 = 0 then if ¬ p1 = 1 then if ¬ p1 = 2 then xgA h p0 6 4 (fun v1 => xrc h v1 10 (xcI (f_J7_size v1 h) (fun v3 h2 => rtI v3 h2))) else xgI h p0 6 2 (fun v4 => rtI v4 h) else xgI h p0 6 1 (fun v6 => rtI v6 h) else xgI h p0 6 0 (fun v8 => rtI v8 h)
def f_X8_init (p0 : Option Nat) (p1 : Int32) (p2 : Int32) (h : AH) : RS := xnn p0 (xpF h p0 7 0 (.int p1) (fun h1 => xpF h1 p0 7 1 (.int p2) (fun h2 => rtV h2)))
def f_X8_part (p0 : Option Nat) (p1 : Int32) (h : AH) : RS := if ¬ p1 = 0 then if ¬ p1 = 1 then xgI h p0 7 2 (fun v1 => rtI v1 h) else xgI h p0 7 1 (fun v2 => rtI v2 h) else xgI h p0 7 0 (fun v4 => rtI v4 h)
def f_X8_end (p0 : Option Nat) (h : AH) : RS := xgI h p0 7 0 (fun v1 => xgI h p0 7 1 (fun v2 => rtI (v1 + v2) h))
def f_X9_init (p0 : Option Nat) (p1 : Int32) (h : AH) : RS := xnn p0 (xpF h p0 8 0 (.int p1) (fun h1 => rtV h1))
def f_X9_part (p0 : Option Nat) (p1 : Int32) (h : AH) : RS := if ¬ p1 = 0 then if ¬ p1 = 1 then xgI h p0 8 2 (fun v1 => rtI v1 h) else xgI h p0 8 1 (fun v2 => rtI v2 h) else xgI h p0 8 0 (fun v4 => rtI v4 h)
def f_X1_partOf (p0 : Option Nat) (p1 : Int32) (p2 : Int32) (p3 : Int32) (h : AH) : RS := xrc h p0 10 (xcI (f_J7_size p0 h) (fun v2 h1 => xcI (f_X1_isBetween p1 0 (v2 - 1) h1) (fun v4 h3 => xcV (f_X1_requireIndex v4 h3) (fun h5 => xcI (f_X1_isBetween p2 0 p3 h5) (fun v7 h6 => xcV (f_X1_requireArgument v7 h6) (fun h8 => xrc h8 p0 10 (xcA (f_J7_get p0 p1 h8) (fun v10 h9 => xck h9 v10 [6, 7, 8] (xoo (xoo (xoo (none) (xrc h9 v10 8 (xcI (f_X9_part v10 p2 h9) (fun v12 h11 => rtI v12 h11)))) (xrc h9 v10 7 (xcI (f_X8_part v10 p2 h9) (fun v14 h13 => rtI v14 h13)))) (xrc h9 v10 6 (xcI (f_X7_part v10 p2 h9) (fun v16 h15 => rtI v16 h15))))))))))))
noncomputable def f_X1_addAll_L2 (k29 : AH → RS) : Nat → Option Nat → Option Nat → Int32 → AH → RS
  | 0, _, _, _, _ => none
  | n + 1, x1, x2, x3, h4 => xrc h4 x1 10 (xcI (f_J7_size x1 h4) (fun v6 h5 => if v6 ≤ x3 then k29  h5 else xrc h5 x1 10 (xcA (f_J7_get x1 x3 h5) (fun v8 h7 => xrc h7 x2 12 (xcV (f_J19_addLast x2 v8 h7) (fun h9 => f_X1_addAll_L2 k29 n x1 x2 (x3 + 1) h9))))))
noncomputable def f_X1_addAll (p0 : Option Nat) (p1 : Option Nat) (h : AH) : RS := f_X1_addAll_L2 (fun h11 => rtV h11) FUEL p0 p1 0 h
def f_X10_byteOr (p0 : Option Nat) (p1 : Int32) (p2 : Int32) (h : AH) : RS := xgA h p0 9 0 (fun v1 => xrc h v1 1 (xcI (f_X2_contains v1 p1 h) (fun v3 h2 => if v3 = 0 then rtI p2 h2 else xgA h2 p0 9 0 (fun v4 => xgA h2 v4 1 0 (fun v5 => xlI h2 v5 0 p1 (fun v6 => rtI v6 h2))))))
def f_X10_compute_J214 (x29 : Int32) (y30 : Int32) (y31 : Int32) (y32 : Option Nat) (h33 : AH) : RS := xsI h33 y32 0 y31 y30 (fun h34 => if x29 < 0 then rtZ 0 h34 else rtZ 1 h34)
def f_X10_compute_J195 (x24 : Option Nat) (x25 : Int32) (x26 : Int32)  (h27 : AH) : RS := xgA h27 x24 9 1 (fun v28 => if 0 ≤ x26 then f_X10_compute_J214 x26 x26 x25 v28 h27 else xgA h27 x24 9 1 (fun v36 => xlI h27 v36 0 x25 (fun v37 => f_X10_compute_J214 x26 v37 x25 v28 h27)))
def f_X10_compute_J141 (x47 : Option Nat) (x48 : Int32) (x49 : Int32) (y50 : Int32) (y51 : Option Nat) (h52 : AH) : RS := xpZ h52 y51 9 4 y50 (fun h53 => f_X10_compute_J195 x47 x48 x49 h53)
def f_X10_compute (p0 : Option Nat) (p1 : Int32) (h : AH) : RS := xgA h p0 9 0 (fun v1 => xrc h v1 1 (xcI (f_X2_first v1 p1 h) (fun v3 h2 => xgA h2 p0 9 1 (fun v4 => xlI h2 v4 0 v3 (fun v5 => xgA h2 p0 9 0 (fun v6 => xrc h2 v6 1 (xcI (f_X2_kind v6 p1 h2) (fun v8 h7 => if v8 = 1 then xgA h7 p0 9 0 (fun v21 => xrc h7 v21 1 (xcI (f_X2_operand v21 p1 h7) (fun v23 h22 => f_X10_compute_J195 p0 v3 v23 h22))) else if v8 = 2 then xgA h7 p0 9 1 (fun v39 => xgA h7 p0 9 0 (fun v40 => xrc h7 v40 1 (xcI (f_X2_second v40 p1 h7) (fun v42 h41 => xlI h41 v39 0 v42 (fun v43 => f_X10_compute_J195 p0 v3 ((v5 + v43) - (v5 + v43) / 256 * 256) h41))))) else if v8 = 3 then xgA h7 p0 9 0 (fun v44 => xrc h7 v44 1 (xcI (f_X2_operand v44 p1 h7) (fun v46 h45 => if v46 ≤ v5 then f_X10_compute_J141 p0 v3 v5 0 p0 h45 else f_X10_compute_J141 p0 v3 v5 1 p0 h45))) else if v8 = 4 then f_X10_compute_J195 p0 v3 v5 h7 else if v8 = 5 then f_X10_compute_J195 p0 v3 v5 h7 else if v8 = 6 then f_X10_compute_J195 p0 v3 v5 h7 else if v8 = 7 then f_X10_compute_J195 p0 v3 v5 h7 else if v8 = 8 then f_X10_compute_J195 p0 v3 v5 h7 else if v8 = 9 then f_X10_compute_J195 p0 v3 v5 h7 else if v8 = 10 then xgA h7 p0 9 0 (fun v55 => xrc h7 v55 1 (xcI (f_X2_operand v55 p1 h7) (fun v57 h56 => xrc h56 p0 9 (xcI (f_X10_byteOr p0 v57 (-1) h56) (fun v59 h58 => f_X10_compute_J195 p0 v3 v59 h58))))) else if v8 = 11 then xgA h7 p0 9 1 (fun v60 => xgA h7 p0 9 0 (fun v61 => xrc h7 v61 1 (xcI (f_X2_second v61 p1 h7) (fun v63 h62 => xlI h62 v60 0 v63 (fun v64 => f_X10_compute_J195 p0 v3 v64 h62))))) else if v8 = 12 then xgA h7 p0 9 0 (fun v65 => xrc h7 v65 1 (xcI (f_X2_operand v65 p1 h7) (fun v67 h66 => f_X10_compute_J195 p0 v3 (v5 &&& v67) h66))) else f_X10_compute_J195 p0 v3 v5 h7))))))))
noncomputable def f_X10_call (p0 : Option Nat) (p1 : Int32) (p2 : Int32) (h : AH) : RS := xgA h p0 9 3 (fun v1 => xrc h v1 12 (xcI (f_J19_size v1 h) (fun v3 h2 => if ¬ v3 = 8 then xgA h2 p0 9 3 (fun v4 => xcA (f_J9_valueOf p2 h2) (fun v6 h5 => xrc h5 v4 12 (xcV (f_J19_addLast v4 v6 h5) (fun h7 => rtI p1 h7)))) else rtI (-1) h2)))
noncomputable def f_X10_execute_J193 (x54 : Option Nat) (x55 : Int32) (x56 : Int32)  (h57 : AH) : RS := xrc h57 x54 9 (xcI (f_X10_compute x54 x55 h57) (fun v59 h58 => if v59 = 0 then rtI (-1) h58 else rtI x56 h58))
noncomputable def f_X10_execute (p0 : Option Nat) (p1 : Int32) (h : AH) : RS := xgA h p0 9 0 (fun v1 => xrc h v1 1 (xcI (f_X2_length v1 p1 h) (fun v3 h2 => xgA h2 p0 9 0 (fun v4 => xrc h2 v4 1 (xcI (f_X2_kind v4 p1 h2) (fun v6 h5 => if v6 = 4 then xgA h5 p0 9 0 (fun v17 => xrc h5 v17 1 (xcI (f_X2_target v17 p1 h5) (fun v19 h18 => rtI v19 h18))) else if v6 = 5 then xgI h5 p0 9 4 (fun v20 => if v20 = 0 then rtI (p1 + v3) h5 else xgA h5 p0 9 0 (fun v21 => xrc h5 v21 1 (xcI (f_X2_target v21 p1 h5) (fun v23 h22 => rtI v23 h22)))) else if v6 = 6 then xgI h5 p0 9 4 (fun v25 => if v25 = 0 then xgA h5 p0 9 0 (fun v26 => xrc h5 v26 1 (xcI (f_X2_target v26 p1 h5) (fun v28 h27 => rtI v28 h27))) else rtI (p1 + v3) h5) else if v6 = 7 then xgA h5 p0 9 0 (fun v30 => xrc h5 v30 1 (xcI (f_X2_target v30 p1 h5) (fun v32 h31 => xrc h31 p0 9 (xcI (f_X10_call p0 v32 (p1 + v3) h31) (fun v34 h33 => rtI v34 h33))))) else if v6 = 8 then xgA h5 p0 9 3 (fun v35 => xrc h5 v35 12 (xcI (f_J19_isEmpty v35 h5) (fun v37 h36 => if v37 = 0 then xgA h36 p0 9 3 (fun v38 => xrc h36 v38 12 (xcA (f_J19_removeLast v38 h36) (fun v40 h39 => xck h39 v40 [11] (xrc h39 v40 11 (xcI (f_J9_intValue v40 h39) (fun v42 h41 => rtI v42 h41)))))) else rtI (-1) h36))) else if v6 = 9 then xgA h5 p0 9 0 (fun v44 => xrc h5 v44 1 (xcI (f_X2_operand v44 p1 h5) (fun v46 h45 => xgA h45 p0 9 1 (fun v47 => xgA h45 p0 9 0 (fun v48 => xrc h45 v48 1 (xcI (f_X2_first v48 p1 h45) (fun v50 h49 => xlI h49 v47 0 v50 (fun v51 => xrc h49 p0 9 (xcI (f_X10_byteOr p0 (v46 + v51) (-1) h49) (fun v53 h52 => rtI v53 h52)))))))))) else if v6 = 10 then f_X10_execute_J193 p0 p1 (p1 + v3) h5 else if v6 = 11 then f_X10_execute_J193 p0 p1 (p1 + v3) h5 else if v6 = 12 then f_X10_execute_J193 p0 p1 (p1 + v3) h5 else if v6 = 13 then rtI (-1) h5 else f_X10_execute_J193 p0 p1 (p1 + v3) h5))))))
noncomputable def f_X10_init_L39 (k86 : AH → RS) : Nat → Option Nat → Option Nat → Int32 → AH → RS
  | 0, _, _, _, _ => none
  | n + 1, x14, x15, x16, h17 => xgI h17 x14 9 5 (fun v18 => if 200 ≤ v18 then k86  h17 else xrc h17 x15 1 (xcI (f_X2_isValid x15 x16 h17) (fun v20 h19 => if v20 = 0 then k86  h19 else xgA h19 x14 9 2 (fun v21 => xlI h19 v21 0 x16 (fun v22 => xsI h19 v21 0 x16 (v22 + 1) (fun h23 => xgI h23 x14 9 5 (fun v24 => xpF h23 x14 9 5 (.int (v24 + 1)) (fun h25 => xrc h25 x14 9 (xcI (f_X10_execute x14 x16 h25) (fun v27 h26 => f_X10_init_L39 k86 n x14 x15 v27 h26))))))))))
noncomputable def f_X10_init (p0 : Option Nat) (p1 : Option Nat) (p2 : Int32) (h : AH) : RS := xnn p0 (xnA h 0 4 (fun a1 h2 => xpF h2 p0 9 1 (va_rf a1) (fun h3 => xnO h3 12 3 fsJ19 (fun a4 h5 => xnn a4 (xcV (f_J19_init a4 h5) (fun h6 => xpF h6 p0 9 3 (va_rf a4) (fun h7 => xpF h7 p0 9 0 (va_rf p1) (fun h8 => xrc h8 p1 1 (xcI (f_X2_size p1 h8) (fun v10 h9 => xnA h9 0 v10 (fun a11 h12 => xpF h12 p0 9 2 (va_rf a11) (fun h13 => f_X10_init_L39 (fun h30 => rtV h30) FUEL p0 p1 p2 h13))))))))))))
abbrev FR_X1_requireArgument : Nat := 6
abbrev LO_X1_requireArgument : Nat := 81
theorem dyX1_requireArgument : DY yX1_requireArgument 1 := ⟨⟨by decide, by decide⟩, by decide +kernel⟩
theorem sm_X1_requireArgument {G : GC} {K : SC} (hK : SOK G K RX1 cX1_requireArgument 1 (none) "requireArgument" []) (hf : FR_X1_requireArgument ≤ (kR K).frames) (hlo : LO_X1_requireArgument ≤ (kR K).locals) (p0 : Int32) (h : AH) : Sim G K 1 (f_X1_requireArgument p0 h) h 0 [(0, .int p0)] [] := by
  unfold f_X1_requireArgument
  refine s_iload_n hK dX1_requireArgument_0 rfl 0 rfl ?_
  refine s_if_ne (tgt := 12) hK dX1_requireArgument_1 (by decide) (fun c4 => ?_) (fun c4 => ?_)
  · exact s_vret hK dX1_requireArgument_12
  · refine s_mk0 hK xe_J3_1_3 rfl dX1_requireArgument_4 dX1_requireArgument_7 dX1_requireArgument_8 (Nat.lt_of_lt_of_le (Nat.le_of_ble_eq_true rfl) hf) rk_n (Nat.le_trans (Nat.le_of_ble_eq_true rfl) hlo) (fun a1 h2 => ?_)
    refine s_athrow hK (ci := 14) (rc := (RJ3, TJ3, 0)) rfl dX1_requireArgument_11 (fun q3 => ?_)
    exact st_out hK ho_n
theorem ct_X1_requireArgument {G : GC} {l : Launch} (g : GOK G l) (p0 : Int32) (h : AH) : CT G l yX1_requireArgument (Cond.code yX1_requireArgument cX1_requireArgument 1 (none)) 6 81 [.int p0] (f_X1_requireArgument p0 h) h :=
  CT.of g (by decide) (by simp only [ls_a, ls_i, ls_l, ls_n]; decide) (fun K _ hK hf hlo => by simp only [la_a, la_i, la_l, la_n]; exact sm_X1_requireArgument hK hf hlo p0 h)
abbrev FR_X1_requireState : Nat := 6
abbrev LO_X1_requireState : Nat := 81
theorem dyX1_requireState : DY yX1_requireState 1 := ⟨⟨by decide, by decide⟩, by decide +kernel⟩
theorem sm_X1_requireState {G : GC} {K : SC} (hK : SOK G K RX1 cX1_requireState 1 (none) "requireState" []) (hf : FR_X1_requireState ≤ (kR K).frames) (hlo : LO_X1_requireState ≤ (kR K).locals) (p0 : Int32) (h : AH) : Sim G K 1 (f_X1_requireState p0 h) h 0 [(0, .int p0)] [] := by
  unfold f_X1_requireState
  refine s_iload_n hK dX1_requireState_0 rfl 0 rfl ?_
  refine s_if_ne (tgt := 12) hK dX1_requireState_1 (by decide) (fun c4 => ?_) (fun c4 => ?_)
  · exact s_vret hK dX1_requireState_12
  · refine s_mk0 hK xe_J4_7_9 rfl dX1_requireState_4 dX1_requireState_7 dX1_requireState_8 (Nat.lt_of_lt_of_le (Nat.le_of_ble_eq_true rfl) hf) rk_n (Nat.le_trans (Nat.le_of_ble_eq_true rfl) hlo) (fun a1 h2 => ?_)
    refine s_athrow hK (ci := 15) (rc := (RJ4, TJ4, 0)) rfl dX1_requireState_11 (fun q3 => ?_)
    exact st_out hK ho_n
theorem ct_X1_requireState {G : GC} {l : Launch} (g : GOK G l) (p0 : Int32) (h : AH) : CT G l yX1_requireState (Cond.code yX1_requireState cX1_requireState 1 (none)) 6 81 [.int p0] (f_X1_requireState p0 h) h :=
  CT.of g (by decide) (by simp only [ls_a, ls_i, ls_l, ls_n]; decide) (fun K _ hK hf hlo => by simp only [la_a, la_i, la_l, la_n]; exact sm_X1_requireState hK hf hlo p0 h)
abbrev FR_X1_requireIndex : Nat := 6
abbrev LO_X1_requireIndex : Nat := 81
theorem dyX1_requireIndex : DY yX1_requireIndex 1 := ⟨⟨by decide, by decide⟩, by decide +kernel⟩
theorem sm_X1_requireIndex {G : GC} {K : SC} (hK : SOK G K RX1 cX1_requireIndex 1 (none) "requireIndex" []) (hf : FR_X1_requireIndex ≤ (kR K).frames) (hlo : LO_X1_requireIndex ≤ (kR K).locals) (p0 : Int32) (h : AH) : Sim G K 1 (f_X1_requireIndex p0 h) h 0 [(0, .int p0)] [] := by
  unfold f_X1_requireIndex
  refine s_iload_n hK dX1_requireIndex_0 rfl 0 rfl ?_
  refine s_if_ne (tgt := 12) hK dX1_requireIndex_1 (by decide) (fun c4 => ?_) (fun c4 => ?_)
  · exact s_vret hK dX1_requireIndex_12
  · refine s_mk0 hK xe_J15_10_12 rfl dX1_requireIndex_4 dX1_requireIndex_7 dX1_requireIndex_8 (Nat.lt_of_lt_of_le (Nat.le_of_ble_eq_true rfl) hf) rk_n (Nat.le_trans (Nat.le_of_ble_eq_true rfl) hlo) (fun a1 h2 => ?_)
    refine s_athrow hK (ci := 16) (rc := (RJ15, TJ15, 0)) rfl dX1_requireIndex_11 (fun q3 => ?_)
    exact st_out hK ho_n
theorem ct_X1_requireIndex {G : GC} {l : Launch} (g : GOK G l) (p0 : Int32) (h : AH) : CT G l yX1_requireIndex (Cond.code yX1_requireIndex cX1_requireIndex 1 (none)) 6 81 [.int p0] (f_X1_requireIndex p0 h) h :=
  CT.of g (by decide) (by simp only [ls_a, ls_i, ls_l, ls_n]; decide) (fun K _ hK hf hlo => by simp only [la_a, la_i, la_l, la_n]; exact sm_X1_requireIndex hK hf hlo p0 h)
abbrev FR_X1_requireSupport : Nat := 6
abbrev LO_X1_requireSupport : Nat := 81
theorem dyX1_requireSupport : DY yX1_requireSupport 1 := ⟨⟨by decide, by decide⟩, by decide +kernel⟩
theorem sm_X1_requireSupport {G : GC} {K : SC} (hK : SOK G K RX1 cX1_requireSupport 1 (none) "requireSupport" []) (hf : FR_X1_requireSupport ≤ (kR K).frames) (hlo : LO_X1_requireSupport ≤ (kR K).locals) (p0 : Int32) (h : AH) : Sim G K 1 (f_X1_requireSupport p0 h) h 0 [(0, .int p0)] [] := by
  unfold f_X1_requireSupport
  refine s_iload_n hK dX1_requireSupport_0 rfl 0 rfl ?_
  refine s_if_ne (tgt := 12) hK dX1_requireSupport_1 (by decide) (fun c4 => ?_) (fun c4 => ?_)
  · exact s_vret hK dX1_requireSupport_12
  · refine s_mk0 hK xe_J18_154_156 rfl dX1_requireSupport_4 dX1_requireSupport_7 dX1_requireSupport_8 (Nat.lt_of_lt_of_le (Nat.le_of_ble_eq_true rfl) hf) rk_n (Nat.le_trans (Nat.le_of_ble_eq_true rfl) hlo) (fun a1 h2 => ?_)
    refine s_athrow hK (ci := 17) (rc := (RJ18, TJ18, 0)) rfl dX1_requireSupport_11 (fun q3 => ?_)
    exact st_out hK ho_n
theorem ct_X1_requireSupport {G : GC} {l : Launch} (g : GOK G l) (p0 : Int32) (h : AH) : CT G l yX1_requireSupport (Cond.code yX1_requireSupport cX1_requireSupport 1 (none)) 6 81 [.int p0] (f_X1_requireSupport p0 h) h :=
  CT.of g (by decide) (by simp only [ls_a, ls_i, ls_l, ls_n]; decide) (fun K _ hK hf hlo => by simp only [la_a, la_i, la_l, la_n]; exact sm_X1_requireSupport hK hf hlo p0 h)
abbrev FR_X1_requireDivisor : Nat := 6
abbrev LO_X1_requireDivisor : Nat := 81
theorem dyX1_requireDivisor : DY yX1_requireDivisor 1 := ⟨⟨by decide, by decide⟩, by decide +kernel⟩
theorem sm_X1_requireDivisor {G : GC} {K : SC} (hK : SOK G K RX1 cX1_requireDivisor 1 (none) "requireDivisor" []) (hf : FR_X1_requireDivisor ≤ (kR K).frames) (hlo : LO_X1_requireDivisor ≤ (kR K).locals) (p0 : Int32) (h : AH) : Sim G K 1 (f_X1_requireDivisor p0 h) h 0 [(0, .int p0)] [] := by
  unfold f_X1_requireDivisor
  refine s_iload_n hK dX1_requireDivisor_0 rfl 0 rfl ?_
  refine s_if_ne (tgt := 12) hK dX1_requireDivisor_1 (by decide) (fun c4 => ?_) (fun c4 => ?_)
  · exact s_vret hK dX1_requireDivisor_12
  · refine s_mk0 hK xe_J27_277_279 rfl dX1_requireDivisor_4 dX1_requireDivisor_7 dX1_requireDivisor_8 (Nat.lt_of_lt_of_le (Nat.le_of_ble_eq_true rfl) hf) rk_n (Nat.le_trans (Nat.le_of_ble_eq_true rfl) hlo) (fun a1 h2 => ?_)
    refine s_athrow hK (ci := 19) (rc := (RJ27, TJ27, 0)) rfl dX1_requireDivisor_11 (fun q3 => ?_)
    exact st_out hK ho_n
theorem ct_X1_requireDivisor {G : GC} {l : Launch} (g : GOK G l) (p0 : Int32) (h : AH) : CT G l yX1_requireDivisor (Cond.code yX1_requireDivisor cX1_requireDivisor 1 (none)) 6 81 [.int p0] (f_X1_requireDivisor p0 h) h :=
  CT.of g (by decide) (by simp only [ls_a, ls_i, ls_l, ls_n]; decide) (fun K _ hK hf hlo => by simp only [la_a, la_i, la_l, la_n]; exact sm_X1_requireDivisor hK hf hlo p0 h)
abbrev FR_X6_init : Nat := 4
abbrev LO_X6_init : Nat := 76
theorem dyX6_init : DY yX6_init 0 := ⟨⟨by decide, by decide⟩, by decide +kernel⟩
theorem sm_X6_init {G : GC} {K : SC} (hK : SOK G K RX6 cX6_init 1 (none) "<init>" []) (hf : FR_X6_init ≤ (kR K).frames) (hlo : LO_X6_init ≤ (kR K).locals) (p0 : Option Nat) (h : AH) : Sim G K 1 (f_X6_init p0 h) h 0 [(0, va_rf p0)] [] := by
  unfold f_X6_init
  refine s_aload_n hK dX6_init_0 rfl 0 rfl ?_
  refine s_oinit hK q233 q124 q125 dX6_init_1 (Nat.le_trans (Nat.le_of_ble_eq_true rfl) hf) rk_n (Nat.le_trans (Nat.le_of_ble_eq_true rfl) hlo) ?_
  refine s_aload_n hK dX6_init_4 rfl 0 rfl ?_
  refine s_new hK fcJ7 q234 q235 q88 fsJ7_ok dX6_init_5 (fun a1 h2 => ?_)
  refine s_dup hK dX6_init_8 (va_cat _) ?_
  refine s_nn (fun _ eo => ?_)
  refine s_cV hK ho_n (cx_i (As := []) (rest := [va_rf a1, va_rf p0]) hK dyJ7_init rfl q236 rfl q237 q88 q238 eo (ct_J7_init hK.1 a1 h2) (Nat.le_trans (Nat.le_of_ble_eq_true rfl) hf) (Nat.le_trans (Nat.le_of_ble_eq_true rfl) hlo) (rk_a (rk_a rk_n)) (Nat.le_of_ble_eq_true rfl) dX6_init_9 rfl) (fun h3 => ?_)
  refine s_pF hK fcX6 0 (Nat.le_of_ble_eq_true rfl) (Or.inl q257) (Or.inl rfl) (Or.inr ⟨rfl, rfl, rfl, q257⟩) (nr_o _) (ft_o _) dX6_init_12 (fun h4 => ?_)
  exact s_vret hK dX6_init_15
theorem ct_X6_init {G : GC} {l : Launch} (g : GOK G l) (p0 : Option Nat) (h : AH) : CT G l yX6_init (Cond.code yX6_init cX6_init 1 (none)) 4 76 [va_rf p0] (f_X6_init p0 h) h :=
  CT.of g (by decide) (by simp only [ls_a, ls_i, ls_l, ls_n]; decide) (fun K _ hK hf hlo => by simp only [la_a, la_i, la_l, la_n]; exact sm_X6_init hK hf hlo p0 h)
abbrev FR_X6_add : Nat := 7
abbrev LO_X6_add : Nat := 251
theorem dyX6_add : DY yX6_add 1 := ⟨⟨by decide, by decide⟩, by decide +kernel⟩
theorem sm_X6_add {G : GC} {K : SC} (hK : SOK G K RX6 cX6_add 2 (some (.boolean)) "add" []) (hf : FR_X6_add ≤ (kR K).frames) (hlo : LO_X6_add ≤ (kR K).locals) (p0 : Option Nat) (p1 : Option Nat) (h : AH) : Sim G K 2 (f_X6_add p0 p1 h) h 0 [(0, va_rf p0), (1, va_rf p1)] [] := by
  unfold f_X6_add
  refine s_aload_n hK dX6_add_0 rfl 0 rfl ?_
  refine s_gA hK fcX6 0 (Nat.le_of_ble_eq_true rfl) (Or.inl q257) (Or.inl rfl) dX6_add_1 (fun v1 => ?_)
  refine s_aload_n hK dX6_add_4 rfl 1 rfl ?_
  refine s_rc (fun _ _ eo er => ?_)
  refine s_cI hK ho_n (cx_v (As := [va_rf p1]) (rest := []) hK dyJ7_contains rfl q805 fcJ7.1 q806 q807 q88 q808 eo er (ct_J7_contains hK.1 v1 p1 h) (Nat.le_trans (Nat.le_of_ble_eq_true rfl) hf) (Nat.le_trans (Nat.le_of_ble_eq_true rfl) hlo) rk_n (Nat.le_of_ble_eq_true rfl) dX6_add_5 rfl) (fun v3 h2 => ?_)
  refine s_if_ne (tgt := 26) hK dX6_add_8 (by decide) (fun c8 => ?_) (fun c8 => ?_)
  · refine s_iconst (v := 0) hK dX6_add_26 rfl ?_
    exact s_zret hK dX6_add_27
  · refine s_aload_n hK dX6_add_11 rfl 0 rfl ?_
    refine s_gA hK fcX6 0 (Nat.le_of_ble_eq_true rfl) (Or.inl q257) (Or.inl rfl) dX6_add_12 (fun v4 => ?_)
    refine s_aload_n hK dX6_add_15 rfl 1 rfl ?_
    refine s_rc (fun _ _ eo er => ?_)
    refine s_cI hK ho_n (cx_v (As := [va_rf p1]) (rest := []) hK dyJ7_add rfl q850 fcJ7.1 q851 q852 q88 q853 eo er (ct_J7_add hK.1 v4 p1 h2) (Nat.le_trans (Nat.le_of_ble_eq_true rfl) hf) (Nat.le_trans (Nat.le_of_ble_eq_true rfl) hlo) rk_n (Nat.le_of_ble_eq_true rfl) dX6_add_16 rfl) (fun v6 h5 => ?_)
    refine s_if_eq (tgt := 26) hK dX6_add_19 (by decide) (fun c7 => ?_) (fun c7 => ?_)
    · refine s_iconst (v := 0) hK dX6_add_26 rfl ?_
      exact s_zret hK dX6_add_27
    · refine s_iconst (v := 1) hK dX6_add_22 rfl ?_
      refine s_goto (tgt := 27) hK dX6_add_23 (by decide) ?_
      exact s_zret hK dX6_add_27
theorem ct_X6_add {G : GC} {l : Launch} (g : GOK G l) (p0 : Option Nat) (p1 : Option Nat) (h : AH) : CT G l yX6_add (Cond.code yX6_add cX6_add 2 (some (.boolean))) 7 251 [va_rf p0, va_rf p1] (f_X6_add p0 p1 h) h :=
  CT.of g (by decide) (by simp only [ls_a, ls_i, ls_l, ls_n]; decide) (fun K _ hK hf hlo => by simp only [la_a, la_i, la_l, la_n]; exact sm_X6_add hK hf hlo p0 p1 h)
abbrev FR_X6_get : Nat := 7
abbrev LO_X6_get : Nat := 101
theorem dyX6_get : DY yX6_get 1 := ⟨⟨by decide, by decide⟩, by decide +kernel⟩
theorem sm_X6_get {G : GC} {K : SC} (hK : SOK G K RX6 cX6_get 2 (some (.object "java/lang/Object")) "get" []) (hf : FR_X6_get ≤ (kR K).frames) (hlo : LO_X6_get ≤ (kR K).locals) (p0 : Option Nat) (p1 : Int32) (h : AH) : Sim G K 2 (f_X6_get p0 p1 h) h 0 [(0, va_rf p0), (1, .int p1)] [] := by
  unfold f_X6_get
  refine s_iload_n hK dX6_get_0 rfl 1 rfl ?_
  refine s_iconst (v := 0) hK dX6_get_1 rfl ?_
  refine s_aload_n hK dX6_get_2 rfl 0 rfl ?_
  refine s_gA hK fcX6 0 (Nat.le_of_ble_eq_true rfl) (Or.inl q257) (Or.inl rfl) dX6_get_3 (fun v1 => ?_)
  refine s_rc (fun _ _ eo er => ?_)
  refine s_cI hK ho_n (cx_v (As := []) (rest := [.int 0, .int p1]) hK dyJ7_size rfl q1364 fcJ7.1 q972 q2187 q88 q974 eo er (ct_J7_size hK.1 v1 h) (Nat.le_trans (Nat.le_of_ble_eq_true rfl) hf) (Nat.le_trans (Nat.le_of_ble_eq_true rfl) hlo) (rk_i (rk_i rk_n)) (Nat.le_of_ble_eq_true rfl) dX6_get_6 rfl) (fun v3 h2 => ?_)
  refine s_iconst (v := 1) hK dX6_get_9 rfl ?_
  refine s_isub hK dX6_get_10 ?_
  refine s_cI hK ho_n (cx_sN (As := [.int p1, .int 0, .int (v3 - 1)]) (rest := []) hK dyX1_isBetween rfl q1376 q775 q78 q776 (ct_X1_isBetween hK.1 p1 0 (v3 - 1) h2) (Nat.le_trans (Nat.le_of_ble_eq_true rfl) hf) (Nat.le_trans (Nat.le_of_ble_eq_true rfl) hlo) rk_n (Nat.le_of_ble_eq_true rfl) dX6_get_11 rfl) (fun v5 h4 => ?_)
  refine s_cV hK ho_n (cx_sN (As := [.int v5]) (rest := []) hK dyX1_requireIndex rfl q1377 q1238 q78 q1239 (ct_X1_requireIndex hK.1 v5 h4) (Nat.le_trans (Nat.le_of_ble_eq_true rfl) hf) (Nat.le_trans (Nat.le_of_ble_eq_true rfl) hlo) rk_n (Nat.le_of_ble_eq_true rfl) dX6_get_14 rfl) (fun h6 => ?_)
  refine s_aload_n hK dX6_get_17 rfl 0 rfl ?_
  refine s_gA hK fcX6 0 (Nat.le_of_ble_eq_true rfl) (Or.inl q257) (Or.inl rfl) dX6_get_18 (fun v7 => ?_)
  refine s_iload_n hK dX6_get_21 rfl 1 rfl ?_
  refine s_rc (fun _ _ eo er => ?_)
  refine s_cA hK ho_n (cx_v (As := [.int p1]) (rest := []) hK dyJ7_get rfl q1378 fcJ7.1 q981 q2188 q88 q983 eo er (ct_J7_get hK.1 v7 p1 h6) (Nat.le_trans (Nat.le_of_ble_eq_true rfl) hf) (Nat.le_trans (Nat.le_of_ble_eq_true rfl) hlo) rk_n (Nat.le_of_ble_eq_true rfl) dX6_get_22 rfl) (fun v9 h8 => ?_)
  exact s_aret hK (Or.inl ⟨_, rfl⟩) dX6_get_25
theorem ct_X6_get {G : GC} {l : Launch} (g : GOK G l) (p0 : Option Nat) (p1 : Int32) (h : AH) : CT G l yX6_get (Cond.code yX6_get cX6_get 2 (some (.object "java/lang/Object"))) 7 101 [va_rf p0, .int p1] (f_X6_get p0 p1 h) h :=
  CT.of g (by decide) (by simp only [ls_a, ls_i, ls_l, ls_n]; decide) (fun K _ hK hf hlo => by simp only [la_a, la_i, la_l, la_n]; exact sm_X6_get hK hf hlo p0 p1 h)
abbrev FR_X6_size : Nat := 2
abbrev LO_X6_size : Nat := 36
theorem dyX6_size : DY yX6_size 0 := ⟨⟨by decide, by decide⟩, by decide +kernel⟩
theorem sm_X6_size {G : GC} {K : SC} (hK : SOK G K RX6 cX6_size 1 (some (.int)) "size" []) (hf : FR_X6_size ≤ (kR K).frames) (hlo : LO_X6_size ≤ (kR K).locals) (p0 : Option Nat) (h : AH) : Sim G K 1 (f_X6_size p0 h) h 0 [(0, va_rf p0)] [] := by
  unfold f_X6_size
  refine s_aload_n hK dX6_size_0 rfl 0 rfl ?_
  refine s_gA hK fcX6 0 (Nat.le_of_ble_eq_true rfl) (Or.inl q257) (Or.inl rfl) dX6_size_1 (fun v1 => ?_)
  refine s_rc (fun _ _ eo er => ?_)
  refine s_cI hK ho_n (cx_v (As := []) (rest := []) hK dyJ7_size rfl q1364 fcJ7.1 q972 q2187 q88 q974 eo er (ct_J7_size hK.1 v1 h) (Nat.le_trans (Nat.le_of_ble_eq_true rfl) hf) (Nat.le_trans (Nat.le_of_ble_eq_true rfl) hlo) rk_n (Nat.le_of_ble_eq_true rfl) dX6_size_4 rfl) (fun v3 h2 => ?_)
  exact s_iret hK dX6_size_7
theorem ct_X6_size {G : GC} {l : Launch} (g : GOK G l) (p0 : Option Nat) (h : AH) : CT G l yX6_size (Cond.code yX6_size cX6_size 1 (some (.int))) 2 36 [va_rf p0] (f_X6_size p0 h) h :=
  CT.of g (by decide) (by simp only [ls_a, ls_i, ls_l, ls_n]; decide) (fun K _ hK hf hlo => by simp only [la_a, la_i, la_l, la_n]; exact sm_X6_size hK hf hlo p0 h)
abbrev FR_X7_init : Nat := 4
abbrev LO_X7_init : Nat := 76
theorem dyX7_init : DY yX7_init 4 := ⟨⟨by decide, by decide⟩, by decide +kernel⟩
theorem sm_X7_init {G : GC} {K : SC} (hK : SOK G K RX7 cX7_init 5 (none) "<init>" []) (hf : FR_X7_init ≤ (kR K).frames) (hlo : LO_X7_init ≤ (kR K).locals) (p0 : Option Nat) (p1 : Int32) (p2 : Int32) (p3 : Int32) (p4 : Int32) (h : AH) : Sim G K 5 (f_X7_init p0 p1 p2 p3 p4 h) h 0 [(0, va_rf p0), (1, .int p1), (2, .int p2), (3, .int p3), (4, .int p4)] [] := by
  unfold f_X7_init
  refine s_aload_n hK dX7_init_0 rfl 0 rfl ?_
  refine s_oinit hK q927 q124 q125 dX7_init_1 (Nat.le_trans (Nat.le_of_ble_eq_true rfl) hf) rk_n (Nat.le_trans (Nat.le_of_ble_eq_true rfl) hlo) ?_
  refine s_aload_n hK dX7_init_4 rfl 0 rfl ?_
  refine s_new hK fcJ7 q928 q235 q88 fsJ7_ok dX7_init_5 (fun a1 h2 => ?_)
  refine s_dup hK dX7_init_8 (va_cat _) ?_
  refine s_nn (fun _ eo => ?_)
  refine s_cV hK ho_n (cx_i (As := []) (rest := [va_rf a1, va_rf p0]) hK dyJ7_init rfl q929 rfl q237 q88 q238 eo (ct_J7_init hK.1 a1 h2) (Nat.le_trans (Nat.le_of_ble_eq_true rfl) hf) (Nat.le_trans (Nat.le_of_ble_eq_true rfl) hlo) (rk_a (rk_a rk_n)) (Nat.le_of_ble_eq_true rfl) dX7_init_9 rfl) (fun h3 => ?_)
  refine s_pF hK fcX7 4 (Nat.le_of_ble_eq_true rfl) (Or.inl q938) (Or.inl rfl) (Or.inr ⟨rfl, rfl, rfl, q938⟩) (nr_o _) (ft_o _) dX7_init_12 (fun h4 => ?_)
  refine s_aload_n hK dX7_init_15 rfl 0 rfl ?_
  refine s_iload_n hK dX7_init_16 rfl 1 rfl ?_
  refine s_pF hK fcX7 0 (Nat.le_of_ble_eq_true rfl) (Or.inl q930) (Or.inl rfl) (Or.inr ⟨rfl, rfl, rfl, q930⟩) rfl rfl dX7_init_17 (fun h5 => ?_)
  refine s_aload_n hK dX7_init_20 rfl 0 rfl ?_
  refine s_iload_n hK dX7_init_21 rfl 2 rfl ?_
  refine s_pF hK fcX7 1 (Nat.le_of_ble_eq_true rfl) (Or.inl q932) (Or.inl rfl) (Or.inr ⟨rfl, rfl, rfl, q932⟩) rfl rfl dX7_init_22 (fun h6 => ?_)
  refine s_aload_n hK dX7_init_25 rfl 0 rfl ?_
  refine s_iload_n hK dX7_init_26 rfl 3 rfl ?_
  refine s_pF hK fcX7 2 (Nat.le_of_ble_eq_true rfl) (Or.inl q934) (Or.inl rfl) (Or.inr ⟨rfl, rfl, rfl, q934⟩) rfl rfl dX7_init_27 (fun h7 => ?_)
  refine s_aload_n hK dX7_init_30 rfl 0 rfl ?_
  refine s_iload hK dX7_init_31 4 rfl ?_
  refine s_pF hK fcX7 3 (Nat.le_of_ble_eq_true rfl) (Or.inl q936) (Or.inl rfl) (Or.inr ⟨rfl, rfl, rfl, q936⟩) rfl rfl dX7_init_33 (fun h8 => ?_)
  exact s_vret hK dX7_init_36
theorem ct_X7_init {G : GC} {l : Launch} (g : GOK G l) (p0 : Option Nat) (p1 : Int32) (p2 : Int32) (p3 : Int32) (p4 : Int32) (h : AH) : CT G l yX7_init (Cond.code yX7_init cX7_init 5 (none)) 4 76 [va_rf p0, .int p1, .int p2, .int p3, .int p4] (f_X7_init p0 p1 p2 p3 p4 h) h :=
  CT.of g (by decide) (by simp only [ls_a, ls_i, ls_l, ls_n]; decide) (fun K _ hK hf hlo => by simp only [la_a, la_i, la_l, la_n]; exact sm_X7_init hK hf hlo p0 p1 p2 p3 p4 h)
abbrev FR_X7_part : Nat := 2
abbrev LO_X7_part : Nat := 36
theorem dyX7_part : DY yX7_part 1 := ⟨⟨by decide, by decide⟩, by decide +kernel⟩
theorem sm_X7_part {G : GC} {K : SC} (hK : SOK G K RX7 cX7_part 2 (some (.int)) "part" []) (hf : FR_X7_part ≤ (kR K).frames) (hlo : LO_X7_part ≤ (kR K).locals) (p0 : Option Nat) (p1 : Int32) (h : AH) : Sim G K 2 (f_X7_part p0 p1 h) h 0 [(0, va_rf p0), (1, .int p1)] [] := by
  unfold f_X7_part
  refine s_iload_n hK dX7_part_0 rfl 1 rfl ?_
  refine s_if_ne (tgt := 11) hK dX7_part_1 (by decide) (fun c9 => ?_) (fun c9 => ?_)
  · refine s_iload_n hK dX7_part_11 rfl 1 rfl ?_
    refine s_iconst (v := 1) hK dX7_part_12 rfl ?_
    refine s_icmp_ne (tgt := 23) hK dX7_part_13 (by decide) (fun c7 => ?_) (fun c7 => ?_)
    · refine s_iload_n hK dX7_part_23 rfl 1 rfl ?_
      refine s_iconst (v := 2) hK dX7_part_24 rfl ?_
      refine s_icmp_ne (tgt := 35) hK dX7_part_25 (by decide) (fun c5 => ?_) (fun c5 => ?_)
      · refine s_aload_n hK dX7_part_35 rfl 0 rfl ?_
        refine s_gA hK fcX7 4 (Nat.le_of_ble_eq_true rfl) (Or.inl q938) (Or.inl rfl) dX7_part_36 (fun v1 => ?_)
        refine s_rc (fun _ _ eo er => ?_)
        refine s_cI hK ho_n (cx_v (As := []) (rest := []) hK dyJ7_size rfl q1426 fcJ7.1 q972 q2187 q88 q974 eo er (ct_J7_size hK.1 v1 h) (Nat.le_trans (Nat.le_of_ble_eq_true rfl) hf) (Nat.le_trans (Nat.le_of_ble_eq_true rfl) hlo) rk_n (Nat.le_of_ble_eq_true rfl) dX7_part_39 rfl) (fun v3 h2 => ?_)
        exact s_iret hK dX7_part_42
      · refine s_aload_n hK dX7_part_28 rfl 0 rfl ?_
        refine s_gI hK fcX7 2 (Nat.le_of_ble_eq_true rfl) (Or.inl q934) (Or.inl rfl) dX7_part_29 (fun v4 => ?_)
        refine s_goto (tgt := 42) hK dX7_part_32 (by decide) ?_
        exact s_iret hK dX7_part_42
    · refine s_aload_n hK dX7_part_16 rfl 0 rfl ?_
      refine s_gI hK fcX7 1 (Nat.le_of_ble_eq_true rfl) (Or.inl q932) (Or.inl rfl) dX7_part_17 (fun v6 => ?_)
      refine s_goto (tgt := 42) hK dX7_part_20 (by decide) ?_
      exact s_iret hK dX7_part_42
  · refine s_aload_n hK dX7_part_4 rfl 0 rfl ?_
    refine s_gI hK fcX7 0 (Nat.le_of_ble_eq_true rfl) (Or.inl q930) (Or.inl rfl) dX7_part_5 (fun v8 => ?_)
    refine s_goto (tgt := 42) hK dX7_part_8 (by decide) ?_
    exact s_iret hK dX7_part_42
theorem ct_X7_part {G : GC} {l : Launch} (g : GOK G l) (p0 : Option Nat) (p1 : Int32) (h : AH) : CT G l yX7_part (Cond.code yX7_part cX7_part 2 (some (.int))) 2 36 [va_rf p0, .int p1] (f_X7_part p0 p1 h) h :=
  CT.of g (by decide) (by simp only [ls_a, ls_i, ls_l, ls_n]; decide) (fun K _ hK hf hlo => by simp only [la_a, la_i, la_l, la_n]; exact sm_X7_part hK hf hlo p0 p1 h)
abbrev FR_X8_init : Nat := 1
abbrev LO_X8_init : Nat := 16
theorem dyX8_init : DY yX8_init 2 := ⟨⟨by decide, by decide⟩, by decide +kernel⟩
theorem sm_X8_init {G : GC} {K : SC} (hK : SOK G K RX8 cX8_init 3 (none) "<init>" []) (hf : FR_X8_init ≤ (kR K).frames) (hlo : LO_X8_init ≤ (kR K).locals) (p0 : Option Nat) (p1 : Int32) (p2 : Int32) (h : AH) : Sim G K 3 (f_X8_init p0 p1 p2 h) h 0 [(0, va_rf p0), (1, .int p1), (2, .int p2)] [] := by
  unfold f_X8_init
  refine s_aload_n hK dX8_init_0 rfl 0 rfl ?_
  refine s_oinit hK q1004 q124 q125 dX8_init_1 (Nat.le_trans (Nat.le_of_ble_eq_true rfl) hf) rk_n (Nat.le_trans (Nat.le_of_ble_eq_true rfl) hlo) ?_
  refine s_aload_n hK dX8_init_4 rfl 0 rfl ?_
  refine s_iload_n hK dX8_init_5 rfl 1 rfl ?_
  refine s_pF hK fcX8 0 (Nat.le_of_ble_eq_true rfl) (Or.inl q1005) (Or.inl rfl) (Or.inr ⟨rfl, rfl, rfl, q1005⟩) rfl rfl dX8_init_6 (fun h1 => ?_)
  refine s_aload_n hK dX8_init_9 rfl 0 rfl ?_
  refine s_iload_n hK dX8_init_10 rfl 2 rfl ?_
  refine s_pF hK fcX8 1 (Nat.le_of_ble_eq_true rfl) (Or.inl q1007) (Or.inl rfl) (Or.inr ⟨rfl, rfl, rfl, q1007⟩) rfl rfl dX8_init_11 (fun h2 => ?_)
  exact s_vret hK dX8_init_14
theorem ct_X8_init {G : GC} {l : Launch} (g : GOK G l) (p0 : Option Nat) (p1 : Int32) (p2 : Int32) (h : AH) : CT G l yX8_init (Cond.code yX8_init cX8_init 3 (none)) 1 16 [va_rf p0, .int p1, .int p2] (f_X8_init p0 p1 p2 h) h :=
  CT.of g (by decide) (by simp only [ls_a, ls_i, ls_l, ls_n]; decide) (fun K _ hK hf hlo => by simp only [la_a, la_i, la_l, la_n]; exact sm_X8_init hK hf hlo p0 p1 p2 h)
abbrev FR_X8_part : Nat := 1
abbrev LO_X8_part : Nat := 16
theorem dyX8_part : DY yX8_part 1 := ⟨⟨by decide, by decide⟩, by decide +kernel⟩
theorem sm_X8_part {G : GC} {K : SC} (hK : SOK G K RX8 cX8_part 2 (some (.int)) "part" []) (hf : FR_X8_part ≤ (kR K).frames) (hlo : LO_X8_part ≤ (kR K).locals) (p0 : Option Nat) (p1 : Int32) (h : AH) : Sim G K 2 (f_X8_part p0 p1 h) h 0 [(0, va_rf p0), (1, .int p1)] [] := by
  unfold f_X8_part
  refine s_iload_n hK dX8_part_0 rfl 1 rfl ?_
  refine s_if_ne (tgt := 11) hK dX8_part_1 (by decide) (fun c5 => ?_) (fun c5 => ?_)
  · refine s_iload_n hK dX8_part_11 rfl 1 rfl ?_
    refine s_iconst (v := 1) hK dX8_part_12 rfl ?_
    refine s_icmp_ne (tgt := 23) hK dX8_part_13 (by decide) (fun c3 => ?_) (fun c3 => ?_)
    · refine s_aload_n hK dX8_part_23 rfl 0 rfl ?_
      refine s_gI hK fcX8 2 (Nat.le_of_ble_eq_true rfl) (Or.inl q1008) (Or.inl rfl) dX8_part_24 (fun v1 => ?_)
      exact s_iret hK dX8_part_27
    · refine s_aload_n hK dX8_part_16 rfl 0 rfl ?_
      refine s_gI hK fcX8 1 (Nat.le_of_ble_eq_true rfl) (Or.inl q1007) (Or.inl rfl) dX8_part_17 (fun v2 => ?_)
      refine s_goto (tgt := 27) hK dX8_part_20 (by decide) ?_
      exact s_iret hK dX8_part_27
  · refine s_aload_n hK dX8_part_4 rfl 0 rfl ?_
    refine s_gI hK fcX8 0 (Nat.le_of_ble_eq_true rfl) (Or.inl q1005) (Or.inl rfl) dX8_part_5 (fun v4 => ?_)
    refine s_goto (tgt := 27) hK dX8_part_8 (by decide) ?_
    exact s_iret hK dX8_part_27
theorem ct_X8_part {G : GC} {l : Launch} (g : GOK G l) (p0 : Option Nat) (p1 : Int32) (h : AH) : CT G l yX8_part (Cond.code yX8_part cX8_part 2 (some (.int))) 1 16 [va_rf p0, .int p1] (f_X8_part p0 p1 h) h :=
  CT.of g (by decide) (by simp only [ls_a, ls_i, ls_l, ls_n]; decide) (fun K _ hK hf hlo => by simp only [la_a, la_i, la_l, la_n]; exact sm_X8_part hK hf hlo p0 p1 h)
abbrev FR_X8_end : Nat := 1
abbrev LO_X8_end : Nat := 16
theorem dyX8_end : DY yX8_end 0 := ⟨⟨by decide, by decide⟩, by decide +kernel⟩
theorem sm_X8_end {G : GC} {K : SC} (hK : SOK G K RX8 cX8_end 1 (some (.int)) "end" []) (hf : FR_X8_end ≤ (kR K).frames) (hlo : LO_X8_end ≤ (kR K).locals) (p0 : Option Nat) (h : AH) : Sim G K 1 (f_X8_end p0 h) h 0 [(0, va_rf p0)] [] := by
  unfold f_X8_end
  refine s_aload_n hK dX8_end_0 rfl 0 rfl ?_
  refine s_gI hK fcX8 0 (Nat.le_of_ble_eq_true rfl) (Or.inl q1005) (Or.inl rfl) dX8_end_1 (fun v1 => ?_)
  refine s_aload_n hK dX8_end_4 rfl 0 rfl ?_
  refine s_gI hK fcX8 1 (Nat.le_of_ble_eq_true rfl) (Or.inl q1007) (Or.inl rfl) dX8_end_5 (fun v2 => ?_)
  refine s_iadd hK dX8_end_8 ?_
  exact s_iret hK dX8_end_9
theorem ct_X8_end {G : GC} {l : Launch} (g : GOK G l) (p0 : Option Nat) (h : AH) : CT G l yX8_end (Cond.code yX8_end cX8_end 1 (some (.int))) 1 16 [va_rf p0] (f_X8_end p0 h) h :=
  CT.of g (by decide) (by simp only [ls_a, ls_i, ls_l, ls_n]; decide) (fun K _ hK hf hlo => by simp only [la_a, la_i, la_l, la_n]; exact sm_X8_end hK hf hlo p0 h)
abbrev FR_X9_init : Nat := 1
abbrev LO_X9_init : Nat := 16
theorem dyX9_init : DY yX9_init 1 := ⟨⟨by decide, by decide⟩, by decide +kernel⟩
theorem sm_X9_init {G : GC} {K : SC} (hK : SOK G K RX9 cX9_init 2 (none) "<init>" []) (hf : FR_X9_init ≤ (kR K).frames) (hlo : LO_X9_init ≤ (kR K).locals) (p0 : Option Nat) (p1 : Int32) (h : AH) : Sim G K 2 (f_X9_init p0 p1 h) h 0 [(0, va_rf p0), (1, .int p1)] [] := by
  unfold f_X9_init
  refine s_aload_n hK dX9_init_0 rfl 0 rfl ?_
  refine s_oinit hK q1073 q124 q125 dX9_init_1 (Nat.le_trans (Nat.le_of_ble_eq_true rfl) hf) rk_n (Nat.le_trans (Nat.le_of_ble_eq_true rfl) hlo) ?_
  refine s_aload_n hK dX9_init_4 rfl 0 rfl ?_
  refine s_iload_n hK dX9_init_5 rfl 1 rfl ?_
  refine s_pF hK fcX9 0 (Nat.le_of_ble_eq_true rfl) (Or.inl q1074) (Or.inl rfl) (Or.inr ⟨rfl, rfl, rfl, q1074⟩) rfl rfl dX9_init_6 (fun h1 => ?_)
  exact s_vret hK dX9_init_9
theorem ct_X9_init {G : GC} {l : Launch} (g : GOK G l) (p0 : Option Nat) (p1 : Int32) (h : AH) : CT G l yX9_init (Cond.code yX9_init cX9_init 2 (none)) 1 16 [va_rf p0, .int p1] (f_X9_init p0 p1 h) h :=
  CT.of g (by decide) (by simp only [ls_a, ls_i, ls_l, ls_n]; decide) (fun K _ hK hf hlo => by simp only [la_a, la_i, la_l, la_n]; exact sm_X9_init hK hf hlo p0 p1 h)
abbrev FR_X9_part : Nat := 1
abbrev LO_X9_part : Nat := 16
theorem dyX9_part : DY yX9_part 1 := ⟨⟨by decide, by decide⟩, by decide +kernel⟩
theorem sm_X9_part {G : GC} {K : SC} (hK : SOK G K RX9 cX9_part 2 (some (.int)) "part" []) (hf : FR_X9_part ≤ (kR K).frames) (hlo : LO_X9_part ≤ (kR K).locals) (p0 : Option Nat) (p1 : Int32) (h : AH) : Sim G K 2 (f_X9_part p0 p1 h) h 0 [(0, va_rf p0), (1, .int p1)] [] := by
  unfold f_X9_part
  refine s_iload_n hK dX9_part_0 rfl 1 rfl ?_
  refine s_if_ne (tgt := 11) hK dX9_part_1 (by decide) (fun c5 => ?_) (fun c5 => ?_)
  · refine s_iload_n hK dX9_part_11 rfl 1 rfl ?_
    refine s_iconst (v := 1) hK dX9_part_12 rfl ?_
    refine s_icmp_ne (tgt := 23) hK dX9_part_13 (by decide) (fun c3 => ?_) (fun c3 => ?_)
    · refine s_aload_n hK dX9_part_23 rfl 0 rfl ?_
      refine s_gI hK fcX9 2 (Nat.le_of_ble_eq_true rfl) (Or.inl q1077) (Or.inl rfl) dX9_part_24 (fun v1 => ?_)
      exact s_iret hK dX9_part_27
    · refine s_aload_n hK dX9_part_16 rfl 0 rfl ?_
      refine s_gI hK fcX9 1 (Nat.le_of_ble_eq_true rfl) (Or.inl q1075) (Or.inl rfl) dX9_part_17 (fun v2 => ?_)
      refine s_goto (tgt := 27) hK dX9_part_20 (by decide) ?_
      exact s_iret hK dX9_part_27
  · refine s_aload_n hK dX9_part_4 rfl 0 rfl ?_
    refine s_gI hK fcX9 0 (Nat.le_of_ble_eq_true rfl) (Or.inl q1074) (Or.inl rfl) dX9_part_5 (fun v4 => ?_)
    refine s_goto (tgt := 27) hK dX9_part_8 (by decide) ?_
    exact s_iret hK dX9_part_27
theorem ct_X9_part {G : GC} {l : Launch} (g : GOK G l) (p0 : Option Nat) (p1 : Int32) (h : AH) : CT G l yX9_part (Cond.code yX9_part cX9_part 2 (some (.int))) 1 16 [va_rf p0, .int p1] (f_X9_part p0 p1 h) h :=
  CT.of g (by decide) (by simp only [ls_a, ls_i, ls_l, ls_n]; decide) (fun K _ hK hf hlo => by simp only [la_a, la_i, la_l, la_n]; exact sm_X9_part hK hf hlo p0 p1 h)
abbrev FR_X1_partOf : Nat := 7
abbrev LO_X1_partOf : Nat := 101
theorem dyX1_partOf : DY yX1_partOf 4 := ⟨⟨by decide, by decide⟩, by decide +kernel⟩
theorem sm_X1_partOf {G : GC} {K : SC} (hK : SOK G K RX1 cX1_partOf 4 (some (.int)) "partOf" []) (hf : FR_X1_partOf ≤ (kR K).frames) (hlo : LO_X1_partOf ≤ (kR K).locals) (p0 : Option Nat) (p1 : Int32) (p2 : Int32) (p3 : Int32) (h : AH) : Sim G K 4 (f_X1_partOf p0 p1 p2 p3 h) h 0 [(0, va_rf p0), (1, .int p1), (2, .int p2), (3, .int p3)] [] := by
  unfold f_X1_partOf
  refine s_iload_n hK dX1_partOf_0 rfl 1 rfl ?_
  refine s_iconst (v := 0) hK dX1_partOf_1 rfl ?_
  refine s_aload_n hK dX1_partOf_2 rfl 0 rfl ?_
  refine s_rc (fun _ _ eo er => ?_)
  refine s_cI hK ho_n (cx_f (As := []) (rest := [.int 0, .int p1]) hK (x := ⟨"java/util/List", "size", "()I"⟩) dyx_java_util_Listsize rfl q966 fcJ7.1 q968 q967 q970 q972 q973 q971 q969 q88 q974 eo er (ct_J7_size hK.1 p0 h) (Nat.le_trans (Nat.le_of_ble_eq_true rfl) hf) (Nat.le_trans (Nat.le_of_ble_eq_true rfl) hlo) (rk_i (rk_i rk_n)) (Nat.le_of_ble_eq_true rfl) dX1_partOf_3 rfl) (fun v2 h1 => ?_)
  refine s_iconst (v := 1) hK dX1_partOf_8 rfl ?_
  refine s_isub hK dX1_partOf_9 ?_
  refine s_cI hK ho_n (cx_s (As := [.int p1, .int 0, .int (v2 - 1)]) (rest := []) hK dyX1_isBetween rfl q1144 q775 q78 q776 (ct_X1_isBetween hK.1 p1 0 (v2 - 1) h1) (Nat.le_trans (Nat.le_of_ble_eq_true rfl) hf) (Nat.le_trans (Nat.le_of_ble_eq_true rfl) hlo) rk_n (Nat.le_of_ble_eq_true rfl) dX1_partOf_10 rfl) (fun v4 h3 => ?_)
  refine s_cV hK ho_n (cx_s (As := [.int v4]) (rest := []) hK dyX1_requireIndex rfl q1237 q1238 q78 q1239 (ct_X1_requireIndex hK.1 v4 h3) (Nat.le_trans (Nat.le_of_ble_eq_true rfl) hf) (Nat.le_trans (Nat.le_of_ble_eq_true rfl) hlo) rk_n (Nat.le_of_ble_eq_true rfl) dX1_partOf_13 rfl) (fun h5 => ?_)
  refine s_iload_n hK dX1_partOf_16 rfl 2 rfl ?_
  refine s_iconst (v := 0) hK dX1_partOf_17 rfl ?_
  refine s_iload_n hK dX1_partOf_18 rfl 3 rfl ?_
  refine s_cI hK ho_n (cx_s (As := [.int p2, .int 0, .int p3]) (rest := []) hK dyX1_isBetween rfl q1144 q775 q78 q776 (ct_X1_isBetween hK.1 p2 0 p3 h5) (Nat.le_trans (Nat.le_of_ble_eq_true rfl) hf) (Nat.le_trans (Nat.le_of_ble_eq_true rfl) hlo) rk_n (Nat.le_of_ble_eq_true rfl) dX1_partOf_19 rfl) (fun v7 h6 => ?_)
  refine s_cV hK ho_n (cx_s (As := [.int v7]) (rest := []) hK dyX1_requireArgument rfl q1145 q1146 q78 q1147 (ct_X1_requireArgument hK.1 v7 h6) (Nat.le_trans (Nat.le_of_ble_eq_true rfl) hf) (Nat.le_trans (Nat.le_of_ble_eq_true rfl) hlo) rk_n (Nat.le_of_ble_eq_true rfl) dX1_partOf_22 rfl) (fun h8 => ?_)
  refine s_aload_n hK dX1_partOf_25 rfl 0 rfl ?_
  refine s_iload_n hK dX1_partOf_26 rfl 1 rfl ?_
  refine s_rc (fun _ _ eo er => ?_)
  refine s_cA hK ho_n (cx_f (As := [.int p1]) (rest := []) hK (x := ⟨"java/util/List", "get", "(I)Ljava/lang/Object;"⟩) dyx_java_util_Listget rfl q976 fcJ7.1 q978 q977 q979 q981 q982 q980 q969 q88 q983 eo er (ct_J7_get hK.1 p0 p1 h8) (Nat.le_trans (Nat.le_of_ble_eq_true rfl) hf) (Nat.le_trans (Nat.le_of_ble_eq_true rfl) hlo) rk_n (Nat.le_of_ble_eq_true rfl) dX1_partOf_27 rfl) (fun v10 h9 => ?_)
  refine s_ck hK q1403 ckParts dX1_partOf_32 ?_
  refine s_iload_n hK dX1_partOf_35 rfl 2 rfl ?_
  refine s_oo ?_ ?_
  · refine s_oo ?_ ?_
    · refine s_oo ?_ ?_
      · exact s_none
      refine s_rc (fun _ _ eo er => ?_)
      refine s_cI hK ho_n (cx_f (As := [.int p2]) (rest := []) hK (x := ⟨"CodeRecovery$Parts", "part", "(I)I"⟩) dyx_CodeRecovery_Partspart rfl q1405 fcX9.1 q1407 q1406 q1409 q1411 q1412 q1410 q1408 q115 q1413 eo er (ct_X9_part hK.1 v10 p2 h9) (Nat.le_trans (Nat.le_of_ble_eq_true rfl) hf) (Nat.le_trans (Nat.le_of_ble_eq_true rfl) hlo) rk_n (Nat.le_of_ble_eq_true rfl) dX1_partOf_36 rfl) (fun v12 h11 => ?_)
      exact s_iret hK dX1_partOf_41
    refine s_rc (fun _ _ eo er => ?_)
    refine s_cI hK ho_n (cx_f (As := [.int p2]) (rest := []) hK (x := ⟨"CodeRecovery$Parts", "part", "(I)I"⟩) dyx_CodeRecovery_Partspart rfl q1405 fcX8.1 q1407 q1406 q1415 q1417 q1418 q1416 q1414 q113 q1419 eo er (ct_X8_part hK.1 v10 p2 h9) (Nat.le_trans (Nat.le_of_ble_eq_true rfl) hf) (Nat.le_trans (Nat.le_of_ble_eq_true rfl) hlo) rk_n (Nat.le_of_ble_eq_true rfl) dX1_partOf_36 rfl) (fun v14 h13 => ?_)
    exact s_iret hK dX1_partOf_41
  refine s_rc (fun _ _ eo er => ?_)
  refine s_cI hK ho_n (cx_f (As := [.int p2]) (rest := []) hK (x := ⟨"CodeRecovery$Parts", "part", "(I)I"⟩) dyx_CodeRecovery_Partspart rfl q1405 fcX7.1 q1407 q1406 q1421 q1423 q1424 q1422 q1420 q112 q1425 eo er (ct_X7_part hK.1 v10 p2 h9) (Nat.le_trans (Nat.le_of_ble_eq_true rfl) hf) (Nat.le_trans (Nat.le_of_ble_eq_true rfl) hlo) rk_n (Nat.le_of_ble_eq_true rfl) dX1_partOf_36 rfl) (fun v16 h15 => ?_)
  exact s_iret hK dX1_partOf_41
theorem ct_X1_partOf {G : GC} {l : Launch} (g : GOK G l) (p0 : Option Nat) (p1 : Int32) (p2 : Int32) (p3 : Int32) (h : AH) : CT G l yX1_partOf (Cond.code yX1_partOf cX1_partOf 4 (some (.int))) 7 101 [va_rf p0, .int p1, .int p2, .int p3] (f_X1_partOf p0 p1 p2 p3 h) h :=
  CT.of g (by decide) (by simp only [ls_a, ls_i, ls_l, ls_n]; decide) (fun K _ hK hf hlo => by simp only [la_a, la_i, la_l, la_n]; exact sm_X1_partOf hK hf hlo p0 p1 p2 p3 h)
abbrev FR_X1_addAll : Nat := 5
abbrev LO_X1_addAll : Nat := 214
theorem dyX1_addAll : DY yX1_addAll 2 := ⟨⟨by decide, by decide⟩, by decide +kernel⟩
theorem sm_X1_addAll_L2 {G : GC} {K : SC} (hK : SOK G K RX1 cX1_addAll 3 (none) "addAll" []) (hf : FR_X1_addAll ≤ (kR K).frames) (hlo : LO_X1_addAll ≤ (kR K).locals) {k29 : AH → RS} (hk29 : ∀  (h : AH), Sim G K 3 (k29  h) h 29 [] []) : ∀ (n : Nat) (x1 : Option Nat) (x2 : Option Nat) (x3 : Int32) (h4 : AH), Sim G K 3 (f_X1_addAll_L2 k29 n x1 x2 x3 h4) h4 2 [(0, va_rf x1), (1, va_rf x2), (2, .int x3)] [] := by
  intro n
  induction n with
  | zero => intro x1 x2 x3 h4; exact s_none
  | succ n ih =>
    intro x1 x2 x3 h4
    rw [f_X1_addAll_L2]
    refine s_iload_n hK dX1_addAll_2 rfl 2 rfl ?_
    refine s_aload_n hK dX1_addAll_3 rfl 0 rfl ?_
    refine s_rc (fun _ _ eo er => ?_)
    refine s_cI hK ho_n (cx_f (As := []) (rest := [.int x3]) hK (x := ⟨"java/util/List", "size", "()I"⟩) dyx_java_util_Listsize rfl q966 fcJ7.1 q968 q967 q970 q972 q973 q971 q969 q88 q974 eo er (ct_J7_size hK.1 x1 h4) (Nat.le_trans (Nat.le_of_ble_eq_true rfl) hf) (Nat.le_trans (Nat.le_of_ble_eq_true rfl) hlo) (rk_i rk_n) (Nat.le_of_ble_eq_true rfl) dX1_addAll_4 rfl) (fun v6 h5 => ?_)
    refine s_icmp_ge (tgt := 29) hK dX1_addAll_9 (by decide) (fun c10 => ?_) (fun c10 => ?_)
    · refine s_sub [] rfl ?_
      exact hk29  h5
    · refine s_aload_n hK dX1_addAll_12 rfl 1 rfl ?_
      refine s_aload_n hK dX1_addAll_13 rfl 0 rfl ?_
      refine s_iload_n hK dX1_addAll_14 rfl 2 rfl ?_
      refine s_rc (fun _ _ eo er => ?_)
      refine s_cA hK ho_n (cx_f (As := [.int x3]) (rest := [va_rf x2]) hK (x := ⟨"java/util/List", "get", "(I)Ljava/lang/Object;"⟩) dyx_java_util_Listget rfl q976 fcJ7.1 q978 q977 q979 q981 q982 q980 q969 q88 q983 eo er (ct_J7_get hK.1 x1 x3 h5) (Nat.le_trans (Nat.le_of_ble_eq_true rfl) hf) (Nat.le_trans (Nat.le_of_ble_eq_true rfl) hlo) (rk_a rk_n) (Nat.le_of_ble_eq_true rfl) dX1_addAll_15 rfl) (fun v8 h7 => ?_)
      refine s_rc (fun _ _ eo er => ?_)
      refine s_cV hK ho_n (cx_v (As := [va_rf v8]) (rest := []) hK dyJ19_addLast rfl q994 fcJ19.1 q309 q310 q104 q311 eo er (ct_J19_addLast hK.1 x2 v8 h7) (Nat.le_trans (Nat.le_of_ble_eq_true rfl) hf) (Nat.le_trans (Nat.le_of_ble_eq_true rfl) hlo) rk_n (Nat.le_of_ble_eq_true rfl) dX1_addAll_20 rfl) (fun h9 => ?_)
      refine s_iinc (j := 2) (v := 1) (lv' := [(2, .int (x3 + 1)), (0, va_rf x1), (1, va_rf x2)]) hK dX1_addAll_23 rfl rfl (Nat.le_of_ble_eq_true rfl) (flA (pre := [(0, va_rf x1)]) (suf := [(2, .int x3)]) rfl rfl) ?_
      refine s_goto (tgt := 2) hK dX1_addAll_26 (by decide) ?_
      refine s_sub [1, 2, 0] rfl ?_
      exact ih x1 x2 (x3 + 1) h9
theorem sm_X1_addAll {G : GC} {K : SC} (hK : SOK G K RX1 cX1_addAll 3 (none) "addAll" []) (hf : FR_X1_addAll ≤ (kR K).frames) (hlo : LO_X1_addAll ≤ (kR K).locals) (p0 : Option Nat) (p1 : Option Nat) (h : AH) : Sim G K 3 (f_X1_addAll p0 p1 h) h 0 [(0, va_rf p0), (1, va_rf p1)] [] := by
  unfold f_X1_addAll
  refine s_iconst (v := 0) hK dX1_addAll_0 rfl ?_
  refine s_istore_n (lv' := [(2, .int 0), (0, va_rf p0), (1, va_rf p1)]) hK dX1_addAll_1 rfl (Nat.le_of_ble_eq_true rfl) (flA (pre := [(0, va_rf p0)]) (suf := []) rfl rfl) ?_
  refine s_sub [1, 2, 0] rfl ?_
  refine sm_X1_addAll_L2 hK hf hlo (fun h11 => ?_) FUEL p0 p1 0 h
  · exact s_vret hK dX1_addAll_29
theorem ct_X1_addAll {G : GC} {l : Launch} (g : GOK G l) (p0 : Option Nat) (p1 : Option Nat) (h : AH) : CT G l yX1_addAll (Cond.code yX1_addAll cX1_addAll 3 (none)) 5 214 [va_rf p0, va_rf p1] (f_X1_addAll p0 p1 h) h :=
  CT.of g (by decide) (by simp only [ls_a, ls_i, ls_l, ls_n]; decide) (fun K _ hK hf hlo => by simp only [la_a, la_i, la_l, la_n]; exact sm_X1_addAll hK hf hlo p0 p1 h)
abbrev FR_X10_byteOr : Nat := 3
abbrev LO_X10_byteOr : Nat := 59
theorem dyX10_byteOr : DY yX10_byteOr 2 := ⟨⟨by decide, by decide⟩, by decide +kernel⟩
theorem sm_X10_byteOr {G : GC} {K : SC} (hK : SOK G K RX10 cX10_byteOr 3 (some (.int)) "byteOr" []) (hf : FR_X10_byteOr ≤ (kR K).frames) (hlo : LO_X10_byteOr ≤ (kR K).locals) (p0 : Option Nat) (p1 : Int32) (p2 : Int32) (h : AH) : Sim G K 3 (f_X10_byteOr p0 p1 p2 h) h 0 [(0, va_rf p0), (1, .int p1), (2, .int p2)] [] := by
  unfold f_X10_byteOr
  refine s_aload_n hK dX10_byteOr_0 rfl 0 rfl ?_
  refine s_gA hK fcX10 0 (Nat.le_of_ble_eq_true rfl) (Or.inl q1580) (Or.inl rfl) dX10_byteOr_1 (fun v1 => ?_)
  refine s_iload_n hK dX10_byteOr_4 rfl 1 rfl ?_
  refine s_rc (fun _ _ eo er => ?_)
  refine s_cI hK ho_n (cx_v (As := [.int p1]) (rest := []) hK dyX2_contains rfl q1574 fcX2.1 q771 q772 q79 q773 eo er (ct_X2_contains hK.1 v1 p1 h) (Nat.le_trans (Nat.le_of_ble_eq_true rfl) hf) (Nat.le_trans (Nat.le_of_ble_eq_true rfl) hlo) rk_n (Nat.le_of_ble_eq_true rfl) dX10_byteOr_5 rfl) (fun v3 h2 => ?_)
  refine s_if_eq (tgt := 23) hK dX10_byteOr_8 (by decide) (fun c7 => ?_) (fun c7 => ?_)
  · refine s_iload_n hK dX10_byteOr_23 rfl 2 rfl ?_
    exact s_iret hK dX10_byteOr_24
  · refine s_aload_n hK dX10_byteOr_11 rfl 0 rfl ?_
    refine s_gA hK fcX10 0 (Nat.le_of_ble_eq_true rfl) (Or.inl q1580) (Or.inl rfl) dX10_byteOr_12 (fun v4 => ?_)
    refine s_gA hK fcX2 0 (Nat.le_of_ble_eq_true rfl) (Or.inr ⟨_, q133⟩) (Or.inl rfl) dX10_byteOr_15 (fun v5 => ?_)
    refine s_iload_n hK dX10_byteOr_18 rfl 1 rfl ?_
    refine s_iald hK dX10_byteOr_19 (fun v6 => ?_)
    refine s_goto (tgt := 24) hK dX10_byteOr_20 (by decide) ?_
    exact s_iret hK dX10_byteOr_24
theorem ct_X10_byteOr {G : GC} {l : Launch} (g : GOK G l) (p0 : Option Nat) (p1 : Int32) (p2 : Int32) (h : AH) : CT G l yX10_byteOr (Cond.code yX10_byteOr cX10_byteOr 3 (some (.int))) 3 59 [va_rf p0, .int p1, .int p2] (f_X10_byteOr p0 p1 p2 h) h :=
  CT.of g (by decide) (by simp only [ls_a, ls_i, ls_l, ls_n]; decide) (fun K _ hK hf hlo => by simp only [la_a, la_i, la_l, la_n]; exact sm_X10_byteOr hK hf hlo p0 p1 p2 h)
abbrev FR_X10_compute : Nat := 4
abbrev LO_X10_compute : Nat := 81
theorem dyX10_compute : DY yX10_compute 1 := ⟨⟨by decide, by decide⟩, by decide +kernel⟩
theorem sm_X10_compute_J214 {G : GC} {K : SC} (hK : SOK G K RX10 cX10_compute 4 (some (.boolean)) "compute" []) (hf : FR_X10_compute ≤ (kR K).frames) (hlo : LO_X10_compute ≤ (kR K).locals) (x29 : Int32) (y30 : Int32) (y31 : Int32) (y32 : Option Nat) (h33 : AH) : Sim G K 4 (f_X10_compute_J214 x29 y30 y31 y32 h33) h33 214 [(3, .int x29)] [.int y30, .int y31, va_rf y32] := by
  unfold f_X10_compute_J214
  refine s_iast hK dX10_compute_214 (fun h34 => ?_)
  refine s_iload_n hK dX10_compute_215 rfl 0 rfl ?_
  refine s_if_lt (tgt := 223) hK dX10_compute_216 (by decide) (fun c35 => ?_) (fun c35 => ?_)
  · refine s_iconst (v := 0) hK dX10_compute_223 rfl ?_
    exact s_zret hK dX10_compute_224
  · refine s_iconst (v := 1) hK dX10_compute_219 rfl ?_
    refine s_goto (tgt := 224) hK dX10_compute_220 (by decide) ?_
    exact s_zret hK dX10_compute_224
theorem sm_X10_compute_J195 {G : GC} {K : SC} (hK : SOK G K RX10 cX10_compute 4 (some (.boolean)) "compute" []) (hf : FR_X10_compute ≤ (kR K).frames) (hlo : LO_X10_compute ≤ (kR K).locals) (x24 : Option Nat) (x25 : Int32) (x26 : Int32)  (h27 : AH) : Sim G K 4 (f_X10_compute_J195 x24 x25 x26 h27) h27 195 [(0, va_rf x24), (2, .int x25), (3, .int x26)] [] := by
  unfold f_X10_compute_J195
  refine s_aload_n hK dX10_compute_195 rfl 0 rfl ?_
  refine s_gA hK fcX10 1 (Nat.le_of_ble_eq_true rfl) (Or.inl q1581) (Or.inl rfl) dX10_compute_196 (fun v28 => ?_)
  refine s_iload_n hK dX10_compute_199 rfl 1 rfl ?_
  refine s_iload_n hK dX10_compute_200 rfl 2 rfl ?_
  refine s_if_ge (tgt := 213) hK dX10_compute_201 (by decide) (fun c38 => ?_) (fun c38 => ?_)
  · refine s_iload_n hK dX10_compute_213 rfl 2 rfl ?_
    refine s_sub [2] rfl ?_
    exact sm_X10_compute_J214 hK hf hlo x26 x26 x25 v28 h27
  · refine s_aload_n hK dX10_compute_204 rfl 0 rfl ?_
    refine s_gA hK fcX10 1 (Nat.le_of_ble_eq_true rfl) (Or.inl q1581) (Or.inl rfl) dX10_compute_205 (fun v36 => ?_)
    refine s_iload_n hK dX10_compute_208 rfl 1 rfl ?_
    refine s_iald hK dX10_compute_209 (fun v37 => ?_)
    refine s_goto (tgt := 214) hK dX10_compute_210 (by decide) ?_
    refine s_sub [2] rfl ?_
    exact sm_X10_compute_J214 hK hf hlo x26 v37 x25 v28 h27
theorem sm_X10_compute_J141 {G : GC} {K : SC} (hK : SOK G K RX10 cX10_compute 4 (some (.boolean)) "compute" []) (hf : FR_X10_compute ≤ (kR K).frames) (hlo : LO_X10_compute ≤ (kR K).locals) (x47 : Option Nat) (x48 : Int32) (x49 : Int32) (y50 : Int32) (y51 : Option Nat) (h52 : AH) : Sim G K 4 (f_X10_compute_J141 x47 x48 x49 y50 y51 h52) h52 141 [(0, va_rf x47), (2, .int x48), (3, .int x49)] [.int y50, va_rf y51] := by
  unfold f_X10_compute_J141
  refine s_pZ hK fcX10 4 (Nat.le_of_ble_eq_true rfl) (Or.inl q1586) (Or.inl rfl) (Or.inl rfl) rfl dX10_compute_141 (fun h53 => ?_)
  refine s_goto (tgt := 195) hK dX10_compute_144 (by decide) ?_
  exact sm_X10_compute_J195 hK hf hlo x47 x48 x49 h53
theorem sm_X10_compute {G : GC} {K : SC} (hK : SOK G K RX10 cX10_compute 4 (some (.boolean)) "compute" []) (hf : FR_X10_compute ≤ (kR K).frames) (hlo : LO_X10_compute ≤ (kR K).locals) (p0 : Option Nat) (p1 : Int32) (h : AH) : Sim G K 4 (f_X10_compute p0 p1 h) h 0 [(0, va_rf p0), (1, .int p1)] [] := by
  unfold f_X10_compute
  refine s_aload_n hK dX10_compute_0 rfl 0 rfl ?_
  refine s_gA hK fcX10 0 (Nat.le_of_ble_eq_true rfl) (Or.inl q1580) (Or.inl rfl) dX10_compute_1 (fun v1 => ?_)
  refine s_iload_n hK dX10_compute_4 rfl 1 rfl ?_
  refine s_rc (fun _ _ eo er => ?_)
  refine s_cI hK ho_n (cx_v (As := [.int p1]) (rest := []) hK dyX2_first rfl q1569 fcX2.1 q904 q905 q79 q906 eo er (ct_X2_first hK.1 v1 p1 h) (Nat.le_trans (Nat.le_of_ble_eq_true rfl) hf) (Nat.le_trans (Nat.le_of_ble_eq_true rfl) hlo) rk_n (Nat.le_of_ble_eq_true rfl) dX10_compute_5 rfl) (fun v3 h2 => ?_)
  refine s_istore_n (lv' := [(2, .int v3), (0, va_rf p0), (1, .int p1)]) hK dX10_compute_8 rfl (Nat.le_of_ble_eq_true rfl) rfl ?_
  refine s_aload_n hK dX10_compute_9 rfl 1 rfl ?_
  refine s_gA hK fcX10 1 (Nat.le_of_ble_eq_true rfl) (Or.inl q1581) (Or.inl rfl) dX10_compute_10 (fun v4 => ?_)
  refine s_iload_n hK dX10_compute_13 rfl 0 rfl ?_
  refine s_iald hK dX10_compute_14 (fun v5 => ?_)
  refine s_istore_n (lv' := [(3, .int v5), (2, .int v3), (0, va_rf p0), (1, .int p1)]) hK dX10_compute_15 rfl (Nat.le_of_ble_eq_true rfl) rfl ?_
  refine s_aload_n hK dX10_compute_16 rfl 2 rfl ?_
  refine s_gA hK fcX10 0 (Nat.le_of_ble_eq_true rfl) (Or.inl q1580) (Or.inl rfl) dX10_compute_17 (fun v6 => ?_)
  refine s_iload_n hK dX10_compute_20 rfl 3 rfl ?_
  refine s_rc (fun _ _ eo er => ?_)
  refine s_cI hK ho_n (cx_v (As := [.int p1]) (rest := []) hK dyX2_kind rfl q1539 fcX2.1 q778 q779 q79 q780 eo er (ct_X2_kind hK.1 v6 p1 h2) (Nat.le_trans (Nat.le_of_ble_eq_true rfl) hf) (Nat.le_trans (Nat.le_of_ble_eq_true rfl) hlo) rk_n (Nat.le_of_ble_eq_true rfl) dX10_compute_21 rfl) (fun v8 h7 => ?_)
  refine s_ite (fun e9 => ?_) (fun e9 => ?_)
  · refine s_tabIn (tgt := 88) hK dX10_compute_24 1 e9 (by decide) (by decide) rfl (by decide) ?_
    refine s_aload_n hK dX10_compute_88 rfl 2 rfl ?_
    refine s_gA hK fcX10 0 (Nat.le_of_ble_eq_true rfl) (Or.inl q1580) (Or.inl rfl) dX10_compute_89 (fun v21 => ?_)
    refine s_iload_n hK dX10_compute_92 rfl 3 rfl ?_
    refine s_rc (fun _ _ eo er => ?_)
    refine s_cI hK ho_n (cx_v (As := [.int p1]) (rest := []) hK dyX2_operand rfl q1568 fcX2.1 q798 q799 q79 q800 eo er (ct_X2_operand hK.1 v21 p1 h7) (Nat.le_trans (Nat.le_of_ble_eq_true rfl) hf) (Nat.le_trans (Nat.le_of_ble_eq_true rfl) hlo) rk_n (Nat.le_of_ble_eq_true rfl) dX10_compute_93 rfl) (fun v23 h22 => ?_)
    refine s_istore_n (lv' := [(3, .int v23), (2, .int v3), (0, va_rf p0), (1, .int p1)]) hK dX10_compute_96 rfl (Nat.le_of_ble_eq_true rfl) rfl ?_
    refine s_goto (tgt := 195) hK dX10_compute_97 (by decide) ?_
    refine s_sub [2, 1, 0] rfl ?_
    exact sm_X10_compute_J195 hK hf hlo p0 v3 v23 h22
  refine s_ite (fun e10 => ?_) (fun e10 => ?_)
  · refine s_tabIn (tgt := 100) hK dX10_compute_24 2 e10 (by decide) (by decide) rfl (by decide) ?_
    refine s_iload_n hK dX10_compute_100 rfl 0 rfl ?_
    refine s_aload_n hK dX10_compute_101 rfl 2 rfl ?_
    refine s_gA hK fcX10 1 (Nat.le_of_ble_eq_true rfl) (Or.inl q1581) (Or.inl rfl) dX10_compute_102 (fun v39 => ?_)
    refine s_aload_n hK dX10_compute_105 rfl 2 rfl ?_
    refine s_gA hK fcX10 0 (Nat.le_of_ble_eq_true rfl) (Or.inl q1580) (Or.inl rfl) dX10_compute_106 (fun v40 => ?_)
    refine s_iload_n hK dX10_compute_109 rfl 3 rfl ?_
    refine s_rc (fun _ _ eo er => ?_)
    refine s_cI hK ho_n (cx_v (As := [.int p1]) (rest := [va_rf v39, .int v5]) hK dyX2_second rfl q1579 fcX2.1 q1320 q1321 q79 q1322 eo er (ct_X2_second hK.1 v40 p1 h7) (Nat.le_trans (Nat.le_of_ble_eq_true rfl) hf) (Nat.le_trans (Nat.le_of_ble_eq_true rfl) hlo) (rk_a (rk_i rk_n)) (Nat.le_of_ble_eq_true rfl) dX10_compute_110 rfl) (fun v42 h41 => ?_)
    refine s_iald hK dX10_compute_113 (fun v43 => ?_)
    refine s_iadd hK dX10_compute_114 ?_
    refine s_sipush (v := 256) hK dX10_compute_115 rfl ?_
    refine s_irem hK dX10_compute_118 (by decide) ?_
    refine s_istore_n (lv' := [(3, .int ((v5 + v43) - (v5 + v43) / 256 * 256)), (2, .int v3), (0, va_rf p0), (1, .int p1)]) hK dX10_compute_119 rfl (Nat.le_of_ble_eq_true rfl) rfl ?_
    refine s_goto (tgt := 195) hK dX10_compute_120 (by decide) ?_
    refine s_sub [2, 1, 0] rfl ?_
    exact sm_X10_compute_J195 hK hf hlo p0 v3 ((v5 + v43) - (v5 + v43) / 256 * 256) h41
  refine s_ite (fun e11 => ?_) (fun e11 => ?_)
  · refine s_tabIn (tgt := 123) hK dX10_compute_24 3 e11 (by decide) (by decide) rfl (by decide) ?_
    refine s_aload_n hK dX10_compute_123 rfl 2 rfl ?_
    refine s_iload_n hK dX10_compute_124 rfl 0 rfl ?_
    refine s_aload_n hK dX10_compute_125 rfl 2 rfl ?_
    refine s_gA hK fcX10 0 (Nat.le_of_ble_eq_true rfl) (Or.inl q1580) (Or.inl rfl) dX10_compute_126 (fun v44 => ?_)
    refine s_iload_n hK dX10_compute_129 rfl 3 rfl ?_
    refine s_rc (fun _ _ eo er => ?_)
    refine s_cI hK ho_n (cx_v (As := [.int p1]) (rest := [.int v5, va_rf p0]) hK dyX2_operand rfl q1568 fcX2.1 q798 q799 q79 q800 eo er (ct_X2_operand hK.1 v44 p1 h7) (Nat.le_trans (Nat.le_of_ble_eq_true rfl) hf) (Nat.le_trans (Nat.le_of_ble_eq_true rfl) hlo) (rk_i (rk_a rk_n)) (Nat.le_of_ble_eq_true rfl) dX10_compute_130 rfl) (fun v46 h45 => ?_)
    refine s_icmp_ge (tgt := 140) hK dX10_compute_133 (by decide) (fun c54 => ?_) (fun c54 => ?_)
    · refine s_iconst (v := 0) hK dX10_compute_140 rfl ?_
      refine s_sub [2, 1, 0] rfl ?_
      exact sm_X10_compute_J141 hK hf hlo p0 v3 v5 0 p0 h45
    · refine s_iconst (v := 1) hK dX10_compute_136 rfl ?_
      refine s_goto (tgt := 141) hK dX10_compute_137 (by decide) ?_
      refine s_sub [2, 1, 0] rfl ?_
      exact sm_X10_compute_J141 hK hf hlo p0 v3 v5 1 p0 h45
  refine s_ite (fun e12 => ?_) (fun e12 => ?_)
  · refine s_tabIn (tgt := 195) hK dX10_compute_24 4 e12 (by decide) (by decide) rfl (by decide) ?_
    refine s_sub [2, 1, 0] rfl ?_
    exact sm_X10_compute_J195 hK hf hlo p0 v3 v5 h7
  refine s_ite (fun e13 => ?_) (fun e13 => ?_)
  · refine s_tabIn (tgt := 195) hK dX10_compute_24 5 e13 (by decide) (by decide) rfl (by decide) ?_
    refine s_sub [2, 1, 0] rfl ?_
    exact sm_X10_compute_J195 hK hf hlo p0 v3 v5 h7
  refine s_ite (fun e14 => ?_) (fun e14 => ?_)
  · refine s_tabIn (tgt := 195) hK dX10_compute_24 6 e14 (by decide) (by decide) rfl (by decide) ?_
    refine s_sub [2, 1, 0] rfl ?_
    exact sm_X10_compute_J195 hK hf hlo p0 v3 v5 h7
  refine s_ite (fun e15 => ?_) (fun e15 => ?_)
  · refine s_tabIn (tgt := 195) hK dX10_compute_24 7 e15 (by decide) (by decide) rfl (by decide) ?_
    refine s_sub [2, 1, 0] rfl ?_
    exact sm_X10_compute_J195 hK hf hlo p0 v3 v5 h7
  refine s_ite (fun e16 => ?_) (fun e16 => ?_)
  · refine s_tabIn (tgt := 195) hK dX10_compute_24 8 e16 (by decide) (by decide) rfl (by decide) ?_
    refine s_sub [2, 1, 0] rfl ?_
    exact sm_X10_compute_J195 hK hf hlo p0 v3 v5 h7
  refine s_ite (fun e17 => ?_) (fun e17 => ?_)
  · refine s_tabIn (tgt := 195) hK dX10_compute_24 9 e17 (by decide) (by decide) rfl (by decide) ?_
    refine s_sub [2, 1, 0] rfl ?_
    exact sm_X10_compute_J195 hK hf hlo p0 v3 v5 h7
  refine s_ite (fun e18 => ?_) (fun e18 => ?_)
  · refine s_tabIn (tgt := 147) hK dX10_compute_24 10 e18 (by decide) (by decide) rfl (by decide) ?_
    refine s_aload_n hK dX10_compute_147 rfl 2 rfl ?_
    refine s_aload_n hK dX10_compute_148 rfl 2 rfl ?_
    refine s_gA hK fcX10 0 (Nat.le_of_ble_eq_true rfl) (Or.inl q1580) (Or.inl rfl) dX10_compute_149 (fun v55 => ?_)
    refine s_iload_n hK dX10_compute_152 rfl 3 rfl ?_
    refine s_rc (fun _ _ eo er => ?_)
    refine s_cI hK ho_n (cx_v (As := [.int p1]) (rest := [va_rf p0]) hK dyX2_operand rfl q1568 fcX2.1 q798 q799 q79 q800 eo er (ct_X2_operand hK.1 v55 p1 h7) (Nat.le_trans (Nat.le_of_ble_eq_true rfl) hf) (Nat.le_trans (Nat.le_of_ble_eq_true rfl) hlo) (rk_a rk_n) (Nat.le_of_ble_eq_true rfl) dX10_compute_153 rfl) (fun v57 h56 => ?_)
    refine s_iconst (v := (-1)) hK dX10_compute_156 rfl ?_
    refine s_rc (fun _ _ eo er => ?_)
    refine s_cI hK ho_n (cx_v (As := [.int v57, .int (-1)]) (rest := []) hK dyX10_byteOr rfl q1570 fcX10.1 q1572 qs31 q116 q1573 eo er (ct_X10_byteOr hK.1 p0 v57 (-1) h56) (Nat.le_trans (Nat.le_of_ble_eq_true rfl) hf) (Nat.le_trans (Nat.le_of_ble_eq_true rfl) hlo) rk_n (Nat.le_of_ble_eq_true rfl) dX10_compute_157 rfl) (fun v59 h58 => ?_)
    refine s_istore_n (lv' := [(3, .int v59), (2, .int v3), (0, va_rf p0), (1, .int p1)]) hK dX10_compute_160 rfl (Nat.le_of_ble_eq_true rfl) rfl ?_
    refine s_goto (tgt := 195) hK dX10_compute_161 (by decide) ?_
    refine s_sub [2, 1, 0] rfl ?_
    exact sm_X10_compute_J195 hK hf hlo p0 v3 v59 h58
  refine s_ite (fun e19 => ?_) (fun e19 => ?_)
  · refine s_tabIn (tgt := 164) hK dX10_compute_24 11 e19 (by decide) (by decide) rfl (by decide) ?_
    refine s_aload_n hK dX10_compute_164 rfl 2 rfl ?_
    refine s_gA hK fcX10 1 (Nat.le_of_ble_eq_true rfl) (Or.inl q1581) (Or.inl rfl) dX10_compute_165 (fun v60 => ?_)
    refine s_aload_n hK dX10_compute_168 rfl 2 rfl ?_
    refine s_gA hK fcX10 0 (Nat.le_of_ble_eq_true rfl) (Or.inl q1580) (Or.inl rfl) dX10_compute_169 (fun v61 => ?_)
    refine s_iload_n hK dX10_compute_172 rfl 3 rfl ?_
    refine s_rc (fun _ _ eo er => ?_)
    refine s_cI hK ho_n (cx_v (As := [.int p1]) (rest := [va_rf v60]) hK dyX2_second rfl q1579 fcX2.1 q1320 q1321 q79 q1322 eo er (ct_X2_second hK.1 v61 p1 h7) (Nat.le_trans (Nat.le_of_ble_eq_true rfl) hf) (Nat.le_trans (Nat.le_of_ble_eq_true rfl) hlo) (rk_a rk_n) (Nat.le_of_ble_eq_true rfl) dX10_compute_173 rfl) (fun v63 h62 => ?_)
    refine s_iald hK dX10_compute_176 (fun v64 => ?_)
    refine s_istore_n (lv' := [(3, .int v64), (2, .int v3), (0, va_rf p0), (1, .int p1)]) hK dX10_compute_177 rfl (Nat.le_of_ble_eq_true rfl) rfl ?_
    refine s_goto (tgt := 195) hK dX10_compute_178 (by decide) ?_
    refine s_sub [2, 1, 0] rfl ?_
    exact sm_X10_compute_J195 hK hf hlo p0 v3 v64 h62
  refine s_ite (fun e20 => ?_) (fun e20 => ?_)
  · refine s_tabIn (tgt := 181) hK dX10_compute_24 12 e20 (by decide) (by decide) rfl (by decide) ?_
    refine s_iload_n hK dX10_compute_181 rfl 0 rfl ?_
    refine s_aload_n hK dX10_compute_182 rfl 2 rfl ?_
    refine s_gA hK fcX10 0 (Nat.le_of_ble_eq_true rfl) (Or.inl q1580) (Or.inl rfl) dX10_compute_183 (fun v65 => ?_)
    refine s_iload_n hK dX10_compute_186 rfl 3 rfl ?_
    refine s_rc (fun _ _ eo er => ?_)
    refine s_cI hK ho_n (cx_v (As := [.int p1]) (rest := [.int v5]) hK dyX2_operand rfl q1568 fcX2.1 q798 q799 q79 q800 eo er (ct_X2_operand hK.1 v65 p1 h7) (Nat.le_trans (Nat.le_of_ble_eq_true rfl) hf) (Nat.le_trans (Nat.le_of_ble_eq_true rfl) hlo) (rk_i rk_n) (Nat.le_of_ble_eq_true rfl) dX10_compute_187 rfl) (fun v67 h66 => ?_)
    refine s_iand hK dX10_compute_190 ?_
    refine s_istore_n (lv' := [(3, .int (v5 &&& v67)), (2, .int v3), (0, va_rf p0), (1, .int p1)]) hK dX10_compute_191 rfl (Nat.le_of_ble_eq_true rfl) rfl ?_
    refine s_goto (tgt := 195) hK dX10_compute_192 (by decide) ?_
    refine s_sub [2, 1, 0] rfl ?_
    exact sm_X10_compute_J195 hK hf hlo p0 v3 (v5 &&& v67) h66
  refine s_tabOut (tgt := 195) hK dX10_compute_24 (tsw_out [1, 2, 3, 4, 5, 6, 7, 8, 9, 10, 11, 12] (List.forall_mem_cons.mpr ⟨e9, (List.forall_mem_cons.mpr ⟨e10, (List.forall_mem_cons.mpr ⟨e11, (List.forall_mem_cons.mpr ⟨e12, (List.forall_mem_cons.mpr ⟨e13, (List.forall_mem_cons.mpr ⟨e14, (List.forall_mem_cons.mpr ⟨e15, (List.forall_mem_cons.mpr ⟨e16, (List.forall_mem_cons.mpr ⟨e17, (List.forall_mem_cons.mpr ⟨e18, (List.forall_mem_cons.mpr ⟨e19, (List.forall_mem_cons.mpr ⟨e20, (fun _ hz => nomatch hz)⟩)⟩)⟩)⟩)⟩)⟩)⟩)⟩)⟩)⟩)⟩)⟩) (by decide)) (by decide) ?_
  refine s_sub [2, 1, 0] rfl ?_
  exact sm_X10_compute_J195 hK hf hlo p0 v3 v5 h7
theorem ct_X10_compute {G : GC} {l : Launch} (g : GOK G l) (p0 : Option Nat) (p1 : Int32) (h : AH) : CT G l yX10_compute (Cond.code yX10_compute cX10_compute 4 (some (.boolean))) 4 81 [va_rf p0, .int p1] (f_X10_compute p0 p1 h) h :=
  CT.of g (by decide) (by simp only [ls_a, ls_i, ls_l, ls_n]; decide) (fun K _ hK hf hlo => by simp only [la_a, la_i, la_l, la_n]; exact sm_X10_compute hK hf hlo p0 p1 h)
abbrev FR_X10_call : Nat := 5
abbrev LO_X10_call : Nat := 214
theorem dyX10_call : DY yX10_call 2 := ⟨⟨by decide, by decide⟩, by decide +kernel⟩
theorem sm_X10_call {G : GC} {K : SC} (hK : SOK G K RX10 cX10_call 3 (some (.int)) "call" []) (hf : FR_X10_call ≤ (kR K).frames) (hlo : LO_X10_call ≤ (kR K).locals) (p0 : Option Nat) (p1 : Int32) (p2 : Int32) (h : AH) : Sim G K 3 (f_X10_call p0 p1 p2 h) h 0 [(0, va_rf p0), (1, .int p1), (2, .int p2)] [] := by
  unfold f_X10_call
  refine s_aload_n hK dX10_call_0 rfl 0 rfl ?_
  refine s_gA hK fcX10 3 (Nat.le_of_ble_eq_true rfl) (Or.inl q1585) (Or.inl rfl) dX10_call_1 (fun v1 => ?_)
  refine s_rc (fun _ _ eo er => ?_)
  refine s_cI hK ho_n (cx_v (As := []) (rest := []) hK dyJ19_size rfl q1545 fcJ19.1 q1546 q1547 q104 q1548 eo er (ct_J19_size hK.1 v1 h) (Nat.le_trans (Nat.le_of_ble_eq_true rfl) hf) (Nat.le_trans (Nat.le_of_ble_eq_true rfl) hlo) rk_n (Nat.le_of_ble_eq_true rfl) dX10_call_4 rfl) (fun v3 h2 => ?_)
  refine s_bipush (v := 8) hK dX10_call_7 rfl ?_
  refine s_icmp_ne (tgt := 14) hK dX10_call_9 (by decide) (fun c8 => ?_) (fun c8 => ?_)
  · refine s_aload_n hK dX10_call_14 rfl 0 rfl ?_
    refine s_gA hK fcX10 3 (Nat.le_of_ble_eq_true rfl) (Or.inl q1585) (Or.inl rfl) dX10_call_15 (fun v4 => ?_)
    refine s_iload_n hK dX10_call_18 rfl 2 rfl ?_
    refine s_cA hK ho_n (cx_s (As := [.int p2]) (rest := [va_rf v4]) hK dyJ9_valueOf rfl q1552 q289 q91 q290 (ct_J9_valueOf hK.1 p2 h2) (Nat.le_trans (Nat.le_of_ble_eq_true rfl) hf) (Nat.le_trans (Nat.le_of_ble_eq_true rfl) hlo) (rk_a rk_n) (Nat.le_of_ble_eq_true rfl) dX10_call_19 rfl) (fun v6 h5 => ?_)
    refine s_rc (fun _ _ eo er => ?_)
    refine s_cV hK ho_n (cx_v (As := [va_rf v6]) (rest := []) hK dyJ19_addLast rfl q1553 fcJ19.1 q309 q310 q104 q311 eo er (ct_J19_addLast hK.1 v4 v6 h5) (Nat.le_trans (Nat.le_of_ble_eq_true rfl) hf) (Nat.le_trans (Nat.le_of_ble_eq_true rfl) hlo) rk_n (Nat.le_of_ble_eq_true rfl) dX10_call_22 rfl) (fun h7 => ?_)
    refine s_iload_n hK dX10_call_25 rfl 1 rfl ?_
    exact s_iret hK dX10_call_26
  · refine s_iconst (v := (-1)) hK dX10_call_12 rfl ?_
    exact s_iret hK dX10_call_13
theorem ct_X10_call {G : GC} {l : Launch} (g : GOK G l) (p0 : Option Nat) (p1 : Int32) (p2 : Int32) (h : AH) : CT G l yX10_call (Cond.code yX10_call cX10_call 3 (some (.int))) 5 214 [va_rf p0, .int p1, .int p2] (f_X10_call p0 p1 p2 h) h :=
  CT.of g (by decide) (by simp only [ls_a, ls_i, ls_l, ls_n]; decide) (fun K _ hK hf hlo => by simp only [la_a, la_i, la_l, la_n]; exact sm_X10_call hK hf hlo p0 p1 p2 h)
abbrev FR_X10_execute : Nat := 6
abbrev LO_X10_execute : Nat := 236
theorem dyX10_execute : DY yX10_execute 1 := ⟨⟨by decide, by decide⟩, by decide +kernel⟩
theorem sm_X10_execute_J193 {G : GC} {K : SC} (hK : SOK G K RX10 cX10_execute 3 (some (.int)) "execute" []) (hf : FR_X10_execute ≤ (kR K).frames) (hlo : LO_X10_execute ≤ (kR K).locals) (x54 : Option Nat) (x55 : Int32) (x56 : Int32)  (h57 : AH) : Sim G K 3 (f_X10_execute_J193 x54 x55 x56 h57) h57 193 [(0, va_rf x54), (1, .int x55), (2, .int x56)] [] := by
  unfold f_X10_execute_J193
  refine s_aload_n hK dX10_execute_193 rfl 0 rfl ?_
  refine s_iload_n hK dX10_execute_194 rfl 1 rfl ?_
  refine s_rc (fun _ _ eo er => ?_)
  refine s_cI hK ho_n (cx_v (As := [.int x55]) (rest := []) hK dyX10_compute rfl q1575 fcX10.1 q1577 qs32 q116 q1578 eo er (ct_X10_compute hK.1 x54 x55 h57) (Nat.le_trans (Nat.le_of_ble_eq_true rfl) hf) (Nat.le_trans (Nat.le_of_ble_eq_true rfl) hlo) rk_n (Nat.le_of_ble_eq_true rfl) dX10_execute_195 rfl) (fun v59 h58 => ?_)
  refine s_if_eq (tgt := 205) hK dX10_execute_198 (by decide) (fun c60 => ?_) (fun c60 => ?_)
  · refine s_iconst (v := (-1)) hK dX10_execute_205 rfl ?_
    exact s_iret hK dX10_execute_206
  · refine s_iload_n hK dX10_execute_201 rfl 2 rfl ?_
    refine s_goto (tgt := 206) hK dX10_execute_202 (by decide) ?_
    exact s_iret hK dX10_execute_206
theorem sm_X10_execute {G : GC} {K : SC} (hK : SOK G K RX10 cX10_execute 3 (some (.int)) "execute" []) (hf : FR_X10_execute ≤ (kR K).frames) (hlo : LO_X10_execute ≤ (kR K).locals) (p0 : Option Nat) (p1 : Int32) (h : AH) : Sim G K 3 (f_X10_execute p0 p1 h) h 0 [(0, va_rf p0), (1, .int p1)] [] := by
  unfold f_X10_execute
  refine s_iload_n hK dX10_execute_0 rfl 1 rfl ?_
  refine s_aload_n hK dX10_execute_1 rfl 0 rfl ?_
  refine s_gA hK fcX10 0 (Nat.le_of_ble_eq_true rfl) (Or.inl q1580) (Or.inl rfl) dX10_execute_2 (fun v1 => ?_)
  refine s_iload_n hK dX10_execute_5 rfl 1 rfl ?_
  refine s_rc (fun _ _ eo er => ?_)
  refine s_cI hK ho_n (cx_v (As := [.int p1]) (rest := [.int p1]) hK dyX2_length rfl q1538 fcX2.1 q782 q783 q79 q784 eo er (ct_X2_length hK.1 v1 p1 h) (Nat.le_trans (Nat.le_of_ble_eq_true rfl) hf) (Nat.le_trans (Nat.le_of_ble_eq_true rfl) hlo) (rk_i rk_n) (Nat.le_of_ble_eq_true rfl) dX10_execute_6 rfl) (fun v3 h2 => ?_)
  refine s_iadd hK dX10_execute_9 ?_
  refine s_istore_n (lv' := [(2, .int (p1 + v3)), (0, va_rf p0), (1, .int p1)]) hK dX10_execute_10 rfl (Nat.le_of_ble_eq_true rfl) rfl ?_
  refine s_aload_n hK dX10_execute_11 rfl 1 rfl ?_
  refine s_gA hK fcX10 0 (Nat.le_of_ble_eq_true rfl) (Or.inl q1580) (Or.inl rfl) dX10_execute_12 (fun v4 => ?_)
  refine s_iload_n hK dX10_execute_15 rfl 2 rfl ?_
  refine s_rc (fun _ _ eo er => ?_)
  refine s_cI hK ho_n (cx_v (As := [.int p1]) (rest := []) hK dyX2_kind rfl q1539 fcX2.1 q778 q779 q79 q780 eo er (ct_X2_kind hK.1 v4 p1 h2) (Nat.le_trans (Nat.le_of_ble_eq_true rfl) hf) (Nat.le_trans (Nat.le_of_ble_eq_true rfl) hlo) rk_n (Nat.le_of_ble_eq_true rfl) dX10_execute_16 rfl) (fun v6 h5 => ?_)
  refine s_ite (fun e7 => ?_) (fun e7 => ?_)
  · refine s_tabIn (tgt := 72) hK dX10_execute_19 4 e7 (by decide) (by decide) rfl (by decide) ?_
    refine s_aload_n hK dX10_execute_72 rfl 1 rfl ?_
    refine s_gA hK fcX10 0 (Nat.le_of_ble_eq_true rfl) (Or.inl q1580) (Or.inl rfl) dX10_execute_73 (fun v17 => ?_)
    refine s_iload_n hK dX10_execute_76 rfl 2 rfl ?_
    refine s_rc (fun _ _ eo er => ?_)
    refine s_cI hK ho_n (cx_v (As := [.int p1]) (rest := []) hK dyX2_target rfl q1540 fcX2.1 q794 q795 q79 q796 eo er (ct_X2_target hK.1 v17 p1 h5) (Nat.le_trans (Nat.le_of_ble_eq_true rfl) hf) (Nat.le_trans (Nat.le_of_ble_eq_true rfl) hlo) rk_n (Nat.le_of_ble_eq_true rfl) dX10_execute_77 rfl) (fun v19 h18 => ?_)
    exact s_iret hK dX10_execute_80
  refine s_ite (fun e8 => ?_) (fun e8 => ?_)
  · refine s_tabIn (tgt := 81) hK dX10_execute_19 5 e8 (by decide) (by decide) rfl (by decide) ?_
    refine s_aload_n hK dX10_execute_81 rfl 1 rfl ?_
    refine s_gI hK fcX10 4 (Nat.le_of_ble_eq_true rfl) (Or.inl q1586) (Or.inl rfl) dX10_execute_82 (fun v20 => ?_)
    refine s_if_eq (tgt := 99) hK dX10_execute_85 (by decide) (fun c24 => ?_) (fun c24 => ?_)
    · refine s_iload_n hK dX10_execute_99 rfl 0 rfl ?_
      exact s_iret hK dX10_execute_100
    · refine s_aload_n hK dX10_execute_88 rfl 1 rfl ?_
      refine s_gA hK fcX10 0 (Nat.le_of_ble_eq_true rfl) (Or.inl q1580) (Or.inl rfl) dX10_execute_89 (fun v21 => ?_)
      refine s_iload_n hK dX10_execute_92 rfl 2 rfl ?_
      refine s_rc (fun _ _ eo er => ?_)
      refine s_cI hK ho_n (cx_v (As := [.int p1]) (rest := []) hK dyX2_target rfl q1540 fcX2.1 q794 q795 q79 q796 eo er (ct_X2_target hK.1 v21 p1 h5) (Nat.le_trans (Nat.le_of_ble_eq_true rfl) hf) (Nat.le_trans (Nat.le_of_ble_eq_true rfl) hlo) rk_n (Nat.le_of_ble_eq_true rfl) dX10_execute_93 rfl) (fun v23 h22 => ?_)
      refine s_goto (tgt := 100) hK dX10_execute_96 (by decide) ?_
      exact s_iret hK dX10_execute_100
  refine s_ite (fun e9 => ?_) (fun e9 => ?_)
  · refine s_tabIn (tgt := 101) hK dX10_execute_19 6 e9 (by decide) (by decide) rfl (by decide) ?_
    refine s_aload_n hK dX10_execute_101 rfl 1 rfl ?_
    refine s_gI hK fcX10 4 (Nat.le_of_ble_eq_true rfl) (Or.inl q1586) (Or.inl rfl) dX10_execute_102 (fun v25 => ?_)
    refine s_if_eq (tgt := 112) hK dX10_execute_105 (by decide) (fun c29 => ?_) (fun c29 => ?_)
    · refine s_aload_n hK dX10_execute_112 rfl 1 rfl ?_
      refine s_gA hK fcX10 0 (Nat.le_of_ble_eq_true rfl) (Or.inl q1580) (Or.inl rfl) dX10_execute_113 (fun v26 => ?_)
      refine s_iload_n hK dX10_execute_116 rfl 2 rfl ?_
      refine s_rc (fun _ _ eo er => ?_)
      refine s_cI hK ho_n (cx_v (As := [.int p1]) (rest := []) hK dyX2_target rfl q1540 fcX2.1 q794 q795 q79 q796 eo er (ct_X2_target hK.1 v26 p1 h5) (Nat.le_trans (Nat.le_of_ble_eq_true rfl) hf) (Nat.le_trans (Nat.le_of_ble_eq_true rfl) hlo) rk_n (Nat.le_of_ble_eq_true rfl) dX10_execute_117 rfl) (fun v28 h27 => ?_)
      exact s_iret hK dX10_execute_120
    · refine s_iload_n hK dX10_execute_108 rfl 0 rfl ?_
      refine s_goto (tgt := 120) hK dX10_execute_109 (by decide) ?_
      exact s_iret hK dX10_execute_120
  refine s_ite (fun e10 => ?_) (fun e10 => ?_)
  · refine s_tabIn (tgt := 121) hK dX10_execute_19 7 e10 (by decide) (by decide) rfl (by decide) ?_
    refine s_aload_n hK dX10_execute_121 rfl 1 rfl ?_
    refine s_aload_n hK dX10_execute_122 rfl 1 rfl ?_
    refine s_gA hK fcX10 0 (Nat.le_of_ble_eq_true rfl) (Or.inl q1580) (Or.inl rfl) dX10_execute_123 (fun v30 => ?_)
    refine s_iload_n hK dX10_execute_126 rfl 2 rfl ?_
    refine s_rc (fun _ _ eo er => ?_)
    refine s_cI hK ho_n (cx_v (As := [.int p1]) (rest := [va_rf p0]) hK dyX2_target rfl q1540 fcX2.1 q794 q795 q79 q796 eo er (ct_X2_target hK.1 v30 p1 h5) (Nat.le_trans (Nat.le_of_ble_eq_true rfl) hf) (Nat.le_trans (Nat.le_of_ble_eq_true rfl) hlo) (rk_a rk_n) (Nat.le_of_ble_eq_true rfl) dX10_execute_127 rfl) (fun v32 h31 => ?_)
    refine s_iload_n hK dX10_execute_130 rfl 0 rfl ?_
    refine s_rc (fun _ _ eo er => ?_)
    refine s_cI hK ho_n (cx_v (As := [.int v32, .int (p1 + v3)]) (rest := []) hK dyX10_call rfl q1541 fcX10.1 q1543 qs30 q116 q1544 eo er (ct_X10_call hK.1 p0 v32 (p1 + v3) h31) (Nat.le_trans (Nat.le_of_ble_eq_true rfl) hf) (Nat.le_trans (Nat.le_of_ble_eq_true rfl) hlo) rk_n (Nat.le_of_ble_eq_true rfl) dX10_execute_131 rfl) (fun v34 h33 => ?_)
    exact s_iret hK dX10_execute_134
  refine s_ite (fun e11 => ?_) (fun e11 => ?_)
  · refine s_tabIn (tgt := 135) hK dX10_execute_19 8 e11 (by decide) (by decide) rfl (by decide) ?_
    refine s_aload_n hK dX10_execute_135 rfl 1 rfl ?_
    refine s_gA hK fcX10 3 (Nat.le_of_ble_eq_true rfl) (Or.inl q1585) (Or.inl rfl) dX10_execute_136 (fun v35 => ?_)
    refine s_rc (fun _ _ eo er => ?_)
    refine s_cI hK ho_n (cx_v (As := []) (rest := []) hK dyJ19_isEmpty rfl q1554 fcJ19.1 q441 q442 q104 q443 eo er (ct_J19_isEmpty hK.1 v35 h5) (Nat.le_trans (Nat.le_of_ble_eq_true rfl) hf) (Nat.le_trans (Nat.le_of_ble_eq_true rfl) hlo) rk_n (Nat.le_of_ble_eq_true rfl) dX10_execute_139 rfl) (fun v37 h36 => ?_)
    refine s_if_eq (tgt := 149) hK dX10_execute_142 (by decide) (fun c43 => ?_) (fun c43 => ?_)
    · refine s_aload_n hK dX10_execute_149 rfl 1 rfl ?_
      refine s_gA hK fcX10 3 (Nat.le_of_ble_eq_true rfl) (Or.inl q1585) (Or.inl rfl) dX10_execute_150 (fun v38 => ?_)
      refine s_rc (fun _ _ eo er => ?_)
      refine s_cA hK ho_n (cx_v (As := []) (rest := []) hK dyJ19_removeLast rfl q1555 fcJ19.1 q1556 q1557 q104 q1558 eo er (ct_J19_removeLast hK.1 v38 h36) (Nat.le_trans (Nat.le_of_ble_eq_true rfl) hf) (Nat.le_trans (Nat.le_of_ble_eq_true rfl) hlo) rk_n (Nat.le_of_ble_eq_true rfl) dX10_execute_153 rfl) (fun v40 h39 => ?_)
      refine s_ck hK q1566 (ck1 fcJ9.1 (Or.inl rfl)) dX10_execute_156 ?_
      refine s_rc (fun _ _ eo er => ?_)
      refine s_cI hK ho_n (cx_v (As := []) (rest := []) hK dyJ9_intValue rfl q1567 fcJ9.1 q478 q479 q91 q480 eo er (ct_J9_intValue hK.1 v40 h39) (Nat.le_trans (Nat.le_of_ble_eq_true rfl) hf) (Nat.le_trans (Nat.le_of_ble_eq_true rfl) hlo) rk_n (Nat.le_of_ble_eq_true rfl) dX10_execute_159 rfl) (fun v42 h41 => ?_)
      exact s_iret hK dX10_execute_162
    · refine s_iconst (v := (-1)) hK dX10_execute_145 rfl ?_
      refine s_goto (tgt := 162) hK dX10_execute_146 (by decide) ?_
      exact s_iret hK dX10_execute_162
  refine s_ite (fun e12 => ?_) (fun e12 => ?_)
  · refine s_tabIn (tgt := 163) hK dX10_execute_19 9 e12 (by decide) (by decide) rfl (by decide) ?_
    refine s_aload_n hK dX10_execute_163 rfl 1 rfl ?_
    refine s_aload_n hK dX10_execute_164 rfl 1 rfl ?_
    refine s_gA hK fcX10 0 (Nat.le_of_ble_eq_true rfl) (Or.inl q1580) (Or.inl rfl) dX10_execute_165 (fun v44 => ?_)
    refine s_iload_n hK dX10_execute_168 rfl 2 rfl ?_
    refine s_rc (fun _ _ eo er => ?_)
    refine s_cI hK ho_n (cx_v (As := [.int p1]) (rest := [va_rf p0]) hK dyX2_operand rfl q1568 fcX2.1 q798 q799 q79 q800 eo er (ct_X2_operand hK.1 v44 p1 h5) (Nat.le_trans (Nat.le_of_ble_eq_true rfl) hf) (Nat.le_trans (Nat.le_of_ble_eq_true rfl) hlo) (rk_a rk_n) (Nat.le_of_ble_eq_true rfl) dX10_execute_169 rfl) (fun v46 h45 => ?_)
    refine s_aload_n hK dX10_execute_172 rfl 1 rfl ?_
    refine s_gA hK fcX10 1 (Nat.le_of_ble_eq_true rfl) (Or.inl q1581) (Or.inl rfl) dX10_execute_173 (fun v47 => ?_)
    refine s_aload_n hK dX10_execute_176 rfl 1 rfl ?_
    refine s_gA hK fcX10 0 (Nat.le_of_ble_eq_true rfl) (Or.inl q1580) (Or.inl rfl) dX10_execute_177 (fun v48 => ?_)
    refine s_iload_n hK dX10_execute_180 rfl 2 rfl ?_
    refine s_rc (fun _ _ eo er => ?_)
    refine s_cI hK ho_n (cx_v (As := [.int p1]) (rest := [va_rf v47, .int v46, va_rf p0]) hK dyX2_first rfl q1569 fcX2.1 q904 q905 q79 q906 eo er (ct_X2_first hK.1 v48 p1 h45) (Nat.le_trans (Nat.le_of_ble_eq_true rfl) hf) (Nat.le_trans (Nat.le_of_ble_eq_true rfl) hlo) (rk_a (rk_i (rk_a rk_n))) (Nat.le_of_ble_eq_true rfl) dX10_execute_181 rfl) (fun v50 h49 => ?_)
    refine s_iald hK dX10_execute_184 (fun v51 => ?_)
    refine s_iadd hK dX10_execute_185 ?_
    refine s_iconst (v := (-1)) hK dX10_execute_186 rfl ?_
    refine s_rc (fun _ _ eo er => ?_)
    refine s_cI hK ho_n (cx_v (As := [.int (v46 + v51), .int (-1)]) (rest := []) hK dyX10_byteOr rfl q1570 fcX10.1 q1572 qs31 q116 q1573 eo er (ct_X10_byteOr hK.1 p0 (v46 + v51) (-1) h49) (Nat.le_trans (Nat.le_of_ble_eq_true rfl) hf) (Nat.le_trans (Nat.le_of_ble_eq_true rfl) hlo) rk_n (Nat.le_of_ble_eq_true rfl) dX10_execute_187 rfl) (fun v53 h52 => ?_)
    exact s_iret hK dX10_execute_190
  refine s_ite (fun e13 => ?_) (fun e13 => ?_)
  · refine s_tabIn (tgt := 193) hK dX10_execute_19 10 e13 (by decide) (by decide) rfl (by decide) ?_
    refine s_sub [1, 2, 0] rfl ?_
    exact sm_X10_execute_J193 hK hf hlo p0 p1 (p1 + v3) h5
  refine s_ite (fun e14 => ?_) (fun e14 => ?_)
  · refine s_tabIn (tgt := 193) hK dX10_execute_19 11 e14 (by decide) (by decide) rfl (by decide) ?_
    refine s_sub [1, 2, 0] rfl ?_
    exact sm_X10_execute_J193 hK hf hlo p0 p1 (p1 + v3) h5
  refine s_ite (fun e15 => ?_) (fun e15 => ?_)
  · refine s_tabIn (tgt := 193) hK dX10_execute_19 12 e15 (by decide) (by decide) rfl (by decide) ?_
    refine s_sub [1, 2, 0] rfl ?_
    exact sm_X10_execute_J193 hK hf hlo p0 p1 (p1 + v3) h5
  refine s_ite (fun e16 => ?_) (fun e16 => ?_)
  · refine s_tabIn (tgt := 191) hK dX10_execute_19 13 e16 (by decide) (by decide) rfl (by decide) ?_
    refine s_iconst (v := (-1)) hK dX10_execute_191 rfl ?_
    exact s_iret hK dX10_execute_192
  refine s_tabOut (tgt := 193) hK dX10_execute_19 (tsw_out [4, 5, 6, 7, 8, 9, 10, 11, 12, 13] (List.forall_mem_cons.mpr ⟨e7, (List.forall_mem_cons.mpr ⟨e8, (List.forall_mem_cons.mpr ⟨e9, (List.forall_mem_cons.mpr ⟨e10, (List.forall_mem_cons.mpr ⟨e11, (List.forall_mem_cons.mpr ⟨e12, (List.forall_mem_cons.mpr ⟨e13, (List.forall_mem_cons.mpr ⟨e14, (List.forall_mem_cons.mpr ⟨e15, (List.forall_mem_cons.mpr ⟨e16, (fun _ hz => nomatch hz)⟩)⟩)⟩)⟩)⟩)⟩)⟩)⟩)⟩)⟩) (by decide)) (by decide) ?_
  refine s_sub [1, 2, 0] rfl ?_
  exact sm_X10_execute_J193 hK hf hlo p0 p1 (p1 + v3) h5
theorem ct_X10_execute {G : GC} {l : Launch} (g : GOK G l) (p0 : Option Nat) (p1 : Int32) (h : AH) : CT G l yX10_execute (Cond.code yX10_execute cX10_execute 3 (some (.int))) 6 236 [va_rf p0, .int p1] (f_X10_execute p0 p1 h) h :=
  CT.of g (by decide) (by simp only [ls_a, ls_i, ls_l, ls_n]; decide) (fun K _ hK hf hlo => by simp only [la_a, la_i, la_l, la_n]; exact sm_X10_execute hK hf hlo p0 p1 h)
abbrev FR_X10_init : Nat := 7
abbrev LO_X10_init : Nat := 258
theorem dyX10_init : DY yX10_init 2 := ⟨⟨by decide, by decide⟩, by decide +kernel⟩
theorem sm_X10_init_L39 {G : GC} {K : SC} (hK : SOK G K RX10 cX10_init 4 (none) "<init>" []) (hf : FR_X10_init ≤ (kR K).frames) (hlo : LO_X10_init ≤ (kR K).locals) {k86 : AH → RS} (hk86 : ∀  (h : AH), Sim G K 4 (k86  h) h 86 [] []) : ∀ (n : Nat) (x14 : Option Nat) (x15 : Option Nat) (x16 : Int32) (h17 : AH), Sim G K 4 (f_X10_init_L39 k86 n x14 x15 x16 h17) h17 39 [(0, va_rf x14), (1, va_rf x15), (3, .int x16)] [] := by
  intro n
  induction n with
  | zero => intro x14 x15 x16 h17; exact s_none
  | succ n ih =>
    intro x14 x15 x16 h17
    rw [f_X10_init_L39]
    refine s_aload_n hK dX10_init_39 rfl 0 rfl ?_
    refine s_gI hK fcX10 5 (Nat.le_of_ble_eq_true rfl) (Or.inl q1587) (Or.inl rfl) dX10_init_40 (fun v18 => ?_)
    refine s_sipush (v := 200) hK dX10_init_43 rfl ?_
    refine s_icmp_ge (tgt := 86) hK dX10_init_46 (by decide) (fun c29 => ?_) (fun c29 => ?_)
    · refine s_sub [] rfl ?_
      exact hk86  h17
    · refine s_aload_n hK dX10_init_49 rfl 1 rfl ?_
      refine s_iload_n hK dX10_init_50 rfl 2 rfl ?_
      refine s_rc (fun _ _ eo er => ?_)
      refine s_cI hK ho_n (cx_v (As := [.int x16]) (rest := []) hK dyX2_isValid rfl q1533 fcX2.1 q767 q768 q79 q769 eo er (ct_X2_isValid hK.1 x15 x16 h17) (Nat.le_trans (Nat.le_of_ble_eq_true rfl) hf) (Nat.le_trans (Nat.le_of_ble_eq_true rfl) hlo) rk_n (Nat.le_of_ble_eq_true rfl) dX10_init_51 rfl) (fun v20 h19 => ?_)
      refine s_if_eq (tgt := 86) hK dX10_init_54 (by decide) (fun c28 => ?_) (fun c28 => ?_)
      · refine s_sub [] rfl ?_
        exact hk86  h19
      · refine s_aload_n hK dX10_init_57 rfl 0 rfl ?_
        refine s_gA hK fcX10 2 (Nat.le_of_ble_eq_true rfl) (Or.inl q1583) (Or.inl rfl) dX10_init_58 (fun v21 => ?_)
        refine s_iload_n hK dX10_init_61 rfl 2 rfl ?_
        refine s_dup2 hK dX10_init_62 rfl (va_cat _) ?_
        refine s_iald hK dX10_init_63 (fun v22 => ?_)
        refine s_iconst (v := 1) hK dX10_init_64 rfl ?_
        refine s_iadd hK dX10_init_65 ?_
        refine s_iast hK dX10_init_66 (fun h23 => ?_)
        refine s_aload_n hK dX10_init_67 rfl 0 rfl ?_
        refine s_dup hK dX10_init_68 (va_cat _) ?_
        refine s_gI hK fcX10 5 (Nat.le_of_ble_eq_true rfl) (Or.inl q1587) (Or.inl rfl) dX10_init_69 (fun v24 => ?_)
        refine s_iconst (v := 1) hK dX10_init_72 rfl ?_
        refine s_iadd hK dX10_init_73 ?_
        refine s_pF hK fcX10 5 (Nat.le_of_ble_eq_true rfl) (Or.inl q1587) (Or.inl rfl) (Or.inl rfl) rfl rfl dX10_init_74 (fun h25 => ?_)
        refine s_aload_n hK dX10_init_77 rfl 0 rfl ?_
        refine s_iload_n hK dX10_init_78 rfl 2 rfl ?_
        refine s_rc (fun _ _ eo er => ?_)
        refine s_cI hK ho_n (cx_v (As := [.int x16]) (rest := []) hK dyX10_execute rfl q1534 fcX10.1 q1536 qs29 q116 q1537 eo er (ct_X10_execute hK.1 x14 x16 h25) (Nat.le_trans (Nat.le_of_ble_eq_true rfl) hf) (Nat.le_trans (Nat.le_of_ble_eq_true rfl) hlo) rk_n (Nat.le_of_ble_eq_true rfl) dX10_init_79 rfl) (fun v27 h26 => ?_)
        refine s_istore_n (lv' := [(3, .int v27), (0, va_rf x14), (1, va_rf x15)]) hK dX10_init_82 rfl (Nat.le_of_ble_eq_true rfl) rfl ?_
        refine s_goto (tgt := 39) hK dX10_init_83 (by decide) ?_
        refine s_sub [1, 2, 0] rfl ?_
        exact ih x14 x15 v27 h26
theorem sm_X10_init {G : GC} {K : SC} (hK : SOK G K RX10 cX10_init 4 (none) "<init>" []) (hf : FR_X10_init ≤ (kR K).frames) (hlo : LO_X10_init ≤ (kR K).locals) (p0 : Option Nat) (p1 : Option Nat) (p2 : Int32) (h : AH) : Sim G K 4 (f_X10_init p0 p1 p2 h) h 0 [(0, va_rf p0), (1, va_rf p1), (2, .int p2)] [] := by
  unfold f_X10_init
  refine s_aload_n hK dX10_init_0 rfl 0 rfl ?_
  refine s_oinit hK q1529 q124 q125 dX10_init_1 (Nat.le_trans (Nat.le_of_ble_eq_true rfl) hf) rk_n (Nat.le_trans (Nat.le_of_ble_eq_true rfl) hlo) ?_
  refine s_aload_n hK dX10_init_4 rfl 0 rfl ?_
  refine s_iconst (v := 4) hK dX10_init_5 rfl ?_
  refine s_newI hK dX10_init_6 (fun a1 h2 => ?_)
  refine s_pF hK fcX10 1 (Nat.le_of_ble_eq_true rfl) (Or.inl q1581) (Or.inl rfl) (Or.inr ⟨rfl, rfl, rfl, q1581⟩) (nr_r _) (ft_r _) dX10_init_8 (fun h3 => ?_)
  refine s_aload_n hK dX10_init_11 rfl 0 rfl ?_
  refine s_new hK fcJ19 q1530 q208 q104 fsJ19_ok dX10_init_12 (fun a4 h5 => ?_)
  refine s_dup hK dX10_init_15 (va_cat _) ?_
  refine s_nn (fun _ eo => ?_)
  refine s_cV hK ho_n (cx_i (As := []) (rest := [va_rf a4, va_rf p0]) hK dyJ19_init rfl q1531 rfl q210 q104 q211 eo (ct_J19_init hK.1 a4 h5) (Nat.le_trans (Nat.le_of_ble_eq_true rfl) hf) (Nat.le_trans (Nat.le_of_ble_eq_true rfl) hlo) (rk_a (rk_a rk_n)) (Nat.le_of_ble_eq_true rfl) dX10_init_16 rfl) (fun h6 => ?_)
  refine s_pF hK fcX10 3 (Nat.le_of_ble_eq_true rfl) (Or.inl q1585) (Or.inl rfl) (Or.inr ⟨rfl, rfl, rfl, q1585⟩) (nr_o _) (ft_o _) dX10_init_19 (fun h7 => ?_)
  refine s_aload_n hK dX10_init_22 rfl 0 rfl ?_
  refine s_aload_n hK dX10_init_23 rfl 1 rfl ?_
  refine s_pF hK fcX10 0 (Nat.le_of_ble_eq_true rfl) (Or.inl q1580) (Or.inl rfl) (Or.inr ⟨rfl, rfl, rfl, q1580⟩) (nr_o _) (ft_o _) dX10_init_24 (fun h8 => ?_)
  refine s_aload_n hK dX10_init_27 rfl 0 rfl ?_
  refine s_aload_n hK dX10_init_28 rfl 1 rfl ?_
  refine s_rc (fun _ _ eo er => ?_)
  refine s_cI hK ho_n (cx_v (As := []) (rest := [va_rf p0]) hK dyX2_size rfl q1532 fcX2.1 q182 q183 q79 q184 eo er (ct_X2_size hK.1 p1 h8) (Nat.le_trans (Nat.le_of_ble_eq_true rfl) hf) (Nat.le_trans (Nat.le_of_ble_eq_true rfl) hlo) (rk_a rk_n) (Nat.le_of_ble_eq_true rfl) dX10_init_29 rfl) (fun v10 h9 => ?_)
  refine s_newI hK dX10_init_32 (fun a11 h12 => ?_)
  refine s_pF hK fcX10 2 (Nat.le_of_ble_eq_true rfl) (Or.inl q1583) (Or.inl rfl) (Or.inr ⟨rfl, rfl, rfl, q1583⟩) (nr_r _) (ft_r _) dX10_init_34 (fun h13 => ?_)
  refine s_iload_n hK dX10_init_37 rfl 2 rfl ?_
  refine s_istore_n (lv' := [(3, .int p2), (0, va_rf p0), (1, va_rf p1), (2, .int p2)]) hK dX10_init_38 rfl (Nat.le_of_ble_eq_true rfl) rfl ?_
  refine s_sub [1, 2, 0] rfl ?_
  refine sm_X10_init_L39 hK hf hlo (fun h30 => ?_) FUEL p0 p1 p2 h13
  · exact s_vret hK dX10_init_86
theorem ct_X10_init {G : GC} {l : Launch} (g : GOK G l) (p0 : Option Nat) (p1 : Option Nat) (p2 : Int32) (h : AH) : CT G l yX10_init (Cond.code yX10_init cX10_init 4 (none)) 7 258 [va_rf p0, va_rf p1, .int p2] (f_X10_init p0 p1 p2 h) h :=
  CT.of g (by decide) (by simp only [ls_a, ls_i, ls_l, ls_n]; decide) (fun K _ hK hf hlo => by simp only [la_a, la_i, la_l, la_n]; exact sm_X10_init hK hf hlo p0 p1 p2 h)
