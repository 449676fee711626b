/-! printed by mk.py/gen.py -/
set_option maxRecDepth 100000
noncomputable def f_X0_appendCharacter (p0 : Option Nat) (p1 : Int32) (p2 : Option Nat) (h : AH) : RS := xrc h p0 0 (xcIX (f_X1_appendCharacter p0 p1 h) (fun v2 h1 => xsL h1 p2 0 v2.toInt64 (fun h3 => rtI 0 h3)) (fun E4 q5 h6 => if E4 = "java/lang/IllegalArgumentException" then rtI 1 h6 else if E4 = "java/lang/IllegalStateException" then rtI 2 h6 else none))
noncomputable def f_X0_addBytes (p0 : Option Nat) (p1 : Option Nat) (h : AH) : RS := xrc h p0 0 (xcIX (f_X1_addBytes p0 h) (fun v2 h1 => xsL h1 p1 0 v2.toInt64 (fun h3 => rtI 0 h3)) (fun E4 q5 h6 => if E4 = "java/lang/IllegalArgumentException" then rtI 1 h6 else if E4 = "java/lang/IllegalStateException" then rtI 2 h6 else none))
noncomputable def f_X0_setByte (p0 : Option Nat) (p1 : Int32) (p2 : Int32) (p3 : Option Nat) (h : AH) : RS := xrc h p0 0 (xcIX (f_X1_setByte p0 p1 p2 h) (fun v2 h1 => xsL h1 p3 0 v2.toInt64 (fun h3 => rtI 0 h3)) (fun E4 q5 h6 => if E4 = "java/lang/IndexOutOfBoundsException" then rtI 1 h6 else if E4 = "java/lang/IllegalArgumentException" then rtI 2 h6 else none))
noncomputable def f_X0_byteAt (p0 : Option Nat) (p1 : Int32) (p2 : Option Nat) (h : AH) : RS := xrc h p0 0 (xcIX (f_X1_byteAt p0 p1 h) (fun v2 h1 => xsL h1 p2 0 v2.toInt64 (fun h3 => rtI 0 h3)) (fun E4 q5 h6 => if E4 = "java/lang/IndexOutOfBoundsException" then rtI 1 h6 else none))
noncomputable def f_X0_addEntry (p0 : Option Nat) (p1 : Int32) (p2 : Option Nat) (h : AH) : RS := xrc h p0 0 (xcIX (f_X1_addEntry p0 p1 h) (fun v2 h1 => xsL h1 p2 0 v2.toInt64 (fun h3 => rtI 0 h3)) (fun E4 q5 h6 => if E4 = "java/lang/IndexOutOfBoundsException" then rtI 1 h6 else if E4 = "java/lang/IllegalStateException" then rtI 2 h6 else none))
noncomputable def f_X0_removeEntry (p0 : Option Nat) (p1 : Int32) (p2 : Option Nat) (h : AH) : RS := xrc h p0 0 (xcIX (f_X1_removeEntry p0 p1 h) (fun v2 h1 => xsL h1 p2 0 v2.toInt64 (fun h3 => rtI 0 h3)) (fun E4 q5 h6 => if E4 = "java/lang/IndexOutOfBoundsException" then rtI 1 h6 else none))
noncomputable def f_X0_setThreshold (p0 : Option Nat) (p1 : Int32) (p2 : Option Nat) (h : AH) : RS := xrc h p0 0 (xcIX (f_X1_setThreshold p0 p1 h) (fun v2 h1 => xsL h1 p2 0 v2.toInt64 (fun h3 => rtI 0 h3)) (fun E4 q5 h6 => if E4 = "java/lang/IllegalArgumentException" then rtI 1 h6 else none))
noncomputable def f_X0_isValid (p0 : Option Nat) (p1 : Int32) (p2 : Option Nat) (h : AH) : RS := xrc h p0 0 (xcIX (f_X1_isValid p0 p1 h) (fun v2 h1 => if v2 = 0 then xsL h1 p2 0 0 (fun h3 => rtI 0 h3) else xsL h1 p2 0 1 (fun h4 => rtI 0 h4)) (fun E6 q7 h8 => if E6 = "java/lang/IndexOutOfBoundsException" then rtI 1 h8 else none))
noncomputable def f_X0_decode (p0 : Option Nat) (p1 : Int32) (p2 : Int32) (p3 : Option Nat) (h : AH) : RS := xrc h p0 0 (xcIX (f_X1_decode p0 p1 p2 h) (fun v2 h1 => xsL h1 p3 0 v2.toInt64 (fun h3 => rtI 0 h3)) (fun E4 q5 h6 => if E4 = "java/lang/IndexOutOfBoundsException" then rtI 1 h6 else if E4 = "java/lang/IllegalArgumentException" then rtI 2 h6 else if E4 = "java/lang/UnsupportedOperationException" then rtI 3 h6 else none))
noncomputable def f_X0_accepted (p0 : Option Nat) (p1 : Option Nat) (h : AH) : RS := xrc h p0 0 (xcIX (f_X1_accepted p0 h) (fun v2 h1 => xsL h1 p1 0 v2.toInt64 (fun h3 => rtI 0 h3)) (fun E4 q5 h6 => if E4 = "java/lang/IllegalStateException" then rtI 1 h6 else none))
noncomputable def f_X0_acceptedAt (p0 : Option Nat) (p1 : Int32) (p2 : Option Nat) (h : AH) : RS := xrc h p0 0 (xcIX (f_X1_acceptedAt p0 p1 h) (fun v2 h1 => xsL h1 p2 0 v2.toInt64 (fun h3 => rtI 0 h3)) (fun E4 q5 h6 => if E4 = "java/lang/IllegalStateException" then rtI 1 h6 else if E4 = "java/lang/IndexOutOfBoundsException" then rtI 2 h6 else none))
noncomputable def f_X0_use (p0 : Option Nat) (p1 : Int32) (p2 : Option Nat) (h : AH) : RS := xrc h p0 0 (xcIX (f_X1_use p0 p1 h) (fun v2 h1 => xsL h1 p2 0 v2.toInt64 (fun h3 => rtI 0 h3)) (fun E4 q5 h6 => if E4 = "java/lang/IllegalStateException" then rtI 1 h6 else if E4 = "java/lang/IndexOutOfBoundsException" then rtI 2 h6 else none))
noncomputable def f_X0_conflictCount (p0 : Option Nat) (p1 : Option Nat) (h : AH) : RS := xrc h p0 0 (xcIX (f_X1_conflictCount p0 h) (fun v2 h1 => xsL h1 p1 0 v2.toInt64 (fun h3 => rtI 0 h3)) (fun E4 q5 h6 => if E4 = "java/lang/IllegalStateException" then rtI 1 h6 else none))
noncomputable def f_X0_conflict (p0 : Option Nat) (p1 : Int32) (p2 : Option Nat) (h : AH) : RS := xrc h p0 0 (xcIX (f_X1_conflict p0 p1 h) (fun v2 h1 => xsL h1 p2 0 v2.toInt64 (fun h3 => rtI 0 h3)) (fun E4 q5 h6 => if E4 = "java/lang/IllegalStateException" then rtI 1 h6 else if E4 = "java/lang/IndexOutOfBoundsException" then rtI 2 h6 else none))
noncomputable def f_X0_badTargets (p0 : Option Nat) (p1 : Option Nat) (h : AH) : RS := xrc h p0 0 (xcIX (f_X1_badTargets p0 h) (fun v2 h1 => xsL h1 p1 0 v2.toInt64 (fun h3 => rtI 0 h3)) (fun E4 q5 h6 => if E4 = "java/lang/IllegalStateException" then rtI 1 h6 else none))
noncomputable def f_X0_tableCount (p0 : Option Nat) (p1 : Option Nat) (h : AH) : RS := xrc h p0 0 (xcIX (f_X1_tableCount p0 h) (fun v2 h1 => xsL h1 p1 0 v2.toInt64 (fun h3 => rtI 0 h3)) (fun E4 q5 h6 => if E4 = "java/lang/IllegalStateException" then rtI 1 h6 else none))
noncomputable def f_X0_table (p0 : Option Nat) (p1 : Int32) (p2 : Int32) (p3 : Option Nat) (h : AH) : RS := xrc h p0 0 (xcIX (f_X1_table p0 p1 p2 h) (fun v2 h1 => xsL h1 p3 0 v2.toInt64 (fun h3 => rtI 0 h3)) (fun E4 q5 h6 => if E4 = "java/lang/IllegalStateException" then rtI 1 h6 else if E4 = "java/lang/IndexOutOfBoundsException" then rtI 2 h6 else if E4 = "java/lang/IllegalArgumentException" then rtI 3 h6 else none))
noncomputable def f_X0_tableEntry (p0 : Option Nat) (p1 : Int32) (p2 : Int32) (p3 : Option Nat) (h : AH) : RS := xrc h p0 0 (xcIX (f_X1_tableEntry p0 p1 p2 h) (fun v2 h1 => xsL h1 p3 0 v2.toInt64 (fun h3 => rtI 0 h3)) (fun E4 q5 h6 => if E4 = "java/lang/IllegalStateException" then rtI 1 h6 else if E4 = "java/lang/IndexOutOfBoundsException" then rtI 2 h6 else none))
noncomputable def f_X0_isComplete (p0 : Option Nat) (p1 : Int32) (p2 : Option Nat) (h : AH) : RS := xrc h p0 0 (xcIX (f_X1_isComplete p0 p1 h) (fun v2 h1 => if v2 = 0 then xsL h1 p2 0 0 (fun h3 => rtI 0 h3) else xsL h1 p2 0 1 (fun h4 => rtI 0 h4)) (fun E6 q7 h8 => if E6 = "java/lang/IllegalStateException" then rtI 1 h8 else if E6 = "java/lang/IndexOutOfBoundsException" then rtI 2 h8 else none))
noncomputable def f_X0_gapCount (p0 : Option Nat) (p1 : Option Nat) (h : AH) : RS := xrc h p0 0 (xcIX (f_X1_gapCount p0 h) (fun v2 h1 => xsL h1 p1 0 v2.toInt64 (fun h3 => rtI 0 h3)) (fun E4 q5 h6 => if E4 = "java/lang/IllegalStateException" then rtI 1 h6 else none))
noncomputable def f_X0_gap (p0 : Option Nat) (p1 : Int32) (p2 : Int32) (p3 : Option Nat) (h : AH) : RS := xrc h p0 0 (xcIX (f_X1_gap p0 p1 p2 h) (fun v2 h1 => xsL h1 p3 0 v2.toInt64 (fun h3 => rtI 0 h3)) (fun E4 q5 h6 => if E4 = "java/lang/IllegalStateException" then rtI 1 h6 else if E4 = "java/lang/IndexOutOfBoundsException" then rtI 2 h6 else if E4 = "java/lang/IllegalArgumentException" then rtI 3 h6 else none))
noncomputable def f_X0_speculative (p0 : Option Nat) (p1 : Option Nat) (h : AH) : RS := xrc h p0 0 (xcIX (f_X1_speculative p0 h) (fun v2 h1 => xsL h1 p1 0 v2.toInt64 (fun h3 => rtI 0 h3)) (fun E4 q5 h6 => if E4 = "java/lang/IllegalStateException" then rtI 1 h6 else none))
noncomputable def f_X0_blockCount (p0 : Option Nat) (p1 : Option Nat) (h : AH) : RS := xrc h p0 0 (xcIX (f_X1_blockCount p0 h) (fun v2 h1 => xsL h1 p1 0 v2.toInt64 (fun h3 => rtI 0 h3)) (fun E4 q5 h6 => if E4 = "java/lang/IllegalStateException" then rtI 1 h6 else none))
noncomputable def f_X0_block (p0 : Option Nat) (p1 : Int32) (p2 : Int32) (p3 : Option Nat) (h : AH) : RS := xrc h p0 0 (xcIX (f_X1_block p0 p1 p2 h) (fun v2 h1 => xsL h1 p3 0 v2.toInt64 (fun h3 => rtI 0 h3)) (fun E4 q5 h6 => if E4 = "java/lang/IllegalStateException" then rtI 1 h6 else if E4 = "java/lang/IndexOutOfBoundsException" then rtI 2 h6 else if E4 = "java/lang/IllegalArgumentException" then rtI 3 h6 else none))
noncomputable def f_X0_functionCount (p0 : Option Nat) (p1 : Option Nat) (h : AH) : RS := xrc h p0 0 (xcIX (f_X1_functionCount p0 h) (fun v2 h1 => xsL h1 p1 0 v2.toInt64 (fun h3 => rtI 0 h3)) (fun E4 q5 h6 => if E4 = "java/lang/IllegalStateException" then rtI 1 h6 else none))
noncomputable def f_X0_functionSize (p0 : Option Nat) (p1 : Int32) (p2 : Option Nat) (h : AH) : RS := xrc h p0 0 (xcIX (f_X1_functionSize p0 p1 h) (fun v2 h1 => xsL h1 p2 0 v2.toInt64 (fun h3 => rtI 0 h3)) (fun E4 q5 h6 => if E4 = "java/lang/IllegalStateException" then rtI 1 h6 else if E4 = "java/lang/IndexOutOfBoundsException" then rtI 2 h6 else if E4 = "java/util/NoSuchElementException" then rtI 3 h6 else none))
noncomputable def f_X0_run (p0 : Option Nat) (p1 : Int32) (p2 : Option Nat) (h : AH) : RS := xrc h p0 0 (xcIX (f_X1_run p0 p1 h) (fun v2 h1 => xsL h1 p2 0 v2.toInt64 (fun h3 => rtI 0 h3)) (fun E4 q5 h6 => if E4 = "java/lang/IndexOutOfBoundsException" then rtI 1 h6 else none))
noncomputable def f_X0_executedAt (p0 : Option Nat) (p1 : Int32) (p2 : Option Nat) (h : AH) : RS := xrc h p0 0 (xcIX (f_X1_executedAt p0 p1 h) (fun v2 h1 => xsL h1 p2 0 v2.toInt64 (fun h3 => rtI 0 h3)) (fun E4 q5 h6 => if E4 = "java/lang/IllegalStateException" then rtI 1 h6 else if E4 = "java/lang/IndexOutOfBoundsException" then rtI 2 h6 else none))
noncomputable def f_X0_unrecovered (p0 : Option Nat) (p1 : Option Nat) (h : AH) : RS := xrc h p0 0 (xcIX (f_X1_unrecovered p0 h) (fun v2 h1 => xsL h1 p1 0 v2.toInt64 (fun h3 => rtI 0 h3)) (fun E4 q5 h6 => if E4 = "java/lang/IllegalStateException" then rtI 1 h6 else none))
noncomputable def f_X0_register (p0 : Option Nat) (p1 : Int32) (p2 : Option Nat) (h : AH) : RS := xrc h p0 0 (xcIX (f_X1_register p0 p1 h) (fun v2 h1 => xsL h1 p2 0 v2.toInt64 (fun h3 => rtI 0 h3)) (fun E4 q5 h6 => if E4 = "java/lang/IllegalStateException" then rtI 1 h6 else if E4 = "java/lang/IndexOutOfBoundsException" then rtI 2 h6 else none))
noncomputable def f_X0_coverage (p0 : Option Nat) (p1 : Option Nat) (h : AH) : RS := xrc h p0 0 (xcDX (f_X1_coverage p0 h) (fun v2 h1 => xsD h1 p1 0 v2 (fun h3 => rtI 0 h3)) (fun E4 q5 h6 => if E4 = "java/lang/IllegalStateException" then rtI 1 h6 else if E4 = "java/lang/ArithmeticException" then rtI 2 h6 else none))
noncomputable def f_X0_averageBlock (p0 : Option Nat) (p1 : Option Nat) (h : AH) : RS := xrc h p0 0 (xcFX (f_X1_averageBlock p0 h) (fun v2 h1 => xf2d v2 (fun v3 => xsD h1 p1 0 v3 (fun h4 => rtI 0 h4))) (fun E5 q6 h7 => if E5 = "java/lang/IllegalStateException" then rtI 1 h7 else if E5 = "java/lang/ArithmeticException" then rtI 2 h7 else none))
noncomputable def f_X0_restore (p0 : Option Nat) (h : AH) : RS := xrc h p0 0 (xcVX (f_X1_restore p0 h) (fun h1 => rtI 0 h1) (fun E2 q3 h4 => if E2 = "java/lang/IllegalStateException" then rtI 1 h4 else none))
abbrev FR_X0_appendCharacter : Nat := 8
abbrev LO_X0_appendCharacter : Nat := 122
theorem dyX0_appendCharacter : DY yX0_appendCharacter 3 := ⟨⟨by decide, by decide⟩, by decide +kernel⟩
theorem sm_X0_appendCharacter {G : GC} {K : SC} (hK : SOK G K RX0 cX0_appendCharacter 4 (some (.int)) "appendCharacter" (tableOf [(0, 9, 12, 13), (0, 9, 15, 15)])) (hf : FR_X0_appendCharacter ≤ (kR K).frames) (hlo : LO_X0_appendCharacter ≤ (kR K).locals) (p0 : Option Nat) (p1 : Int32) (p2 : Option Nat) (h : AH) : Sim G K 4 (f_X0_appendCharacter p0 p1 p2 h) h 0 [(0, va_rf p0), (1, .int p1), (2, va_rf p2)] [] := by
  unfold f_X0_appendCharacter
  refine s_aload_n hK dX0_appendCharacter_0 rfl 2 rfl ?_
  refine s_iconst (v := 0) hK dX0_appendCharacter_1 rfl ?_
  refine s_aload_n hK dX0_appendCharacter_2 rfl 0 rfl ?_
  refine s_iload_n hK dX0_appendCharacter_3 rfl 1 rfl ?_
  refine s_rc (fun _ _ eo er => ?_)
  refine s_cIX (fun E4 q5 h6 => ?_) (cx_v (As := [.int p1]) (rest := [.int 0, va_rf p2]) hK dyX1_appendCharacter rfl q1140 fcX1.1 q1141 q1142 q78 q1143 eo er (ct_X1_appendCharacter hK.1 p0 p1 h) (Nat.le_trans (Nat.le_of_ble_eq_true rfl) hf) (Nat.le_trans (Nat.le_of_ble_eq_true rfl) hlo) (rk_i (rk_a rk_n)) (Nat.le_of_ble_eq_true rfl) dX0_appendCharacter_4 rfl) (fun v2 h1 => ?_)
  · refine st_ite (fun e8 => ?_) (fun e8 => ?_)
    · subst e8
      refine st_catch hK (tableOf []) ⟨0, 9, 12, 13⟩ (tableOf [(0, 9, 15, 15)]) rfl (fun _ hz => nomatch hz) rfl (by decide) q1138 q711 ?_
      refine s_astore_n (lv' := [(3, va_rf (some q5)), (0, va_rf p0), (1, .int p1), (2, va_rf p2)]) hK dX0_appendCharacter_12 rfl (Nat.le_of_ble_eq_true rfl) (flA (pre := [(0, va_rf p0), (1, .int p1)]) (suf := []) rfl rfl) ?_
      refine s_iconst (v := 1) hK dX0_appendCharacter_13 rfl ?_
      exact s_iret hK dX0_appendCharacter_14
    refine st_ite (fun e7 => ?_) (fun e7 => ?_)
    · subst e7
      refine st_catch hK (tableOf [(0, 9, 12, 13)]) ⟨0, 9, 15, 15⟩ (tableOf []) rfl (List.forall_mem_cons.mpr ⟨Or.inr ⟨by decide, "java/lang/IllegalArgumentException", q1138, nc_java_lang_IllegalStateException_java_lang_IllegalArgumentException hK.1⟩, (fun _ hz => nomatch hz)⟩) rfl (by decide) q1139 q326 ?_
      refine s_astore_n (lv' := [(3, va_rf (some q5)), (0, va_rf p0), (1, .int p1), (2, va_rf p2)]) hK dX0_appendCharacter_15 rfl (Nat.le_of_ble_eq_true rfl) (flA (pre := [(0, va_rf p0), (1, .int p1)]) (suf := []) rfl rfl) ?_
      refine s_iconst (v := 2) hK dX0_appendCharacter_16 rfl ?_
      exact s_iret hK dX0_appendCharacter_17
    exact st_none
  · refine s_i2l hK dX0_appendCharacter_7 ?_
    refine s_last hK dX0_appendCharacter_8 (fun h3 => ?_)
    refine s_goto (tgt := 18) hK dX0_appendCharacter_9 (by decide) ?_
    refine s_iconst (v := 0) hK dX0_appendCharacter_18 rfl ?_
    exact s_iret hK dX0_appendCharacter_19
theorem ct_X0_appendCharacter {G : GC} {l : Launch} (g : GOK G l) (p0 : Option Nat) (p1 : Int32) (p2 : Option Nat) (h : AH) : CT G l yX0_appendCharacter (Cond.codeWith yX0_appendCharacter cX0_appendCharacter 4 (some (.int)) [(0, 9, 12, 13), (0, 9, 15, 15)]) 8 122 [va_rf p0, .int p1, va_rf p2] (f_X0_appendCharacter p0 p1 p2 h) h :=
  CT.ofH g (by decide) (by simp only [ls_a, ls_i, ls_l, ls_n]; decide) (fun K _ hK hf hlo => by simp only [la_a, la_i, la_l, la_n]; exact sm_X0_appendCharacter hK hf hlo p0 p1 p2 h)
abbrev FR_X0_addBytes : Nat := 9
abbrev LO_X0_addBytes : Nat := 297
theorem dyX0_addBytes : DY yX0_addBytes 2 := ⟨⟨by decide, by decide⟩, by decide +kernel⟩
theorem sm_X0_addBytes {G : GC} {K : SC} (hK : SOK G K RX0 cX0_addBytes 3 (some (.int)) "addBytes" (tableOf [(0, 8, 11, 13), (0, 8, 14, 15)])) (hf : FR_X0_addBytes ≤ (kR K).frames) (hlo : LO_X0_addBytes ≤ (kR K).locals) (p0 : Option Nat) (p1 : Option Nat) (h : AH) : Sim G K 3 (f_X0_addBytes p0 p1 h) h 0 [(0, va_rf p0), (1, va_rf p1)] [] := by
  unfold f_X0_addBytes
  refine s_aload_n hK dX0_addBytes_0 rfl 1 rfl ?_
  refine s_iconst (v := 0) hK dX0_addBytes_1 rfl ?_
  refine s_aload_n hK dX0_addBytes_2 rfl 0 rfl ?_
  refine s_rc (fun _ _ eo er => ?_)
  refine s_cIX (fun E4 q5 h6 => ?_) (cx_vH (As := []) (rest := [.int 0, va_rf p1]) hK dyX1_addBytes rfl q1164 fcX1.1 q1165 q1166 q78 q1167 eo er (ct_X1_addBytes hK.1 p0 h) (Nat.le_trans (Nat.le_of_ble_eq_true rfl) hf) (Nat.le_trans (Nat.le_of_ble_eq_true rfl) hlo) (rk_i (rk_a rk_n)) (Nat.le_of_ble_eq_true rfl) dX0_addBytes_3 rfl) (fun v2 h1 => ?_)
  · refine st_ite (fun e8 => ?_) (fun e8 => ?_)
    · subst e8
      refine st_catch hK (tableOf []) ⟨0, 8, 11, 13⟩ (tableOf [(0, 8, 14, 15)]) rfl (fun _ hz => nomatch hz) rfl (by decide) q1138 q711 ?_
      refine s_astore_n (lv' := [(2, va_rf (some q5)), (0, va_rf p0), (1, va_rf p1)]) hK dX0_addBytes_11 rfl (Nat.le_of_ble_eq_true rfl) (flA (pre := [(0, va_rf p0)]) (suf := []) rfl rfl) ?_
      refine s_iconst (v := 1) hK dX0_addBytes_12 rfl ?_
      exact s_iret hK dX0_addBytes_13
    refine st_ite (fun e7 => ?_) (fun e7 => ?_)
    · subst e7
      refine st_catch hK (tableOf [(0, 8, 11, 13)]) ⟨0, 8, 14, 15⟩ (tableOf []) rfl (List.forall_mem_cons.mpr ⟨Or.inr ⟨by decide, "java/lang/IllegalArgumentException", q1138, nc_java_lang_IllegalStateException_java_lang_IllegalArgumentException hK.1⟩, (fun _ hz => nomatch hz)⟩) rfl (by decide) q1139 q326 ?_
      refine s_astore_n (lv' := [(2, va_rf (some q5)), (0, va_rf p0), (1, va_rf p1)]) hK dX0_addBytes_14 rfl (Nat.le_of_ble_eq_true rfl) (flA (pre := [(0, va_rf p0)]) (suf := []) rfl rfl) ?_
      refine s_iconst (v := 2) hK dX0_addBytes_15 rfl ?_
      exact s_iret hK dX0_addBytes_16
    exact st_none
  · refine s_i2l hK dX0_addBytes_6 ?_
    refine s_last hK dX0_addBytes_7 (fun h3 => ?_)
    refine s_goto (tgt := 17) hK dX0_addBytes_8 (by decide) ?_
    refine s_iconst (v := 0) hK dX0_addBytes_17 rfl ?_
    exact s_iret hK dX0_addBytes_18
theorem ct_X0_addBytes {G : GC} {l : Launch} (g : GOK G l) (p0 : Option Nat) (p1 : Option Nat) (h : AH) : CT G l yX0_addBytes (Cond.codeWith yX0_addBytes cX0_addBytes 3 (some (.int)) [(0, 8, 11, 13), (0, 8, 14, 15)]) 9 297 [va_rf p0, va_rf p1] (f_X0_addBytes p0 p1 h) h :=
  CT.ofH g (by decide) (by simp only [ls_a, ls_i, ls_l, ls_n]; decide) (fun K _ hK hf hlo => by simp only [la_a, la_i, la_l, la_n]; exact sm_X0_addBytes hK hf hlo p0 p1 h)
abbrev FR_X0_setByte : Nat := 9
abbrev LO_X0_setByte : Nat := 146
theorem dyX0_setByte : DY yX0_setByte 4 := ⟨⟨by decide, by decide⟩, by decide +kernel⟩
theorem sm_X0_setByte {G : GC} {K : SC} (hK : SOK G K RX0 cX0_setByte 5 (some (.int)) "setByte" (tableOf [(0, 10, 13, 25), (0, 10, 17, 13)])) (hf : FR_X0_setByte ≤ (kR K).frames) (hlo : LO_X0_setByte ≤ (kR K).locals) (p0 : Option Nat) (p1 : Int32) (p2 : Int32) (p3 : Option Nat) (h : AH) : Sim G K 5 (f_X0_setByte p0 p1 p2 p3 h) h 0 [(0, va_rf p0), (1, .int p1), (2, .int p2), (3, va_rf p3)] [] := by
  unfold f_X0_setByte
  refine s_aload_n hK dX0_setByte_0 rfl 3 rfl ?_
  refine s_iconst (v := 0) hK dX0_setByte_1 rfl ?_
  refine s_aload_n hK dX0_setByte_2 rfl 0 rfl ?_
  refine s_iload_n hK dX0_setByte_3 rfl 1 rfl ?_
  refine s_iload_n hK dX0_setByte_4 rfl 2 rfl ?_
  refine s_rc (fun _ _ eo er => ?_)
  refine s_cIX (fun E4 q5 h6 => ?_) (cx_v (As := [.int p1, .int p2]) (rest := [.int 0, va_rf p3]) hK dyX1_setByte rfl q1228 fcX1.1 q1229 q1230 q78 q1231 eo er (ct_X1_setByte hK.1 p0 p1 p2 h) (Nat.le_trans (Nat.le_of_ble_eq_true rfl) hf) (Nat.le_trans (Nat.le_of_ble_eq_true rfl) hlo) (rk_i (rk_a rk_n)) (Nat.le_of_ble_eq_true rfl) dX0_setByte_5 rfl) (fun v2 h1 => ?_)
  · refine st_ite (fun e8 => ?_) (fun e8 => ?_)
    · subst e8
      refine st_catch hK (tableOf []) ⟨0, 10, 13, 25⟩ (tableOf [(0, 10, 17, 13)]) rfl (fun _ hz => nomatch hz) rfl (by decide) q1212 q495 ?_
      refine s_astore (lv' := [(4, va_rf (some q5)), (0, va_rf p0), (1, .int p1), (2, .int p2), (3, va_rf p3)]) hK dX0_setByte_13 (Nat.le_of_ble_eq_true rfl) (flA (pre := [(0, va_rf p0), (1, .int p1), (2, .int p2)]) (suf := []) rfl rfl) ?_
      refine s_iconst (v := 1) hK dX0_setByte_15 rfl ?_
      exact s_iret hK dX0_setByte_16
    refine st_ite (fun e7 => ?_) (fun e7 => ?_)
    · subst e7
      refine st_catch hK (tableOf [(0, 10, 13, 25)]) ⟨0, 10, 17, 13⟩ (tableOf []) rfl (List.forall_mem_cons.mpr ⟨Or.inr ⟨by decide, "java/lang/IndexOutOfBoundsException", q1212, nc_java_lang_IllegalArgumentException_java_lang_IndexOutOfBoundsException hK.1⟩, (fun _ hz => nomatch hz)⟩) rfl (by decide) q1138 q711 ?_
      refine s_astore (lv' := [(4, va_rf (some q5)), (0, va_rf p0), (1, .int p1), (2, .int p2), (3, va_rf p3)]) hK dX0_setByte_17 (Nat.le_of_ble_eq_true rfl) (flA (pre := [(0, va_rf p0), (1, .int p1), (2, .int p2)]) (suf := []) rfl rfl) ?_
      refine s_iconst (v := 2) hK dX0_setByte_19 rfl ?_
      exact s_iret hK dX0_setByte_20
    exact st_none
  · refine s_i2l hK dX0_setByte_8 ?_
    refine s_last hK dX0_setByte_9 (fun h3 => ?_)
    refine s_goto (tgt := 21) hK dX0_setByte_10 (by decide) ?_
    refine s_iconst (v := 0) hK dX0_setByte_21 rfl ?_
    exact s_iret hK dX0_setByte_22
theorem ct_X0_setByte {G : GC} {l : Launch} (g : GOK G l) (p0 : Option Nat) (p1 : Int32) (p2 : Int32) (p3 : Option Nat) (h : AH) : CT G l yX0_setByte (Cond.codeWith yX0_setByte cX0_setByte 5 (some (.int)) [(0, 10, 13, 25), (0, 10, 17, 13)]) 9 146 [va_rf p0, .int p1, .int p2, va_rf p3] (f_X0_setByte p0 p1 p2 p3 h) h :=
  CT.ofH g (by decide) (by simp only [ls_a, ls_i, ls_l, ls_n]; decide) (fun K _ hK hf hlo => by simp only [la_a, la_i, la_l, la_n]; exact sm_X0_setByte hK hf hlo p0 p1 p2 p3 h)
abbrev FR_X0_byteAt : Nat := 9
abbrev LO_X0_byteAt : Nat := 143
theorem dyX0_byteAt : DY yX0_byteAt 3 := ⟨⟨by decide, by decide⟩, by decide +kernel⟩
theorem sm_X0_byteAt {G : GC} {K : SC} (hK : SOK G K RX0 cX0_byteAt 4 (some (.int)) "byteAt" (tableOf [(0, 9, 12, 25)])) (hf : FR_X0_byteAt ≤ (kR K).frames) (hlo : LO_X0_byteAt ≤ (kR K).locals) (p0 : Option Nat) (p1 : Int32) (p2 : Option Nat) (h : AH) : Sim G K 4 (f_X0_byteAt p0 p1 p2 h) h 0 [(0, va_rf p0), (1, .int p1), (2, va_rf p2)] [] := by
  unfold f_X0_byteAt
  refine s_aload_n hK dX0_byteAt_0 rfl 2 rfl ?_
  refine s_iconst (v := 0) hK dX0_byteAt_1 rfl ?_
  refine s_aload_n hK dX0_byteAt_2 rfl 0 rfl ?_
  refine s_iload_n hK dX0_byteAt_3 rfl 1 rfl ?_
  refine s_rc (fun _ _ eo er => ?_)
  refine s_cIX (fun E4 q5 h6 => ?_) (cx_v (As := [.int p1]) (rest := [.int 0, va_rf p2]) hK dyX1_byteAt rfl q1253 fcX1.1 q1254 q1255 q78 q1256 eo er (ct_X1_byteAt hK.1 p0 p1 h) (Nat.le_trans (Nat.le_of_ble_eq_true rfl) hf) (Nat.le_trans (Nat.le_of_ble_eq_true rfl) hlo) (rk_i (rk_a rk_n)) (Nat.le_of_ble_eq_true rfl) dX0_byteAt_4 rfl) (fun v2 h1 => ?_)
  · refine st_ite (fun e7 => ?_) (fun e7 => ?_)
    · subst e7
      refine st_catch hK (tableOf []) ⟨0, 9, 12, 25⟩ (tableOf []) rfl (fun _ hz => nomatch hz) rfl (by decide) q1212 q495 ?_
      refine s_astore_n (lv' := [(3, va_rf (some q5)), (0, va_rf p0), (1, .int p1), (2, va_rf p2)]) hK dX0_byteAt_12 rfl (Nat.le_of_ble_eq_true rfl) (flA (pre := [(0, va_rf p0), (1, .int p1)]) (suf := []) rfl rfl) ?_
      refine s_iconst (v := 1) hK dX0_byteAt_13 rfl ?_
      exact s_iret hK dX0_byteAt_14
    exact st_none
  · refine s_i2l hK dX0_byteAt_7 ?_
    refine s_last hK dX0_byteAt_8 (fun h3 => ?_)
    refine s_goto (tgt := 15) hK dX0_byteAt_9 (by decide) ?_
    refine s_iconst (v := 0) hK dX0_byteAt_15 rfl ?_
    exact s_iret hK dX0_byteAt_16
theorem ct_X0_byteAt {G : GC} {l : Launch} (g : GOK G l) (p0 : Option Nat) (p1 : Int32) (p2 : Option Nat) (h : AH) : CT G l yX0_byteAt (Cond.codeWith yX0_byteAt cX0_byteAt 4 (some (.int)) [(0, 9, 12, 25)]) 9 143 [va_rf p0, .int p1, va_rf p2] (f_X0_byteAt p0 p1 p2 h) h :=
  CT.ofH g (by decide) (by simp only [ls_a, ls_i, ls_l, ls_n]; decide) (fun K _ hK hf hlo => by simp only [la_a, la_i, la_l, la_n]; exact sm_X0_byteAt hK hf hlo p0 p1 p2 h)
abbrev FR_X0_addEntry : Nat := 9
abbrev LO_X0_addEntry : Nat := 144
theorem dyX0_addEntry : DY yX0_addEntry 3 := ⟨⟨by decide, by decide⟩, by decide +kernel⟩
theorem sm_X0_addEntry {G : GC} {K : SC} (hK : SOK G K RX0 cX0_addEntry 4 (some (.int)) "addEntry" (tableOf [(0, 9, 12, 25), (0, 9, 15, 15)])) (hf : FR_X0_addEntry ≤ (kR K).frames) (hlo : LO_X0_addEntry ≤ (kR K).locals) (p0 : Option Nat) (p1 : Int32) (p2 : Option Nat) (h : AH) : Sim G K 4 (f_X0_addEntry p0 p1 p2 h) h 0 [(0, va_rf p0), (1, .int p1), (2, va_rf p2)] [] := by
  unfold f_X0_addEntry
  refine s_aload_n hK dX0_addEntry_0 rfl 2 rfl ?_
  refine s_iconst (v := 0) hK dX0_addEntry_1 rfl ?_
  refine s_aload_n hK dX0_addEntry_2 rfl 0 rfl ?_
  refine s_iload_n hK dX0_addEntry_3 rfl 1 rfl ?_
  refine s_rc (fun _ _ eo er => ?_)
  refine s_cIX (fun E4 q5 h6 => ?_) (cx_v (As := [.int p1]) (rest := [.int 0, va_rf p2]) hK dyX1_addEntry rfl q1260 fcX1.1 q1261 q1262 q78 q1263 eo er (ct_X1_addEntry hK.1 p0 p1 h) (Nat.le_trans (Nat.le_of_ble_eq_true rfl) hf) (Nat.le_trans (Nat.le_of_ble_eq_true rfl) hlo) (rk_i (rk_a rk_n)) (Nat.le_of_ble_eq_true rfl) dX0_addEntry_4 rfl) (fun v2 h1 => ?_)
  · refine st_ite (fun e8 => ?_) (fun e8 => ?_)
    · subst e8
      refine st_catch hK (tableOf []) ⟨0, 9, 12, 25⟩ (tableOf [(0, 9, 15, 15)]) rfl (fun _ hz => nomatch hz) rfl (by decide) q1212 q495 ?_
      refine s_astore_n (lv' := [(3, va_rf (some q5)), (0, va_rf p0), (1, .int p1), (2, va_rf p2)]) hK dX0_addEntry_12 rfl (Nat.le_of_ble_eq_true rfl) (flA (pre := [(0, va_rf p0), (1, .int p1)]) (suf := []) rfl rfl) ?_
      refine s_iconst (v := 1) hK dX0_addEntry_13 rfl ?_
      exact s_iret hK dX0_addEntry_14
    refine st_ite (fun e7 => ?_) (fun e7 => ?_)
    · subst e7
      refine st_catch hK (tableOf [(0, 9, 12, 25)]) ⟨0, 9, 15, 15⟩ (tableOf []) rfl (List.forall_mem_cons.mpr ⟨Or.inr ⟨by decide, "java/lang/IndexOutOfBoundsException", q1212, nc_java_lang_IllegalStateException_java_lang_IndexOutOfBoundsException hK.1⟩, (fun _ hz => nomatch hz)⟩) rfl (by decide) q1139 q326 ?_
      refine s_astore_n (lv' := [(3, va_rf (some q5)), (0, va_rf p0), (1, .int p1), (2, va_rf p2)]) hK dX0_addEntry_15 rfl (Nat.le_of_ble_eq_true rfl) (flA (pre := [(0, va_rf p0), (1, .int p1)]) (suf := []) rfl rfl) ?_
      refine s_iconst (v := 2) hK dX0_addEntry_16 rfl ?_
      exact s_iret hK dX0_addEntry_17
    exact st_none
  · refine s_i2l hK dX0_addEntry_7 ?_
    refine s_last hK dX0_addEntry_8 (fun h3 => ?_)
    refine s_goto (tgt := 18) hK dX0_addEntry_9 (by decide) ?_
    refine s_iconst (v := 0) hK dX0_addEntry_18 rfl ?_
    exact s_iret hK dX0_addEntry_19
theorem ct_X0_addEntry {G : GC} {l : Launch} (g : GOK G l) (p0 : Option Nat) (p1 : Int32) (p2 : Option Nat) (h : AH) : CT G l yX0_addEntry (Cond.codeWith yX0_addEntry cX0_addEntry 4 (some (.int)) [(0, 9, 12, 25), (0, 9, 15, 15)]) 9 144 [va_rf p0, .int p1, va_rf p2] (f_X0_addEntry p0 p1 p2 h) h :=
  CT.ofH g (by decide) (by simp only [ls_a, ls_i, ls_l, ls_n]; decide) (fun K _ hK hf hlo => by simp only [la_a, la_i, la_l, la_n]; exact sm_X0_addEntry hK hf hlo p0 p1 p2 h)
abbrev FR_X0_removeEntry : Nat := 8
abbrev LO_X0_removeEntry : Nat := 143
theorem dyX0_removeEntry : DY yX0_removeEntry 3 := ⟨⟨by decide, by decide⟩, by decide +kernel⟩
theorem sm_X0_removeEntry {G : GC} {K : SC} (hK : SOK G K RX0 cX0_removeEntry 4 (some (.int)) "removeEntry" (tableOf [(0, 9, 12, 25)])) (hf : FR_X0_removeEntry ≤ (kR K).frames) (hlo : LO_X0_removeEntry ≤ (kR K).locals) (p0 : Option Nat) (p1 : Int32) (p2 : Option Nat) (h : AH) : Sim G K 4 (f_X0_removeEntry p0 p1 p2 h) h 0 [(0, va_rf p0), (1, .int p1), (2, va_rf p2)] [] := by
  unfold f_X0_removeEntry
  refine s_aload_n hK dX0_removeEntry_0 rfl 2 rfl ?_
  refine s_iconst (v := 0) hK dX0_removeEntry_1 rfl ?_
  refine s_aload_n hK dX0_removeEntry_2 rfl 0 rfl ?_
  refine s_iload_n hK dX0_removeEntry_3 rfl 1 rfl ?_
  refine s_rc (fun _ _ eo er => ?_)
  refine s_cIX (fun E4 q5 h6 => ?_) (cx_v (As := [.int p1]) (rest := [.int 0, va_rf p2]) hK dyX1_removeEntry rfl q1271 fcX1.1 q1272 q1273 q78 q1274 eo er (ct_X1_removeEntry hK.1 p0 p1 h) (Nat.le_trans (Nat.le_of_ble_eq_true rfl) hf) (Nat.le_trans (Nat.le_of_ble_eq_true rfl) hlo) (rk_i (rk_a rk_n)) (Nat.le_of_ble_eq_true rfl) dX0_removeEntry_4 rfl) (fun v2 h1 => ?_)
  · refine st_ite (fun e7 => ?_) (fun e7 => ?_)
    · subst e7
      refine st_catch hK (tableOf []) ⟨0, 9, 12, 25⟩ (tableOf []) rfl (fun _ hz => nomatch hz) rfl (by decide) q1212 q495 ?_
      refine s_astore_n (lv' := [(3, va_rf (some q5)), (0, va_rf p0), (1, .int p1), (2, va_rf p2)]) hK dX0_removeEntry_12 rfl (Nat.le_of_ble_eq_true rfl) (flA (pre := [(0, va_rf p0), (1, .int p1)]) (suf := []) rfl rfl) ?_
      refine s_iconst (v := 1) hK dX0_removeEntry_13 rfl ?_
      exact s_iret hK dX0_removeEntry_14
    exact st_none
  · refine s_i2l hK dX0_removeEntry_7 ?_
    refine s_last hK dX0_removeEntry_8 (fun h3 => ?_)
    refine s_goto (tgt := 15) hK dX0_removeEntry_9 (by decide) ?_
    refine s_iconst (v := 0) hK dX0_removeEntry_15 rfl ?_
    exact s_iret hK dX0_removeEntry_16
theorem ct_X0_removeEntry {G : GC} {l : Launch} (g : GOK G l) (p0 : Option Nat) (p1 : Int32) (p2 : Option Nat) (h : AH) : CT G l yX0_removeEntry (Cond.codeWith yX0_removeEntry cX0_removeEntry 4 (some (.int)) [(0, 9, 12, 25)]) 8 143 [va_rf p0, .int p1, va_rf p2] (f_X0_removeEntry p0 p1 p2 h) h :=
  CT.ofH g (by decide) (by simp only [ls_a, ls_i, ls_l, ls_n]; decide) (fun K _ hK hf hlo => by simp only [la_a, la_i, la_l, la_n]; exact sm_X0_removeEntry hK hf hlo p0 p1 p2 h)
abbrev FR_X0_setThreshold : Nat := 8
abbrev LO_X0_setThreshold : Nat := 123
theorem dyX0_setThreshold : DY yX0_setThreshold 3 := ⟨⟨by decide, by decide⟩, by decide +kernel⟩
theorem sm_X0_setThreshold {G : GC} {K : SC} (hK : SOK G K RX0 cX0_setThreshold 4 (some (.int)) "setThreshold" (tableOf [(0, 9, 12, 13)])) (hf : FR_X0_setThreshold ≤ (kR K).frames) (hlo : LO_X0_setThreshold ≤ (kR K).locals) (p0 : Option Nat) (p1 : Int32) (p2 : Option Nat) (h : AH) : Sim G K 4 (f_X0_setThreshold p0 p1 p2 h) h 0 [(0, va_rf p0), (1, .int p1), (2, va_rf p2)] [] := by
  unfold f_X0_setThreshold
  refine s_aload_n hK dX0_setThreshold_0 rfl 2 rfl ?_
  refine s_iconst (v := 0) hK dX0_setThreshold_1 rfl ?_
  refine s_aload_n hK dX0_setThreshold_2 rfl 0 rfl ?_
  refine s_iload_n hK dX0_setThreshold_3 rfl 1 rfl ?_
  refine s_rc (fun _ _ eo er => ?_)
  refine s_cIX (fun E4 q5 h6 => ?_) (cx_v (As := [.int p1]) (rest := [.int 0, va_rf p2]) hK dyX1_setThreshold rfl q1278 fcX1.1 q1279 q1280 q78 q1281 eo er (ct_X1_setThreshold hK.1 p0 p1 h) (Nat.le_trans (Nat.le_of_ble_eq_true rfl) hf) (Nat.le_trans (Nat.le_of_ble_eq_true rfl) hlo) (rk_i (rk_a rk_n)) (Nat.le_of_ble_eq_true rfl) dX0_setThreshold_4 rfl) (fun v2 h1 => ?_)
  · refine st_ite (fun e7 => ?_) (fun e7 => ?_)
    · subst e7
      refine st_catch hK (tableOf []) ⟨0, 9, 12, 13⟩ (tableOf []) rfl (fun _ hz => nomatch hz) rfl (by decide) q1138 q711 ?_
      refine s_astore_n (lv' := [(3, va_rf (some q5)), (0, va_rf p0), (1, .int p1), (2, va_rf p2)]) hK dX0_setThreshold_12 rfl (Nat.le_of_ble_eq_true rfl) (flA (pre := [(0, va_rf p0), (1, .int p1)]) (suf := []) rfl rfl) ?_
      refine s_iconst (v := 1) hK dX0_setThreshold_13 rfl ?_
      exact s_iret hK dX0_setThreshold_14
    exact st_none
  · refine s_i2l hK dX0_setThreshold_7 ?_
    refine s_last hK dX0_setThreshold_8 (fun h3 => ?_)
    refine s_goto (tgt := 15) hK dX0_setThreshold_9 (by decide) ?_
    refine s_iconst (v := 0) hK dX0_setThreshold_15 rfl ?_
    exact s_iret hK dX0_setThreshold_16
theorem ct_X0_setThreshold {G : GC} {l : Launch} (g : GOK G l) (p0 : Option Nat) (p1 : Int32) (p2 : Option Nat) (h : AH) : CT G l yX0_setThreshold (Cond.codeWith yX0_setThreshold cX0_setThreshold 4 (some (.int)) [(0, 9, 12, 13)]) 8 123 [va_rf p0, .int p1, va_rf p2] (f_X0_setThreshold p0 p1 p2 h) h :=
  CT.ofH g (by decide) (by simp only [ls_a, ls_i, ls_l, ls_n]; decide) (fun K _ hK hf hlo => by simp only [la_a, la_i, la_l, la_n]; exact sm_X0_setThreshold hK hf hlo p0 p1 p2 h)
abbrev FR_X0_isValid : Nat := 9
abbrev LO_X0_isValid : Nat := 143
theorem dyX0_isValid : DY yX0_isValid 3 := ⟨⟨by decide, by decide⟩, by decide +kernel⟩
theorem sm_X0_isValid {G : GC} {K : SC} (hK : SOK G K RX0 cX0_isValid 4 (some (.int)) "isValid" (tableOf [(0, 16, 19, 25)])) (hf : FR_X0_isValid ≤ (kR K).frames) (hlo : LO_X0_isValid ≤ (kR K).locals) (p0 : Option Nat) (p1 : Int32) (p2 : Option Nat) (h : AH) : Sim G K 4 (f_X0_isValid p0 p1 p2 h) h 0 [(0, va_rf p0), (1, .int p1), (2, va_rf p2)] [] := by
  unfold f_X0_isValid
  refine s_aload_n hK dX0_isValid_0 rfl 2 rfl ?_
  refine s_iconst (v := 0) hK dX0_isValid_1 rfl ?_
  refine s_aload_n hK dX0_isValid_2 rfl 0 rfl ?_
  refine s_iload_n hK dX0_isValid_3 rfl 1 rfl ?_
  refine s_rc (fun _ _ eo er => ?_)
  refine s_cIX (fun E6 q7 h8 => ?_) (cx_v (As := [.int p1]) (rest := [.int 0, va_rf p2]) hK dyX1_isValid rfl q1285 fcX1.1 q1286 q1287 q78 q1288 eo er (ct_X1_isValid hK.1 p0 p1 h) (Nat.le_trans (Nat.le_of_ble_eq_true rfl) hf) (Nat.le_trans (Nat.le_of_ble_eq_true rfl) hlo) (rk_i (rk_a rk_n)) (Nat.le_of_ble_eq_true rfl) dX0_isValid_4 rfl) (fun v2 h1 => ?_)
  · refine st_ite (fun e9 => ?_) (fun e9 => ?_)
    · subst e9
      refine st_catch hK (tableOf []) ⟨0, 16, 19, 25⟩ (tableOf []) rfl (fun _ hz => nomatch hz) rfl (by decide) q1212 q495 ?_
      refine s_astore_n (lv' := [(3, va_rf (some q7)), (0, va_rf p0), (1, .int p1), (2, va_rf p2)]) hK dX0_isValid_19 rfl (Nat.le_of_ble_eq_true rfl) (flA (pre := [(0, va_rf p0), (1, .int p1)]) (suf := []) rfl rfl) ?_
      refine s_iconst (v := 1) hK dX0_isValid_20 rfl ?_
      exact s_iret hK dX0_isValid_21
    exact st_none
  · refine s_if_eq (tgt := 14) hK dX0_isValid_7 (by decide) (fun c5 => ?_) (fun c5 => ?_)
    · refine s_lconst (v := 0) hK dX0_isValid_14 rfl ?_
      refine s_last hK dX0_isValid_15 (fun h3 => ?_)
      refine s_goto (tgt := 22) hK dX0_isValid_16 (by decide) ?_
      refine s_iconst (v := 0) hK dX0_isValid_22 rfl ?_
      exact s_iret hK dX0_isValid_23
    · refine s_lconst (v := 1) hK dX0_isValid_10 rfl ?_
      refine s_goto (tgt := 15) hK dX0_isValid_11 (by decide) ?_
      refine s_last hK dX0_isValid_15 (fun h4 => ?_)
      refine s_goto (tgt := 22) hK dX0_isValid_16 (by decide) ?_
      refine s_iconst (v := 0) hK dX0_isValid_22 rfl ?_
      exact s_iret hK dX0_isValid_23
theorem ct_X0_isValid {G : GC} {l : Launch} (g : GOK G l) (p0 : Option Nat) (p1 : Int32) (p2 : Option Nat) (h : AH) : CT G l yX0_isValid (Cond.codeWith yX0_isValid cX0_isValid 4 (some (.int)) [(0, 16, 19, 25)]) 9 143 [va_rf p0, .int p1, va_rf p2] (f_X0_isValid p0 p1 p2 h) h :=
  CT.ofH g (by decide) (by simp only [ls_a, ls_i, ls_l, ls_n]; decide) (fun K _ hK hf hlo => by simp only [la_a, la_i, la_l, la_n]; exact sm_X0_isValid hK hf hlo p0 p1 p2 h)
abbrev FR_X0_decode : Nat := 9
abbrev LO_X0_decode : Nat := 144
theorem dyX0_decode : DY yX0_decode 4 := ⟨⟨by decide, by decide⟩, by decide +kernel⟩
theorem sm_X0_decode {G : GC} {K : SC} (hK : SOK G K RX0 cX0_decode 5 (some (.int)) "decode" (tableOf [(0, 10, 13, 25), (0, 10, 17, 13), (0, 10, 21, 46)])) (hf : FR_X0_decode ≤ (kR K).frames) (hlo : LO_X0_decode ≤ (kR K).locals) (p0 : Option Nat) (p1 : Int32) (p2 : Int32) (p3 : Option Nat) (h : AH) : Sim G K 5 (f_X0_decode p0 p1 p2 p3 h) h 0 [(0, va_rf p0), (1, .int p1), (2, .int p2), (3, va_rf p3)] [] := by
  unfold f_X0_decode
  refine s_aload_n hK dX0_decode_0 rfl 3 rfl ?_
  refine s_iconst (v := 0) hK dX0_decode_1 rfl ?_
  refine s_aload_n hK dX0_decode_2 rfl 0 rfl ?_
  refine s_iload_n hK dX0_decode_3 rfl 1 rfl ?_
  refine s_iload_n hK dX0_decode_4 rfl 2 rfl ?_
  refine s_rc (fun _ _ eo er => ?_)
  refine s_cIX (fun E4 q5 h6 => ?_) (cx_v (As := [.int p1, .int p2]) (rest := [.int 0, va_rf p3]) hK dyX1_decode rfl q1294 fcX1.1 q1295 q1296 q78 q1297 eo er (ct_X1_decode hK.1 p0 p1 p2 h) (Nat.le_trans (Nat.le_of_ble_eq_true rfl) hf) (Nat.le_trans (Nat.le_of_ble_eq_true rfl) hlo) (rk_i (rk_a rk_n)) (Nat.le_of_ble_eq_true rfl) dX0_decode_5 rfl) (fun v2 h1 => ?_)
  · refine st_ite (fun e9 => ?_) (fun e9 => ?_)
    · subst e9
      refine st_catch hK (tableOf []) ⟨0, 10, 13, 25⟩ (tableOf [(0, 10, 17, 13), (0, 10, 21, 46)]) rfl (fun _ hz => nomatch hz) rfl (by decide) q1212 q495 ?_
      refine s_astore (lv' := [(4, va_rf (some q5)), (0, va_rf p0), (1, .int p1), (2, .int p2), (3, va_rf p3)]) hK dX0_decode_13 (Nat.le_of_ble_eq_true rfl) (flA (pre := [(0, va_rf p0), (1, .int p1), (2, .int p2)]) (suf := []) rfl rfl) ?_
      refine s_iconst (v := 1) hK dX0_decode_15 rfl ?_
      exact s_iret hK dX0_decode_16
    refine st_ite (fun e8 => ?_) (fun e8 => ?_)
    · subst e8
      refine st_catch hK (tableOf [(0, 10, 13, 25)]) ⟨0, 10, 17, 13⟩ (tableOf [(0, 10, 21, 46)]) rfl (List.forall_mem_cons.mpr ⟨Or.inr ⟨by decide, "java/lang/IndexOutOfBoundsException", q1212, nc_java_lang_IllegalArgumentException_java_lang_IndexOutOfBoundsException hK.1⟩, (fun _ hz => nomatch hz)⟩) rfl (by decide) q1138 q711 ?_
      refine s_astore (lv' := [(4, va_rf (some q5)), (0, va_rf p0), (1, .int p1), (2, .int p2), (3, va_rf p3)]) hK dX0_decode_17 (Nat.le_of_ble_eq_true rfl) (flA (pre := [(0, va_rf p0), (1, .int p1), (2, .int p2)]) (suf := []) rfl rfl) ?_
      refine s_iconst (v := 2) hK dX0_decode_19 rfl ?_
      exact s_iret hK dX0_decode_20
    refine st_ite (fun e7 => ?_) (fun e7 => ?_)
    · subst e7
      refine st_catch hK (tableOf [(0, 10, 13, 25), (0, 10, 17, 13)]) ⟨0, 10, 21, 46⟩ (tableOf []) rfl (List.forall_mem_cons.mpr ⟨Or.inr ⟨by decide, "java/lang/IndexOutOfBoundsException", q1212, nc_java_lang_UnsupportedOperationException_java_lang_IndexOutOfBoundsException hK.1⟩, (List.forall_mem_cons.mpr ⟨Or.inr ⟨by decide, "java/lang/IllegalArgumentException", q1138, nc_java_lang_UnsupportedOperationException_java_lang_IllegalArgumentException hK.1⟩, (fun _ hz => nomatch hz)⟩)⟩) rfl (by decide) q1293 q1303 ?_
      refine s_astore (lv' := [(4, va_rf (some q5)), (0, va_rf p0), (1, .int p1), (2, .int p2), (3, va_rf p3)]) hK dX0_decode_21 (Nat.le_of_ble_eq_true rfl) (flA (pre := [(0, va_rf p0), (1, .int p1), (2, .int p2)]) (suf := []) rfl rfl) ?_
      refine s_iconst (v := 3) hK dX0_decode_23 rfl ?_
      exact s_iret hK dX0_decode_24
    exact st_none
  · refine s_i2l hK dX0_decode_8 ?_
    refine s_last hK dX0_decode_9 (fun h3 => ?_)
    refine s_goto (tgt := 25) hK dX0_decode_10 (by decide) ?_
    refine s_iconst (v := 0) hK dX0_decode_25 rfl ?_
    exact s_iret hK dX0_decode_26
theorem ct_X0_decode {G : GC} {l : Launch} (g : GOK G l) (p0 : Option Nat) (p1 : Int32) (p2 : Int32) (p3 : Option Nat) (h : AH) : CT G l yX0_decode (Cond.codeWith yX0_decode cX0_decode 5 (some (.int)) [(0, 10, 13, 25), (0, 10, 17, 13), (0, 10, 21, 46)]) 9 144 [va_rf p0, .int p1, .int p2, va_rf p3] (f_X0_decode p0 p1 p2 p3 h) h :=
  CT.ofH g (by decide) (by simp only [ls_a, ls_i, ls_l, ls_n]; decide) (fun K _ hK hf hlo => by simp only [la_a, la_i, la_l, la_n]; exact sm_X0_decode hK hf hlo p0 p1 p2 p3 h)
abbrev FR_X0_accepted : Nat := 9
abbrev LO_X0_accepted : Nat := 141
theorem dyX0_accepted : DY yX0_accepted 2 := ⟨⟨by decide, by decide⟩, by decide +kernel⟩
theorem sm_X0_accepted {G : GC} {K : SC} (hK : SOK G K RX0 cX0_accepted 3 (some (.int)) "accepted" (tableOf [(0, 8, 11, 15)])) (hf : FR_X0_accepted ≤ (kR K).frames) (hlo : LO_X0_accepted ≤ (kR K).locals) (p0 : Option Nat) (p1 : Option Nat) (h : AH) : Sim G K 3 (f_X0_accepted p0 p1 h) h 0 [(0, va_rf p0), (1, va_rf p1)] [] := by
  unfold f_X0_accepted
  refine s_aload_n hK dX0_accepted_0 rfl 1 rfl ?_
  refine s_iconst (v := 0) hK dX0_accepted_1 rfl ?_
  refine s_aload_n hK dX0_accepted_2 rfl 0 rfl ?_
  refine s_rc (fun _ _ eo er => ?_)
  refine s_cIX (fun E4 q5 h6 => ?_) (cx_v (As := []) (rest := [.int 0, va_rf p1]) hK dyX1_accepted rfl q1330 fcX1.1 q1331 q1332 q78 q1333 eo er (ct_X1_accepted hK.1 p0 h) (Nat.le_trans (Nat.le_of_ble_eq_true rfl) hf) (Nat.le_trans (Nat.le_of_ble_eq_true rfl) hlo) (rk_i (rk_a rk_n)) (Nat.le_of_ble_eq_true rfl) dX0_accepted_3 rfl) (fun v2 h1 => ?_)
  · refine st_ite (fun e7 => ?_) (fun e7 => ?_)
    · subst e7
      refine st_catch hK (tableOf []) ⟨0, 8, 11, 15⟩ (tableOf []) rfl (fun _ hz => nomatch hz) rfl (by decide) q1139 q326 ?_
      refine s_astore_n (lv' := [(2, va_rf (some q5)), (0, va_rf p0), (1, va_rf p1)]) hK dX0_accepted_11 rfl (Nat.le_of_ble_eq_true rfl) (flA (pre := [(0, va_rf p0)]) (suf := []) rfl rfl) ?_
      refine s_iconst (v := 1) hK dX0_accepted_12 rfl ?_
      exact s_iret hK dX0_accepted_13
    exact st_none
  · refine s_i2l hK dX0_accepted_6 ?_
    refine s_last hK dX0_accepted_7 (fun h3 => ?_)
    refine s_goto (tgt := 14) hK dX0_accepted_8 (by decide) ?_
    refine s_iconst (v := 0) hK dX0_accepted_14 rfl ?_
    exact s_iret hK dX0_accepted_15
theorem ct_X0_accepted {G : GC} {l : Launch} (g : GOK G l) (p0 : Option Nat) (p1 : Option Nat) (h : AH) : CT G l yX0_accepted (Cond.codeWith yX0_accepted cX0_accepted 3 (some (.int)) [(0, 8, 11, 15)]) 9 141 [va_rf p0, va_rf p1] (f_X0_accepted p0 p1 h) h :=
  CT.ofH g (by decide) (by simp only [ls_a, ls_i, ls_l, ls_n]; decide) (fun K _ hK hf hlo => by simp only [la_a, la_i, la_l, la_n]; exact sm_X0_accepted hK hf hlo p0 p1 h)
abbrev FR_X0_acceptedAt : Nat := 9
abbrev LO_X0_acceptedAt : Nat := 145
theorem dyX0_acceptedAt : DY yX0_acceptedAt 3 := ⟨⟨by decide, by decide⟩, by decide +kernel⟩
theorem sm_X0_acceptedAt {G : GC} {K : SC} (hK : SOK G K RX0 cX0_acceptedAt 4 (some (.int)) "acceptedAt" (tableOf [(0, 9, 12, 15), (0, 9, 15, 25)])) (hf : FR_X0_acceptedAt ≤ (kR K).frames) (hlo : LO_X0_acceptedAt ≤ (kR K).locals) (p0 : Option Nat) (p1 : Int32) (p2 : Option Nat) (h : AH) : Sim G K 4 (f_X0_acceptedAt p0 p1 p2 h) h 0 [(0, va_rf p0), (1, .int p1), (2, va_rf p2)] [] := by
  unfold f_X0_acceptedAt
  refine s_aload_n hK dX0_acceptedAt_0 rfl 2 rfl ?_
  refine s_iconst (v := 0) hK dX0_acceptedAt_1 rfl ?_
  refine s_aload_n hK dX0_acceptedAt_2 rfl 0 rfl ?_
  refine s_iload_n hK dX0_acceptedAt_3 rfl 1 rfl ?_
  refine s_rc (fun _ _ eo er => ?_)
  refine s_cIX (fun E4 q5 h6 => ?_) (cx_v (As := [.int p1]) (rest := [.int 0, va_rf p2]) hK dyX1_acceptedAt rfl q1341 fcX1.1 q1342 q1343 q78 q1344 eo er (ct_X1_acceptedAt hK.1 p0 p1 h) (Nat.le_trans (Nat.le_of_ble_eq_true rfl) hf) (Nat.le_trans (Nat.le_of_ble_eq_true rfl) hlo) (rk_i (rk_a rk_n)) (Nat.le_of_ble_eq_true rfl) dX0_acceptedAt_4 rfl) (fun v2 h1 => ?_)
  · refine st_ite (fun e8 => ?_) (fun e8 => ?_)
    · subst e8
      refine st_catch hK (tableOf []) ⟨0, 9, 12, 15⟩ (tableOf [(0, 9, 15, 25)]) rfl (fun _ hz => nomatch hz) rfl (by decide) q1139 q326 ?_
      refine s_astore_n (lv' := [(3, va_rf (some q5)), (0, va_rf p0), (1, .int p1), (2, va_rf p2)]) hK dX0_acceptedAt_12 rfl (Nat.le_of_ble_eq_true rfl) (flA (pre := [(0, va_rf p0), (1, .int p1)]) (suf := []) rfl rfl) ?_
      refine s_iconst (v := 1) hK dX0_acceptedAt_13 rfl ?_
      exact s_iret hK dX0_acceptedAt_14
    refine st_ite (fun e7 => ?_) (fun e7 => ?_)
    · subst e7
      refine st_catch hK (tableOf [(0, 9, 12, 15)]) ⟨0, 9, 15, 25⟩ (tableOf []) rfl (List.forall_mem_cons.mpr ⟨Or.inr ⟨by decide, "java/lang/IllegalStateException", q1139, nc_java_lang_IndexOutOfBoundsException_java_lang_IllegalStateException hK.1⟩, (fun _ hz => nomatch hz)⟩) rfl (by decide) q1212 q495 ?_
      refine s_astore_n (lv' := [(3, va_rf (some q5)), (0, va_rf p0), (1, .int p1), (2, va_rf p2)]) hK dX0_acceptedAt_15 rfl (Nat.le_of_ble_eq_true rfl) (flA (pre := [(0, va_rf p0), (1, .int p1)]) (suf := []) rfl rfl) ?_
      refine s_iconst (v := 2) hK dX0_acceptedAt_16 rfl ?_
      exact s_iret hK dX0_acceptedAt_17
    exact st_none
  · refine s_i2l hK dX0_acceptedAt_7 ?_
    refine s_last hK dX0_acceptedAt_8 (fun h3 => ?_)
    refine s_goto (tgt := 18) hK dX0_acceptedAt_9 (by decide) ?_
    refine s_iconst (v := 0) hK dX0_acceptedAt_18 rfl ?_
    exact s_iret hK dX0_acceptedAt_19
theorem ct_X0_acceptedAt {G : GC} {l : Launch} (g : GOK G l) (p0 : Option Nat) (p1 : Int32) (p2 : Option Nat) (h : AH) : CT G l yX0_acceptedAt (Cond.codeWith yX0_acceptedAt cX0_acceptedAt 4 (some (.int)) [(0, 9, 12, 15), (0, 9, 15, 25)]) 9 145 [va_rf p0, .int p1, va_rf p2] (f_X0_acceptedAt p0 p1 p2 h) h :=
  CT.ofH g (by decide) (by simp only [ls_a, ls_i, ls_l, ls_n]; decide) (fun K _ hK hf hlo => by simp only [la_a, la_i, la_l, la_n]; exact sm_X0_acceptedAt hK hf hlo p0 p1 p2 h)
abbrev FR_X0_use : Nat := 9
abbrev LO_X0_use : Nat := 144
theorem dyX0_use : DY yX0_use 3 := ⟨⟨by decide, by decide⟩, by decide +kernel⟩
theorem sm_X0_use {G : GC} {K : SC} (hK : SOK G K RX0 cX0_use 4 (some (.int)) "use" (tableOf [(0, 9, 12, 15), (0, 9, 15, 25)])) (hf : FR_X0_use ≤ (kR K).frames) (hlo : LO_X0_use ≤ (kR K).locals) (p0 : Option Nat) (p1 : Int32) (p2 : Option Nat) (h : AH) : Sim G K 4 (f_X0_use p0 p1 p2 h) h 0 [(0, va_rf p0), (1, .int p1), (2, va_rf p2)] [] := by
  unfold f_X0_use
  refine s_aload_n hK dX0_use_0 rfl 2 rfl ?_
  refine s_iconst (v := 0) hK dX0_use_1 rfl ?_
  refine s_aload_n hK dX0_use_2 rfl 0 rfl ?_
  refine s_iload_n hK dX0_use_3 rfl 1 rfl ?_
  refine s_rc (fun _ _ eo er => ?_)
  refine s_cIX (fun E4 q5 h6 => ?_) (cx_v (As := [.int p1]) (rest := [.int 0, va_rf p2]) hK dyX1_use rfl q1349 fcX1.1 q1350 q1351 q78 q1352 eo er (ct_X1_use hK.1 p0 p1 h) (Nat.le_trans (Nat.le_of_ble_eq_true rfl) hf) (Nat.le_trans (Nat.le_of_ble_eq_true rfl) hlo) (rk_i (rk_a rk_n)) (Nat.le_of_ble_eq_true rfl) dX0_use_4 rfl) (fun v2 h1 => ?_)
  · refine st_ite (fun e8 => ?_) (fun e8 => ?_)
    · subst e8
      refine st_catch hK (tableOf []) ⟨0, 9, 12, 15⟩ (tableOf [(0, 9, 15, 25)]) rfl (fun _ hz => nomatch hz) rfl (by decide) q1139 q326 ?_
      refine s_astore_n (lv' := [(3, va_rf (some q5)), (0, va_rf p0), (1, .int p1), (2, va_rf p2)]) hK dX0_use_12 rfl (Nat.le_of_ble_eq_true rfl) (flA (pre := [(0, va_rf p0), (1, .int p1)]) (suf := []) rfl rfl) ?_
      refine s_iconst (v := 1) hK dX0_use_13 rfl ?_
      exact s_iret hK dX0_use_14
    refine st_ite (fun e7 => ?_) (fun e7 => ?_)
    · subst e7
      refine st_catch hK (tableOf [(0, 9, 12, 15)]) ⟨0, 9, 15, 25⟩ (tableOf []) rfl (List.forall_mem_cons.mpr ⟨Or.inr ⟨by decide, "java/lang/IllegalStateException", q1139, nc_java_lang_IndexOutOfBoundsException_java_lang_IllegalStateException hK.1⟩, (fun _ hz => nomatch hz)⟩) rfl (by decide) q1212 q495 ?_
      refine s_astore_n (lv' := [(3, va_rf (some q5)), (0, va_rf p0), (1, .int p1), (2, va_rf p2)]) hK dX0_use_15 rfl (Nat.le_of_ble_eq_true rfl) (flA (pre := [(0, va_rf p0), (1, .int p1)]) (suf := []) rfl rfl) ?_
      refine s_iconst (v := 2) hK dX0_use_16 rfl ?_
      exact s_iret hK dX0_use_17
    exact st_none
  · refine s_i2l hK dX0_use_7 ?_
    refine s_last hK dX0_use_8 (fun h3 => ?_)
    refine s_goto (tgt := 18) hK dX0_use_9 (by decide) ?_
    refine s_iconst (v := 0) hK dX0_use_18 rfl ?_
    exact s_iret hK dX0_use_19
theorem ct_X0_use {G : GC} {l : Launch} (g : GOK G l) (p0 : Option Nat) (p1 : Int32) (p2 : Option Nat) (h : AH) : CT G l yX0_use (Cond.codeWith yX0_use cX0_use 4 (some (.int)) [(0, 9, 12, 15), (0, 9, 15, 25)]) 9 144 [va_rf p0, .int p1, va_rf p2] (f_X0_use p0 p1 p2 h) h :=
  CT.ofH g (by decide) (by simp only [ls_a, ls_i, ls_l, ls_n]; decide) (fun K _ hK hf hlo => by simp only [la_a, la_i, la_l, la_n]; exact sm_X0_use hK hf hlo p0 p1 p2 h)
abbrev FR_X0_conflictCount : Nat := 9
abbrev LO_X0_conflictCount : Nat := 141
theorem dyX0_conflictCount : DY yX0_conflictCount 2 := ⟨⟨by decide, by decide⟩, by decide +kernel⟩
theorem sm_X0_conflictCount {G : GC} {K : SC} (hK : SOK G K RX0 cX0_conflictCount 3 (some (.int)) "conflictCount" (tableOf [(0, 8, 11, 15)])) (hf : FR_X0_conflictCount ≤ (kR K).frames) (hlo : LO_X0_conflictCount ≤ (kR K).locals) (p0 : Option Nat) (p1 : Option Nat) (h : AH) : Sim G K 3 (f_X0_conflictCount p0 p1 h) h 0 [(0, va_rf p0), (1, va_rf p1)] [] := by
  unfold f_X0_conflictCount
  refine s_aload_n hK dX0_conflictCount_0 rfl 1 rfl ?_
  refine s_iconst (v := 0) hK dX0_conflictCount_1 rfl ?_
  refine s_aload_n hK dX0_conflictCount_2 rfl 0 rfl ?_
  refine s_rc (fun _ _ eo er => ?_)
  refine s_cIX (fun E4 q5 h6 => ?_) (cx_v (As := []) (rest := [.int 0, va_rf p1]) hK dyX1_conflictCount rfl q1356 fcX1.1 q1357 q1358 q78 q1359 eo er (ct_X1_conflictCount hK.1 p0 h) (Nat.le_trans (Nat.le_of_ble_eq_true rfl) hf) (Nat.le_trans (Nat.le_of_ble_eq_true rfl) hlo) (rk_i (rk_a rk_n)) (Nat.le_of_ble_eq_true rfl) dX0_conflictCount_3 rfl) (fun v2 h1 => ?_)
  · refine st_ite (fun e7 => ?_) (fun e7 => ?_)
    · subst e7
      refine st_catch hK (tableOf []) ⟨0, 8, 11, 15⟩ (tableOf []) rfl (fun _ hz => nomatch hz) rfl (by decide) q1139 q326 ?_
      refine s_astore_n (lv' := [(2, va_rf (some q5)), (0, va_rf p0), (1, va_rf p1)]) hK dX0_conflictCount_11 rfl (Nat.le_of_ble_eq_true rfl) (flA (pre := [(0, va_rf p0)]) (suf := []) rfl rfl) ?_
      refine s_iconst (v := 1) hK dX0_conflictCount_12 rfl ?_
      exact s_iret hK dX0_conflictCount_13
    exact st_none
  · refine s_i2l hK dX0_conflictCount_6 ?_
    refine s_last hK dX0_conflictCount_7 (fun h3 => ?_)
    refine s_goto (tgt := 14) hK dX0_conflictCount_8 (by decide) ?_
    refine s_iconst (v := 0) hK dX0_conflictCount_14 rfl ?_
    exact s_iret hK dX0_conflictCount_15
theorem ct_X0_conflictCount {G : GC} {l : Launch} (g : GOK G l) (p0 : Option Nat) (p1 : Option Nat) (h : AH) : CT G l yX0_conflictCount (Cond.codeWith yX0_conflictCount cX0_conflictCount 3 (some (.int)) [(0, 8, 11, 15)]) 9 141 [va_rf p0, va_rf p1] (f_X0_conflictCount p0 p1 h) h :=
  CT.ofH g (by decide) (by simp only [ls_a, ls_i, ls_l, ls_n]; decide) (fun K _ hK hf hlo => by simp only [la_a, la_i, la_l, la_n]; exact sm_X0_conflictCount hK hf hlo p0 p1 h)
abbrev FR_X0_conflict : Nat := 9
abbrev LO_X0_conflict : Nat := 143
theorem dyX0_conflict : DY yX0_conflict 3 := ⟨⟨by decide, by decide⟩, by decide +kernel⟩
theorem sm_X0_conflict {G : GC} {K : SC} (hK : SOK G K RX0 cX0_conflict 4 (some (.int)) "conflict" (tableOf [(0, 9, 12, 15), (0, 9, 15, 25)])) (hf : FR_X0_conflict ≤ (kR K).frames) (hlo : LO_X0_conflict ≤ (kR K).locals) (p0 : Option Nat) (p1 : Int32) (p2 : Option Nat) (h : AH) : Sim G K 4 (f_X0_conflict p0 p1 p2 h) h 0 [(0, va_rf p0), (1, .int p1), (2, va_rf p2)] [] := by
  unfold f_X0_conflict
  refine s_aload_n hK dX0_conflict_0 rfl 2 rfl ?_
  refine s_iconst (v := 0) hK dX0_conflict_1 rfl ?_
  refine s_aload_n hK dX0_conflict_2 rfl 0 rfl ?_
  refine s_iload_n hK dX0_conflict_3 rfl 1 rfl ?_
  refine s_rc (fun _ _ eo er => ?_)
  refine s_cIX (fun E4 q5 h6 => ?_) (cx_v (As := [.int p1]) (rest := [.int 0, va_rf p2]) hK dyX1_conflict rfl q1368 fcX1.1 q1369 q1370 q78 q1371 eo er (ct_X1_conflict hK.1 p0 p1 h) (Nat.le_trans (Nat.le_of_ble_eq_true rfl) hf) (Nat.le_trans (Nat.le_of_ble_eq_true rfl) hlo) (rk_i (rk_a rk_n)) (Nat.le_of_ble_eq_true rfl) dX0_conflict_4 rfl) (fun v2 h1 => ?_)
  · refine st_ite (fun e8 => ?_) (fun e8 => ?_)
    · subst e8
      refine st_catch hK (tableOf []) ⟨0, 9, 12, 15⟩ (tableOf [(0, 9, 15, 25)]) rfl (fun _ hz => nomatch hz) rfl (by decide) q1139 q326 ?_
      refine s_astore_n (lv' := [(3, va_rf (some q5)), (0, va_rf p0), (1, .int p1), (2, va_rf p2)]) hK dX0_conflict_12 rfl (Nat.le_of_ble_eq_true rfl) (flA (pre := [(0, va_rf p0), (1, .int p1)]) (suf := []) rfl rfl) ?_
      refine s_iconst (v := 1) hK dX0_conflict_13 rfl ?_
      exact s_iret hK dX0_conflict_14
    refine st_ite (fun e7 => ?_) (fun e7 => ?_)
    · subst e7
      refine st_catch hK (tableOf [(0, 9, 12, 15)]) ⟨0, 9, 15, 25⟩ (tableOf []) rfl (List.forall_mem_cons.mpr ⟨Or.inr ⟨by decide, "java/lang/IllegalStateException", q1139, nc_java_lang_IndexOutOfBoundsException_java_lang_IllegalStateException hK.1⟩, (fun _ hz => nomatch hz)⟩) rfl (by decide) q1212 q495 ?_
      refine s_astore_n (lv' := [(3, va_rf (some q5)), (0, va_rf p0), (1, .int p1), (2, va_rf p2)]) hK dX0_conflict_15 rfl (Nat.le_of_ble_eq_true rfl) (flA (pre := [(0, va_rf p0), (1, .int p1)]) (suf := []) rfl rfl) ?_
      refine s_iconst (v := 2) hK dX0_conflict_16 rfl ?_
      exact s_iret hK dX0_conflict_17
    exact st_none
  · refine s_i2l hK dX0_conflict_7 ?_
    refine s_last hK dX0_conflict_8 (fun h3 => ?_)
    refine s_goto (tgt := 18) hK dX0_conflict_9 (by decide) ?_
    refine s_iconst (v := 0) hK dX0_conflict_18 rfl ?_
    exact s_iret hK dX0_conflict_19
theorem ct_X0_conflict {G : GC} {l : Launch} (g : GOK G l) (p0 : Option Nat) (p1 : Int32) (p2 : Option Nat) (h : AH) : CT G l yX0_conflict (Cond.codeWith yX0_conflict cX0_conflict 4 (some (.int)) [(0, 9, 12, 15), (0, 9, 15, 25)]) 9 143 [va_rf p0, .int p1, va_rf p2] (f_X0_conflict p0 p1 p2 h) h :=
  CT.ofH g (by decide) (by simp only [ls_a, ls_i, ls_l, ls_n]; decide) (fun K _ hK hf hlo => by simp only [la_a, la_i, la_l, la_n]; exact sm_X0_conflict hK hf hlo p0 p1 p2 h)
abbrev FR_X0_badTargets : Nat := 9
abbrev LO_X0_badTargets : Nat := 141
theorem dyX0_badTargets : DY yX0_badTargets 2 := ⟨⟨by decide, by decide⟩, by decide +kernel⟩
theorem sm_X0_badTargets {G : GC} {K : SC} (hK : SOK G K RX0 cX0_badTargets 3 (some (.int)) "badTargets" (tableOf [(0, 8, 11, 15)])) (hf : FR_X0_badTargets ≤ (kR K).frames) (hlo : LO_X0_badTargets ≤ (kR K).locals) (p0 : Option Nat) (p1 : Option Nat) (h : AH) : Sim G K 3 (f_X0_badTargets p0 p1 h) h 0 [(0, va_rf p0), (1, va_rf p1)] [] := by
  unfold f_X0_badTargets
  refine s_aload_n hK dX0_badTargets_0 rfl 1 rfl ?_
  refine s_iconst (v := 0) hK dX0_badTargets_1 rfl ?_
  refine s_aload_n hK dX0_badTargets_2 rfl 0 rfl ?_
  refine s_rc (fun _ _ eo er => ?_)
  refine s_cIX (fun E4 q5 h6 => ?_) (cx_v (As := []) (rest := [.int 0, va_rf p1]) hK dyX1_badTargets rfl q1382 fcX1.1 q1383 q1384 q78 q1385 eo er (ct_X1_badTargets hK.1 p0 h) (Nat.le_trans (Nat.le_of_ble_eq_true rfl) hf) (Nat.le_trans (Nat.le_of_ble_eq_true rfl) hlo) (rk_i (rk_a rk_n)) (Nat.le_of_ble_eq_true rfl) dX0_badTargets_3 rfl) (fun v2 h1 => ?_)
  · refine st_ite (fun e7 => ?_) (fun e7 => ?_)
    · subst e7
      refine st_catch hK (tableOf []) ⟨0, 8, 11, 15⟩ (tableOf []) rfl (fun _ hz => nomatch hz) rfl (by decide) q1139 q326 ?_
      refine s_astore_n (lv' := [(2, va_rf (some q5)), (0, va_rf p0), (1, va_rf p1)]) hK dX0_badTargets_11 rfl (Nat.le_of_ble_eq_true rfl) (flA (pre := [(0, va_rf p0)]) (suf := []) rfl rfl) ?_
      refine s_iconst (v := 1) hK dX0_badTargets_12 rfl ?_
      exact s_iret hK dX0_badTargets_13
    exact st_none
  · refine s_i2l hK dX0_badTargets_6 ?_
    refine s_last hK dX0_badTargets_7 (fun h3 => ?_)
    refine s_goto (tgt := 14) hK dX0_badTargets_8 (by decide) ?_
    refine s_iconst (v := 0) hK dX0_badTargets_14 rfl ?_
    exact s_iret hK dX0_badTargets_15
theorem ct_X0_badTargets {G : GC} {l : Launch} (g : GOK G l) (p0 : Option Nat) (p1 : Option Nat) (h : AH) : CT G l yX0_badTargets (Cond.codeWith yX0_badTargets cX0_badTargets 3 (some (.int)) [(0, 8, 11, 15)]) 9 141 [va_rf p0, va_rf p1] (f_X0_badTargets p0 p1 h) h :=
  CT.ofH g (by decide) (by simp only [ls_a, ls_i, ls_l, ls_n]; decide) (fun K _ hK hf hlo => by simp only [la_a, la_i, la_l, la_n]; exact sm_X0_badTargets hK hf hlo p0 p1 h)
abbrev FR_X0_tableCount : Nat := 9
abbrev LO_X0_tableCount : Nat := 141
theorem dyX0_tableCount : DY yX0_tableCount 2 := ⟨⟨by decide, by decide⟩, by decide +kernel⟩
theorem sm_X0_tableCount {G : GC} {K : SC} (hK : SOK G K RX0 cX0_tableCount 3 (some (.int)) "tableCount" (tableOf [(0, 8, 11, 15)])) (hf : FR_X0_tableCount ≤ (kR K).frames) (hlo : LO_X0_tableCount ≤ (kR K).locals) (p0 : Option Nat) (p1 : Option Nat) (h : AH) : Sim G K 3 (f_X0_tableCount p0 p1 h) h 0 [(0, va_rf p0), (1, va_rf p1)] [] := by
  unfold f_X0_tableCount
  refine s_aload_n hK dX0_tableCount_0 rfl 1 rfl ?_
  refine s_iconst (v := 0) hK dX0_tableCount_1 rfl ?_
  refine s_aload_n hK dX0_tableCount_2 rfl 0 rfl ?_
  refine s_rc (fun _ _ eo er => ?_)
  refine s_cIX (fun E4 q5 h6 => ?_) (cx_v (As := []) (rest := [.int 0, va_rf p1]) hK dyX1_tableCount rfl q1389 fcX1.1 q1390 q1391 q78 q1392 eo er (ct_X1_tableCount hK.1 p0 h) (Nat.le_trans (Nat.le_of_ble_eq_true rfl) hf) (Nat.le_trans (Nat.le_of_ble_eq_true rfl) hlo) (rk_i (rk_a rk_n)) (Nat.le_of_ble_eq_true rfl) dX0_tableCount_3 rfl) (fun v2 h1 => ?_)
  · refine st_ite (fun e7 => ?_) (fun e7 => ?_)
    · subst e7
      refine st_catch hK (tableOf []) ⟨0, 8, 11, 15⟩ (tableOf []) rfl (fun _ hz => nomatch hz) rfl (by decide) q1139 q326 ?_
      refine s_astore_n (lv' := [(2, va_rf (some q5)), (0, va_rf p0), (1, va_rf p1)]) hK dX0_tableCount_11 rfl (Nat.le_of_ble_eq_true rfl) (flA (pre := [(0, va_rf p0)]) (suf := []) rfl rfl) ?_
      refine s_iconst (v := 1) hK dX0_tableCount_12 rfl ?_
      exact s_iret hK dX0_tableCount_13
    exact st_none
  · refine s_i2l hK dX0_tableCount_6 ?_
    refine s_last hK dX0_tableCount_7 (fun h3 => ?_)
    refine s_goto (tgt := 14) hK dX0_tableCount_8 (by decide) ?_
    refine s_iconst (v := 0) hK dX0_tableCount_14 rfl ?_
    exact s_iret hK dX0_tableCount_15
theorem ct_X0_tableCount {G : GC} {l : Launch} (g : GOK G l) (p0 : Option Nat) (p1 : Option Nat) (h : AH) : CT G l yX0_tableCount (Cond.codeWith yX0_tableCount cX0_tableCount 3 (some (.int)) [(0, 8, 11, 15)]) 9 141 [va_rf p0, va_rf p1] (f_X0_tableCount p0 p1 h) h :=
  CT.ofH g (by decide) (by simp only [ls_a, ls_i, ls_l, ls_n]; decide) (fun K _ hK hf hlo => by simp only [la_a, la_i, la_l, la_n]; exact sm_X0_tableCount hK hf hlo p0 p1 h)
abbrev FR_X0_table : Nat := 9
abbrev LO_X0_table : Nat := 146
theorem dyX0_table : DY yX0_table 4 := ⟨⟨by decide, by decide⟩, by decide +kernel⟩
theorem sm_X0_table {G : GC} {K : SC} (hK : SOK G K RX0 cX0_table 5 (some (.int)) "table" (tableOf [(0, 10, 13, 15), (0, 10, 17, 25), (0, 10, 21, 13)])) (hf : FR_X0_table ≤ (kR K).frames) (hlo : LO_X0_table ≤ (kR K).locals) (p0 : Option Nat) (p1 : Int32) (p2 : Int32) (p3 : Option Nat) (h : AH) : Sim G K 5 (f_X0_table p0 p1 p2 p3 h) h 0 [(0, va_rf p0), (1, .int p1), (2, .int p2), (3, va_rf p3)] [] := by
  unfold f_X0_table
  refine s_aload_n hK dX0_table_0 rfl 3 rfl ?_
  refine s_iconst (v := 0) hK dX0_table_1 rfl ?_
  refine s_aload_n hK dX0_table_2 rfl 0 rfl ?_
  refine s_iload_n hK dX0_table_3 rfl 1 rfl ?_
  refine s_iload_n hK dX0_table_4 rfl 2 rfl ?_
  refine s_rc (fun _ _ eo er => ?_)
  refine s_cIX (fun E4 q5 h6 => ?_) (cx_v (As := [.int p1, .int p2]) (rest := [.int 0, va_rf p3]) hK dyX1_table rfl q1396 fcX1.1 q1397 q1398 q78 q1399 eo er (ct_X1_table hK.1 p0 p1 p2 h) (Nat.le_trans (Nat.le_of_ble_eq_true rfl) hf) (Nat.le_trans (Nat.le_of_ble_eq_true rfl) hlo) (rk_i (rk_a rk_n)) (Nat.le_of_ble_eq_true rfl) dX0_table_5 rfl) (fun v2 h1 => ?_)
  · refine st_ite (fun e9 => ?_) (fun e9 => ?_)
    · subst e9
      refine st_catch hK (tableOf []) ⟨0, 10, 13, 15⟩ (tableOf [(0, 10, 17, 25), (0, 10, 21, 13)]) rfl (fun _ hz => nomatch hz) rfl (by decide) q1139 q326 ?_
      refine s_astore (lv' := [(4, va_rf (some q5)), (0, va_rf p0), (1, .int p1), (2, .int p2), (3, va_rf p3)]) hK dX0_table_13 (Nat.le_of_ble_eq_true rfl) (flA (pre := [(0, va_rf p0), (1, .int p1), (2, .int p2)]) (suf := []) rfl rfl) ?_
      refine s_iconst (v := 1) hK dX0_table_15 rfl ?_
      exact s_iret hK dX0_table_16
    refine st_ite (fun e8 => ?_) (fun e8 => ?_)
    · subst e8
      refine st_catch hK (tableOf [(0, 10, 13, 15)]) ⟨0, 10, 17, 25⟩ (tableOf [(0, 10, 21, 13)]) rfl (List.forall_mem_cons.mpr ⟨Or.inr ⟨by decide, "java/lang/IllegalStateException", q1139, nc_java_lang_IndexOutOfBoundsException_java_lang_IllegalStateException hK.1⟩, (fun _ hz => nomatch hz)⟩) rfl (by decide) q1212 q495 ?_
      refine s_astore (lv' := [(4, va_rf (some q5)), (0, va_rf p0), (1, .int p1), (2, .int p2), (3, va_rf p3)]) hK dX0_table_17 (Nat.le_of_ble_eq_true rfl) (flA (pre := [(0, va_rf p0), (1, .int p1), (2, .int p2)]) (suf := []) rfl rfl) ?_
      refine s_iconst (v := 2) hK dX0_table_19 rfl ?_
      exact s_iret hK dX0_table_20
    refine st_ite (fun e7 => ?_) (fun e7 => ?_)
    · subst e7
      refine st_catch hK (tableOf [(0, 10, 13, 15), (0, 10, 17, 25)]) ⟨0, 10, 21, 13⟩ (tableOf []) rfl (List.forall_mem_cons.mpr ⟨Or.inr ⟨by decide, "java/lang/IllegalStateException", q1139, nc_java_lang_IllegalArgumentException_java_lang_IllegalStateException hK.1⟩, (List.forall_mem_cons.mpr ⟨Or.inr ⟨by decide, "java/lang/IndexOutOfBoundsException", q1212, nc_java_lang_IllegalArgumentException_java_lang_IndexOutOfBoundsException hK.1⟩, (fun _ hz => nomatch hz)⟩)⟩) rfl (by decide) q1138 q711 ?_
      refine s_astore (lv' := [(4, va_rf (some q5)), (0, va_rf p0), (1, .int p1), (2, .int p2), (3, va_rf p3)]) hK dX0_table_21 (Nat.le_of_ble_eq_true rfl) (flA (pre := [(0, va_rf p0), (1, .int p1), (2, .int p2)]) (suf := []) rfl rfl) ?_
      refine s_iconst (v := 3) hK dX0_table_23 rfl ?_
      exact s_iret hK dX0_table_24
    exact st_none
  · refine s_i2l hK dX0_table_8 ?_
    refine s_last hK dX0_table_9 (fun h3 => ?_)
    refine s_goto (tgt := 25) hK dX0_table_10 (by decide) ?_
    refine s_iconst (v := 0) hK dX0_table_25 rfl ?_
    exact s_iret hK dX0_table_26
theorem ct_X0_table {G : GC} {l : Launch} (g : GOK G l) (p0 : Option Nat) (p1 : Int32) (p2 : Int32) (p3 : Option Nat) (h : AH) : CT G l yX0_table (Cond.codeWith yX0_table cX0_table 5 (some (.int)) [(0, 10, 13, 15), (0, 10, 17, 25), (0, 10, 21, 13)]) 9 146 [va_rf p0, .int p1, .int p2, va_rf p3] (f_X0_table p0 p1 p2 p3 h) h :=
  CT.ofH g (by decide) (by simp only [ls_a, ls_i, ls_l, ls_n]; decide) (fun K _ hK hf hlo => by simp only [la_a, la_i, la_l, la_n]; exact sm_X0_table hK hf hlo p0 p1 p2 p3 h)
abbrev FR_X0_tableEntry : Nat := 10
abbrev LO_X0_tableEntry : Nat := 166
theorem dyX0_tableEntry : DY yX0_tableEntry 4 := ⟨⟨by decide, by decide⟩, by decide +kernel⟩
theorem sm_X0_tableEntry {G : GC} {K : SC} (hK : SOK G K RX0 cX0_tableEntry 5 (some (.int)) "tableEntry" (tableOf [(0, 10, 13, 15), (0, 10, 17, 25)])) (hf : FR_X0_tableEntry ≤ (kR K).frames) (hlo : LO_X0_tableEntry ≤ (kR K).locals) (p0 : Option Nat) (p1 : Int32) (p2 : Int32) (p3 : Option Nat) (h : AH) : Sim G K 5 (f_X0_tableEntry p0 p1 p2 p3 h) h 0 [(0, va_rf p0), (1, .int p1), (2, .int p2), (3, va_rf p3)] [] := by
  unfold f_X0_tableEntry
  refine s_aload_n hK dX0_tableEntry_0 rfl 3 rfl ?_
  refine s_iconst (v := 0) hK dX0_tableEntry_1 rfl ?_
  refine s_aload_n hK dX0_tableEntry_2 rfl 0 rfl ?_
  refine s_iload_n hK dX0_tableEntry_3 rfl 1 rfl ?_
  refine s_iload_n hK dX0_tableEntry_4 rfl 2 rfl ?_
  refine s_rc (fun _ _ eo er => ?_)
  refine s_cIX (fun E4 q5 h6 => ?_) (cx_v (As := [.int p1, .int p2]) (rest := [.int 0, va_rf p3]) hK dyX1_tableEntry rfl q1430 fcX1.1 q1431 q1432 q78 q1433 eo er (ct_X1_tableEntry hK.1 p0 p1 p2 h) (Nat.le_trans (Nat.le_of_ble_eq_true rfl) hf) (Nat.le_trans (Nat.le_of_ble_eq_true rfl) hlo) (rk_i (rk_a rk_n)) (Nat.le_of_ble_eq_true rfl) dX0_tableEntry_5 rfl) (fun v2 h1 => ?_)
  · refine st_ite (fun e8 => ?_) (fun e8 => ?_)
    · subst e8
      refine st_catch hK (tableOf []) ⟨0, 10, 13, 15⟩ (tableOf [(0, 10, 17, 25)]) rfl (fun _ hz => nomatch hz) rfl (by decide) q1139 q326 ?_
      refine s_astore (lv' := [(4, va_rf (some q5)), (0, va_rf p0), (1, .int p1), (2, .int p2), (3, va_rf p3)]) hK dX0_tableEntry_13 (Nat.le_of_ble_eq_true rfl) (flA (pre := [(0, va_rf p0), (1, .int p1), (2, .int p2)]) (suf := []) rfl rfl) ?_
      refine s_iconst (v := 1) hK dX0_tableEntry_15 rfl ?_
      exact s_iret hK dX0_tableEntry_16
    refine st_ite (fun e7 => ?_) (fun e7 => ?_)
    · subst e7
      refine st_catch hK (tableOf [(0, 10, 13, 15)]) ⟨0, 10, 17, 25⟩ (tableOf []) rfl (List.forall_mem_cons.mpr ⟨Or.inr ⟨by decide, "java/lang/IllegalStateException", q1139, nc_java_lang_IndexOutOfBoundsException_java_lang_IllegalStateException hK.1⟩, (fun _ hz => nomatch hz)⟩) rfl (by decide) q1212 q495 ?_
      refine s_astore (lv' := [(4, va_rf (some q5)), (0, va_rf p0), (1, .int p1), (2, .int p2), (3, va_rf p3)]) hK dX0_tableEntry_17 (Nat.le_of_ble_eq_true rfl) (flA (pre := [(0, va_rf p0), (1, .int p1), (2, .int p2)]) (suf := []) rfl rfl) ?_
      refine s_iconst (v := 2) hK dX0_tableEntry_19 rfl ?_
      exact s_iret hK dX0_tableEntry_20
    exact st_none
  · refine s_i2l hK dX0_tableEntry_8 ?_
    refine s_last hK dX0_tableEntry_9 (fun h3 => ?_)
    refine s_goto (tgt := 21) hK dX0_tableEntry_10 (by decide) ?_
    refine s_iconst (v := 0) hK dX0_tableEntry_21 rfl ?_
    exact s_iret hK dX0_tableEntry_22
theorem ct_X0_tableEntry {G : GC} {l : Launch} (g : GOK G l) (p0 : Option Nat) (p1 : Int32) (p2 : Int32) (p3 : Option Nat) (h : AH) : CT G l yX0_tableEntry (Cond.codeWith yX0_tableEntry cX0_tableEntry 5 (some (.int)) [(0, 10, 13, 15), (0, 10, 17, 25)]) 10 166 [va_rf p0, .int p1, .int p2, va_rf p3] (f_X0_tableEntry p0 p1 p2 p3 h) h :=
  CT.ofH g (by decide) (by simp only [ls_a, ls_i, ls_l, ls_n]; decide) (fun K _ hK hf hlo => by simp only [la_a, la_i, la_l, la_n]; exact sm_X0_tableEntry hK hf hlo p0 p1 p2 p3 h)
abbrev FR_X0_isComplete : Nat := 10
abbrev LO_X0_isComplete : Nat := 167
theorem dyX0_isComplete : DY yX0_isComplete 3 := ⟨⟨by decide, by decide⟩, by decide +kernel⟩
theorem sm_X0_isComplete {G : GC} {K : SC} (hK : SOK G K RX0 cX0_isComplete 4 (some (.int)) "isComplete" (tableOf [(0, 16, 19, 15), (0, 16, 22, 25)])) (hf : FR_X0_isComplete ≤ (kR K).frames) (hlo : LO_X0_isComplete ≤ (kR K).locals) (p0 : Option Nat) (p1 : Int32) (p2 : Option Nat) (h : AH) : Sim G K 4 (f_X0_isComplete p0 p1 p2 h) h 0 [(0, va_rf p0), (1, .int p1), (2, va_rf p2)] [] := by
  unfold f_X0_isComplete
  refine s_aload_n hK dX0_isComplete_0 rfl 2 rfl ?_
  refine s_iconst (v := 0) hK dX0_isComplete_1 rfl ?_
  refine s_aload_n hK dX0_isComplete_2 rfl 0 rfl ?_
  refine s_iload_n hK dX0_isComplete_3 rfl 1 rfl ?_
  refine s_rc (fun _ _ eo er => ?_)
  refine s_cIX (fun E6 q7 h8 => ?_) (cx_v (As := [.int p1]) (rest := [.int 0, va_rf p2]) hK dyX1_isComplete rfl q1442 fcX1.1 q1443 q1444 q78 q1445 eo er (ct_X1_isComplete hK.1 p0 p1 h) (Nat.le_trans (Nat.le_of_ble_eq_true rfl) hf) (Nat.le_trans (Nat.le_of_ble_eq_true rfl) hlo) (rk_i (rk_a rk_n)) (Nat.le_of_ble_eq_true rfl) dX0_isComplete_4 rfl) (fun v2 h1 => ?_)
  · refine st_ite (fun e10 => ?_) (fun e10 => ?_)
    · subst e10
      refine st_catch hK (tableOf []) ⟨0, 16, 19, 15⟩ (tableOf [(0, 16, 22, 25)]) rfl (fun _ hz => nomatch hz) rfl (by decide) q1139 q326 ?_
      refine s_astore_n (lv' := [(3, va_rf (some q7)), (0, va_rf p0), (1, .int p1), (2, va_rf p2)]) hK dX0_isComplete_19 rfl (Nat.le_of_ble_eq_true rfl) (flA (pre := [(0, va_rf p0), (1, .int p1)]) (suf := []) rfl rfl) ?_
      refine s_iconst (v := 1) hK dX0_isComplete_20 rfl ?_
      exact s_iret hK dX0_isComplete_21
    refine st_ite (fun e9 => ?_) (fun e9 => ?_)
    · subst e9
      refine st_catch hK (tableOf [(0, 16, 19, 15)]) ⟨0, 16, 22, 25⟩ (tableOf []) rfl (List.forall_mem_cons.mpr ⟨Or.inr ⟨by decide, "java/lang/IllegalStateException", q1139, nc_java_lang_IndexOutOfBoundsException_java_lang_IllegalStateException hK.1⟩, (fun _ hz => nomatch hz)⟩) rfl (by decide) q1212 q495 ?_
      refine s_astore_n (lv' := [(3, va_rf (some q7)), (0, va_rf p0), (1, .int p1), (2, va_rf p2)]) hK dX0_isComplete_22 rfl (Nat.le_of_ble_eq_true rfl) (flA (pre := [(0, va_rf p0), (1, .int p1)]) (suf := []) rfl rfl) ?_
      refine s_iconst (v := 2) hK dX0_isComplete_23 rfl ?_
      exact s_iret hK dX0_isComplete_24
    exact st_none
  · refine s_if_eq (tgt := 14) hK dX0_isComplete_7 (by decide) (fun c5 => ?_) (fun c5 => ?_)
    · refine s_lconst (v := 0) hK dX0_isComplete_14 rfl ?_
      refine s_last hK dX0_isComplete_15 (fun h3 => ?_)
      refine s_goto (tgt := 25) hK dX0_isComplete_16 (by decide) ?_
      refine s_iconst (v := 0) hK dX0_isComplete_25 rfl ?_
      exact s_iret hK dX0_isComplete_26
    · refine s_lconst (v := 1) hK dX0_isComplete_10 rfl ?_
      refine s_goto (tgt := 15) hK dX0_isComplete_11 (by decide) ?_
      refine s_last hK dX0_isComplete_15 (fun h4 => ?_)
      refine s_goto (tgt := 25) hK dX0_isComplete_16 (by decide) ?_
      refine s_iconst (v := 0) hK dX0_isComplete_25 rfl ?_
      exact s_iret hK dX0_isComplete_26
theorem ct_X0_isComplete {G : GC} {l : Launch} (g : GOK G l) (p0 : Option Nat) (p1 : Int32) (p2 : Option Nat) (h : AH) : CT G l yX0_isComplete (Cond.codeWith yX0_isComplete cX0_isComplete 4 (some (.int)) [(0, 16, 19, 15), (0, 16, 22, 25)]) 10 167 [va_rf p0, .int p1, va_rf p2] (f_X0_isComplete p0 p1 p2 h) h :=
  CT.ofH g (by decide) (by simp only [ls_a, ls_i, ls_l, ls_n]; decide) (fun K _ hK hf hlo => by simp only [la_a, la_i, la_l, la_n]; exact sm_X0_isComplete hK hf hlo p0 p1 p2 h)
abbrev FR_X0_gapCount : Nat := 9
abbrev LO_X0_gapCount : Nat := 141
theorem dyX0_gapCount : DY yX0_gapCount 2 := ⟨⟨by decide, by decide⟩, by decide +kernel⟩
theorem sm_X0_gapCount {G : GC} {K : SC} (hK : SOK G K RX0 cX0_gapCount 3 (some (.int)) "gapCount" (tableOf [(0, 8, 11, 15)])) (hf : FR_X0_gapCount ≤ (kR K).frames) (hlo : LO_X0_gapCount ≤ (kR K).locals) (p0 : Option Nat) (p1 : Option Nat) (h : AH) : Sim G K 3 (f_X0_gapCount p0 p1 h) h 0 [(0, va_rf p0), (1, va_rf p1)] [] := by
  unfold f_X0_gapCount
  refine s_aload_n hK dX0_gapCount_0 rfl 1 rfl ?_
  refine s_iconst (v := 0) hK dX0_gapCount_1 rfl ?_
  refine s_aload_n hK dX0_gapCount_2 rfl 0 rfl ?_
  refine s_rc (fun _ _ eo er => ?_)
  refine s_cIX (fun E4 q5 h6 => ?_) (cx_v (As := []) (rest := [.int 0, va_rf p1]) hK dyX1_gapCount rfl q1450 fcX1.1 q1451 q1452 q78 q1453 eo er (ct_X1_gapCount hK.1 p0 h) (Nat.le_trans (Nat.le_of_ble_eq_true rfl) hf) (Nat.le_trans (Nat.le_of_ble_eq_true rfl) hlo) (rk_i (rk_a rk_n)) (Nat.le_of_ble_eq_true rfl) dX0_gapCount_3 rfl) (fun v2 h1 => ?_)
  · refine st_ite (fun e7 => ?_) (fun e7 => ?_)
    · subst e7
      refine st_catch hK (tableOf []) ⟨0, 8, 11, 15⟩ (tableOf []) rfl (fun _ hz => nomatch hz) rfl (by decide) q1139 q326 ?_
      refine s_astore_n (lv' := [(2, va_rf (some q5)), (0, va_rf p0), (1, va_rf p1)]) hK dX0_gapCount_11 rfl (Nat.le_of_ble_eq_true rfl) (flA (pre := [(0, va_rf p0)]) (suf := []) rfl rfl) ?_
      refine s_iconst (v := 1) hK dX0_gapCount_12 rfl ?_
      exact s_iret hK dX0_gapCount_13
    exact st_none
  · refine s_i2l hK dX0_gapCount_6 ?_
    refine s_last hK dX0_gapCount_7 (fun h3 => ?_)
    refine s_goto (tgt := 14) hK dX0_gapCount_8 (by decide) ?_
    refine s_iconst (v := 0) hK dX0_gapCount_14 rfl ?_
    exact s_iret hK dX0_gapCount_15
theorem ct_X0_gapCount {G : GC} {l : Launch} (g : GOK G l) (p0 : Option Nat) (p1 : Option Nat) (h : AH) : CT G l yX0_gapCount (Cond.codeWith yX0_gapCount cX0_gapCount 3 (some (.int)) [(0, 8, 11, 15)]) 9 141 [va_rf p0, va_rf p1] (f_X0_gapCount p0 p1 h) h :=
  CT.ofH g (by decide) (by simp only [ls_a, ls_i, ls_l, ls_n]; decide) (fun K _ hK hf hlo => by simp only [la_a, la_i, la_l, la_n]; exact sm_X0_gapCount hK hf hlo p0 p1 h)
abbrev FR_X0_gap : Nat := 9
abbrev LO_X0_gap : Nat := 146
theorem dyX0_gap : DY yX0_gap 4 := ⟨⟨by decide, by decide⟩, by decide +kernel⟩
theorem sm_X0_gap {G : GC} {K : SC} (hK : SOK G K RX0 cX0_gap 5 (some (.int)) "gap" (tableOf [(0, 10, 13, 15), (0, 10, 17, 25), (0, 10, 21, 13)])) (hf : FR_X0_gap ≤ (kR K).frames) (hlo : LO_X0_gap ≤ (kR K).locals) (p0 : Option Nat) (p1 : Int32) (p2 : Int32) (p3 : Option Nat) (h : AH) : Sim G K 5 (f_X0_gap p0 p1 p2 p3 h) h 0 [(0, va_rf p0), (1, .int p1), (2, .int p2), (3, va_rf p3)] [] := by
  unfold f_X0_gap
  refine s_aload_n hK dX0_gap_0 rfl 3 rfl ?_
  refine s_iconst (v := 0) hK dX0_gap_1 rfl ?_
  refine s_aload_n hK dX0_gap_2 rfl 0 rfl ?_
  refine s_iload_n hK dX0_gap_3 rfl 1 rfl ?_
  refine s_iload_n hK dX0_gap_4 rfl 2 rfl ?_
  refine s_rc (fun _ _ eo er => ?_)
  refine s_cIX (fun E4 q5 h6 => ?_) (cx_v (As := [.int p1, .int p2]) (rest := [.int 0, va_rf p3]) hK dyX1_gap rfl q1457 fcX1.1 q1458 q1459 q78 q1460 eo er (ct_X1_gap hK.1 p0 p1 p2 h) (Nat.le_trans (Nat.le_of_ble_eq_true rfl) hf) (Nat.le_trans (Nat.le_of_ble_eq_true rfl) hlo) (rk_i (rk_a rk_n)) (Nat.le_of_ble_eq_true rfl) dX0_gap_5 rfl) (fun v2 h1 => ?_)
  · refine st_ite (fun e9 => ?_) (fun e9 => ?_)
    · subst e9
      refine st_catch hK (tableOf []) ⟨0, 10, 13, 15⟩ (tableOf [(0, 10, 17, 25), (0, 10, 21, 13)]) rfl (fun _ hz => nomatch hz) rfl (by decide) q1139 q326 ?_
      refine s_astore (lv' := [(4, va_rf (some q5)), (0, va_rf p0), (1, .int p1), (2, .int p2), (3, va_rf p3)]) hK dX0_gap_13 (Nat.le_of_ble_eq_true rfl) (flA (pre := [(0, va_rf p0), (1, .int p1), (2, .int p2)]) (suf := []) rfl rfl) ?_
      refine s_iconst (v := 1) hK dX0_gap_15 rfl ?_
      exact s_iret hK dX0_gap_16
    refine st_ite (fun e8 => ?_) (fun e8 => ?_)
    · subst e8
      refine st_catch hK (tableOf [(0, 10, 13, 15)]) ⟨0, 10, 17, 25⟩ (tableOf [(0, 10, 21, 13)]) rfl (List.forall_mem_cons.mpr ⟨Or.inr ⟨by decide, "java/lang/IllegalStateException", q1139, nc_java_lang_IndexOutOfBoundsException_java_lang_IllegalStateException hK.1⟩, (fun _ hz => nomatch hz)⟩) rfl (by decide) q1212 q495 ?_
      refine s_astore (lv' := [(4, va_rf (some q5)), (0, va_rf p0), (1, .int p1), (2, .int p2), (3, va_rf p3)]) hK dX0_gap_17 (Nat.le_of_ble_eq_true rfl) (flA (pre := [(0, va_rf p0), (1, .int p1), (2, .int p2)]) (suf := []) rfl rfl) ?_
      refine s_iconst (v := 2) hK dX0_gap_19 rfl ?_
      exact s_iret hK dX0_gap_20
    refine st_ite (fun e7 => ?_) (fun e7 => ?_)
    · subst e7
      refine st_catch hK (tableOf [(0, 10, 13, 15), (0, 10, 17, 25)]) ⟨0, 10, 21, 13⟩ (tableOf []) rfl (List.forall_mem_cons.mpr ⟨Or.inr ⟨by decide, "java/lang/IllegalStateException", q1139, nc_java_lang_IllegalArgumentException_java_lang_IllegalStateException hK.1⟩, (List.forall_mem_cons.mpr ⟨Or.inr ⟨by decide, "java/lang/IndexOutOfBoundsException", q1212, nc_java_lang_IllegalArgumentException_java_lang_IndexOutOfBoundsException hK.1⟩, (fun _ hz => nomatch hz)⟩)⟩) rfl (by decide) q1138 q711 ?_
      refine s_astore (lv' := [(4, va_rf (some q5)), (0, va_rf p0), (1, .int p1), (2, .int p2), (3, va_rf p3)]) hK dX0_gap_21 (Nat.le_of_ble_eq_true rfl) (flA (pre := [(0, va_rf p0), (1, .int p1), (2, .int p2)]) (suf := []) rfl rfl) ?_
      refine s_iconst (v := 3) hK dX0_gap_23 rfl ?_
      exact s_iret hK dX0_gap_24
    exact st_none
  · refine s_i2l hK dX0_gap_8 ?_
    refine s_last hK dX0_gap_9 (fun h3 => ?_)
    refine s_goto (tgt := 25) hK dX0_gap_10 (by decide) ?_
    refine s_iconst (v := 0) hK dX0_gap_25 rfl ?_
    exact s_iret hK dX0_gap_26
theorem ct_X0_gap {G : GC} {l : Launch} (g : GOK G l) (p0 : Option Nat) (p1 : Int32) (p2 : Int32) (p3 : Option Nat) (h : AH) : CT G l yX0_gap (Cond.codeWith yX0_gap cX0_gap 5 (some (.int)) [(0, 10, 13, 15), (0, 10, 17, 25), (0, 10, 21, 13)]) 9 146 [va_rf p0, .int p1, .int p2, va_rf p3] (f_X0_gap p0 p1 p2 p3 h) h :=
  CT.ofH g (by decide) (by simp only [ls_a, ls_i, ls_l, ls_n]; decide) (fun K _ hK hf hlo => by simp only [la_a, la_i, la_l, la_n]; exact sm_X0_gap hK hf hlo p0 p1 p2 p3 h)
abbrev FR_X0_speculative : Nat := 9
abbrev LO_X0_speculative : Nat := 141
theorem dyX0_speculative : DY yX0_speculative 2 := ⟨⟨by decide, by decide⟩, by decide +kernel⟩
theorem sm_X0_speculative {G : GC} {K : SC} (hK : SOK G K RX0 cX0_speculative 3 (some (.int)) "speculative" (tableOf [(0, 8, 11, 15)])) (hf : FR_X0_speculative ≤ (kR K).frames) (hlo : LO_X0_speculative ≤ (kR K).locals) (p0 : Option Nat) (p1 : Option Nat) (h : AH) : Sim G K 3 (f_X0_speculative p0 p1 h) h 0 [(0, va_rf p0), (1, va_rf p1)] [] := by
  unfold f_X0_speculative
  refine s_aload_n hK dX0_speculative_0 rfl 1 rfl ?_
  refine s_iconst (v := 0) hK dX0_speculative_1 rfl ?_
  refine s_aload_n hK dX0_speculative_2 rfl 0 rfl ?_
  refine s_rc (fun _ _ eo er => ?_)
  refine s_cIX (fun E4 q5 h6 => ?_) (cx_v (As := []) (rest := [.int 0, va_rf p1]) hK dyX1_speculative rfl q1464 fcX1.1 q1465 q1466 q78 q1467 eo er (ct_X1_speculative hK.1 p0 h) (Nat.le_trans (Nat.le_of_ble_eq_true rfl) hf) (Nat.le_trans (Nat.le_of_ble_eq_true rfl) hlo) (rk_i (rk_a rk_n)) (Nat.le_of_ble_eq_true rfl) dX0_speculative_3 rfl) (fun v2 h1 => ?_)
  · refine st_ite (fun e7 => ?_) (fun e7 => ?_)
    · subst e7
      refine st_catch hK (tableOf []) ⟨0, 8, 11, 15⟩ (tableOf []) rfl (fun _ hz => nomatch hz) rfl (by decide) q1139 q326 ?_
      refine s_astore_n (lv' := [(2, va_rf (some q5)), (0, va_rf p0), (1, va_rf p1)]) hK dX0_speculative_11 rfl (Nat.le_of_ble_eq_true rfl) (flA (pre := [(0, va_rf p0)]) (suf := []) rfl rfl) ?_
      refine s_iconst (v := 1) hK dX0_speculative_12 rfl ?_
      exact s_iret hK dX0_speculative_13
    exact st_none
  · refine s_i2l hK dX0_speculative_6 ?_
    refine s_last hK dX0_speculative_7 (fun h3 => ?_)
    refine s_goto (tgt := 14) hK dX0_speculative_8 (by decide) ?_
    refine s_iconst (v := 0) hK dX0_speculative_14 rfl ?_
    exact s_iret hK dX0_speculative_15
theorem ct_X0_speculative {G : GC} {l : Launch} (g : GOK G l) (p0 : Option Nat) (p1 : Option Nat) (h : AH) : CT G l yX0_speculative (Cond.codeWith yX0_speculative cX0_speculative 3 (some (.int)) [(0, 8, 11, 15)]) 9 141 [va_rf p0, va_rf p1] (f_X0_speculative p0 p1 h) h :=
  CT.ofH g (by decide) (by simp only [ls_a, ls_i, ls_l, ls_n]; decide) (fun K _ hK hf hlo => by simp only [la_a, la_i, la_l, la_n]; exact sm_X0_speculative hK hf hlo p0 p1 h)
abbrev FR_X0_blockCount : Nat := 9
abbrev LO_X0_blockCount : Nat := 141
theorem dyX0_blockCount : DY yX0_blockCount 2 := ⟨⟨by decide, by decide⟩, by decide +kernel⟩
theorem sm_X0_blockCount {G : GC} {K : SC} (hK : SOK G K RX0 cX0_blockCount 3 (some (.int)) "blockCount" (tableOf [(0, 8, 11, 15)])) (hf : FR_X0_blockCount ≤ (kR K).frames) (hlo : LO_X0_blockCount ≤ (kR K).locals) (p0 : Option Nat) (p1 : Option Nat) (h : AH) : Sim G K 3 (f_X0_blockCount p0 p1 h) h 0 [(0, va_rf p0), (1, va_rf p1)] [] := by
  unfold f_X0_blockCount
  refine s_aload_n hK dX0_blockCount_0 rfl 1 rfl ?_
  refine s_iconst (v := 0) hK dX0_blockCount_1 rfl ?_
  refine s_aload_n hK dX0_blockCount_2 rfl 0 rfl ?_
  refine s_rc (fun _ _ eo er => ?_)
  refine s_cIX (fun E4 q5 h6 => ?_) (cx_v (As := []) (rest := [.int 0, va_rf p1]) hK dyX1_blockCount rfl q1475 fcX1.1 q1476 q1477 q78 q1478 eo er (ct_X1_blockCount hK.1 p0 h) (Nat.le_trans (Nat.le_of_ble_eq_true rfl) hf) (Nat.le_trans (Nat.le_of_ble_eq_true rfl) hlo) (rk_i (rk_a rk_n)) (Nat.le_of_ble_eq_true rfl) dX0_blockCount_3 rfl) (fun v2 h1 => ?_)
  · refine st_ite (fun e7 => ?_) (fun e7 => ?_)
    · subst e7
      refine st_catch hK (tableOf []) ⟨0, 8, 11, 15⟩ (tableOf []) rfl (fun _ hz => nomatch hz) rfl (by decide) q1139 q326 ?_
      refine s_astore_n (lv' := [(2, va_rf (some q5)), (0, va_rf p0), (1, va_rf p1)]) hK dX0_blockCount_11 rfl (Nat.le_of_ble_eq_true rfl) (flA (pre := [(0, va_rf p0)]) (suf := []) rfl rfl) ?_
      refine s_iconst (v := 1) hK dX0_blockCount_12 rfl ?_
      exact s_iret hK dX0_blockCount_13
    exact st_none
  · refine s_i2l hK dX0_blockCount_6 ?_
    refine s_last hK dX0_blockCount_7 (fun h3 => ?_)
    refine s_goto (tgt := 14) hK dX0_blockCount_8 (by decide) ?_
    refine s_iconst (v := 0) hK dX0_blockCount_14 rfl ?_
    exact s_iret hK dX0_blockCount_15
theorem ct_X0_blockCount {G : GC} {l : Launch} (g : GOK G l) (p0 : Option Nat) (p1 : Option Nat) (h : AH) : CT G l yX0_blockCount (Cond.codeWith yX0_blockCount cX0_blockCount 3 (some (.int)) [(0, 8, 11, 15)]) 9 141 [va_rf p0, va_rf p1] (f_X0_blockCount p0 p1 h) h :=
  CT.ofH g (by decide) (by simp only [ls_a, ls_i, ls_l, ls_n]; decide) (fun K _ hK hf hlo => by simp only [la_a, la_i, la_l, la_n]; exact sm_X0_blockCount hK hf hlo p0 p1 h)
abbrev FR_X0_block : Nat := 9
abbrev LO_X0_block : Nat := 146
theorem dyX0_block : DY yX0_block 4 := ⟨⟨by decide, by decide⟩, by decide +kernel⟩
theorem sm_X0_block {G : GC} {K : SC} (hK : SOK G K RX0 cX0_block 5 (some (.int)) "block" (tableOf [(0, 10, 13, 15), (0, 10, 17, 25), (0, 10, 21, 13)])) (hf : FR_X0_block ≤ (kR K).frames) (hlo : LO_X0_block ≤ (kR K).locals) (p0 : Option Nat) (p1 : Int32) (p2 : Int32) (p3 : Option Nat) (h : AH) : Sim G K 5 (f_X0_block p0 p1 p2 p3 h) h 0 [(0, va_rf p0), (1, .int p1), (2, .int p2), (3, va_rf p3)] [] := by
  unfold f_X0_block
  refine s_aload_n hK dX0_block_0 rfl 3 rfl ?_
  refine s_iconst (v := 0) hK dX0_block_1 rfl ?_
  refine s_aload_n hK dX0_block_2 rfl 0 rfl ?_
  refine s_iload_n hK dX0_block_3 rfl 1 rfl ?_
  refine s_iload_n hK dX0_block_4 rfl 2 rfl ?_
  refine s_rc (fun _ _ eo er => ?_)
  refine s_cIX (fun E4 q5 h6 => ?_) (cx_v (As := [.int p1, .int p2]) (rest := [.int 0, va_rf p3]) hK dyX1_block rfl q1482 fcX1.1 q1483 q1484 q78 q1485 eo er (ct_X1_block hK.1 p0 p1 p2 h) (Nat.le_trans (Nat.le_of_ble_eq_true rfl) hf) (Nat.le_trans (Nat.le_of_ble_eq_true rfl) hlo) (rk_i (rk_a rk_n)) (Nat.le_of_ble_eq_true rfl) dX0_block_5 rfl) (fun v2 h1 => ?_)
  · refine st_ite (fun e9 => ?_) (fun e9 => ?_)
    · subst e9
      refine st_catch hK (tableOf []) ⟨0, 10, 13, 15⟩ (tableOf [(0, 10, 17, 25), (0, 10, 21, 13)]) rfl (fun _ hz => nomatch hz) rfl (by decide) q1139 q326 ?_
      refine s_astore (lv' := [(4, va_rf (some q5)), (0, va_rf p0), (1, .int p1), (2, .int p2), (3, va_rf p3)]) hK dX0_block_13 (Nat.le_of_ble_eq_true rfl) (flA (pre := [(0, va_rf p0), (1, .int p1), (2, .int p2)]) (suf := []) rfl rfl) ?_
      refine s_iconst (v := 1) hK dX0_block_15 rfl ?_
      exact s_iret hK dX0_block_16
    refine st_ite (fun e8 => ?_) (fun e8 => ?_)
    · subst e8
      refine st_catch hK (tableOf [(0, 10, 13, 15)]) ⟨0, 10, 17, 25⟩ (tableOf [(0, 10, 21, 13)]) rfl (List.forall_mem_cons.mpr ⟨Or.inr ⟨by decide, "java/lang/IllegalStateException", q1139, nc_java_lang_IndexOutOfBoundsException_java_lang_IllegalStateException hK.1⟩, (fun _ hz => nomatch hz)⟩) rfl (by decide) q1212 q495 ?_
      refine s_astore (lv' := [(4, va_rf (some q5)), (0, va_rf p0), (1, .int p1), (2, .int p2), (3, va_rf p3)]) hK dX0_block_17 (Nat.le_of_ble_eq_true rfl) (flA (pre := [(0, va_rf p0), (1, .int p1), (2, .int p2)]) (suf := []) rfl rfl) ?_
      refine s_iconst (v := 2) hK dX0_block_19 rfl ?_
      exact s_iret hK dX0_block_20
    refine st_ite (fun e7 => ?_) (fun e7 => ?_)
    · subst e7
      refine st_catch hK (tableOf [(0, 10, 13, 15), (0, 10, 17, 25)]) ⟨0, 10, 21, 13⟩ (tableOf []) rfl (List.forall_mem_cons.mpr ⟨Or.inr ⟨by decide, "java/lang/IllegalStateException", q1139, nc_java_lang_IllegalArgumentException_java_lang_IllegalStateException hK.1⟩, (List.forall_mem_cons.mpr ⟨Or.inr ⟨by decide, "java/lang/IndexOutOfBoundsException", q1212, nc_java_lang_IllegalArgumentException_java_lang_IndexOutOfBoundsException hK.1⟩, (fun _ hz => nomatch hz)⟩)⟩) rfl (by decide) q1138 q711 ?_
      refine s_astore (lv' := [(4, va_rf (some q5)), (0, va_rf p0), (1, .int p1), (2, .int p2), (3, va_rf p3)]) hK dX0_block_21 (Nat.le_of_ble_eq_true rfl) (flA (pre := [(0, va_rf p0), (1, .int p1), (2, .int p2)]) (suf := []) rfl rfl) ?_
      refine s_iconst (v := 3) hK dX0_block_23 rfl ?_
      exact s_iret hK dX0_block_24
    exact st_none
  · refine s_i2l hK dX0_block_8 ?_
    refine s_last hK dX0_block_9 (fun h3 => ?_)
    refine s_goto (tgt := 25) hK dX0_block_10 (by decide) ?_
    refine s_iconst (v := 0) hK dX0_block_25 rfl ?_
    exact s_iret hK dX0_block_26
theorem ct_X0_block {G : GC} {l : Launch} (g : GOK G l) (p0 : Option Nat) (p1 : Int32) (p2 : Int32) (p3 : Option Nat) (h : AH) : CT G l yX0_block (Cond.codeWith yX0_block cX0_block 5 (some (.int)) [(0, 10, 13, 15), (0, 10, 17, 25), (0, 10, 21, 13)]) 9 146 [va_rf p0, .int p1, .int p2, va_rf p3] (f_X0_block p0 p1 p2 p3 h) h :=
  CT.ofH g (by decide) (by simp only [ls_a, ls_i, ls_l, ls_n]; decide) (fun K _ hK hf hlo => by simp only [la_a, la_i, la_l, la_n]; exact sm_X0_block hK hf hlo p0 p1 p2 p3 h)
abbrev FR_X0_functionCount : Nat := 9
abbrev LO_X0_functionCount : Nat := 250
theorem dyX0_functionCount : DY yX0_functionCount 2 := ⟨⟨by decide, by decide⟩, by decide +kernel⟩
theorem sm_X0_functionCount {G : GC} {K : SC} (hK : SOK G K RX0 cX0_functionCount 3 (some (.int)) "functionCount" (tableOf [(0, 8, 11, 15)])) (hf : FR_X0_functionCount ≤ (kR K).frames) (hlo : LO_X0_functionCount ≤ (kR K).locals) (p0 : Option Nat) (p1 : Option Nat) (h : AH) : Sim G K 3 (f_X0_functionCount p0 p1 h) h 0 [(0, va_rf p0), (1, va_rf p1)] [] := by
  unfold f_X0_functionCount
  refine s_aload_n hK dX0_functionCount_0 rfl 1 rfl ?_
  refine s_iconst (v := 0) hK dX0_functionCount_1 rfl ?_
  refine s_aload_n hK dX0_functionCount_2 rfl 0 rfl ?_
  refine s_rc (fun _ _ eo er => ?_)
  refine s_cIX (fun E4 q5 h6 => ?_) (cx_v (As := []) (rest := [.int 0, va_rf p1]) hK dyX1_functionCount rfl q1489 fcX1.1 q1490 q1491 q78 q1492 eo er (ct_X1_functionCount hK.1 p0 h) (Nat.le_trans (Nat.le_of_ble_eq_true rfl) hf) (Nat.le_trans (Nat.le_of_ble_eq_true rfl) hlo) (rk_i (rk_a rk_n)) (Nat.le_of_ble_eq_true rfl) dX0_functionCount_3 rfl) (fun v2 h1 => ?_)
  · refine st_ite (fun e7 => ?_) (fun e7 => ?_)
    · subst e7
      refine st_catch hK (tableOf []) ⟨0, 8, 11, 15⟩ (tableOf []) rfl (fun _ hz => nomatch hz) rfl (by decide) q1139 q326 ?_
      refine s_astore_n (lv' := [(2, va_rf (some q5)), (0, va_rf p0), (1, va_rf p1)]) hK dX0_functionCount_11 rfl (Nat.le_of_ble_eq_true rfl) (flA (pre := [(0, va_rf p0)]) (suf := []) rfl rfl) ?_
      refine s_iconst (v := 1) hK dX0_functionCount_12 rfl ?_
      exact s_iret hK dX0_functionCount_13
    exact st_none
  · refine s_i2l hK dX0_functionCount_6 ?_
    refine s_last hK dX0_functionCount_7 (fun h3 => ?_)
    refine s_goto (tgt := 14) hK dX0_functionCount_8 (by decide) ?_
    refine s_iconst (v := 0) hK dX0_functionCount_14 rfl ?_
    exact s_iret hK dX0_functionCount_15
theorem ct_X0_functionCount {G : GC} {l : Launch} (g : GOK G l) (p0 : Option Nat) (p1 : Option Nat) (h : AH) : CT G l yX0_functionCount (Cond.codeWith yX0_functionCount cX0_functionCount 3 (some (.int)) [(0, 8, 11, 15)]) 9 250 [va_rf p0, va_rf p1] (f_X0_functionCount p0 p1 h) h :=
  CT.ofH g (by decide) (by simp only [ls_a, ls_i, ls_l, ls_n]; decide) (fun K _ hK hf hlo => by simp only [la_a, la_i, la_l, la_n]; exact sm_X0_functionCount hK hf hlo p0 p1 h)
abbrev FR_X0_functionSize : Nat := 9
abbrev LO_X0_functionSize : Nat := 305
theorem dyX0_functionSize : DY yX0_functionSize 3 := ⟨⟨by decide, by decide⟩, by decide +kernel⟩
theorem sm_X0_functionSize {G : GC} {K : SC} (hK : SOK G K RX0 cX0_functionSize 4 (some (.int)) "functionSize" (tableOf [(0, 9, 12, 15), (0, 9, 15, 25), (0, 9, 18, 99)])) (hf : FR_X0_functionSize ≤ (kR K).frames) (hlo : LO_X0_functionSize ≤ (kR K).locals) (p0 : Option Nat) (p1 : Int32) (p2 : Option Nat) (h : AH) : Sim G K 4 (f_X0_functionSize p0 p1 p2 h) h 0 [(0, va_rf p0), (1, .int p1), (2, va_rf p2)] [] := by
  unfold f_X0_functionSize
  refine s_aload_n hK dX0_functionSize_0 rfl 2 rfl ?_
  refine s_iconst (v := 0) hK dX0_functionSize_1 rfl ?_
  refine s_aload_n hK dX0_functionSize_2 rfl 0 rfl ?_
  refine s_iload_n hK dX0_functionSize_3 rfl 1 rfl ?_
  refine s_rc (fun _ _ eo er => ?_)
  refine s_cIX (fun E4 q5 h6 => ?_) (cx_v (As := [.int p1]) (rest := [.int 0, va_rf p2]) hK dyX1_functionSize rfl q1501 fcX1.1 q1502 q1503 q78 q1504 eo er (ct_X1_functionSize hK.1 p0 p1 h) (Nat.le_trans (Nat.le_of_ble_eq_true rfl) hf) (Nat.le_trans (Nat.le_of_ble_eq_true rfl) hlo) (rk_i (rk_a rk_n)) (Nat.le_of_ble_eq_true rfl) dX0_functionSize_4 rfl) (fun v2 h1 => ?_)
  · refine st_ite (fun e9 => ?_) (fun e9 => ?_)
    · subst e9
      refine st_catch hK (tableOf []) ⟨0, 9, 12, 15⟩ (tableOf [(0, 9, 15, 25), (0, 9, 18, 99)]) rfl (fun _ hz => nomatch hz) rfl (by decide) q1139 q326 ?_
      refine s_astore_n (lv' := [(3, va_rf (some q5)), (0, va_rf p0), (1, .int p1), (2, va_rf p2)]) hK dX0_functionSize_12 rfl (Nat.le_of_ble_eq_true rfl) (flA (pre := [(0, va_rf p0), (1, .int p1)]) (suf := []) rfl rfl) ?_
      refine s_iconst (v := 1) hK dX0_functionSize_13 rfl ?_
      exact s_iret hK dX0_functionSize_14
    refine st_ite (fun e8 => ?_) (fun e8 => ?_)
    · subst e8
      refine st_catch hK (tableOf [(0, 9, 12, 15)]) ⟨0, 9, 15, 25⟩ (tableOf [(0, 9, 18, 99)]) rfl (List.forall_mem_cons.mpr ⟨Or.inr ⟨by decide, "java/lang/IllegalStateException", q1139, nc_java_lang_IndexOutOfBoundsException_java_lang_IllegalStateException hK.1⟩, (fun _ hz => nomatch hz)⟩) rfl (by decide) q1212 q495 ?_
      refine s_astore_n (lv' := [(3, va_rf (some q5)), (0, va_rf p0), (1, .int p1), (2, va_rf p2)]) hK dX0_functionSize_15 rfl (Nat.le_of_ble_eq_true rfl) (flA (pre := [(0, va_rf p0), (1, .int p1)]) (suf := []) rfl rfl) ?_
      refine s_iconst (v := 2) hK dX0_functionSize_16 rfl ?_
      exact s_iret hK dX0_functionSize_17
    refine st_ite (fun e7 => ?_) (fun e7 => ?_)
    · subst e7
      refine st_catch hK (tableOf [(0, 9, 12, 15), (0, 9, 15, 25)]) ⟨0, 9, 18, 99⟩ (tableOf []) rfl (List.forall_mem_cons.mpr ⟨Or.inr ⟨by decide, "java/lang/IllegalStateException", q1139, nc_java_util_NoSuchElementException_java_lang_IllegalStateException hK.1⟩, (List.forall_mem_cons.mpr ⟨Or.inr ⟨by decide, "java/lang/IndexOutOfBoundsException", q1212, nc_java_util_NoSuchElementException_java_lang_IndexOutOfBoundsException hK.1⟩, (fun _ hz => nomatch hz)⟩)⟩) rfl (by decide) q1500 q457 ?_
      refine s_astore_n (lv' := [(3, va_rf (some q5)), (0, va_rf p0), (1, .int p1), (2, va_rf p2)]) hK dX0_functionSize_18 rfl (Nat.le_of_ble_eq_true rfl) (flA (pre := [(0, va_rf p0), (1, .int p1)]) (suf := []) rfl rfl) ?_
      refine s_iconst (v := 3) hK dX0_functionSize_19 rfl ?_
      exact s_iret hK dX0_functionSize_20
    exact st_none
  · refine s_i2l hK dX0_functionSize_7 ?_
    refine s_last hK dX0_functionSize_8 (fun h3 => ?_)
    refine s_goto (tgt := 21) hK dX0_functionSize_9 (by decide) ?_
    refine s_iconst (v := 0) hK dX0_functionSize_21 rfl ?_
    exact s_iret hK dX0_functionSize_22
theorem ct_X0_functionSize {G : GC} {l : Launch} (g : GOK G l) (p0 : Option Nat) (p1 : Int32) (p2 : Option Nat) (h : AH) : CT G l yX0_functionSize (Cond.codeWith yX0_functionSize cX0_functionSize 4 (some (.int)) [(0, 9, 12, 15), (0, 9, 15, 25), (0, 9, 18, 99)]) 9 305 [va_rf p0, .int p1, va_rf p2] (f_X0_functionSize p0 p1 p2 h) h :=
  CT.ofH g (by decide) (by simp only [ls_a, ls_i, ls_l, ls_n]; decide) (fun K _ hK hf hlo => by simp only [la_a, la_i, la_l, la_n]; exact sm_X0_functionSize hK hf hlo p0 p1 p2 h)
abbrev FR_X0_run : Nat := 9
abbrev LO_X0_run : Nat := 302
theorem dyX0_run : DY yX0_run 3 := ⟨⟨by decide, by decide⟩, by decide +kernel⟩
theorem sm_X0_run {G : GC} {K : SC} (hK : SOK G K RX0 cX0_run 4 (some (.int)) "run" (tableOf [(0, 9, 12, 25)])) (hf : FR_X0_run ≤ (kR K).frames) (hlo : LO_X0_run ≤ (kR K).locals) (p0 : Option Nat) (p1 : Int32) (p2 : Option Nat) (h : AH) : Sim G K 4 (f_X0_run p0 p1 p2 h) h 0 [(0, va_rf p0), (1, .int p1), (2, va_rf p2)] [] := by
  unfold f_X0_run
  refine s_aload_n hK dX0_run_0 rfl 2 rfl ?_
  refine s_iconst (v := 0) hK dX0_run_1 rfl ?_
  refine s_aload_n hK dX0_run_2 rfl 0 rfl ?_
  refine s_iload_n hK dX0_run_3 rfl 1 rfl ?_
  refine s_rc (fun _ _ eo er => ?_)
  refine s_cIX (fun E4 q5 h6 => ?_) (cx_v (As := [.int p1]) (rest := [.int 0, va_rf p2]) hK dyX1_run rfl q1520 fcX1.1 q1521 q1522 q78 q1523 eo er (ct_X1_run hK.1 p0 p1 h) (Nat.le_trans (Nat.le_of_ble_eq_true rfl) hf) (Nat.le_trans (Nat.le_of_ble_eq_true rfl) hlo) (rk_i (rk_a rk_n)) (Nat.le_of_ble_eq_true rfl) dX0_run_4 rfl) (fun v2 h1 => ?_)
  · refine st_ite (fun e7 => ?_) (fun e7 => ?_)
    · subst e7
      refine st_catch hK (tableOf []) ⟨0, 9, 12, 25⟩ (tableOf []) rfl (fun _ hz => nomatch hz) rfl (by decide) q1212 q495 ?_
      refine s_astore_n (lv' := [(3, va_rf (some q5)), (0, va_rf p0), (1, .int p1), (2, va_rf p2)]) hK dX0_run_12 rfl (Nat.le_of_ble_eq_true rfl) (flA (pre := [(0, va_rf p0), (1, .int p1)]) (suf := []) rfl rfl) ?_
      refine s_iconst (v := 1) hK dX0_run_13 rfl ?_
      exact s_iret hK dX0_run_14
    exact st_none
  · refine s_i2l hK dX0_run_7 ?_
    refine s_last hK dX0_run_8 (fun h3 => ?_)
    refine s_goto (tgt := 15) hK dX0_run_9 (by decide) ?_
    refine s_iconst (v := 0) hK dX0_run_15 rfl ?_
    exact s_iret hK dX0_run_16
theorem ct_X0_run {G : GC} {l : Launch} (g : GOK G l) (p0 : Option Nat) (p1 : Int32) (p2 : Option Nat) (h : AH) : CT G l yX0_run (Cond.codeWith yX0_run cX0_run 4 (some (.int)) [(0, 9, 12, 25)]) 9 302 [va_rf p0, .int p1, va_rf p2] (f_X0_run p0 p1 p2 h) h :=
  CT.ofH g (by decide) (by simp only [ls_a, ls_i, ls_l, ls_n]; decide) (fun K _ hK hf hlo => by simp only [la_a, la_i, la_l, la_n]; exact sm_X0_run hK hf hlo p0 p1 p2 h)
abbrev FR_X0_executedAt : Nat := 9
abbrev LO_X0_executedAt : Nat := 144
theorem dyX0_executedAt : DY yX0_executedAt 3 := ⟨⟨by decide, by decide⟩, by decide +kernel⟩
theorem sm_X0_executedAt {G : GC} {K : SC} (hK : SOK G K RX0 cX0_executedAt 4 (some (.int)) "executedAt" (tableOf [(0, 9, 12, 15), (0, 9, 15, 25)])) (hf : FR_X0_executedAt ≤ (kR K).frames) (hlo : LO_X0_executedAt ≤ (kR K).locals) (p0 : Option Nat) (p1 : Int32) (p2 : Option Nat) (h : AH) : Sim G K 4 (f_X0_executedAt p0 p1 p2 h) h 0 [(0, va_rf p0), (1, .int p1), (2, va_rf p2)] [] := by
  unfold f_X0_executedAt
  refine s_aload_n hK dX0_executedAt_0 rfl 2 rfl ?_
  refine s_iconst (v := 0) hK dX0_executedAt_1 rfl ?_
  refine s_aload_n hK dX0_executedAt_2 rfl 0 rfl ?_
  refine s_iload_n hK dX0_executedAt_3 rfl 1 rfl ?_
  refine s_rc (fun _ _ eo er => ?_)
  refine s_cIX (fun E4 q5 h6 => ?_) (cx_v (As := [.int p1]) (rest := [.int 0, va_rf p2]) hK dyX1_executedAt rfl q1605 fcX1.1 q1606 q1607 q78 q1608 eo er (ct_X1_executedAt hK.1 p0 p1 h) (Nat.le_trans (Nat.le_of_ble_eq_true rfl) hf) (Nat.le_trans (Nat.le_of_ble_eq_true rfl) hlo) (rk_i (rk_a rk_n)) (Nat.le_of_ble_eq_true rfl) dX0_executedAt_4 rfl) (fun v2 h1 => ?_)
  · refine st_ite (fun e8 => ?_) (fun e8 => ?_)
    · subst e8
      refine st_catch hK (tableOf []) ⟨0, 9, 12, 15⟩ (tableOf [(0, 9, 15, 25)]) rfl (fun _ hz => nomatch hz) rfl (by decide) q1139 q326 ?_
      refine s_astore_n (lv' := [(3, va_rf (some q5)), (0, va_rf p0), (1, .int p1), (2, va_rf p2)]) hK dX0_executedAt_12 rfl (Nat.le_of_ble_eq_true rfl) (flA (pre := [(0, va_rf p0), (1, .int p1)]) (suf := []) rfl rfl) ?_
      refine s_iconst (v := 1) hK dX0_executedAt_13 rfl ?_
      exact s_iret hK dX0_executedAt_14
    refine st_ite (fun e7 => ?_) (fun e7 => ?_)
    · subst e7
      refine st_catch hK (tableOf [(0, 9, 12, 15)]) ⟨0, 9, 15, 25⟩ (tableOf []) rfl (List.forall_mem_cons.mpr ⟨Or.inr ⟨by decide, "java/lang/IllegalStateException", q1139, nc_java_lang_IndexOutOfBoundsException_java_lang_IllegalStateException hK.1⟩, (fun _ hz => nomatch hz)⟩) rfl (by decide) q1212 q495 ?_
      refine s_astore_n (lv' := [(3, va_rf (some q5)), (0, va_rf p0), (1, .int p1), (2, va_rf p2)]) hK dX0_executedAt_15 rfl (Nat.le_of_ble_eq_true rfl) (flA (pre := [(0, va_rf p0), (1, .int p1)]) (suf := []) rfl rfl) ?_
      refine s_iconst (v := 2) hK dX0_executedAt_16 rfl ?_
      exact s_iret hK dX0_executedAt_17
    exact st_none
  · refine s_i2l hK dX0_executedAt_7 ?_
    refine s_last hK dX0_executedAt_8 (fun h3 => ?_)
    refine s_goto (tgt := 18) hK dX0_executedAt_9 (by decide) ?_
    refine s_iconst (v := 0) hK dX0_executedAt_18 rfl ?_
    exact s_iret hK dX0_executedAt_19
theorem ct_X0_executedAt {G : GC} {l : Launch} (g : GOK G l) (p0 : Option Nat) (p1 : Int32) (p2 : Option Nat) (h : AH) : CT G l yX0_executedAt (Cond.codeWith yX0_executedAt cX0_executedAt 4 (some (.int)) [(0, 9, 12, 15), (0, 9, 15, 25)]) 9 144 [va_rf p0, .int p1, va_rf p2] (f_X0_executedAt p0 p1 p2 h) h :=
  CT.ofH g (by decide) (by simp only [ls_a, ls_i, ls_l, ls_n]; decide) (fun K _ hK hf hlo => by simp only [la_a, la_i, la_l, la_n]; exact sm_X0_executedAt hK hf hlo p0 p1 p2 h)
abbrev FR_X0_unrecovered : Nat := 9
abbrev LO_X0_unrecovered : Nat := 145
theorem dyX0_unrecovered : DY yX0_unrecovered 2 := ⟨⟨by decide, by decide⟩, by decide +kernel⟩
theorem sm_X0_unrecovered {G : GC} {K : SC} (hK : SOK G K RX0 cX0_unrecovered 3 (some (.int)) "unrecovered" (tableOf [(0, 8, 11, 15)])) (hf : FR_X0_unrecovered ≤ (kR K).frames) (hlo : LO_X0_unrecovered ≤ (kR K).locals) (p0 : Option Nat) (p1 : Option Nat) (h : AH) : Sim G K 3 (f_X0_unrecovered p0 p1 h) h 0 [(0, va_rf p0), (1, va_rf p1)] [] := by
  unfold f_X0_unrecovered
  refine s_aload_n hK dX0_unrecovered_0 rfl 1 rfl ?_
  refine s_iconst (v := 0) hK dX0_unrecovered_1 rfl ?_
  refine s_aload_n hK dX0_unrecovered_2 rfl 0 rfl ?_
  refine s_rc (fun _ _ eo er => ?_)
  refine s_cIX (fun E4 q5 h6 => ?_) (cx_v (As := []) (rest := [.int 0, va_rf p1]) hK dyX1_unrecovered rfl q1616 fcX1.1 q1617 q1618 q78 q1619 eo er (ct_X1_unrecovered hK.1 p0 h) (Nat.le_trans (Nat.le_of_ble_eq_true rfl) hf) (Nat.le_trans (Nat.le_of_ble_eq_true rfl) hlo) (rk_i (rk_a rk_n)) (Nat.le_of_ble_eq_true rfl) dX0_unrecovered_3 rfl) (fun v2 h1 => ?_)
  · refine st_ite (fun e7 => ?_) (fun e7 => ?_)
    · subst e7
      refine st_catch hK (tableOf []) ⟨0, 8, 11, 15⟩ (tableOf []) rfl (fun _ hz => nomatch hz) rfl (by decide) q1139 q326 ?_
      refine s_astore_n (lv' := [(2, va_rf (some q5)), (0, va_rf p0), (1, va_rf p1)]) hK dX0_unrecovered_11 rfl (Nat.le_of_ble_eq_true rfl) (flA (pre := [(0, va_rf p0)]) (suf := []) rfl rfl) ?_
      refine s_iconst (v := 1) hK dX0_unrecovered_12 rfl ?_
      exact s_iret hK dX0_unrecovered_13
    exact st_none
  · refine s_i2l hK dX0_unrecovered_6 ?_
    refine s_last hK dX0_unrecovered_7 (fun h3 => ?_)
    refine s_goto (tgt := 14) hK dX0_unrecovered_8 (by decide) ?_
    refine s_iconst (v := 0) hK dX0_unrecovered_14 rfl ?_
    exact s_iret hK dX0_unrecovered_15
theorem ct_X0_unrecovered {G : GC} {l : Launch} (g : GOK G l) (p0 : Option Nat) (p1 : Option Nat) (h : AH) : CT G l yX0_unrecovered (Cond.codeWith yX0_unrecovered cX0_unrecovered 3 (some (.int)) [(0, 8, 11, 15)]) 9 145 [va_rf p0, va_rf p1] (f_X0_unrecovered p0 p1 h) h :=
  CT.ofH g (by decide) (by simp only [ls_a, ls_i, ls_l, ls_n]; decide) (fun K _ hK hf hlo => by simp only [la_a, la_i, la_l, la_n]; exact sm_X0_unrecovered hK hf hlo p0 p1 h)
abbrev FR_X0_register : Nat := 9
abbrev LO_X0_register : Nat := 143
theorem dyX0_register : DY yX0_register 3 := ⟨⟨by decide, by decide⟩, by decide +kernel⟩
theorem sm_X0_register {G : GC} {K : SC} (hK : SOK G K RX0 cX0_register 4 (some (.int)) "register" (tableOf [(0, 9, 12, 15), (0, 9, 15, 25)])) (hf : FR_X0_register ≤ (kR K).frames) (hlo : LO_X0_register ≤ (kR K).locals) (p0 : Option Nat) (p1 : Int32) (p2 : Option Nat) (h : AH) : Sim G K 4 (f_X0_register p0 p1 p2 h) h 0 [(0, va_rf p0), (1, .int p1), (2, va_rf p2)] [] := by
  unfold f_X0_register
  refine s_aload_n hK dX0_register_0 rfl 2 rfl ?_
  refine s_iconst (v := 0) hK dX0_register_1 rfl ?_
  refine s_aload_n hK dX0_register_2 rfl 0 rfl ?_
  refine s_iload_n hK dX0_register_3 rfl 1 rfl ?_
  refine s_rc (fun _ _ eo er => ?_)
  refine s_cIX (fun E4 q5 h6 => ?_) (cx_v (As := [.int p1]) (rest := [.int 0, va_rf p2]) hK dyX1_register rfl q1623 fcX1.1 q1624 q1625 q78 q1626 eo er (ct_X1_register hK.1 p0 p1 h) (Nat.le_trans (Nat.le_of_ble_eq_true rfl) hf) (Nat.le_trans (Nat.le_of_ble_eq_true rfl) hlo) (rk_i (rk_a rk_n)) (Nat.le_of_ble_eq_true rfl) dX0_register_4 rfl) (fun v2 h1 => ?_)
  · refine st_ite (fun e8 => ?_) (fun e8 => ?_)
    · subst e8
      refine st_catch hK (tableOf []) ⟨0, 9, 12, 15⟩ (tableOf [(0, 9, 15, 25)]) rfl (fun _ hz => nomatch hz) rfl (by decide) q1139 q326 ?_
      refine s_astore_n (lv' := [(3, va_rf (some q5)), (0, va_rf p0), (1, .int p1), (2, va_rf p2)]) hK dX0_register_12 rfl (Nat.le_of_ble_eq_true rfl) (flA (pre := [(0, va_rf p0), (1, .int p1)]) (suf := []) rfl rfl) ?_
      refine s_iconst (v := 1) hK dX0_register_13 rfl ?_
      exact s_iret hK dX0_register_14
    refine st_ite (fun e7 => ?_) (fun e7 => ?_)
    · subst e7
      refine st_catch hK (tableOf [(0, 9, 12, 15)]) ⟨0, 9, 15, 25⟩ (tableOf []) rfl (List.forall_mem_cons.mpr ⟨Or.inr ⟨by decide, "java/lang/IllegalStateException", q1139, nc_java_lang_IndexOutOfBoundsException_java_lang_IllegalStateException hK.1⟩, (fun _ hz => nomatch hz)⟩) rfl (by decide) q1212 q495 ?_
      refine s_astore_n (lv' := [(3, va_rf (some q5)), (0, va_rf p0), (1, .int p1), (2, va_rf p2)]) hK dX0_register_15 rfl (Nat.le_of_ble_eq_true rfl) (flA (pre := [(0, va_rf p0), (1, .int p1)]) (suf := []) rfl rfl) ?_
      refine s_iconst (v := 2) hK dX0_register_16 rfl ?_
      exact s_iret hK dX0_register_17
    exact st_none
  · refine s_i2l hK dX0_register_7 ?_
    refine s_last hK dX0_register_8 (fun h3 => ?_)
    refine s_goto (tgt := 18) hK dX0_register_9 (by decide) ?_
    refine s_iconst (v := 0) hK dX0_register_18 rfl ?_
    exact s_iret hK dX0_register_19
theorem ct_X0_register {G : GC} {l : Launch} (g : GOK G l) (p0 : Option Nat) (p1 : Int32) (p2 : Option Nat) (h : AH) : CT G l yX0_register (Cond.codeWith yX0_register cX0_register 4 (some (.int)) [(0, 9, 12, 15), (0, 9, 15, 25)]) 9 143 [va_rf p0, .int p1, va_rf p2] (f_X0_register p0 p1 p2 h) h :=
  CT.ofH g (by decide) (by simp only [ls_a, ls_i, ls_l, ls_n]; decide) (fun K _ hK hf hlo => by simp only [la_a, la_i, la_l, la_n]; exact sm_X0_register hK hf hlo p0 p1 p2 h)
abbrev FR_X0_coverage : Nat := 9
abbrev LO_X0_coverage : Nat := 142
theorem dyX0_coverage : DY yX0_coverage 2 := ⟨⟨by decide, by decide⟩, by decide +kernel⟩
theorem sm_X0_coverage {G : GC} {K : SC} (hK : SOK G K RX0 cX0_coverage 3 (some (.int)) "coverage" (tableOf [(0, 7, 10, 15), (0, 7, 13, 117)])) (hf : FR_X0_coverage ≤ (kR K).frames) (hlo : LO_X0_coverage ≤ (kR K).locals) (p0 : Option Nat) (p1 : Option Nat) (h : AH) : Sim G K 3 (f_X0_coverage p0 p1 h) h 0 [(0, va_rf p0), (1, va_rf p1)] [] := by
  unfold f_X0_coverage
  refine s_aload_n hK dX0_coverage_0 rfl 1 rfl ?_
  refine s_iconst (v := 0) hK dX0_coverage_1 rfl ?_
  refine s_aload_n hK dX0_coverage_2 rfl 0 rfl ?_
  refine s_rc (fun _ _ eo er => ?_)
  refine s_cDX (fun E4 q5 h6 => ?_) (cx_v (As := []) (rest := [.int 0, va_rf p1]) hK dyX1_coverage rfl q1644 fcX1.1 q1645 q1646 q78 q1647 eo er (ct_X1_coverage hK.1 p0 h) (Nat.le_trans (Nat.le_of_ble_eq_true rfl) hf) (Nat.le_trans (Nat.le_of_ble_eq_true rfl) hlo) (rk_i (rk_a rk_n)) (Nat.le_of_ble_eq_true rfl) dX0_coverage_3 rfl) (fun v2 h1 => ?_)
  · refine st_ite (fun e8 => ?_) (fun e8 => ?_)
    · subst e8
      refine st_catch hK (tableOf []) ⟨0, 7, 10, 15⟩ (tableOf [(0, 7, 13, 117)]) rfl (fun _ hz => nomatch hz) rfl (by decide) q1139 q326 ?_
      refine s_astore_n (lv' := [(2, va_rf (some q5)), (0, va_rf p0), (1, va_rf p1)]) hK dX0_coverage_10 rfl (Nat.le_of_ble_eq_true rfl) (flA (pre := [(0, va_rf p0)]) (suf := []) rfl rfl) ?_
      refine s_iconst (v := 1) hK dX0_coverage_11 rfl ?_
      exact s_iret hK dX0_coverage_12
    refine st_ite (fun e7 => ?_) (fun e7 => ?_)
    · subst e7
      refine st_catch hK (tableOf [(0, 7, 10, 15)]) ⟨0, 7, 13, 117⟩ (tableOf []) rfl (List.forall_mem_cons.mpr ⟨Or.inr ⟨by decide, "java/lang/IllegalStateException", q1139, nc_java_lang_ArithmeticException_java_lang_IllegalStateException hK.1⟩, (fun _ hz => nomatch hz)⟩) rfl (by decide) q1630 q1642 ?_
      refine s_astore_n (lv' := [(2, va_rf (some q5)), (0, va_rf p0), (1, va_rf p1)]) hK dX0_coverage_13 rfl (Nat.le_of_ble_eq_true rfl) (flA (pre := [(0, va_rf p0)]) (suf := []) rfl rfl) ?_
      refine s_iconst (v := 2) hK dX0_coverage_14 rfl ?_
      exact s_iret hK dX0_coverage_15
    exact st_none
  · refine s_dast hK dX0_coverage_6 (fun h3 => ?_)
    refine s_goto (tgt := 16) hK dX0_coverage_7 (by decide) ?_
    refine s_iconst (v := 0) hK dX0_coverage_16 rfl ?_
    exact s_iret hK dX0_coverage_17
theorem ct_X0_coverage {G : GC} {l : Launch} (g : GOK G l) (p0 : Option Nat) (p1 : Option Nat) (h : AH) : CT G l yX0_coverage (Cond.codeWith yX0_coverage cX0_coverage 3 (some (.int)) [(0, 7, 10, 15), (0, 7, 13, 117)]) 9 142 [va_rf p0, va_rf p1] (f_X0_coverage p0 p1 h) h :=
  CT.ofH g (by decide) (by simp only [ls_a, ls_i, ls_l, ls_n]; decide) (fun K _ hK hf hlo => by simp only [la_a, la_i, la_l, la_n]; exact sm_X0_coverage hK hf hlo p0 p1 h)
abbrev FR_X0_averageBlock : Nat := 9
abbrev LO_X0_averageBlock : Nat := 142
theorem dyX0_averageBlock : DY yX0_averageBlock 2 := ⟨⟨by decide, by decide⟩, by decide +kernel⟩
theorem sm_X0_averageBlock {G : GC} {K : SC} (hK : SOK G K RX0 cX0_averageBlock 3 (some (.int)) "averageBlock" (tableOf [(0, 8, 11, 15), (0, 8, 14, 117)])) (hf : FR_X0_averageBlock ≤ (kR K).frames) (hlo : LO_X0_averageBlock ≤ (kR K).locals) (p0 : Option Nat) (p1 : Option Nat) (h : AH) : Sim G K 3 (f_X0_averageBlock p0 p1 h) h 0 [(0, va_rf p0), (1, va_rf p1)] [] := by
  unfold f_X0_averageBlock
  refine s_aload_n hK dX0_averageBlock_0 rfl 1 rfl ?_
  refine s_iconst (v := 0) hK dX0_averageBlock_1 rfl ?_
  refine s_aload_n hK dX0_averageBlock_2 rfl 0 rfl ?_
  refine s_rc (fun _ _ eo er => ?_)
  refine s_cFX (fun E5 q6 h7 => ?_) (cx_v (As := []) (rest := [.int 0, va_rf p1]) hK dyX1_averageBlock rfl q1663 fcX1.1 q1664 q1665 q78 q1666 eo er (ct_X1_averageBlock hK.1 p0 h) (Nat.le_trans (Nat.le_of_ble_eq_true rfl) hf) (Nat.le_trans (Nat.le_of_ble_eq_true rfl) hlo) (rk_i (rk_a rk_n)) (Nat.le_of_ble_eq_true rfl) dX0_averageBlock_3 rfl) (fun v2 h1 => ?_)
  · refine st_ite (fun e9 => ?_) (fun e9 => ?_)
    · subst e9
      refine st_catch hK (tableOf []) ⟨0, 8, 11, 15⟩ (tableOf [(0, 8, 14, 117)]) rfl (fun _ hz => nomatch hz) rfl (by decide) q1139 q326 ?_
      refine s_astore_n (lv' := [(2, va_rf (some q6)), (0, va_rf p0), (1, va_rf p1)]) hK dX0_averageBlock_11 rfl (Nat.le_of_ble_eq_true rfl) (flA (pre := [(0, va_rf p0)]) (suf := []) rfl rfl) ?_
      refine s_iconst (v := 1) hK dX0_averageBlock_12 rfl ?_
      exact s_iret hK dX0_averageBlock_13
    refine st_ite (fun e8 => ?_) (fun e8 => ?_)
    · subst e8
      refine st_catch hK (tableOf [(0, 8, 11, 15)]) ⟨0, 8, 14, 117⟩ (tableOf []) rfl (List.forall_mem_cons.mpr ⟨Or.inr ⟨by decide, "java/lang/IllegalStateException", q1139, nc_java_lang_ArithmeticException_java_lang_IllegalStateException hK.1⟩, (fun _ hz => nomatch hz)⟩) rfl (by decide) q1630 q1642 ?_
      refine s_astore_n (lv' := [(2, va_rf (some q6)), (0, va_rf p0), (1, va_rf p1)]) hK dX0_averageBlock_14 rfl (Nat.le_of_ble_eq_true rfl) (flA (pre := [(0, va_rf p0)]) (suf := []) rfl rfl) ?_
      refine s_iconst (v := 2) hK dX0_averageBlock_15 rfl ?_
      exact s_iret hK dX0_averageBlock_16
    exact st_none
  · refine s_f2d hK dX0_averageBlock_6 (fun v3 => ?_)
    refine s_dast hK dX0_averageBlock_7 (fun h4 => ?_)
    refine s_goto (tgt := 17) hK dX0_averageBlock_8 (by decide) ?_
    refine s_iconst (v := 0) hK dX0_averageBlock_17 rfl ?_
    exact s_iret hK dX0_averageBlock_18
theorem ct_X0_averageBlock {G : GC} {l : Launch} (g : GOK G l) (p0 : Option Nat) (p1 : Option Nat) (h : AH) : CT G l yX0_averageBlock (Cond.codeWith yX0_averageBlock cX0_averageBlock 3 (some (.int)) [(0, 8, 11, 15), (0, 8, 14, 117)]) 9 142 [va_rf p0, va_rf p1] (f_X0_averageBlock p0 p1 h) h :=
  CT.ofH g (by decide) (by simp only [ls_a, ls_i, ls_l, ls_n]; decide) (fun K _ hK hf hlo => by simp only [la_a, la_i, la_l, la_n]; exact sm_X0_averageBlock hK hf hlo p0 p1 h)
abbrev FR_X0_restore : Nat := 8
abbrev LO_X0_restore : Nat := 121
theorem dyX0_restore : DY yX0_restore 1 := ⟨⟨by decide, by decide⟩, by decide +kernel⟩
theorem sm_X0_restore {G : GC} {K : SC} (hK : SOK G K RX0 cX0_restore 2 (some (.int)) "restore" (tableOf [(0, 4, 7, 15)])) (hf : FR_X0_restore ≤ (kR K).frames) (hlo : LO_X0_restore ≤ (kR K).locals) (p0 : Option Nat) (h : AH) : Sim G K 2 (f_X0_restore p0 h) h 0 [(0, va_rf p0)] [] := by
  unfold f_X0_restore
  refine s_aload_n hK dX0_restore_0 rfl 0 rfl ?_
  refine s_rc (fun _ _ eo er => ?_)
  refine s_cVX (fun E2 q3 h4 => ?_) (cx_v (As := []) (rest := []) hK dyX1_restore rfl q1674 fcX1.1 q1675 q1676 q78 q1677 eo er (ct_X1_restore hK.1 p0 h) (Nat.le_trans (Nat.le_of_ble_eq_true rfl) hf) (Nat.le_trans (Nat.le_of_ble_eq_true rfl) hlo) rk_n (Nat.le_of_ble_eq_true rfl) dX0_restore_1 rfl) (fun h1 => ?_)
  · refine st_ite (fun e5 => ?_) (fun e5 => ?_)
    · subst e5
      refine st_catch hK (tableOf []) ⟨0, 4, 7, 15⟩ (tableOf []) rfl (fun _ hz => nomatch hz) rfl (by decide) q1139 q326 ?_
      refine s_astore_n (lv' := [(1, va_rf (some q3)), (0, va_rf p0)]) hK dX0_restore_7 rfl (Nat.le_of_ble_eq_true rfl) (flA (pre := []) (suf := []) rfl rfl) ?_
      refine s_iconst (v := 1) hK dX0_restore_8 rfl ?_
      exact s_iret hK dX0_restore_9
    exact st_none
  · refine s_goto (tgt := 10) hK dX0_restore_4 (by decide) ?_
    refine s_iconst (v := 0) hK dX0_restore_10 rfl ?_
    exact s_iret hK dX0_restore_11
theorem ct_X0_restore {G : GC} {l : Launch} (g : GOK G l) (p0 : Option Nat) (h : AH) : CT G l yX0_restore (Cond.codeWith yX0_restore cX0_restore 2 (some (.int)) [(0, 4, 7, 15)]) 8 121 [va_rf p0] (f_X0_restore p0 h) h :=
  CT.ofH g (by decide) (by simp only [ls_a, ls_i, ls_l, ls_n]; decide) (fun K _ hK hf hlo => by simp only [la_a, la_i, la_l, la_n]; exact sm_X0_restore hK hf hlo p0 h)
