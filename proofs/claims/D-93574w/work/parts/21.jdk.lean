/-! printed by mk.py/gen.py -/
set_option maxRecDepth 100000
def f_J5_init (p0 : Option Nat) (h : AH) : RS := xnn p0 (rtV h)
def f_J6_init (p0 : Option Nat) (h : AH) : RS := xnn p0 (xcV (f_J5_init p0 h) (fun h1 => xpF h1 p0 10 0 (.int 0) (fun h2 => rtV h2)))
def f_J8_init (p0 : Option Nat) (h : AH) : RS := xnn p0 (rtV h)
def f_J10_newLength (p0 : Int32) (p1 : Int32) (p2 : Int32) (h : AH) : RS := if (p0 + (mxI p1 p2)) ≤ 0 then none else if 2147483639 < (p0 + (mxI p1 p2)) then none else rtI (p0 + (mxI p1 p2)) h
def f_J14_checkIndex (p0 : Int32) (p1 : Int32) (p2 : Option Nat) (h : AH) : RS := if p0 < 0 then none else if p0 < p1 then rtI p0 h else none
def f_J13_checkIndex (p0 : Int32) (p1 : Int32) (h : AH) : RS := xcI (f_J14_checkIndex p0 p1 none h) (fun v2 h1 => rtI v2 h1)
def f_J9_init (p0 : Option Nat) (p1 : Int32) (h : AH) : RS := xnn p0 (xcV (f_J8_init p0 h) (fun h1 => xpF h1 p0 11 0 (.int p1) (fun h2 => rtV h2)))
def f_J9_valueOf_J23 (x1 : Int32)  (h2 : AH) : RS := xnO h2 11 1 fsJ9 (fun a3 h4 => xnn a3 (xcV (f_J9_init a3 x1 h4) (fun h5 => rtA a3 h5)))
def f_J9_valueOf (p0 : Int32) (h : AH) : RS := if p0 < (-128) then f_J9_valueOf_J23 p0 h else xtI h 1 (fun v6 => if v6 < p0 then f_J9_valueOf_J23 p0 h else xtA h 0 (fun v7 => xlA h v7 (p0 + 128) (fun v8 => rtA v8 h)))
def f_J9_intValue (p0 : Option Nat) (h : AH) : RS := xgI h p0 11 0 (fun v1 => rtI v1 h)
def f_J9_equals (p0 : Option Nat) (p1 : Option Nat) (h : AH) : RS := xin h p1 11 (fun v1 => if v1 = 0 then rtZ 0 h else xgI h p0 11 0 (fun v2 => xck h p1 [11] (xrc h p1 11 (xcI (f_J9_intValue p1 h) (fun v4 h3 => if ¬ v2 = v4 then rtZ 0 h3 else rtZ 1 h3)))))
noncomputable def f_J12_copyOf_2 (p0 : Option Nat) (p1 : Int32) (p2 : Option Nat) (h : AH) : RS := xmi h (fun v1 => if ¬ p2 = v1 then none else xnA h 5 p1 (fun a2 h3 => xaL h3 p0 (fun v4 => xcpA h3 p0 0 a2 0 (mnI v4 p1) (fun h5 => rtA a2 h5))))
noncomputable def f_J12_copyOf (p0 : Option Nat) (p1 : Int32) (h : AH) : RS := xgc h p0 (fun a1 => xcA (f_J12_copyOf_2 p0 p1 a1 h) (fun v3 h2 => rtA v3 h2))
noncomputable def f_J12_copyOf_4 (p0 : Option Nat) (p1 : Int32) (h : AH) : RS := xaL h p0 (fun v1 => if ¬ p1 = v1 then xnA h 3 p1 (fun a2 h3 => xaL h3 p0 (fun v4 => xcpL h3 p0 0 a2 0 (mnI v4 p1) (fun h5 => rtA a2 h5))) else none)
def f_J7_init (p0 : Option Nat) (h : AH) : RS := xnn p0 (xcV (f_J6_init p0 h) (fun h1 => xtA h1 2 (fun v2 => xpF h1 p0 10 1 (va_rf v2) (fun h3 => rtV h3))))
def f_J7_size (p0 : Option Nat) (h : AH) : RS := xgI h p0 10 2 (fun v1 => rtI v1 h)
def f_J7_elementData (p0 : Option Nat) (p1 : Int32) (h : AH) : RS := xgA h p0 10 1 (fun v1 => xlA h v1 p1 (fun v2 => rtA v2 h))
def f_J7_get (p0 : Option Nat) (p1 : Int32) (h : AH) : RS := xgI h p0 10 2 (fun v1 => xcI (f_J13_checkIndex p1 v1 h) (fun v3 h2 => xrc h2 p0 10 (xcA (f_J7_elementData p0 p1 h2) (fun v5 h4 => rtA v5 h4))))
noncomputable def f_J7_grow_2_J20 (x3 : Option Nat) (x4 : Int32) (x5 : Int32)  (h6 : AH) : RS := xcI (f_J10_newLength x5 (x4 - x5) (x5 >>> ((1 : Int32) &&& 31)) h6) (fun v8 h7 => xgA h7 x3 10 1 (fun v9 => xcA (f_J12_copyOf v9 v8 h7) (fun v11 h10 => xpF h10 x3 10 1 (va_rf v11) (fun h12 => rtA v11 h12))))
noncomputable def f_J7_grow_2 (p0 : Option Nat) (p1 : Int32) (h : AH) : RS := xgA h p0 10 1 (fun v1 => xaL h v1 (fun v2 => if 0 < v2 then f_J7_grow_2_J20 p0 p1 v2 h else xgA h p0 10 1 (fun v13 => xtA h 2 (fun v14 => if v13 = v14 then xnA h 5 (mxI 10 p1) (fun a15 h16 => xpF h16 p0 10 1 (va_rf a15) (fun h17 => rtA a15 h17)) else f_J7_grow_2_J20 p0 p1 v2 h))))
noncomputable def f_J7_grow (p0 : Option Nat) (h : AH) : RS := xgI h p0 10 2 (fun v1 => xrc h p0 10 (xcA (f_J7_grow_2 p0 (v1 + 1) h) (fun v3 h2 => rtA v3 h2)))
noncomputable def f_J7_add_2_J11 (x2 : Option Nat) (x3 : Option Nat) (x4 : Option Nat) (x5 : Int32)  (h6 : AH) : RS := xsA h6 x4 x5 x3 (fun h7 => xpF h7 x2 10 2 (.int (x5 + 1)) (fun h8 => rtV h8))
noncomputable def f_J7_add_2 (p0 : Option Nat) (p1 : Option Nat) (p2 : Option Nat) (p3 : Int32) (h : AH) : RS := xaL h p2 (fun v1 => if ¬ p3 = v1 then f_J7_add_2_J11 p0 p1 p2 p3 h else xrc h p0 10 (xcA (f_J7_grow p0 h) (fun v10 h9 => f_J7_add_2_J11 p0 p1 v10 p3 h9)))
noncomputable def f_J7_add (p0 : Option Nat) (p1 : Option Nat) (h : AH) : RS := xgI h p0 10 0 (fun v1 => xpF h p0 10 0 (.int (v1 + 1)) (fun h2 => xgA h2 p0 10 1 (fun v3 => xgI h2 p0 10 2 (fun v4 => xrc h2 p0 10 (xcV (f_J7_add_2 p0 p1 v3 v4 h2) (fun h5 => rtZ 1 h5))))))
def f_J7_indexOfRange_L42 (k69 : AH → RS) : Nat → Option Nat → Int32 → Option Nat → Int32 → AH → RS
  | 0, _, _, _, _, _ => none
  | n + 1, x2, x3, x4, x5, h6 => if x3 ≤ x5 then k69  h6 else xlA h6 x4 x5 (fun v7 => xrc h6 x2 11 (xcI (f_J9_equals x2 v7 h6) (fun v9 h8 => if v9 = 0 then f_J7_indexOfRange_L42 k69 n x2 x3 x4 (x5 + 1) h8 else rtI x5 h8)))
def f_J7_indexOfRange_L13 (k36 : AH → RS) : Nat → Int32 → Option Nat → Int32 → AH → RS
  | 0, _, _, _, _ => none
  | n + 1, x13, x14, x15, h16 => if x13 ≤ x15 then k36  h16 else xlA h16 x14 x15 (fun v17 => if ¬ v17 = none then f_J7_indexOfRange_L13 k36 n x13 x14 (x15 + 1) h16 else rtI x15 h16)
def f_J7_indexOfRange (p0 : Option Nat) (p1 : Option Nat) (p2 : Int32) (p3 : Int32) (h : AH) : RS := xgA h p0 10 1 (fun v1 => if ¬ p1 = none then f_J7_indexOfRange_L42 (fun h12 => rtI (-1) h12) FUEL p1 p3 v1 p2 h else f_J7_indexOfRange_L13 (fun h20 => rtI (-1) h20) FUEL p3 v1 p2 h)
def f_J7_indexOf (p0 : Option Nat) (p1 : Option Nat) (h : AH) : RS := xgI h p0 10 2 (fun v1 => xrc h p0 10 (xcI (f_J7_indexOfRange p0 p1 0 v1 h) (fun v3 h2 => rtI v3 h2)))
def f_J7_contains (p0 : Option Nat) (p1 : Option Nat) (h : AH) : RS := xrc h p0 10 (xcI (f_J7_indexOf p0 p1 h) (fun v2 h1 => if v2 < 0 then rtZ 0 h1 else rtZ 1 h1))
abbrev FR_J5_init : Nat := 1
abbrev LO_J5_init : Nat := 16
theorem dyJ5_init : DY yJ5_init 0 := ⟨⟨by decide, by decide⟩, by decide +kernel⟩
theorem sm_J5_init {G : GC} {K : SC} (hK : SOK G K RJ5 cJ5_init 1 (none) "<init>" []) (hf : FR_J5_init ≤ (kR K).frames) (hlo : LO_J5_init ≤ (kR K).locals) (p0 : Option Nat) (h : AH) : Sim G K 1 (f_J5_init p0 h) h 0 [(0, va_rf p0)] [] := by
  unfold f_J5_init
  refine s_aload_n hK dJ5_init_0 rfl 0 rfl ?_
  refine s_oinit hK q215 q124 q125 dJ5_init_1 (Nat.le_trans (Nat.le_of_ble_eq_true rfl) hf) rk_n (Nat.le_trans (Nat.le_of_ble_eq_true rfl) hlo) ?_
  exact s_vret hK dJ5_init_4
theorem ct_J5_init {G : GC} {l : Launch} (g : GOK G l) (p0 : Option Nat) (h : AH) : CT G l yJ5_init (Cond.code yJ5_init cJ5_init 1 (none)) 1 16 [va_rf p0] (f_J5_init p0 h) h :=
  CT.of g (by decide) (by simp only [ls_a, ls_i, ls_l, ls_n]; decide) (fun K _ hK hf hlo => by simp only [la_a, la_i, la_l, la_n]; exact sm_J5_init hK hf hlo p0 h)
abbrev FR_J6_init : Nat := 2
abbrev LO_J6_init : Nat := 36
theorem dyJ6_init : DY yJ6_init 0 := ⟨⟨by decide, by decide⟩, by decide +kernel⟩
theorem sm_J6_init {G : GC} {K : SC} (hK : SOK G K RJ6 cJ6_init 1 (none) "<init>" []) (hf : FR_J6_init ≤ (kR K).frames) (hlo : LO_J6_init ≤ (kR K).locals) (p0 : Option Nat) (h : AH) : Sim G K 1 (f_J6_init p0 h) h 0 [(0, va_rf p0)] [] := by
  unfold f_J6_init
  refine s_aload_n hK dJ6_init_0 rfl 0 rfl ?_
  refine s_nn (fun _ eo => ?_)
  refine s_cV hK ho_n (cx_i (As := []) (rest := []) hK dyJ5_init rfl q242 rfl q213 q86 q214 eo (ct_J5_init hK.1 p0 h) (Nat.le_trans (Nat.le_of_ble_eq_true rfl) hf) (Nat.le_trans (Nat.le_of_ble_eq_true rfl) hlo) rk_n (Nat.le_of_ble_eq_true rfl) dJ6_init_1 rfl) (fun h1 => ?_)
  refine s_aload_n hK dJ6_init_4 rfl 0 rfl ?_
  refine s_iconst (v := 0) hK dJ6_init_5 rfl ?_
  refine s_pF hK fcJ7 0 (Nat.le_of_ble_eq_true rfl) (Or.inl q247) (Or.inl rfl) (Or.inl rfl) rfl rfl dJ6_init_6 (fun h2 => ?_)
  exact s_vret hK dJ6_init_9
theorem ct_J6_init {G : GC} {l : Launch} (g : GOK G l) (p0 : Option Nat) (h : AH) : CT G l yJ6_init (Cond.code yJ6_init cJ6_init 1 (none)) 2 36 [va_rf p0] (f_J6_init p0 h) h :=
  CT.of g (by decide) (by simp only [ls_a, ls_i, ls_l, ls_n]; decide) (fun K _ hK hf hlo => by simp only [la_a, la_i, la_l, la_n]; exact sm_J6_init hK hf hlo p0 h)
abbrev FR_J8_init : Nat := 1
abbrev LO_J8_init : Nat := 16
theorem dyJ8_init : DY yJ8_init 0 := ⟨⟨by decide, by decide⟩, by decide +kernel⟩
theorem sm_J8_init {G : GC} {K : SC} (hK : SOK G K RJ8 cJ8_init 1 (none) "<init>" []) (hf : FR_J8_init ≤ (kR K).frames) (hlo : LO_J8_init ≤ (kR K).locals) (p0 : Option Nat) (h : AH) : Sim G K 1 (f_J8_init p0 h) h 0 [(0, va_rf p0)] [] := by
  unfold f_J8_init
  refine s_aload_n hK dJ8_init_0 rfl 0 rfl ?_
  refine s_oinit hK q303 q124 q125 dJ8_init_1 (Nat.le_trans (Nat.le_of_ble_eq_true rfl) hf) rk_n (Nat.le_trans (Nat.le_of_ble_eq_true rfl) hlo) ?_
  exact s_vret hK dJ8_init_4
theorem ct_J8_init {G : GC} {l : Launch} (g : GOK G l) (p0 : Option Nat) (h : AH) : CT G l yJ8_init (Cond.code yJ8_init cJ8_init 1 (none)) 1 16 [va_rf p0] (f_J8_init p0 h) h :=
  CT.of g (by decide) (by simp only [ls_a, ls_i, ls_l, ls_n]; decide) (fun K _ hK hf hlo => by simp only [la_a, la_i, la_l, la_n]; exact sm_J8_init hK hf hlo p0 h)
abbrev FR_J10_newLength : Nat := 1
abbrev LO_J10_newLength : Nat := 16
theorem dyJ10_newLength : DY yJ10_newLength 3 := ⟨⟨by decide, by decide⟩, by decide +kernel⟩
theorem sm_J10_newLength {G : GC} {K : SC} (hK : SOK G K RJ10 cJ10_newLength 4 (some (.int)) "newLength" []) (hf : FR_J10_newLength ≤ (kR K).frames) (hlo : LO_J10_newLength ≤ (kR K).locals) (p0 : Int32) (p1 : Int32) (p2 : Int32) (h : AH) : Sim G K 4 (f_J10_newLength p0 p1 p2 h) h 0 [(0, .int p0), (1, .int p1), (2, .int p2)] [] := by
  unfold f_J10_newLength
  refine s_iload_n hK dJ10_newLength_0 rfl 0 rfl ?_
  refine s_iload_n hK dJ10_newLength_1 rfl 1 rfl ?_
  refine s_iload_n hK dJ10_newLength_2 rfl 2 rfl ?_
  refine s_mmax hK q556 q557 q94 q558 (Nat.le_trans (Nat.le_of_ble_eq_true rfl) hf) (rk_i rk_n) (Nat.le_trans (Nat.le_of_ble_eq_true rfl) hlo) dJ10_newLength_3 ?_
  refine s_iadd hK dJ10_newLength_6 ?_
  refine s_istore_n (lv' := [(3, .int (p0 + (mxI p1 p2))), (0, .int p0), (1, .int p1), (2, .int p2)]) hK dJ10_newLength_7 rfl (Nat.le_of_ble_eq_true rfl) rfl ?_
  refine s_iconst (v := 0) hK dJ10_newLength_8 rfl ?_
  refine s_iload_n hK dJ10_newLength_9 rfl 0 rfl ?_
  refine s_icmp_ge (tgt := 21) hK dJ10_newLength_10 (by decide) (fun c2 => ?_) (fun c2 => ?_)
  · refine s_iload_n hK dJ10_newLength_21 rfl 1 rfl ?_
    refine s_iload_n hK dJ10_newLength_22 rfl 2 rfl ?_
    exact s_none
  · refine s_iload_n hK dJ10_newLength_13 rfl 0 rfl ?_
    refine s_ldc hK q559 dJ10_newLength_14 ?_
    refine s_icmp_gt (tgt := 21) hK dJ10_newLength_16 (by decide) (fun c1 => ?_) (fun c1 => ?_)
    · refine s_iload_n hK dJ10_newLength_21 rfl 1 rfl ?_
      refine s_iload_n hK dJ10_newLength_22 rfl 2 rfl ?_
      exact s_none
    · refine s_iload_n hK dJ10_newLength_19 rfl 0 rfl ?_
      exact s_iret hK dJ10_newLength_20
theorem ct_J10_newLength {G : GC} {l : Launch} (g : GOK G l) (p0 : Int32) (p1 : Int32) (p2 : Int32) (h : AH) : CT G l yJ10_newLength (Cond.code yJ10_newLength cJ10_newLength 4 (some (.int))) 1 16 [.int p0, .int p1, .int p2] (f_J10_newLength p0 p1 p2 h) h :=
  CT.of g (by decide) (by simp only [ls_a, ls_i, ls_l, ls_n]; decide) (fun K _ hK hf hlo => by simp only [la_a, la_i, la_l, la_n]; exact sm_J10_newLength hK hf hlo p0 p1 p2 h)
abbrev FR_J14_checkIndex : Nat := 1
abbrev LO_J14_checkIndex : Nat := 16
theorem dyJ14_checkIndex : DY yJ14_checkIndex 3 := ⟨⟨by decide, by decide⟩, by decide +kernel⟩
theorem sm_J14_checkIndex {G : GC} {K : SC} (hK : SOK G K RJ14 cJ14_checkIndex 3 (some (.int)) "checkIndex" []) (hf : FR_J14_checkIndex ≤ (kR K).frames) (hlo : LO_J14_checkIndex ≤ (kR K).locals) (p0 : Int32) (p1 : Int32) (p2 : Option Nat) (h : AH) : Sim G K 3 (f_J14_checkIndex p0 p1 p2 h) h 0 [(0, .int p0), (1, .int p1), (2, va_rf p2)] [] := by
  unfold f_J14_checkIndex
  refine s_iload_n hK dJ14_checkIndex_0 rfl 0 rfl ?_
  refine s_if_lt (tgt := 9) hK dJ14_checkIndex_1 (by decide) (fun c2 => ?_) (fun c2 => ?_)
  · refine s_aload_n hK dJ14_checkIndex_9 rfl 2 rfl ?_
    refine s_iload_n hK dJ14_checkIndex_10 rfl 0 rfl ?_
    refine s_iload_n hK dJ14_checkIndex_11 rfl 1 rfl ?_
    exact s_none
  · refine s_iload_n hK dJ14_checkIndex_4 rfl 0 rfl ?_
    refine s_iload_n hK dJ14_checkIndex_5 rfl 1 rfl ?_
    refine s_icmp_lt (tgt := 16) hK dJ14_checkIndex_6 (by decide) (fun c1 => ?_) (fun c1 => ?_)
    · refine s_iload_n hK dJ14_checkIndex_16 rfl 0 rfl ?_
      exact s_iret hK dJ14_checkIndex_17
    · refine s_aload_n hK dJ14_checkIndex_9 rfl 2 rfl ?_
      refine s_iload_n hK dJ14_checkIndex_10 rfl 0 rfl ?_
      refine s_iload_n hK dJ14_checkIndex_11 rfl 1 rfl ?_
      exact s_none
theorem ct_J14_checkIndex {G : GC} {l : Launch} (g : GOK G l) (p0 : Int32) (p1 : Int32) (p2 : Option Nat) (h : AH) : CT G l yJ14_checkIndex (Cond.code yJ14_checkIndex cJ14_checkIndex 3 (some (.int))) 1 16 [.int p0, .int p1, va_rf p2] (f_J14_checkIndex p0 p1 p2 h) h :=
  CT.of g (by decide) (by simp only [ls_a, ls_i, ls_l, ls_n]; decide) (fun K _ hK hf hlo => by simp only [la_a, la_i, la_l, la_n]; exact sm_J14_checkIndex hK hf hlo p0 p1 p2 h)
abbrev FR_J13_checkIndex : Nat := 2
abbrev LO_J13_checkIndex : Nat := 38
theorem dyJ13_checkIndex : DY yJ13_checkIndex 2 := ⟨⟨by decide, by decide⟩, by decide +kernel⟩
theorem sm_J13_checkIndex {G : GC} {K : SC} (hK : SOK G K RJ13 cJ13_checkIndex 2 (some (.int)) "checkIndex" []) (hf : FR_J13_checkIndex ≤ (kR K).frames) (hlo : LO_J13_checkIndex ≤ (kR K).locals) (p0 : Int32) (p1 : Int32) (h : AH) : Sim G K 2 (f_J13_checkIndex p0 p1 h) h 0 [(0, .int p0), (1, .int p1)] [] := by
  unfold f_J13_checkIndex
  refine s_iload_n hK dJ13_checkIndex_0 rfl 0 rfl ?_
  refine s_iload_n hK dJ13_checkIndex_1 rfl 1 rfl ?_
  refine s_null hK dJ13_checkIndex_2 ?_
  refine s_cI hK ho_n (cx_s (As := [.int p0, .int p1, va_rf none]) (rest := []) hK dyJ14_checkIndex rfl q987 q988 q98 q989 (ct_J14_checkIndex hK.1 p0 p1 none h) (Nat.le_trans (Nat.le_of_ble_eq_true rfl) hf) (Nat.le_trans (Nat.le_of_ble_eq_true rfl) hlo) rk_n (Nat.le_of_ble_eq_true rfl) dJ13_checkIndex_3 rfl) (fun v2 h1 => ?_)
  exact s_iret hK dJ13_checkIndex_6
theorem ct_J13_checkIndex {G : GC} {l : Launch} (g : GOK G l) (p0 : Int32) (p1 : Int32) (h : AH) : CT G l yJ13_checkIndex (Cond.code yJ13_checkIndex cJ13_checkIndex 2 (some (.int))) 2 38 [.int p0, .int p1] (f_J13_checkIndex p0 p1 h) h :=
  CT.of g (by decide) (by simp only [ls_a, ls_i, ls_l, ls_n]; decide) (fun K _ hK hf hlo => by simp only [la_a, la_i, la_l, la_n]; exact sm_J13_checkIndex hK hf hlo p0 p1 h)
abbrev FR_J9_init : Nat := 2
abbrev LO_J9_init : Nat := 36
theorem dyJ9_init : DY yJ9_init 1 := ⟨⟨by decide, by decide⟩, by decide +kernel⟩
theorem sm_J9_init {G : GC} {K : SC} (hK : SOK G K RJ9 cJ9_init 2 (none) "<init>" []) (hf : FR_J9_init ≤ (kR K).frames) (hlo : LO_J9_init ≤ (kR K).locals) (p0 : Option Nat) (p1 : Int32) (h : AH) : Sim G K 2 (f_J9_init p0 p1 h) h 0 [(0, va_rf p0), (1, .int p1)] [] := by
  unfold f_J9_init
  refine s_aload_n hK dJ9_init_0 rfl 0 rfl ?_
  refine s_nn (fun _ eo => ?_)
  refine s_cV hK ho_n (cx_i (As := []) (rest := []) hK dyJ8_init rfl q300 rfl q301 q90 q302 eo (ct_J8_init hK.1 p0 h) (Nat.le_trans (Nat.le_of_ble_eq_true rfl) hf) (Nat.le_trans (Nat.le_of_ble_eq_true rfl) hlo) rk_n (Nat.le_of_ble_eq_true rfl) dJ9_init_1 rfl) (fun h1 => ?_)
  refine s_aload_n hK dJ9_init_4 rfl 0 rfl ?_
  refine s_iload_n hK dJ9_init_5 rfl 1 rfl ?_
  refine s_pF hK fcJ9 0 (Nat.le_of_ble_eq_true rfl) (Or.inl q304) (Or.inl rfl) (Or.inr ⟨rfl, rfl, rfl, q304⟩) rfl rfl dJ9_init_6 (fun h2 => ?_)
  exact s_vret hK dJ9_init_9
theorem ct_J9_init {G : GC} {l : Launch} (g : GOK G l) (p0 : Option Nat) (p1 : Int32) (h : AH) : CT G l yJ9_init (Cond.code yJ9_init cJ9_init 2 (none)) 2 36 [va_rf p0, .int p1] (f_J9_init p0 p1 h) h :=
  CT.of g (by decide) (by simp only [ls_a, ls_i, ls_l, ls_n]; decide) (fun K _ hK hf hlo => by simp only [la_a, la_i, la_l, la_n]; exact sm_J9_init hK hf hlo p0 p1 h)
abbrev FR_J9_valueOf : Nat := 3
abbrev LO_J9_valueOf : Nat := 57
theorem dyJ9_valueOf : DY yJ9_valueOf 1 := ⟨⟨by decide, by decide⟩, by decide +kernel⟩
theorem sm_J9_valueOf_J23 {G : GC} {K : SC} (hK : SOK G K RJ9 cJ9_valueOf 1 (some (.object "java/lang/Integer")) "valueOf" []) (hf : FR_J9_valueOf ≤ (kR K).frames) (hlo : LO_J9_valueOf ≤ (kR K).locals) (x1 : Int32)  (h2 : AH) : Sim G K 1 (f_J9_valueOf_J23 x1 h2) h2 23 [(0, .int x1)] [] := by
  unfold f_J9_valueOf_J23
  refine s_new hK fcJ9 q295 q296 q91 fsJ9_ok dJ9_valueOf_23 (fun a3 h4 => ?_)
  refine s_dup hK dJ9_valueOf_26 (va_cat _) ?_
  refine s_iload_n hK dJ9_valueOf_27 rfl 0 rfl ?_
  refine s_nn (fun _ eo => ?_)
  refine s_cV hK ho_n (cx_i (As := [.int x1]) (rest := [va_rf a3]) hK dyJ9_init rfl q297 rfl q298 q91 q299 eo (ct_J9_init hK.1 a3 x1 h4) (Nat.le_trans (Nat.le_of_ble_eq_true rfl) hf) (Nat.le_trans (Nat.le_of_ble_eq_true rfl) hlo) (rk_a rk_n) (Nat.le_of_ble_eq_true rfl) dJ9_valueOf_28 rfl) (fun h5 => ?_)
  exact s_aret hK (Or.inl ⟨_, rfl⟩) dJ9_valueOf_31
theorem sm_J9_valueOf {G : GC} {K : SC} (hK : SOK G K RJ9 cJ9_valueOf 1 (some (.object "java/lang/Integer")) "valueOf" []) (hf : FR_J9_valueOf ≤ (kR K).frames) (hlo : LO_J9_valueOf ≤ (kR K).locals) (p0 : Int32) (h : AH) : Sim G K 1 (f_J9_valueOf p0 h) h 0 [(0, .int p0)] [] := by
  unfold f_J9_valueOf
  refine s_iload_n hK dJ9_valueOf_0 rfl 0 rfl ?_
  refine s_bipush (v := (-128)) hK dJ9_valueOf_1 rfl ?_
  refine s_icmp_lt (tgt := 23) hK dJ9_valueOf_3 (by decide) (fun c10 => ?_) (fun c10 => ?_)
  · exact sm_J9_valueOf_J23 hK hf hlo p0 h
  · refine s_iload_n hK dJ9_valueOf_6 rfl 0 rfl ?_
    refine s_getsI hK 1 rfl q291 (Or.inl rfl) dJ9_valueOf_7 (fun v6 => ?_)
    refine s_icmp_gt (tgt := 23) hK dJ9_valueOf_10 (by decide) (fun c9 => ?_) (fun c9 => ?_)
    · exact sm_J9_valueOf_J23 hK hf hlo p0 h
    · refine s_getsA hK 0 rfl q293 (Or.inl rfl) dJ9_valueOf_13 (fun v7 => ?_)
      refine s_iload_n hK dJ9_valueOf_16 rfl 0 rfl ?_
      refine s_sipush (v := 128) hK dJ9_valueOf_17 rfl ?_
      refine s_iadd hK dJ9_valueOf_20 ?_
      refine s_aald hK dJ9_valueOf_21 (fun v8 => ?_)
      exact s_aret hK (Or.inl ⟨_, rfl⟩) dJ9_valueOf_22
theorem ct_J9_valueOf {G : GC} {l : Launch} (g : GOK G l) (p0 : Int32) (h : AH) : CT G l yJ9_valueOf (Cond.code yJ9_valueOf cJ9_valueOf 1 (some (.object "java/lang/Integer"))) 3 57 [.int p0] (f_J9_valueOf p0 h) h :=
  CT.of g (by decide) (by simp only [ls_a, ls_i, ls_l, ls_n]; decide) (fun K _ hK hf hlo => by simp only [la_a, la_i, la_l, la_n]; exact sm_J9_valueOf hK hf hlo p0 h)
abbrev FR_J9_intValue : Nat := 1
abbrev LO_J9_intValue : Nat := 16
theorem dyJ9_intValue : DY yJ9_intValue 0 := ⟨⟨by decide, by decide⟩, by decide +kernel⟩
theorem sm_J9_intValue {G : GC} {K : SC} (hK : SOK G K RJ9 cJ9_intValue 1 (some (.int)) "intValue" []) (hf : FR_J9_intValue ≤ (kR K).frames) (hlo : LO_J9_intValue ≤ (kR K).locals) (p0 : Option Nat) (h : AH) : Sim G K 1 (f_J9_intValue p0 h) h 0 [(0, va_rf p0)] [] := by
  unfold f_J9_intValue
  refine s_aload_n hK dJ9_intValue_0 rfl 0 rfl ?_
  refine s_gI hK fcJ9 0 (Nat.le_of_ble_eq_true rfl) (Or.inl q304) (Or.inl rfl) dJ9_intValue_1 (fun v1 => ?_)
  exact s_iret hK dJ9_intValue_4
theorem ct_J9_intValue {G : GC} {l : Launch} (g : GOK G l) (p0 : Option Nat) (h : AH) : CT G l yJ9_intValue (Cond.code yJ9_intValue cJ9_intValue 1 (some (.int))) 1 16 [va_rf p0] (f_J9_intValue p0 h) h :=
  CT.of g (by decide) (by simp only [ls_a, ls_i, ls_l, ls_n]; decide) (fun K _ hK hf hlo => by simp only [la_a, la_i, la_l, la_n]; exact sm_J9_intValue hK hf hlo p0 h)
abbrev FR_J9_equals : Nat := 2
abbrev LO_J9_equals : Nat := 36
theorem dyJ9_equals : DY yJ9_equals 1 := ⟨⟨by decide, by decide⟩, by decide +kernel⟩
theorem sm_J9_equals {G : GC} {K : SC} (hK : SOK G K RJ9 cJ9_equals 2 (some (.boolean)) "equals" []) (hf : FR_J9_equals ≤ (kR K).frames) (hlo : LO_J9_equals ≤ (kR K).locals) (p0 : Option Nat) (p1 : Option Nat) (h : AH) : Sim G K 2 (f_J9_equals p0 p1 h) h 0 [(0, va_rf p0), (1, va_rf p1)] [] := by
  unfold f_J9_equals
  refine s_aload_n hK dJ9_equals_0 rfl 1 rfl ?_
  refine s_inst hK fcJ9.1 q295 dJ9_equals_1 (fun v1 => ?_)
  refine s_if_eq (tgt := 27) hK dJ9_equals_4 (by decide) (fun c6 => ?_) (fun c6 => ?_)
  · refine s_iconst (v := 0) hK dJ9_equals_27 rfl ?_
    exact s_zret hK dJ9_equals_28
  · refine s_aload_n hK dJ9_equals_7 rfl 0 rfl ?_
    refine s_gI hK fcJ9 0 (Nat.le_of_ble_eq_true rfl) (Or.inl q304) (Or.inl rfl) dJ9_equals_8 (fun v2 => ?_)
    refine s_aload_n hK dJ9_equals_11 rfl 1 rfl ?_
    refine s_ck hK q295 (ck1 fcJ9.1 (Or.inl rfl)) dJ9_equals_12 ?_
    refine s_rc (fun _ _ eo er => ?_)
    refine s_cI hK ho_n (cx_v (As := []) (rest := [.int v2]) hK dyJ9_intValue rfl q839 fcJ9.1 q478 q479 q91 q480 eo er (ct_J9_intValue hK.1 p1 h) (Nat.le_trans (Nat.le_of_ble_eq_true rfl) hf) (Nat.le_trans (Nat.le_of_ble_eq_true rfl) hlo) (rk_i rk_n) (Nat.le_of_ble_eq_true rfl) dJ9_equals_15 rfl) (fun v4 h3 => ?_)
    refine s_icmp_ne (tgt := 25) hK dJ9_equals_18 (by decide) (fun c5 => ?_) (fun c5 => ?_)
    · refine s_iconst (v := 0) hK dJ9_equals_25 rfl ?_
      exact s_zret hK dJ9_equals_26
    · refine s_iconst (v := 1) hK dJ9_equals_21 rfl ?_
      refine s_goto (tgt := 26) hK dJ9_equals_22 (by decide) ?_
      exact s_zret hK dJ9_equals_26
theorem ct_J9_equals {G : GC} {l : Launch} (g : GOK G l) (p0 : Option Nat) (p1 : Option Nat) (h : AH) : CT G l yJ9_equals (Cond.code yJ9_equals cJ9_equals 2 (some (.boolean))) 2 36 [va_rf p0, va_rf p1] (f_J9_equals p0 p1 h) h :=
  CT.of g (by decide) (by simp only [ls_a, ls_i, ls_l, ls_n]; decide) (fun K _ hK hf hlo => by simp only [la_a, la_i, la_l, la_n]; exact sm_J9_equals hK hf hlo p0 p1 h)
abbrev FR_J12_copyOf_2 : Nat := 1
abbrev LO_J12_copyOf_2 : Nat := 120
theorem dyJ12_copyOf_2 : DY yJ12_copyOf_2 3 := ⟨⟨by decide, by decide⟩, by decide +kernel⟩
theorem sm_J12_copyOf_2 {G : GC} {K : SC} (hK : SOK G K RJ12 cJ12_copyOf_2 4 (some (.array (.object "java/lang/Object"))) "copyOf" []) (hf : FR_J12_copyOf_2 ≤ (kR K).frames) (hlo : LO_J12_copyOf_2 ≤ (kR K).locals) (p0 : Option Nat) (p1 : Int32) (p2 : Option Nat) (h : AH) : Sim G K 4 (f_J12_copyOf_2 p0 p1 p2 h) h 0 [(0, va_rf p0), (1, .int p1), (2, va_rf p2)] [] := by
  unfold f_J12_copyOf_2
  refine s_aload_n hK dJ12_copyOf_2_0 rfl 2 rfl ?_
  refine s_ldcM hK q431 dJ12_copyOf_2_1 (fun v1 => ?_)
  refine s_acmp_ne (tgt := 13) hK dJ12_copyOf_2_3 (by decide) (fun c6 => ?_) (fun c6 => ?_)
  · refine s_aload_n hK dJ12_copyOf_2_13 rfl 2 rfl ?_
    exact s_none
  · refine s_iload_n hK dJ12_copyOf_2_6 rfl 1 rfl ?_
    refine s_anew hK q432 dJ12_copyOf_2_7 (fun a2 h3 => ?_)
    refine s_goto (tgt := 24) hK dJ12_copyOf_2_10 (by decide) ?_
    refine s_astore_n (lv' := [(3, va_rf a2), (0, va_rf p0), (1, .int p1), (2, va_rf p2)]) hK dJ12_copyOf_2_24 rfl (Nat.le_of_ble_eq_true rfl) (flA (pre := [(0, va_rf p0), (1, .int p1)]) (suf := []) rfl rfl) ?_
    refine s_aload_n hK dJ12_copyOf_2_25 rfl 1 rfl ?_
    refine s_iconst (v := 0) hK dJ12_copyOf_2_26 rfl ?_
    refine s_aload_n hK dJ12_copyOf_2_27 rfl 0 rfl ?_
    refine s_iconst (v := 0) hK dJ12_copyOf_2_28 rfl ?_
    refine s_aload_n hK dJ12_copyOf_2_29 rfl 1 rfl ?_
    refine s_alen hK dJ12_copyOf_2_30 (fun v4 => ?_)
    refine s_iload_n hK dJ12_copyOf_2_31 rfl 2 rfl ?_
    refine s_mmin hK q433 q434 q94 q435 (Nat.le_trans (Nat.le_of_ble_eq_true rfl) hf) (rk_i (rk_a (rk_i (rk_a rk_n)))) (Nat.le_trans (Nat.le_of_ble_eq_true rfl) hlo) dJ12_copyOf_2_32 ?_
    refine s_cpA hK q436 q438 q437 q96 (Nat.le_trans (Nat.le_of_ble_eq_true rfl) hf) rk_n (Nat.le_trans (Nat.le_of_ble_eq_true rfl) hlo) dJ12_copyOf_2_35 (fun h5 => ?_)
    refine s_aload_n hK dJ12_copyOf_2_38 rfl 0 rfl ?_
    exact s_aret hK (Or.inr ⟨_, rfl⟩) dJ12_copyOf_2_39
theorem ct_J12_copyOf_2 {G : GC} {l : Launch} (g : GOK G l) (p0 : Option Nat) (p1 : Int32) (p2 : Option Nat) (h : AH) : CT G l yJ12_copyOf_2 (Cond.code yJ12_copyOf_2 cJ12_copyOf_2 4 (some (.array (.object "java/lang/Object")))) 1 120 [va_rf p0, .int p1, va_rf p2] (f_J12_copyOf_2 p0 p1 p2 h) h :=
  CT.of g (by decide) (by simp only [ls_a, ls_i, ls_l, ls_n]; decide) (fun K _ hK hf hlo => by simp only [la_a, la_i, la_l, la_n]; exact sm_J12_copyOf_2 hK hf hlo p0 p1 p2 h)
abbrev FR_J12_copyOf : Nat := 2
abbrev LO_J12_copyOf : Nat := 143
theorem dyJ12_copyOf : DY yJ12_copyOf 2 := ⟨⟨by decide, by decide⟩, by decide +kernel⟩
theorem sm_J12_copyOf {G : GC} {K : SC} (hK : SOK G K RJ12 cJ12_copyOf 2 (some (.array (.object "java/lang/Object"))) "copyOf" []) (hf : FR_J12_copyOf ≤ (kR K).frames) (hlo : LO_J12_copyOf ≤ (kR K).locals) (p0 : Option Nat) (p1 : Int32) (h : AH) : Sim G K 2 (f_J12_copyOf p0 p1 h) h 0 [(0, va_rf p0), (1, .int p1)] [] := by
  unfold f_J12_copyOf
  refine s_aload_n hK dJ12_copyOf_0 rfl 0 rfl ?_
  refine s_iload_n hK dJ12_copyOf_1 rfl 1 rfl ?_
  refine s_aload_n hK dJ12_copyOf_2 rfl 0 rfl ?_
  refine s_getC hK q401 q2216 q2215 q402 q427 (Nat.le_trans (Nat.le_of_ble_eq_true rfl) hf) (rk_i (rk_a rk_n)) (Nat.le_trans (Nat.le_of_ble_eq_true rfl) hlo) dJ12_copyOf_3 (fun a1 => ?_)
  refine s_cA hK ho_n (cx_s (As := [va_rf p0, .int p1, va_rf a1]) (rest := []) hK dyJ12_copyOf_2 rfl q428 q429 q95 q430 (ct_J12_copyOf_2 hK.1 p0 p1 a1 h) (Nat.le_trans (Nat.le_of_ble_eq_true rfl) hf) (Nat.le_trans (Nat.le_of_ble_eq_true rfl) hlo) rk_n (Nat.le_of_ble_eq_true rfl) dJ12_copyOf_6 rfl) (fun v3 h2 => ?_)
  exact s_aret hK (Or.inr ⟨_, rfl⟩) dJ12_copyOf_9
theorem ct_J12_copyOf {G : GC} {l : Launch} (g : GOK G l) (p0 : Option Nat) (p1 : Int32) (h : AH) : CT G l yJ12_copyOf (Cond.code yJ12_copyOf cJ12_copyOf 2 (some (.array (.object "java/lang/Object")))) 2 143 [va_rf p0, .int p1] (f_J12_copyOf p0 p1 h) h :=
  CT.of g (by decide) (by simp only [ls_a, ls_i, ls_l, ls_n]; decide) (fun K _ hK hf hlo => by simp only [la_a, la_i, la_l, la_n]; exact sm_J12_copyOf hK hf hlo p0 p1 h)
abbrev FR_J12_copyOf_4 : Nat := 1
abbrev LO_J12_copyOf_4 : Nat := 120
theorem dyJ12_copyOf_4 : DY yJ12_copyOf_4 2 := ⟨⟨by decide, by decide⟩, by decide +kernel⟩
theorem sm_J12_copyOf_4 {G : GC} {K : SC} (hK : SOK G K RJ12 cJ12_copyOf_4 3 (some (.array .long)) "copyOf" []) (hf : FR_J12_copyOf_4 ≤ (kR K).frames) (hlo : LO_J12_copyOf_4 ≤ (kR K).locals) (p0 : Option Nat) (p1 : Int32) (h : AH) : Sim G K 3 (f_J12_copyOf_4 p0 p1 h) h 0 [(0, va_rf p0), (1, .int p1)] [] := by
  unfold f_J12_copyOf_4
  refine s_iload_n hK dJ12_copyOf_4_0 rfl 1 rfl ?_
  refine s_aload_n hK dJ12_copyOf_4_1 rfl 0 rfl ?_
  refine s_alen hK dJ12_copyOf_4_2 (fun v1 => ?_)
  refine s_icmp_ne (tgt := 14) hK dJ12_copyOf_4_3 (by decide) (fun c6 => ?_) (fun c6 => ?_)
  · refine s_iload_n hK dJ12_copyOf_4_14 rfl 1 rfl ?_
    refine s_newJ hK dJ12_copyOf_4_15 (fun a2 h3 => ?_)
    refine s_astore_n (lv' := [(2, va_rf a2), (0, va_rf p0), (1, .int p1)]) hK dJ12_copyOf_4_17 rfl (Nat.le_of_ble_eq_true rfl) rfl ?_
    refine s_aload_n hK dJ12_copyOf_4_18 rfl 1 rfl ?_
    refine s_iconst (v := 0) hK dJ12_copyOf_4_19 rfl ?_
    refine s_aload_n hK dJ12_copyOf_4_20 rfl 0 rfl ?_
    refine s_iconst (v := 0) hK dJ12_copyOf_4_21 rfl ?_
    refine s_aload_n hK dJ12_copyOf_4_22 rfl 1 rfl ?_
    refine s_alen hK dJ12_copyOf_4_23 (fun v4 => ?_)
    refine s_iload_n hK dJ12_copyOf_4_24 rfl 2 rfl ?_
    refine s_mmin hK q433 q434 q94 q435 (Nat.le_trans (Nat.le_of_ble_eq_true rfl) hf) (rk_i (rk_a (rk_i (rk_a rk_n)))) (Nat.le_trans (Nat.le_of_ble_eq_true rfl) hlo) dJ12_copyOf_4_25 ?_
    refine s_cpL hK q436 q438 q437 q96 (Nat.le_trans (Nat.le_of_ble_eq_true rfl) hf) rk_n (Nat.le_trans (Nat.le_of_ble_eq_true rfl) hlo) dJ12_copyOf_4_28 (fun h5 => ?_)
    refine s_aload_n hK dJ12_copyOf_4_31 rfl 0 rfl ?_
    exact s_aret hK (Or.inr ⟨_, rfl⟩) dJ12_copyOf_4_32
  · refine s_aload_n hK dJ12_copyOf_4_6 rfl 0 rfl ?_
    exact s_none
theorem ct_J12_copyOf_4 {G : GC} {l : Launch} (g : GOK G l) (p0 : Option Nat) (p1 : Int32) (h : AH) : CT G l yJ12_copyOf_4 (Cond.code yJ12_copyOf_4 cJ12_copyOf_4 3 (some (.array .long))) 1 120 [va_rf p0, .int p1] (f_J12_copyOf_4 p0 p1 h) h :=
  CT.of g (by decide) (by simp only [ls_a, ls_i, ls_l, ls_n]; decide) (fun K _ hK hf hlo => by simp only [la_a, la_i, la_l, la_n]; exact sm_J12_copyOf_4 hK hf hlo p0 p1 h)
abbrev FR_J7_init : Nat := 3
abbrev LO_J7_init : Nat := 56
theorem dyJ7_init : DY yJ7_init 0 := ⟨⟨by decide, by decide⟩, by decide +kernel⟩
theorem sm_J7_init {G : GC} {K : SC} (hK : SOK G K RJ7 cJ7_init 1 (none) "<init>" []) (hf : FR_J7_init ≤ (kR K).frames) (hlo : LO_J7_init ≤ (kR K).locals) (p0 : Option Nat) (h : AH) : Sim G K 1 (f_J7_init p0 h) h 0 [(0, va_rf p0)] [] := by
  unfold f_J7_init
  refine s_aload_n hK dJ7_init_0 rfl 0 rfl ?_
  refine s_nn (fun _ eo => ?_)
  refine s_cV hK ho_n (cx_i (As := []) (rest := []) hK dyJ6_init rfl q239 rfl q240 q87 q241 eo (ct_J6_init hK.1 p0 h) (Nat.le_trans (Nat.le_of_ble_eq_true rfl) hf) (Nat.le_trans (Nat.le_of_ble_eq_true rfl) hlo) rk_n (Nat.le_of_ble_eq_true rfl) dJ7_init_1 rfl) (fun h1 => ?_)
  refine s_aload_n hK dJ7_init_4 rfl 0 rfl ?_
  refine s_getsA hK 2 rfl q243 (Or.inl rfl) dJ7_init_5 (fun v2 => ?_)
  refine s_pF hK fcJ7 1 (Nat.le_of_ble_eq_true rfl) (Or.inl q245) (Or.inl rfl) (Or.inl rfl) (nr_r _) (ft_r _) dJ7_init_8 (fun h3 => ?_)
  exact s_vret hK dJ7_init_11
theorem ct_J7_init {G : GC} {l : Launch} (g : GOK G l) (p0 : Option Nat) (h : AH) : CT G l yJ7_init (Cond.code yJ7_init cJ7_init 1 (none)) 3 56 [va_rf p0] (f_J7_init p0 h) h :=
  CT.of g (by decide) (by simp only [ls_a, ls_i, ls_l, ls_n]; decide) (fun K _ hK hf hlo => by simp only [la_a, la_i, la_l, la_n]; exact sm_J7_init hK hf hlo p0 h)
abbrev FR_J7_size : Nat := 1
abbrev LO_J7_size : Nat := 16
theorem dyJ7_size : DY yJ7_size 0 := ⟨⟨by decide, by decide⟩, by decide +kernel⟩
theorem sm_J7_size {G : GC} {K : SC} (hK : SOK G K RJ7 cJ7_size 1 (some (.int)) "size" []) (hf : FR_J7_size ≤ (kR K).frames) (hlo : LO_J7_size ≤ (kR K).locals) (p0 : Option Nat) (h : AH) : Sim G K 1 (f_J7_size p0 h) h 0 [(0, va_rf p0)] [] := by
  unfold f_J7_size
  refine s_aload_n hK dJ7_size_0 rfl 0 rfl ?_
  refine s_gI hK fcJ7 2 (Nat.le_of_ble_eq_true rfl) (Or.inl q246) (Or.inl rfl) dJ7_size_1 (fun v1 => ?_)
  exact s_iret hK dJ7_size_4
theorem ct_J7_size {G : GC} {l : Launch} (g : GOK G l) (p0 : Option Nat) (h : AH) : CT G l yJ7_size (Cond.code yJ7_size cJ7_size 1 (some (.int))) 1 16 [va_rf p0] (f_J7_size p0 h) h :=
  CT.of g (by decide) (by simp only [ls_a, ls_i, ls_l, ls_n]; decide) (fun K _ hK hf hlo => by simp only [la_a, la_i, la_l, la_n]; exact sm_J7_size hK hf hlo p0 h)
abbrev FR_J7_elementData : Nat := 1
abbrev LO_J7_elementData : Nat := 16
theorem dyJ7_elementData : DY yJ7_elementData 1 := ⟨⟨by decide, by decide⟩, by decide +kernel⟩
theorem sm_J7_elementData {G : GC} {K : SC} (hK : SOK G K RJ7 cJ7_elementData 2 (some (.object "java/lang/Object")) "elementData" []) (hf : FR_J7_elementData ≤ (kR K).frames) (hlo : LO_J7_elementData ≤ (kR K).locals) (p0 : Option Nat) (p1 : Int32) (h : AH) : Sim G K 2 (f_J7_elementData p0 p1 h) h 0 [(0, va_rf p0), (1, .int p1)] [] := by
  unfold f_J7_elementData
  refine s_aload_n hK dJ7_elementData_0 rfl 0 rfl ?_
  refine s_gA hK fcJ7 1 (Nat.le_of_ble_eq_true rfl) (Or.inl q245) (Or.inl rfl) dJ7_elementData_1 (fun v1 => ?_)
  refine s_iload_n hK dJ7_elementData_4 rfl 1 rfl ?_
  refine s_aald hK dJ7_elementData_5 (fun v2 => ?_)
  exact s_aret hK (Or.inl ⟨_, rfl⟩) dJ7_elementData_6
theorem ct_J7_elementData {G : GC} {l : Launch} (g : GOK G l) (p0 : Option Nat) (p1 : Int32) (h : AH) : CT G l yJ7_elementData (Cond.code yJ7_elementData cJ7_elementData 2 (some (.object "java/lang/Object"))) 1 16 [va_rf p0, .int p1] (f_J7_elementData p0 p1 h) h :=
  CT.of g (by decide) (by simp only [ls_a, ls_i, ls_l, ls_n]; decide) (fun K _ hK hf hlo => by simp only [la_a, la_i, la_l, la_n]; exact sm_J7_elementData hK hf hlo p0 p1 h)
abbrev FR_J7_get : Nat := 3
abbrev LO_J7_get : Nat := 59
theorem dyJ7_get : DY yJ7_get 1 := ⟨⟨by decide, by decide⟩, by decide +kernel⟩
theorem sm_J7_get {G : GC} {K : SC} (hK : SOK G K RJ7 cJ7_get 2 (some (.object "java/lang/Object")) "get" []) (hf : FR_J7_get ≤ (kR K).frames) (hlo : LO_J7_get ≤ (kR K).locals) (p0 : Option Nat) (p1 : Int32) (h : AH) : Sim G K 2 (f_J7_get p0 p1 h) h 0 [(0, va_rf p0), (1, .int p1)] [] := by
  unfold f_J7_get
  refine s_iload_n hK dJ7_get_0 rfl 1 rfl ?_
  refine s_aload_n hK dJ7_get_1 rfl 0 rfl ?_
  refine s_gI hK fcJ7 2 (Nat.le_of_ble_eq_true rfl) (Or.inl q246) (Or.inl rfl) dJ7_get_2 (fun v1 => ?_)
  refine s_cI hK ho_n (cx_s (As := [.int p1, .int v1]) (rest := []) hK dyJ13_checkIndex rfl q984 q985 q97 q986 (ct_J13_checkIndex hK.1 p1 v1 h) (Nat.le_trans (Nat.le_of_ble_eq_true rfl) hf) (Nat.le_trans (Nat.le_of_ble_eq_true rfl) hlo) rk_n (Nat.le_of_ble_eq_true rfl) dJ7_get_5 rfl) (fun v3 h2 => ?_)
  refine s_pop hK dJ7_get_8 rfl ?_
  refine s_aload_n hK dJ7_get_9 rfl 0 rfl ?_
  refine s_iload_n hK dJ7_get_10 rfl 1 rfl ?_
  refine s_rc (fun _ _ eo er => ?_)
  refine s_cA hK ho_n (cx_v (As := [.int p1]) (rest := []) hK dyJ7_elementData rfl q990 fcJ7.1 q991 q992 q88 q993 eo er (ct_J7_elementData hK.1 p0 p1 h2) (Nat.le_trans (Nat.le_of_ble_eq_true rfl) hf) (Nat.le_trans (Nat.le_of_ble_eq_true rfl) hlo) rk_n (Nat.le_of_ble_eq_true rfl) dJ7_get_11 rfl) (fun v5 h4 => ?_)
  exact s_aret hK (Or.inl ⟨_, rfl⟩) dJ7_get_14
theorem ct_J7_get {G : GC} {l : Launch} (g : GOK G l) (p0 : Option Nat) (p1 : Int32) (h : AH) : CT G l yJ7_get (Cond.code yJ7_get cJ7_get 2 (some (.object "java/lang/Object"))) 3 59 [va_rf p0, .int p1] (f_J7_get p0 p1 h) h :=
  CT.of g (by decide) (by simp only [ls_a, ls_i, ls_l, ls_n]; decide) (fun K _ hK hf hlo => by simp only [la_a, la_i, la_l, la_n]; exact sm_J7_get hK hf hlo p0 p1 h)
abbrev FR_J7_grow_2 : Nat := 3
abbrev LO_J7_grow_2 : Nat := 164
theorem dyJ7_grow_2 : DY yJ7_grow_2 1 := ⟨⟨by decide, by decide⟩, by decide +kernel⟩
theorem sm_J7_grow_2_J20 {G : GC} {K : SC} (hK : SOK G K RJ7 cJ7_grow_2 4 (some (.array (.object "java/lang/Object"))) "grow" []) (hf : FR_J7_grow_2 ≤ (kR K).frames) (hlo : LO_J7_grow_2 ≤ (kR K).locals) (x3 : Option Nat) (x4 : Int32) (x5 : Int32)  (h6 : AH) : Sim G K 4 (f_J7_grow_2_J20 x3 x4 x5 h6) h6 20 [(0, va_rf x3), (1, .int x4), (2, .int x5)] [] := by
  unfold f_J7_grow_2_J20
  refine s_iload_n hK dJ7_grow_2_20 rfl 2 rfl ?_
  refine s_iload_n hK dJ7_grow_2_21 rfl 1 rfl ?_
  refine s_iload_n hK dJ7_grow_2_22 rfl 2 rfl ?_
  refine s_isub hK dJ7_grow_2_23 ?_
  refine s_iload_n hK dJ7_grow_2_24 rfl 2 rfl ?_
  refine s_iconst (v := 1) hK dJ7_grow_2_25 rfl ?_
  refine s_ishr hK dJ7_grow_2_26 ?_
  refine s_cI hK ho_n (cx_s (As := [.int x5, .int (x4 - x5), .int (x5 >>> ((1 : Int32) &&& 31))]) (rest := []) hK dyJ10_newLength rfl q866 q554 q93 q555 (ct_J10_newLength hK.1 x5 (x4 - x5) (x5 >>> ((1 : Int32) &&& 31)) h6) (Nat.le_trans (Nat.le_of_ble_eq_true rfl) hf) (Nat.le_trans (Nat.le_of_ble_eq_true rfl) hlo) rk_n (Nat.le_of_ble_eq_true rfl) dJ7_grow_2_27 rfl) (fun v8 h7 => ?_)
  refine s_istore_n (lv' := [(3, .int v8), (0, va_rf x3), (1, .int x4), (2, .int x5)]) hK dJ7_grow_2_30 rfl (Nat.le_of_ble_eq_true rfl) rfl ?_
  refine s_aload_n hK dJ7_grow_2_31 rfl 1 rfl ?_
  refine s_aload_n hK dJ7_grow_2_32 rfl 1 rfl ?_
  refine s_gA hK fcJ7 1 (Nat.le_of_ble_eq_true rfl) (Or.inl q245) (Or.inl rfl) dJ7_grow_2_33 (fun v9 => ?_)
  refine s_iload_n hK dJ7_grow_2_36 rfl 0 rfl ?_
  refine s_cA hK ho_n (cx_s (As := [va_rf v9, .int v8]) (rest := [va_rf x3]) hK dyJ12_copyOf rfl q867 q399 q95 q400 (ct_J12_copyOf hK.1 v9 v8 h7) (Nat.le_trans (Nat.le_of_ble_eq_true rfl) hf) (Nat.le_trans (Nat.le_of_ble_eq_true rfl) hlo) (rk_a rk_n) (Nat.le_of_ble_eq_true rfl) dJ7_grow_2_37 rfl) (fun v11 h10 => ?_)
  refine s_dup_x1 hK dJ7_grow_2_40 (va_cat _) (va_cat _) ?_
  refine s_pF hK fcJ7 1 (Nat.le_of_ble_eq_true rfl) (Or.inl q245) (Or.inl rfl) (Or.inl rfl) (nr_r _) (ft_r _) dJ7_grow_2_41 (fun h12 => ?_)
  exact s_aret hK (Or.inr ⟨_, rfl⟩) dJ7_grow_2_44
theorem sm_J7_grow_2 {G : GC} {K : SC} (hK : SOK G K RJ7 cJ7_grow_2 4 (some (.array (.object "java/lang/Object"))) "grow" []) (hf : FR_J7_grow_2 ≤ (kR K).frames) (hlo : LO_J7_grow_2 ≤ (kR K).locals) (p0 : Option Nat) (p1 : Int32) (h : AH) : Sim G K 4 (f_J7_grow_2 p0 p1 h) h 0 [(0, va_rf p0), (1, .int p1)] [] := by
  unfold f_J7_grow_2
  refine s_aload_n hK dJ7_grow_2_0 rfl 0 rfl ?_
  refine s_gA hK fcJ7 1 (Nat.le_of_ble_eq_true rfl) (Or.inl q245) (Or.inl rfl) dJ7_grow_2_1 (fun v1 => ?_)
  refine s_alen hK dJ7_grow_2_4 (fun v2 => ?_)
  refine s_istore_n (lv' := [(2, .int v2), (0, va_rf p0), (1, .int p1)]) hK dJ7_grow_2_5 rfl (Nat.le_of_ble_eq_true rfl) rfl ?_
  refine s_iload_n hK dJ7_grow_2_6 rfl 0 rfl ?_
  refine s_if_gt (tgt := 20) hK dJ7_grow_2_7 (by decide) (fun c19 => ?_) (fun c19 => ?_)
  · refine s_sub [1, 2, 0] rfl ?_
    exact sm_J7_grow_2_J20 hK hf hlo p0 p1 v2 h
  · refine s_aload_n hK dJ7_grow_2_10 rfl 1 rfl ?_
    refine s_gA hK fcJ7 1 (Nat.le_of_ble_eq_true rfl) (Or.inl q245) (Or.inl rfl) dJ7_grow_2_11 (fun v13 => ?_)
    refine s_getsA hK 2 rfl q243 (Or.inl rfl) dJ7_grow_2_14 (fun v14 => ?_)
    refine s_acmp_eq (tgt := 45) hK dJ7_grow_2_17 (by decide) (fun c18 => ?_) (fun c18 => ?_)
    · refine s_aload_n hK dJ7_grow_2_45 rfl 1 rfl ?_
      refine s_bipush (v := 10) hK dJ7_grow_2_46 rfl ?_
      refine s_iload_n hK dJ7_grow_2_48 rfl 2 rfl ?_
      refine s_mmax hK q868 q557 q94 q558 (Nat.le_trans (Nat.le_of_ble_eq_true rfl) hf) (rk_a rk_n) (Nat.le_trans (Nat.le_of_ble_eq_true rfl) hlo) dJ7_grow_2_49 ?_
      refine s_anew hK q869 dJ7_grow_2_52 (fun a15 h16 => ?_)
      refine s_dup_x1 hK dJ7_grow_2_55 (va_cat _) (va_cat _) ?_
      refine s_pF hK fcJ7 1 (Nat.le_of_ble_eq_true rfl) (Or.inl q245) (Or.inl rfl) (Or.inl rfl) (nr_r _) (ft_r _) dJ7_grow_2_56 (fun h17 => ?_)
      exact s_aret hK (Or.inr ⟨_, rfl⟩) dJ7_grow_2_59
    · refine s_sub [1, 2, 0] rfl ?_
      exact sm_J7_grow_2_J20 hK hf hlo p0 p1 v2 h
theorem ct_J7_grow_2 {G : GC} {l : Launch} (g : GOK G l) (p0 : Option Nat) (p1 : Int32) (h : AH) : CT G l yJ7_grow_2 (Cond.code yJ7_grow_2 cJ7_grow_2 4 (some (.array (.object "java/lang/Object")))) 3 164 [va_rf p0, .int p1] (f_J7_grow_2 p0 p1 h) h :=
  CT.of g (by decide) (by simp only [ls_a, ls_i, ls_l, ls_n]; decide) (fun K _ hK hf hlo => by simp only [la_a, la_i, la_l, la_n]; exact sm_J7_grow_2 hK hf hlo p0 p1 h)
abbrev FR_J7_grow : Nat := 4
abbrev LO_J7_grow : Nat := 187
theorem dyJ7_grow : DY yJ7_grow 0 := ⟨⟨by decide, by decide⟩, by decide +kernel⟩
theorem sm_J7_grow {G : GC} {K : SC} (hK : SOK G K RJ7 cJ7_grow 1 (some (.array (.object "java/lang/Object"))) "grow" []) (hf : FR_J7_grow ≤ (kR K).frames) (hlo : LO_J7_grow ≤ (kR K).locals) (p0 : Option Nat) (h : AH) : Sim G K 1 (f_J7_grow p0 h) h 0 [(0, va_rf p0)] [] := by
  unfold f_J7_grow
  refine s_aload_n hK dJ7_grow_0 rfl 0 rfl ?_
  refine s_aload_n hK dJ7_grow_1 rfl 0 rfl ?_
  refine s_gI hK fcJ7 2 (Nat.le_of_ble_eq_true rfl) (Or.inl q246) (Or.inl rfl) dJ7_grow_2 (fun v1 => ?_)
  refine s_iconst (v := 1) hK dJ7_grow_5 rfl ?_
  refine s_iadd hK dJ7_grow_6 ?_
  refine s_rc (fun _ _ eo er => ?_)
  refine s_cA hK ho_n (cx_v (As := [.int (v1 + 1)]) (rest := []) hK dyJ7_grow_2 rfl q862 fcJ7.1 q864 qs9 q88 q865 eo er (ct_J7_grow_2 hK.1 p0 (v1 + 1) h) (Nat.le_trans (Nat.le_of_ble_eq_true rfl) hf) (Nat.le_trans (Nat.le_of_ble_eq_true rfl) hlo) rk_n (Nat.le_of_ble_eq_true rfl) dJ7_grow_7 rfl) (fun v3 h2 => ?_)
  exact s_aret hK (Or.inr ⟨_, rfl⟩) dJ7_grow_10
theorem ct_J7_grow {G : GC} {l : Launch} (g : GOK G l) (p0 : Option Nat) (h : AH) : CT G l yJ7_grow (Cond.code yJ7_grow cJ7_grow 1 (some (.array (.object "java/lang/Object")))) 4 187 [va_rf p0] (f_J7_grow p0 h) h :=
  CT.of g (by decide) (by simp only [ls_a, ls_i, ls_l, ls_n]; decide) (fun K _ hK hf hlo => by simp only [la_a, la_i, la_l, la_n]; exact sm_J7_grow hK hf hlo p0 h)
abbrev FR_J7_add_2 : Nat := 5
abbrev LO_J7_add_2 : Nat := 207
theorem dyJ7_add_2 : DY yJ7_add_2 3 := ⟨⟨by decide, by decide⟩, by decide +kernel⟩
theorem sm_J7_add_2_J11 {G : GC} {K : SC} (hK : SOK G K RJ7 cJ7_add_2 4 (none) "add" []) (hf : FR_J7_add_2 ≤ (kR K).frames) (hlo : LO_J7_add_2 ≤ (kR K).locals) (x2 : Option Nat) (x3 : Option Nat) (x4 : Option Nat) (x5 : Int32)  (h6 : AH) : Sim G K 4 (f_J7_add_2_J11 x2 x3 x4 x5 h6) h6 11 [(0, va_rf x2), (1, va_rf x3), (2, va_rf x4), (3, .int x5)] [] := by
  unfold f_J7_add_2_J11
  refine s_aload_n hK dJ7_add_2_11 rfl 2 rfl ?_
  refine s_iload_n hK dJ7_add_2_12 rfl 3 rfl ?_
  refine s_aload_n hK dJ7_add_2_13 rfl 1 rfl ?_
  refine s_aast hK dJ7_add_2_14 (fun h7 => ?_)
  refine s_aload_n hK dJ7_add_2_15 rfl 0 rfl ?_
  refine s_iload_n hK dJ7_add_2_16 rfl 3 rfl ?_
  refine s_iconst (v := 1) hK dJ7_add_2_17 rfl ?_
  refine s_iadd hK dJ7_add_2_18 ?_
  refine s_pF hK fcJ7 2 (Nat.le_of_ble_eq_true rfl) (Or.inl q246) (Or.inl rfl) (Or.inl rfl) rfl rfl dJ7_add_2_19 (fun h8 => ?_)
  exact s_vret hK dJ7_add_2_22
theorem sm_J7_add_2 {G : GC} {K : SC} (hK : SOK G K RJ7 cJ7_add_2 4 (none) "add" []) (hf : FR_J7_add_2 ≤ (kR K).frames) (hlo : LO_J7_add_2 ≤ (kR K).locals) (p0 : Option Nat) (p1 : Option Nat) (p2 : Option Nat) (p3 : Int32) (h : AH) : Sim G K 4 (f_J7_add_2 p0 p1 p2 p3 h) h 0 [(0, va_rf p0), (1, va_rf p1), (2, va_rf p2), (3, .int p3)] [] := by
  unfold f_J7_add_2
  refine s_iload_n hK dJ7_add_2_0 rfl 3 rfl ?_
  refine s_aload_n hK dJ7_add_2_1 rfl 2 rfl ?_
  refine s_alen hK dJ7_add_2_2 (fun v1 => ?_)
  refine s_icmp_ne (tgt := 11) hK dJ7_add_2_3 (by decide) (fun c11 => ?_) (fun c11 => ?_)
  · exact sm_J7_add_2_J11 hK hf hlo p0 p1 p2 p3 h
  · refine s_aload_n hK dJ7_add_2_6 rfl 0 rfl ?_
    refine s_rc (fun _ _ eo er => ?_)
    refine s_cA hK ho_n (cx_v (As := []) (rest := []) hK dyJ7_grow rfl q858 fcJ7.1 q860 qs8 q88 q861 eo er (ct_J7_grow hK.1 p0 h) (Nat.le_trans (Nat.le_of_ble_eq_true rfl) hf) (Nat.le_trans (Nat.le_of_ble_eq_true rfl) hlo) rk_n (Nat.le_of_ble_eq_true rfl) dJ7_add_2_7 rfl) (fun v10 h9 => ?_)
    refine s_astore_n (lv' := [(2, va_rf v10), (0, va_rf p0), (1, va_rf p1), (3, .int p3)]) hK dJ7_add_2_10 rfl (Nat.le_of_ble_eq_true rfl) (flA (pre := [(0, va_rf p0)]) (suf := [(2, va_rf p2), (3, .int p3)]) rfl rfl) ?_
    refine s_sub [1, 2, 0, 3] rfl ?_
    exact sm_J7_add_2_J11 hK hf hlo p0 p1 v10 p3 h9
theorem ct_J7_add_2 {G : GC} {l : Launch} (g : GOK G l) (p0 : Option Nat) (p1 : Option Nat) (p2 : Option Nat) (p3 : Int32) (h : AH) : CT G l yJ7_add_2 (Cond.code yJ7_add_2 cJ7_add_2 4 (none)) 5 207 [va_rf p0, va_rf p1, va_rf p2, .int p3] (f_J7_add_2 p0 p1 p2 p3 h) h :=
  CT.of g (by decide) (by simp only [ls_a, ls_i, ls_l, ls_n]; decide) (fun K _ hK hf hlo => by simp only [la_a, la_i, la_l, la_n]; exact sm_J7_add_2 hK hf hlo p0 p1 p2 p3 h)
abbrev FR_J7_add : Nat := 6
abbrev LO_J7_add : Nat := 230
theorem dyJ7_add : DY yJ7_add 1 := ⟨⟨by decide, by decide⟩, by decide +kernel⟩
theorem sm_J7_add {G : GC} {K : SC} (hK : SOK G K RJ7 cJ7_add 2 (some (.boolean)) "add" []) (hf : FR_J7_add ≤ (kR K).frames) (hlo : LO_J7_add ≤ (kR K).locals) (p0 : Option Nat) (p1 : Option Nat) (h : AH) : Sim G K 2 (f_J7_add p0 p1 h) h 0 [(0, va_rf p0), (1, va_rf p1)] [] := by
  unfold f_J7_add
  refine s_aload_n hK dJ7_add_0 rfl 0 rfl ?_
  refine s_dup hK dJ7_add_1 (va_cat _) ?_
  refine s_gI hK fcJ7 0 (Nat.le_of_ble_eq_true rfl) (Or.inl q248) (Or.inr q249) dJ7_add_2 (fun v1 => ?_)
  refine s_iconst (v := 1) hK dJ7_add_5 rfl ?_
  refine s_iadd hK dJ7_add_6 ?_
  refine s_pF hK fcJ7 0 (Nat.le_of_ble_eq_true rfl) (Or.inl q248) (Or.inr q249) (Or.inl rfl) rfl rfl dJ7_add_7 (fun h2 => ?_)
  refine s_aload_n hK dJ7_add_10 rfl 0 rfl ?_
  refine s_aload_n hK dJ7_add_11 rfl 1 rfl ?_
  refine s_aload_n hK dJ7_add_12 rfl 0 rfl ?_
  refine s_gA hK fcJ7 1 (Nat.le_of_ble_eq_true rfl) (Or.inl q245) (Or.inl rfl) dJ7_add_13 (fun v3 => ?_)
  refine s_aload_n hK dJ7_add_16 rfl 0 rfl ?_
  refine s_gI hK fcJ7 2 (Nat.le_of_ble_eq_true rfl) (Or.inl q246) (Or.inl rfl) dJ7_add_17 (fun v4 => ?_)
  refine s_rc (fun _ _ eo er => ?_)
  refine s_cV hK ho_n (cx_v (As := [va_rf p1, va_rf v3, .int v4]) (rest := []) hK dyJ7_add_2 rfl q854 fcJ7.1 q856 qs7 q88 q857 eo er (ct_J7_add_2 hK.1 p0 p1 v3 v4 h2) (Nat.le_trans (Nat.le_of_ble_eq_true rfl) hf) (Nat.le_trans (Nat.le_of_ble_eq_true rfl) hlo) rk_n (Nat.le_of_ble_eq_true rfl) dJ7_add_20 rfl) (fun h5 => ?_)
  refine s_iconst (v := 1) hK dJ7_add_23 rfl ?_
  exact s_zret hK dJ7_add_24
theorem ct_J7_add {G : GC} {l : Launch} (g : GOK G l) (p0 : Option Nat) (p1 : Option Nat) (h : AH) : CT G l yJ7_add (Cond.code yJ7_add cJ7_add 2 (some (.boolean))) 6 230 [va_rf p0, va_rf p1] (f_J7_add p0 p1 h) h :=
  CT.of g (by decide) (by simp only [ls_a, ls_i, ls_l, ls_n]; decide) (fun K _ hK hf hlo => by simp only [la_a, la_i, la_l, la_n]; exact sm_J7_add hK hf hlo p0 p1 h)
abbrev FR_J7_indexOfRange : Nat := 3
abbrev LO_J7_indexOfRange : Nat := 57
theorem dyJ7_indexOfRange : DY yJ7_indexOfRange 3 := ⟨⟨by decide, by decide⟩, by decide +kernel⟩
theorem sm_J7_indexOfRange_L42 {G : GC} {K : SC} (hK : SOK G K RJ7 cJ7_indexOfRange 6 (some (.int)) "indexOfRange" []) (hf : FR_J7_indexOfRange ≤ (kR K).frames) (hlo : LO_J7_indexOfRange ≤ (kR K).locals) {k69 : AH → RS} (hk69 : ∀  (h : AH), Sim G K 6 (k69  h) h 69 [] []) : ∀ (n : Nat) (x2 : Option Nat) (x3 : Int32) (x4 : Option Nat) (x5 : Int32) (h6 : AH), Sim G K 6 (f_J7_indexOfRange_L42 k69 n x2 x3 x4 x5 h6) h6 42 [(1, va_rf x2), (3, .int x3), (4, va_rf x4), (5, .int x5)] [] := by
  intro n
  induction n with
  | zero => intro x2 x3 x4 x5 h6; exact s_none
  | succ n ih =>
    intro x2 x3 x4 x5 h6
    rw [f_J7_indexOfRange_L42]
    refine s_iload hK dJ7_indexOfRange_42 3 rfl ?_
    refine s_iload_n hK dJ7_indexOfRange_44 rfl 1 rfl ?_
    refine s_icmp_ge (tgt := 69) hK dJ7_indexOfRange_45 (by decide) (fun c11 => ?_) (fun c11 => ?_)
    · refine s_sub [] rfl ?_
      exact hk69  h6
    · refine s_aload_n hK dJ7_indexOfRange_48 rfl 0 rfl ?_
      refine s_aload hK dJ7_indexOfRange_49 2 rfl ?_
      refine s_iload hK dJ7_indexOfRange_51 3 rfl ?_
      refine s_aald hK dJ7_indexOfRange_53 (fun v7 => ?_)
      refine s_rc (fun _ _ eo er => ?_)
      refine s_cI hK ho_n (cx_u (As := [va_rf v7]) (rest := []) hK (x := ⟨"java/lang/Object", "equals", "(Ljava/lang/Object;)Z"⟩) dyx_java_lang_Objectequals rfl q818 q820 q817 fcJ9.1 q836 q837 q91 q838 eo er (ct_J9_equals hK.1 x2 v7 h6) (Nat.le_trans (Nat.le_of_ble_eq_true rfl) hf) (Nat.le_trans (Nat.le_of_ble_eq_true rfl) hlo) rk_n (Nat.le_of_ble_eq_true rfl) dJ7_indexOfRange_54 rfl) (fun v9 h8 => ?_)
      refine s_if_eq (tgt := 63) hK dJ7_indexOfRange_57 (by decide) (fun c10 => ?_) (fun c10 => ?_)
      · refine s_iinc (j := 3) (v := 1) (lv' := [(5, .int (x5 + 1)), (1, va_rf x2), (3, .int x3), (4, va_rf x4)]) hK dJ7_indexOfRange_63 rfl rfl (Nat.le_of_ble_eq_true rfl) (flA (pre := [(1, va_rf x2), (3, .int x3)]) (suf := [(5, .int x5)]) rfl rfl) ?_
        refine s_goto (tgt := 42) hK dJ7_indexOfRange_66 (by decide) ?_
        refine s_sub [1, 2, 3, 0] rfl ?_
        exact ih x2 x3 x4 (x5 + 1) h8
      · refine s_iload hK dJ7_indexOfRange_60 3 rfl ?_
        exact s_iret hK dJ7_indexOfRange_62
theorem sm_J7_indexOfRange_L13 {G : GC} {K : SC} (hK : SOK G K RJ7 cJ7_indexOfRange 6 (some (.int)) "indexOfRange" []) (hf : FR_J7_indexOfRange ≤ (kR K).frames) (hlo : LO_J7_indexOfRange ≤ (kR K).locals) {k36 : AH → RS} (hk36 : ∀  (h : AH), Sim G K 6 (k36  h) h 36 [] []) : ∀ (n : Nat) (x13 : Int32) (x14 : Option Nat) (x15 : Int32) (h16 : AH), Sim G K 6 (f_J7_indexOfRange_L13 k36 n x13 x14 x15 h16) h16 13 [(3, .int x13), (4, va_rf x14), (5, .int x15)] [] := by
  intro n
  induction n with
  | zero => intro x13 x14 x15 h16; exact s_none
  | succ n ih =>
    intro x13 x14 x15 h16
    rw [f_J7_indexOfRange_L13]
    refine s_iload hK dJ7_indexOfRange_13 2 rfl ?_
    refine s_iload_n hK dJ7_indexOfRange_15 rfl 0 rfl ?_
    refine s_icmp_ge (tgt := 36) hK dJ7_indexOfRange_16 (by decide) (fun c19 => ?_) (fun c19 => ?_)
    · refine s_sub [] rfl ?_
      exact hk36  h16
    · refine s_aload hK dJ7_indexOfRange_19 1 rfl ?_
      refine s_iload hK dJ7_indexOfRange_21 2 rfl ?_
      refine s_aald hK dJ7_indexOfRange_23 (fun v17 => ?_)
      refine s_ifnonnull (tgt := 30) hK dJ7_indexOfRange_24 (by decide) (fun c18 => ?_) (fun c18 => ?_)
      · refine s_iinc (j := 2) (v := 1) (lv' := [(5, .int (x15 + 1)), (3, .int x13), (4, va_rf x14)]) hK dJ7_indexOfRange_30 rfl rfl (Nat.le_of_ble_eq_true rfl) (flA (pre := [(3, .int x13)]) (suf := [(5, .int x15)]) rfl rfl) ?_
        refine s_goto (tgt := 13) hK dJ7_indexOfRange_33 (by decide) ?_
        refine s_sub [1, 2, 0] rfl ?_
        exact ih x13 x14 (x15 + 1) h16
      · refine s_iload hK dJ7_indexOfRange_27 2 rfl ?_
        exact s_iret hK dJ7_indexOfRange_29
theorem sm_J7_indexOfRange {G : GC} {K : SC} (hK : SOK G K RJ7 cJ7_indexOfRange 6 (some (.int)) "indexOfRange" []) (hf : FR_J7_indexOfRange ≤ (kR K).frames) (hlo : LO_J7_indexOfRange ≤ (kR K).locals) (p0 : Option Nat) (p1 : Option Nat) (p2 : Int32) (p3 : Int32) (h : AH) : Sim G K 6 (f_J7_indexOfRange p0 p1 p2 p3 h) h 0 [(0, va_rf p0), (1, va_rf p1), (2, .int p2), (3, .int p3)] [] := by
  unfold f_J7_indexOfRange
  refine s_aload_n hK dJ7_indexOfRange_0 rfl 0 rfl ?_
  refine s_gA hK fcJ7 1 (Nat.le_of_ble_eq_true rfl) (Or.inl q245) (Or.inl rfl) dJ7_indexOfRange_1 (fun v1 => ?_)
  refine s_astore (lv' := [(4, va_rf v1), (0, va_rf p0), (1, va_rf p1), (2, .int p2), (3, .int p3)]) hK dJ7_indexOfRange_4 (Nat.le_of_ble_eq_true rfl) rfl ?_
  refine s_aload_n hK dJ7_indexOfRange_6 rfl 2 rfl ?_
  refine s_ifnonnull (tgt := 39) hK dJ7_indexOfRange_7 (by decide) (fun c21 => ?_) (fun c21 => ?_)
  · refine s_iload_n hK dJ7_indexOfRange_39 rfl 3 rfl ?_
    refine s_istore (lv' := [(5, .int p2), (4, va_rf v1), (0, va_rf p0), (1, va_rf p1), (2, .int p2), (3, .int p3)]) hK dJ7_indexOfRange_40 (Nat.le_of_ble_eq_true rfl) (flA (pre := []) (suf := [(0, va_rf p0), (1, va_rf p1), (2, .int p2), (3, .int p3)]) rfl rfl) ?_
    refine s_sub [3, 5, 1, 0] rfl ?_
    refine sm_J7_indexOfRange_L42 hK hf hlo (fun h12 => ?_) FUEL p1 p3 v1 p2 h
    · refine s_iconst (v := (-1)) hK dJ7_indexOfRange_69 rfl ?_
      exact s_iret hK dJ7_indexOfRange_70
  · refine s_iload_n hK dJ7_indexOfRange_10 rfl 3 rfl ?_
    refine s_istore (lv' := [(5, .int p2), (4, va_rf v1), (0, va_rf p0), (1, va_rf p1), (2, .int p2), (3, .int p3)]) hK dJ7_indexOfRange_11 (Nat.le_of_ble_eq_true rfl) (flA (pre := []) (suf := [(0, va_rf p0), (1, va_rf p1), (2, .int p2), (3, .int p3)]) rfl rfl) ?_
    refine s_sub [5, 1, 0] rfl ?_
    refine sm_J7_indexOfRange_L13 hK hf hlo (fun h20 => ?_) FUEL p3 v1 p2 h
    · refine s_goto (tgt := 69) hK dJ7_indexOfRange_36 (by decide) ?_
      refine s_iconst (v := (-1)) hK dJ7_indexOfRange_69 rfl ?_
      exact s_iret hK dJ7_indexOfRange_70
theorem ct_J7_indexOfRange {G : GC} {l : Launch} (g : GOK G l) (p0 : Option Nat) (p1 : Option Nat) (p2 : Int32) (p3 : Int32) (h : AH) : CT G l yJ7_indexOfRange (Cond.code yJ7_indexOfRange cJ7_indexOfRange 6 (some (.int))) 3 57 [va_rf p0, va_rf p1, .int p2, .int p3] (f_J7_indexOfRange p0 p1 p2 p3 h) h :=
  CT.of g (by decide) (by simp only [ls_a, ls_i, ls_l, ls_n]; decide) (fun K _ hK hf hlo => by simp only [la_a, la_i, la_l, la_n]; exact sm_J7_indexOfRange hK hf hlo p0 p1 p2 p3 h)
abbrev FR_J7_indexOf : Nat := 4
abbrev LO_J7_indexOf : Nat := 82
theorem dyJ7_indexOf : DY yJ7_indexOf 1 := ⟨⟨by decide, by decide⟩, by decide +kernel⟩
theorem sm_J7_indexOf {G : GC} {K : SC} (hK : SOK G K RJ7 cJ7_indexOf 2 (some (.int)) "indexOf" []) (hf : FR_J7_indexOf ≤ (kR K).frames) (hlo : LO_J7_indexOf ≤ (kR K).locals) (p0 : Option Nat) (p1 : Option Nat) (h : AH) : Sim G K 2 (f_J7_indexOf p0 p1 h) h 0 [(0, va_rf p0), (1, va_rf p1)] [] := by
  unfold f_J7_indexOf
  refine s_aload_n hK dJ7_indexOf_0 rfl 0 rfl ?_
  refine s_aload_n hK dJ7_indexOf_1 rfl 1 rfl ?_
  refine s_iconst (v := 0) hK dJ7_indexOf_2 rfl ?_
  refine s_aload_n hK dJ7_indexOf_3 rfl 0 rfl ?_
  refine s_gI hK fcJ7 2 (Nat.le_of_ble_eq_true rfl) (Or.inl q246) (Or.inl rfl) dJ7_indexOf_4 (fun v1 => ?_)
  refine s_rc (fun _ _ eo er => ?_)
  refine s_cI hK ho_n (cx_v (As := [va_rf p1, .int 0, .int v1]) (rest := []) hK dyJ7_indexOfRange rfl q813 fcJ7.1 q814 q815 q88 q816 eo er (ct_J7_indexOfRange hK.1 p0 p1 0 v1 h) (Nat.le_trans (Nat.le_of_ble_eq_true rfl) hf) (Nat.le_trans (Nat.le_of_ble_eq_true rfl) hlo) rk_n (Nat.le_of_ble_eq_true rfl) dJ7_indexOf_7 rfl) (fun v3 h2 => ?_)
  exact s_iret hK dJ7_indexOf_10
theorem ct_J7_indexOf {G : GC} {l : Launch} (g : GOK G l) (p0 : Option Nat) (p1 : Option Nat) (h : AH) : CT G l yJ7_indexOf (Cond.code yJ7_indexOf cJ7_indexOf 2 (some (.int))) 4 82 [va_rf p0, va_rf p1] (f_J7_indexOf p0 p1 h) h :=
  CT.of g (by decide) (by simp only [ls_a, ls_i, ls_l, ls_n]; decide) (fun K _ hK hf hlo => by simp only [la_a, la_i, la_l, la_n]; exact sm_J7_indexOf hK hf hlo p0 p1 h)
abbrev FR_J7_contains : Nat := 5
abbrev LO_J7_contains : Nat := 103
theorem dyJ7_contains : DY yJ7_contains 1 := ⟨⟨by decide, by decide⟩, by decide +kernel⟩
theorem sm_J7_contains {G : GC} {K : SC} (hK : SOK G K RJ7 cJ7_contains 2 (some (.boolean)) "contains" []) (hf : FR_J7_contains ≤ (kR K).frames) (hlo : LO_J7_contains ≤ (kR K).locals) (p0 : Option Nat) (p1 : Option Nat) (h : AH) : Sim G K 2 (f_J7_contains p0 p1 h) h 0 [(0, va_rf p0), (1, va_rf p1)] [] := by
  unfold f_J7_contains
  refine s_aload_n hK dJ7_contains_0 rfl 0 rfl ?_
  refine s_aload_n hK dJ7_contains_1 rfl 1 rfl ?_
  refine s_rc (fun _ _ eo er => ?_)
  refine s_cI hK ho_n (cx_v (As := [va_rf p1]) (rest := []) hK dyJ7_indexOf rfl q809 fcJ7.1 q810 q811 q88 q812 eo er (ct_J7_indexOf hK.1 p0 p1 h) (Nat.le_trans (Nat.le_of_ble_eq_true rfl) hf) (Nat.le_trans (Nat.le_of_ble_eq_true rfl) hlo) rk_n (Nat.le_of_ble_eq_true rfl) dJ7_contains_2 rfl) (fun v2 h1 => ?_)
  refine s_if_lt (tgt := 12) hK dJ7_contains_5 (by decide) (fun c3 => ?_) (fun c3 => ?_)
  · refine s_iconst (v := 0) hK dJ7_contains_12 rfl ?_
    exact s_zret hK dJ7_contains_13
  · refine s_iconst (v := 1) hK dJ7_contains_8 rfl ?_
    refine s_goto (tgt := 13) hK dJ7_contains_9 (by decide) ?_
    exact s_zret hK dJ7_contains_13
theorem ct_J7_contains {G : GC} {l : Launch} (g : GOK G l) (p0 : Option Nat) (p1 : Option Nat) (h : AH) : CT G l yJ7_contains (Cond.code yJ7_contains cJ7_contains 2 (some (.boolean))) 5 103 [va_rf p0, va_rf p1] (f_J7_contains p0 p1 h) h :=
  CT.of g (by decide) (by simp only [ls_a, ls_i, ls_l, ls_n]; decide) (fun K _ hK hf hlo => by simp only [la_a, la_i, la_l, la_n]; exact sm_J7_contains hK hf hlo p0 p1 h)
