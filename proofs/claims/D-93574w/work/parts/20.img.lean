/-! printed by mk.py/gen.py -/
set_option maxRecDepth 100000
def f_X1_isBetween (p0 : Int32) (p1 : Int32) (p2 : Int32) (h : AH) : RS := if p0 < p1 then rtZ 0 h else if p2 < p0 then rtZ 0 h else rtZ 1 h
def f_X2_init (p0 : Option Nat) (p1 : Option Nat) (p2 : Option Nat) (p3 : Int32) (h : AH) : RS := xnn p0 (xpF h p0 1 0 (va_rf p1) (fun h1 => xpF h1 p0 1 1 (va_rf p2) (fun h2 => xpF h2 p0 1 2 (.int p3) (fun h3 => rtV h3))))
def f_X2_size (p0 : Option Nat) (h : AH) : RS := xgA h p0 1 0 (fun v1 => xaL h v1 (fun v2 => rtI v2 h))
def f_X2_contains (p0 : Option Nat) (p1 : Int32) (h : AH) : RS := xgA h p0 1 0 (fun v1 => xaL h v1 (fun v2 => xcI (f_X1_isBetween p1 0 (v2 - 1) h) (fun v4 h3 => rtZ v4 h3)))
def f_X2_isEntry_J29 (rc : Option Nat → Int32 → Int32 → Int32 → AH → RS) (k37 : Int32 → AH → RS) (x10 : Option Nat) (x11 : Int32) (x12 : Int32) (y13 : Int32) (y14 : Int32) (h15 : AH) : RS := rc x10 x11 (y14 ||| y13) (x12 + 1) h15
def f_X2_isEntry_L4 (k37 : Int32 → AH → RS) : Nat → Option Nat → Int32 → Int32 → Int32 → AH → RS
  | 0, _, _, _, _, _ => none
  | n + 1, x1, x2, x3, x4, h5 => xgA h5 x1 1 1 (fun v6 => xaL h5 v6 (fun v7 => if v7 ≤ x4 then k37 x3 h5 else xgA h5 x1 1 1 (fun v8 => xlI h5 v8 0 x4 (fun v9 => if ¬ v9 = x2 then f_X2_isEntry_J29 (f_X2_isEntry_L4 k37 n) k37 x1 x2 x4 0 x3 h5 else f_X2_isEntry_J29 (f_X2_isEntry_L4 k37 n) k37 x1 x2 x4 1 x3 h5))))
def f_X2_isEntry (p0 : Option Nat) (p1 : Int32) (h : AH) : RS := f_X2_isEntry_L4 (fun x18 h19 => rtZ x18 h19) FUEL p0 p1 0 0 h
def f_X2_kind (p0 : Option Nat) (p1 : Int32) (h : AH) : RS := xgA h p0 1 0 (fun v1 => xlI h v1 0 p1 (fun v2 => rtI (v2 / 16) h))
def f_X2_first (p0 : Option Nat) (p1 : Int32) (h : AH) : RS := xgA h p0 1 0 (fun v1 => xlI h v1 0 p1 (fun v2 => rtI ((v2 / 4) - (v2 / 4) / 4 * 4) h))
def f_X2_second (p0 : Option Nat) (p1 : Int32) (h : AH) : RS := xgA h p0 1 0 (fun v1 => xlI h v1 0 p1 (fun v2 => rtI (v2 - v2 / 4 * 4) h))
def f_X2_hasOperand (p0 : Option Nat) (p1 : Int32) (h : AH) : RS := xrc h p0 1 (xcI (f_X2_kind p0 p1 h) (fun v2 h1 => if v2 = 1 then rtZ 1 h1 else xcI (f_X1_isBetween v2 3 7 h1) (fun v4 h3 => if ¬ v4 = 0 then rtZ 1 h3 else if v2 = 9 then rtZ 1 h3 else if v2 = 10 then rtZ 1 h3 else if ¬ v2 = 12 then rtZ 0 h3 else rtZ 1 h3)))
def f_X2_length (p0 : Option Nat) (p1 : Int32) (h : AH) : RS := xrc h p0 1 (xcI (f_X2_hasOperand p0 p1 h) (fun v2 h1 => if v2 = 0 then rtI 1 h1 else rtI 2 h1))
def f_X2_operand (p0 : Option Nat) (p1 : Int32) (h : AH) : RS := xgA h p0 1 0 (fun v1 => xlI h v1 0 (p1 + 1) (fun v2 => rtI v2 h))
def f_X2_hasTarget (p0 : Option Nat) (p1 : Int32) (h : AH) : RS := xrc h p0 1 (xcI (f_X2_kind p0 p1 h) (fun v2 h1 => xcI (f_X1_isBetween v2 4 7 h1) (fun v4 h3 => rtZ v4 h3)))
def f_X2_target (p0 : Option Nat) (p1 : Int32) (h : AH) : RS := xrc h p0 1 (xcI (f_X2_operand p0 p1 h) (fun v2 h1 => if 128 ≤ v2 then rtI ((p1 + 2) + (v2 - 256)) h1 else rtI ((p1 + 2) + v2) h1))
def f_X2_isValid (p0 : Option Nat) (p1 : Int32) (h : AH) : RS := xrc h p0 1 (xcI (f_X2_contains p0 p1 h) (fun v2 h1 => if v2 = 0 then rtZ 0 h1 else xrc h1 p0 1 (xcI (f_X2_kind p0 p1 h1) (fun v4 h3 => if 13 < v4 then rtZ 0 h3 else xrc h3 p0 1 (xcI (f_X2_length p0 p1 h3) (fun v6 h5 => xgA h5 p0 1 0 (fun v7 => xaL h5 v7 (fun v8 => if (p1 + v6) ≤ v8 then xrc h5 p0 1 (xcI (f_X2_hasTarget p0 p1 h5) (fun v10 h9 => if v10 = 0 then rtZ 1 h9 else xrc h9 p0 1 (xcI (f_X2_target p0 p1 h9) (fun v12 h11 => xrc h11 p0 1 (xcI (f_X2_contains p0 v12 h11) (fun v14 h13 => if v14 = 0 then rtZ 0 h13 else rtZ 1 h13)))))) else rtZ 0 h5))))))))
def f_X2_endsFlow (p0 : Option Nat) (p1 : Int32) (h : AH) : RS := xrc h p0 1 (xcI (f_X2_kind p0 p1 h) (fun v2 h1 => if v2 = 4 then rtZ 1 h1 else if v2 = 8 then rtZ 1 h1 else if v2 = 9 then rtZ 1 h1 else if ¬ v2 = 13 then rtZ 0 h1 else rtZ 1 h1))
def f_X2_endsBlock (p0 : Option Nat) (p1 : Int32) (h : AH) : RS := xrc h p0 1 (xcI (f_X2_endsFlow p0 p1 h) (fun v2 h1 => if ¬ v2 = 0 then rtZ 1 h1 else xrc h1 p0 1 (xcI (f_X2_kind p0 p1 h1) (fun v4 h3 => if v4 = 5 then rtZ 1 h3 else xrc h3 p0 1 (xcI (f_X2_kind p0 p1 h3) (fun v6 h5 => if ¬ v6 = 6 then rtZ 0 h5 else rtZ 1 h5))))))
def f_X2_changes_J39 (x7 : Option Nat) (x8 : Int32) (x9 : Int32) (y10 : Int32) (h11 : AH) : RS := if y10 = 0 then rtZ 0 h11 else xrc h11 x7 1 (xcI (f_X2_first x7 x8 h11) (fun v13 h12 => if ¬ v13 = x9 then rtZ 0 h12 else rtZ 1 h12))
def f_X2_changes_J34 (x3 : Option Nat) (x4 : Int32) (x5 : Int32)  (h6 : AH) : RS := f_X2_changes_J39 x3 x4 x5 1 h6
def f_X2_changes (p0 : Option Nat) (p1 : Int32) (p2 : Int32) (h : AH) : RS := xrc h p0 1 (xcI (f_X2_kind p0 p1 h) (fun v2 h1 => if v2 = 1 then f_X2_changes_J34 p0 p1 p2 h1 else if v2 = 2 then f_X2_changes_J34 p0 p1 p2 h1 else if v2 = 10 then f_X2_changes_J34 p0 p1 p2 h1 else if v2 = 11 then f_X2_changes_J34 p0 p1 p2 h1 else if ¬ v2 = 12 then f_X2_changes_J39 p0 p1 p2 0 h1 else f_X2_changes_J34 p0 p1 p2 h1))
abbrev FR_X1_isBetween : Nat := 1
abbrev LO_X1_isBetween : Nat := 16
theorem dyX1_isBetween : DY yX1_isBetween 3 := ⟨⟨by decide, by decide⟩, by decide +kernel⟩
theorem sm_X1_isBetween {G : GC} {K : SC} (hK : SOK G K RX1 cX1_isBetween 3 (some (.boolean)) "isBetween" []) (hf : FR_X1_isBetween ≤ (kR K).frames) (hlo : LO_X1_isBetween ≤ (kR K).locals) (p0 : Int32) (p1 : Int32) (p2 : Int32) (h : AH) : Sim G K 3 (f_X1_isBetween p0 p1 p2 h) h 0 [(0, .int p0), (1, .int p1), (2, .int p2)] [] := by
  unfold f_X1_isBetween
  refine s_iload_n hK dX1_isBetween_0 rfl 0 rfl ?_
  refine s_iload_n hK dX1_isBetween_1 rfl 1 rfl ?_
  refine s_icmp_lt (tgt := 14) hK dX1_isBetween_2 (by decide) (fun c2 => ?_) (fun c2 => ?_)
  · refine s_iconst (v := 0) hK dX1_isBetween_14 rfl ?_
    exact s_zret hK dX1_isBetween_15
  · refine s_iload_n hK dX1_isBetween_5 rfl 0 rfl ?_
    refine s_iload_n hK dX1_isBetween_6 rfl 2 rfl ?_
    refine s_icmp_gt (tgt := 14) hK dX1_isBetween_7 (by decide) (fun c1 => ?_) (fun c1 => ?_)
    · refine s_iconst (v := 0) hK dX1_isBetween_14 rfl ?_
      exact s_zret hK dX1_isBetween_15
    · refine s_iconst (v := 1) hK dX1_isBetween_10 rfl ?_
      refine s_goto (tgt := 15) hK dX1_isBetween_11 (by decide) ?_
      exact s_zret hK dX1_isBetween_15
theorem ct_X1_isBetween {G : GC} {l : Launch} (g : GOK G l) (p0 : Int32) (p1 : Int32) (p2 : Int32) (h : AH) : CT G l yX1_isBetween (Cond.code yX1_isBetween cX1_isBetween 3 (some (.boolean))) 1 16 [.int p0, .int p1, .int p2] (f_X1_isBetween p0 p1 p2 h) h :=
  CT.of g (by decide) (by simp only [ls_a, ls_i, ls_l, ls_n]; decide) (fun K _ hK hf hlo => by simp only [la_a, la_i, la_l, la_n]; exact sm_X1_isBetween hK hf hlo p0 p1 p2 h)
abbrev FR_X2_init : Nat := 1
abbrev LO_X2_init : Nat := 16
theorem dyX2_init : DY yX2_init 3 := ⟨⟨by decide, by decide⟩, by decide +kernel⟩
theorem sm_X2_init {G : GC} {K : SC} (hK : SOK G K RX2 cX2_init 4 (none) "<init>" []) (hf : FR_X2_init ≤ (kR K).frames) (hlo : LO_X2_init ≤ (kR K).locals) (p0 : Option Nat) (p1 : Option Nat) (p2 : Option Nat) (p3 : Int32) (h : AH) : Sim G K 4 (f_X2_init p0 p1 p2 p3 h) h 0 [(0, va_rf p0), (1, va_rf p1), (2, va_rf p2), (3, .int p3)] [] := by
  unfold f_X2_init
  refine s_aload_n hK dX2_init_0 rfl 0 rfl ?_
  refine s_oinit hK q131 q124 q125 dX2_init_1 (Nat.le_trans (Nat.le_of_ble_eq_true rfl) hf) rk_n (Nat.le_trans (Nat.le_of_ble_eq_true rfl) hlo) ?_
  refine s_aload_n hK dX2_init_4 rfl 0 rfl ?_
  refine s_aload_n hK dX2_init_5 rfl 1 rfl ?_
  refine s_pF hK fcX2 0 (Nat.le_of_ble_eq_true rfl) (Or.inl q132) (Or.inl rfl) (Or.inr ⟨rfl, rfl, rfl, q132⟩) (nr_r _) (ft_r _) dX2_init_6 (fun h1 => ?_)
  refine s_aload_n hK dX2_init_9 rfl 0 rfl ?_
  refine s_aload_n hK dX2_init_10 rfl 2 rfl ?_
  refine s_pF hK fcX2 1 (Nat.le_of_ble_eq_true rfl) (Or.inl q136) (Or.inl rfl) (Or.inr ⟨rfl, rfl, rfl, q136⟩) (nr_r _) (ft_r _) dX2_init_11 (fun h2 => ?_)
  refine s_aload_n hK dX2_init_14 rfl 0 rfl ?_
  refine s_iload_n hK dX2_init_15 rfl 3 rfl ?_
  refine s_pF hK fcX2 2 (Nat.le_of_ble_eq_true rfl) (Or.inl q139) (Or.inl rfl) (Or.inr ⟨rfl, rfl, rfl, q139⟩) rfl rfl dX2_init_16 (fun h3 => ?_)
  exact s_vret hK dX2_init_19
theorem ct_X2_init {G : GC} {l : Launch} (g : GOK G l) (p0 : Option Nat) (p1 : Option Nat) (p2 : Option Nat) (p3 : Int32) (h : AH) : CT G l yX2_init (Cond.code yX2_init cX2_init 4 (none)) 1 16 [va_rf p0, va_rf p1, va_rf p2, .int p3] (f_X2_init p0 p1 p2 p3 h) h :=
  CT.of g (by decide) (by simp only [ls_a, ls_i, ls_l, ls_n]; decide) (fun K _ hK hf hlo => by simp only [la_a, la_i, la_l, la_n]; exact sm_X2_init hK hf hlo p0 p1 p2 p3 h)
abbrev FR_X2_size : Nat := 1
abbrev LO_X2_size : Nat := 16
theorem dyX2_size : DY yX2_size 0 := ⟨⟨by decide, by decide⟩, by decide +kernel⟩
theorem sm_X2_size {G : GC} {K : SC} (hK : SOK G K RX2 cX2_size 1 (some (.int)) "size" []) (hf : FR_X2_size ≤ (kR K).frames) (hlo : LO_X2_size ≤ (kR K).locals) (p0 : Option Nat) (h : AH) : Sim G K 1 (f_X2_size p0 h) h 0 [(0, va_rf p0)] [] := by
  unfold f_X2_size
  refine s_aload_n hK dX2_size_0 rfl 0 rfl ?_
  refine s_gA hK fcX2 0 (Nat.le_of_ble_eq_true rfl) (Or.inl q132) (Or.inl rfl) dX2_size_1 (fun v1 => ?_)
  refine s_alen hK dX2_size_4 (fun v2 => ?_)
  exact s_iret hK dX2_size_5
theorem ct_X2_size {G : GC} {l : Launch} (g : GOK G l) (p0 : Option Nat) (h : AH) : CT G l yX2_size (Cond.code yX2_size cX2_size 1 (some (.int))) 1 16 [va_rf p0] (f_X2_size p0 h) h :=
  CT.of g (by decide) (by simp only [ls_a, ls_i, ls_l, ls_n]; decide) (fun K _ hK hf hlo => by simp only [la_a, la_i, la_l, la_n]; exact sm_X2_size hK hf hlo p0 h)
abbrev FR_X2_contains : Nat := 2
abbrev LO_X2_contains : Nat := 38
theorem dyX2_contains : DY yX2_contains 1 := ⟨⟨by decide, by decide⟩, by decide +kernel⟩
theorem sm_X2_contains {G : GC} {K : SC} (hK : SOK G K RX2 cX2_contains 2 (some (.boolean)) "contains" []) (hf : FR_X2_contains ≤ (kR K).frames) (hlo : LO_X2_contains ≤ (kR K).locals) (p0 : Option Nat) (p1 : Int32) (h : AH) : Sim G K 2 (f_X2_contains p0 p1 h) h 0 [(0, va_rf p0), (1, .int p1)] [] := by
  unfold f_X2_contains
  refine s_iload_n hK dX2_contains_0 rfl 1 rfl ?_
  refine s_iconst (v := 0) hK dX2_contains_1 rfl ?_
  refine s_aload_n hK dX2_contains_2 rfl 0 rfl ?_
  refine s_gA hK fcX2 0 (Nat.le_of_ble_eq_true rfl) (Or.inl q132) (Or.inl rfl) dX2_contains_3 (fun v1 => ?_)
  refine s_alen hK dX2_contains_6 (fun v2 => ?_)
  refine s_iconst (v := 1) hK dX2_contains_7 rfl ?_
  refine s_isub hK dX2_contains_8 ?_
  refine s_cI hK ho_n (cx_sN (As := [.int p1, .int 0, .int (v2 - 1)]) (rest := []) hK dyX1_isBetween rfl q774 q775 q78 q776 (ct_X1_isBetween hK.1 p1 0 (v2 - 1) h) (Nat.le_trans (Nat.le_of_ble_eq_true rfl) hf) (Nat.le_trans (Nat.le_of_ble_eq_true rfl) hlo) rk_n (Nat.le_of_ble_eq_true rfl) dX2_contains_9 rfl) (fun v4 h3 => ?_)
  exact s_zret hK dX2_contains_12
theorem ct_X2_contains {G : GC} {l : Launch} (g : GOK G l) (p0 : Option Nat) (p1 : Int32) (h : AH) : CT G l yX2_contains (Cond.code yX2_contains cX2_contains 2 (some (.boolean))) 2 38 [va_rf p0, .int p1] (f_X2_contains p0 p1 h) h :=
  CT.of g (by decide) (by simp only [ls_a, ls_i, ls_l, ls_n]; decide) (fun K _ hK hf hlo => by simp only [la_a, la_i, la_l, la_n]; exact sm_X2_contains hK hf hlo p0 p1 h)
abbrev FR_X2_isEntry : Nat := 1
abbrev LO_X2_isEntry : Nat := 16
theorem dyX2_isEntry : DY yX2_isEntry 1 := ⟨⟨by decide, by decide⟩, by decide +kernel⟩
theorem sm_X2_isEntry_J29 {G : GC} {K : SC} (hK : SOK G K RX2 cX2_isEntry 4 (some (.boolean)) "isEntry" []) (hf : FR_X2_isEntry ≤ (kR K).frames) (hlo : LO_X2_isEntry ≤ (kR K).locals) {rc : Option Nat → Int32 → Int32 → Int32 → AH → RS} (hrc : ∀ (y0 : Option Nat) (y1 : Int32) (y2 : Int32) (y3 : Int32) (h : AH), Sim G K 4 (rc y0 y1 y2 y3 h) h 4 [(0, va_rf y0), (1, .int y1), (2, .int y2), (3, .int y3)] []) {k37 : Int32 → AH → RS} (hk37 : ∀ (y0 : Int32) (h : AH), Sim G K 4 (k37 y0 h) h 37 [(2, .int y0)] []) (x10 : Option Nat) (x11 : Int32) (x12 : Int32) (y13 : Int32) (y14 : Int32) (h15 : AH) : Sim G K 4 (f_X2_isEntry_J29 rc k37 x10 x11 x12 y13 y14 h15) h15 29 [(0, va_rf x10), (1, .int x11), (3, .int x12)] [.int y13, .int y14] := by
  unfold f_X2_isEntry_J29
  refine s_ior hK dX2_isEntry_29 ?_
  refine s_istore_n (lv' := [(2, .int (y14 ||| y13)), (0, va_rf x10), (1, .int x11), (3, .int x12)]) hK dX2_isEntry_30 rfl (Nat.le_of_ble_eq_true rfl) rfl ?_
  refine s_iinc (j := 3) (v := 1) (lv' := [(3, .int (x12 + 1)), (2, .int (y14 ||| y13)), (0, va_rf x10), (1, .int x11)]) hK dX2_isEntry_31 rfl rfl (Nat.le_of_ble_eq_true rfl) rfl ?_
  refine s_goto (tgt := 4) hK dX2_isEntry_34 (by decide) ?_
  refine s_sub [2, 3, 1, 0] rfl ?_
  exact hrc x10 x11 (y14 ||| y13) (x12 + 1) h15
theorem sm_X2_isEntry_L4 {G : GC} {K : SC} (hK : SOK G K RX2 cX2_isEntry 4 (some (.boolean)) "isEntry" []) (hf : FR_X2_isEntry ≤ (kR K).frames) (hlo : LO_X2_isEntry ≤ (kR K).locals) {k37 : Int32 → AH → RS} (hk37 : ∀ (y0 : Int32) (h : AH), Sim G K 4 (k37 y0 h) h 37 [(2, .int y0)] []) : ∀ (n : Nat) (x1 : Option Nat) (x2 : Int32) (x3 : Int32) (x4 : Int32) (h5 : AH), Sim G K 4 (f_X2_isEntry_L4 k37 n x1 x2 x3 x4 h5) h5 4 [(0, va_rf x1), (1, .int x2), (2, .int x3), (3, .int x4)] [] := by
  intro n
  induction n with
  | zero => intro x1 x2 x3 x4 h5; exact s_none
  | succ n ih =>
    intro x1 x2 x3 x4 h5
    rw [f_X2_isEntry_L4]
    refine s_iload_n hK dX2_isEntry_4 rfl 3 rfl ?_
    refine s_aload_n hK dX2_isEntry_5 rfl 0 rfl ?_
    refine s_gA hK fcX2 1 (Nat.le_of_ble_eq_true rfl) (Or.inl q136) (Or.inl rfl) dX2_isEntry_6 (fun v6 => ?_)
    refine s_alen hK dX2_isEntry_9 (fun v7 => ?_)
    refine s_icmp_ge (tgt := 37) hK dX2_isEntry_10 (by decide) (fun c17 => ?_) (fun c17 => ?_)
    · refine s_sub [2] rfl ?_
      exact hk37 x3 h5
    · refine s_iload_n hK dX2_isEntry_13 rfl 2 rfl ?_
      refine s_aload_n hK dX2_isEntry_14 rfl 0 rfl ?_
      refine s_gA hK fcX2 1 (Nat.le_of_ble_eq_true rfl) (Or.inl q136) (Or.inl rfl) dX2_isEntry_15 (fun v8 => ?_)
      refine s_iload_n hK dX2_isEntry_18 rfl 3 rfl ?_
      refine s_iald hK dX2_isEntry_19 (fun v9 => ?_)
      refine s_iload_n hK dX2_isEntry_20 rfl 1 rfl ?_
      refine s_icmp_ne (tgt := 28) hK dX2_isEntry_21 (by decide) (fun c16 => ?_) (fun c16 => ?_)
      · refine s_iconst (v := 0) hK dX2_isEntry_28 rfl ?_
        refine s_sub [0, 1, 3] rfl ?_
        exact sm_X2_isEntry_J29 hK hf hlo ih hk37 x1 x2 x4 0 x3 h5
      · refine s_iconst (v := 1) hK dX2_isEntry_24 rfl ?_
        refine s_goto (tgt := 29) hK dX2_isEntry_25 (by decide) ?_
        refine s_sub [0, 1, 3] rfl ?_
        exact sm_X2_isEntry_J29 hK hf hlo ih hk37 x1 x2 x4 1 x3 h5
theorem sm_X2_isEntry {G : GC} {K : SC} (hK : SOK G K RX2 cX2_isEntry 4 (some (.boolean)) "isEntry" []) (hf : FR_X2_isEntry ≤ (kR K).frames) (hlo : LO_X2_isEntry ≤ (kR K).locals) (p0 : Option Nat) (p1 : Int32) (h : AH) : Sim G K 4 (f_X2_isEntry p0 p1 h) h 0 [(0, va_rf p0), (1, .int p1)] [] := by
  unfold f_X2_isEntry
  refine s_iconst (v := 0) hK dX2_isEntry_0 rfl ?_
  refine s_istore_n (lv' := [(2, .int 0), (0, va_rf p0), (1, .int p1)]) hK dX2_isEntry_1 rfl (Nat.le_of_ble_eq_true rfl) rfl ?_
  refine s_iconst (v := 0) hK dX2_isEntry_2 rfl ?_
  refine s_istore_n (lv' := [(3, .int 0), (2, .int 0), (0, va_rf p0), (1, .int p1)]) hK dX2_isEntry_3 rfl (Nat.le_of_ble_eq_true rfl) rfl ?_
  refine s_sub [2, 3, 1, 0] rfl ?_
  refine sm_X2_isEntry_L4 hK hf hlo (fun x18 h19 => ?_) FUEL p0 p1 0 0 h
  · refine s_iload_n hK dX2_isEntry_37 rfl 0 rfl ?_
    exact s_zret hK dX2_isEntry_38
theorem ct_X2_isEntry {G : GC} {l : Launch} (g : GOK G l) (p0 : Option Nat) (p1 : Int32) (h : AH) : CT G l yX2_isEntry (Cond.code yX2_isEntry cX2_isEntry 4 (some (.boolean))) 1 16 [va_rf p0, .int p1] (f_X2_isEntry p0 p1 h) h :=
  CT.of g (by decide) (by simp only [ls_a, ls_i, ls_l, ls_n]; decide) (fun K _ hK hf hlo => by simp only [la_a, la_i, la_l, la_n]; exact sm_X2_isEntry hK hf hlo p0 p1 h)
abbrev FR_X2_kind : Nat := 1
abbrev LO_X2_kind : Nat := 16
theorem dyX2_kind : DY yX2_kind 1 := ⟨⟨by decide, by decide⟩, by decide +kernel⟩
theorem sm_X2_kind {G : GC} {K : SC} (hK : SOK G K RX2 cX2_kind 2 (some (.int)) "kind" []) (hf : FR_X2_kind ≤ (kR K).frames) (hlo : LO_X2_kind ≤ (kR K).locals) (p0 : Option Nat) (p1 : Int32) (h : AH) : Sim G K 2 (f_X2_kind p0 p1 h) h 0 [(0, va_rf p0), (1, .int p1)] [] := by
  unfold f_X2_kind
  refine s_aload_n hK dX2_kind_0 rfl 0 rfl ?_
  refine s_gA hK fcX2 0 (Nat.le_of_ble_eq_true rfl) (Or.inl q132) (Or.inl rfl) dX2_kind_1 (fun v1 => ?_)
  refine s_iload_n hK dX2_kind_4 rfl 1 rfl ?_
  refine s_iald hK dX2_kind_5 (fun v2 => ?_)
  refine s_bipush (v := 16) hK dX2_kind_6 rfl ?_
  refine s_idiv hK dX2_kind_8 (by decide) ?_
  exact s_iret hK dX2_kind_9
theorem ct_X2_kind {G : GC} {l : Launch} (g : GOK G l) (p0 : Option Nat) (p1 : Int32) (h : AH) : CT G l yX2_kind (Cond.code yX2_kind cX2_kind 2 (some (.int))) 1 16 [va_rf p0, .int p1] (f_X2_kind p0 p1 h) h :=
  CT.of g (by decide) (by simp only [ls_a, ls_i, ls_l, ls_n]; decide) (fun K _ hK hf hlo => by simp only [la_a, la_i, la_l, la_n]; exact sm_X2_kind hK hf hlo p0 p1 h)
abbrev FR_X2_first : Nat := 1
abbrev LO_X2_first : Nat := 16
theorem dyX2_first : DY yX2_first 1 := ⟨⟨by decide, by decide⟩, by decide +kernel⟩
theorem sm_X2_first {G : GC} {K : SC} (hK : SOK G K RX2 cX2_first 2 (some (.int)) "first" []) (hf : FR_X2_first ≤ (kR K).frames) (hlo : LO_X2_first ≤ (kR K).locals) (p0 : Option Nat) (p1 : Int32) (h : AH) : Sim G K 2 (f_X2_first p0 p1 h) h 0 [(0, va_rf p0), (1, .int p1)] [] := by
  unfold f_X2_first
  refine s_aload_n hK dX2_first_0 rfl 0 rfl ?_
  refine s_gA hK fcX2 0 (Nat.le_of_ble_eq_true rfl) (Or.inl q132) (Or.inl rfl) dX2_first_1 (fun v1 => ?_)
  refine s_iload_n hK dX2_first_4 rfl 1 rfl ?_
  refine s_iald hK dX2_first_5 (fun v2 => ?_)
  refine s_iconst (v := 4) hK dX2_first_6 rfl ?_
  refine s_idiv hK dX2_first_7 (by decide) ?_
  refine s_iconst (v := 4) hK dX2_first_8 rfl ?_
  refine s_irem hK dX2_first_9 (by decide) ?_
  exact s_iret hK dX2_first_10
theorem ct_X2_first {G : GC} {l : Launch} (g : GOK G l) (p0 : Option Nat) (p1 : Int32) (h : AH) : CT G l yX2_first (Cond.code yX2_first cX2_first 2 (some (.int))) 1 16 [va_rf p0, .int p1] (f_X2_first p0 p1 h) h :=
  CT.of g (by decide) (by simp only [ls_a, ls_i, ls_l, ls_n]; decide) (fun K _ hK hf hlo => by simp only [la_a, la_i, la_l, la_n]; exact sm_X2_first hK hf hlo p0 p1 h)
abbrev FR_X2_second : Nat := 1
abbrev LO_X2_second : Nat := 16
theorem dyX2_second : DY yX2_second 1 := ⟨⟨by decide, by decide⟩, by decide +kernel⟩
theorem sm_X2_second {G : GC} {K : SC} (hK : SOK G K RX2 cX2_second 2 (some (.int)) "second" []) (hf : FR_X2_second ≤ (kR K).frames) (hlo : LO_X2_second ≤ (kR K).locals) (p0 : Option Nat) (p1 : Int32) (h : AH) : Sim G K 2 (f_X2_second p0 p1 h) h 0 [(0, va_rf p0), (1, .int p1)] [] := by
  unfold f_X2_second
  refine s_aload_n hK dX2_second_0 rfl 0 rfl ?_
  refine s_gA hK fcX2 0 (Nat.le_of_ble_eq_true rfl) (Or.inl q132) (Or.inl rfl) dX2_second_1 (fun v1 => ?_)
  refine s_iload_n hK dX2_second_4 rfl 1 rfl ?_
  refine s_iald hK dX2_second_5 (fun v2 => ?_)
  refine s_iconst (v := 4) hK dX2_second_6 rfl ?_
  refine s_irem hK dX2_second_7 (by decide) ?_
  exact s_iret hK dX2_second_8
theorem ct_X2_second {G : GC} {l : Launch} (g : GOK G l) (p0 : Option Nat) (p1 : Int32) (h : AH) : CT G l yX2_second (Cond.code yX2_second cX2_second 2 (some (.int))) 1 16 [va_rf p0, .int p1] (f_X2_second p0 p1 h) h :=
  CT.of g (by decide) (by simp only [ls_a, ls_i, ls_l, ls_n]; decide) (fun K _ hK hf hlo => by simp only [la_a, la_i, la_l, la_n]; exact sm_X2_second hK hf hlo p0 p1 h)
abbrev FR_X2_hasOperand : Nat := 2
abbrev LO_X2_hasOperand : Nat := 38
theorem dyX2_hasOperand : DY yX2_hasOperand 1 := ⟨⟨by decide, by decide⟩, by decide +kernel⟩
theorem sm_X2_hasOperand {G : GC} {K : SC} (hK : SOK G K RX2 cX2_hasOperand 3 (some (.boolean)) "hasOperand" []) (hf : FR_X2_hasOperand ≤ (kR K).frames) (hlo : LO_X2_hasOperand ≤ (kR K).locals) (p0 : Option Nat) (p1 : Int32) (h : AH) : Sim G K 3 (f_X2_hasOperand p0 p1 h) h 0 [(0, va_rf p0), (1, .int p1)] [] := by
  unfold f_X2_hasOperand
  refine s_aload_n hK dX2_hasOperand_0 rfl 0 rfl ?_
  refine s_iload_n hK dX2_hasOperand_1 rfl 1 rfl ?_
  refine s_rc (fun _ _ eo er => ?_)
  refine s_cI hK ho_n (cx_v (As := [.int p1]) (rest := []) hK dyX2_kind rfl q777 fcX2.1 q778 q779 q79 q780 eo er (ct_X2_kind hK.1 p0 p1 h) (Nat.le_trans (Nat.le_of_ble_eq_true rfl) hf) (Nat.le_trans (Nat.le_of_ble_eq_true rfl) hlo) rk_n (Nat.le_of_ble_eq_true rfl) dX2_hasOperand_2 rfl) (fun v2 h1 => ?_)
  refine s_istore_n (lv' := [(2, .int v2), (0, va_rf p0), (1, .int p1)]) hK dX2_hasOperand_5 rfl (Nat.le_of_ble_eq_true rfl) rfl ?_
  refine s_iload_n hK dX2_hasOperand_6 rfl 0 rfl ?_
  refine s_iconst (v := 1) hK dX2_hasOperand_7 rfl ?_
  refine s_icmp_eq (tgt := 39) hK dX2_hasOperand_8 (by decide) (fun c9 => ?_) (fun c9 => ?_)
  · refine s_iconst (v := 1) hK dX2_hasOperand_39 rfl ?_
    refine s_goto (tgt := 44) hK dX2_hasOperand_40 (by decide) ?_
    exact s_zret hK dX2_hasOperand_44
  · refine s_iload_n hK dX2_hasOperand_11 rfl 0 rfl ?_
    refine s_iconst (v := 3) hK dX2_hasOperand_12 rfl ?_
    refine s_bipush (v := 7) hK dX2_hasOperand_13 rfl ?_
    refine s_cI hK ho_n (cx_sN (As := [.int v2, .int 3, .int 7]) (rest := []) hK dyX1_isBetween rfl q774 q775 q78 q776 (ct_X1_isBetween hK.1 v2 3 7 h1) (Nat.le_trans (Nat.le_of_ble_eq_true rfl) hf) (Nat.le_trans (Nat.le_of_ble_eq_true rfl) hlo) rk_n (Nat.le_of_ble_eq_true rfl) dX2_hasOperand_15 rfl) (fun v4 h3 => ?_)
    refine s_if_ne (tgt := 39) hK dX2_hasOperand_18 (by decide) (fun c8 => ?_) (fun c8 => ?_)
    · refine s_iconst (v := 1) hK dX2_hasOperand_39 rfl ?_
      refine s_goto (tgt := 44) hK dX2_hasOperand_40 (by decide) ?_
      exact s_zret hK dX2_hasOperand_44
    · refine s_iload_n hK dX2_hasOperand_21 rfl 0 rfl ?_
      refine s_bipush (v := 9) hK dX2_hasOperand_22 rfl ?_
      refine s_icmp_eq (tgt := 39) hK dX2_hasOperand_24 (by decide) (fun c7 => ?_) (fun c7 => ?_)
      · refine s_iconst (v := 1) hK dX2_hasOperand_39 rfl ?_
        refine s_goto (tgt := 44) hK dX2_hasOperand_40 (by decide) ?_
        exact s_zret hK dX2_hasOperand_44
      · refine s_iload_n hK dX2_hasOperand_27 rfl 0 rfl ?_
        refine s_bipush (v := 10) hK dX2_hasOperand_28 rfl ?_
        refine s_icmp_eq (tgt := 39) hK dX2_hasOperand_30 (by decide) (fun c6 => ?_) (fun c6 => ?_)
        · refine s_iconst (v := 1) hK dX2_hasOperand_39 rfl ?_
          refine s_goto (tgt := 44) hK dX2_hasOperand_40 (by decide) ?_
          exact s_zret hK dX2_hasOperand_44
        · refine s_iload_n hK dX2_hasOperand_33 rfl 0 rfl ?_
          refine s_bipush (v := 12) hK dX2_hasOperand_34 rfl ?_
          refine s_icmp_ne (tgt := 43) hK dX2_hasOperand_36 (by decide) (fun c5 => ?_) (fun c5 => ?_)
          · refine s_iconst (v := 0) hK dX2_hasOperand_43 rfl ?_
            exact s_zret hK dX2_hasOperand_44
          · refine s_iconst (v := 1) hK dX2_hasOperand_39 rfl ?_
            refine s_goto (tgt := 44) hK dX2_hasOperand_40 (by decide) ?_
            exact s_zret hK dX2_hasOperand_44
theorem ct_X2_hasOperand {G : GC} {l : Launch} (g : GOK G l) (p0 : Option Nat) (p1 : Int32) (h : AH) : CT G l yX2_hasOperand (Cond.code yX2_hasOperand cX2_hasOperand 3 (some (.boolean))) 2 38 [va_rf p0, .int p1] (f_X2_hasOperand p0 p1 h) h :=
  CT.of g (by decide) (by simp only [ls_a, ls_i, ls_l, ls_n]; decide) (fun K _ hK hf hlo => by simp only [la_a, la_i, la_l, la_n]; exact sm_X2_hasOperand hK hf hlo p0 p1 h)
abbrev FR_X2_length : Nat := 3
abbrev LO_X2_length : Nat := 60
theorem dyX2_length : DY yX2_length 1 := ⟨⟨by decide, by decide⟩, by decide +kernel⟩
theorem sm_X2_length {G : GC} {K : SC} (hK : SOK G K RX2 cX2_length 2 (some (.int)) "length" []) (hf : FR_X2_length ≤ (kR K).frames) (hlo : LO_X2_length ≤ (kR K).locals) (p0 : Option Nat) (p1 : Int32) (h : AH) : Sim G K 2 (f_X2_length p0 p1 h) h 0 [(0, va_rf p0), (1, .int p1)] [] := by
  unfold f_X2_length
  refine s_aload_n hK dX2_length_0 rfl 0 rfl ?_
  refine s_iload_n hK dX2_length_1 rfl 1 rfl ?_
  refine s_rc (fun _ _ eo er => ?_)
  refine s_cI hK ho_n (cx_v (As := [.int p1]) (rest := []) hK dyX2_hasOperand rfl q785 fcX2.1 q786 q787 q79 q788 eo er (ct_X2_hasOperand hK.1 p0 p1 h) (Nat.le_trans (Nat.le_of_ble_eq_true rfl) hf) (Nat.le_trans (Nat.le_of_ble_eq_true rfl) hlo) rk_n (Nat.le_of_ble_eq_true rfl) dX2_length_2 rfl) (fun v2 h1 => ?_)
  refine s_if_eq (tgt := 12) hK dX2_length_5 (by decide) (fun c3 => ?_) (fun c3 => ?_)
  · refine s_iconst (v := 1) hK dX2_length_12 rfl ?_
    exact s_iret hK dX2_length_13
  · refine s_iconst (v := 2) hK dX2_length_8 rfl ?_
    refine s_goto (tgt := 13) hK dX2_length_9 (by decide) ?_
    exact s_iret hK dX2_length_13
theorem ct_X2_length {G : GC} {l : Launch} (g : GOK G l) (p0 : Option Nat) (p1 : Int32) (h : AH) : CT G l yX2_length (Cond.code yX2_length cX2_length 2 (some (.int))) 3 60 [va_rf p0, .int p1] (f_X2_length p0 p1 h) h :=
  CT.of g (by decide) (by simp only [ls_a, ls_i, ls_l, ls_n]; decide) (fun K _ hK hf hlo => by simp only [la_a, la_i, la_l, la_n]; exact sm_X2_length hK hf hlo p0 p1 h)
abbrev FR_X2_operand : Nat := 1
abbrev LO_X2_operand : Nat := 16
theorem dyX2_operand : DY yX2_operand 1 := ⟨⟨by decide, by decide⟩, by decide +kernel⟩
theorem sm_X2_operand {G : GC} {K : SC} (hK : SOK G K RX2 cX2_operand 2 (some (.int)) "operand" []) (hf : FR_X2_operand ≤ (kR K).frames) (hlo : LO_X2_operand ≤ (kR K).locals) (p0 : Option Nat) (p1 : Int32) (h : AH) : Sim G K 2 (f_X2_operand p0 p1 h) h 0 [(0, va_rf p0), (1, .int p1)] [] := by
  unfold f_X2_operand
  refine s_aload_n hK dX2_operand_0 rfl 0 rfl ?_
  refine s_gA hK fcX2 0 (Nat.le_of_ble_eq_true rfl) (Or.inl q132) (Or.inl rfl) dX2_operand_1 (fun v1 => ?_)
  refine s_iload_n hK dX2_operand_4 rfl 1 rfl ?_
  refine s_iconst (v := 1) hK dX2_operand_5 rfl ?_
  refine s_iadd hK dX2_operand_6 ?_
  refine s_iald hK dX2_operand_7 (fun v2 => ?_)
  exact s_iret hK dX2_operand_8
theorem ct_X2_operand {G : GC} {l : Launch} (g : GOK G l) (p0 : Option Nat) (p1 : Int32) (h : AH) : CT G l yX2_operand (Cond.code yX2_operand cX2_operand 2 (some (.int))) 1 16 [va_rf p0, .int p1] (f_X2_operand p0 p1 h) h :=
  CT.of g (by decide) (by simp only [ls_a, ls_i, ls_l, ls_n]; decide) (fun K _ hK hf hlo => by simp only [la_a, la_i, la_l, la_n]; exact sm_X2_operand hK hf hlo p0 p1 h)
abbrev FR_X2_hasTarget : Nat := 2
abbrev LO_X2_hasTarget : Nat := 38
theorem dyX2_hasTarget : DY yX2_hasTarget 1 := ⟨⟨by decide, by decide⟩, by decide +kernel⟩
theorem sm_X2_hasTarget {G : GC} {K : SC} (hK : SOK G K RX2 cX2_hasTarget 2 (some (.boolean)) "hasTarget" []) (hf : FR_X2_hasTarget ≤ (kR K).frames) (hlo : LO_X2_hasTarget ≤ (kR K).locals) (p0 : Option Nat) (p1 : Int32) (h : AH) : Sim G K 2 (f_X2_hasTarget p0 p1 h) h 0 [(0, va_rf p0), (1, .int p1)] [] := by
  unfold f_X2_hasTarget
  refine s_aload_n hK dX2_hasTarget_0 rfl 0 rfl ?_
  refine s_iload_n hK dX2_hasTarget_1 rfl 1 rfl ?_
  refine s_rc (fun _ _ eo er => ?_)
  refine s_cI hK ho_n (cx_v (As := [.int p1]) (rest := []) hK dyX2_kind rfl q777 fcX2.1 q778 q779 q79 q780 eo er (ct_X2_kind hK.1 p0 p1 h) (Nat.le_trans (Nat.le_of_ble_eq_true rfl) hf) (Nat.le_trans (Nat.le_of_ble_eq_true rfl) hlo) rk_n (Nat.le_of_ble_eq_true rfl) dX2_hasTarget_2 rfl) (fun v2 h1 => ?_)
  refine s_iconst (v := 4) hK dX2_hasTarget_5 rfl ?_
  refine s_bipush (v := 7) hK dX2_hasTarget_6 rfl ?_
  refine s_cI hK ho_n (cx_sN (As := [.int v2, .int 4, .int 7]) (rest := []) hK dyX1_isBetween rfl q774 q775 q78 q776 (ct_X1_isBetween hK.1 v2 4 7 h1) (Nat.le_trans (Nat.le_of_ble_eq_true rfl) hf) (Nat.le_trans (Nat.le_of_ble_eq_true rfl) hlo) rk_n (Nat.le_of_ble_eq_true rfl) dX2_hasTarget_8 rfl) (fun v4 h3 => ?_)
  exact s_zret hK dX2_hasTarget_11
theorem ct_X2_hasTarget {G : GC} {l : Launch} (g : GOK G l) (p0 : Option Nat) (p1 : Int32) (h : AH) : CT G l yX2_hasTarget (Cond.code yX2_hasTarget cX2_hasTarget 2 (some (.boolean))) 2 38 [va_rf p0, .int p1] (f_X2_hasTarget p0 p1 h) h :=
  CT.of g (by decide) (by simp only [ls_a, ls_i, ls_l, ls_n]; decide) (fun K _ hK hf hlo => by simp only [la_a, la_i, la_l, la_n]; exact sm_X2_hasTarget hK hf hlo p0 p1 h)
abbrev FR_X2_target : Nat := 2
abbrev LO_X2_target : Nat := 37
theorem dyX2_target : DY yX2_target 1 := ⟨⟨by decide, by decide⟩, by decide +kernel⟩
theorem sm_X2_target {G : GC} {K : SC} (hK : SOK G K RX2 cX2_target 3 (some (.int)) "target" []) (hf : FR_X2_target ≤ (kR K).frames) (hlo : LO_X2_target ≤ (kR K).locals) (p0 : Option Nat) (p1 : Int32) (h : AH) : Sim G K 3 (f_X2_target p0 p1 h) h 0 [(0, va_rf p0), (1, .int p1)] [] := by
  unfold f_X2_target
  refine s_aload_n hK dX2_target_0 rfl 0 rfl ?_
  refine s_iload_n hK dX2_target_1 rfl 1 rfl ?_
  refine s_rc (fun _ _ eo er => ?_)
  refine s_cI hK ho_n (cx_v (As := [.int p1]) (rest := []) hK dyX2_operand rfl q797 fcX2.1 q798 q799 q79 q800 eo er (ct_X2_operand hK.1 p0 p1 h) (Nat.le_trans (Nat.le_of_ble_eq_true rfl) hf) (Nat.le_trans (Nat.le_of_ble_eq_true rfl) hlo) rk_n (Nat.le_of_ble_eq_true rfl) dX2_target_2 rfl) (fun v2 h1 => ?_)
  refine s_istore_n (lv' := [(2, .int v2), (0, va_rf p0), (1, .int p1)]) hK dX2_target_5 rfl (Nat.le_of_ble_eq_true rfl) rfl ?_
  refine s_iload_n hK dX2_target_6 rfl 2 rfl ?_
  refine s_iconst (v := 2) hK dX2_target_7 rfl ?_
  refine s_iadd hK dX2_target_8 ?_
  refine s_iload_n hK dX2_target_9 rfl 0 rfl ?_
  refine s_sipush (v := 128) hK dX2_target_10 rfl ?_
  refine s_icmp_ge (tgt := 20) hK dX2_target_13 (by decide) (fun c3 => ?_) (fun c3 => ?_)
  · refine s_iload_n hK dX2_target_20 rfl 0 rfl ?_
    refine s_sipush (v := 256) hK dX2_target_21 rfl ?_
    refine s_isub hK dX2_target_24 ?_
    refine s_iadd hK dX2_target_25 ?_
    exact s_iret hK dX2_target_26
  · refine s_iload_n hK dX2_target_16 rfl 0 rfl ?_
    refine s_goto (tgt := 25) hK dX2_target_17 (by decide) ?_
    refine s_iadd hK dX2_target_25 ?_
    exact s_iret hK dX2_target_26
theorem ct_X2_target {G : GC} {l : Launch} (g : GOK G l) (p0 : Option Nat) (p1 : Int32) (h : AH) : CT G l yX2_target (Cond.code yX2_target cX2_target 3 (some (.int))) 2 37 [va_rf p0, .int p1] (f_X2_target p0 p1 h) h :=
  CT.of g (by decide) (by simp only [ls_a, ls_i, ls_l, ls_n]; decide) (fun K _ hK hf hlo => by simp only [la_a, la_i, la_l, la_n]; exact sm_X2_target hK hf hlo p0 p1 h)
abbrev FR_X2_isValid : Nat := 4
abbrev LO_X2_isValid : Nat := 81
theorem dyX2_isValid : DY yX2_isValid 1 := ⟨⟨by decide, by decide⟩, by decide +kernel⟩
theorem sm_X2_isValid {G : GC} {K : SC} (hK : SOK G K RX2 cX2_isValid 2 (some (.boolean)) "isValid" []) (hf : FR_X2_isValid ≤ (kR K).frames) (hlo : LO_X2_isValid ≤ (kR K).locals) (p0 : Option Nat) (p1 : Int32) (h : AH) : Sim G K 2 (f_X2_isValid p0 p1 h) h 0 [(0, va_rf p0), (1, .int p1)] [] := by
  unfold f_X2_isValid
  refine s_aload_n hK dX2_isValid_0 rfl 0 rfl ?_
  refine s_iload_n hK dX2_isValid_1 rfl 1 rfl ?_
  refine s_rc (fun _ _ eo er => ?_)
  refine s_cI hK ho_n (cx_v (As := [.int p1]) (rest := []) hK dyX2_contains rfl q770 fcX2.1 q771 q772 q79 q773 eo er (ct_X2_contains hK.1 p0 p1 h) (Nat.le_trans (Nat.le_of_ble_eq_true rfl) hf) (Nat.le_trans (Nat.le_of_ble_eq_true rfl) hlo) rk_n (Nat.le_of_ble_eq_true rfl) dX2_isValid_2 rfl) (fun v2 h1 => ?_)
  refine s_if_eq (tgt := 33) hK dX2_isValid_5 (by decide) (fun c19 => ?_) (fun c19 => ?_)
  · refine s_iconst (v := 0) hK dX2_isValid_33 rfl ?_
    exact s_zret hK dX2_isValid_34
  · refine s_aload_n hK dX2_isValid_8 rfl 0 rfl ?_
    refine s_iload_n hK dX2_isValid_9 rfl 1 rfl ?_
    refine s_rc (fun _ _ eo er => ?_)
    refine s_cI hK ho_n (cx_v (As := [.int p1]) (rest := []) hK dyX2_kind rfl q777 fcX2.1 q778 q779 q79 q780 eo er (ct_X2_kind hK.1 p0 p1 h1) (Nat.le_trans (Nat.le_of_ble_eq_true rfl) hf) (Nat.le_trans (Nat.le_of_ble_eq_true rfl) hlo) rk_n (Nat.le_of_ble_eq_true rfl) dX2_isValid_10 rfl) (fun v4 h3 => ?_)
    refine s_bipush (v := 13) hK dX2_isValid_13 rfl ?_
    refine s_icmp_gt (tgt := 33) hK dX2_isValid_15 (by decide) (fun c18 => ?_) (fun c18 => ?_)
    · refine s_iconst (v := 0) hK dX2_isValid_33 rfl ?_
      exact s_zret hK dX2_isValid_34
    · refine s_iload_n hK dX2_isValid_18 rfl 1 rfl ?_
      refine s_aload_n hK dX2_isValid_19 rfl 0 rfl ?_
      refine s_iload_n hK dX2_isValid_20 rfl 1 rfl ?_
      refine s_rc (fun _ _ eo er => ?_)
      refine s_cI hK ho_n (cx_v (As := [.int p1]) (rest := [.int p1]) hK dyX2_length rfl q781 fcX2.1 q782 q783 q79 q784 eo er (ct_X2_length hK.1 p0 p1 h3) (Nat.le_trans (Nat.le_of_ble_eq_true rfl) hf) (Nat.le_trans (Nat.le_of_ble_eq_true rfl) hlo) (rk_i rk_n) (Nat.le_of_ble_eq_true rfl) dX2_isValid_21 rfl) (fun v6 h5 => ?_)
      refine s_iadd hK dX2_isValid_24 ?_
      refine s_aload_n hK dX2_isValid_25 rfl 0 rfl ?_
      refine s_gA hK fcX2 0 (Nat.le_of_ble_eq_true rfl) (Or.inl q132) (Or.inl rfl) dX2_isValid_26 (fun v7 => ?_)
      refine s_alen hK dX2_isValid_29 (fun v8 => ?_)
      refine s_icmp_le (tgt := 35) hK dX2_isValid_30 (by decide) (fun c17 => ?_) (fun c17 => ?_)
      · refine s_aload_n hK dX2_isValid_35 rfl 0 rfl ?_
        refine s_iload_n hK dX2_isValid_36 rfl 1 rfl ?_
        refine s_rc (fun _ _ eo er => ?_)
        refine s_cI hK ho_n (cx_v (As := [.int p1]) (rest := []) hK dyX2_hasTarget rfl q789 fcX2.1 q790 q791 q79 q792 eo er (ct_X2_hasTarget hK.1 p0 p1 h5) (Nat.le_trans (Nat.le_of_ble_eq_true rfl) hf) (Nat.le_trans (Nat.le_of_ble_eq_true rfl) hlo) rk_n (Nat.le_of_ble_eq_true rfl) dX2_isValid_37 rfl) (fun v10 h9 => ?_)
        refine s_if_eq (tgt := 55) hK dX2_isValid_40 (by decide) (fun c16 => ?_) (fun c16 => ?_)
        · refine s_iconst (v := 1) hK dX2_isValid_55 rfl ?_
          refine s_goto (tgt := 60) hK dX2_isValid_56 (by decide) ?_
          exact s_zret hK dX2_isValid_60
        · refine s_aload_n hK dX2_isValid_43 rfl 0 rfl ?_
          refine s_aload_n hK dX2_isValid_44 rfl 0 rfl ?_
          refine s_iload_n hK dX2_isValid_45 rfl 1 rfl ?_
          refine s_rc (fun _ _ eo er => ?_)
          refine s_cI hK ho_n (cx_v (As := [.int p1]) (rest := [va_rf p0]) hK dyX2_target rfl q793 fcX2.1 q794 q795 q79 q796 eo er (ct_X2_target hK.1 p0 p1 h9) (Nat.le_trans (Nat.le_of_ble_eq_true rfl) hf) (Nat.le_trans (Nat.le_of_ble_eq_true rfl) hlo) (rk_a rk_n) (Nat.le_of_ble_eq_true rfl) dX2_isValid_46 rfl) (fun v12 h11 => ?_)
          refine s_rc (fun _ _ eo er => ?_)
          refine s_cI hK ho_n (cx_v (As := [.int v12]) (rest := []) hK dyX2_contains rfl q770 fcX2.1 q771 q772 q79 q773 eo er (ct_X2_contains hK.1 p0 v12 h11) (Nat.le_trans (Nat.le_of_ble_eq_true rfl) hf) (Nat.le_trans (Nat.le_of_ble_eq_true rfl) hlo) rk_n (Nat.le_of_ble_eq_true rfl) dX2_isValid_49 rfl) (fun v14 h13 => ?_)
          refine s_if_eq (tgt := 59) hK dX2_isValid_52 (by decide) (fun c15 => ?_) (fun c15 => ?_)
          · refine s_iconst (v := 0) hK dX2_isValid_59 rfl ?_
            exact s_zret hK dX2_isValid_60
          · refine s_iconst (v := 1) hK dX2_isValid_55 rfl ?_
            refine s_goto (tgt := 60) hK dX2_isValid_56 (by decide) ?_
            exact s_zret hK dX2_isValid_60
      · refine s_iconst (v := 0) hK dX2_isValid_33 rfl ?_
        exact s_zret hK dX2_isValid_34
theorem ct_X2_isValid {G : GC} {l : Launch} (g : GOK G l) (p0 : Option Nat) (p1 : Int32) (h : AH) : CT G l yX2_isValid (Cond.code yX2_isValid cX2_isValid 2 (some (.boolean))) 4 81 [va_rf p0, .int p1] (f_X2_isValid p0 p1 h) h :=
  CT.of g (by decide) (by simp only [ls_a, ls_i, ls_l, ls_n]; decide) (fun K _ hK hf hlo => by simp only [la_a, la_i, la_l, la_n]; exact sm_X2_isValid hK hf hlo p0 p1 h)
abbrev FR_X2_endsFlow : Nat := 2
abbrev LO_X2_endsFlow : Nat := 37
theorem dyX2_endsFlow : DY yX2_endsFlow 1 := ⟨⟨by decide, by decide⟩, by decide +kernel⟩
theorem sm_X2_endsFlow {G : GC} {K : SC} (hK : SOK G K RX2 cX2_endsFlow 3 (some (.boolean)) "endsFlow" []) (hf : FR_X2_endsFlow ≤ (kR K).frames) (hlo : LO_X2_endsFlow ≤ (kR K).locals) (p0 : Option Nat) (p1 : Int32) (h : AH) : Sim G K 3 (f_X2_endsFlow p0 p1 h) h 0 [(0, va_rf p0), (1, .int p1)] [] := by
  unfold f_X2_endsFlow
  refine s_aload_n hK dX2_endsFlow_0 rfl 0 rfl ?_
  refine s_iload_n hK dX2_endsFlow_1 rfl 1 rfl ?_
  refine s_rc (fun _ _ eo er => ?_)
  refine s_cI hK ho_n (cx_v (As := [.int p1]) (rest := []) hK dyX2_kind rfl q777 fcX2.1 q778 q779 q79 q780 eo er (ct_X2_kind hK.1 p0 p1 h) (Nat.le_trans (Nat.le_of_ble_eq_true rfl) hf) (Nat.le_trans (Nat.le_of_ble_eq_true rfl) hlo) rk_n (Nat.le_of_ble_eq_true rfl) dX2_endsFlow_2 rfl) (fun v2 h1 => ?_)
  refine s_istore_n (lv' := [(2, .int v2), (0, va_rf p0), (1, .int p1)]) hK dX2_endsFlow_5 rfl (Nat.le_of_ble_eq_true rfl) rfl ?_
  refine s_iload_n hK dX2_endsFlow_6 rfl 0 rfl ?_
  refine s_iconst (v := 4) hK dX2_endsFlow_7 rfl ?_
  refine s_icmp_eq (tgt := 29) hK dX2_endsFlow_8 (by decide) (fun c6 => ?_) (fun c6 => ?_)
  · refine s_iconst (v := 1) hK dX2_endsFlow_29 rfl ?_
    refine s_goto (tgt := 34) hK dX2_endsFlow_30 (by decide) ?_
    exact s_zret hK dX2_endsFlow_34
  · refine s_iload_n hK dX2_endsFlow_11 rfl 0 rfl ?_
    refine s_bipush (v := 8) hK dX2_endsFlow_12 rfl ?_
    refine s_icmp_eq (tgt := 29) hK dX2_endsFlow_14 (by decide) (fun c5 => ?_) (fun c5 => ?_)
    · refine s_iconst (v := 1) hK dX2_endsFlow_29 rfl ?_
      refine s_goto (tgt := 34) hK dX2_endsFlow_30 (by decide) ?_
      exact s_zret hK dX2_endsFlow_34
    · refine s_iload_n hK dX2_endsFlow_17 rfl 0 rfl ?_
      refine s_bipush (v := 9) hK dX2_endsFlow_18 rfl ?_
      refine s_icmp_eq (tgt := 29) hK dX2_endsFlow_20 (by decide) (fun c4 => ?_) (fun c4 => ?_)
      · refine s_iconst (v := 1) hK dX2_endsFlow_29 rfl ?_
        refine s_goto (tgt := 34) hK dX2_endsFlow_30 (by decide) ?_
        exact s_zret hK dX2_endsFlow_34
      · refine s_iload_n hK dX2_endsFlow_23 rfl 0 rfl ?_
        refine s_bipush (v := 13) hK dX2_endsFlow_24 rfl ?_
        refine s_icmp_ne (tgt := 33) hK dX2_endsFlow_26 (by decide) (fun c3 => ?_) (fun c3 => ?_)
        · refine s_iconst (v := 0) hK dX2_endsFlow_33 rfl ?_
          exact s_zret hK dX2_endsFlow_34
        · refine s_iconst (v := 1) hK dX2_endsFlow_29 rfl ?_
          refine s_goto (tgt := 34) hK dX2_endsFlow_30 (by decide) ?_
          exact s_zret hK dX2_endsFlow_34
theorem ct_X2_endsFlow {G : GC} {l : Launch} (g : GOK G l) (p0 : Option Nat) (p1 : Int32) (h : AH) : CT G l yX2_endsFlow (Cond.code yX2_endsFlow cX2_endsFlow 3 (some (.boolean))) 2 37 [va_rf p0, .int p1] (f_X2_endsFlow p0 p1 h) h :=
  CT.of g (by decide) (by simp only [ls_a, ls_i, ls_l, ls_n]; decide) (fun K _ hK hf hlo => by simp only [la_a, la_i, la_l, la_n]; exact sm_X2_endsFlow hK hf hlo p0 p1 h)
abbrev FR_X2_endsBlock : Nat := 3
abbrev LO_X2_endsBlock : Nat := 59
theorem dyX2_endsBlock : DY yX2_endsBlock 1 := ⟨⟨by decide, by decide⟩, by decide +kernel⟩
theorem sm_X2_endsBlock {G : GC} {K : SC} (hK : SOK G K RX2 cX2_endsBlock 2 (some (.boolean)) "endsBlock" []) (hf : FR_X2_endsBlock ≤ (kR K).frames) (hlo : LO_X2_endsBlock ≤ (kR K).locals) (p0 : Option Nat) (p1 : Int32) (h : AH) : Sim G K 2 (f_X2_endsBlock p0 p1 h) h 0 [(0, va_rf p0), (1, .int p1)] [] := by
  unfold f_X2_endsBlock
  refine s_aload_n hK dX2_endsBlock_0 rfl 0 rfl ?_
  refine s_iload_n hK dX2_endsBlock_1 rfl 1 rfl ?_
  refine s_rc (fun _ _ eo er => ?_)
  refine s_cI hK ho_n (cx_v (As := [.int p1]) (rest := []) hK dyX2_endsFlow rfl q1059 fcX2.1 q912 q913 q79 q914 eo er (ct_X2_endsFlow hK.1 p0 p1 h) (Nat.le_trans (Nat.le_of_ble_eq_true rfl) hf) (Nat.le_trans (Nat.le_of_ble_eq_true rfl) hlo) rk_n (Nat.le_of_ble_eq_true rfl) dX2_endsBlock_2 rfl) (fun v2 h1 => ?_)
  refine s_if_ne (tgt := 27) hK dX2_endsBlock_5 (by decide) (fun c9 => ?_) (fun c9 => ?_)
  · refine s_iconst (v := 1) hK dX2_endsBlock_27 rfl ?_
    refine s_goto (tgt := 32) hK dX2_endsBlock_28 (by decide) ?_
    exact s_zret hK dX2_endsBlock_32
  · refine s_aload_n hK dX2_endsBlock_8 rfl 0 rfl ?_
    refine s_iload_n hK dX2_endsBlock_9 rfl 1 rfl ?_
    refine s_rc (fun _ _ eo er => ?_)
    refine s_cI hK ho_n (cx_v (As := [.int p1]) (rest := []) hK dyX2_kind rfl q777 fcX2.1 q778 q779 q79 q780 eo er (ct_X2_kind hK.1 p0 p1 h1) (Nat.le_trans (Nat.le_of_ble_eq_true rfl) hf) (Nat.le_trans (Nat.le_of_ble_eq_true rfl) hlo) rk_n (Nat.le_of_ble_eq_true rfl) dX2_endsBlock_10 rfl) (fun v4 h3 => ?_)
    refine s_iconst (v := 5) hK dX2_endsBlock_13 rfl ?_
    refine s_icmp_eq (tgt := 27) hK dX2_endsBlock_14 (by decide) (fun c8 => ?_) (fun c8 => ?_)
    · refine s_iconst (v := 1) hK dX2_endsBlock_27 rfl ?_
      refine s_goto (tgt := 32) hK dX2_endsBlock_28 (by decide) ?_
      exact s_zret hK dX2_endsBlock_32
    · refine s_aload_n hK dX2_endsBlock_17 rfl 0 rfl ?_
      refine s_iload_n hK dX2_endsBlock_18 rfl 1 rfl ?_
      refine s_rc (fun _ _ eo er => ?_)
      refine s_cI hK ho_n (cx_v (As := [.int p1]) (rest := []) hK dyX2_kind rfl q777 fcX2.1 q778 q779 q79 q780 eo er (ct_X2_kind hK.1 p0 p1 h3) (Nat.le_trans (Nat.le_of_ble_eq_true rfl) hf) (Nat.le_trans (Nat.le_of_ble_eq_true rfl) hlo) rk_n (Nat.le_of_ble_eq_true rfl) dX2_endsBlock_19 rfl) (fun v6 h5 => ?_)
      refine s_bipush (v := 6) hK dX2_endsBlock_22 rfl ?_
      refine s_icmp_ne (tgt := 31) hK dX2_endsBlock_24 (by decide) (fun c7 => ?_) (fun c7 => ?_)
      · refine s_iconst (v := 0) hK dX2_endsBlock_31 rfl ?_
        exact s_zret hK dX2_endsBlock_32
      · refine s_iconst (v := 1) hK dX2_endsBlock_27 rfl ?_
        refine s_goto (tgt := 32) hK dX2_endsBlock_28 (by decide) ?_
        exact s_zret hK dX2_endsBlock_32
theorem ct_X2_endsBlock {G : GC} {l : Launch} (g : GOK G l) (p0 : Option Nat) (p1 : Int32) (h : AH) : CT G l yX2_endsBlock (Cond.code yX2_endsBlock cX2_endsBlock 2 (some (.boolean))) 3 59 [va_rf p0, .int p1] (f_X2_endsBlock p0 p1 h) h :=
  CT.of g (by decide) (by simp only [ls_a, ls_i, ls_l, ls_n]; decide) (fun K _ hK hf hlo => by simp only [la_a, la_i, la_l, la_n]; exact sm_X2_endsBlock hK hf hlo p0 p1 h)
abbrev FR_X2_changes : Nat := 2
abbrev LO_X2_changes : Nat := 37
theorem dyX2_changes : DY yX2_changes 2 := ⟨⟨by decide, by decide⟩, by decide +kernel⟩
theorem sm_X2_changes_J39 {G : GC} {K : SC} (hK : SOK G K RX2 cX2_changes 5 (some (.boolean)) "changes" []) (hf : FR_X2_changes ≤ (kR K).frames) (hlo : LO_X2_changes ≤ (kR K).locals) (x7 : Option Nat) (x8 : Int32) (x9 : Int32) (y10 : Int32) (h11 : AH) : Sim G K 5 (f_X2_changes_J39 x7 x8 x9 y10 h11) h11 39 [(0, va_rf x7), (1, .int x8), (2, .int x9)] [.int y10] := by
  unfold f_X2_changes_J39
  refine s_istore (lv' := [(4, .int y10), (0, va_rf x7), (1, .int x8), (2, .int x9)]) hK dX2_changes_39 (Nat.le_of_ble_eq_true rfl) rfl ?_
  refine s_iload hK dX2_changes_41 0 rfl ?_
  refine s_if_eq (tgt := 59) hK dX2_changes_43 (by decide) (fun c15 => ?_) (fun c15 => ?_)
  · refine s_iconst (v := 0) hK dX2_changes_59 rfl ?_
    exact s_zret hK dX2_changes_60
  · refine s_aload_n hK dX2_changes_46 rfl 1 rfl ?_
    refine s_iload_n hK dX2_changes_47 rfl 2 rfl ?_
    refine s_rc (fun _ _ eo er => ?_)
    refine s_cI hK ho_n (cx_v (As := [.int x8]) (rest := []) hK dyX2_first rfl q920 fcX2.1 q904 q905 q79 q906 eo er (ct_X2_first hK.1 x7 x8 h11) (Nat.le_trans (Nat.le_of_ble_eq_true rfl) hf) (Nat.le_trans (Nat.le_of_ble_eq_true rfl) hlo) rk_n (Nat.le_of_ble_eq_true rfl) dX2_changes_48 rfl) (fun v13 h12 => ?_)
    refine s_iload_n hK dX2_changes_51 rfl 3 rfl ?_
    refine s_icmp_ne (tgt := 59) hK dX2_changes_52 (by decide) (fun c14 => ?_) (fun c14 => ?_)
    · refine s_iconst (v := 0) hK dX2_changes_59 rfl ?_
      exact s_zret hK dX2_changes_60
    · refine s_iconst (v := 1) hK dX2_changes_55 rfl ?_
      refine s_goto (tgt := 60) hK dX2_changes_56 (by decide) ?_
      exact s_zret hK dX2_changes_60
theorem sm_X2_changes_J34 {G : GC} {K : SC} (hK : SOK G K RX2 cX2_changes 5 (some (.boolean)) "changes" []) (hf : FR_X2_changes ≤ (kR K).frames) (hlo : LO_X2_changes ≤ (kR K).locals) (x3 : Option Nat) (x4 : Int32) (x5 : Int32)  (h6 : AH) : Sim G K 5 (f_X2_changes_J34 x3 x4 x5 h6) h6 34 [(0, va_rf x3), (1, .int x4), (2, .int x5)] [] := by
  unfold f_X2_changes_J34
  refine s_iconst (v := 1) hK dX2_changes_34 rfl ?_
  refine s_goto (tgt := 39) hK dX2_changes_35 (by decide) ?_
  exact sm_X2_changes_J39 hK hf hlo x3 x4 x5 1 h6
theorem sm_X2_changes {G : GC} {K : SC} (hK : SOK G K RX2 cX2_changes 5 (some (.boolean)) "changes" []) (hf : FR_X2_changes ≤ (kR K).frames) (hlo : LO_X2_changes ≤ (kR K).locals) (p0 : Option Nat) (p1 : Int32) (p2 : Int32) (h : AH) : Sim G K 5 (f_X2_changes p0 p1 p2 h) h 0 [(0, va_rf p0), (1, .int p1), (2, .int p2)] [] := by
  unfold f_X2_changes
  refine s_aload_n hK dX2_changes_0 rfl 0 rfl ?_
  refine s_iload_n hK dX2_changes_1 rfl 1 rfl ?_
  refine s_rc (fun _ _ eo er => ?_)
  refine s_cI hK ho_n (cx_v (As := [.int p1]) (rest := []) hK dyX2_kind rfl q777 fcX2.1 q778 q779 q79 q780 eo er (ct_X2_kind hK.1 p0 p1 h) (Nat.le_trans (Nat.le_of_ble_eq_true rfl) hf) (Nat.le_trans (Nat.le_of_ble_eq_true rfl) hlo) rk_n (Nat.le_of_ble_eq_true rfl) dX2_changes_2 rfl) (fun v2 h1 => ?_)
  refine s_istore_n (lv' := [(3, .int v2), (0, va_rf p0), (1, .int p1), (2, .int p2)]) hK dX2_changes_5 rfl (Nat.le_of_ble_eq_true rfl) rfl ?_
  refine s_iload_n hK dX2_changes_6 rfl 0 rfl ?_
  refine s_iconst (v := 1) hK dX2_changes_7 rfl ?_
  refine s_icmp_eq (tgt := 34) hK dX2_changes_8 (by decide) (fun c20 => ?_) (fun c20 => ?_)
  · refine s_sub [1, 2, 3] rfl ?_
    exact sm_X2_changes_J34 hK hf hlo p0 p1 p2 h1
  · refine s_iload_n hK dX2_changes_11 rfl 0 rfl ?_
    refine s_iconst (v := 2) hK dX2_changes_12 rfl ?_
    refine s_icmp_eq (tgt := 34) hK dX2_changes_13 (by decide) (fun c19 => ?_) (fun c19 => ?_)
    · refine s_sub [1, 2, 3] rfl ?_
      exact sm_X2_changes_J34 hK hf hlo p0 p1 p2 h1
    · refine s_iload_n hK dX2_changes_16 rfl 0 rfl ?_
      refine s_bipush (v := 10) hK dX2_changes_17 rfl ?_
      refine s_icmp_eq (tgt := 34) hK dX2_changes_19 (by decide) (fun c18 => ?_) (fun c18 => ?_)
      · refine s_sub [1, 2, 3] rfl ?_
        exact sm_X2_changes_J34 hK hf hlo p0 p1 p2 h1
      · refine s_iload_n hK dX2_changes_22 rfl 0 rfl ?_
        refine s_bipush (v := 11) hK dX2_changes_23 rfl ?_
        refine s_icmp_eq (tgt := 34) hK dX2_changes_25 (by decide) (fun c17 => ?_) (fun c17 => ?_)
        · refine s_sub [1, 2, 3] rfl ?_
          exact sm_X2_changes_J34 hK hf hlo p0 p1 p2 h1
        · refine s_iload_n hK dX2_changes_28 rfl 0 rfl ?_
          refine s_bipush (v := 12) hK dX2_changes_29 rfl ?_
          refine s_icmp_ne (tgt := 38) hK dX2_changes_31 (by decide) (fun c16 => ?_) (fun c16 => ?_)
          · refine s_iconst (v := 0) hK dX2_changes_38 rfl ?_
            refine s_sub [1, 2, 3] rfl ?_
            exact sm_X2_changes_J39 hK hf hlo p0 p1 p2 0 h1
          · refine s_sub [1, 2, 3] rfl ?_
            exact sm_X2_changes_J34 hK hf hlo p0 p1 p2 h1
theorem ct_X2_changes {G : GC} {l : Launch} (g : GOK G l) (p0 : Option Nat) (p1 : Int32) (p2 : Int32) (h : AH) : CT G l yX2_changes (Cond.code yX2_changes cX2_changes 5 (some (.boolean))) 2 37 [va_rf p0, .int p1, .int p2] (f_X2_changes p0 p1 p2 h) h :=
  CT.of g (by decide) (by simp only [ls_a, ls_i, ls_l, ls_n]; decide) (fun K _ hK hf hlo => by simp only [la_a, la_i, la_l, la_n]; exact sm_X2_changes hK hf hlo p0 p1 p2 h)
