/-! SIM, part 10: the classes, and small rows for the printed walks (printed by gencore10.py) -/
set_option maxRecDepth 100000
theorem fcX1 : FC 0 RX1 TX1 7 tyX1 := ⟨rfl, in_X1, tyX1_ok, nmX1⟩
def fsX1 : List Value := [.null, .null, .null, .null, .null, .int 0, .int 0]
theorem fsX1_ok : ∀ j, j < 7 → defaultValue (tyX1 j) = vp_V fsX1 j := by decide +kernel
theorem fcX2 : FC 1 RX2 TX2 3 tyX2 := ⟨rfl, in_X2, tyX2_ok, nmX2⟩
def fsX2 : List Value := [.null, .null, .int 0]
theorem fsX2_ok : ∀ j, j < 3 → defaultValue (tyX2 j) = vp_V fsX2 j := by decide +kernel
theorem fcX3 : FC 2 RX3 TX3 50 tyX3 := ⟨rfl, in_X3, tyX3_ok, nmX3⟩
def fsX3 : List Value := [.int 0, .null, .null, .null, .null, .int 0, .int 0, .int 0, .int 0, .int 0, .int 0, .int 0, .null, .int 0, .int 0, .int 0, .null, .null, .null, .null, .null, .null, .null, .int 0, .int 0, .int 0, .int 0, .int 0, .int 0, .int 0, .null, .null, .null, .null, .null, .null, .null, .null, .null, .int 0, .null, .null, .null, .int 0, .int 0, .null, .null, .int 0, .int 0, .int 0]
theorem fsX3_ok : ∀ j, j < 50 → defaultValue (tyX3 j) = vp_V fsX3 j := by decide +kernel
theorem fcX4 : FC 3 RX4 TX4 7 tyX4 := ⟨rfl, in_X4, tyX4_ok, nmX4⟩
def fsX4 : List Value := [.null, .null, .null, .null, .null, .int 0, .int 0]
theorem fsX4_ok : ∀ j, j < 7 → defaultValue (tyX4 j) = vp_V fsX4 j := by decide +kernel
theorem fcX5 : FC 4 RX5 TX5 9 tyX5 := ⟨rfl, in_X5, tyX5_ok, nmX5⟩
def fsX5 : List Value := [.null, .null, .null, .null, .null, .null, .null, .null, .null]
theorem fsX5_ok : ∀ j, j < 9 → defaultValue (tyX5 j) = vp_V fsX5 j := by decide +kernel
theorem fcX6 : FC 5 RX6 TX6 1 tyX6 := ⟨rfl, in_X6, tyX6_ok, nmX6⟩
def fsX6 : List Value := [.null]
theorem fsX6_ok : ∀ j, j < 1 → defaultValue (tyX6 j) = vp_V fsX6 j := by decide +kernel
theorem fcX7 : FC 6 RX7 TX7 5 tyX7 := ⟨rfl, in_X7, tyX7_ok, nmX7⟩
def fsX7 : List Value := [.int 0, .int 0, .int 0, .int 0, .null]
theorem fsX7_ok : ∀ j, j < 5 → defaultValue (tyX7 j) = vp_V fsX7 j := by decide +kernel
theorem fcX8 : FC 7 RX8 TX8 4 tyX8 := ⟨rfl, in_X8, tyX8_ok, nmX8⟩
def fsX8 : List Value := [.int 0, .int 0, .int 0, .int 0]
theorem fsX8_ok : ∀ j, j < 4 → defaultValue (tyX8 j) = vp_V fsX8 j := by decide +kernel
theorem fcX9 : FC 8 RX9 TX9 3 tyX9 := ⟨rfl, in_X9, tyX9_ok, nmX9⟩
def fsX9 : List Value := [.int 0, .int 0, .int 0]
theorem fsX9_ok : ∀ j, j < 3 → defaultValue (tyX9 j) = vp_V fsX9 j := by decide +kernel
theorem fcX10 : FC 9 RX10 TX10 6 tyX10 := ⟨rfl, in_X10, tyX10_ok, nmX10⟩
def fsX10 : List Value := [.null, .null, .null, .null, .int 0, .int 0]
theorem fsX10_ok : ∀ j, j < 6 → defaultValue (tyX10 j) = vp_V fsX10 j := by decide +kernel
theorem fcJ7 : FC 10 RJ7 TJ7 3 tyJ7 := ⟨rfl, in_J7, tyJ7_ok, nmJ7⟩
def fsJ7 : List Value := [.int 0, .null, .int 0]
theorem fsJ7_ok : ∀ j, j < 3 → defaultValue (tyJ7 j) = vp_V fsJ7 j := by decide +kernel
theorem fcJ9 : FC 11 RJ9 TJ9 1 tyJ9 := ⟨rfl, in_J9, tyJ9_ok, nmJ9⟩
def fsJ9 : List Value := [.int 0]
theorem fsJ9_ok : ∀ j, j < 1 → defaultValue (tyJ9 j) = vp_V fsJ9 j := by decide +kernel
theorem fcJ19 : FC 12 RJ19 TJ19 3 tyJ19 := ⟨rfl, in_J19, tyJ19_ok, nmJ19⟩
def fsJ19 : List Value := [.null, .int 0, .int 0]
theorem fsJ19_ok : ∀ j, j < 3 → defaultValue (tyJ19 j) = vp_V fsJ19 j := by decide +kernel
theorem fcJ20 : FC 13 RJ20 TJ20 3 tyJ20 := ⟨rfl, in_J20, tyJ20_ok, nmJ20⟩
def fsJ20 : List Value := [.null, .int 0, .int 0]
theorem fsJ20_ok : ∀ j, j < 3 → defaultValue (tyJ20 j) = vp_V fsJ20 j := by decide +kernel
def FUEL : Nat := 100000
theorem nr_o {n : String} (o : Option Nat) : narrow (.object n) (va_rf o) = va_rf o := by cases o <;> rfl
theorem nr_r {t : FieldType} (o : Option Nat) : narrow (.array t) (va_rf o) = va_rf o := by cases o <;> rfl
theorem ft_o {n : String} (o : Option Nat) : fits (.object n) (va_rf o) = true := by cases o <;> rfl
theorem ft_r {t : FieldType} (o : Option Nat) : fits (.array t) (va_rf o) = true := by cases o <;> rfl
theorem la_a {i : Nat} {o : Option Nat} {vs : List Value} : lv_args i (va_rf o :: vs) = (i, va_rf o) :: lv_args (i + 1) vs := by cases o <;> rfl
theorem la_i {i : Nat} {x : Int32} {vs : List Value} : lv_args i (.int x :: vs) = (i, .int x) :: lv_args (i + 1) vs := rfl
theorem la_l {i : Nat} {x : Int64} {vs : List Value} : lv_args i (.long x :: vs) = (i, .long x) :: lv_args (i + 2) vs := rfl
theorem la_n {i : Nat} : lv_args i [] = [] := rfl
theorem ls_a {o : Option Nat} {vs : List Value} : (lg_sl (va_rf o :: vs)).length = (lg_sl vs).length + 1 := by cases o <;> simp [lg_sl, va_rf, Value.category] <;> omega
theorem ls_i {x : Int32} {vs : List Value} : (lg_sl (.int x :: vs)).length = (lg_sl vs).length + 1 := by simp [lg_sl, Value.category]
theorem ls_l {x : Int64} {vs : List Value} : (lg_sl (.long x :: vs)).length = (lg_sl vs).length + 2 := by simp [lg_sl, Value.category]
theorem ls_n : (lg_sl []).length = 0 := rfl
theorem flA {i j : Nat} {v : Value} {o : Option Nat} {pre suf lv' : List (Nat × Value)} (hji : (j == i) = false) (hl : (i, v) :: (pre.filter (fun q => !(q.1 == i) && !(q.1 + 1 == i && q.2.category == 2)) ++ (j, va_rf o) :: suf.filter (fun q => !(q.1 == i) && !(q.1 + 1 == i && q.2.category == 2))) = lv') :
    (i, v) :: (pre ++ (j, va_rf o) :: suf).filter (fun q => !(q.1 == i) && !(q.1 + 1 == i && q.2.category == 2)) = lv' := by
  rw [← hl, List.filter_append, List.filter_cons_of_pos (by simp [va_cat, hji])]
theorem flA2 {i j : Nat} {v : Value} {o : Option Nat} {pre suf lv' : List (Nat × Value)} (hji : (j == i) = false) (hji2 : (j == i + 1) = false) (hl : (i, v) :: (pre.filter (fun q => !(q.1 == i) && (!(q.1 == i + 1) && !(q.1 + 1 == i && q.2.category == 2))) ++ (j, va_rf o) :: suf.filter (fun q => !(q.1 == i) && (!(q.1 == i + 1) && !(q.1 + 1 == i && q.2.category == 2)))) = lv') :
    (i, v) :: (pre ++ (j, va_rf o) :: suf).filter (fun q => !(q.1 == i) && (!(q.1 == i + 1) && !(q.1 + 1 == i && q.2.category == 2))) = lv' := by
  rw [← hl, List.filter_append, List.filter_cons_of_pos (by simp [va_cat, hji, hji2])]
section
variable {G : GC} {K : SC} {own nm : String} {cc : ByteArray} {nL : Nat} {ret : Option FieldType} {hh : List ExceptionTableEntry} {X : RS} {h : AH} {pc : Nat} {lv : List (Nat × Value)} {st : List Value}
theorem s_newI (hK : SOK G K own cc nL ret nm hh) {n : Int32} (d : decode cc pc = .ok (.newarray .int, 2)) {X : Option Nat → AH → RS} (kk : ∀ a h1, Sim G K nL (X a h1) h1 (pc + 2) lv (va_rf a :: st)) : Sim G K nL (xnA h 0 n X) h pc lv (.int n :: st) :=
  s_newarr hK 0 (by decide) (ty := .int) rfl rfl (fun z => z) (fun _ _ => rfl) (by decide) q149 d kk
theorem s_newZ (hK : SOK G K own cc nL ret nm hh) {n : Int32} (d : decode cc pc = .ok (.newarray .boolean, 2)) {X : Option Nat → AH → RS} (kk : ∀ a h1, Sim G K nL (X a h1) h1 (pc + 2) lv (va_rf a :: st)) : Sim G K nL (xnA h 1 n X) h pc lv (.int n :: st) :=
  s_newarr hK 1 (by decide) (ty := .boolean) rfl rfl (fun z => z) (fun _ _ => rfl) (by decide) q1835 d kk
theorem s_newC (hK : SOK G K own cc nL ret nm hh) {n : Int32} (d : decode cc pc = .ok (.newarray .char, 2)) {X : Option Nat → AH → RS} (kk : ∀ a h1, Sim G K nL (X a h1) h1 (pc + 2) lv (va_rf a :: st)) : Sim G K nL (xnA h 2 n X) h pc lv (.int n :: st) :=
  s_newarr hK 2 (by decide) (ty := .char) rfl rfl (fun z => z) (fun _ _ => rfl) (by decide) q172 d kk
theorem s_newJ (hK : SOK G K own cc nL ret nm hh) {n : Int32} (d : decode cc pc = .ok (.newarray .long, 2)) {X : Option Nat → AH → RS} (kk : ∀ a h1, Sim G K nL (X a h1) h1 (pc + 2) lv (va_rf a :: st)) : Sim G K nL (xnA h 3 n X) h pc lv (.int n :: st) :=
  s_newarr hK 3 (by decide) (ty := .long) rfl rfl (fun z => z) (fun _ _ => rfl) (by decide) q286 d kk
theorem s_newD (hK : SOK G K own cc nL ret nm hh) {n : Int32} (d : decode cc pc = .ok (.newarray .double, 2)) {X : Option Nat → AH → RS} (kk : ∀ a h1, Sim G K nL (X a h1) h1 (pc + 2) lv (va_rf a :: st)) : Sim G K nL (xnA h 4 n X) h pc lv (.int n :: st) :=
  s_newarr hK 4 (by decide) (ty := .double) rfl rfl (fun z => z) (fun _ _ => rfl) (by decide) q2177 d kk
theorem rk_d {l : List Value} {n : Nat} {x : UInt64} (h : RK l n) : RK (.double x :: l) (2 + n) := by unfold RK at *; rw [List.map_cons, List.sum_cons, h]; rfl
theorem rk_f {l : List Value} {n : Nat} {x : UInt32} (h : RK l n) : RK (.float x :: l) (1 + n) := by unfold RK at *; rw [List.map_cons, List.sum_cons, h]; rfl
def mxI (x y : Int32) : Int32 := if x < y then y else x
def mnI (x y : Int32) : Int32 := if y < x then y else x
theorem s_mmax (hK : SOK G K own cc nL ret nm hh) {x y : Int32} {index k : Nat} (w1 : Cond.methodLink own index Lib.Math.max.name ∈ lw_all) (w2 : Cond.static Lib.Math.max.name ∈ lw_all) (w3 : Cond.initialized "java/lang/Math" ∈ lw_all) (w4 : Cond.code Lib.Math.max.name Lib.Math.max.code 2 (some .int) ∈ lw_all) (hfr : 1 ≤ (kR K).frames) (hk : RK st k) (hlo : k + 13 ≤ (kR K).locals) (d : decode cc pc = .ok (.invokestatic index, 3))
    (kk : Sim G K nL X h (pc + 3) lv (.int (mxI x y) :: st)) : Sim G K nL X h pc lv (.int y :: .int x :: st) :=
  fun out h' hX H locs cells slots ls hH hL hc hs hv => va_mmax hK.2.2.1 hK.2.2.2.1 (by rw [hK.2.2.2.2.1]; exact hv.1.symm) hK.2.2.2.2.2.1 (hK.1.w hK.2.1 w1 _) (hK.1.w hK.2.1 w2 _) (hK.1.w hK.2.1 w3 _) (hK.1.w hK.2.1 w4 _) hfr (by rw [show (st.map fun v => v.category).sum = k from hk]; exact hlo) (by show cells ≤ (kR K).cells; omega) (by show slots ≤ (kR K).slots; omega) d (kk out h' hX H locs cells slots ls hH hL hc hs hv)
theorem s_mmin (hK : SOK G K own cc nL ret nm hh) {x y : Int32} {index k : Nat} (w1 : Cond.methodLink own index Lib.Math.min.name ∈ lw_all) (w2 : Cond.static Lib.Math.min.name ∈ lw_all) (w3 : Cond.initialized "java/lang/Math" ∈ lw_all) (w4 : Cond.code Lib.Math.min.name Lib.Math.min.code 2 (some .int) ∈ lw_all) (hfr : 1 ≤ (kR K).frames) (hk : RK st k) (hlo : k + 13 ≤ (kR K).locals) (d : decode cc pc = .ok (.invokestatic index, 3))
    (kk : Sim G K nL X h (pc + 3) lv (.int (mnI x y) :: st)) : Sim G K nL X h pc lv (.int y :: .int x :: st) :=
  fun out h' hX H locs cells slots ls hH hL hc hs hv => va_mmin hK.2.2.1 hK.2.2.2.1 (by rw [hK.2.2.2.2.1]; exact hv.1.symm) hK.2.2.2.2.2.1 (hK.1.w hK.2.1 w1 _) (hK.1.w hK.2.1 w2 _) (hK.1.w hK.2.1 w3 _) (hK.1.w hK.2.1 w4 _) hfr (by rw [show (st.map fun v => v.category).sum = k from hk]; exact hlo) (by show cells ≤ (kR K).cells; omega) (by show slots ≤ (kR K).slots; omega) d (kk out h' hX H locs cells slots ls hH hL hc hs hv)
theorem ck1 {nmC : String} {c : Nat} {r : vw_C} (hr : CL[c]? = some r) (hq : r.1 = nmC ∨ Cond.castable r.1 nmC ∈ lw_tbl) : ∀ c' ∈ [c], ∃ r : vw_C, CL[c']? = some r ∧ (r.1 = nmC ∨ Cond.castable r.1 nmC ∈ lw_tbl) := fun c' h => by
  rw [List.mem_singleton.mp h]
  exact ⟨r, hr, hq⟩
theorem ckParts : ∀ c' ∈ [6, 7, 8], ∃ r : vw_C, CL[c']? = some r ∧ (r.1 = "CodeRecovery$Parts" ∨ Cond.castable r.1 "CodeRecovery$Parts" ∈ lw_tbl) :=
  List.forall_mem_cons.mpr ⟨⟨_, rfl, Or.inr q1420⟩, List.forall_mem_cons.mpr ⟨⟨_, rfl, Or.inr q1414⟩, List.forall_mem_cons.mpr ⟨⟨_, rfl, Or.inr q1408⟩, fun _ hz => nomatch hz⟩⟩⟩
/-- one of two, whichever goes on -/
def xoo (A B : RS) : RS := match A with
  | some r => some r
  | none => B
theorem s_oo {A B : RS} (ka : Sim G K nL A h pc lv st) (kb : Sim G K nL B h pc lv st) : Sim G K nL (xoo A B) h pc lv st := by
  cases A with
  | none => exact kb
  | some r => exact ka
theorem s_ckI (hK : SOK G K own cc nL ret nm hh) {o : Option Nat} {index : Nat} (w : Cond.classLink own index "[I" ∈ lw_all) (d : decode cc pc = .ok (.checkcast index, 3))
    (kk : Sim G K nL X h (pc + 3) lv (va_rf o :: st)) : Sim G K nL (xckA h o 0 X) h pc lv (va_rf o :: st) := by
  intro out h' hX H locs cells slots ls hH hL hc hs' hv
  unfold xckA at hX
  split at hX
  · exact lv_castN hK.2.2.1 hK.2.2.2.1 d (kk out h' hX H locs cells slots ls hH hL hc hs' hv)
  · split at hX
    · rename_i t x e
      split at hX
      · rename_i ec
        subst ec
        exact va_castA hK.2.2.1 hK.2.2.2.1 hK.2.2.2.2.2.1 (hK.1.w hK.2.1 w _) (hH.one hK.1 e (by decide)) 0 rfl ((hK.1.K hK.2.1).2 0 (gT G 0, .int) rfl).2 d (kk out h' hX H locs cells slots ls hH hL hc hs' hv)
      · cases hX
    · cases hX
/-- invokevirtual of Object.equals on an Integer -/
theorem cx_u {r : RS} {rest As : List Value} (hK : SOK G K own cc nL ret nm hh) {x y : MethodName} {n fr lo maxL k index : Nat} {bytes : ByteArray} {ret' : Option FieldType} (D : DY x n) (hn : As.length = n) (w1 : Cond.methodLink own index x ∈ lw_all) (w6 : Cond.sameMethod x.cls x.cls x.name x.desc ∈ lw_all) (u1 : Cond.declares x ∈ lw_tbl) {ci : Nat} {rc : vw_C} (hrc : CL[ci]? = some rc) (w5 : Cond.selects rc.1 x y ∈ lw_all) (w2 : Cond.instanceMethod y ∈ lw_all) (w3 : Cond.initialized y.cls ∈ lw_all) (w4 : Cond.code y bytes maxL ret' ∈ lw_all)
    {o : Option Nat} {a : Nat} {fs : List Value} (eo : o = some a) (er : rd h a = some (.inr (ci, fs))) (M : CT G K.2.1 y (Cond.code y bytes maxL ret') fr lo (va_rf o :: As) r h) (hfr : fr + 1 ≤ (kR K).frames) (hlo : 8 + (maxL + 11) + lo ≤ (kR K).locals) (hk : RK rest k) (hk8 : k ≤ 8) (d : decode cc pc = .ok (.invokevirtual index, 3)) {st0 : List Value} (hst : st0 = As.reverse ++ va_rf o :: rest) : CX G K nL r h pc 3 lv st0 rest := by
  subst hst
  subst eo
  intro out h1 hr H locs cells slots ls hH hL hc hs hv T hT X
  have hts : ∀ w ∈ lw_all, w.before K.2.2.2.2.2.2.1 (kS K) = true := fun w hw => hK.1.w hK.2.1 hw _
  have hB := x_back (p := K.1) (e := K.2.2.1) (below := kB K) (sargs := K.2.2.2.2.2.2.1) (len := 3) M hr hfr hlo (CW.of hK.1 hK.2.1 w4) (hK.1.ini hK.2.1 w3)
  obtain ⟨cellB, c1, c2, c3⟩ := k_recv hK hrc er hH
  exact cx_end hL hc hs (vx_callVU X hK.2.2.1 hK.2.2.2.2.2.1 (hts _ w1) (hts _ w6) (va_Decl.abs (va_Nw.warmD hK.2.1 (va_Nw.of rfl (hK.1.1 _ u1)))) D.1 (hts _ w5) (hts _ w2) (hts _ w4) hB (by rw [hT]; exact c1) c2 c3 (g := F0 K.2.2.2.2.2.1 pc ls _) rfl (by rw [hK.2.2.2.2.1]; exact hv.1) (argsL := As) (rest := rest) (D.len hn) rfl (rk_le hk hk8) (by rw [hK.2.2.2.1]; exact d) (k_pre hK.2.1 hH hc hs hT (va_rf (some a) :: As)))
theorem GOK.nc {l : Launch} (g : GOK G l) {C T : String} (hw : Cond.not (.castable C T) ∈ flatC (Jvm.Cond.and given_1 narrow_1)) : va_Nc C T (gZ G) := va_Nc.of (flat_of_before _ g.2.2.2.2.2.2.2.1 _ hw)
end
