/-! SIM, part 7: the kinds of calls, and what comes behind a call (printed by gencore7.py) -/
set_option maxRecDepth 100000
/-- the receiver is an object of this number -/
def xrc (h : AH) (o : Option Nat) (ci : Nat) (X : RS) : RS := match o with
  | none => none
  | some a => match rd h a with
    | some (.inr (c, _)) => if c = ci then X else none
    | _ => none
/-- a constructor's receiver: not null -/
def xnn (o : Option Nat) (X : RS) : RS := match o with
  | none => none
  | some _ => X
section
variable {G : GC} {K : SC} {own nm : String} {cc : ByteArray} {nL : Nat} {ret : Option FieldType} {hh : List ExceptionTableEntry} {r : RS} {h : AH} {pc : Nat} {lv : List (Nat × Value)} {rest As : List Value}
theorem s_rc {X : RS} {o : Option Nat} {ci : Nat} {st : List Value} (kk : ∀ (a : Nat) (fs : List Value), o = some a → rd h a = some (.inr (ci, fs)) → Sim G K nL X h pc lv st) : Sim G K nL (xrc h o ci X) h pc lv st := by
  unfold xrc
  split
  · exact s_none
  · split
    · rename_i c fs e
      refine s_ite (fun ec => ?_) (fun _ => s_none)
      subst ec
      exact kk _ fs rfl e
    · exact s_none
theorem s_nn {X : RS} {o : Option Nat} {st : List Value} (kk : ∀ (a : Nat), o = some a → Sim G K nL X h pc lv st) : Sim G K nL (xnn o X) h pc lv st := by
  unfold xnn
  split
  · exact s_none
  · exact kk _ rfl
theorem cx_s (hK : SOK G K own cc nL ret nm hh) {y : MethodName} {n fr lo maxL k index : Nat} {bytes : ByteArray} {ret' : Option FieldType} (D : DY y n) (hn : As.length = n) (w1 : Cond.methodLink own index y ∈ lw_all) (w2 : Cond.static y ∈ lw_all) (w3 : Cond.initialized y.cls ∈ lw_all) (w4 : Cond.code y bytes maxL ret' ∈ lw_all)
    (M : CT G K.2.1 y (Cond.code y bytes maxL ret') fr lo As r h) (hfr : fr + 1 ≤ (kR K).frames) (hlo : 8 + (maxL + 11) + lo ≤ (kR K).locals) (hk : RK rest k) (hk8 : k ≤ 8) (d : decode cc pc = .ok (.invokestatic index, 3)) {st0 : List Value} (hst : st0 = As.reverse ++ rest) : CX G K nL r h pc 3 lv st0 rest := by
  subst hst
  intro out h1 hr H locs cells slots ls hH hL hc hs hv T hT X
  have hts : ∀ w ∈ lw_all, w.before K.2.2.2.2.2.2.1 (kS K) = true := fun w hw => hK.1.w hK.2.1 hw _
  have hB := x_back (p := K.1) (e := K.2.2.1) (below := kB K) (sargs := K.2.2.2.2.2.2.1) (len := 3) M hr hfr hlo (CW.of hK.1 hK.2.1 w4) (hK.1.ini hK.2.1 w3)
  exact cx_end hL hc hs (vx_callS X hK.2.2.1 hK.2.2.2.2.2.1 (hts _ w1) (hts _ w2) (hts _ w3) (hts _ w4) D.1 hB (g := F0 K.2.2.2.2.2.1 pc ls _) rfl (by rw [hK.2.2.2.2.1]; exact hv.1) (argsL := As) (rest := rest) (D.len hn) rfl (rk_le hk hk8) (by rw [hK.2.2.2.1]; exact d) (k_pre hK.2.1 hH hc hs hT As))
theorem cx_v (hK : SOK G K own cc nL ret nm hh) {y : MethodName} {n fr lo maxL k index : Nat} {bytes : ByteArray} {ret' : Option FieldType} (D : DY y n) (hn : As.length = n) (w1 : Cond.methodLink own index y ∈ lw_all) {ci : Nat} {rc : vw_C} (hrc : CL[ci]? = some rc) (w2 : Cond.instanceMethod y ∈ lw_all) (w5 : Cond.selects rc.1 y y ∈ lw_all) (w3 : Cond.initialized y.cls ∈ lw_all) (w4 : Cond.code y bytes maxL ret' ∈ lw_all)
    {o : Option Nat} {a : Nat} {fs : List Value} (eo : o = some a) (er : rd h a = some (.inr (ci, fs))) (M : CT G K.2.1 y (Cond.code y bytes maxL ret') fr lo (va_rf o :: As) r h) (hfr : fr + 1 ≤ (kR K).frames) (hlo : 8 + (maxL + 11) + lo ≤ (kR K).locals) (hk : RK rest k) (hk8 : k ≤ 8) (d : decode cc pc = .ok (.invokevirtual index, 3)) {st0 : List Value} (hst : st0 = As.reverse ++ va_rf o :: rest) : CX G K nL r h pc 3 lv st0 rest := by
  subst hst
  subst eo
  intro out h1 hr H locs cells slots ls hH hL hc hs hv T hT X
  have hts : ∀ w ∈ lw_all, w.before K.2.2.2.2.2.2.1 (kS K) = true := fun w hw => hK.1.w hK.2.1 hw _
  have hB := x_back (p := K.1) (e := K.2.2.1) (below := kB K) (sargs := K.2.2.2.2.2.2.1) (len := 3) M hr hfr hlo (CW.of hK.1 hK.2.1 w4) (hK.1.ini hK.2.1 w3)
  obtain ⟨cellB, c1, c2, c3⟩ := k_recv hK hrc er hH
  exact cx_end hL hc hs (vx_callV X hK.2.2.1 hK.2.2.2.2.2.1 (hts _ w1) (hts _ w2) (hts _ w5) (hts _ w4) D.1 hB (by rw [hT]; exact c1) c2 c3 (g := F0 K.2.2.2.2.2.1 pc ls _) rfl (by rw [hK.2.2.2.2.1]; exact hv.1) (argsL := As) (rest := rest) (D.len hn) rfl (rk_le hk hk8) (by rw [hK.2.2.2.1]; exact d) (k_pre hK.2.1 hH hc hs hT (va_rf (some a) :: As)))
theorem cx_i (hK : SOK G K own cc nL ret nm hh) {y : MethodName} {n fr lo maxL k index : Nat} {bytes : ByteArray} (D : DY y n) (hn : As.length = n) (w1 : Cond.methodLink own index y ∈ lw_all) (hy1 : y.name = "<init>") (w2 : Cond.instanceMethod y ∈ lw_all) (w3 : Cond.initialized y.cls ∈ lw_all) (w4 : Cond.code y bytes maxL none ∈ lw_all)
    {o : Option Nat} {a : Nat} (eo : o = some a) (M : CT G K.2.1 y (Cond.code y bytes maxL none) fr lo (va_rf o :: As) r h) (hfr : fr + 1 ≤ (kR K).frames) (hlo : 8 + (maxL + 11) + lo ≤ (kR K).locals) (hk : RK rest k) (hk8 : k ≤ 8) (d : decode cc pc = .ok (.invokespecial index, 3)) {st0 : List Value} (hst : st0 = As.reverse ++ va_rf o :: rest) : CX G K nL r h pc 3 lv st0 rest := by
  subst hst
  subst eo
  intro out h1 hr H locs cells slots ls hH hL hc hs hv T hT X
  have hts : ∀ w ∈ lw_all, w.before K.2.2.2.2.2.2.1 (kS K) = true := fun w hw => hK.1.w hK.2.1 hw _
  have hB := x_back (p := K.1) (e := K.2.2.1) (below := kB K) (sargs := K.2.2.2.2.2.2.1) (len := 3) M hr hfr hlo (CW.of hK.1 hK.2.1 w4) (hK.1.ini hK.2.1 w3)
  exact cx_end hL hc hs (vx_callI X hK.2.2.1 hK.2.2.2.2.2.1 hy1 (hts _ w1) (hts _ w2) (hts _ w4) D.1 hB (g := F0 K.2.2.2.2.2.1 pc ls _) rfl (by rw [hK.2.2.2.2.1]; exact hv.1) (a := a) (argsL := As) (rest := rest) (D.len hn) rfl (rk_le hk hk8) (by rw [hK.2.2.2.1]; exact d) (k_pre hK.2.1 hH hc hs hT (va_rf (some a) :: As)))
theorem cx_sN (hK : SOK G K own cc nL ret nm hh) {y : MethodName} {n fr lo maxL k index : Nat} {bytes : ByteArray} {ret' : Option FieldType} (D : DY y n) (hn : As.length = n) {host : String} (w1 : Cond.methodLinkNest own index y host ∈ lw_tbl) (w2 : Cond.static y ∈ lw_all) (w3 : Cond.initialized y.cls ∈ lw_all) (w4 : Cond.code y bytes maxL ret' ∈ lw_all)
    (M : CT G K.2.1 y (Cond.code y bytes maxL ret') fr lo As r h) (hfr : fr + 1 ≤ (kR K).frames) (hlo : 8 + (maxL + 11) + lo ≤ (kR K).locals) (hk : RK rest k) (hk8 : k ≤ 8) (d : decode cc pc = .ok (.invokestatic index, 3)) {st0 : List Value} (hst : st0 = As.reverse ++ rest) : CX G K nL r h pc 3 lv st0 rest := by
  subst hst
  intro out h1 hr H locs cells slots ls hH hL hc hs hv T hT X
  have hts : ∀ w ∈ lw_all, w.before K.2.2.2.2.2.2.1 (kS K) = true := fun w hw => hK.1.w hK.2.1 hw _
  have hB := x_back (p := K.1) (e := K.2.2.1) (below := kB K) (sargs := K.2.2.2.2.2.2.1) (len := 3) M hr hfr hlo (CW.of hK.1 hK.2.1 w4) (hK.1.ini hK.2.1 w3)
  exact cx_end hL hc hs (vx_callSN X hK.2.2.1 hK.2.2.2.2.2.1 (va_Nw.use rfl (va_Nw.warmM hK.2.1 (va_Nw.of rfl (hK.1.1 _ w1)))) (hts _ w2) (hts _ w3) (hts _ w4) D.1 hB (g := F0 K.2.2.2.2.2.1 pc ls _) rfl (by rw [hK.2.2.2.2.1]; exact hv.1) (argsL := As) (rest := rest) (D.len hn) rfl (rk_le hk hk8) (by rw [hK.2.2.2.1]; exact d) (k_pre hK.2.1 hH hc hs hT As))
theorem cx_vN (hK : SOK G K own cc nL ret nm hh) {y : MethodName} {n fr lo maxL k index : Nat} {bytes : ByteArray} {ret' : Option FieldType} (D : DY y n) (hn : As.length = n) {host : String} (w1 : Cond.methodLinkNest own index y host ∈ lw_tbl) {ci : Nat} {rc : vw_C} (hrc : CL[ci]? = some rc) (w2 : Cond.instanceMethod y ∈ lw_all) (w5 : Cond.selects rc.1 y y ∈ lw_all) (w3 : Cond.initialized y.cls ∈ lw_all) (w4 : Cond.code y bytes maxL ret' ∈ lw_all)
    {o : Option Nat} {a : Nat} {fs : List Value} (eo : o = some a) (er : rd h a = some (.inr (ci, fs))) (M : CT G K.2.1 y (Cond.code y bytes maxL ret') fr lo (va_rf o :: As) r h) (hfr : fr + 1 ≤ (kR K).frames) (hlo : 8 + (maxL + 11) + lo ≤ (kR K).locals) (hk : RK rest k) (hk8 : k ≤ 8) (d : decode cc pc = .ok (.invokevirtual index, 3)) {st0 : List Value} (hst : st0 = As.reverse ++ va_rf o :: rest) : CX G K nL r h pc 3 lv st0 rest := by
  subst hst
  subst eo
  intro out h1 hr H locs cells slots ls hH hL hc hs hv T hT X
  have hts : ∀ w ∈ lw_all, w.before K.2.2.2.2.2.2.1 (kS K) = true := fun w hw => hK.1.w hK.2.1 hw _
  have hB := x_back (p := K.1) (e := K.2.2.1) (below := kB K) (sargs := K.2.2.2.2.2.2.1) (len := 3) M hr hfr hlo (CW.of hK.1 hK.2.1 w4) (hK.1.ini hK.2.1 w3)
  obtain ⟨cellB, c1, c2, c3⟩ := k_recv hK hrc er hH
  exact cx_end hL hc hs (vx_callVN X hK.2.2.1 hK.2.2.2.2.2.1 (va_Nw.use rfl (va_Nw.warmM hK.2.1 (va_Nw.of rfl (hK.1.1 _ w1)))) (hts _ w2) (hts _ w5) (hts _ w4) D.1 hB (by rw [hT]; exact c1) c2 c3 (g := F0 K.2.2.2.2.2.1 pc ls _) rfl (by rw [hK.2.2.2.2.1]; exact hv.1) (argsL := As) (rest := rest) (D.len hn) rfl (rk_le hk hk8) (by rw [hK.2.2.2.1]; exact d) (k_pre hK.2.1 hH hc hs hT (va_rf (some a) :: As)))
theorem cx_iN (hK : SOK G K own cc nL ret nm hh) {y : MethodName} {n fr lo maxL k index : Nat} {bytes : ByteArray} (D : DY y n) (hn : As.length = n) {host : String} (w1 : Cond.methodLinkNest own index y host ∈ lw_tbl) (hy1 : y.name = "<init>") (w2 : Cond.instanceMethod y ∈ lw_all) (w3 : Cond.initialized y.cls ∈ lw_all) (w4 : Cond.code y bytes maxL none ∈ lw_all)
    {o : Option Nat} {a : Nat} (eo : o = some a) (M : CT G K.2.1 y (Cond.code y bytes maxL none) fr lo (va_rf o :: As) r h) (hfr : fr + 1 ≤ (kR K).frames) (hlo : 8 + (maxL + 11) + lo ≤ (kR K).locals) (hk : RK rest k) (hk8 : k ≤ 8) (d : decode cc pc = .ok (.invokespecial index, 3)) {st0 : List Value} (hst : st0 = As.reverse ++ va_rf o :: rest) : CX G K nL r h pc 3 lv st0 rest := by
  subst hst
  subst eo
  intro out h1 hr H locs cells slots ls hH hL hc hs hv T hT X
  have hts : ∀ w ∈ lw_all, w.before K.2.2.2.2.2.2.1 (kS K) = true := fun w hw => hK.1.w hK.2.1 hw _
  have hB := x_back (p := K.1) (e := K.2.2.1) (below := kB K) (sargs := K.2.2.2.2.2.2.1) (len := 3) M hr hfr hlo (CW.of hK.1 hK.2.1 w4) (hK.1.ini hK.2.1 w3)
  exact cx_end hL hc hs (vx_callIN X hK.2.2.1 hK.2.2.2.2.2.1 hy1 (va_Nw.use rfl (va_Nw.warmM hK.2.1 (va_Nw.of rfl (hK.1.1 _ w1)))) (hts _ w2) (hts _ w4) D.1 hB (g := F0 K.2.2.2.2.2.1 pc ls _) rfl (by rw [hK.2.2.2.2.1]; exact hv.1) (a := a) (argsL := As) (rest := rest) (D.len hn) rfl (rk_le hk hk8) (by rw [hK.2.2.2.1]; exact d) (k_pre hK.2.1 hH hc hs hT (va_rf (some a) :: As)))
theorem cx_sH (hK : SOK G K own cc nL ret nm hh) {y : MethodName} {n fr lo maxL k index : Nat} {bytes : ByteArray} {ret' : Option FieldType} {hx : List (Nat × Nat × Nat × Nat)} (D : DY y n) (hn : As.length = n) (w1 : Cond.methodLink own index y ∈ lw_all) (w2 : Cond.static y ∈ lw_all) (w3 : Cond.initialized y.cls ∈ lw_all) (w4 : Cond.codeWith y bytes maxL ret' hx ∈ lw_all)
    (M : CT G K.2.1 y (Cond.codeWith y bytes maxL ret' hx) fr lo As r h) (hfr : fr + 1 ≤ (kR K).frames) (hlo : 8 + (maxL + 11) + lo ≤ (kR K).locals) (hk : RK rest k) (hk8 : k ≤ 8) (d : decode cc pc = .ok (.invokestatic index, 3)) {st0 : List Value} (hst : st0 = As.reverse ++ rest) : CX G K nL r h pc 3 lv st0 rest := by
  subst hst
  intro out h1 hr H locs cells slots ls hH hL hc hs hv T hT X
  have hts : ∀ w ∈ lw_all, w.before K.2.2.2.2.2.2.1 (kS K) = true := fun w hw => hK.1.w hK.2.1 hw _
  have hB := x_back (p := K.1) (e := K.2.2.1) (below := kB K) (sargs := K.2.2.2.2.2.2.1) (len := 3) M hr hfr hlo (CW.ofH hK.1 hK.2.1 w4) (hK.1.ini hK.2.1 w3)
  exact cx_end hL hc hs (vx_callSX X hK.2.2.1 hK.2.2.2.2.2.1 (hts _ w1) (hts _ w2) (hts _ w3) (hts _ w4) D.1 hB (g := F0 K.2.2.2.2.2.1 pc ls _) rfl (by rw [hK.2.2.2.2.1]; exact hv.1) (argsL := As) (rest := rest) (D.len hn) rfl (rk_le hk hk8) (by rw [hK.2.2.2.1]; exact d) (k_pre hK.2.1 hH hc hs hT As))
theorem cx_vH (hK : SOK G K own cc nL ret nm hh) {y : MethodName} {n fr lo maxL k index : Nat} {bytes : ByteArray} {ret' : Option FieldType} {hx : List (Nat × Nat × Nat × Nat)} (D : DY y n) (hn : As.length = n) (w1 : Cond.methodLink own index y ∈ lw_all) {ci : Nat} {rc : vw_C} (hrc : CL[ci]? = some rc) (w2 : Cond.instanceMethod y ∈ lw_all) (w5 : Cond.selects rc.1 y y ∈ lw_all) (w3 : Cond.initialized y.cls ∈ lw_all) (w4 : Cond.codeWith y bytes maxL ret' hx ∈ lw_all)
    {o : Option Nat} {a : Nat} {fs : List Value} (eo : o = some a) (er : rd h a = some (.inr (ci, fs))) (M : CT G K.2.1 y (Cond.codeWith y bytes maxL ret' hx) fr lo (va_rf o :: As) r h) (hfr : fr + 1 ≤ (kR K).frames) (hlo : 8 + (maxL + 11) + lo ≤ (kR K).locals) (hk : RK rest k) (hk8 : k ≤ 8) (d : decode cc pc = .ok (.invokevirtual index, 3)) {st0 : List Value} (hst : st0 = As.reverse ++ va_rf o :: rest) : CX G K nL r h pc 3 lv st0 rest := by
  subst hst
  subst eo
  intro out h1 hr H locs cells slots ls hH hL hc hs hv T hT X
  have hts : ∀ w ∈ lw_all, w.before K.2.2.2.2.2.2.1 (kS K) = true := fun w hw => hK.1.w hK.2.1 hw _
  have hB := x_back (p := K.1) (e := K.2.2.1) (below := kB K) (sargs := K.2.2.2.2.2.2.1) (len := 3) M hr hfr hlo (CW.ofH hK.1 hK.2.1 w4) (hK.1.ini hK.2.1 w3)
  obtain ⟨cellB, c1, c2, c3⟩ := k_recv hK hrc er hH
  exact cx_end hL hc hs (vx_callVX X hK.2.2.1 hK.2.2.2.2.2.1 (hts _ w1) (hts _ w2) (hts _ w5) (hts _ w4) D.1 hB (by rw [hT]; exact c1) c2 c3 (g := F0 K.2.2.2.2.2.1 pc ls _) rfl (by rw [hK.2.2.2.2.1]; exact hv.1) (argsL := As) (rest := rest) (D.len hn) rfl (rk_le hk hk8) (by rw [hK.2.2.2.1]; exact d) (k_pre hK.2.1 hH hc hs hT (va_rf (some a) :: As)))
theorem cx_f (hK : SOK G K own cc nL ret nm hh) {y : MethodName} {n fr lo maxL k index : Nat} {bytes : ByteArray} {ret' : Option FieldType} {x : MethodName} {count : Nat} (D : DY x n) (hn : As.length = n) (w1 : Cond.methodLink own index x ∈ lw_all) {ci : Nat} {rc : vw_C} (hrc : CL[ci]? = some rc) (u1 : Cond.declares x ∈ lw_tbl) (u2 : Cond.interfaceMethod x.cls x.cls x.name x.desc ∈ lw_tbl) (w5 : Cond.selects rc.1 x y ∈ lw_all) (w2 : Cond.instanceMethod y ∈ lw_all) (u3 : Cond.publicMethod y ∈ lw_tbl) (u4 : Cond.unhidden rc.1 x.name x.desc ∈ lw_tbl) (u5 : Cond.castable rc.1 x.cls ∈ lw_tbl) (w3 : Cond.initialized y.cls ∈ lw_all) (w4 : Cond.code y bytes maxL ret' ∈ lw_all)
    {o : Option Nat} {a : Nat} {fs : List Value} (eo : o = some a) (er : rd h a = some (.inr (ci, fs))) (M : CT G K.2.1 y (Cond.code y bytes maxL ret') fr lo (va_rf o :: As) r h) (hfr : fr + 1 ≤ (kR K).frames) (hlo : 8 + (maxL + 11) + lo ≤ (kR K).locals) (hk : RK rest k) (hk8 : k ≤ 8) (d : decode cc pc = .ok (.invokeinterface index count, 5)) {st0 : List Value} (hst : st0 = As.reverse ++ va_rf o :: rest) : CX G K nL r h pc 5 lv st0 rest := by
  subst hst
  subst eo
  intro out h1 hr H locs cells slots ls hH hL hc hs hv T hT X
  have hts : ∀ w ∈ lw_all, w.before K.2.2.2.2.2.2.1 (kS K) = true := fun w hw => hK.1.w hK.2.1 hw _
  have hB := x_back (p := K.1) (e := K.2.2.1) (below := kB K) (sargs := K.2.2.2.2.2.2.1) (len := 5) M hr hfr hlo (CW.of hK.1 hK.2.1 w4) (hK.1.ini hK.2.1 w3)
  obtain ⟨cellB, c1, c2, c3⟩ := k_recv hK hrc er hH
  obtain ⟨kB9, hkB9, -⟩ := Vm.findClass_spec c3
  obtain ⟨z1, z2, z3, z4, z5⟩ := va_Fw.moved (C := rc.1) (x := x) (y := y) D.1 hK.2.1.alike (va_Fw.of (A := gA G) (hK.1.1 _ u1) (hK.1.1 _ u2) (hK.1.1 _ u3) (hK.1.1 _ u4) (hK.1.1 _ u5))
  exact cx_end hL hc hs (vx_callIF X hK.2.2.1 hK.2.2.2.2.2.1 (hts _ w1) (va_Nw.use rfl z1) (va_Nw.use rfl z2) (hts _ w5) (hts _ w2) (va_Nw.use rfl z3) (va_Nw.use rfl z4) (va_Nw.use rfl z5) (hts _ w4) D.1 hB (by rw [hT]; exact c1) c2 c3 hkB9 (g := F0 K.2.2.2.2.2.1 pc ls _) rfl (by rw [hK.2.2.2.2.1]; exact hv.1) (argsL := As) (rest := rest) (D.len hn) rfl (rk_le hk hk8) (by rw [hK.2.2.2.1]; exact d) (k_pre hK.2.1 hH hc hs hT (va_rf (some a) :: As)))
end
def xcI (r : RS) (X : Int32 → AH → RS) : RS := match r with
  | some (.inl (some (.int v)), h1) => X v h1
  | some (.inr x, h1) => some (.inr x, h1)
  | _ => none
def xcIX (r : RS) (X : Int32 → AH → RS) (Y : String → Nat → AH → RS) : RS := match r with
  | some (.inl (some (.int v)), h1) => X v h1
  | some (.inr (E, q), h1) => Y E q h1
  | _ => none
def xcL (r : RS) (X : Int64 → AH → RS) : RS := match r with
  | some (.inl (some (.long v)), h1) => X v h1
  | some (.inr x, h1) => some (.inr x, h1)
  | _ => none
def xcLX (r : RS) (X : Int64 → AH → RS) (Y : String → Nat → AH → RS) : RS := match r with
  | some (.inl (some (.long v)), h1) => X v h1
  | some (.inr (E, q), h1) => Y E q h1
  | _ => none
def xcD (r : RS) (X : UInt64 → AH → RS) : RS := match r with
  | some (.inl (some (.double v)), h1) => X v h1
  | some (.inr x, h1) => some (.inr x, h1)
  | _ => none
def xcDX (r : RS) (X : UInt64 → AH → RS) (Y : String → Nat → AH → RS) : RS := match r with
  | some (.inl (some (.double v)), h1) => X v h1
  | some (.inr (E, q), h1) => Y E q h1
  | _ => none
def xcF (r : RS) (X : UInt32 → AH → RS) : RS := match r with
  | some (.inl (some (.float v)), h1) => X v h1
  | some (.inr x, h1) => some (.inr x, h1)
  | _ => none
def xcFX (r : RS) (X : UInt32 → AH → RS) (Y : String → Nat → AH → RS) : RS := match r with
  | some (.inl (some (.float v)), h1) => X v h1
  | some (.inr (E, q), h1) => Y E q h1
  | _ => none
def xcA (r : RS) (X : Option Nat → AH → RS) : RS := match r with
  | some (.inl (some (.ref a)), h1) => X (some a) h1
  | some (.inl (some .null), h1) => X none h1
  | some (.inr x, h1) => some (.inr x, h1)
  | _ => none
def xcAX (r : RS) (X : Option Nat → AH → RS) (Y : String → Nat → AH → RS) : RS := match r with
  | some (.inl (some (.ref a)), h1) => X (some a) h1
  | some (.inl (some .null), h1) => X none h1
  | some (.inr (E, q), h1) => Y E q h1
  | _ => none
def xcV (r : RS) (X : AH → RS) : RS := match r with
  | some (.inl none, h1) => X h1
  | some (.inr x, h1) => some (.inr x, h1)
  | _ => none
def xcVX (r : RS) (X : AH → RS) (Y : String → Nat → AH → RS) : RS := match r with
  | some (.inl none, h1) => X h1
  | some (.inr (E, q), h1) => Y E q h1
  | _ => none
/-- the frame at pc with q, of the class E, thrown over it -/
def SimT (G : GC) (K : SC) (nL : Nat) (X : RS) (h : AH) (E : String) (q : Nat) (pc : Nat) (lv : List (Nat × Value)) (rest : List Value) : Prop :=
  ∀ (out : OT) (h' : AH), X = some (out, h') → ∀ (H : Heap) (locs : List Loc) (cells slots : Nat) (ls : Array Slot),
    HP G h H → (∀ z ∈ locs, gB G ≤ z.base) → cells + hcl h = (kR K).cells → slots + hsl h = (kR K).slots → lv_has ls nL lv →
    (∃ ce : Cell, H[q]? = some ce ∧ ce.vm = .none ∧ (kS K).vm.findClass E = some ce.cls) →
    vx_W K.1 K.2.1 K.2.2.1 K.2.2.2.1 K.2.2.2.2.1 K.2.2.2.2.2.1 K.2.2.2.2.2.2.1 K.2.2.2.2.2.2.2.1 K.2.2.2.2.2.2.2.2.1 K.2.2.2.2.2.2.2.2.2 H locs cells slots (QE G K out h') (F0 K.2.2.2.2.2.1 pc ls rest) q
section
variable {G : GC} {K : SC} {own nm : String} {cc : ByteArray} {nL : Nat} {ret : Option FieldType} {hh : List ExceptionTableEntry} {r : RS} {h : AH} {pc : Nat} {lv : List (Nat × Value)} {rest As : List Value} {len : Nat} {st0 : List Value}
theorem st_none {E : String} {q : Nat} : SimT G K nL none h E q pc lv rest := fun _ _ hX => by cases hX
/-- not caught here -/
theorem st_out (hK : SOK G K own cc nL ret nm hh) (hout : ∀ x ∈ hh, covers x pc = false) {E : String} {q : Nat} : SimT G K nL (some (.inr (E, q), h)) h E q pc lv rest := by
  intro out h' hX H locs cells slots ls hH hL hc hs hv hce T hT X
  cases hX
  obtain ⟨ce, c1, c2, c3⟩ := hce
  obtain ⟨st1, hrun, hend, hW, hsm⟩ := X.leaveThrown q (g := F0 K.2.2.2.2.2.1 pc ls rest) rfl rfl rfl (by rw [hK.2.2.2.2.2.2.2.2.2.1]; exact hout) hK.2.2.2.2.2.2.2.1
  refine ⟨_, st1, .threw q, hrun, hend, ?_, locs, cells, slots, hc, hs, hL, hW, hsm, rfl, ce, ?_, c2, c3⟩
  · show HP G h T.heap
    rw [hT]; exact hH
  · show T.heap[q]? = some ce
    rw [hT]; exact c1
theorem k_cx {X : RS} {out : OT} {h' h1 : AH} {v : Option Value} {st' : List Value} (C : CX G K nL r h pc len lv st0 rest) (e : r = some (.inl v, h1)) (hst : v.toList ++ rest = st') (kk : Sim G K nL X h1 (pc + len) lv st') (hX : X = some (out, h')) {H : Heap} {locs : List Loc} {cells slots : Nat} {ls : Array Slot} (hH : HP G h H) (hL : ∀ q ∈ locs, gB G ≤ q.base) (hc : cells + hcl h = (kR K).cells) (hs : slots + hsl h = (kR K).slots) (hv : lv_has ls nL lv) :
    KW K H locs cells slots (QE G K out h') pc ls st0 := by
  intro T hT Xs
  subst hst
  obtain ⟨T', locs', cells', slots', hH1, hL1, hc1, hs1, X1, st⟩ := C _ _ e H locs cells slots ls hH hL hc hs hv T hT Xs
  obtain ⟨t, a1, b1⟩ := kk out h' hX T'.heap locs' cells' slots' ls hH1 hL1 hc1 hs1 hv T' rfl X1
  exact ⟨t, st t a1, b1⟩
theorem k_cxT {X : RS} {out : OT} {h' h1 : AH} {E : String} {q : Nat} (C : CX G K nL r h pc len lv st0 rest) (e : r = some (.inr (E, q), h1)) (kk : SimT G K nL X h1 E q pc lv rest) (hX : X = some (out, h')) {H : Heap} {locs : List Loc} {cells slots : Nat} {ls : Array Slot} (hH : HP G h H) (hL : ∀ q ∈ locs, gB G ≤ q.base) (hc : cells + hcl h = (kR K).cells) (hs : slots + hsl h = (kR K).slots) (hv : lv_has ls nL lv) :
    KW K H locs cells slots (QE G K out h') pc ls st0 := by
  intro T hT Xs
  obtain ⟨T', locs', cells', slots', hH1, hL1, hc1, hs1, X1, hce, st⟩ := C _ _ e H locs cells slots ls hH hL hc hs hv T hT Xs
  obtain ⟨t, a1, b1⟩ := kk out h' hX T'.heap locs' cells' slots' ls hH1 hL1 hc1 hs1 hv hce T' rfl X1
  exact ⟨t, st.trans a1, b1⟩
theorem s_cI (hK : SOK G K own cc nL ret nm hh) (hout : ∀ x ∈ hh, covers x pc = false) (C : CX G K nL r h pc len lv st0 rest) {X : Int32 → AH → RS} (kk : ∀ v h1, Sim G K nL (X v h1) h1 (pc + len) lv (.int v :: rest)) : Sim G K nL (xcI r X) h pc lv st0 := by
  intro out h' hX H locs cells slots ls hH hL hc hs hv
  unfold xcI at hX
  split at hX
  · rename_i v h1
    exact k_cx C rfl rfl (kk v h1) hX hH hL hc hs hv
  · rename_i x h1
    obtain ⟨E, q⟩ := x
    exact k_cxT C rfl (st_out hK hout) hX hH hL hc hs hv
  · cases hX
theorem s_cIX {Y : String → Nat → AH → RS} (ky : ∀ E q h1, SimT G K nL (Y E q h1) h1 E q pc lv rest) (C : CX G K nL r h pc len lv st0 rest) {X : Int32 → AH → RS} (kk : ∀ v h1, Sim G K nL (X v h1) h1 (pc + len) lv (.int v :: rest)) : Sim G K nL (xcIX r X Y) h pc lv st0 := by
  intro out h' hX H locs cells slots ls hH hL hc hs hv
  unfold xcIX at hX
  split at hX
  · rename_i v h1
    exact k_cx C rfl rfl (kk v h1) hX hH hL hc hs hv
  · rename_i E q h1
    exact k_cxT C rfl (ky E q h1) hX hH hL hc hs hv
  · cases hX
theorem s_cL (hK : SOK G K own cc nL ret nm hh) (hout : ∀ x ∈ hh, covers x pc = false) (C : CX G K nL r h pc len lv st0 rest) {X : Int64 → AH → RS} (kk : ∀ v h1, Sim G K nL (X v h1) h1 (pc + len) lv (.long v :: rest)) : Sim G K nL (xcL r X) h pc lv st0 := by
  intro out h' hX H locs cells slots ls hH hL hc hs hv
  unfold xcL at hX
  split at hX
  · rename_i v h1
    exact k_cx C rfl rfl (kk v h1) hX hH hL hc hs hv
  · rename_i x h1
    obtain ⟨E, q⟩ := x
    exact k_cxT C rfl (st_out hK hout) hX hH hL hc hs hv
  · cases hX
theorem s_cLX {Y : String → Nat → AH → RS} (ky : ∀ E q h1, SimT G K nL (Y E q h1) h1 E q pc lv rest) (C : CX G K nL r h pc len lv st0 rest) {X : Int64 → AH → RS} (kk : ∀ v h1, Sim G K nL (X v h1) h1 (pc + len) lv (.long v :: rest)) : Sim G K nL (xcLX r X Y) h pc lv st0 := by
  intro out h' hX H locs cells slots ls hH hL hc hs hv
  unfold xcLX at hX
  split at hX
  · rename_i v h1
    exact k_cx C rfl rfl (kk v h1) hX hH hL hc hs hv
  · rename_i E q h1
    exact k_cxT C rfl (ky E q h1) hX hH hL hc hs hv
  · cases hX
theorem s_cD (hK : SOK G K own cc nL ret nm hh) (hout : ∀ x ∈ hh, covers x pc = false) (C : CX G K nL r h pc len lv st0 rest) {X : UInt64 → AH → RS} (kk : ∀ v h1, Sim G K nL (X v h1) h1 (pc + len) lv (.double v :: rest)) : Sim G K nL (xcD r X) h pc lv st0 := by
  intro out h' hX H locs cells slots ls hH hL hc hs hv
  unfold xcD at hX
  split at hX
  · rename_i v h1
    exact k_cx C rfl rfl (kk v h1) hX hH hL hc hs hv
  · rename_i x h1
    obtain ⟨E, q⟩ := x
    exact k_cxT C rfl (st_out hK hout) hX hH hL hc hs hv
  · cases hX
theorem s_cDX {Y : String → Nat → AH → RS} (ky : ∀ E q h1, SimT G K nL (Y E q h1) h1 E q pc lv rest) (C : CX G K nL r h pc len lv st0 rest) {X : UInt64 → AH → RS} (kk : ∀ v h1, Sim G K nL (X v h1) h1 (pc + len) lv (.double v :: rest)) : Sim G K nL (xcDX r X Y) h pc lv st0 := by
  intro out h' hX H locs cells slots ls hH hL hc hs hv
  unfold xcDX at hX
  split at hX
  · rename_i v h1
    exact k_cx C rfl rfl (kk v h1) hX hH hL hc hs hv
  · rename_i E q h1
    exact k_cxT C rfl (ky E q h1) hX hH hL hc hs hv
  · cases hX
theorem s_cF (hK : SOK G K own cc nL ret nm hh) (hout : ∀ x ∈ hh, covers x pc = false) (C : CX G K nL r h pc len lv st0 rest) {X : UInt32 → AH → RS} (kk : ∀ v h1, Sim G K nL (X v h1) h1 (pc + len) lv (.float v :: rest)) : Sim G K nL (xcF r X) h pc lv st0 := by
  intro out h' hX H locs cells slots ls hH hL hc hs hv
  unfold xcF at hX
  split at hX
  · rename_i v h1
    exact k_cx C rfl rfl (kk v h1) hX hH hL hc hs hv
  · rename_i x h1
    obtain ⟨E, q⟩ := x
    exact k_cxT C rfl (st_out hK hout) hX hH hL hc hs hv
  · cases hX
theorem s_cFX {Y : String → Nat → AH → RS} (ky : ∀ E q h1, SimT G K nL (Y E q h1) h1 E q pc lv rest) (C : CX G K nL r h pc len lv st0 rest) {X : UInt32 → AH → RS} (kk : ∀ v h1, Sim G K nL (X v h1) h1 (pc + len) lv (.float v :: rest)) : Sim G K nL (xcFX r X Y) h pc lv st0 := by
  intro out h' hX H locs cells slots ls hH hL hc hs hv
  unfold xcFX at hX
  split at hX
  · rename_i v h1
    exact k_cx C rfl rfl (kk v h1) hX hH hL hc hs hv
  · rename_i E q h1
    exact k_cxT C rfl (ky E q h1) hX hH hL hc hs hv
  · cases hX
theorem s_cA (hK : SOK G K own cc nL ret nm hh) (hout : ∀ x ∈ hh, covers x pc = false) (C : CX G K nL r h pc len lv st0 rest) {X : Option Nat → AH → RS} (kk : ∀ v h1, Sim G K nL (X v h1) h1 (pc + len) lv (va_rf v :: rest)) : Sim G K nL (xcA r X) h pc lv st0 := by
  intro out h' hX H locs cells slots ls hH hL hc hs hv
  unfold xcA at hX
  split at hX
  · rename_i v h1
    exact k_cx C rfl rfl (kk (some v) h1) hX hH hL hc hs hv
  · rename_i h1
    exact k_cx C rfl rfl (kk none h1) hX hH hL hc hs hv
  · rename_i x h1
    obtain ⟨E, q⟩ := x
    exact k_cxT C rfl (st_out hK hout) hX hH hL hc hs hv
  · cases hX
theorem s_cAX {Y : String → Nat → AH → RS} (ky : ∀ E q h1, SimT G K nL (Y E q h1) h1 E q pc lv rest) (C : CX G K nL r h pc len lv st0 rest) {X : Option Nat → AH → RS} (kk : ∀ v h1, Sim G K nL (X v h1) h1 (pc + len) lv (va_rf v :: rest)) : Sim G K nL (xcAX r X Y) h pc lv st0 := by
  intro out h' hX H locs cells slots ls hH hL hc hs hv
  unfold xcAX at hX
  split at hX
  · rename_i v h1
    exact k_cx C rfl rfl (kk (some v) h1) hX hH hL hc hs hv
  · rename_i h1
    exact k_cx C rfl rfl (kk none h1) hX hH hL hc hs hv
  · rename_i E q h1
    exact k_cxT C rfl (ky E q h1) hX hH hL hc hs hv
  · cases hX
theorem s_cV (hK : SOK G K own cc nL ret nm hh) (hout : ∀ x ∈ hh, covers x pc = false) (C : CX G K nL r h pc len lv st0 rest) {X : AH → RS} (kk : ∀ h1, Sim G K nL (X h1) h1 (pc + len) lv (rest)) : Sim G K nL (xcV r X) h pc lv st0 := by
  intro out h' hX H locs cells slots ls hH hL hc hs hv
  unfold xcV at hX
  split at hX
  · rename_i h1
    exact k_cx C rfl rfl (kk h1) hX hH hL hc hs hv
  · rename_i x h1
    obtain ⟨E, q⟩ := x
    exact k_cxT C rfl (st_out hK hout) hX hH hL hc hs hv
  · cases hX
theorem s_cVX {Y : String → Nat → AH → RS} (ky : ∀ E q h1, SimT G K nL (Y E q h1) h1 E q pc lv rest) (C : CX G K nL r h pc len lv st0 rest) {X : AH → RS} (kk : ∀ h1, Sim G K nL (X h1) h1 (pc + len) lv (rest)) : Sim G K nL (xcVX r X Y) h pc lv st0 := by
  intro out h' hX H locs cells slots ls hH hL hc hs hv
  unfold xcVX at hX
  split at hX
  · rename_i h1
    exact k_cx C rfl rfl (kk h1) hX hH hL hc hs hv
  · rename_i E q h1
    exact k_cxT C rfl (ky E q h1) hX hH hL hc hs hv
  · cases hX
theorem ho_n {pc : Nat} : ∀ x ∈ ([] : List ExceptionTableEntry), covers x pc = false := fun x hx => by cases hx
end
