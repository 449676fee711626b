/-! SIM, part 8: natives, Object's constructor, exceptions made, thrown and caught, a method's entry. x_make0 follows vx_make0 of the kit's EXCEPTIONS text; the copies follow va_copyi, va_copyM, va_clone of the kit -/
set_option maxRecDepth 100000
def xmi (h : AH) (X : Option Nat → RS) : RS := match hst h 10 with
  | .ref a => X (some a)
  | _ => none
/-- getClass of an Object[] -/
def xgc (h : AH) (o : Option Nat) (X : Option Nat → RS) : RS := match o with
  | none => none
  | some a => match rd h a with
    | some (.inl (t, _)) => if t = 5 then xmi h X else none
    | _ => none
def cpOK (sp dp n : Int32) (n0 n1 : Nat) : Prop := 0 ≤ sp.toInt ∧ 0 ≤ dp.toInt ∧ 0 ≤ n.toInt ∧ sp.toNatClampNeg + n.toNatClampNeg ≤ n0 ∧ dp.toNatClampNeg + n.toNatClampNeg ≤ n1
noncomputable def xcpI (h : AH) (o0 : Option Nat) (sp : Int32) (o1 : Option Nat) (dp n : Int32) (X : AH → RS) : RS := match o0, o1 with
  | some a0, some a => match rd h a0, h.1 a with
    | some (.inl (t0, n0, .inl f)), some (.inl (t1, n1, .inl g)) => @ite RS (t0 = 0 ∧ t1 = 0 ∧ cpOK sp dp n n0 n1) (Classical.propDecidable _) (X (hset h a (.inl (0, n1, .inl (va_cpy f g sp.toNatClampNeg dp.toNatClampNeg n.toNatClampNeg))))) none
    | _, _ => none
  | _, _ => none
noncomputable def xcpL (h : AH) (o0 : Option Nat) (sp : Int32) (o1 : Option Nat) (dp n : Int32) (X : AH → RS) : RS := match o0, o1 with
  | some a0, some a => match rd h a0, h.1 a with
    | some (.inl (t0, n0, .inr (.inl f))), some (.inl (t1, n1, .inr (.inl g))) => @ite RS (t0 = 3 ∧ t1 = 3 ∧ cpOK sp dp n n0 n1) (Classical.propDecidable _) (X (hset h a (.inl (3, n1, .inr (.inl (va_cpy f g sp.toNatClampNeg dp.toNatClampNeg n.toNatClampNeg)))))) none
    | _, _ => none
  | _, _ => none
def elOK (h : AH) (f : Nat → Option Nat) (sp n : Nat) : Prop := ∀ i : Nat, i < n → ∀ y : Nat, f (sp + i) = some y → ∃ (c : Nat) (fs : List Value), rd h y = some (.inr (c, fs)) ∧ (c = 6 ∨ c = 7 ∨ c = 8 ∨ c = 11)
noncomputable def xcpA (h : AH) (o0 : Option Nat) (sp : Int32) (o1 : Option Nat) (dp n : Int32) (X : AH → RS) : RS := match o0, o1 with
  | some a0, some a => match rd h a0, h.1 a with
    | some (.inl (t0, n0, .inr (.inr (.inr (.inr f))))), some (.inl (t1, n1, .inr (.inr (.inr (.inr g))))) => @ite RS (t0 = 5 ∧ t1 = 5 ∧ cpOK sp dp n n0 n1 ∧ elOK h f sp.toNatClampNeg n.toNatClampNeg) (Classical.propDecidable _) (X (hset h a (.inl (5, n1, .inr (.inr (.inr (.inr (va_cpy f g sp.toNatClampNeg dp.toNatClampNeg n.toNatClampNeg)))))))) none
    | _, _ => none
  | _, _ => none
def xclI (h : AH) (o : Option Nat) (X : Option Nat → AH → RS) : RS := match o with
  | none => none
  | some a => match rd h a with
    | some (.inl (t, n, .inl f)) => if t = 0 ∧ 1 ≤ hcl h ∧ n ≤ hsl h then X (some (hsz h)) (hnew h (.inl (0, n, .inl f)) n) else none
    | _ => none
/-- a new exception of a class of the library: what its cell holds is not told -/
def xmk (h : AH) (ci : Nat) (X : Option Nat → AH → RS) : RS := if 1 ≤ hcl h ∧ 6 ≤ hsl h then X (some (hsz h)) (hnew h (.inr (ci, [])) 6) else none
section
variable {G : GC} {K : SC} {own nm : String} {cc : ByteArray} {nL : Nat} {ret : Option FieldType} {hh : List ExceptionTableEntry} {X : RS} {h : AH} {pc : Nat} {lv : List (Nat × Value)} {st : List Value}
theorem nn_lt {z : Int32} (h : 0 ≤ z.toInt) : ¬ z < 0 := by rw [Int32.lt_iff_toInt_lt]; simp; omega
theorem nn_cl {z : Int32} (h : 0 ≤ z.toInt) : z.toInt = (z.toNatClampNeg : Int) := by
  show z.toInt = ((z.toInt.toNat : Nat) : Int)
  omega
theorem s_oinit (hK : SOK G K own cc nL ret nm hh) {o : Option Nat} {index k : Nat} (w1 : Cond.methodLink own index Lib.objectInit ∈ lw_all) (w2 : Cond.instanceMethod Lib.objectInit ∈ lw_all) (w3 : Cond.code Lib.objectInit ⟨#[0xb1]⟩ 1 none ∈ lw_all) (d : decode cc pc = .ok (.invokespecial index, 3)) (hfr : 1 ≤ (kR K).frames) (hk : RK st k) (hlo : k + 12 ≤ (kR K).locals)
    (kk : Sim G K nL X h (pc + 3) lv st) : Sim G K nL (xnn o X) h pc lv (va_rf o :: st) := by
  refine s_nn (fun a ea => ?_)
  subst ea
  intro out h' hX H locs cells slots ls hH hL hc hs hv
  exact W.objInit hK.2.2.1 hK.2.2.2.1 hK.2.2.2.2.2.1 (hK.1.w hK.2.1 w1 _) (hK.1.w hK.2.1 w2 _) (hK.1.w hK.2.1 w3 _) rfl (by rw [hK.2.2.2.2.1]; exact hv.1) (a := a) rfl d hfr (by show 2 * 0 + _ + 12 ≤ _; rw [show (st.map fun v => v.category).sum = k from hk]; show _ ≤ (kR K).locals; omega) (kk out h' hX H locs cells slots ls hH hL hc hs hv)
theorem s_ldcM (hK : SOK G K own cc nL ret nm hh) {index : Nat} (w1 : Cond.classLink own index "[Ljava/lang/Object;" ∈ lw_all) (d : decode cc pc = .ok (.ldc index, 2)) {X : Option Nat → RS} (kk : ∀ v, Sim G K nL (X v) h (pc + 2) lv (va_rf v :: st)) : Sim G K nL (xmi h X) h pc lv st := by
  intro out h' hX H locs cells slots ls hH hL hc hs' hv
  obtain ⟨mi, e1, e2⟩ := hK.1.2.2.2.2.2.2.2.2
  unfold xmi at hX
  rw [hH.2.2.2.2.2, e1] at hX
  exact va_ldcM hK.2.2.1 hK.2.2.2.1 hK.2.2.2.2.2.1 (hK.1.w hK.2.1 w1 _) (e2.moved hK.2.1.alike) d (kk (some mi) out h' hX H locs cells slots ls hH hL hc hs' hv)
theorem s_getC (hK : SOK G K own cc nL ret nm hh) {o : Option Nat} {index k : Nat} (w1 : Cond.methodLink own index ⟨"java/lang/Object", "getClass", "()Ljava/lang/Class;"⟩ ∈ lw_all) (w2 : Cond.declares ⟨"java/lang/Object", "getClass", "()Ljava/lang/Class;"⟩ ∈ lw_tbl) (w3 : Cond.selects "[Ljava/lang/Object;" ⟨"java/lang/Object", "getClass", "()Ljava/lang/Class;"⟩ ⟨"java/lang/Object", "getClass", "()Ljava/lang/Class;"⟩ ∈ lw_all) (w4 : Cond.instanceMethod ⟨"java/lang/Object", "getClass", "()Ljava/lang/Class;"⟩ ∈ lw_all) (w5 : Cond.native ⟨"java/lang/Object", "getClass", "()Ljava/lang/Class;"⟩ ∈ lw_all)
    (hfr : 1 ≤ (kR K).frames) (hk : RK st k) (hlo : k + 14 ≤ (kR K).locals) (d : decode cc pc = .ok (.invokevirtual index, 3)) {X : Option Nat → RS} (kk : ∀ v, Sim G K nL (X v) h (pc + 3) lv (va_rf v :: st)) : Sim G K nL (xgc h o X) h pc lv (va_rf o :: st) := by
  intro out h' hX H locs cells slots ls hH hL hc hs' hv
  obtain ⟨mi, e1, e2⟩ := hK.1.2.2.2.2.2.2.2.2
  unfold xgc at hX
  split at hX
  · cases hX
  · split at hX
    · rename_i t x e
      split at hX
      · rename_i ec
        subst ec
        unfold xmi at hX
        rw [hH.2.2.2.2.2, e1] at hX
        obtain ⟨kA', comp', k1, k2, k3, k4⟩ := ((hK.1.K hK.2.1).2 5 (gT G 5, .object "java/lang/Object") rfl).2
        have hcell := hH.at hK.1 e (by decide)
        have hvm0 : ∀ cA : ClassId, (vp_cell cA x).vm = .none ∧ (vp_cell cA x).cls = cA := fun cA => by
          obtain ⟨n, f | f | f | f | f⟩ := x <;> exact ⟨rfl, rfl⟩
        exact va_getC hK.2.2.1 hK.2.2.2.1 (by rw [hK.2.2.2.2.1]; exact hv.1.symm) hK.2.2.2.2.2.1 (hK.1.w hK.2.1 w1 _) (va_Nw.use rfl (va_Nw.warmD hK.2.1 (va_Nw.of rfl (hK.1.1 _ w2)))) (hK.1.w hK.2.1 w3 _) (hK.1.w hK.2.1 w4 _) (hK.1.w hK.2.1 w5 _) (e2.moved hK.2.1.alike) ⟨_, hcell, by rw [(hvm0 _).1]; rfl, by rw [(hvm0 _).2]; exact k4⟩ hfr (by rw [show (st.map fun v => v.category).sum = k from hk]; exact hlo) d (kk (some mi) out h' hX H locs cells slots ls hH hL hc hs' hv)
      · cases hX
    · cases hX
theorem s_cpI (hK : SOK G K own cc nL ret nm hh) {o0 o1 : Option Nat} {sp dp n : Int32} {index k : Nat} (w1 : Cond.methodLink own index arraycopyName ∈ lw_all) (w2 : Cond.native arraycopyName ∈ lw_all) (w3 : Cond.static arraycopyName ∈ lw_all) (w4 : Cond.initialized "java/lang/System" ∈ lw_all) (hfr : 1 ≤ (kR K).frames) (hk : RK st k) (hlo : k + (nativeFrameWords "java/lang/System" "arraycopy" 5 + 11) ≤ (kR K).locals) (d : decode cc pc = .ok (.invokestatic index, 3))
    {X : AH → RS} (kk : ∀ h1, Sim G K nL (X h1) h1 (pc + 3) lv st) : Sim G K nL (xcpI h o0 sp o1 dp n X) h pc lv (.int n :: .int dp :: va_rf o1 :: .int sp :: va_rf o0 :: st) := by
  intro out h' hX H locs cells slots ls hH hL hc hs' hv
  unfold xcpI at hX
  split at hX
  · rename_i a0 a
    split at hX
    · rename_i t0 n0 f t1 n1 g ef eg
      split at hX
      · rename_i ec
        obtain ⟨rfl, rfl, ⟨h1, h2, h3, h4, h5⟩⟩ := ec
        intro T hT Xs
        have hKK := hK.1.K hK.2.1
        have hc0 : H[a0]? = some (vp_cell (gT G 0) (n0, .inl f)) := hH.at hK.1 ef (by decide)
        have hc1 : H[a]? = some (vp_cell (gT G 0) (n1, .inl g)) := (hH.1 a _ eg).2.1
        obtain ⟨-, k0, hk0, cm0, hkk0⟩ := (hKK.2 0 (gT G 0, .int) rfl).1 n0 (fun j => .int (f j))
        obtain ⟨-, k1, hk1, cm1, hkk1⟩ := (hKK.2 0 (gT G 0, .int) rfl).1 n1 (fun j => .int (g j))
        obtain ⟨vm', X', step⟩ := Xs.arraycopy hK.2.2.1 hK.2.2.2.2.2.1 (hK.1.w hK.2.1 w1 _) (hK.1.w hK.2.1 w2 _) (hK.1.w hK.2.1 w3 _) (hK.1.w hK.2.1 w4 _) (src := a0) (dst := a) (cs := vp_cell (gT G 0) (n0, .inl f)) (cd := vp_cell (gT G 0) (n1, .inl g)) (srcPos := sp) (destPos := dp) (n := n) (by rw [hT]; exact hc0) (by rw [hT]; exact hc1)
          (fun _ h => by cases h) (fun _ h => by cases h) (fun h => by cases h) (fun h => by cases h) hk0 hk1 hkk0 hkk1 (by simp [refKind]) (nn_lt h1) (nn_lt h2) (nn_lt h3)
          (by rw [nn_cl h1, nn_cl h3]; show ¬ _ > ((arrV (gT G 0) n0 (fun j => .int (f j))).slots.size : Int); rw [arrV_size]; omega)
          (by rw [nn_cl h2, nn_cl h3]; show ¬ _ > ((arrV (gT G 0) n1 (fun j => .int (g j))).slots.size : Int); rw [arrV_size]; omega)
          (fun vm₁ hal i hi => by
            have e : (vp_cell (gT G 0) (n0, .inl f)).slots.getD (sp.toNatClampNeg + i) .null = .int (f (sp.toNatClampNeg + i)) := by
              show (arrV (gT G 0) n0 (fun j => .int (f j))).slots.getD _ _ = _
              rw [Array.getD_eq_getD_getElem?, arrV_read _ _ (by omega)]
              rfl
            rw [e]
            exact ⟨rfl, trivial⟩)
          (g := F0 K.2.2.2.2.2.1 pc ls (.int n :: .int dp :: .ref a :: .int sp :: .ref a0 :: st)) rfl (by rw [hK.2.2.2.2.1]; exact hv.1) (rest := st) rfl (by rw [hK.2.2.2.1]; exact d) hfr (by show 2 * 0 + _ + _ ≤ (kR K).locals; rw [show (st.map fun v => v.category).sum = k from hk]; omega)
        have e1 : copied (vp_cell (gT G 0) (n0, .inl f)) (vp_cell (gT G 0) (n1, .inl g)) sp dp n = vp_cell (gT G 0) (n1, .inl (va_cpy f g sp.toNatClampNeg dp.toNatClampNeg n.toNatClampNeg)) := va_copied (fun z => .int (z)) (gT G 0) (gT G 0) f g h4
        rw [e1] at X' step
        have hl : a < H.size := (Array.getElem?_eq_some_iff.mp hc1).1
        have hheap : ((T.setVm vm').setCell a (vp_cell (gT G 0) (n1, .inl (va_cpy f g sp.toNatClampNeg dp.toNatClampNeg n.toNatClampNeg)))).heap = H.setIfInBounds a (vp_cell (gT G 0) (n1, .inl (va_cpy f g sp.toNatClampNeg dp.toNatClampNeg n.toNatClampNeg))) := by rw [← hT]; rfl
        obtain ⟨t, a1, b1⟩ := kk _ out h' hX _ _ cells slots ls (hH.set eg (show (H.setIfInBounds a _)[a]? = some _ by simp [Array.getElem?_setIfInBounds, hl]) (by simp) (fun q hq => by simp [Array.getElem?_setIfInBounds, Ne.symm hq])) (fun q hq => by
          rcases List.mem_append.mp hq with z | z
          · exact hL q z
          · obtain ⟨w, -, hw⟩ := List.mem_map.mp z
            rw [← hw]
            exact (hH.1 a _ eg).1) hc hs' hv _ hheap X'
        exact ⟨t, step t a1, b1⟩
      · cases hX
    · cases hX
  · cases hX
theorem s_cpL (hK : SOK G K own cc nL ret nm hh) {o0 o1 : Option Nat} {sp dp n : Int32} {index k : Nat} (w1 : Cond.methodLink own index arraycopyName ∈ lw_all) (w2 : Cond.native arraycopyName ∈ lw_all) (w3 : Cond.static arraycopyName ∈ lw_all) (w4 : Cond.initialized "java/lang/System" ∈ lw_all) (hfr : 1 ≤ (kR K).frames) (hk : RK st k) (hlo : k + (nativeFrameWords "java/lang/System" "arraycopy" 5 + 11) ≤ (kR K).locals) (d : decode cc pc = .ok (.invokestatic index, 3))
    {X : AH → RS} (kk : ∀ h1, Sim G K nL (X h1) h1 (pc + 3) lv st) : Sim G K nL (xcpL h o0 sp o1 dp n X) h pc lv (.int n :: .int dp :: va_rf o1 :: .int sp :: va_rf o0 :: st) := by
  intro out h' hX H locs cells slots ls hH hL hc hs' hv
  unfold xcpL at hX
  split at hX
  · rename_i a0 a
    split at hX
    · rename_i t0 n0 f t1 n1 g ef eg
      split at hX
      · rename_i ec
        obtain ⟨rfl, rfl, ⟨h1, h2, h3, h4, h5⟩⟩ := ec
        intro T hT Xs
        have hKK := hK.1.K hK.2.1
        have hc0 : H[a0]? = some (vp_cell (gT G 3) (n0, .inr (.inl f))) := hH.at hK.1 ef (by decide)
        have hc1 : H[a]? = some (vp_cell (gT G 3) (n1, .inr (.inl g))) := (hH.1 a _ eg).2.1
        obtain ⟨-, k0, hk0, cm0, hkk0⟩ := (hKK.2 3 (gT G 3, .long) rfl).1 n0 (fun j => .long (f j))
        obtain ⟨-, k1, hk1, cm1, hkk1⟩ := (hKK.2 3 (gT G 3, .long) rfl).1 n1 (fun j => .long (g j))
        obtain ⟨vm', X', step⟩ := Xs.arraycopy hK.2.2.1 hK.2.2.2.2.2.1 (hK.1.w hK.2.1 w1 _) (hK.1.w hK.2.1 w2 _) (hK.1.w hK.2.1 w3 _) (hK.1.w hK.2.1 w4 _) (src := a0) (dst := a) (cs := vp_cell (gT G 3) (n0, .inr (.inl f))) (cd := vp_cell (gT G 3) (n1, .inr (.inl g))) (srcPos := sp) (destPos := dp) (n := n) (by rw [hT]; exact hc0) (by rw [hT]; exact hc1)
          (fun _ h => by cases h) (fun _ h => by cases h) (fun h => by cases h) (fun h => by cases h) hk0 hk1 hkk0 hkk1 (by simp [refKind]) (nn_lt h1) (nn_lt h2) (nn_lt h3)
          (by rw [nn_cl h1, nn_cl h3]; show ¬ _ > ((arrV (gT G 3) n0 (fun j => .long (f j))).slots.size : Int); rw [arrV_size]; omega)
          (by rw [nn_cl h2, nn_cl h3]; show ¬ _ > ((arrV (gT G 3) n1 (fun j => .long (g j))).slots.size : Int); rw [arrV_size]; omega)
          (fun vm₁ hal i hi => by
            have e : (vp_cell (gT G 3) (n0, .inr (.inl f))).slots.getD (sp.toNatClampNeg + i) .null = .long (f (sp.toNatClampNeg + i)) := by
              show (arrV (gT G 3) n0 (fun j => .long (f j))).slots.getD _ _ = _
              rw [Array.getD_eq_getD_getElem?, arrV_read _ _ (by omega)]
              rfl
            rw [e]
            exact ⟨rfl, trivial⟩)
          (g := F0 K.2.2.2.2.2.1 pc ls (.int n :: .int dp :: .ref a :: .int sp :: .ref a0 :: st)) rfl (by rw [hK.2.2.2.2.1]; exact hv.1) (rest := st) rfl (by rw [hK.2.2.2.1]; exact d) hfr (by show 2 * 0 + _ + _ ≤ (kR K).locals; rw [show (st.map fun v => v.category).sum = k from hk]; omega)
        have e1 : copied (vp_cell (gT G 3) (n0, .inr (.inl f))) (vp_cell (gT G 3) (n1, .inr (.inl g))) sp dp n = vp_cell (gT G 3) (n1, .inr (.inl (va_cpy f g sp.toNatClampNeg dp.toNatClampNeg n.toNatClampNeg))) := va_copied (fun z => .long (z)) (gT G 3) (gT G 3) f g h4
        rw [e1] at X' step
        have hl : a < H.size := (Array.getElem?_eq_some_iff.mp hc1).1
        have hheap : ((T.setVm vm').setCell a (vp_cell (gT G 3) (n1, .inr (.inl (va_cpy f g sp.toNatClampNeg dp.toNatClampNeg n.toNatClampNeg))))).heap = H.setIfInBounds a (vp_cell (gT G 3) (n1, .inr (.inl (va_cpy f g sp.toNatClampNeg dp.toNatClampNeg n.toNatClampNeg)))) := by rw [← hT]; rfl
        obtain ⟨t, a1, b1⟩ := kk _ out h' hX _ _ cells slots ls (hH.set eg (show (H.setIfInBounds a _)[a]? = some _ by simp [Array.getElem?_setIfInBounds, hl]) (by simp) (fun q hq => by simp [Array.getElem?_setIfInBounds, Ne.symm hq])) (fun q hq => by
          rcases List.mem_append.mp hq with z | z
          · exact hL q z
          · obtain ⟨w, -, hw⟩ := List.mem_map.mp z
            rw [← hw]
            exact (hH.1 a _ eg).1) hc hs' hv _ hheap X'
        exact ⟨t, step t a1, b1⟩
      · cases hX
    · cases hX
  · cases hX
theorem s_cpA (hK : SOK G K own cc nL ret nm hh) {o0 o1 : Option Nat} {sp dp n : Int32} {index k : Nat} (w1 : Cond.methodLink own index arraycopyName ∈ lw_all) (w2 : Cond.native arraycopyName ∈ lw_all) (w3 : Cond.static arraycopyName ∈ lw_all) (w4 : Cond.initialized "java/lang/System" ∈ lw_all) (hfr : 1 ≤ (kR K).frames) (hk : RK st k) (hlo : k + (nativeFrameWords "java/lang/System" "arraycopy" 5 + 11) ≤ (kR K).locals) (d : decode cc pc = .ok (.invokestatic index, 3))
    {X : AH → RS} (kk : ∀ h1, Sim G K nL (X h1) h1 (pc + 3) lv st) : Sim G K nL (xcpA h o0 sp o1 dp n X) h pc lv (.int n :: .int dp :: va_rf o1 :: .int sp :: va_rf o0 :: st) := by
  intro out h' hX H locs cells slots ls hH hL hc hs' hv
  unfold xcpA at hX
  split at hX
  · rename_i a0 a
    split at hX
    · rename_i t0 n0 f t1 n1 g ef eg
      split at hX
      · rename_i ec
        obtain ⟨rfl, rfl, ⟨h1, h2, h3, h4, h5⟩, hel⟩ := ec
        intro T hT Xs
        have hKK := hK.1.K hK.2.1
        have hc0 : H[a0]? = some (vp_cell (gT G 5) (n0, .inr (.inr (.inr (.inr f))))) := hH.at hK.1 ef (by decide)
        have hc1 : H[a]? = some (vp_cell (gT G 5) (n1, .inr (.inr (.inr (.inr g))))) := (hH.1 a _ eg).2.1
        obtain ⟨-, k0, hk0, cm0, hkk0⟩ := (hKK.2 5 (gT G 5, .object "java/lang/Object") rfl).1 n0 (fun j => va_rf (f j))
        obtain ⟨-, k1, hk1, cm1, hkk1⟩ := (hKK.2 5 (gT G 5, .object "java/lang/Object") rfl).1 n1 (fun j => va_rf (g j))
        obtain ⟨vm', X', step⟩ := Xs.arraycopy hK.2.2.1 hK.2.2.2.2.2.1 (hK.1.w hK.2.1 w1 _) (hK.1.w hK.2.1 w2 _) (hK.1.w hK.2.1 w3 _) (hK.1.w hK.2.1 w4 _) (src := a0) (dst := a) (cs := vp_cell (gT G 5) (n0, .inr (.inr (.inr (.inr f))))) (cd := vp_cell (gT G 5) (n1, .inr (.inr (.inr (.inr g))))) (srcPos := sp) (destPos := dp) (n := n) (by rw [hT]; exact hc0) (by rw [hT]; exact hc1)
          (fun _ h => by cases h) (fun _ h => by cases h) (fun h => by cases h) (fun h => by cases h) hk0 hk1 hkk0 hkk1 rfl (nn_lt h1) (nn_lt h2) (nn_lt h3)
          (by rw [nn_cl h1, nn_cl h3]; show ¬ _ > ((arrV (gT G 5) n0 (fun j => va_rf (f j))).slots.size : Int); rw [arrV_size]; omega)
          (by rw [nn_cl h2, nn_cl h3]; show ¬ _ > ((arrV (gT G 5) n1 (fun j => va_rf (g j))).slots.size : Int); rw [arrV_size]; omega)
          (fun vm₁ hal i hi => by
            have e : (vp_cell (gT G 5) (n0, .inr (.inr (.inr (.inr f))))).slots.getD (sp.toNatClampNeg + i) .null = va_rf (f (sp.toNatClampNeg + i)) := by
              show (arrV (gT G 5) n0 (fun j => va_rf (f j))).slots.getD _ _ = _
              rw [Array.getD_eq_getD_getElem?, arrV_read _ _ (by omega)]
              rfl
            rw [e]
            cases hy : f (sp.toNatClampNeg + i) with
            | none => exact ⟨rfl, trivial⟩
            | some y =>
              obtain ⟨cy, fy, ey, hcy⟩ := hel i hi y hy
              obtain ⟨rc, hrc, hca⟩ := toO hcy
              obtain ⟨cellV, g1, g2, g3⟩ := k_recv hK hrc ey hH
              obtain ⟨kA, comp, r1, r2, r3, -⟩ := (hKK.2 5 (gT G 5, .object "java/lang/Object") rfl).2
              cases hk1.symm.trans r1
              cases hkk1.symm.trans r2
              obtain ⟨kE, hkE, -⟩ := Vm.findClass_spec r3
              obtain ⟨kC, hkC, -⟩ := Vm.findClass_spec g3
              obtain ⟨c0, t1, f1, f2, f3⟩ := Cond.castable_spec (va_Nw.use (A := K.2.2.2.2.2.2.1) rfl (hK.1.nw hK.2.1 hca))
              cases g3.symm.trans f1
              cases r3.symm.trans f2
              obtain ⟨kC', hkC', -⟩ := hal.2.2 _ _ hkC
              obtain ⟨kE', hkE', -⟩ := hal.2.2 _ _ hkE
              refine ⟨rfl, cellV, (show T.heap[y]? = some cellV by rw [hT]; exact g1), (fun q h => by rw [h] at g2; cases g2), ⟨kC', hkC'⟩, ?_, ?_⟩
              · exact ⟨kE', hkE'⟩
              · show vm₁.assignable _ _ = true
                rw [hal.assignable]
                exact f3)
          (g := F0 K.2.2.2.2.2.1 pc ls (.int n :: .int dp :: .ref a :: .int sp :: .ref a0 :: st)) rfl (by rw [hK.2.2.2.2.1]; exact hv.1) (rest := st) rfl (by rw [hK.2.2.2.1]; exact d) hfr (by show 2 * 0 + _ + _ ≤ (kR K).locals; rw [show (st.map fun v => v.category).sum = k from hk]; omega)
        have e1 : copied (vp_cell (gT G 5) (n0, .inr (.inr (.inr (.inr f))))) (vp_cell (gT G 5) (n1, .inr (.inr (.inr (.inr g))))) sp dp n = vp_cell (gT G 5) (n1, .inr (.inr (.inr (.inr (va_cpy f g sp.toNatClampNeg dp.toNatClampNeg n.toNatClampNeg))))) := va_copied (fun z => va_rf (z)) (gT G 5) (gT G 5) f g h4
        rw [e1] at X' step
        have hl : a < H.size := (Array.getElem?_eq_some_iff.mp hc1).1
        have hheap : ((T.setVm vm').setCell a (vp_cell (gT G 5) (n1, .inr (.inr (.inr (.inr (va_cpy f g sp.toNatClampNeg dp.toNatClampNeg n.toNatClampNeg))))))).heap = H.setIfInBounds a (vp_cell (gT G 5) (n1, .inr (.inr (.inr (.inr (va_cpy f g sp.toNatClampNeg dp.toNatClampNeg n.toNatClampNeg)))))) := by rw [← hT]; rfl
        obtain ⟨t, a1, b1⟩ := kk _ out h' hX _ _ cells slots ls (hH.set eg (show (H.setIfInBounds a _)[a]? = some _ by simp [Array.getElem?_setIfInBounds, hl]) (by simp) (fun q hq => by simp [Array.getElem?_setIfInBounds, Ne.symm hq])) (fun q hq => by
          rcases List.mem_append.mp hq with z | z
          · exact hL q z
          · obtain ⟨w, -, hw⟩ := List.mem_map.mp z
            rw [← hw]
            exact (hH.1 a _ eg).1) hc hs' hv _ hheap X'
        exact ⟨t, step t a1, b1⟩
      · cases hX
    · cases hX
  · cases hX
theorem s_clI (hK : SOK G K own cc nL ret nm hh) {o : Option Nat} {index k : Nat} (w1 : Cond.methodLink own index ⟨"[I", "clone", "()Ljava/lang/Object;"⟩ ∈ lw_all) (w2 : Cond.sameMethod "[I" "java/lang/Object" "clone" "()Ljava/lang/Object;" ∈ lw_all) (w3 : Cond.native ⟨"java/lang/Object", "clone", "()Ljava/lang/Object;"⟩ ∈ lw_all) (w4 : Cond.instanceMethod ⟨"java/lang/Object", "clone", "()Ljava/lang/Object;"⟩ ∈ lw_all) (w5 : Cond.selects "[I" ⟨"[I", "clone", "()Ljava/lang/Object;"⟩ ⟨"java/lang/Object", "clone", "()Ljava/lang/Object;"⟩ ∈ lw_all) (w6 : Cond.castable "[I" "java/lang/Cloneable" ∈ lw_tbl)
    (hfr : 1 ≤ (kR K).frames) (hk : RK st k) (hlo : k + 14 ≤ (kR K).locals) (d : decode cc pc = .ok (.invokevirtual index, 3)) {X : Option Nat → AH → RS} (kk : ∀ a h1, Sim G K nL (X a h1) h1 (pc + 3) lv (va_rf a :: st)) : Sim G K nL (xclI h o X) h pc lv (va_rf o :: st) := by
  intro out h' hX H locs cells slots ls hH hL hc hs' hv
  unfold xclI at hX
  split at hX
  · cases hX
  · rename_i a
    split at hX
    · rename_i t0 n f e
      split at hX
      · rename_i ec
        obtain ⟨rfl, e2, e3⟩ := ec
        have hKK := hK.1.K hK.2.1
        have hnm : (kS K).vm.findClass "[I" = some (gT G 0) := (hKK.2 0 (gT G 0, .int) rfl).2
        obtain ⟨c0, t0', f1, f2, f3⟩ := Cond.castable_spec (va_Nw.use (A := K.2.2.2.2.2.2.1) rfl (hK.1.nw hK.2.1 w6))
        cases hnm.symm.trans f1
        intro T hT Xs
        have hcellT : T.heap[a]? = some (vp_cell (gT G 0) (n, .inl f)) := by rw [hT]; exact hH.at hK.1 e (by decide)
        obtain ⟨-, kA, hkA, comp, hkind⟩ := State.isArrayOf_alike Xs.warmed.alike ((hKK.2 0 (gT G 0, .int) rfl).1 0 (fun _ => .null))
        obtain ⟨-, kS9, hkS, compS, hkindS⟩ := (hKK.2 0 (gT G 0, .int) rfl).1 0 (fun _ => .null)
        obtain ⟨vm', X', st'⟩ := Xs.cloneArray hK.2.2.1 hK.2.2.2.2.2.1 (hK.1.w hK.2.1 w1 _) (hK.1.w hK.2.1 w2 _) (hK.1.w hK.2.1 w3 _) (hK.1.w hK.2.1 w4 _) (hK.1.w hK.2.1 w5 _) (a := a) (cell := vp_cell (gT G 0) (n, .inl f)) hcellT (fun k h => by cases h) (fun h => by cases h) hnm f2 f3
          (fun i v hv9 => by
            have hk' : T.vm.classes[gT G 0]? = some kA := hkA
            have hv9 : (arrV (gT G 0) n (fun j => .int (f j))).slots[i]? = some v := hv9
            have hin : i < n := by have := (Array.getElem?_eq_some_iff.mp hv9).1; rwa [arrV_size] at this
            rw [arrV_read _ _ hin] at hv9
            cases hv9
            show T.fitsSlot (gT G 0) _ i _ = true
            simp [State.fitsSlot, State.slotType?, hk', hkind, vp_cell, arrV, fits])
          (g := F0 K.2.2.2.2.2.1 pc ls (.ref a :: st)) rfl (by rw [hK.2.2.2.2.1]; exact hv.1) rfl (by rw [hK.2.2.2.1]; exact d) hfr (by show 2 * 0 + _ + 14 ≤ (kR K).locals; rw [show (st.map fun v => v.category).sum = k from hk]; omega) (by show cells + 1 ≤ (kR K).cells; omega) (by show slots + (arrV (gT G 0) n (fun j => .int (f j))).slots.size ≤ (kR K).slots; rw [arrV_size]; omega) (hloader := Vm.clonesLoader_of_array hkS hkindS)
        have hcellE : ({ cls := (vp_cell (gT G 0) (n, .inl f)).cls, slots := (vp_cell (gT G 0) (n, .inl f)).slots } : Cell) = vp_cell (gT G 0) (n, .inl f) := rfl
        have hszv : (vp_cell (gT G 0) (n, .inl f)).slots.size = n := arrV_size _ _ _
        rw [hcellE, hszv] at X'
        generalize hH1 : H.push (vp_cell (gT G 0) (n, .inl f)) = H1
        have z1 : H1.size = H.size + 1 := by rw [← hH1, Array.size_push]
        have e1 : H1[H.size]? = some (vp_cell (gT G 0) (n, .inl f)) := by rw [← hH1, Array.getElem?_push_size]
        have o1 : ∀ q : Nat, q < H.size → H1[q]? = H[q]? := fun q hq => by rw [← hH1, Array.getElem?_push, if_neg (Nat.ne_of_lt hq)]
        have hHn : HP G (hnew h (.inl (0, n, .inl f)) n) H1 := hH.new n e1 z1 o1
        obtain ⟨t, b1, b2⟩ := kk (some (hsz h)) _ out h' hX H1 locs (cells + 1) (slots + n) ls hHn hL (by show cells + 1 + (hcl h - 1) = (kR K).cells; omega) (by show slots + n + (hsl h - n) = (kR K).slots; omega) hv ((T.setVm vm').pushCell (vp_cell (gT G 0) (n, .inl f))) (by rw [← hH1, ← hT]; rfl) X'
        refine ⟨t, st' t ?_, b2⟩
        rw [hcellE, hT, hH.2.2.1]
        exact b1
      · cases hX
    · cases hX
end
