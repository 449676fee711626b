/-! SIM, part 5: references into arrays, new, statics, casts, returns, floating point -/
set_option maxRecDepth 100000
def xck (h : AH) (o : Option Nat) (cs : List Nat) (X : RS) : RS := match o with
  | none => X
  | some a => match rd h a with
    | some (.inr (c, _)) => if c ∈ cs then X else none
    | _ => none
def xckA (h : AH) (o : Option Nat) (t : Nat) (X : RS) : RS := match o with
  | none => X
  | some a => match rd h a with
    | some (.inl (t', _)) => if t' = t then X else none
    | _ => none
def xin (h : AH) (o : Option Nat) (ci : Nat) (X : Int32 → RS) : RS := match o with
  | none => X 0
  | some a => match rd h a with
    | some (.inr (c, _)) => if c = ci then X 1 else none
    | _ => none
def rtI (v : Int32) (h : AH) : RS := some (.inl (some (.int v)), h)
def rtZ (v : Int32) (h : AH) : RS := if v = 0 ∨ v = 1 then some (.inl (some (.int v)), h) else none
def rtA (o : Option Nat) (h : AH) : RS := some (.inl (some (va_rf o)), h)
def rtV (h : AH) : RS := some (.inl none, h)
def rtL (v : Int64) (h : AH) : RS := some (.inl (some (.long v)), h)
def rtD (v : UInt64) (h : AH) : RS := some (.inl (some (.double v)), h)
def rtF (v : UInt32) (h : AH) : RS := some (.inl (some (.float v)), h)
def xdd (x y : UInt64) (X : UInt64 → RS) : RS := if FP.ddiv x y &&& 0x7fffffffffffffff ≤ 0x7ff0000000000000 then X (FP.ddiv x y) else none
def xfd (x y : UInt32) (X : UInt32 → RS) : RS := if FP.fdiv x y &&& 0x7fffffff ≤ 0x7f800000 then X (FP.fdiv x y) else none
def xf2d (x : UInt32) (X : UInt64 → RS) : RS := if FP.f2d x &&& 0x7fffffffffffffff ≤ 0x7ff0000000000000 then X (FP.f2d x) else none
section
variable {G : GC} {K : SC} {own nm : String} {cc : ByteArray} {nL : Nat} {ret : Option FieldType} {hh : List ExceptionTableEntry} {X : RS} {h : AH} {pc : Nat} {lv : List (Nat × Value)} {st : List Value}
theorem GOK.nw {l : Launch} (g : GOK G l) {U : State} (hW : (gZ G).WarmedH U.vm) {C T : String} (hw : Cond.castable C T ∈ lw_tbl) : va_Nw (.castable C T) U := va_Nw.warmC hW (va_Nw.of rfl (g.1 _ hw))
theorem toO {c : Nat} (hc : c = 6 ∨ c = 7 ∨ c = 8 ∨ c = 11) : ∃ r : vw_C, CL[c]? = some r ∧ Cond.castable r.1 "java/lang/Object" ∈ lw_tbl := by
  rcases hc with rfl | rfl | rfl | rfl
  · exact ⟨_, rfl, q2208⟩
  · exact ⟨_, rfl, q2209⟩
  · exact ⟨_, rfl, q2210⟩
  · exact ⟨_, rfl, q2197⟩
theorem s_aast (hK : SOK G K own cc nL ret nm hh) {o v : Option Nat} {i : Int32} (d : decode cc pc = .ok (.aastore, 1)) {X : AH → RS} (kk : ∀ h1, Sim G K nL (X h1) h1 (pc + 1) lv st) : Sim G K nL (xsA h o i v X) h pc lv (va_rf v :: .int i :: va_rf o :: st) := by
  intro out h' hX H locs cells slots ls hH hL hc hs' hv
  have hKK := hK.1.K hK.2.1
  unfold xsA at hX
  split at hX
  · cases hX
  · rename_i a
    split at hX
    · rename_i t' n f e
      split at hX
      · rename_i ec
        obtain ⟨rfl, ec⟩ := ec
        have hin := in_of ec
        have hlt : i.toNatClampNeg < n := Nat.not_le.mp fun q => hin (Or.inr q)
        have h0 : ¬ i < 0 := fun q => hin (Or.inl q)
        split at hX
        · refine va_WaastN (C := "java/lang/Object") hK.2.2.1 hK.2.2.2.1 (hH.1 a _ e).2.1 ((hKK.2 5 (gT G 5, .object "java/lang/Object") rfl).1 n (fun j => va_rf (f j))) (fun h => by cases h) (by show ¬ (i < 0 ∨ (arrV _ _ _).slots.size ≤ _); rw [arrV_size]; exact hin) rfl rfl d fun H1 e1 z oq => ?_
          refine kk _ out h' hX H1 _ cells slots ls (hH.set e ?_ z oq) (locs_app hL (hH.1 a _ e).1) hc hs' hv
          show H1[a]? = some (vp_cell _ _)
          rw [e1]
          rw [vp_cell_q, vp_cell_q, arrV_store]
          congr 2
          funext q
          by_cases hq : q = i.toNatClampNeg
          · subst hq
            simp [updV, va_up, va_rf]
          · simp [updV, va_up, hq]
        · rename_i b
          split at hX
          · rename_i c fs eb
            split at hX
            · rename_i ecc
              obtain ⟨r, hr, hca⟩ := toO ecc
              obtain ⟨r', cellV, hr', g1, g2, -, g3, -⟩ := hH.ob hK.1 eb
              have hcls := (hKK.1 c r hr).2
              obtain ⟨kA, comp, k1, k2, k3, -⟩ := (hKK.2 5 (gT G 5, .object "java/lang/Object") rfl).2
              obtain ⟨kE, hkE, -⟩ := Vm.findClass_spec k3
              obtain ⟨c0, t1, f1, f2, f3⟩ := Cond.castable_spec (va_Nw.use (A := K.2.2.2.2.2.2.1) rfl (hK.1.nw hK.2.1 hca))
              cases hcls.1.symm.trans f1
              cases k3.symm.trans f2
              obtain ⟨kC, hkC, -⟩ := hcls.2
              refine W.aast hK.2.2.1 hK.2.2.2.1 (hH.1 a _ e).2.1 (fun q h => by cases h) (fun h => by cases h) k1 k2 rfl hkE ⟨h0, by show _ < (arrV _ _ _).slots.size; rw [arrV_size]; exact hlt⟩ g1 (fun q h => by rw [h] at g3; cases g3) (by rw [g2]; exact hkC) (by rw [g2]; exact f3) rfl rfl d fun H1 e1 z oq => ?_
              refine kk _ out h' hX H1 _ cells slots ls (hH.set e ?_ z oq) (locs_app hL (hH.1 a _ e).1) hc hs' hv
              show H1[a]? = some (vp_cell _ _)
              rw [e1]
              rw [vp_cell_q, vp_cell_q, arrV_store]
              congr 2
              funext q
              by_cases hq : q = i.toNatClampNeg
              · subst hq
                simp [updV, va_up, va_rf]
              · simp [updV, va_up, hq]
            · cases hX
          · cases hX
      · cases hX
    · cases hX
theorem s_new (hK : SOK G K own cc nL ret nm hh) {ci : Nat} {C : String} {T : u_T} {N : Nat} {ty : Nat → FieldType} (F : FC ci C T N ty) {index : Nat} (w1 : Cond.classLink own index C ∈ lw_all) (w2 : Cond.instantiable C N ∈ lw_all) (w3 : Cond.initialized C ∈ lw_all) {fs : List Value} (hfs : ∀ j, j < N → defaultValue (ty j) = vp_V fs j)
    (d : decode cc pc = .ok (.new index, 3)) {X : Option Nat → AH → RS} (kk : ∀ a h1, Sim G K nL (X a h1) h1 (pc + 3) lv (va_rf a :: st)) : Sim G K nL (xnO h ci N fs X) h pc lv st := by
  intro out h' hX H locs cells slots ls hH hL hc hs' hv
  unfold xnO at hX
  split at hX
  · rename_i ec
    have hts : ∀ w ∈ lw_all, w.before K.2.2.2.2.2.2.1 (kS K) = true := fun w hw => hK.1.w hK.2.1 hw _
    have hKn := (hK.1.K hK.2.1).1 ci _ F.1
    refine W.newcK hK.2.2.1 hK.2.2.2.1 hK.2.2.2.2.2.1 (hts _ w1) (hts _ w2) (hts _ w3) rfl d (by show cells + 1 ≤ (kR K).cells; omega) (by show slots + N ≤ (kR K).slots; omega) hKn.2.1 rfl fun H1 kC hkC e1 z1 o1 => ?_
    have hH1 : HP G (hnew h (.inr (ci, fs)) N) H1 := hH.new N ⟨_, F.1, (u_born ty hts F.2.1 hKn hkC e1 F.2.2.1).to hfs⟩ z1 o1
    have := kk (some (hsz h)) (hnew h (.inr (ci, fs)) N) out h' hX H1 locs (cells + 1) (slots + N) ls hH1 hL (by show cells + 1 + (hcl h - 1) = (kR K).cells; omega) (by show slots + N + (hsl h - N) = (kR K).slots; omega) hv
    rw [← hH.2.2.1] at this
    exact this
  · cases hX
theorem s_newarr (hK : SOK G K own cc nL ret nm hh) {atype : ArrayType} (t : Nat) (ht6 : t < 6) {ty : FieldType} (hty : newarray.typeOf atype = ty) (ht : (TYL G)[t]? = some (gT G t, ty)) (hra : va_RA (gZ G) (gT G t) ty → (gZ G).vm.findClass ("[" ++ ty.toString) = some (gT G t)) (hz : ∀ (cA : ClassId) (n : Nat), vp_cell cA (zA t n) = arrV cA n (fun _ => defaultValue ty)) (hcb : componentBytes ty ≤ 8) (hw : Cond.arrayClass ty ∈ lw_all) {n : Int32}
    (d : decode cc pc = .ok (.newarray atype, 2)) {X : Option Nat → AH → RS} (kk : ∀ a h1, Sim G K nL (X a h1) h1 (pc + 2) lv (va_rf a :: st)) : Sim G K nL (xnA h t n X) h pc lv (.int n :: st) := by
  subst hty
  intro out h' hX H locs cells slots ls hH hL hc hs' hv
  unfold xnA at hX
  split at hX
  · rename_i ec
    obtain ⟨e0, e1, e2, e3⟩ := ec
    have hclm : (n.toNatClampNeg : Int) = n.toInt := by
      have := Int32.toNat_toInt n
      omega
    refine va_newaK hK.2.2.1 hK.2.2.2.1 (hK.1.w hK.2.1 hw _) rfl d rfl (by rw [Int32.lt_iff_toInt_lt]; simp; omega) rfl (by have : n.toNatClampNeg * componentBytes (newarray.typeOf atype) ≤ 100000 * 8 := Nat.mul_le_mul (by omega) hcb; omega) (by show cells + 1 ≤ (kR K).cells; omega) (by show slots + n.toNatClampNeg ≤ (kR K).slots; omega) rfl fun H1 cA f1 f2 f3 f4 f5 => ?_
    have hcA : cA = gT G t := by
      have h1 := hra ((hK.1.2.1.2 t _ ht).2)
      have h2 : (gZ G).vm.findClass ("[" ++ (newarray.typeOf atype).toString) = some cA := by
        have h3 : (kS K).vm.findClass ("[" ++ (newarray.typeOf atype).toString) = some cA := f5
        rw [hK.2.1.alike.findClass] at h3
        exact h3
      exact Option.some.inj (h2.symm.trans h1)
    subst hcA
    have hH1 : HP G (hnew h (.inl (t, zA t n.toNatClampNeg)) n.toNatClampNeg) H1 := hH.new _ (by show H1[H.size]? = some (vp_cell _ _); rw [hz]; exact f1) f2 f3
    have := kk (some (hsz h)) _ out h' hX H1 locs (cells + 1) (slots + n.toNatClampNeg) ls hH1 hL (by show cells + 1 + (hcl h - 1) = (kR K).cells; omega) (by show slots + n.toNatClampNeg + (hsl h - n.toNatClampNeg) = (kR K).slots; omega) hv
    rw [← hH.2.2.1] at this
    exact this
  · cases hX
theorem s_anew (hK : SOK G K own cc nL ret nm hh) {index : Nat} (w1 : Cond.classLink own index "java/lang/Object" ∈ lw_all) {n : Int32}
    (d : decode cc pc = .ok (.anewarray index, 3)) {X : Option Nat → AH → RS} (kk : ∀ a h1, Sim G K nL (X a h1) h1 (pc + 3) lv (va_rf a :: st)) : Sim G K nL (xnA h 5 n X) h pc lv (.int n :: st) := by
  intro out h' hX H locs cells slots ls hH hL hc hs' hv
  unfold xnA at hX
  split at hX
  · rename_i ec
    obtain ⟨e0, e1, e2, e3⟩ := ec
    have hclm : (n.toNatClampNeg : Int) = n.toInt := by
      have := Int32.toNat_toInt n
      omega
    have hover : va_AO "java/lang/Object" (kS K) := (va_AO.of (hK.1.1 _ q217)).moved hK.2.1.alike
    refine W.anew hK.2.2.1 hK.2.2.2.1 hK.2.2.2.2.2.1 (hK.1.w hK.2.1 w1 _) (va_AO.use hover) rfl d rfl (by rw [Int32.lt_iff_toInt_lt]; simp; omega) (by omega) (by show cells + 1 ≤ (kR K).cells; omega) (by show slots + n.toNatClampNeg ≤ (kR K).slots; omega) fun cA kA comp f1 f2 f3 f4 => ?_
    have hcA : cA = gT G 5 := by
      obtain ⟨kA', comp', k1, k2, k3, k4⟩ := ((hK.1.K hK.2.1).2 5 (gT G 5, .object "java/lang/Object") rfl).2
      exact Option.some.inj (f1.symm.trans k4)
    subst hcA
    generalize hH1e : H.push ({ cls := gT G 5, slots := Array.replicate n.toNatClampNeg .null, vm := .none } : Cell) = H1
    have z1 : H1.size = H.size + 1 := by rw [← hH1e, Array.size_push]
    have g1 : H1[H.size]? = some (arrV (gT G 5) n.toNatClampNeg (fun _ => .null)) := by rw [← hH1e, Array.getElem?_push_size, ← arrV_new]
    have o1 : ∀ q : Nat, q < H.size → H1[q]? = H[q]? := fun q hq => by rw [← hH1e, Array.getElem?_push, if_neg (Nat.ne_of_lt hq)]
    have hH1 : HP G (hnew h (.inl (5, zA 5 n.toNatClampNeg)) n.toNatClampNeg) H1 := hH.new _ (by show H1[H.size]? = some (vp_cell _ _); exact g1) z1 o1
    have := kk (some (hsz h)) _ out h' hX H1 locs (cells + 1) (slots + n.toNatClampNeg) ls hH1 hL (by show cells + 1 + (hcl h - 1) = (kR K).cells; omega) (by show slots + n.toNatClampNeg + (hsl h - n.toNatClampNeg) = (kR K).slots; omega) hv
    rw [← hH.2.2.1] at this
    exact this
  · cases hX
/-- statics -/
theorem k_gets (hK : SOK G K own cc nL ret nm hh) (k : Nat) {q : String × String × String} (hq : SL[k]? = some q) {index : Nat} {ref : String} (hl : Cond.fieldLink own index ref q.2.1 q.2.2 ∈ lw_all) (hs : SF ref q.1 q.2.1 q.2.2) (d : decode cc pc = .ok (.getstatic index, 3))
    {H : Heap} (hH : HP G h H) {locs : List Loc} {cells slots : Nat} {ls : Array Slot} {Q : State → Prop} (kk : KW K H locs cells slots Q (pc + 3) ls (hst h k :: st)) : KW K H locs cells slots Q pc ls st := by
  have hZ := (hK.1.2.2.2.1 k q hq).moved hK.2.1.alike
  obtain ⟨cf, kf, fi, f, a, cell, h1, h2, h3, h4, h5, h6, h7, h8⟩ := hZ
  rw [hH.2.2.2.2.2] at kk
  exact W.gets hK.2.2.1 hK.2.2.2.1 hK.2.2.2.2.2.1 (hK.1.w hK.2.1 hl _) (hs.same hK.1 hK.2.1 _ h1) h2 h3 h4 (by rw [hH.2.1 a (Nat.not_le.mp h8)]; exact h5) (fun e => by rw [e] at h6; cases h6) h7 rfl d kk
theorem s_getsI (hK : SOK G K own cc nL ret nm hh) (k : Nat) {q : String × String × String} (hq : SL[k]? = some q) {index : Nat} {ref : String} (hl : Cond.fieldLink own index ref q.2.1 q.2.2 ∈ lw_all) (hs : SF ref q.1 q.2.1 q.2.2) (d : decode cc pc = .ok (.getstatic index, 3))
    {X : Int32 → RS} (kk : ∀ v, Sim G K nL (X v) h (pc + 3) lv (.int v :: st)) : Sim G K nL (xtI h k X) h pc lv st := by
  intro out h' hX H locs cells slots ls hH hL hc hs' hv
  unfold xtI at hX
  split at hX
  · rename_i v e
    refine k_gets hK k hq hl hs d hH ?_
    rw [e]
    exact kk v out h' hX H locs cells slots ls hH hL hc hs' hv
  · cases hX
theorem s_getsA (hK : SOK G K own cc nL ret nm hh) (k : Nat) {q : String × String × String} (hq : SL[k]? = some q) {index : Nat} {ref : String} (hl : Cond.fieldLink own index ref q.2.1 q.2.2 ∈ lw_all) (hs : SF ref q.1 q.2.1 q.2.2) (d : decode cc pc = .ok (.getstatic index, 3))
    {X : Option Nat → RS} (kk : ∀ v, Sim G K nL (X v) h (pc + 3) lv (va_rf v :: st)) : Sim G K nL (xtA h k X) h pc lv st := by
  intro out h' hX H locs cells slots ls hH hL hc hs' hv
  unfold xtA at hX
  split at hX
  · rename_i v e
    refine k_gets hK k hq hl hs d hH ?_
    rw [e]
    exact kk (some v) out h' hX H locs cells slots ls hH hL hc hs' hv
  · rename_i e
    refine k_gets hK k hq hl hs d hH ?_
    rw [e]
    exact kk none out h' hX H locs cells slots ls hH hL hc hs' hv
  · cases hX
theorem k_recv (hK : SOK G K own cc nL ret nm hh) {a c : Nat} {fs : List Value} {r : vw_C} (hr : CL[c]? = some r) (e : rd h a = some (.inr (c, fs))) {H : Heap} (hH : HP G h H) : ∃ cell : Cell, H[a]? = some cell ∧ cell.vm.isStatics = false ∧ (kS K).vm.findClass r.1 = some cell.cls :=
  by
  obtain ⟨r', cell, h1, q1, q2, q3, q3', q4⟩ := hH.ob hK.1 e
  cases h1.symm.trans hr
  exact ⟨cell, q1, q3', by rw [q2]; exact ((hK.1.K hK.2.1).1 c r hr).2.1⟩
theorem s_ck (hK : SOK G K own cc nL ret nm hh) {o : Option Nat} {cs : List Nat} {index : Nat} {nmC : String} (w : Cond.classLink own index nmC ∈ lw_all) (hcs : ∀ c ∈ cs, ∃ r : vw_C, CL[c]? = some r ∧ (r.1 = nmC ∨ Cond.castable r.1 nmC ∈ lw_tbl)) (d : decode cc pc = .ok (.checkcast index, 3))
    (kk : Sim G K nL X h (pc + 3) lv (va_rf o :: st)) : Sim G K nL (xck h o cs X) h pc lv (va_rf o :: st) := by
  intro out h' hX H locs cells slots ls hH hL hc hs' hv
  unfold xck at hX
  split at hX
  · exact lv_castN hK.2.2.1 hK.2.2.2.1 d (kk out h' hX H locs cells slots ls hH hL hc hs' hv)
  · split at hX
    · rename_i c fs e
      split at hX
      · rename_i ec
        obtain ⟨r, hr, hq⟩ := hcs c ec
        rcases hq with rfl | hq
        · exact va_castS hK.2.2.1 hK.2.2.2.1 hK.2.2.2.2.2.1 (hK.1.w hK.2.1 w _) ((hK.1.K hK.2.1).1 c r hr).2 (k_recv hK hr e hH) d (kk out h' hX H locs cells slots ls hH hL hc hs' hv)
        · exact va_castY hK.2.2.1 hK.2.2.2.1 hK.2.2.2.2.2.1 (hK.1.w hK.2.1 w _) (hK.1.nw hK.2.1 hq) (k_recv hK hr e hH) d (kk out h' hX H locs cells slots ls hH hL hc hs' hv)
      · cases hX
    · cases hX
theorem s_ckA (hK : SOK G K own cc nL ret nm hh) {o : Option Nat} {index : Nat} (w : Cond.classLink own index "[Ljava/lang/Object;" ∈ lw_all) (d : decode cc pc = .ok (.checkcast index, 3))
    (kk : Sim G K nL X h (pc + 3) lv (va_rf o :: st)) : Sim G K nL (xckA h o 5 X) h pc lv (va_rf o :: st) := by
  intro out h' hX H locs cells slots ls hH hL hc hs' hv
  unfold xckA at hX
  split at hX
  · exact lv_castN hK.2.2.1 hK.2.2.2.1 d (kk out h' hX H locs cells slots ls hH hL hc hs' hv)
  · split at hX
    · rename_i t x e
      split at hX
      · rename_i ec
        subst ec
        obtain ⟨kA', comp', k1, k2, k3, k4⟩ := ((hK.1.K hK.2.1).2 5 (gT G 5, .object "java/lang/Object") rfl).2
        exact va_castA hK.2.2.1 hK.2.2.2.1 hK.2.2.2.2.2.1 (hK.1.w hK.2.1 w _) (hH.one hK.1 e (by decide)) 0 rfl k4 d (kk out h' hX H locs cells slots ls hH hL hc hs' hv)
      · cases hX
    · cases hX
theorem s_inst (hK : SOK G K own cc nL ret nm hh) {o : Option Nat} {ci : Nat} {index : Nat} {r : vw_C} (hr : CL[ci]? = some r) (w : Cond.classLink own index r.1 ∈ lw_all) (d : decode cc pc = .ok (.instanceof index, 3))
    {X : Int32 → RS} (kk : ∀ v, Sim G K nL (X v) h (pc + 3) lv (.int v :: st)) : Sim G K nL (xin h o ci X) h pc lv (va_rf o :: st) := by
  intro out h' hX H locs cells slots ls hH hL hc hs' hv
  unfold xin at hX
  split at hX
  · exact lv_instN hK.2.2.1 hK.2.2.2.1 d (kk 0 out h' hX H locs cells slots ls hH hL hc hs' hv)
  · split at hX
    · rename_i c fs e
      split at hX
      · rename_i ec
        subst ec
        exact va_instS hK.2.2.1 hK.2.2.2.1 hK.2.2.2.2.2.1 (hK.1.w hK.2.1 w _) ((hK.1.K hK.2.1).1 c r hr).2 (k_recv hK hr e hH) d (kk 1 out h' hX H locs cells slots ls hH hL hc hs' hv)
      · cases hX
    · cases hX
/-! the ends -/
theorem q_ret {H : Heap} {locs : List Loc} {cells slots : Nat} {v : Option Value} {ls : Array Slot} (hH : HP G h H) (hL : ∀ q ∈ locs, gB G ≤ q.base) (hc : cells + hcl h = (kR K).cells) (hs : slots + hsl h = (kR K).slots)
    (k : KW K H locs cells slots (MQ (kB K) (fun _ _ o t => o = .returned v ∧ t.heap = H) K.2.2.2.2.2.2.1 (kS K) cells slots (fun a => gB G ≤ a)) pc ls st) : KW K H locs cells slots (QE G K (.inl v) h) pc ls st := by
  refine KW.mono (fun t ht => ?_) k
  obtain ⟨o, h1, h2, ⟨h3, h3'⟩, L, ⟨-, h5, h6⟩, h7⟩ := ht
  exact ⟨o, h1, h2, by rw [h3']; exact hH, L, cells, slots, hc, hs, h7, h5, h6, h3⟩
theorem s_iret (hK : SOK G K own cc nL (some .int) nm hh) {v : Int32} (d : decode cc pc = .ok (.ireturn, 1)) : Sim G K nL (rtI v h) h pc lv [.int v] := by
  intro out h' hX H locs cells slots ls hH hL hc hs' hv
  cases hX
  exact q_ret hH hL hc hs' (W.iret hK.2.2.1 hK.2.2.2.1 hK.2.2.2.2.2.2.1 (fun t ht hW => ⟨rfl, ht⟩) hL d hK.2.2.2.2.2.2.2.1)
theorem s_zret (hK : SOK G K own cc nL (some .boolean) nm hh) {v : Int32} (d : decode cc pc = .ok (.ireturn, 1)) : Sim G K nL (rtZ v h) h pc lv [.int v] := by
  intro out h' hX H locs cells slots ls hH hL hc hs' hv
  unfold rtZ at hX
  split at hX
  · rename_i ec
    cases hX
    exact q_ret hH hL hc hs' (W.zret hK.2.2.1 hK.2.2.2.1 hK.2.2.2.2.2.2.1 (by rcases ec with rfl | rfl <;> rfl) (fun t ht hW => ⟨rfl, ht⟩) hL d hK.2.2.2.2.2.2.2.1)
  · cases hX
theorem s_vret (hK : SOK G K own cc nL none nm hh) (d : decode cc pc = .ok (.return_, 1)) : Sim G K nL (rtV h) h pc lv [] := by
  intro out h' hX H locs cells slots ls hH hL hc hs' hv
  cases hX
  exact q_ret hH hL hc hs' (W.vret hK.2.2.1 hK.2.2.2.1 hK.2.2.2.2.2.2.1 (fun t ht hW => ⟨rfl, ht⟩) hL d hK.2.2.2.2.2.2.2.1)
theorem s_aret {rt : FieldType} (hK : SOK G K own cc nL (some rt) nm hh) (hrt : (∃ n, rt = .object n) ∨ ∃ t, rt = .array t) {o : Option Nat} (d : decode cc pc = .ok (.areturn, 1)) : Sim G K nL (rtA o h) h pc lv [va_rf o] := by
  intro out h' hX H locs cells slots ls hH hL hc hs' hv
  cases hX
  exact q_ret hH hL hc hs' (W.aret hK.2.2.1 hK.2.2.2.1 hK.2.2.2.2.2.2.1 hrt (by cases o with | none => exact Or.inl rfl | some a => exact Or.inr ⟨a, rfl⟩) (fun t ht hW => ⟨rfl, ht⟩) hL d hK.2.2.2.2.2.2.2.1)
theorem s_lret (hK : SOK G K own cc nL (some .long) nm hh) {v : Int64} (d : decode cc pc = .ok (.lreturn, 1)) : Sim G K nL (rtL v h) h pc lv [.long v] := by
  intro out h' hX H locs cells slots ls hH hL hc hs' hv
  cases hX
  exact q_ret hH hL hc hs' (W.lret hK.2.2.1 hK.2.2.2.1 hK.2.2.2.2.2.2.1 (fun t ht hW => ⟨rfl, ht⟩) hL d hK.2.2.2.2.2.2.2.1)
theorem s_dret (hK : SOK G K own cc nL (some .double) nm hh) {v : UInt64} (d : decode cc pc = .ok (.dreturn, 1)) : Sim G K nL (rtD v h) h pc lv [.double v] := by
  intro out h' hX H locs cells slots ls hH hL hc hs' hv
  cases hX
  exact q_ret hH hL hc hs' (W.dret hK.2.2.1 hK.2.2.2.1 hK.2.2.2.2.2.2.1 (fun t ht hW => ⟨rfl, ht⟩) hL d hK.2.2.2.2.2.2.2.1)
theorem s_fret (hK : SOK G K own cc nL (some .float) nm hh) {v : UInt32} (d : decode cc pc = .ok (.freturn, 1)) : Sim G K nL (rtF v h) h pc lv [.float v] := by
  intro out h' hX H locs cells slots ls hH hL hc hs' hv
  cases hX
  exact q_ret hH hL hc hs' (W.fret hK.2.2.1 hK.2.2.2.1 hK.2.2.2.2.2.2.1 (fun t ht hW => ⟨rfl, ht⟩) hL d hK.2.2.2.2.2.2.2.1)
theorem s_ddiv (hK : SOK G K own cc nL ret nm hh) {x y : UInt64} (d : decode cc pc = .ok (.ddiv, 1)) {X : UInt64 → RS} (kk : ∀ v, Sim G K nL (X v) h (pc + 1) lv (.double v :: st)) : Sim G K nL (xdd x y X) h pc lv (.double y :: .double x :: st) := by
  unfold xdd
  refine s_ite (fun c => ?_) (fun _ => s_none)
  exact fun out h' hX H locs cells slots ls hH hL hc hs hv => lv_ddiv hK.2.2.1 hK.2.2.2.1 d c (kk _ out h' hX H locs cells slots ls hH hL hc hs hv)
theorem s_fdiv (hK : SOK G K own cc nL ret nm hh) {x y : UInt32} (d : decode cc pc = .ok (.fdiv, 1)) {X : UInt32 → RS} (kk : ∀ v, Sim G K nL (X v) h (pc + 1) lv (.float v :: st)) : Sim G K nL (xfd x y X) h pc lv (.float y :: .float x :: st) := by
  unfold xfd
  refine s_ite (fun c => ?_) (fun _ => s_none)
  exact fun out h' hX H locs cells slots ls hH hL hc hs hv => lv_fdiv hK.2.2.1 hK.2.2.2.1 d c (kk _ out h' hX H locs cells slots ls hH hL hc hs hv)
theorem s_f2d (hK : SOK G K own cc nL ret nm hh) {x : UInt32} (d : decode cc pc = .ok (.f2d, 1)) {X : UInt64 → RS} (kk : ∀ v, Sim G K nL (X v) h (pc + 1) lv (.double v :: st)) : Sim G K nL (xf2d x X) h pc lv (.float x :: st) := by
  unfold xf2d
  refine s_ite (fun c => ?_) (fun _ => s_none)
  exact fun out h' hX H locs cells slots ls hH hL hc hs hv => lv_f2d hK.2.2.1 hK.2.2.2.1 d c (kk _ out h' hX H locs cells slots ls hH hL hc hs hv)
end
