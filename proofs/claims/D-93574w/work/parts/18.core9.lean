/-! SIM, part 9: exceptions made, thrown and caught; a method's entry -/
set_option maxRecDepth 100000
def okk : Cond → Bool
  | .castable _ _ => true
  | .declares _ => true
  | w => goodWord w
theorem GOK.t {G : GC} {l : Launch} (g : GOK G l) {U : State} (hW : (gZ G).WarmedH U.vm) {w : Cond} (hw : w ∈ lw_tbl) (hk : okk w = true) (a : Array Value) : w.before a U = true := by
  by_cases hg : goodWord w = true
  · exact g.w hW (lw_g hw hg) a
  · cases w with
    | castable C T => exact va_Nw.use rfl (g.nw hW hw)
    | declares x => exact va_Nw.use rfl (va_Nw.warmD hW (va_Nw.of rfl (g.1 _ hw)))
    | _ => exact absurd hk hg
def XE (own : String) (ik ic : Nat) (cls : String) (names : List String) : Prop := Bundle.fit cls = true ∧ (∀ n ∈ names, Bundle.fit n = true) ∧ Cond.classLink own ik cls ∈ lw_all ∧ Cond.initialized cls ∈ lw_all ∧ (∀ w ∈ vx_at0 own ic cls names, w ∈ lw_tbl ∧ okk w = true) ∧ ∀ w ∈ Cond.classLink own ik cls :: Cond.initialized cls :: vx_at0 own ic cls names, vx_ot w = true
theorem xe_in {L : List Cond} (ps : List Nat) (hp : L = ps.filterMap (fun i => lw_tbl[i]?)) (hk : L.all okk = true) : ∀ w ∈ L, w ∈ lw_tbl ∧ okk w = true := fun w hw => by
  refine ⟨?_, List.all_eq_true.mp hk w hw⟩
  rw [hp] at hw
  obtain ⟨i, -, hi⟩ := List.mem_filterMap.mp hw
  exact List.mem_of_getElem? hi
theorem xe_ot {L : List Cond} (h : L.all vx_ot = true) : ∀ w ∈ L, vx_ot w = true := fun w hw => List.all_eq_true.mp h w hw
/-- athrow of an object whose class is known -/
def xat (h : AH) (o : Option Nat) (ci : Nat) (Y : Nat → RS) : RS := match o with
  | none => none
  | some a => match h.1 a with
    | some (.inr (c, _)) => if c = ci then Y a else none
    | _ => none
section
variable {G : GC} {K : SC} {own nm : String} {cc : ByteArray} {nL : Nat} {ret : Option FieldType} {hh : List ExceptionTableEntry} {X : RS} {h : AH} {pc : Nat} {lv : List (Nat × Value)} {st : List Value}
theorem s_mk0 (hK : SOK G K own cc nL ret nm hh) {cls : String} {names : List String} {ik ic ci k : Nat} {T0 : u_T} (E : XE own ik ic cls names) (hci : CL[ci]? = some (cls, T0, 0))
    (d0 : decode cc pc = .ok (.new ik, 3)) (d3 : decode cc (pc + 3) = .ok (.dup, 1)) (d4 : decode cc (pc + 4) = .ok (.invokespecial ic, 3)) (hfr : names.length + 3 < (kR K).frames) (hk : RK st k) (hlo : k + (13 * (names.length + 1) + 42) ≤ (kR K).locals)
    {X : Option Nat → AH → RS} (kk : ∀ a h1, Sim G K nL (X a h1) h1 (pc + 7) lv (va_rf a :: st)) : Sim G K nL (xmk h ci X) h pc lv st := by
  intro out h' hX H locs cells slots ls hH hL hc hs hv
  unfold xmk at hX
  split at hX
  · rename_i ec
    have kk1 := kk (some (hsz h)) (hnew h (.inr (ci, [])) 6) out h' hX
    obtain ⟨p, l, e, R, s, m, args, below, meth, c⟩ := K
    obtain ⟨g, hW, hexec, hb, hml, hown, hret, hlocks, hname, htab, hB0, hZ0⟩ := hK
    dsimp only [kS, kR, kB, KW] at *
    obtain ⟨E1, E2, E3, E4, E5, E6⟩ := E
    have hat : ∀ w ∈ vx_at0 own ic cls names, w.before args s = true := fun w hw => g.t hW (E5 w hw).1 (E5 w hw).2 _
    have hl : l.stackTraces = false := g.2.2.2.2.1
    have hsz : ls.size = c.maxLocals := by rw [hml]; exact hv.1
    intro T hT X
    subst hT
    have htr : e.platform.stackTraces = false := (show e.platform.stackTraces = l.stackTraces by rw [X.admits.platform]).trans hl
    have Y := vx_rebase X (R' := { frames := R.frames, locals := R.locals, cells := 1, slots := 6 }) (Nat.le_refl _) (Nat.le_refl _) (by show cells + 1 ≤ R.cells; omega) (by show slots + 6 ≤ R.slots; omega)
    obtain ⟨s', hA'⟩ : ∃ z, z = (T.setVm s.vm).setFrames (.invoking m args :: below) := ⟨_, rfl⟩
    rw [← hA'] at Y
    have hvm : s'.vm = s.vm := by rw [hA']; rfl
    have hhp : s'.heap = T.heap := by rw [hA']; rfl
    have hW0 : s.WarmedH s'.vm := by rw [hvm]; exact State.WarmedH.refl s
    have hat' : ∀ w ∈ vx_at0 own ic cls names, w.before args s' = true := fun w hw => vx_ot_at hW0 hvm.symm (E6 w (List.mem_cons_of_mem _ (List.mem_cons_of_mem _ hw))) (hat w hw)
    have hk' : (Cond.classLink own ik cls).before args s' = true := vx_ot_at hW0 hvm.symm (E6 _ List.mem_cons_self) (g.w hW E3 args)
    have hini' : (Cond.initialized cls).before args s' = true := vx_ot_at hW0 hvm.symm (E6 _ (List.mem_cons_of_mem _ List.mem_cons_self)) (g.w hW E4 args)
    have hZT : ∀ a : Nat, a < (gZ G).heap.size → ¬ gB G ≤ a → T.heap[a]? = (gZ G).heap[a]? := fun a h1 _ => hH.2.1 a h1
    have hU' : vx_Zq Bundle.tN "UNASSIGNED_STACK" Bundle.steD (fun a => gB G ≤ a) s' s'.heap := by rw [hhp]; exact vx_Zq.moved (hW.trans hW0).alike (g.2.2.2.2.2.1.kept hZT)
    have hN' : vx_Zq Bundle.tN "SUPPRESSED_SENTINEL" Bundle.listD (fun a => gB G ≤ a) s' s'.heap := by rw [hhp]; exact vx_Zq.moved (hW.trans hW0).alike (g.2.2.2.2.2.2.1.kept hZT)
    have h9 : ∀ w ∈ Bundle.ownAtoms0 own ic cls names, w.before args s' = true := vx_own hat' (vx_isRefq hU'.1) (vx_isRefq hN'.1) hU'.2.word hN'.2.word
    have hown' : s'.vm.findClass own = some m.cls := by rw [hvm]; exact hown
    have hins : (Cond.instantiable cls 6).before args s' = true := h9 _ (by simp [Bundle.ownAtoms0])
    obtain ⟨vm₁, cX, kX, hfX, hkX, -, -, X₁, st1⟩ := Y.newCold hexec (own := own) (C := cls) (index := ik) (n := 6) hown' hk' hins hini'
      (g := F0 m pc ls st) rfl (by rw [hb]; exact d0) (Nat.le_refl _) (Nat.le_refl _)
    generalize hT1 : (T.setVm vm₁).pushCell { cls := cX, slots := kX.instanceTypes.map defaultValue, vm := .none } = T1 at X₁ st1
    have hcat : (Value.ref T.heap.size).category = 1 := rfl
    have hcellA : T1.heap[T.heap.size]? = some (freshCell cX kX) := by rw [← hT1]; exact State.heap_pushCell_size _ _
    have d3' : decode c.code (pc + 3) = .ok (.dup, 1) := by rw [hb]; exact d3
    obtain ⟨V, ce, L, Z, hL9, hlt, hcl9, hvm9, st9⟩ := vx_ctorMade0 X₁ hexec htr (own := own) (cls := cls) (names := names) (ic := ic) hown' E1 E2 h9 (fun x hx => nomatch hx) hfX hkX hcellA (by rw [hhp]; exact Nat.le_refl _)
      (g := { method := m, pc := pc + 4, locals := ls, stack := .ref T.heap.size :: .ref T.heap.size :: st, locked := none }) rfl hsz (rest := st) rfl
      (by rw [hb]; exact d4) hfr (by simp only [List.map_cons, List.sum_cons, hcat]; rw [show (st.map fun v => v.category).sum = k from hk]; omega)
    have Z0 := Stand.forget (locs := []) Z (fun y hy => by rw [hL9 y hy, hhp]; exact Nat.le_refl _)
    obtain ⟨f1, f2⟩ := vx_frame Z0.same
    have f3 : (V.setCell T.heap.size ce).heap.size ≤ s'.heap.size + _ := Z0.heapSize
    rw [hhp] at f1 f2 f3
    have hh : (V.setCell T.heap.size ce).heap[T.heap.size]? = some ce := heapAt_setCell_self (s := V) ce hlt
    have hz : (V.setCell T.heap.size ce).heap.size = T.heap.size + 1 := by
      have := (Array.getElem?_eq_some_iff.mp hh).1
      have f3 : (V.setCell T.heap.size ce).heap.size ≤ T.heap.size + (0 + 1) := f3
      omega
    have hcid : ce.cls = (gD G).1 ci := by
      rw [hcl9]
      have h1 := ((g.K hW).1 ci _ hci).2.1
      rw [hvm] at hfX
      exact Option.some.inj (hfX.symm.trans h1)
    subst hA'
    have X5 := vx_back9 X Y Z0
    have X6 : Stand p l e R s m args below meth c (V.setCell T.heap.size ce) locs (cells + 1) (slots + 6) := { X5 with same := X5.same.mono (by omega) (by omega) }
    have hHn : HP G (hnew h (.inr (ci, [])) 6) (V.setCell T.heap.size ce).heap := hH.new 6 ⟨_, hci, ce, hh, hcid, hvm9, fun k hk => absurd hk (Nat.not_lt_zero k)⟩ hz (fun q hq => f2 q hq (fun z hz => nomatch hz))
    obtain ⟨t, a1, b1⟩ := kk1 (V.setCell T.heap.size ce).heap locs (cells + 1) (slots + 6) ls hHn hL (by show cells + 1 + (hcl h - 1) = R.cells; omega) (by show slots + 6 + (hsl h - 6) = R.slots; omega) hv _ rfl X6
    refine ⟨t, st1 _ ?_, b1⟩
    show Steps p.tables e below (T1.setTop { method := m, pc := pc + 3, locals := ls, stack := .ref T.heap.size :: st, locked := none }) _
    jvm_step X₁.here [X₁.here.top, hexec, d3', Value.category]
    refine st9 _ ?_
    rw [← hH.2.2.1] at a1
    exact a1
  · cases hX
theorem s_athrow (hK : SOK G K own cc nL ret nm hh) {o : Option Nat} {ci : Nat} {rc : vw_C} (hci : CL[ci]? = some rc) (d : decode cc pc = .ok (.athrow, 1)) {Y : Nat → RS} (ky : ∀ q, SimT G K nL (Y q) h rc.1 q pc lv st) : Sim G K nL (xat h o ci Y) h pc lv (va_rf o :: st) := by
  intro out h' hX H locs cells slots ls hH hL hc hs hv
  unfold xat at hX
  split at hX
  · cases hX
  · rename_i a
    split at hX
    · rename_i c fs e
      split at hX
      · rename_i ec
        subst ec
        obtain ⟨r', h1, ce, g1, g2, g3, -⟩ := (hH.1 a _ e).2.1
        cases h1.symm.trans hci
        exact vx_athrow hK.2.2.1 hK.2.2.2.1 d (ky a out h' hX H locs cells slots ls hH hL hc hs hv ⟨ce, g1, g3, by rw [g2]; exact ((hK.1.K hK.2.1).1 c rc hci).2.1⟩)
      · cases hX
    · cases hX
/-- the row x of the table takes it; the rows ahead don't -/
theorem st_catch (hK : SOK G K own cc nL ret nm hh) {E name : String} {q : Nat} {rest : List Value} (pre : List ExceptionTableEntry) (x : ExceptionTableEntry) (suf : List ExceptionTableEntry) (hsplit : hh = pre ++ x :: suf)
    (hpass : ∀ z ∈ pre, covers z pc = false ∨ (z.catchType ≠ 0 ∧ ∃ nm : String, Cond.classLink own z.catchType nm ∈ lw_all ∧ va_Nc E nm (gZ G))) (hx : covers x pc = true) (h0 : x.catchType ≠ 0) (hlink : Cond.classLink own x.catchType name ∈ lw_all) (hcast : Cond.castable E name ∈ lw_tbl)
    (kk : Sim G K nL X h x.handlerPc lv [va_rf (some q)]) : SimT G K nL X h E q pc lv rest := by
  intro out h' hX H locs cells slots ls hH hL hc hs hv hce
  obtain ⟨ce, c1, c2, c3⟩ := hce
  exact vx_catch hK.2.2.2.2.2.1 pre x suf (by rw [hK.2.2.2.2.2.2.2.2.2.1]; exact hsplit) (fun z hz => by
    rcases hpass z hz with h | ⟨z0, nm, z1, z2⟩
    · exact Or.inl h
    · exact Or.inr ⟨z0, nm, hK.1.w hK.2.1 z1 _, z2.moved hK.2.1.alike⟩) hx h0 (hK.1.w hK.2.1 hlink _) (va_Nw.use rfl (hK.1.nw hK.2.1 hcast)) c1 c2 c3 (kk out h' hX H locs cells slots ls hH hL hc hs hv)
/-- the row x takes anything -/
theorem st_any (hK : SOK G K own cc nL ret nm hh) {E : String} {q : Nat} {rest : List Value} (pre : List ExceptionTableEntry) (x : ExceptionTableEntry) (suf : List ExceptionTableEntry) (hsplit : hh = pre ++ x :: suf)
    (hpass : ∀ z ∈ pre, covers z pc = false ∨ (z.catchType ≠ 0 ∧ ∃ nm : String, Cond.classLink own z.catchType nm ∈ lw_all ∧ va_Nc E nm (gZ G))) (hx : covers x pc = true) (h0 : x.catchType = 0)
    (kk : Sim G K nL X h x.handlerPc lv [va_rf (some q)]) : SimT G K nL X h E q pc lv rest := by
  intro out h' hX H locs cells slots ls hH hL hc hs hv hce T hT Xs
  obtain ⟨ce, c1, c2, c3⟩ := hce
  have hpl : K.2.2.1.platform.magicAccessors = ({} : Platform).magicAccessors := by rw [Xs.admits.platform]
  obtain ⟨vm', X', st⟩ := Xs.thenCaughtThrough q (g := F0 K.2.2.2.2.2.1 pc ls rest) rfl (Steps.refl _) (by rw [hT]; exact c1) (by rw [c2]; rfl) (by obtain ⟨k9, h9, -⟩ := Vm.findClass_spec c3; exact ⟨k9, h9⟩) pre x suf (by rw [hK.2.2.2.2.2.2.2.2.2.1]; exact hsplit)
    (fun z hz => by
      rcases hpass z hz with h | ⟨hz0, nm, hl1, hn1⟩
      · exact Or.inl h
      · obtain ⟨c6, hc6, hcl6⟩ := Cond.classLink_spec hK.2.2.2.2.2.1 (hK.1.w hK.2.1 hl1 K.2.2.2.2.2.2.1) K.2.2.1.platform hpl
        obtain ⟨a8, b8, h1, h2, h3⟩ := hn1.moved hK.2.1.alike
        cases Option.some.inj (h1.symm.trans c3)
        cases Option.some.inj (h2.symm.trans hc6)
        exact Or.inr ⟨hz0, _, hcl6, h3⟩) hx (Or.inl h0)
  obtain ⟨t, a1, b1⟩ := kk out h' hX H locs cells slots ls hH hL hc hs hv (T.setVm vm') hT X'
  exact ⟨t, st.trans a1, b1⟩
theorem st_ite {E : String} {q : Nat} {rest : List Value} {c : Prop} {dc : Decidable c} {A B : RS} (kt : c → SimT G K nL A h E q pc lv rest) (kf : ¬ c → SimT G K nL B h E q pc lv rest) : SimT G K nL (@ite RS c dc A B) h E q pc lv rest := by
  by_cases hc : c
  · rw [if_pos hc]; exact kt hc
  · rw [if_neg hc]; exact kf hc
end
/-- a method's contract out of its walk -/
theorem CT.of {G : GC} {l : Launch} (g : GOK G l) {y : MethodName} {cc : ByteArray} {maxL fr lo : Nat} {ret : Option FieldType} (hy : plainName y.cls = true) {vs : List Value} (hlen : (lg_sl vs).length ≤ maxL) {r : RS} {h : AH}
    (body : ∀ K : SC, K.2.1 = l → SOK G K y.cls cc maxL ret y.name [] → fr ≤ (kR K).frames → lo ≤ (kR K).locals → Sim G K maxL r h 0 (lv_args 0 vs) []) : CT G l y (Cond.code y cc maxL ret) fr lo vs r h := by
  intro out h' hr
  refine MetFree.of_bodyS (code := cc) (maxLocals := maxL) (ret := ret) hy ?_ ?_
  · intro args s m h hn
    obtain ⟨meth, c, h1, h2, h3, h4, h5, h6, -, -⟩ := Cond.code_spec hn (atoms_spec (ws := [Cond.code y cc maxL ret]) h _ List.mem_cons_self)
    exact ⟨meth, c, h1, h2, h3, h4, h5, h6⟩
  · intro p e s m args below meth c s₁ B hml hP _
    obtain ⟨rfl, hHP, hZW⟩ := hP
    have hh0 : s₁.heap = s.heap := by rw [B.state]; rfl
    have ht : c.exceptionTable.toList = [] := by
      obtain ⟨meth9, c9, h1, h2, -, -, -, -, h7, -⟩ := Cond.code_spec B.named (atoms_spec (ws := [Cond.code y cc maxL ret]) B.pre _ List.mem_cons_self)
      cases Option.some.inj (h1.symm.trans B.method)
      cases Option.some.inj (h2.symm.trans (Stand.of_body B).code)
      rw [Array.isEmpty_iff.mp h7]
    have hl := lv_entry vs (n := maxL) hlen
    have hB := hHP.2.2
    obtain ⟨t, a1, o, b1, b2, b3⟩ := body (p, l, e, { frames := fr, cells := hcl h, slots := hsl h, locals := lo }, s, m, vs.toArray, below, meth, c) rfl ⟨g, hZW, B.exec, B.bytes, hml, findClass_of_methodNamed B.named, B.returns, B.notSynchronized, (name_of_methodNamed B.named B.method).1, ht, by rw [show (kS (p, l, e, _, s, m, vs.toArray, below, meth, c) : State).heap.size = hsz h from hB.1]; exact hB.2.1, hHP.2.1⟩ (Nat.le_refl _) (Nat.le_refl _) out h' hr s.heap [] 0 0 _ hHP (fun q hq => by cases hq) (Nat.zero_add _) (Nat.zero_add _) hl s₁ hh0 (Stand.of_body B)
    rw [← lg_entry_eq] at a1
    exact ⟨t, o, a1, b1, b2, b3⟩
theorem CT.ofH {G : GC} {l : Launch} (g : GOK G l) {y : MethodName} {cc : ByteArray} {maxL fr lo : Nat} {ret : Option FieldType} {hh : List (Nat × Nat × Nat × Nat)} (hy : plainName y.cls = true) {vs : List Value} (hlen : (lg_sl vs).length ≤ maxL) {r : RS} {h : AH}
    (body : ∀ K : SC, K.2.1 = l → SOK G K y.cls cc maxL ret y.name (tableOf hh) → fr ≤ (kR K).frames → lo ≤ (kR K).locals → Sim G K maxL r h 0 (lv_args 0 vs) []) : CT G l y (Cond.codeWith y cc maxL ret hh) fr lo vs r h := by
  intro out h' hr
  refine MetFree.of_bodyS (code := cc) (maxLocals := maxL) (ret := ret) hy ?_ ?_
  · intro args s m h hn
    obtain ⟨m9, meth, c, hn9, h1, h2, h3, h4, -, h5, h6, -⟩ := Cond.codeWith_spec (atoms_spec (ws := [Cond.codeWith y cc maxL ret hh]) h _ List.mem_cons_self)
    cases hn.symm.trans hn9
    exact ⟨meth, c, h1, h2, h3, h4, h5, h6⟩
  · intro p e s m args below meth c s₁ B hml hP _
    obtain ⟨rfl, hHP, hZW⟩ := hP
    have hh0 : s₁.heap = s.heap := by rw [B.state]; rfl
    have ht : c.exceptionTable.toList = tableOf hh := vx_table (x := y) B (atoms_spec (ws := [Cond.codeWith y cc maxL ret hh]) B.pre _ List.mem_cons_self)
    have hl := lv_entry vs (n := maxL) hlen
    have hB := hHP.2.2
    obtain ⟨t, a1, o, b1, b2, b3⟩ := body (p, l, e, { frames := fr, cells := hcl h, slots := hsl h, locals := lo }, s, m, vs.toArray, below, meth, c) rfl ⟨g, hZW, B.exec, B.bytes, hml, findClass_of_methodNamed B.named, B.returns, B.notSynchronized, (name_of_methodNamed B.named B.method).1, ht, by rw [show (kS (p, l, e, _, s, m, vs.toArray, below, meth, c) : State).heap.size = hsz h from hB.1]; exact hB.2.1, hHP.2.1⟩ (Nat.le_refl _) (Nat.le_refl _) out h' hr s.heap [] 0 0 _ hHP (fun q hq => by cases hq) (Nat.zero_add _) (Nat.zero_add _) hl s₁ hh0 (Stand.of_body B)
    rw [← lg_entry_eq] at a1
    exact ⟨t, o, a1, b1, b2, b3⟩
