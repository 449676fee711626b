/-! THE CLAIM OUT OF ONE WALK OF THE LAW'S BODY. Your part is whole_start (and what it stands on); all else here is the same for every law, but numbers. -/
def R_law : String := "CodeRecoveryLaw"
def lw_P (b : Addr) (xs : List Int32) (args : Array Value) (s : State) : Prop := args = #[.ref b] ∧ s.IntsAt b xs ∧ xs.length ≤ 192 ∧ (Jvm.Cond.and given_1 narrow_1).before args s = true
def lw_Q (_ : Array Value) (s : State) (o : Outcome) (t : State) : Prop := o = .returned (some (.int 1)) ∧ Framed s o t [] 603072 7157866
def lw_Z (below : List Frame) (a : Array Value) (s : State) : State → Prop := fun t => ∃ o, t.status = .running ∧ Ended t below o ∧ lw_Q a s o t
/-- the law's own end, with 1 on the stack, nothing written that was there before, its room as the claim has it -/
theorem lw_ret {p : Program} {l : Launch} {e : Env} {s : State} {m : MethodId} {below : List Frame} {meth : Method} {c : Code} {b : Nat} (hx : p.tables.exec = Jvm.exec) (hb : c.code = code) (hr : meth.sig.returnType = ret) (hlocks : meth.locks = false) {pc : Nat} {H : Heap} {ls : Array Slot} (hdg : decode code pc = .ok (.ireturn, 1)) : W p l e room_1 s m #[Value.ref b] below meth c H [] 603072 7157866 (lw_Z below #[Value.ref b] s) (F0 m pc ls [.int 1]) := by
  intro T hT X
  obtain ⟨fs, hret, hrun, hended, hW, hframe⟩ := X.leave (v := some (.int 1)) (hlocks := hlocks) (fun h => by rw [hr] at h; cases h)
  have hmeth' : T.vm.method? m = some meth := X.method'
  refine ⟨T.setFrames fs, ?_, .returned (some (.int 1)), hrun, hended, rfl, ⟨_, rfl⟩, hW, hframe⟩
  jvm_step X.here [X.here.top, hx, hb, hdg, hmeth', hr, ret, narrow_b1]
  (try refine ⟨rfl, ?_⟩); (try refine ⟨rfl, ?_⟩)
  first | (intro acts; rw [hret _ acts rfl rfl rfl]) | rw [hret _ _ rfl rfl rfl]
  exact Steps.refl _
/-- what holds at the law's entry: the machine, the code, the tables' words (any of lw_tbl by 'hts w (by decide +kernel)'), the script of L ints xs at the cell b, what the Statement gives of the start (any of its parts by flat_of_before) -/
def lw_At (p : Program) (s : State) (m : MethodId) (meth : Method) (c : Code) (b L : Nat) (xs : Nat → Int32) : Prop :=
  p.tables.exec = Jvm.exec ∧ c.code = code ∧ meth.sig.returnType = ret ∧ c.maxLocals = 9 ∧ s.vm.findClass R_law = some m.cls ∧ (∀ w ∈ lw_tbl, w.before #[Value.ref b] s = true) ∧ va_X b L xs s s.heap ∧ b < s.heap.size ∧ meth.locks = false ∧ (Jvm.Cond.and given_1 narrow_1).before #[Value.ref b] s = true
/-! the start: what the Statement gives makes GOK -/
set_option maxRecDepth 100000
/-- what the pure level knows of the first heap -/
def H0 (h : AH) (b L : Nat) (xs : Nat → Int32) (B : Nat) (tC tD mi : Nat) (ad : Nat → Nat) : Prop :=
  (∀ a, h.1 a = none) ∧ hsz h = B ∧ hcl h = 603072 ∧ hsl h = 7157866 ∧
  hro h b = some (.inl (7, L, .inl xs)) ∧ hst h 0 = .ref tC ∧ hro h tC = some (.inl (8, 256, .inr (.inr (.inr (.inr (fun j => some (ad j))))))) ∧ (∀ j, j < 256 → hro h (ad j) = some (.inr (11, [.int (vb_c j)]))) ∧
  hst h 1 = .int 127 ∧ hst h 2 = .ref tD ∧ hro h tD = some (.inl (9, 0, .inr (.inr (.inr (.inr (fun _ => none)))))) ∧ hst h 3 = .int 1 ∧ (hst h 4 = .null ∨ ∃ t, hst h 4 = .ref t) ∧ (hst h 5 = .null ∨ ∃ t, hst h 5 = .ref t) ∧ hst h 10 = .ref mi ∧
  ∀ a e, hro h a = some e → a < B
theorem u_kn0 {s : State} {args : Array Value} (ht0 : ∀ w ∈ lw_tbl, w.before args s = true) {C : String} {T : u_T} {N n : Nat} (hin : ∀ w ∈ u_ws C T N, w ∈ lw_all) (hi : Cond.instantiable C n ∈ lw_all) : ∃ ci : ClassId × (Nat → Nat), u_Kn s C T N ci.1 ci.2 := by
  obtain ⟨c, i, h⟩ := u_known (C := C) (T := T) (N := N) (n := n) ht0 (fun w h => lw_all_tbl (hin w h)) (ht0 _ (lw_all_tbl hi))
  exact ⟨(c, i), h⟩
theorem u_none {C : String} {T : u_T} : ∀ w ∈ u_ws C T 0, w ∈ lw_all := fun w h => by cases h
theorem kn_all {s : State} {args : Array Value} (ht0 : ∀ w ∈ lw_tbl, w.before args s = true) : ∃ D : va_G, ∀ (k : Nat) (q : vw_C), CL[k]? = some q → u_Kn s q.1 q.2.1 q.2.2 (D.1 k) (D.2 k) := by
  have h : ∀ k : Nat, ∃ ci : ClassId × (Nat → Nat), ∀ q : vw_C, CL[k]? = some q → u_Kn s q.1 q.2.1 q.2.2 ci.1 ci.2 := by
    intro k
    have mk : ∀ (q0 : vw_C), CL[k]? = some q0 → (∃ ci : ClassId × (Nat → Nat), u_Kn s q0.1 q0.2.1 q0.2.2 ci.1 ci.2) → ∃ ci : ClassId × (Nat → Nat), ∀ q : vw_C, CL[k]? = some q → u_Kn s q.1 q.2.1 q.2.2 ci.1 ci.2 := by
      intro q0 h0 ⟨ci, hci⟩
      exact ⟨ci, fun q hq => by cases h0.symm.trans hq; exact hci⟩
    match k with
    | 0 => exact mk _ rfl (u_kn0 ht0 in_X1 q119)
    | 1 => exact mk _ rfl (u_kn0 ht0 in_X2 q127)
    | 2 => exact mk _ rfl (u_kn0 ht0 in_X3 q1679)
    | 3 => exact mk _ rfl (u_kn0 ht0 in_X4 q1179)
    | 4 => exact mk _ rfl (u_kn0 ht0 in_X5 q202)
    | 5 => exact mk _ rfl (u_kn0 ht0 in_X6 q229)
    | 6 => exact mk _ rfl (u_kn0 ht0 in_X7 q922)
    | 7 => exact mk _ rfl (u_kn0 ht0 in_X8 q1000)
    | 8 => exact mk _ rfl (u_kn0 ht0 in_X9 q1069)
    | 9 => exact mk _ rfl (u_kn0 ht0 in_X10 q1525)
    | 10 => exact mk _ rfl (u_kn0 ht0 in_J7 q235)
    | 11 => exact mk _ rfl (u_kn0 ht0 in_J9 q296)
    | 12 => exact mk _ rfl (u_kn0 ht0 in_J19 q208)
    | 13 => exact mk _ rfl (u_kn0 ht0 in_J20 q264)
    | 14 => exact mk _ rfl (u_kn0 ht0 u_none q710)
    | 15 => exact mk _ rfl (u_kn0 ht0 u_none q325)
    | 16 => exact mk _ rfl (u_kn0 ht0 u_none q494)
    | 17 => exact mk _ rfl (u_kn0 ht0 u_none q1302)
    | 18 => exact mk _ rfl (u_kn0 ht0 u_none q456)
    | 19 => exact mk _ rfl (u_kn0 ht0 u_none q1631)
    | k + 20 => exact ⟨(0, fun _ => 0), fun q hq => by simp [CL] at hq⟩
  refine ⟨(fun k => (Classical.choose (h k)).1, fun k => (Classical.choose (h k)).2), fun k q hq => Classical.choose_spec (h k) q hq⟩
theorem ar_all {s : State} {args : Array Value} (ht0 : ∀ w ∈ lw_tbl, w.before args s = true) : ∃ ta : Nat → ClassId, ∀ (k : Nat) (ty : FieldType), ([.int, .boolean, .char, .long, .double, .object "java/lang/Object"] : List FieldType)[k]? = some ty → ArrOfT s (ta k) ty ∧ va_RA s (ta k) ty := by
  have pr : ∀ ty : FieldType, Cond.arrayClass ty ∈ lw_all → (∀ cA, s.vm.findClass ("[" ++ ty.toString) = some cA → va_RA s cA ty) → ∃ cA : ClassId, ArrOfT s cA ty ∧ va_RA s cA ty := by
    intro ty hw hra
    obtain ⟨c, k, comp, h1, h2, h3⟩ := Cond.arrayClass_spec (ht0 _ (lw_all_tbl hw))
    exact ⟨c, fun n z => ⟨fun k h => (by cases h), k, h2, comp, h3⟩, hra c h1⟩
  have ob : ∃ cA : ClassId, ArrOfT s cA (.object "java/lang/Object") ∧ va_RA s cA (.object "java/lang/Object") := by
    obtain ⟨comp, c, k, h1, h2, h3, h4, h5⟩ := Cond.arrayOver_spec (ht0 _ q217)
    exact ⟨c, fun n z => ⟨fun k h => (by cases h), k, h3, comp, h4⟩, k, comp, h3, h4, h1, h5⟩
  have h : ∀ k : Nat, ∃ cA : ClassId, ∀ ty : FieldType, ([.int, .boolean, .char, .long, .double, .object "java/lang/Object"] : List FieldType)[k]? = some ty → ArrOfT s cA ty ∧ va_RA s cA ty := by
    intro k
    have mk : ∀ (t0 : FieldType), ([.int, .boolean, .char, .long, .double, .object "java/lang/Object"] : List FieldType)[k]? = some t0 → (∃ cA : ClassId, ArrOfT s cA t0 ∧ va_RA s cA t0) → ∃ cA : ClassId, ∀ ty : FieldType, ([.int, .boolean, .char, .long, .double, .object "java/lang/Object"] : List FieldType)[k]? = some ty → ArrOfT s cA ty ∧ va_RA s cA ty := by
      intro t0 h0 ⟨ci, hci⟩
      exact ⟨ci, fun q hq => by cases h0.symm.trans hq; exact hci⟩
    match k with
    | 0 => exact mk _ rfl (pr _ q149 (fun _ z => z))
    | 1 => exact mk _ rfl (pr _ q1835 (fun _ z => z))
    | 2 => exact mk _ rfl (pr _ q172 (fun _ z => z))
    | 3 => exact mk _ rfl (pr _ q286 (fun _ z => z))
    | 4 => exact mk _ rfl (pr _ q2177 (fun _ z => z))
    | 5 => exact mk _ rfl ob
    | k + 6 => exact ⟨0, fun q hq => by simp at hq⟩
  exact ⟨fun k => Classical.choose (h k), fun k ty hk => Classical.choose_spec (h k) ty hk⟩
theorem isArr_ty {U : State} {cell : Cell} {t1 t2 : FieldType} (h1 : U.isArrayOf cell t1) (h2 : U.isArrayOf cell t2) : t1 = t2 := by
  obtain ⟨-, k, hk, comp, hkind⟩ := h1
  obtain ⟨-, k', hk', comp', hkind'⟩ := h2
  cases hk.symm.trans hk'
  have := hkind.symm.trans hkind'
  cases this
  rfl
theorem ro_ex {s : State} {b L : Nat} {xs : Nat → Int32} (ht0 : ∀ w ∈ lw_tbl, w.before #[Value.ref b] s = true) (hX : va_X b L xs s s.heap) (hb : b < s.heap.size) (hgv : (Jvm.Cond.and given_1 narrow_1).before #[Value.ref b] s = true) (D : va_G) (hD : ∀ (k : Nat) (q : vw_C), CL[k]? = some q → u_Kn s q.1 q.2.1 q.2.2 (D.1 k) (D.2 k)) (ta : Nat → ClassId) :
    ∃ (ro : Nat → Option AE) (st : Nat → Value) (tC tD mi : Nat) (ad : Nat → Nat), (∀ (a : Nat) (e : AE), ro a = some e → a < s.heap.size ∧ roA (D, ta, s, #[Value.ref b], ro, st) a e s s.heap) ∧
      (∀ (k : Nat) (q : String × String × String), SL[k]? = some q → va_Z q.1 q.2.1 q.2.2 (st k) (fun a => s.heap.size ≤ a) s s.heap) ∧ va_Mi "[Ljava/lang/Object;" mi s ∧
      ro b = some (.inl (7, L, .inl xs)) ∧ st 0 = .ref tC ∧ ro tC = some (.inl (8, 256, .inr (.inr (.inr (.inr (fun j => some (ad j))))))) ∧ (∀ j, j < 256 → ro (ad j) = some (.inr (11, [.int (vb_c j)]))) ∧
      st 1 = .int 127 ∧ st 2 = .ref tD ∧ ro tD = some (.inl (9, 0, .inr (.inr (.inr (.inr (fun _ => none)))))) ∧ st 3 = .int 1 ∧ (st 4 = .null ∨ ∃ t, st 4 = .ref t) ∧ (st 5 = .null ∨ ∃ t, st 5 = .ref t) ∧ st 10 = .ref mi := by
  have hs := flat_of_before _ hgv
  have hA : ∀ a : Nat, a < s.heap.size → ¬ s.heap.size ≤ a := fun a h => Nat.not_le.mpr h
  have hlen : (Term.length (.static "java/lang/Integer$IntegerCache" "cache" "[Ljava/lang/Integer;")).eval #[Value.ref b] s none [] s = some (.int (Int32.ofNat 256)) := va_eqt (z := 256) (hs _ (by decide +kernel))
  obtain ⟨ad, hC, hel⟩ := vb_Cof (A := fun a => s.heap.size ≤ a) (st := .static "java/lang/Integer$IntegerCache" "cache" "[Ljava/lang/Integer;") rfl hlen (hs _ (by decide +kernel)) hA
  obtain ⟨tC, htC, hTC⟩ := va_Tof (ty := .object "java/lang/Integer") (f := fun j => va_rf (some (ad j))) (A := fun a => s.heap.size ≤ a) (N := 256) (by decide) (hs _ (by decide +kernel)) hlen (fun j hj => hel j hj) hA
  obtain ⟨tD, htD, hTD⟩ := va_Tof (tm := .static "java/util/ArrayList" "DEFAULTCAPACITY_EMPTY_ELEMENTDATA" "[Ljava/lang/Object;") (ty := .object "java/lang/Object") (f := fun _ => va_rf none) (A := fun a => s.heap.size ≤ a) (N := 0) (by decide) (hs _ (by decide +kernel)) (va_eqt (z := 0) (hs _ (by decide +kernel))) (fun j hj => absurd hj (Nat.not_lt_zero j)) hA
  obtain ⟨mi, hmi⟩ := va_Mi.of (C := "[Ljava/lang/Object;") (hs _ (by decide +kernel))
  have hU : va_Zq "java/lang/Throwable" "UNASSIGNED_STACK" "[Ljava/lang/StackTraceElement;" (fun a => s.heap.size ≤ a) s s.heap := va_Zqof (ht0 _ q351) (ht0 _ (lw_all_tbl q81)) (hs _ (by decide +kernel)) hA
  have hS : va_Zq "java/lang/Throwable" "SUPPRESSED_SENTINEL" "Ljava/util/List;" (fun a => s.heap.size ≤ a) s s.heap := va_Zqof (ht0 _ q353) (ht0 _ (lw_all_tbl q81)) (hs _ (by decide +kernel)) hA
  obtain ⟨u4, hu4, hz4⟩ : ∃ v : Value, (v = .null ∨ ∃ t, v = .ref t) ∧ va_Z "java/lang/Throwable" "UNASSIGNED_STACK" "[Ljava/lang/StackTraceElement;" v (fun a => s.heap.size ≤ a) s s.heap := by
    rcases hU with h | ⟨t, h⟩
    · exact ⟨_, Or.inl rfl, h⟩
    · exact ⟨_, Or.inr ⟨t, rfl⟩, h⟩
  obtain ⟨u5, hu5, hz5⟩ : ∃ v : Value, (v = .null ∨ ∃ t, v = .ref t) ∧ va_Z "java/lang/Throwable" "SUPPRESSED_SENTINEL" "Ljava/util/List;" v (fun a => s.heap.size ≤ a) s s.heap := by
    rcases hS with h | ⟨t, h⟩
    · exact ⟨_, Or.inl rfl, h⟩
    · exact ⟨_, Or.inr ⟨t, rfl⟩, h⟩
  have hTb : va_T .int b L (fun j => .int (xs j)) (fun a => s.heap.size ≤ a) s s.heap := by
    obtain ⟨scr, h1, h2, h3, h4, h5⟩ := hX
    exact ⟨scr, h1, h2, h3, by omega, by rw [h4], h5, hA b hb⟩
  have hI := hD 11 _ rfl
  have hint : ∀ j, j < 256 → ∃ cell : Cell, s.heap[ad j]? = some cell ∧ cell.cls = D.1 11 ∧ cell.vm ≠ .unknown ∧ cell.vm.isStatics = false ∧ cell.slots[D.2 11 0]? = some (.int (vb_c j)) := by
    intro j hj
    obtain ⟨cell, h1, h2, h3, h4⟩ := hC.1 j hj
    obtain ⟨cf, k, i, f, cell', g1, g2, g3, g4, g5, g6⟩ := hC.2 j hj
    cases h1.symm.trans g3
    obtain ⟨cf', kf', fi', fd', e1, e2⟩ := hI.1 0 (by decide)
    have e1 : s.fieldFound? "java/lang/Integer" "value" "I" = some (cf', kf', fi', fd') := e1
    have e0 := g1.symm.trans e1
    simp only [Option.some.injEq, Prod.mk.injEq] at e0
    refine ⟨cell, h1, Option.some.inj (h3.symm.trans hI.2.1), g4, h2, ?_⟩
    have : f = fd' := e0.2.2.2
    rw [← e2, ← this]
    exact g5
  have no_int : ∀ j, j < 256 → ∀ {ty : FieldType} {N : Nat} {f : Nat → Value} {t : Nat}, va_T ty t N f (fun a => s.heap.size ≤ a) s s.heap → ad j ≠ t := by
    intro j hj ty N f t hT e
    obtain ⟨cell, h1, h2, -, -, -⟩ := hint j hj
    obtain ⟨cell', g1, g2, -⟩ := hT
    rw [e] at h1
    cases h1.symm.trans g1
    obtain ⟨-, k, hk, comp, hkind⟩ := g2
    obtain ⟨-, kC, hkC, hkindC⟩ := hI.2
    rw [h2] at hk
    cases hk.symm.trans hkC
    rw [hkind] at hkindC
    cases hkindC
  have no_ty : ∀ {t1 t2 : FieldType} {N1 N2 : Nat} {f1 f2 : Nat → Value} {x y : Nat}, t1 ≠ t2 → va_T t1 x N1 f1 (fun a => s.heap.size ≤ a) s s.heap → va_T t2 y N2 f2 (fun a => s.heap.size ≤ a) s s.heap → x ≠ y := by
    intro t1 t2 N1 N2 f1 f2 x y hne h1 h2 e
    obtain ⟨c1, g1, g2, -⟩ := h1
    obtain ⟨c2, k1, k2, -⟩ := h2
    rw [e] at g1
    cases g1.symm.trans k1
    exact hne (isArr_ty g2 k2)
  have n1 : tC ≠ b := no_ty (by decide) hTC hTb
  have n2 : tD ≠ b := no_ty (by decide) hTD hTb
  have n3 : tD ≠ tC := no_ty (by decide) hTD hTC
  have hlt : ∀ {ty : FieldType} {N : Nat} {f : Nat → Value} {t : Nat}, va_T ty t N f (fun a => s.heap.size ≤ a) s s.heap → t < s.heap.size := by
    intro ty N f t h9
    obtain ⟨c1, g1, -⟩ := h9
    exact (Array.getElem?_eq_some_iff.mp g1).1
  have hsame : ∀ i j, i < 256 → j < 256 → ad i = ad j → vb_c i = vb_c j := by
    intro i j hi hj e
    obtain ⟨c1, h1, -, -, -, h5⟩ := hint i hi
    obtain ⟨c2, g1, -, -, -, g5⟩ := hint j hj
    rw [e] at h1
    cases h1.symm.trans g1
    have h9 := h5.symm.trans g5
    simp only [Option.some.injEq, Value.int.injEq] at h9
    exact h9
  let ro : Nat → Option AE := fun a => @ite _ (a = b) (Classical.propDecidable _) (some (.inl (7, L, .inl xs))) (@ite _ (a = tC) (Classical.propDecidable _) (some (.inl (8, 256, .inr (.inr (.inr (.inr (fun j => some (ad j)))))))) (@ite _ (a = tD) (Classical.propDecidable _) (some (.inl (9, 0, .inr (.inr (.inr (.inr (fun _ => none))))))) (@dite _ (∃ j, j < 256 ∧ a = ad j) (Classical.propDecidable _) (fun hx => some (.inr (11, [.int (vb_c (Classical.choose hx))]))) (fun _ => none))))
  let st : Nat → Value := fun k => if k = 0 then .ref tC else if k = 1 then .int 127 else if k = 2 then .ref tD else if k = 3 then .int 1 else if k = 4 then u4 else if k = 5 then u5 else .ref mi
  have r1 : ro b = some (.inl (7, L, .inl xs)) := if_pos rfl
  have r2 : ro tC = some (.inl (8, 256, .inr (.inr (.inr (.inr (fun j => some (ad j))))))) := (if_neg n1).trans (if_pos rfl)
  have r3 : ro tD = some (.inl (9, 0, .inr (.inr (.inr (.inr (fun _ => none)))))) := (if_neg n2).trans ((if_neg n3).trans (if_pos rfl))
  have r4 : ∀ j, j < 256 → ro (ad j) = some (.inr (11, [.int (vb_c j)])) := by
    intro j hj
    have hx : ∃ i, i < 256 ∧ ad j = ad i := ⟨j, hj, rfl⟩
    refine (if_neg (no_int j hj hTb)).trans ((if_neg (no_int j hj hTC)).trans ((if_neg (no_int j hj hTD)).trans ((dif_pos hx).trans ?_)))
    have h1 := Classical.choose_spec hx
    rw [hsame j _ hj h1.1 h1.2]
  have e4 : st 4 = u4 := rfl
  have e5 : st 5 = u5 := rfl
  refine ⟨ro, st, tC, tD, mi, ad, ?_, ?_, hmi, r1, rfl, r2, r4, rfl, rfl, r3, rfl, by rw [e4]; exact hu4, by rw [e5]; exact hu5, rfl⟩
  · intro a e he
    by_cases a1 : a = b
    · subst a1
      cases r1.symm.trans he
      exact ⟨hb, rfl, hTb⟩
    · by_cases a2 : a = tC
      · subst a2
        cases r2.symm.trans he
        exact ⟨hlt hTC, Or.inl ⟨rfl, hTC⟩⟩
      · by_cases a3 : a = tD
        · subst a3
          cases r3.symm.trans he
          exact ⟨hlt hTD, Or.inr ⟨rfl, hTD⟩⟩
        · by_cases a4 : ∃ j, j < 256 ∧ a = ad j
          · obtain ⟨j, hj, rfl⟩ := a4
            cases (r4 j hj).symm.trans he
            obtain ⟨cell, h1, h2, h3, h4, h5⟩ := hint j hj
            refine ⟨(Array.getElem?_eq_some_iff.mp h1).1, _, cell, rfl, h1, h2, h3, h4, fun k hk => ?_⟩
            have hk : k < 1 := hk
            rw [show k = 0 by omega]
            exact h5
          · have : ro a = none := (if_neg a1).trans ((if_neg a2).trans ((if_neg a3).trans (dif_neg a4)))
            rw [this] at he
            cases he
  · intro k q hq
    match k, hq with
    | 0, hq => cases hq; exact va_Zref (ht0 _ q294) (ht0 _ (lw_all_tbl q92)) htC hA
    | 1, hq => cases hq; exact va_Zof (ht0 _ q292) (ht0 _ (lw_all_tbl q92)) (va_eqi (hs _ (by decide +kernel))) hA
    | 2, hq => cases hq; exact va_Zref (ht0 _ q244) (ht0 _ (lw_all_tbl q88)) htD hA
    | 3, hq => cases hq; exact va_Zof (ht0 _ q765) (ht0 _ (lw_all_tbl q106)) (va_eqi (hs _ (by decide +kernel))) hA
    | 4, hq => cases hq; rw [e4]; exact hz4
    | 5, hq => cases hq; rw [e5]; exact hz5
    | k + 6, hq => simp [SL] at hq
theorem start_G {p : Program} {s : State} {m : MethodId} {meth : Method} {c : Code} (l : Launch) (hflags : l.flags = flags0) {b L : Nat} {xs : Nat → Int32} (C0 : lw_At p s m meth c b L xs) :
    ∃ (G : GC) (h : AH) (tC tD mi : Nat) (ad : Nat → Nat), gZ G = s ∧ gA G = #[Value.ref b] ∧ GOK G l ∧ HP G h s.heap ∧ H0 h b L xs s.heap.size tC tD mi ad := by
  obtain ⟨hx, hb, hr, hml, hown, ht0, hX, hbl, hlk, hgv⟩ := C0
  have hs := flat_of_before _ hgv
  have hA : ∀ a : Nat, a < s.heap.size → ¬ s.heap.size ≤ a := fun a h => Nat.not_le.mpr h
  obtain ⟨D, hD⟩ := kn_all ht0
  obtain ⟨ta, hta⟩ := ar_all ht0
  obtain ⟨ro, st, tC, tD, mi, ad, f1, f2, f3, f4, f5, f6, f7, f8, f9, f10, f11, f12, f13, f14⟩ := ro_ex ht0 hX hbl hgv D hD ta
  refine ⟨(D, ta, s, #[Value.ref b], ro, st), (fun _ => none, (ro, st), (s.heap.size, 603072, 7157866)), tC, tD, mi, ad, rfl, rfl, ?_, ?_, ?_⟩
  · refine ⟨ht0, ⟨hD, ?_⟩, f1, f2, ?_, ?_, ?_, hgv, mi, f14, f3⟩
    · intro k q hq
      match k, hq with
      | 0, hq => cases hq; exact hta 0 _ rfl
      | 1, hq => cases hq; exact hta 1 _ rfl
      | 2, hq => cases hq; exact hta 2 _ rfl
      | 3, hq => cases hq; exact hta 3 _ rfl
      | 4, hq => cases hq; exact hta 4 _ rfl
      | 5, hq => cases hq; exact hta 5 _ rfl
      | k + 6, hq => simp [TYL] at hq
    · unfold Launch.stackTraces
      rw [hflags]
      decide
    · exact vx_Zqof (ht0 _ q351) (ht0 _ (lw_all_tbl q81)) (hs _ (by decide +kernel)) hA
    · exact vx_Zqof (ht0 _ q353) (ht0 _ (lw_all_tbl q81)) (hs _ (by decide +kernel)) hA
  · refine ⟨fun a e he => ?_, fun q _ => rfl, rfl, Nat.le_refl _, rfl, rfl⟩
    have he : (none : Option AE) = some e := he
    exact absurd he (by simp)
  · exact ⟨fun a => rfl, rfl, rfl, rfl, f4, f5, f6, f7, f8, f9, f10, f11, f12, f13, f14, fun a e he => (f1 a e he).1⟩
/-- the law's walk out of its function's value -/
theorem whole_of {p : Program} {e : Env} {s : State} {m : MethodId} {below : List Frame} {meth : Method} {c : Code} (l : Launch) (hflags : l.flags = flags0) {b L : Nat} {xs : Nat → Int32} (C0 : lw_At p s m meth c b L xs) (hnm : meth.name = "law") (hex : c.exceptionTable.toList = [])
    (pure : ∀ (h : AH) (B tC tD mi : Nat) (ad : Nat → Nat), H0 h b L xs B tC tD mi ad → ∃ h' : AH, f_L_law (some b) h = some (.inl (some (.int 1)), h')) :
    W p l e room_1 s m #[Value.ref b] below meth c s.heap [] 0 0 (lw_Z below #[Value.ref b] s) (entryFrame m ([Value.ref b] : List Value).toArray 9) := by
  obtain ⟨G, h, tC, tD, mi, ad, hZ, hGA, hG, hH, hH0⟩ := start_G l hflags C0
  obtain ⟨h', hp⟩ := pure h _ tC tD mi ad hH0
  obtain ⟨hx, hb, hr, hml, hown, ht0, hX, hbl, hlk, hgv⟩ := C0
  have hgB : gB G = s.heap.size := by unfold gB; rw [hZ]
  have hK : SOK G (p, l, e, room_1, s, m, #[Value.ref b], below, meth, c) RX0 cL_law 9 (some .boolean) "law" [] := ⟨hG, by rw [hZ]; exact State.WarmedH.refl _, hx, hb, hml, hown, hr, hlk, hnm, hex, by rw [hgB]; exact Nat.le_refl _, fun q _ => by rw [hZ]; rfl⟩
  have hS := sm_L_law hK (Nat.le_of_ble_eq_true rfl) (Nat.le_of_ble_eq_true rfl) (some b) h
  have hl := lv_entry [Value.ref b] (n := 9) (by show (1 : Nat) ≤ 9; decide)
  have := hS _ _ hp s.heap [] 0 0 _ hH (fun q hq => by cases hq) (by rw [hH0.2.2.1]; rfl) (by rw [hH0.2.2.2.1]; rfl) hl
  rw [lg_entry_eq]
  refine KW.mono (K := (p, l, e, room_1, s, m, #[Value.ref b], below, meth, c)) (fun t ht => ?_) this
  obtain ⟨o, h1, h2, h3, Lc, mc, ms, e1, e2, hLc, hW, hsm, ho⟩ := ht
  have ho : o = .returned (some (.int 1)) := ho
  have hmc : mc ≤ 603072 := by have e1 : mc + hcl h' = 603072 := e1; omega
  have hms : ms ≤ 7157866 := by have e2 : ms + hsl h' = 7157866 := e2; omega
  refine ⟨o, h1, h2, ho, ⟨_, ho⟩, hW, ?_⟩
  have hsm := State.sameButNew.mono hsm hmc hms
  obtain ⟨g1, g2, g3, g4, g5, g6⟩ := hsm
  refine ⟨g1, g2, g3, g4, g5, fun a c9 hc9 => ?_⟩
  obtain ⟨c', k1, k2, k3, k4⟩ := g6 a c9 hc9
  refine ⟨c', k1, k2, k3, fun i _ => k4 i (fun hm => ?_)⟩
  have hlt : a < s.heap.size := (Array.getElem?_eq_some_iff.mp hc9).1
  have := hLc _ hm
  rw [hgB] at this
  exact absurd (show s.heap.size ≤ a from this) (Nat.not_le.mpr hlt)
