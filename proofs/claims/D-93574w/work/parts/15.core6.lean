/-! SIM, part 6: calls. CT: a method's contract; x_back follows vx_back of the kit's EXCEPTIONS text, with what was made told by the end -/
set_option maxRecDepth 100000
def CT (G : GC) (l : Launch) (y : MethodName) (cw : Cond) (fr lo : Nat) (args : List Value) (r : RS) (h : AH) : Prop :=
  ∀ (out : OT) (h' : AH), r = some (out, h') → MetFree l y (headSpec [cw] { frames := fr, cells := hcl h, slots := hsl h, locals := lo }) (fun a U => a = args.toArray ∧ HP G h U.heap ∧ (gZ G).WarmedH U.vm) (fun _ _ _ _ _ => True) (fun _ st o t => XQ G (hcl h) (hsl h) out h' st o t)
/-- the code word of a method gives its locals -/
def CW (s : State) (y : MethodName) (cw : Cond) (maxL : Nat) : Prop := (∀ (a' : Array Value) (U : State), s.WarmedH U.vm → cw.before a' U = true) ∧ ∀ (U : State) (mk : MethodId), s.WarmedH U.vm → U.methodNamed? y = some mk → ∃ (me : Method) (c : Code), U.vm.method? mk = some me ∧ me.code = some c ∧ c.maxLocals = maxL
theorem CW.of {G : GC} {l : Launch} (g : GOK G l) {s : State} (hW : (gZ G).WarmedH s.vm) {y : MethodName} {b : ByteArray} {maxL : Nat} {ret : Option FieldType} (hw : Cond.code y b maxL ret ∈ lw_all) : CW s y (Cond.code y b maxL ret) maxL :=
  ⟨fun a' U h => g.w (hW.trans h) hw a', fun U mk h hn => by
    obtain ⟨me, c, h1, h2, -, h4, -, -, -, -⟩ := Cond.code_spec hn (g.w (hW.trans h) hw #[])
    exact ⟨me, c, h1, h2, h4⟩⟩
theorem CW.ofH {G : GC} {l : Launch} (g : GOK G l) {s : State} (hW : (gZ G).WarmedH s.vm) {y : MethodName} {b : ByteArray} {maxL : Nat} {ret : Option FieldType} {hh : List (Nat × Nat × Nat × Nat)} (hw : Cond.codeWith y b maxL ret hh ∈ lw_all) : CW s y (Cond.codeWith y b maxL ret hh) maxL :=
  ⟨fun a' U h => g.w (hW.trans h) hw a', fun U mk h hn => by
    obtain ⟨m9, me, c, hn9, h1, h2, -, h4, -, -, -, -⟩ := Cond.codeWith_spec (g.w (hW.trans h) hw #[])
    cases hn.symm.trans hn9
    exact ⟨me, c, h1, h2, h4⟩⟩
def PrX (G : GC) (R : Room) (args : List Value) (h : AH) : Pt → Array Value → Prop := fun A a => a = args.toArray ∧ HP G h A.U.heap ∧ (gZ G).WarmedH A.U.vm ∧ A.cells + hcl h ≤ R.cells ∧ A.slots + hsl h ≤ R.slots
def PsX (G : GC) (h h' : AH) (A B : Pt) : Prop := HP G h' B.U.heap ∧ ∃ (L : List Loc) (mc ms : Nat), mc + hcl h' = hcl h ∧ ms + hsl h' = hsl h ∧ (∀ q ∈ L, gB G ≤ q.base) ∧ B.locs = A.locs ++ L ∧ B.cells = A.cells + mc ∧ B.slots = A.slots + ms
def PoX (G : GC) (h h' : AH) (out : OT) : Pt → Array Value → Option Value → Pt → Prop := fun A _ v B => out = .inl v ∧ PsX G h h' A B
def PxX (G : GC) (h h' : AH) (out : OT) : Pt → Array Value → Addr → Pt → Prop := fun A _ q B => ∃ (E : String) (ce : Cell), out = .inr (E, q) ∧ B.U.heap[q]? = some ce ∧ ce.vm = .none ∧ A.U.vm.findClass E = some ce.cls ∧ PsX G h h' A B
section
variable {l : Launch} {R : Room} {p : Program} {e : Env} {below : List Frame} {s : State} {sargs : Array Value} {y : MethodName} {len : Nat}
theorem x_back {G : GC} {cw : Cond} {fr lo maxL : Nat} {vs : List Value} {r : RS} {hp : AH} {out : OT} {h' : AH} (hM : CT G l y cw fr lo vs r hp) (hr : r = some (out, h')) (hframes : fr + 1 ≤ R.frames) (hlocals : 8 + (maxL + 11) + lo ≤ R.locals) (hcw : CW s y cw maxL)
    (hinit : ∀ a' U, s.WarmedH U.vm → (Cond.initialized y.cls).before a' U = true) : vx_Back l R p e below s sargs y len 8 (PrX G R vs hp) (PoX G hp h' out) (PxX G hp h' out) := by
  intro m meth c A g ig mk a X hg hsize hdg hW hn hpre
  have hM := hM out h' hr
  obtain ⟨ea, hHP, hZW, hc5, hs5⟩ := hpre
  have h1 : (headSpec [cw] { frames := fr, cells := hcl hp, slots := hsl hp, locals := lo }).pre.before a A.U = true := atoms_intro fun w hw => by
    rw [List.mem_singleton.mp hw]; exact hcw.1 _ _ X.warmed
  have h3 : (Cond.initialized y.cls).before a A.U = true := hinit _ _ X.warmed
  obtain ⟨U, Ls, c0, s0⟩ := A
  dsimp only [Pt.U, Pt.locs, Pt.cells, Pt.slots] at h1 h3 hc5 hs5 X hn hHP hZW ⊢
  obtain ⟨methY, cY, hmY, hcY, hlY⟩ := hcw.2 U mk X.warmed hn
  obtain ⟨kY, hkY, -⟩ := className_of_methodNamed hn
  have hinitY : kY.init = .initialized := Cond.initialized_spec (findClass_of_methodNamed hn) hkY h3
  have h : At U g.method c below := by rw [hg]; exact X.here
  have happ : (headSpec [cw] { frames := fr, cells := hcl hp, slots := hsl hp, locals := lo }).appliesLoose y e.platform (U.calling g mk a) = true :=
    Spec.appliesLoose_calling (g := g) h hdg hn hkY hinitY
      (X.room_calling (g := g) (R' := ({ frames := fr, cells := hcl hp, slots := hsl hp, locals := lo } : Room)) hsize hmY hcY hframes (by rw [hlY]; show _ + (maxL + 11) + lo ≤ R.locals; omega) hc5 hs5) h1
  obtain ⟨mid, hmid⟩ := h.above
  have hfr : (U.setTop g).frames = (.java g :: mid) ++ below := by rw [State.frames_setTop' g h.top, hmid]; rfl
  obtain ⟨o, s₂, hsteps, -, hend, hq⟩ := Steps.callFree hM p X.admits X.cas X.clock (acts := []) hfr happ ⟨ea, hHP, hZW⟩ trivial
  have hq' : XQ G (hcl hp) (hsl hp) out h' (U.calling g mk a) o s₂ := hq
  rw [State.frames_setTop' g h.top] at hend
  obtain ⟨g₀, hg0⟩ := Option.isSome_iff_exists.mp h.top
  obtain ⟨r9, hr9⟩ := State.topJava?_eq_some.mp hg0
  have hr' : (({ U with heap := s₂.heap, slotsUsed := s₂.slotsUsed } : State).setVm s₂.vm).frames = .java g₀ :: r9 := hr9
  obtain ⟨hH2, L, mc, ms, em1, em2, hL, hW₂, hsm, hoo⟩ := hq'
  obtain ⟨e2, q2, q3, q4, q5, q6⟩ := id hsm
  have e3 : s₂ = ({ (U.calling g mk a).setFrames s₂.frames with heap := s₂.heap, slotsUsed := s₂.slotsUsed } : State).setVm s₂.vm := by
    have : s₂ = ({ s₂ with vm := (U.calling g mk a).vm } : State).setVm s₂.vm := rfl
    rw [e2] at this
    exact this
  have hW' : U.WarmedH s₂.vm := hW₂
  have hsame : U.sameButNew ({ U with heap := s₂.heap, slotsUsed := s₂.slotsUsed } : State) L mc ms := by
    refine ⟨?_, q2, q3, q4, q5, q6⟩
    obtain ⟨t, ht, -⟩ := State.frames_cons hr9
    show ({ U with heap := s₂.heap, slotsUsed := s₂.slotsUsed } : State) = { U.setFrames U.frames with heap := s₂.heap, slotsUsed := s₂.slotsUsed }
    rw [State.setFrames_self ht]
  have hps : PsX G hp h' ⟨U, Ls, c0, s0⟩ ⟨(({ U with heap := s₂.heap, slotsUsed := s₂.slotsUsed } : State).setVm s₂.vm), Ls ++ L, c0 + mc, s0 + ms⟩ := ⟨hH2, L, mc, ms, em1, em2, hL, rfl, rfl, rfl⟩
  cases out with
  | inl v =>
    have ho : o = .returned v := hoo
    subst ho
    obtain ⟨c₂, i₂, len₂, hc₂, hd₂, hf₂⟩ := hend
    have hcc : c₂ = c := by
      have h1 : s₂.code? g.method = U.code? g.method := by
        rw [State.code?_eq, State.code?_eq, hW'.alike.method?]
      exact Option.some.inj (hc₂.symm.trans (h1.trans h.code))
    subst hcc
    have hlen : len₂ = len := by rw [hdg] at hd₂; cases hd₂; rfl
    subst hlen
    have hs₂ : s₂ = (({ U with heap := s₂.heap, slotsUsed := s₂.slotsUsed } : State).setVm s₂.vm).setTop { g with pc := g.pc + len₂, stack := v.toList ++ g.stack } := by
      refine e3.trans ?_
      rw [hf₂, State.calling_eq h.top, State.setFrames_setFrames, State.setTop_of_frames _ hr', hr9]
      rfl
    subst hg
    refine Or.inl ⟨v, ⟨(({ U with heap := s₂.heap, slotsUsed := s₂.slotsUsed } : State).setVm s₂.vm), Ls ++ L, c0 + mc, s0 + ms⟩,
      ⟨X.admits, X.cas, X.clock, X.frames, X.room, X.hears, X.method, X.code, (X.here.setHeapUsed s₂.heap s₂.slotsUsed).setVm hW'.alike, X.tail, State.WarmedH.trans X.warmed hW', X.limits, X.bytes, X.same.trans (hsame.setVm s.vm)⟩,
      ⟨rfl, hps⟩, ?_⟩
    show Steps p.tables e below _ ((({ U with heap := s₂.heap, slotsUsed := s₂.slotsUsed } : State).setVm s₂.vm).setTop { g with pc := g.pc + len₂, stack := v.toList ++ g.stack })
    rw [← hs₂]
    exact hsteps
  | inr x =>
    obtain ⟨E, q⟩ := x
    obtain ⟨ho, ce, hce, hcv, hcl⟩ := hoo
    subst ho
    have hf₂ : s₂.frames = .throwing q :: .java g :: U.frames.tail := hend
    have hs₂ : s₂ = ((({ U with heap := s₂.heap, slotsUsed := s₂.slotsUsed } : State).setVm s₂.vm).setTop g).pushFrame (.throwing q) := by
      refine e3.trans ?_
      rw [hf₂, State.calling_eq h.top, State.setFrames_setFrames, State.pushFrame, State.frames_setTop _ hr', State.setTop_of_frames _ hr', State.setFrames_setFrames, hr9]
      rfl
    subst hg
    refine Or.inr ⟨q, ⟨(({ U with heap := s₂.heap, slotsUsed := s₂.slotsUsed } : State).setVm s₂.vm), Ls ++ L, c0 + mc, s0 + ms⟩,
      ⟨X.admits, X.cas, X.clock, X.frames, X.room, X.hears, X.method, X.code, (X.here.setHeapUsed s₂.heap s₂.slotsUsed).setVm hW'.alike, X.tail, State.WarmedH.trans X.warmed hW', X.limits, X.bytes, X.same.trans (hsame.setVm s.vm)⟩,
      ⟨E, ce, rfl, hce, hcv, hcl, hps⟩, ?_⟩
    show Steps p.tables e below _ (((({ U with heap := s₂.heap, slotsUsed := s₂.slotsUsed } : State).setVm s₂.vm).setTop g).pushFrame (.throwing q))
    rw [← hs₂]
    exact hsteps
end
/-- where the call's frame goes on -/
def CXO (K : SC) (out : OT) (pc len : Nat) (ls : Array Slot) (st0 rest : List Value) (T T' : State) : Prop := match out with
  | .inl v => ∀ target, Steps K.1.tables K.2.2.1 (kB K) (T'.setTop (F0 K.2.2.2.2.2.1 (pc + len) ls (v.toList ++ rest))) target → Steps K.1.tables K.2.2.1 (kB K) (T.setTop (F0 K.2.2.2.2.2.1 pc ls st0)) target
  | .inr (E, q) => (∃ ce : Cell, T'.heap[q]? = some ce ∧ ce.vm = .none ∧ (kS K).vm.findClass E = some ce.cls) ∧ Steps K.1.tables K.2.2.1 (kB K) (T.setTop (F0 K.2.2.2.2.2.1 pc ls st0)) ((T'.setTop (F0 K.2.2.2.2.2.1 pc ls rest)).pushFrame (.throwing q))
/-- what a call does at a frame -/
def CX (G : GC) (K : SC) (nL : Nat) (r : RS) (h : AH) (pc len : Nat) (lv : List (Nat × Value)) (st0 rest : List Value) : Prop :=
  ∀ (out : OT) (h1 : AH), r = some (out, h1) → ∀ (H : Heap) (locs : List Loc) (cells slots : Nat) (ls : Array Slot), HP G h H → (∀ q ∈ locs, gB G ≤ q.base) → cells + hcl h = (kR K).cells → slots + hsl h = (kR K).slots → lv_has ls nL lv →
    ∀ T : State, T.heap = H → Stand K.1 K.2.1 K.2.2.1 K.2.2.2.1 K.2.2.2.2.1 K.2.2.2.2.2.1 K.2.2.2.2.2.2.1 K.2.2.2.2.2.2.2.1 K.2.2.2.2.2.2.2.2.1 K.2.2.2.2.2.2.2.2.2 T locs cells slots →
    ∃ (T' : State) (locs' : List Loc) (cells' slots' : Nat), HP G h1 T'.heap ∧ (∀ q ∈ locs', gB G ≤ q.base) ∧ cells' + hcl h1 = (kR K).cells ∧ slots' + hsl h1 = (kR K).slots ∧
      Stand K.1 K.2.1 K.2.2.1 K.2.2.2.1 K.2.2.2.2.1 K.2.2.2.2.2.1 K.2.2.2.2.2.2.1 K.2.2.2.2.2.2.2.1 K.2.2.2.2.2.2.2.2.1 K.2.2.2.2.2.2.2.2.2 T' locs' cells' slots' ∧
      CXO K out pc len ls st0 rest T T'
theorem cx_end {G : GC} {K : SC} {h h1 : AH} {out : OT} {pc len : Nat} {locs : List Loc} {cells slots : Nat} {ls : Array Slot} {st0 rest : List Value} {T : State} {a : Array Value} (hL : ∀ q ∈ locs, gB G ≤ q.base) (hc : cells + hcl h = (kR K).cells) (hs : slots + hsl h = (kR K).slots)
    (hz : (∃ (v : Option Value) (vm₁ : Vm) (B : Pt), (kS K).WarmedH vm₁ ∧ Stand K.1 K.2.1 K.2.2.1 K.2.2.2.1 K.2.2.2.2.1 K.2.2.2.2.2.1 K.2.2.2.2.2.2.1 K.2.2.2.2.2.2.2.1 K.2.2.2.2.2.2.2.2.1 K.2.2.2.2.2.2.2.2.2 B.U B.locs B.cells B.slots ∧ PoX G h h1 out ⟨T.setVm vm₁, locs, cells, slots⟩ a v B ∧
      ∀ target, Steps K.1.tables K.2.2.1 (kB K) (B.U.setTop (F0 K.2.2.2.2.2.1 (pc + len) ls (v.toList ++ rest))) target → Steps K.1.tables K.2.2.1 (kB K) (T.setTop (F0 K.2.2.2.2.2.1 pc ls st0)) target) ∨
      (∃ (q : Addr) (vm₁ : Vm) (B : Pt), (kS K).WarmedH vm₁ ∧ Stand K.1 K.2.1 K.2.2.1 K.2.2.2.1 K.2.2.2.2.1 K.2.2.2.2.2.1 K.2.2.2.2.2.2.1 K.2.2.2.2.2.2.2.1 K.2.2.2.2.2.2.2.2.1 K.2.2.2.2.2.2.2.2.2 B.U B.locs B.cells B.slots ∧ PxX G h h1 out ⟨T.setVm vm₁, locs, cells, slots⟩ a q B ∧
      Steps K.1.tables K.2.2.1 (kB K) (T.setTop (F0 K.2.2.2.2.2.1 pc ls st0)) ((B.U.setTop (F0 K.2.2.2.2.2.1 pc ls rest)).pushFrame (.throwing q)))) :
    ∃ (T' : State) (locs' : List Loc) (cells' slots' : Nat), HP G h1 T'.heap ∧ (∀ q ∈ locs', gB G ≤ q.base) ∧ cells' + hcl h1 = (kR K).cells ∧ slots' + hsl h1 = (kR K).slots ∧
      Stand K.1 K.2.1 K.2.2.1 K.2.2.2.1 K.2.2.2.2.1 K.2.2.2.2.2.1 K.2.2.2.2.2.2.1 K.2.2.2.2.2.2.2.1 K.2.2.2.2.2.2.2.2.1 K.2.2.2.2.2.2.2.2.2 T' locs' cells' slots' ∧
      CXO K out pc len ls st0 rest T T' := by
  rcases hz with ⟨v, vm₁, B, hW1, X', ⟨rfl, hH1, L, mc, ms, e1, e2, hL1, e3, e4, e5⟩, st⟩ | ⟨q, vm₁, B, hW1, X', ⟨E, ce, rfl, f1, f2, f3, hH1, L, mc, ms, e1, e2, hL1, e3, e4, e5⟩, st⟩
  · refine ⟨B.U, B.locs, B.cells, B.slots, hH1, ?_, ?_, ?_, X', st⟩
    · rw [e3]
      intro q hq
      rcases List.mem_append.mp hq with z | z
      · exact hL q z
      · exact hL1 q z
    · rw [e4]; show cells + mc + hcl h1 = _; omega
    · rw [e5]; show slots + ms + hsl h1 = _; omega
  · refine ⟨B.U, B.locs, B.cells, B.slots, hH1, ?_, ?_, ?_, X', ⟨ce, f1, f2, vx_cls hW1 f3⟩, st⟩
    · rw [e3]
      intro q hq
      rcases List.mem_append.mp hq with z | z
      · exact hL q z
      · exact hL1 q z
    · rw [e4]; show cells + mc + hcl h1 = _; omega
    · rw [e5]; show slots + ms + hsl h1 = _; omega
/-- the stack's words -/
def RK (l : List Value) (n : Nat) : Prop := (l.map fun v => v.category).sum = n
theorem va_cat (o : Option Nat) : (va_rf o).category = 1 := by cases o <;> rfl
theorem rk_n : RK [] 0 := rfl
theorem rk_i {l : List Value} {n : Nat} {x : Int32} (h : RK l n) : RK (.int x :: l) (1 + n) := by unfold RK at *; rw [List.map_cons, List.sum_cons, h]; rfl
theorem rk_a {l : List Value} {n : Nat} {o : Option Nat} (h : RK l n) : RK (va_rf o :: l) (1 + n) := by unfold RK at *; rw [List.map_cons, List.sum_cons, h, va_cat]
theorem rk_l {l : List Value} {n : Nat} {x : Int64} (h : RK l n) : RK (.long x :: l) (2 + n) := by unfold RK at *; rw [List.map_cons, List.sum_cons, h]; rfl
/-- a method's name is plain and takes n arguments -/
def DY (y : MethodName) (n : Nat) : Prop := (y.cls ≠ "java/lang/invoke/MethodHandle" ∧ y.cls ≠ "java/lang/invoke/VarHandle") ∧ (parseMethodDescriptor y.desc).map (fun d => d.parameters.length) = some n
theorem DY.len {y : MethodName} {n : Nat} (h : DY y n) {As : List Value} (hn : As.length = n) : ∀ sig, parseMethodDescriptor y.desc = some sig → As.length = sig.parameters.length := fun sig hs => by
  have h2 := h.2
  rw [hs] at h2
  exact hn.trans (Option.some.inj h2).symm
section
variable {G : GC} {K : SC} {own nm : String} {cc : ByteArray} {nL : Nat} {ret : Option FieldType} {hh : List ExceptionTableEntry} {r : RS} {h : AH} {pc : Nat} {lv : List (Nat × Value)} {rest As : List Value}
theorem GOK.ini {l : Launch} (g : GOK G l) {s : State} (hW : (gZ G).WarmedH s.vm) {C : String} (hw : Cond.initialized C ∈ lw_all) : ∀ (a' : Array Value) (U : State), s.WarmedH U.vm → (Cond.initialized C).before a' U = true := fun a' U h => g.w (hW.trans h) hw a'
theorem k_pre (hW : (gZ G).WarmedH (kS K).vm) {H : Heap} (hH : HP G h H) {locs : List Loc} {cells slots : Nat} (hc : cells + hcl h = (kR K).cells) (hs : slots + hsl h = (kR K).slots) {T : State} (hT : T.heap = H) (vs : List Value) : ∀ vm₁, (kS K).WarmedH vm₁ → PrX G (kR K) vs h ⟨T.setVm vm₁, locs, cells, slots⟩ vs.toArray :=
  fun vm₁ h1 => ⟨rfl, by rw [← hT] at hH; exact hH, hW.trans h1, Nat.le_of_eq hc, Nat.le_of_eq hs⟩
theorem rk_le {n : Nat} (h : RK rest n) (h8 : n ≤ 8) {pc : Nat} {ls : Array Slot} {st : List Value} {m : MethodId} : 2 * (F0 m pc ls st).monitorRoom + (rest.map fun v => v.category).sum ≤ 8 := lv_room (by rw [show (rest.map fun v => v.category).sum = n from h]; exact h8)
/-- invokestatic -/
theorem cx_S (hK : SOK G K own cc nL ret nm hh) {y : MethodName} {n fr lo maxL k index : Nat} {bytes : ByteArray} {ret' : Option FieldType} (D : DY y n) (hn : As.length = n) (w1 : Cond.methodLink own index y ∈ lw_all) (w2 : Cond.static y ∈ lw_all) (w3 : Cond.initialized y.cls ∈ lw_all) (w4 : Cond.code y bytes maxL ret' ∈ lw_all)
    (M : CT G K.2.1 y (Cond.code y bytes maxL ret') fr lo As r h) (hfr : fr + 1 ≤ (kR K).frames) (hlo : 8 + (maxL + 11) + lo ≤ (kR K).locals) (hk : RK rest k) (hk8 : k ≤ 8) (d : decode cc pc = .ok (.invokestatic index, 3)) : CX G K nL r h pc 3 lv (As.reverse ++ rest) rest := by
  intro out h1 hr H locs cells slots ls hH hL hc hs hv T hT X
  have hts : ∀ w ∈ lw_all, w.before K.2.2.2.2.2.2.1 (kS K) = true := fun w hw => hK.1.w hK.2.1 hw _
  have hB := x_back (p := K.1) (e := K.2.2.1) (below := kB K) (sargs := K.2.2.2.2.2.2.1) (len := 3) M hr hfr hlo (CW.of hK.1 hK.2.1 w4) (hK.1.ini hK.2.1 w3)
  exact cx_end hL hc hs (vx_callS X hK.2.2.1 hK.2.2.2.2.2.1 (hts _ w1) (hts _ w2) (hts _ w3) (hts _ w4) D.1 hB (g := F0 K.2.2.2.2.2.1 pc ls (As.reverse ++ rest)) rfl (by rw [hK.2.2.2.2.1]; exact hv.1) (argsL := As) (rest := rest) (D.len hn) rfl (rk_le hk hk8) (by rw [hK.2.2.2.1]; exact d) (k_pre hK.2.1 hH hc hs hT As))
end
