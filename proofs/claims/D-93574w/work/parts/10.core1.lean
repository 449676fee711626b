/-! SIM, part 1: an abstract heap, the relation to the machine's, and the judgement Sim: the machine at a frame does what a value of RS says -/
set_option maxRecDepth 100000
abbrev AE : Type := (Nat × vp_A) ⊕ (Nat × List Value)
abbrev AH : Type := (Nat → Option AE) × ((Nat → Option AE) × (Nat → Value)) × (Nat × Nat × Nat)
abbrev OT : Type := Option Value ⊕ (String × Nat)
abbrev RS : Type := Option (OT × AH)
def hsz (h : AH) : Nat := h.2.2.1
def hcl (h : AH) : Nat := h.2.2.2.1
def hsl (h : AH) : Nat := h.2.2.2.2
def hro (h : AH) : Nat → Option AE := h.2.1.1
def hst (h : AH) : Nat → Value := h.2.1.2
def rd (h : AH) (a : Nat) : Option AE := match h.1 a with
  | some e => some e
  | none => hro h a
def hset (h : AH) (a : Nat) (e : AE) : AH := (fun q => if q = a then some e else h.1 q, h.2)
def hnew (h : AH) (e : AE) (n : Nat) : AH := (fun q => if q = hsz h then some e else h.1 q, h.2.1, (hsz h + 1, hcl h - 1, hsl h - n))
def hopq (h : AH) (n : Nat) : AH := (h.1, h.2.1, (hsz h + 1, hcl h - 1, hsl h - n))
/-- the classes whose objects the heap's picture knows, by their numbers -/
def CL : List vw_C := [(RX1, TX1, 7), (RX2, TX2, 3), (RX3, TX3, 50), (RX4, TX4, 7), (RX5, TX5, 9), (RX6, TX6, 1), (RX7, TX7, 5), (RX8, TX8, 4), (RX9, TX9, 3), (RX10, TX10, 6), (RJ7, TJ7, 3), (RJ9, TJ9, 1), (RJ19, TJ19, 3), (RJ20, TJ20, 3), (RJ3, TJ3, 0), (RJ4, TJ4, 0), (RJ15, TJ15, 0), (RJ18, TJ18, 0), (RJ21, TJ21, 0), (RJ27, TJ27, 0)]
/-- statics that are read -/
def SL : List (String × String × String) := [("java/lang/Integer$IntegerCache", "cache", "[Ljava/lang/Integer;"), ("java/lang/Integer$IntegerCache", "high", "I"), ("java/util/ArrayList", "DEFAULTCAPACITY_EMPTY_ELEMENTDATA", "[Ljava/lang/Object;"), ("java/util/BitSet", "$assertionsDisabled", "Z"), ("java/lang/Throwable", "UNASSIGNED_STACK", "[Ljava/lang/StackTraceElement;"), ("java/lang/Throwable", "SUPPRESSED_SENTINEL", "Ljava/util/List;")]
/-- D, array classes, the law's first state, its arguments, read-only cells, statics -/
abbrev GC : Type := va_G × (Nat → ClassId) × State × Array Value × (Nat → Option AE) × (Nat → Value)
def gD (G : GC) : va_G := G.1
def gT (G : GC) : Nat → ClassId := G.2.1
def gZ (G : GC) : State := G.2.2.1
def gA (G : GC) : Array Value := G.2.2.2.1
def gR (G : GC) : Nat → Option AE := G.2.2.2.2.1
def gS (G : GC) : Nat → Value := G.2.2.2.2.2
def gB (G : GC) : Nat := (gZ G).heap.size
def cvE (ta : Nat → ClassId) (e : AE) : va_E := match e with
  | .inl a => .inl (ta a.1, a.2)
  | .inr o => .inr o
def TYL (G : GC) : List (ClassId × FieldType) := [(gT G 0, .int), (gT G 1, .boolean), (gT G 2, .char), (gT G 3, .long), (gT G 4, .double), (gT G 5, .object "java/lang/Object")]
/-- arrays of ours have one of the six types -/
def aOK (e : AE) : Prop := match e with
  | .inl (t, _) => t < 6
  | .inr _ => True
def HP (G : GC) (h : AH) (H : Heap) : Prop :=
  (∀ (a : Nat) (e : AE), h.1 a = some e → gB G ≤ a ∧ va_at (gD G) CL (a, cvE (gT G) e) H ∧ aOK e) ∧
  (∀ q : Nat, q < gB G → H[q]? = (gZ G).heap[q]?) ∧ H.size = hsz h ∧ gB G ≤ hsz h ∧ hro h = gR G ∧ hst h = gS G
/-- a read-only cell: an Integer of the cache; the script (7), the cache (8), ArrayList's empty array (9) -/
def roA (G : GC) (a : Nat) (e : AE) (U : State) (H : Heap) : Prop := match e with
  | .inr (c, fs) => ∃ (r : vw_C) (cell : Cell), CL[c]? = some r ∧ H[a]? = some cell ∧ cell.cls = (gD G).1 c ∧ cell.vm ≠ .unknown ∧ cell.vm.isStatics = false ∧ ∀ k, k < r.2.2 → cell.slots[(gD G).2 c k]? = some (vp_V fs k)
  | .inl (t, n, .inl f) => t = 7 ∧ va_T .int a n (fun j => .int (f j)) (fun a => gB G ≤ a) U H
  | .inl (t, n, .inr (.inr (.inr (.inr f)))) => (t = 8 ∧ va_T (.object "java/lang/Integer") a n (fun j => va_rf (f j)) (fun a => gB G ≤ a) U H) ∨ (t = 9 ∧ va_T (.object "java/lang/Object") a n (fun j => va_rf (f j)) (fun a => gB G ≤ a) U H)
  | _ => False
/-- what holds of the run as a whole -/
def GOK (G : GC) (l : Launch) : Prop :=
  (∀ w ∈ lw_tbl, w.before (gA G) (gZ G) = true) ∧
  va_K (gD G) CL (TYL G) (gZ G) ∧
  (∀ (a : Nat) (e : AE), gR G a = some e → a < gB G ∧ roA G a e (gZ G) (gZ G).heap) ∧
  (∀ (k : Nat) (q : String × String × String), SL[k]? = some q → va_Z q.1 q.2.1 q.2.2 (gS G k) (fun a => gB G ≤ a) (gZ G) (gZ G).heap) ∧
  l.stackTraces = false ∧
  vx_Zq Bundle.tN "UNASSIGNED_STACK" Bundle.steD (fun a => gB G ≤ a) (gZ G) (gZ G).heap ∧ vx_Zq Bundle.tN "SUPPRESSED_SENTINEL" Bundle.listD (fun a => gB G ≤ a) (gZ G) (gZ G).heap ∧
  (Jvm.Cond.and given_1 narrow_1).before (gA G) (gZ G) = true ∧
  (∃ mi : Nat, gS G 10 = .ref mi ∧ va_Mi "[Ljava/lang/Object;" mi (gZ G))
abbrev SC : Type := Program × Launch × Env × Room × State × MethodId × Array Value × List Frame × Method × Code
def kR (K : SC) : Room := K.2.2.2.1
def kS (K : SC) : State := K.2.2.2.2.1
def kB (K : SC) : List Frame := K.2.2.2.2.2.2.2.1
def KW (K : SC) (H : Heap) (locs : List Loc) (cells slots : Nat) (Q : State → Prop) (pc : Nat) (ls : Array Slot) (st : List Value) : Prop :=
  W K.1 K.2.1 K.2.2.1 K.2.2.2.1 K.2.2.2.2.1 K.2.2.2.2.2.1 K.2.2.2.2.2.2.1 K.2.2.2.2.2.2.2.1 K.2.2.2.2.2.2.2.2.1 K.2.2.2.2.2.2.2.2.2 H locs cells slots Q (F0 K.2.2.2.2.2.1 pc ls st)
/-- how a method ended -/
def OO (out : OT) (o : Outcome) (s t : State) : Prop := match out with
  | .inl v => o = .returned v
  | .inr (E, q) => o = .threw q ∧ ∃ ce : Cell, t.heap[q]? = some ce ∧ ce.vm = .none ∧ s.vm.findClass E = some ce.cls
def XQ (G : GC) (rc rs : Nat) (out : OT) (h' : AH) (s : State) (o : Outcome) (t : State) : Prop :=
  HP G h' t.heap ∧ ∃ (L : List Loc) (mc ms : Nat), mc + hcl h' = rc ∧ ms + hsl h' = rs ∧ (∀ q ∈ L, gB G ≤ q.base) ∧ s.WarmedH t.vm ∧ s.sameButNew ({ t with vm := s.vm } : State) L mc ms ∧ OO out o s t
def QE (G : GC) (K : SC) (out : OT) (h' : AH) : State → Prop := fun t => ∃ o, t.status = .running ∧ Ended t (kB K) o ∧ XQ G (kR K).cells (kR K).slots out h' (kS K) o t
def Sim (G : GC) (K : SC) (nL : Nat) (X : RS) (h : AH) (pc : Nat) (lv : List (Nat × Value)) (st : List Value) : Prop :=
  ∀ (out : OT) (h' : AH), X = some (out, h') → ∀ (H : Heap) (locs : List Loc) (cells slots : Nat) (ls : Array Slot),
    HP G h H → (∀ q ∈ locs, gB G ≤ q.base) → cells + hcl h = (kR K).cells → slots + hsl h = (kR K).slots → lv_has ls nL lv →
    KW K H locs cells slots (QE G K out h') pc ls st
/-- what holds of the method that runs -/
def SOK (G : GC) (K : SC) (own : String) (cc : ByteArray) (nL : Nat) (ret : Option FieldType) (nm : String) (hh : List ExceptionTableEntry) : Prop :=
  GOK G K.2.1 ∧ (gZ G).WarmedH (kS K).vm ∧ K.1.tables.exec = Jvm.exec ∧ K.2.2.2.2.2.2.2.2.2.code = cc ∧ K.2.2.2.2.2.2.2.2.2.maxLocals = nL ∧ (kS K).vm.findClass own = some K.2.2.2.2.2.1.cls ∧ K.2.2.2.2.2.2.2.2.1.sig.returnType = ret ∧ K.2.2.2.2.2.2.2.2.1.locks = false ∧ K.2.2.2.2.2.2.2.2.1.name = nm ∧ K.2.2.2.2.2.2.2.2.2.exceptionTable.toList = hh ∧ gB G ≤ (kS K).heap.size ∧ ∀ q : Nat, q < gB G → (kS K).heap[q]? = (gZ G).heap[q]?
theorem GOK.w {G : GC} {l : Launch} (h : GOK G l) {U : State} (hW : (gZ G).WarmedH U.vm) {w : Cond} (hw : w ∈ lw_all) (a : Array Value) : w.before a U = true :=
  word_at hW (lw_self w hw).2 (h.1 w (lw_all_tbl hw))
theorem GOK.K {G : GC} {l : Launch} (h : GOK G l) {U : State} (hW : (gZ G).WarmedH U.vm) : va_K (gD G) CL (TYL G) U := h.2.1.moved hW.alike
theorem roA.moved {G : GC} {a : Nat} {e : AE} {u U : State} {H H1 : Heap} (hvm : u.vm.Alike U.vm) (hq : H1[a]? = H[a]?) (h : roA G a e u H) : roA G a e U H1 := by
  have hT : ∀ {ty : FieldType} {N : Nat} {f : Nat → Value}, va_T ty a N f (fun a => gB G ≤ a) u H → va_T ty a N f (fun a => gB G ≤ a) U H1 := fun {ty N f} h => by
    obtain ⟨cell, h1, h2⟩ := va_T.moved hvm h
    exact ⟨cell, by rw [hq]; exact h1, h2⟩
  unfold roA at h ⊢
  split at h
  · obtain ⟨r, cell, h1, h2, h3⟩ := h
    exact ⟨r, cell, h1, by rw [hq]; exact h2, h3⟩
  · exact ⟨h.1, hT h.2⟩
  · rcases h with h | h
    · exact Or.inl ⟨h.1, hT h.2⟩
    · exact Or.inr ⟨h.1, hT h.2⟩
  · exact h.elim
theorem HP.rdc {G : GC} {l : Launch} {h : AH} {H : Heap} (g : GOK G l) (hH : HP G h H) {a : Nat} {e : AE} (he : rd h a = some e) {U : State} (hW : (gZ G).WarmedH U.vm) : (h.1 a = some e ∧ va_at (gD G) CL (a, cvE (gT G) e) H) ∨ roA G a e U H := by
  unfold rd at he
  cases h1 : h.1 a with
  | some e1 =>
    rw [h1] at he
    cases he
    exact Or.inl ⟨rfl, (hH.1 a e h1).2.1⟩
  | none =>
    rw [h1] at he
    have he : hro h a = some e := he
    rw [hH.2.2.2.2.1] at he
    obtain ⟨h2, h3⟩ := g.2.2.1 a e he
    exact Or.inr (h3.moved hW.alike (hH.2.1 a h2))
/-- an array of a plain type is one of ours -/
theorem HP.at {G : GC} {l : Launch} {h : AH} {H : Heap} (g : GOK G l) (hH : HP G h H) {a t : Nat} {x : vp_A} (he : rd h a = some (.inl (t, x))) (ht : t < 7) : va_at (gD G) CL (a, cvE (gT G) (.inl (t, x))) H := by
  rcases HP.rdc g hH he (U := gZ G) (State.WarmedH.refl _) with h1 | h1
  · exact h1.2
  · exfalso
    obtain ⟨n, f | f | f | f | f⟩ := x
    · have := h1.1; omega
    · exact h1
    · exact h1
    · exact h1
    · rcases h1 with h1 | h1
      · have := h1.1; omega
      · have := h1.1; omega
/-- an object, for reading -/
theorem HP.ob {G : GC} {l : Launch} {h : AH} {H : Heap} (g : GOK G l) (hH : HP G h H) {a c : Nat} {fs : List Value} (he : rd h a = some (.inr (c, fs))) : ∃ (r : vw_C) (cell : Cell), CL[c]? = some r ∧ H[a]? = some cell ∧ cell.cls = (gD G).1 c ∧ cell.vm ≠ .unknown ∧ cell.vm.isStatics = false ∧ ∀ k, k < r.2.2 → cell.slots[(gD G).2 c k]? = some (vp_V fs k) := by
  rcases HP.rdc g hH he (U := gZ G) (State.WarmedH.refl _) with h1 | h1
  · obtain ⟨r, q0, cell, q1, q2, q3, q4⟩ := h1.2
    exact ⟨r, cell, q0, q1, q2, by rw [q3]; exact fun z => (by cases z), by rw [q3]; rfl, q4⟩
  · exact h1
theorem HP.set {G : GC} {h : AH} {H H1 : Heap} (hH : HP G h H) {a : Nat} {e0 e1 : AE} (h0 : h.1 a = some e0) (h1 : va_at (gD G) CL (a, cvE (gT G) e1) H1) (z : H1.size = H.size) (oq : ∀ q : Nat, q ≠ a → H1[q]? = H[q]?) (ha : aOK e1 := by first | exact trivial | (show _ < 6; first | decide | assumption)) : HP G (hset h a e1) H1 := by
  obtain ⟨p1, p2, p3, p4, p5, p6⟩ := hH
  have hB := (p1 a e0 h0).1
  refine ⟨fun q e he => ?_, fun q hq => ?_, z.trans p3, p4, p5, p6⟩
  · by_cases hq : q = a
    · subst hq
      have : some e1 = some e := by simpa [hset] using he
      cases this
      exact ⟨hB, h1, ha⟩
    · have he : h.1 q = some e := by simpa [hset, hq] using he
      obtain ⟨q1, q2, q3⟩ := p1 q e he
      exact ⟨q1, q2.kept (oq q hq), q3⟩
  · rw [oq q (by omega)]
    exact p2 q hq
theorem HP.new {G : GC} {h : AH} {H H1 : Heap} (hH : HP G h H) {e1 : AE} (n : Nat) (h1 : va_at (gD G) CL (H.size, cvE (gT G) e1) H1) (z : H1.size = H.size + 1) (oq : ∀ q : Nat, q < H.size → H1[q]? = H[q]?) (ha : aOK e1 := by first | exact trivial | (show _ < 6; first | decide | assumption)) : HP G (hnew h e1 n) H1 := by
  obtain ⟨p1, p2, p3, p4, p5, p6⟩ := hH
  refine ⟨fun q e he => ?_, fun q hq => ?_, by rw [z, p3]; rfl, by show gB G ≤ hsz h + 1; omega, p5, p6⟩
  · by_cases hq : q = hsz h
    · subst hq
      have : some e1 = some e := by simpa [hnew] using he
      cases this
      rw [p3] at h1
      exact ⟨p4, h1, ha⟩
    · have he : h.1 q = some e := by simpa [hnew, hq] using he
      obtain ⟨q1, q2, q3⟩ := p1 q e he
      exact ⟨q1, q2.kept (oq q q2.lt), q3⟩
  · rw [oq q (by omega)]
    exact p2 q hq
theorem HP.opq {G : GC} {h : AH} {H H1 : Heap} (hH : HP G h H) (n : Nat) (z : H1.size = H.size + 1) (oq : ∀ q : Nat, q < H.size → H1[q]? = H[q]?) : HP G (hopq h n) H1 := by
  obtain ⟨p1, p2, p3, p4, p5, p6⟩ := hH
  refine ⟨fun q e he => ?_, fun q hq => ?_, by rw [z, p3]; rfl, by show gB G ≤ hsz h + 1; omega, p5, p6⟩
  · obtain ⟨q1, q2, q3⟩ := p1 q e he
    exact ⟨q1, q2.kept (oq q q2.lt), q3⟩
  · rw [oq q (by omega)]
    exact p2 q hq
theorem KW.mono {K : SC} {H : Heap} {locs : List Loc} {cells slots : Nat} {Q Q' : State → Prop} {pc : Nat} {ls : Array Slot} {st : List Value} (hQ : ∀ t, Q t → Q' t) (h : KW K H locs cells slots Q pc ls st) : KW K H locs cells slots Q' pc ls st := fun T hT X => by
  obtain ⟨t, a, b⟩ := h T hT X
  exact ⟨t, a, hQ t b⟩
section
variable {G : GC} {K : SC} {own nm : String} {cc : ByteArray} {nL : Nat} {ret : Option FieldType} {hh : List ExceptionTableEntry} {X : RS} {h : AH} {pc : Nat} {lv : List (Nat × Value)} {st : List Value}
theorem s_none : Sim G K nL none h pc lv st := fun _ _ hX => by cases hX
/-- fewer locals, in another order -/
theorem s_sub {lv' : List (Nat × Value)} (ks : List Nat) (hl : lv_pick lv ks = lv') (k : Sim G K nL X h pc lv' st) : Sim G K nL X h pc lv st :=
  fun out h' hX H locs cells slots ls hH hL hc hs hv => k out h' hX H locs cells slots ls hH hL hc hs (lv_sub hv ks hl)
theorem s_eq {X' : RS} (e : X = X') (k : Sim G K nL X' h pc lv st) : Sim G K nL X h pc lv st := by subst e; exact k
end
