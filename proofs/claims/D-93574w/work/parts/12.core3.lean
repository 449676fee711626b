/-! SIM, part 3: reading and writing the heap -/
set_option maxRecDepth 100000
/-- a field of type int (or boolean, char) -/
def xgI (h : AH) (o : Option Nat) (ci k : Nat) (X : Int32 → RS) : RS := match o with
  | none => none
  | some a => match rd h a with
    | some (.inr (c, fs)) => if c = ci then (match fs[k]? with
      | some (.int v) => X v
      | _ => none) else none
    | _ => none
/-- a field that holds a reference or null -/
def xgA (h : AH) (o : Option Nat) (ci k : Nat) (X : Option Nat → RS) : RS := match o with
  | none => none
  | some a => match rd h a with
    | some (.inr (c, fs)) => if c = ci then (match fs[k]? with
      | some (.ref b) => X (some b)
      | some .null => X none
      | _ => none) else none
    | _ => none
def xpF (h : AH) (o : Option Nat) (ci k : Nat) (v : Value) (X : AH → RS) : RS := match o with
  | none => none
  | some a => match h.1 a with
    | some (.inr (c, fs)) => if c = ci ∧ k < fs.length then X (hset h a (.inr (ci, fs.set k v))) else none
    | _ => none
/-- a store into a boolean field: only 0 and 1 -/
def xpZ (h : AH) (o : Option Nat) (ci k : Nat) (v : Int32) (X : AH → RS) : RS := if v = 0 ∨ v = 1 then xpF h o ci k (.int v) X else none
/-- int, boolean or char array (type number t) -/
def xlI (h : AH) (o : Option Nat) (t : Nat) (i : Int32) (X : Int32 → RS) : RS := match o with
  | none => none
  | some a => match rd h a with
    | some (.inl (t', n, .inl f)) => if t' = t ∧ 0 ≤ i.toInt ∧ i.toInt < n then X (f i.toNatClampNeg) else none
    | _ => none
def xlL (h : AH) (o : Option Nat) (i : Int32) (X : Int64 → RS) : RS := match o with
  | none => none
  | some a => match rd h a with
    | some (.inl (t', n, .inr (.inl f))) => if t' = 3 ∧ 0 ≤ i.toInt ∧ i.toInt < n then X (f i.toNatClampNeg) else none
    | _ => none
def xlD (h : AH) (o : Option Nat) (i : Int32) (X : UInt64 → RS) : RS := match o with
  | none => none
  | some a => match rd h a with
    | some (.inl (t', n, .inr (.inr (.inr (.inl f))))) => if t' = 4 ∧ 0 ≤ i.toInt ∧ i.toInt < n then X (f i.toNatClampNeg) else none
    | _ => none
def xlA (h : AH) (o : Option Nat) (i : Int32) (X : Option Nat → RS) : RS := match o with
  | none => none
  | some a => match rd h a with
    | some (.inl (t', n, .inr (.inr (.inr (.inr f))))) => if (t' = 5 ∨ t' = 8) ∧ 0 ≤ i.toInt ∧ i.toInt < n then X (f i.toNatClampNeg) else none
    | _ => none
/-- an array's length -/
def xaL (h : AH) (o : Option Nat) (X : Int32 → RS) : RS := match o with
  | none => none
  | some a => match rd h a with
    | some (.inl (t, x)) => if t < 6 ∨ t = 9 then X (Int32.ofNat x.1) else none
    | _ => none
/-- the script's length -/
def xaS (h : AH) (o : Option Nat) (X : Int32 → RS) : RS := match o with
  | none => none
  | some a => match rd h a with
    | some (.inl (t, n, .inl _)) => if t = 7 then X (Int32.ofNat n) else none
    | _ => none
/-- what an array of small type t keeps -/
def nrT (t : Nat) (x : Int32) : Int32 := if t = 1 then vp_nar .boolean x else if t = 2 then vp_nar .char x else x
def xsI (h : AH) (o : Option Nat) (t : Nat) (i x : Int32) (X : AH → RS) : RS := match o with
  | none => none
  | some a => match h.1 a with
    | some (.inl (t', n, .inl f)) => if t' = t ∧ 0 ≤ i.toInt ∧ i.toInt < n then X (hset h a (.inl (t, n, .inl (upd f i.toNatClampNeg (nrT t x))))) else none
    | _ => none
def xsL (h : AH) (o : Option Nat) (i : Int32) (x : Int64) (X : AH → RS) : RS := match o with
  | none => none
  | some a => match h.1 a with
    | some (.inl (t', n, .inr (.inl f))) => if t' = 3 ∧ 0 ≤ i.toInt ∧ i.toInt < n then X (hset h a (.inl (3, n, .inr (.inl (vp_updL f i.toNatClampNeg x))))) else none
    | _ => none
def updD (f : Nat → UInt64) (k : Nat) (x : UInt64) : Nat → UInt64 := fun j => if j = k then x else f j
def xsD (h : AH) (o : Option Nat) (i : Int32) (x : UInt64) (X : AH → RS) : RS := match o with
  | none => none
  | some a => match h.1 a with
    | some (.inl (t', n, .inr (.inr (.inr (.inl f))))) => if t' = 4 ∧ 0 ≤ i.toInt ∧ i.toInt < n then X (hset h a (.inl (4, n, .inr (.inr (.inr (.inl (updD f i.toNatClampNeg x))))))) else none
    | _ => none
/-- a store into an Object[]: null, or an object whose cell is known -/
def xsA (h : AH) (o : Option Nat) (i : Int32) (v : Option Nat) (X : AH → RS) : RS := match o with
  | none => none
  | some a => match h.1 a with
    | some (.inl (t', n, .inr (.inr (.inr (.inr f))))) => if t' = 5 ∧ 0 ≤ i.toInt ∧ i.toInt < n then (match v with
      | none => X (hset h a (.inl (5, n, .inr (.inr (.inr (.inr (va_up f i.toNatClampNeg none)))))))
      | some b => match rd h b with
        | some (.inr (c, _)) => if c = 6 ∨ c = 7 ∨ c = 8 ∨ c = 11 then X (hset h a (.inl (5, n, .inr (.inr (.inr (.inr (va_up f i.toNatClampNeg (some b)))))))) else none
        | _ => none) else none
    | _ => none
def xnO (h : AH) (ci n : Nat) (fs : List Value) (X : Option Nat → AH → RS) : RS := if 1 ≤ hcl h ∧ n ≤ hsl h then X (some (hsz h)) (hnew h (.inr (ci, fs)) n) else none
def zA (t n : Nat) : vp_A := (n, if t = 3 then .inr (.inl (fun _ => 0)) else if t = 4 then .inr (.inr (.inr (.inl (fun _ => 0)))) else if t = 5 then .inr (.inr (.inr (.inr (fun _ => none)))) else .inl (fun _ => 0))
def xnA (h : AH) (t : Nat) (n : Int32) (X : Option Nat → AH → RS) : RS := if 0 ≤ n.toInt ∧ n.toInt ≤ 100000 ∧ 1 ≤ hcl h ∧ n.toNatClampNeg ≤ hsl h then X (some (hsz h)) (hnew h (.inl (t, zA t n.toNatClampNeg)) n.toNatClampNeg) else none
/-- a static -/
def xtI (h : AH) (k : Nat) (X : Int32 → RS) : RS := match hst h k with
  | .int v => X v
  | _ => none
def xtA (h : AH) (k : Nat) (X : Option Nat → RS) : RS := match hst h k with
  | .ref a => X (some a)
  | .null => X none
  | _ => none
def FC (ci : Nat) (C : String) (T : u_T) (N : Nat) (ty : Nat → FieldType) : Prop := CL[ci]? = some (C, T, N) ∧ (∀ w ∈ u_ws C T N, w ∈ lw_all) ∧ (∀ k, k < N → parseFieldDescriptor (T k).2.2.1 = some (ty k)) ∧ (∀ a, a < N → ∀ b, b < N → a ≠ b → (T a).2.1 ≠ (T b).2.1)
/-- a link to a field: plain, or of a nest mate -/
def FL (own : String) (index : Nat) (ref n d : String) : Prop := Cond.fieldLink own index ref n d ∈ lw_all ∨ ∃ host : String, Cond.fieldLinkNest own index ref n d host ∈ lw_tbl
def SF (ref own n d : String) : Prop := ref = own ∨ Cond.sameField ref own n d ∈ lw_all
theorem SF.same {G : GC} {l : Launch} (g : GOK G l) {U : State} (hW : (gZ G).WarmedH U.vm) {ref own n d : String} (h : SF ref own n d) : ∀ x, U.fieldFound? own n d = some x → U.fieldFound? ref n d = some x := by
  intro x hx
  rcases h with e | e
  · subst e; exact hx
  · exact u_same (g.w hW e #[]) x hx
section
variable {G : GC} {K : SC} {own nm : String} {cc : ByteArray} {nL : Nat} {ret : Option FieldType} {hh : List ExceptionTableEntry} {X : RS} {h : AH} {pc : Nat} {lv : List (Nat × Value)} {st : List Value}
theorem in_of {i : Int32} {n : Nat} (h : 0 ≤ i.toInt ∧ i.toInt < n) : vp_in i n := vp_in_iff.mpr h
/-- reading a field, whatever it holds -/
theorem k_get (hK : SOK G K own cc nL ret nm hh) {ci : Nat} {C : String} {T : u_T} {N : Nat} {ty : Nat → FieldType} (F : FC ci C T N ty) {a : Nat} {fs : List Value} (he : rd h a = some (.inr (ci, fs))) (k : Nat) (hk : k < N) {index : Nat} {ref : String} (hl : FL own index ref (T k).2.1 (T k).2.2.1) (hs : SF ref (T k).1 (T k).2.1 (T k).2.2.1)
    {v : Value} (hv : fs[k]? = some v) (d : decode cc pc = .ok (.getfield index, 3)) {H : Heap} (hH : HP G h H) {locs : List Loc} {cells slots : Nat} {ls : Array Slot} {Q : State → Prop} (kk : KW K H locs cells slots Q (pc + 3) ls (v :: st)) : KW K H locs cells slots Q pc ls (.ref a :: st) := by
  have hts : ∀ w ∈ lw_all, w.before K.2.2.2.2.2.2.1 (kS K) = true := fun w hw => hK.1.w hK.2.1 hw _
  obtain ⟨r, cell, h1, q1, q2, q3, q3', q4⟩ := hH.ob hK.1 he
  have hr : r = (C, T, N) := Option.some.inj (h1.symm.trans F.1)
  subst hr
  obtain ⟨hS, hfc, kC, hkC, hkind⟩ := (hK.1.K hK.2.1).1 ci _ F.1
  obtain ⟨cf, kf, fi, f, hi, hsl⟩ := hS k hk
  have hsv : cell.slots[f.slot]? = some v := by
    rw [hsl, q4 k hk]
    simp [vp_V, hv]
  rcases hl with hl | ⟨host, hl⟩
  · exact W.getf hK.2.2.1 hK.2.2.2.1 hK.2.2.2.2.2.1 (hts _ hl) (hs.same hK.1 hK.2.1 _ hi) (u_facts hfc hkC (u_lays hts F.2.1 hk) hi).1 q1 q3 hsv rfl rfl d kk
  · exact va_Wgetf hK.2.2.1 hK.2.2.2.1 hK.2.2.2.2.2.1 (va_Nw.use rfl (va_Nw.warmF hK.2.1 (va_Nw.of rfl (hK.1.1 _ hl)))) (hs.same hK.1 hK.2.1 _ hi) (u_facts hfc hkC (u_lays hts F.2.1 hk) hi).1 q1 q3 hsv rfl rfl d kk
theorem s_gI (hK : SOK G K own cc nL ret nm hh) {ci : Nat} {C : String} {T : u_T} {N : Nat} {ty : Nat → FieldType} (F : FC ci C T N ty) {o : Option Nat} (k : Nat) (hk : k < N) {index : Nat} {ref : String} (hl : FL own index ref (T k).2.1 (T k).2.2.1) (hs : SF ref (T k).1 (T k).2.1 (T k).2.2.1)
    (d : decode cc pc = .ok (.getfield index, 3)) {X : Int32 → RS} (kk : ∀ v, Sim G K nL (X v) h (pc + 3) lv (.int v :: st)) : Sim G K nL (xgI h o ci k X) h pc lv (va_rf o :: st) := by
  intro out h' hX H locs cells slots ls hH hL hc hs' hv
  cases o with
  | none => cases hX
  | some a =>
    unfold xgI at hX
    split at hX
    · cases hX
    · rename_i a' ea
      cases ea
      split at hX
      · rename_i c fs e
        split at hX
        · rename_i ec
          subst ec
          split at hX
          · rename_i v ev
            exact k_get hK F e k hk hl hs ev d hH (kk v out h' hX H locs cells slots ls hH hL hc hs' hv)
          · cases hX
        · cases hX
      · cases hX
theorem s_gA (hK : SOK G K own cc nL ret nm hh) {ci : Nat} {C : String} {T : u_T} {N : Nat} {ty : Nat → FieldType} (F : FC ci C T N ty) {o : Option Nat} (k : Nat) (hk : k < N) {index : Nat} {ref : String} (hl : FL own index ref (T k).2.1 (T k).2.2.1) (hs : SF ref (T k).1 (T k).2.1 (T k).2.2.1)
    (d : decode cc pc = .ok (.getfield index, 3)) {X : Option Nat → RS} (kk : ∀ v, Sim G K nL (X v) h (pc + 3) lv (va_rf v :: st)) : Sim G K nL (xgA h o ci k X) h pc lv (va_rf o :: st) := by
  intro out h' hX H locs cells slots ls hH hL hc hs' hv
  cases o with
  | none => cases hX
  | some a =>
    unfold xgA at hX
    split at hX
    · cases hX
    · rename_i a' ea
      cases ea
      split at hX
      · rename_i c fs e
        split at hX
        · rename_i ec
          subst ec
          split at hX
          · rename_i v ev
            exact k_get hK F e k hk hl hs ev d hH (kk (some v) out h' hX H locs cells slots ls hH hL hc hs' hv)
          · rename_i ev
            exact k_get hK F e k hk hl hs ev d hH (kk none out h' hX H locs cells slots ls hH hL hc hs' hv)
          · cases hX
        · cases hX
      · cases hX
/-- writing a field -/
theorem k_put (hK : SOK G K own cc nL ret nm hh) {ci : Nat} {C : String} {T : u_T} {N : Nat} {ty : Nat → FieldType} (F : FC ci C T N ty) {a : Nat} {fs : List Value} (he : h.1 a = some (.inr (ci, fs))) (k : Nat) (hk : k < N) {index : Nat} {ref : String} (hl : FL own index ref (T k).2.1 (T k).2.2.1) (hs : SF ref (T k).1 (T k).2.1 (T k).2.2.1)
    (hfin : (T k).2.2.2 = false ∨ ((T k).2.2.2 = true ∧ nm = "<init>" ∧ (T k).1 = own ∧ Cond.fieldLink own index ref (T k).2.1 (T k).2.2.1 ∈ lw_all)) {v : Value} (hn : narrow (ty k) v = v) (hfit : fits (ty k) v = true) (hlen : k < fs.length)
    (d : decode cc pc = .ok (.putfield index, 3)) {H : Heap} (hH : HP G h H) {locs : List Loc} (hL : ∀ q ∈ locs, gB G ≤ q.base) {cells slots : Nat} {ls : Array Slot} {Q : State → Prop} (kk : ∀ (H1 : Heap) (locs1 : List Loc), HP G (hset h a (.inr (ci, fs.set k v))) H1 → (∀ q ∈ locs1, gB G ≤ q.base) → KW K H1 locs1 cells slots Q (pc + 3) ls st) : KW K H locs cells slots Q pc ls (v :: .ref a :: st) := by
  obtain ⟨p, l, e, R, s, m, args, below, meth, c⟩ := K
  obtain ⟨g, hW, hexec, hb, hml, hown, hret, hlocks, hname, htab⟩ := hK
  dsimp only [kS] at *
  have hts : ∀ w ∈ lw_all, w.before args s = true := fun w hw => g.w hW hw _
  have hKK := g.K hW
  have hsame := hs.same g hW
  have hap := va_apart (own := own) hts F.2.1 ty F.2.2.1 F.2.2.2 hKK F.1
  have hat := hH.1 a _ he
  obtain ⟨r, h1, cell, q1, q2, q3, q4⟩ := hat.2.1
  have hr : r = (C, T, N) := Option.some.inj (h1.symm.trans F.1)
  subst hr
  obtain ⟨hS, hfc, kC, hkC, hkind⟩ := hKK.1 ci _ F.1
  obtain ⟨cf, kf, fi, f, hi, hsl⟩ := hS k hk
  have hlay := hts _ (F.2.1 _ (u_in_lay hk))
  unfold u_lay at hlay
  have hst := (u_facts hfc hkC (u_lays hts F.2.1 hk) hi).1
  have fin : ∀ (H' : Heap), H'[a]? = some (cell.setSlot ((gD G).2 ci k) v) → H'.size = H.size → (∀ q, q ≠ a → H'[q]? = H[q]?) → HP G (hset h a (.inr (ci, fs.set k v))) H' := fun H' e1 e2 e3 =>
    hH.set he ⟨_, F.1, t_OB.to (V := updV (vp_V fs) k v) ⟨_, e1, q2, q3, t_set q4 hap hk v⟩ (fun j _ => vp_updV_set hlen v j)⟩ e2 e3
  have hL2 : ∀ i : Nat, ∀ q ∈ locs ++ [(⟨a, i⟩ : Loc)], gB G ≤ q.base := fun i q hq => by
    rcases List.mem_append.mp hq with z | z
    · exact hL q z
    · rw [List.mem_singleton.mp z]; exact hat.1
  rcases hfin with hf | ⟨hf, hin2, hdecl, hlf⟩
  · rw [if_neg (by rw [hf]; decide)] at hlay
    have h6 := u_store hfc hkC hkind hlay hi (F.2.2.1 k hk) hn hfit
    rcases hl with hl | ⟨host, hl⟩
    · refine W.putK hexec hb (f := f) ⟨hown, hts _ hl, ⟨_, _, _, hsame _ hi⟩, hst⟩ (by rw [q2]; exact h6) q1 q3 (by rw [hsl]; exact k2_hasslot (q4 k hk)) rfl rfl d fun H' e1 e2 e3 => ?_
      rw [hsl] at e1 ⊢
      exact kk H' _ (fin H' e1 e2 e3) (hL2 _)
    · refine va_WputK hexec hb (f := f) hown (va_Nw.use rfl (va_Nw.warmF hW (va_Nw.of rfl (g.1 _ hl)))) (hsame _ hi) hst (by rw [q2]; exact h6) q1 q3 (by rw [hsl]; exact k2_hasslot (q4 k hk)) rfl rfl d fun H' e1 e2 e3 => ?_
      rw [hsl] at e1 ⊢
      exact kk H' _ (fin H' e1 e2 e3) (hL2 _)
  · rw [if_pos hf] at hlay
    have hcf : m.cls = cf := by
      obtain ⟨_, _, c', _, _, _, -, -, hf', -, -, -, hown2, -⟩ := Cond.laysFinal_spec hlay
      have e1 : c' = cf := by have := hi.symm.trans hf'; simp at this; exact this.1.symm
      rw [hdecl] at hown2
      rw [← e1]; exact Option.some.inj (hown.symm.trans hown2)
    have h6 := u_fits hfc hkC hkind (Or.inr hlay) hi (F.2.2.1 k hk) hn hfit
    refine W.putFinK hexec hb hown (hts _ hlf) (hsame _ hi) hst hcf (hname.trans hin2) (by rw [q2]; exact h6) q1 q3 (by rw [hsl]; exact k2_hasslot (q4 k hk)) rfl rfl d fun H' e1 e2 e3 => ?_
    rw [hsl] at e1 ⊢
    exact kk H' _ (fin H' e1 e2 e3) (hL2 _)
theorem s_pF (hK : SOK G K own cc nL ret nm hh) {ci : Nat} {C : String} {T : u_T} {N : Nat} {ty : Nat → FieldType} (F : FC ci C T N ty) {o : Option Nat} {v : Value} (k : Nat) (hk : k < N) {index : Nat} {ref : String} (hl : FL own index ref (T k).2.1 (T k).2.2.1) (hs : SF ref (T k).1 (T k).2.1 (T k).2.2.1)
    (hfin : (T k).2.2.2 = false ∨ ((T k).2.2.2 = true ∧ nm = "<init>" ∧ (T k).1 = own ∧ Cond.fieldLink own index ref (T k).2.1 (T k).2.2.1 ∈ lw_all)) (hn : narrow (ty k) v = v) (hfit : fits (ty k) v = true)
    (d : decode cc pc = .ok (.putfield index, 3)) {X : AH → RS} (kk : ∀ h1, Sim G K nL (X h1) h1 (pc + 3) lv st) : Sim G K nL (xpF h o ci k v X) h pc lv (v :: va_rf o :: st) := by
  intro out h' hX H locs cells slots ls hH hL hc hs' hv
  cases o with
  | none => cases hX
  | some a =>
    unfold xpF at hX
    split at hX
    · cases hX
    · rename_i a' ea
      cases ea
      split at hX
      · rename_i c fs e
        split at hX
        · rename_i ec
          obtain ⟨ec, elen⟩ := ec
          subst ec
          exact k_put hK F e k hk hl hs hfin hn hfit elen d hH hL (fun H1 locs1 hH1 hL1 => kk _ out h' hX H1 locs1 cells slots ls hH1 hL1 hc hs' hv)
        · cases hX
      · cases hX
theorem s_pZ (hK : SOK G K own cc nL ret nm hh) {ci : Nat} {C : String} {T : u_T} {N : Nat} {ty : Nat → FieldType} (F : FC ci C T N ty) {o : Option Nat} {v : Int32} (k : Nat) (hk : k < N) {index : Nat} {ref : String} (hl : FL own index ref (T k).2.1 (T k).2.2.1) (hs : SF ref (T k).1 (T k).2.1 (T k).2.2.1)
    (hfin : (T k).2.2.2 = false ∨ ((T k).2.2.2 = true ∧ nm = "<init>" ∧ (T k).1 = own ∧ Cond.fieldLink own index ref (T k).2.1 (T k).2.2.1 ∈ lw_all)) (ht : ty k = .boolean)
    (d : decode cc pc = .ok (.putfield index, 3)) {X : AH → RS} (kk : ∀ h1, Sim G K nL (X h1) h1 (pc + 3) lv st) : Sim G K nL (xpZ h o ci k v X) h pc lv (.int v :: va_rf o :: st) := by
  unfold xpZ
  refine s_ite (fun c => ?_) (fun c => s_none)
  refine s_pF hK F k hk hl hs hfin (by rw [ht]; rcases c with rfl | rfl <;> rfl) (by rw [ht]; rcases c with rfl | rfl <;> rfl) d kk
end
