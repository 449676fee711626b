/-! SIM, part 4: arrays, new, statics, returns -/
set_option maxRecDepth 100000
section
variable {G : GC} {K : SC} {own nm : String} {cc : ByteArray} {nL : Nat} {ret : Option FieldType} {hh : List ExceptionTableEntry} {X : RS} {h : AH} {pc : Nat} {lv : List (Nat × Value)} {st : List Value}
theorem HP.one {l : Launch} (g : GOK G l) {H : Heap} (hH : HP G h H) {a t : Nat} {x : vp_A} (he : rd h a = some (.inl (t, x))) (ht : t < 7) : va_P (gD G) CL [(a, cvE (gT G) (.inl (t, x)))] H := fun j q hq => by
  have hj : j < 1 := (List.getElem?_eq_some_iff.mp hq).1
  rw [show j = 0 by omega] at hq
  cases hq
  exact hH.at g he ht
theorem s_iald (hK : SOK G K own cc nL ret nm hh) {o : Option Nat} {i : Int32} (d : decode cc pc = .ok (.iaload, 1)) {X : Int32 → RS} (kk : ∀ v, Sim G K nL (X v) h (pc + 1) lv (.int v :: st)) : Sim G K nL (xlI h o 0 i X) h pc lv (.int i :: va_rf o :: st) := by
  intro out h' hX H locs cells slots ls hH hL hc hs' hv
  unfold xlI at hX
  split at hX
  · cases hX
  · split at hX
    · rename_i t' n f e
      split at hX
      · rename_i ec
        obtain ⟨rfl, ec⟩ := ec
        exact va_iald hK.2.2.1 hK.2.2.2.1 (hK.1.K hK.2.1) (hH.one hK.1 e (by decide)) 0 0 rfl rfl (in_of ec) d (kk _ out h' hX H locs cells slots ls hH hL hc hs' hv)
      · cases hX
    · cases hX
theorem s_zald (hK : SOK G K own cc nL ret nm hh) {o : Option Nat} {i : Int32} (d : decode cc pc = .ok (.baload, 1)) {X : Int32 → RS} (kk : ∀ v, Sim G K nL (X v) h (pc + 1) lv (.int v :: st)) : Sim G K nL (xlI h o 1 i X) h pc lv (.int i :: va_rf o :: st) := by
  intro out h' hX H locs cells slots ls hH hL hc hs' hv
  unfold xlI at hX
  split at hX
  · cases hX
  · split at hX
    · rename_i t' n f e
      split at hX
      · rename_i ec
        obtain ⟨rfl, ec⟩ := ec
        exact va_zald hK.2.2.1 hK.2.2.2.1 (hK.1.K hK.2.1) (hH.one hK.1 e (by decide)) 0 1 rfl rfl (in_of ec) d (kk _ out h' hX H locs cells slots ls hH hL hc hs' hv)
      · cases hX
    · cases hX
theorem s_cald (hK : SOK G K own cc nL ret nm hh) {o : Option Nat} {i : Int32} (d : decode cc pc = .ok (.caload, 1)) {X : Int32 → RS} (kk : ∀ v, Sim G K nL (X v) h (pc + 1) lv (.int v :: st)) : Sim G K nL (xlI h o 2 i X) h pc lv (.int i :: va_rf o :: st) := by
  intro out h' hX H locs cells slots ls hH hL hc hs' hv
  unfold xlI at hX
  split at hX
  · cases hX
  · split at hX
    · rename_i t' n f e
      split at hX
      · rename_i ec
        obtain ⟨rfl, ec⟩ := ec
        exact va_cald hK.2.2.1 hK.2.2.2.1 (hK.1.K hK.2.1) (hH.one hK.1 e (by decide)) 0 2 rfl rfl (in_of ec) d (kk _ out h' hX H locs cells slots ls hH hL hc hs' hv)
      · cases hX
    · cases hX
theorem s_lald (hK : SOK G K own cc nL ret nm hh) {o : Option Nat} {i : Int32} (d : decode cc pc = .ok (.laload, 1)) {X : Int64 → RS} (kk : ∀ v, Sim G K nL (X v) h (pc + 1) lv (.long v :: st)) : Sim G K nL (xlL h o i X) h pc lv (.int i :: va_rf o :: st) := by
  intro out h' hX H locs cells slots ls hH hL hc hs' hv
  unfold xlL at hX
  split at hX
  · cases hX
  · split at hX
    · rename_i t' n f e
      split at hX
      · rename_i ec
        obtain ⟨rfl, ec⟩ := ec
        exact va_lald hK.2.2.1 hK.2.2.2.1 (hK.1.K hK.2.1) (hH.one hK.1 e (by decide)) 0 3 rfl rfl (in_of ec) d (kk _ out h' hX H locs cells slots ls hH hL hc hs' hv)
      · cases hX
    · cases hX
theorem s_dald (hK : SOK G K own cc nL ret nm hh) {o : Option Nat} {i : Int32} (d : decode cc pc = .ok (.daload, 1)) {X : UInt64 → RS} (kk : ∀ v, Sim G K nL (X v) h (pc + 1) lv (.double v :: st)) : Sim G K nL (xlD h o i X) h pc lv (.int i :: va_rf o :: st) := by
  intro out h' hX H locs cells slots ls hH hL hc hs' hv
  unfold xlD at hX
  split at hX
  · cases hX
  · split at hX
    · rename_i t' n f e
      split at hX
      · rename_i ec
        obtain ⟨rfl, ec⟩ := ec
        exact va_dald hK.2.2.1 hK.2.2.2.1 (hK.1.K hK.2.1) (hH.one hK.1 e (by decide)) 0 4 rfl rfl (in_of ec) d (kk _ out h' hX H locs cells slots ls hH hL hc hs' hv)
      · cases hX
    · cases hX
theorem s_aald (hK : SOK G K own cc nL ret nm hh) {o : Option Nat} {i : Int32} (d : decode cc pc = .ok (.aaload, 1)) {X : Option Nat → RS} (kk : ∀ v, Sim G K nL (X v) h (pc + 1) lv (va_rf v :: st)) : Sim G K nL (xlA h o i X) h pc lv (.int i :: va_rf o :: st) := by
  intro out h' hX H locs cells slots ls hH hL hc hs' hv
  unfold xlA at hX
  split at hX
  · cases hX
  · split at hX
    · rename_i t' n f e
      split at hX
      · rename_i ec
        obtain ⟨rfl | rfl, ec⟩ := ec
        · exact va_aldq hK.2.2.1 hK.2.2.2.1 (hK.1.K hK.2.1) (hH.one hK.1 e (by decide)) 0 5 rfl rfl (in_of ec) d (kk _ out h' hX H locs cells slots ls hH hL hc hs' hv)
        · rcases hH.rdc hK.1 e hK.2.1 with z | z
          · exact absurd (hH.1 _ _ z.1).2.2 (by show ¬ (8 : Nat) < 6; decide)
          · rcases z with z | z
            · obtain ⟨cell, z1, z2, z3, z4, z5, z6, z7⟩ := z.2
              have hin := in_of ec
              have hlt : i.toNatClampNeg < n := Nat.not_le.mp fun q => hin (Or.inr q)
              exact W.aald (v := va_rf (f i.toNatClampNeg)) (ty := .object "java/lang/Integer") hK.2.2.1 hK.2.2.2.1 z1 z2 rfl z3 (fun q => hin (q.elim Or.inl (fun q => Or.inr (Nat.le_trans z4 q)))) (z6 _ hlt) rfl rfl d (kk _ out h' hX H locs cells slots ls hH hL hc hs' hv)
            · exact absurd z.1 (by decide)
      · cases hX
    · cases hX
theorem TYL_lt {t : Nat} (h : t < 6) : ∃ ty : FieldType, (TYL G)[t]? = some (gT G t, ty) := by
  match t, h with
  | 0, _ => exact ⟨_, rfl⟩
  | 1, _ => exact ⟨_, rfl⟩
  | 2, _ => exact ⟨_, rfl⟩
  | 3, _ => exact ⟨_, rfl⟩
  | 4, _ => exact ⟨_, rfl⟩
  | 5, _ => exact ⟨_, rfl⟩
theorem s_alen (hK : SOK G K own cc nL ret nm hh) {o : Option Nat} (d : decode cc pc = .ok (.arraylength, 1)) {X : Int32 → RS} (kk : ∀ v, Sim G K nL (X v) h (pc + 1) lv (.int v :: st)) : Sim G K nL (xaL h o X) h pc lv (va_rf o :: st) := by
  intro out h' hX H locs cells slots ls hH hL hc hs' hv
  unfold xaL at hX
  split at hX
  · cases hX
  · split at hX
    · rename_i t x e
      split at hX
      · rename_i ec
        rcases ec with ec | ec
        · obtain ⟨ty, hty⟩ := TYL_lt (G := G) ec
          exact va_alen hK.2.2.1 hK.2.2.2.1 (hK.1.K hK.2.1) (hH.one hK.1 e (by omega)) 0 t rfl hty rfl d (kk _ out h' hX H locs cells slots ls hH hL hc hs' hv)
        · subst ec
          rcases hH.rdc hK.1 e hK.2.1 with z | z
          · exact absurd (hH.1 _ _ z.1).2.2 (by show ¬ (9 : Nat) < 6; decide)
          · obtain ⟨n, f | f | f | f | f⟩ := x
            · exact absurd z.1 (by decide)
            · exact z.elim
            · exact z.elim
            · exact z.elim
            · rcases z with z | z
              · exact absurd z.1 (by decide)
              · obtain ⟨cell, z1, z2, z3, z4, z5, z6, z7⟩ := z.2
                exact W.alen (n := Int32.ofNat n) hK.2.2.1 hK.2.2.2.1 z1 z2 z5 rfl rfl d (kk _ out h' hX H locs cells slots ls hH hL hc hs' hv)
      · cases hX
    · cases hX
theorem s_slen (hK : SOK G K own cc nL ret nm hh) {o : Option Nat} (d : decode cc pc = .ok (.arraylength, 1)) {X : Int32 → RS} (kk : ∀ v, Sim G K nL (X v) h (pc + 1) lv (.int v :: st)) : Sim G K nL (xaS h o X) h pc lv (va_rf o :: st) := by
  intro out h' hX H locs cells slots ls hH hL hc hs' hv
  unfold xaS at hX
  split at hX
  · cases hX
  · split at hX
    · rename_i t n f e
      split at hX
      · rename_i ec
        subst ec
        rcases hH.rdc hK.1 e hK.2.1 with z | z
        · exact absurd (hH.1 _ _ z.1).2.2 (by show ¬ (7 : Nat) < 6; decide)
        · obtain ⟨cell, z1, z2, z3, z4, z5, z6, z7⟩ := z.2
          exact W.alen (n := Int32.ofNat n) hK.2.2.1 hK.2.2.2.1 z1 z2 z5 rfl rfl d (kk _ out h' hX H locs cells slots ls hH hL hc hs' hv)
      · cases hX
    · cases hX
theorem s_sld (hK : SOK G K own cc nL ret nm hh) {o : Option Nat} {i : Int32} (d : decode cc pc = .ok (.iaload, 1)) {X : Int32 → RS} (kk : ∀ v, Sim G K nL (X v) h (pc + 1) lv (.int v :: st)) : Sim G K nL (xlI h o 7 i X) h pc lv (.int i :: va_rf o :: st) := by
  intro out h' hX H locs cells slots ls hH hL hc hs' hv
  unfold xlI at hX
  split at hX
  · cases hX
  · split at hX
    · rename_i t' n f e
      split at hX
      · rename_i ec
        obtain ⟨rfl, ec⟩ := ec
        rcases hH.rdc hK.1 e hK.2.1 with z | z
        · exact absurd (hH.1 _ _ z.1).2.2 (by show ¬ (7 : Nat) < 6; decide)
        · obtain ⟨cell, z1, z2, z3, z4, z5, z6, z7⟩ := z.2
          have hin := in_of ec
          have hlt : i.toNatClampNeg < n := Nat.not_le.mp fun q => hin (Or.inr q)
          exact W.iald (v := .int (f i.toNatClampNeg)) hK.2.2.1 hK.2.2.2.1 z1 z2 z3 (fun q => hin (q.elim Or.inl (fun q => Or.inr (Nat.le_trans z4 q)))) (z6 _ hlt) rfl rfl d (kk _ out h' hX H locs cells slots ls hH hL hc hs' hv)
      · cases hX
    · cases hX
theorem locs_app {B : Nat} {locs : List Loc} {a i : Nat} (hL : ∀ q ∈ locs, B ≤ q.base) (ha : B ≤ a) : ∀ q ∈ locs ++ [(⟨a, i⟩ : Loc)], B ≤ q.base := fun q hq => by
  rcases List.mem_append.mp hq with z | z
  · exact hL q z
  · rw [List.mem_singleton.mp z]; exact ha
theorem s_iast (hK : SOK G K own cc nL ret nm hh) {o : Option Nat} {i x : Int32} (d : decode cc pc = .ok (.iastore, 1)) {X : AH → RS} (kk : ∀ h1, Sim G K nL (X h1) h1 (pc + 1) lv st) : Sim G K nL (xsI h o 0 i x X) h pc lv (.int x :: .int i :: va_rf o :: st) := by
  intro out h' hX H locs cells slots ls hH hL hc hs' hv
  unfold xsI at hX
  split at hX
  · cases hX
  · rename_i a
    split at hX
    · rename_i t' n f e
      split at hX
      · rename_i ec
        obtain ⟨rfl, ec⟩ := ec
        refine W.iast hK.2.2.1 hK.2.2.2.1 (hH.1 a _ e).2.1 (((hK.1.K hK.2.1).2 0 (gT G 0, .int) rfl).1 n (fun j => .int (f j))) (fun q => by cases q) (by show ¬ (i < 0 ∨ (arrV _ _ _).slots.size ≤ _); rw [arrV_size]; exact in_of ec) rfl rfl d fun H1 e1 z oq => ?_
        refine kk _ out h' hX H1 _ cells slots ls (hH.set e ?_ z oq) (locs_app hL (hH.1 a _ e).1) hc hs' hv
        show H1[a]? = some (vp_cell _ _)
        rw [e1]
        rw [vp_cell_i, vp_cell_i, arrV_store]
        congr 2
        funext q
        by_cases hq : q = i.toNatClampNeg
        · subst hq
          simp [updV, upd, nrT]
        · simp [updV, upd, hq]
      · cases hX
    · cases hX
theorem s_zast (hK : SOK G K own cc nL ret nm hh) {o : Option Nat} {i x : Int32} (d : decode cc pc = .ok (.bastore, 1)) {X : AH → RS} (kk : ∀ h1, Sim G K nL (X h1) h1 (pc + 1) lv st) : Sim G K nL (xsI h o 1 i x X) h pc lv (.int x :: .int i :: va_rf o :: st) := by
  intro out h' hX H locs cells slots ls hH hL hc hs' hv
  unfold xsI at hX
  split at hX
  · cases hX
  · rename_i a
    split at hX
    · rename_i t' n f e
      split at hX
      · rename_i ec
        obtain ⟨rfl, ec⟩ := ec
        refine W.zast hK.2.2.1 hK.2.2.2.1 (hH.1 a _ e).2.1 (((hK.1.K hK.2.1).2 1 (gT G 1, .boolean) rfl).1 n (fun j => .int (f j))) (fun q => by cases q) (by show ¬ (i < 0 ∨ (arrV _ _ _).slots.size ≤ _); rw [arrV_size]; exact in_of ec) rfl rfl d fun H1 e1 z oq => ?_
        refine kk _ out h' hX H1 _ cells slots ls (hH.set e ?_ z oq) (locs_app hL (hH.1 a _ e).1) hc hs' hv
        show H1[a]? = some (vp_cell _ _)
        rw [e1]
        rw [vp_cell_i, vp_cell_i, arrV_store]
        congr 2
        funext q
        by_cases hq : q = i.toNatClampNeg
        · subst hq
          simp [updV, upd, nrT, vp_nar]
          try rfl
        · simp [updV, upd, hq]
      · cases hX
    · cases hX
theorem s_cast (hK : SOK G K own cc nL ret nm hh) {o : Option Nat} {i x : Int32} (d : decode cc pc = .ok (.castore, 1)) {X : AH → RS} (kk : ∀ h1, Sim G K nL (X h1) h1 (pc + 1) lv st) : Sim G K nL (xsI h o 2 i x X) h pc lv (.int x :: .int i :: va_rf o :: st) := by
  intro out h' hX H locs cells slots ls hH hL hc hs' hv
  unfold xsI at hX
  split at hX
  · cases hX
  · rename_i a
    split at hX
    · rename_i t' n f e
      split at hX
      · rename_i ec
        obtain ⟨rfl, ec⟩ := ec
        refine W.cast hK.2.2.1 hK.2.2.2.1 (hH.1 a _ e).2.1 (((hK.1.K hK.2.1).2 2 (gT G 2, .char) rfl).1 n (fun j => .int (f j))) (fun q => by cases q) (by show ¬ (i < 0 ∨ (arrV _ _ _).slots.size ≤ _); rw [arrV_size]; exact in_of ec) rfl rfl d fun H1 e1 z oq => ?_
        refine kk _ out h' hX H1 _ cells slots ls (hH.set e ?_ z oq) (locs_app hL (hH.1 a _ e).1) hc hs' hv
        show H1[a]? = some (vp_cell _ _)
        rw [e1]
        rw [vp_cell_i, vp_cell_i, arrV_store]
        congr 2
        funext q
        by_cases hq : q = i.toNatClampNeg
        · subst hq
          simp [updV, upd, nrT, vp_nar]
          try rfl
        · simp [updV, upd, hq]
      · cases hX
    · cases hX
theorem s_last (hK : SOK G K own cc nL ret nm hh) {o : Option Nat} {i : Int32} {x : Int64} (d : decode cc pc = .ok (.lastore, 1)) {X : AH → RS} (kk : ∀ h1, Sim G K nL (X h1) h1 (pc + 1) lv st) : Sim G K nL (xsL h o i x X) h pc lv (.long x :: .int i :: va_rf o :: st) := by
  intro out h' hX H locs cells slots ls hH hL hc hs' hv
  unfold xsL at hX
  split at hX
  · cases hX
  · rename_i a
    split at hX
    · rename_i t' n f e
      split at hX
      · rename_i ec
        obtain ⟨rfl, ec⟩ := ec
        refine W.last hK.2.2.1 hK.2.2.2.1 (hH.1 a _ e).2.1 (((hK.1.K hK.2.1).2 3 (gT G 3, .long) rfl).1 n (fun j => .long (f j))) (fun q => by cases q) (by show ¬ (i < 0 ∨ (arrV _ _ _).slots.size ≤ _); rw [arrV_size]; exact in_of ec) rfl rfl d fun H1 e1 z oq => ?_
        refine kk _ out h' hX H1 _ cells slots ls (hH.set e ?_ z oq) (locs_app hL (hH.1 a _ e).1) hc hs' hv
        show H1[a]? = some (vp_cell _ _)
        rw [e1]
        rw [vp_cell_l, vp_cell_l, arrV_store]
        congr 2
        funext q
        by_cases hq : q = i.toNatClampNeg
        · subst hq
          simp [updV, vp_updL]
        · simp [updV, vp_updL, hq]
      · cases hX
    · cases hX
theorem s_dast (hK : SOK G K own cc nL ret nm hh) {o : Option Nat} {i : Int32} {x : UInt64} (d : decode cc pc = .ok (.dastore, 1)) {X : AH → RS} (kk : ∀ h1, Sim G K nL (X h1) h1 (pc + 1) lv st) : Sim G K nL (xsD h o i x X) h pc lv (.double x :: .int i :: va_rf o :: st) := by
  intro out h' hX H locs cells slots ls hH hL hc hs' hv
  unfold xsD at hX
  split at hX
  · cases hX
  · rename_i a
    split at hX
    · rename_i t' n f e
      split at hX
      · rename_i ec
        obtain ⟨rfl, ec⟩ := ec
        refine W.dast hK.2.2.1 hK.2.2.2.1 (hH.1 a _ e).2.1 (((hK.1.K hK.2.1).2 4 (gT G 4, .double) rfl).1 n (fun j => .double (f j))) (fun q => by cases q) (by show ¬ (i < 0 ∨ (arrV _ _ _).slots.size ≤ _); rw [arrV_size]; exact in_of ec) rfl rfl d fun H1 e1 z oq => ?_
        refine kk _ out h' hX H1 _ cells slots ls (hH.set e ?_ z oq) (locs_app hL (hH.1 a _ e).1) hc hs' hv
        show H1[a]? = some (vp_cell _ _)
        rw [e1]
        rw [vp_cell_d, vp_cell_d, arrV_store]
        congr 2
        funext q
        by_cases hq : q = i.toNatClampNeg
        · subst hq
          simp [updV, updD]
        · simp [updV, updD, hq]
      · cases hX
    · cases hX
end
