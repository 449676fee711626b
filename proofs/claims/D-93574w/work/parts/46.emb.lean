/-! PURE: the model's cells -/
set_option maxRecDepth 100000
/-- where the array of a field lies behind the object; 0: no array -/
def aO : Nat → Nat
  | 1 => 1 | 2 => 2 | 3 => 3 | 4 => 4 | 12 => 5 | 16 => 6 | 17 => 7 | 18 => 8 | 19 => 9 | 20 => 10 | 21 => 11 | 22 => 12
  | 30 => 13 | 31 => 14 | 32 => 15 | 33 => 16 | 34 => 17 | 35 => 18 | 36 => 19 | 37 => 20 | 38 => 21 | 40 => 22 | 41 => 23 | 42 => 24 | 45 => 25 | 46 => 26
  | _ => 0
def aK : Nat → Nat
  | 1 => 1 | 2 => 2 | 3 => 3 | 4 => 4 | 5 => 12 | 6 => 16 | 7 => 17 | 8 => 18 | 9 => 19 | 10 => 20 | 11 => 21 | 12 => 22
  | 13 => 30 | 14 => 31 | 15 => 32 | 16 => 33 | 17 => 34 | 18 => 35 | 19 => 36 | 20 => 37 | 21 => 38 | 22 => 40 | 23 => 41 | 24 => 42 | 25 => 45 | 26 => 46
  | _ => 0
/-- its length, its type -/
def aN : Nat → Nat
  | 3 => 4 | 4 => 4 | 12 => 60 | 21 => 256 | 22 => 1024 | 31 => 48 | 32 => 48 | 33 => 48 | 34 => 48 | 35 => 768 | 41 => 4 | 42 => 8
  | _ => 96
def aT : Nat → Nat
  | 20 => 1 | 21 => 1 | 45 => 1
  | _ => 0
theorem aKO : ∀ o, o < 27 → 1 ≤ o → aO (aK o) = o ∧ aK o < 50 := by decide
theorem aOKk : ∀ k, k < 50 → 0 < aO k → aK (aO k) = k ∧ aO k ≤ 26 := by decide
def ma (mo k : Nat) : Nat := mo + aO k
def mF (mo : Nat) (I : Nat → Int32) : List Value := (List.range 50).map (fun k => if aO k = 0 then .int (I k) else .ref (ma mo k))
def EM (h : AH) (mo : Nat) (I : Nat → Int32) (A : Nat → Nat → Int32) : AH :=
  (fun q => if q = mo then some (.inr (2, mF mo I)) else if mo < q ∧ q ≤ mo + 26 then some (.inl (aT (aK (q - mo)), aN (aK (q - mo)), .inl (A (aK (q - mo))))) else h.1 q, h.2)
/-- the heap holds the model -/
def MC (h : AH) (mo : Nat) (I : Nat → Int32) (A : Nat → Nat → Int32) : Prop := EM h mo I A = h
def upA (A : Nat → Nat → Int32) (k : Nat) (f : Nat → Int32) : Nat → Nat → Int32 := fun j => if j = k then f else A j
theorem mF_I {mo k : Nat} {I : Nat → Int32} (hk : k < 50) (ha : aO k = 0) : (mF mo I)[k]? = some (.int (I k)) := by
  unfold mF; rw [List.getElem?_map, List.getElem?_range hk]; simp [ha]
theorem mF_A {mo k : Nat} {I : Nat → Int32} (hk : k < 50) (ha : 0 < aO k) : (mF mo I)[k]? = some (va_rf (some (ma mo k))) := by
  unfold mF; rw [List.getElem?_map, List.getElem?_range hk]; simp [Nat.ne_of_gt ha, va_rf]
theorem mF_set {mo k : Nat} {I : Nat → Int32} {v : Int32} (hk : k < 50) (ha : aO k = 0) : (mF mo I).set k (.int v) = mF mo (upd I k v) := by
  apply List.ext_getElem?
  intro i
  rw [List.getElem?_set]
  by_cases hi : i < 50
  · unfold mF
    rw [List.getElem?_map, List.getElem?_map, List.getElem?_range hi]
    by_cases hik : k = i
    · subst hik; simp [hi, ha, upd]
    · simp [hik, upd, Ne.symm hik]
  · have h1 : (mF mo I)[i]? = none := by unfold mF; simp; omega
    have h2 : (mF mo (upd I k v))[i]? = none := by unfold mF; simp; omega
    rw [h1, h2]
    have : k ≠ i := by omega
    simp [this]
theorem mF_len {mo : Nat} {I : Nat → Int32} : (mF mo I).length = 50 := by simp [mF]
section
variable {h : AH} {mo : Nat} {I : Nat → Int32} {A : Nat → Nat → Int32}
theorem EM_o : (EM h mo I A).1 mo = some (.inr (2, mF mo I)) := by simp [EM]
theorem EM_a {k : Nat} (hk : k < 50) (ha : 0 < aO k) : (EM h mo I A).1 (ma mo k) = some (.inl (aT k, aN k, .inl (A k))) := by
  have := aOKk k hk ha
  unfold EM ma
  simp only
  rw [if_neg (by omega), if_pos (by omega), show mo + aO k - mo = aO k by omega, this.1]
theorem EM_x {q : Nat} (h1 : q < mo ∨ mo + 26 < q) : (EM h mo I A).1 q = h.1 q := by
  unfold EM
  simp only
  rw [if_neg (by omega), if_neg (by omega)]
theorem EM_2 : (EM h mo I A).2 = h.2 := rfl
theorem EM_EM {I' : Nat → Int32} {A' : Nat → Nat → Int32} : EM (EM h mo I A) mo I' A' = EM h mo I' A' := by
  refine Prod.ext ?_ rfl
  funext q
  show (if q = mo then _ else if mo < q ∧ q ≤ mo + 26 then _ else (EM h mo I A).1 q) = (if q = mo then _ else if mo < q ∧ q ≤ mo + 26 then _ else h.1 q)
  split
  · rfl
  · split
    · rfl
    · exact EM_x (by omega)
theorem EM_mc : MC (EM h mo I A) mo I A := EM_EM
theorem EM_sI {I' : Nat → Int32} : hset (EM h mo I A) mo (.inr (2, mF mo I')) = EM h mo I' A := by
  refine Prod.ext ?_ rfl
  funext q
  show (if q = mo then some _ else (EM h mo I A).1 q) = (EM h mo I' A).1 q
  unfold EM
  simp only
  split <;> rfl
theorem EM_sA {k : Nat} (hk : k < 50) (ha : 0 < aO k) {f : Nat → Int32} : hset (EM h mo I A) (ma mo k) (.inl (aT k, aN k, .inl f)) = EM h mo I (upA A k f) := by
  have hok := aOKk k hk ha
  refine Prod.ext ?_ rfl
  funext q
  show (if q = ma mo k then some _ else (EM h mo I A).1 q) = (EM h mo I (upA A k f)).1 q
  by_cases hq : q = ma mo k
  · subst hq
    rw [if_pos rfl, EM_a hk ha]
    simp [upA]
  · rw [if_neg hq]
    unfold EM
    simp only
    split
    · rfl
    · split
      · rename_i h1 h2
        have h3 := aKO (q - mo) (by omega) (by omega)
        have : aK (q - mo) ≠ k := by
          intro z
          rw [z] at h3
          unfold ma at hq
          omega
        simp [upA, this]
      · rfl
theorem m_rc {X : RS} : xrc (EM h mo I A) (some mo) 2 X = X := rc_v (rdo EM_o)
theorem m_gI {k : Nat} (hk : k < 50) (ha : aO k = 0) {X : Int32 → RS} : xgI (EM h mo I A) (some mo) 2 k X = X (I k) := gI_v (rdo EM_o) (mF_I hk ha)
theorem m_gA {k : Nat} (hk : k < 50) (ha : 0 < aO k) {X : Option Nat → RS} : xgA (EM h mo I A) (some mo) 2 k X = X (some (ma mo k)) := gA_v (rdo EM_o) (mF_A hk ha)
theorem m_pI {k : Nat} (hk : k < 50) (ha : aO k = 0) {v : Int32} {X : AH → RS} : xpF (EM h mo I A) (some mo) 2 k (.int v) X = X (EM h mo (upd I k v) A) := by
  rw [pF_v EM_o (by rw [mF_len]; exact hk), mF_set hk ha, EM_sI]
theorem m_pZ {k : Nat} (hk : k < 50) (ha : aO k = 0) {v : Int32} (hv : v = 0 ∨ v = 1) {X : AH → RS} : xpZ (EM h mo I A) (some mo) 2 k v X = X (EM h mo (upd I k v) A) := by
  rw [pZ_v hv EM_o (by rw [mF_len]; exact hk), mF_set hk ha, EM_sI]
theorem aN_le (k : Nat) : aN k ≤ 1024 := by unfold aN; split <;> omega
theorem m_lI {k i : Nat} (hk : k < 50) (ha : 0 < aO k) (hi : i < aN k) {X : Int32 → RS} : xlI (EM h mo I A) (some (ma mo k)) (aT k) (nI i) X = X (A k i) := lI_v (rdo (EM_a hk ha)) hi (by have := aN_le k; omega)
theorem m_sI {k i : Nat} (hk : k < 50) (ha : 0 < aO k) (hi : i < aN k) {v : Int32} {X : AH → RS} : xsI (EM h mo I A) (some (ma mo k)) (aT k) (nI i) v X = X (EM h mo I (upA A k (upd (A k) i (nrT (aT k) v)))) := by
  rw [sI_v (EM_a hk ha) hi (by have := aN_le k; omega), EM_sA hk ha]
/-- what a model's call keeps -/
theorem EM_kp (c : MC h mo I A) {I' : Nat → Int32} {A' : Nat → Nat → Int32} : Kp (fun a => mo ≤ a ∧ a ≤ mo + 26) 0 0 h (EM h mo I' A') := by
  refine ⟨fun a _ hF => EM_x (by omega), rfl, Nat.le_refl _, by show hcl h ≤ hcl h + 0; omega, by show hsl h ≤ hsl h + 0; omega, rfl⟩
theorem EM_gh {B : Nat} (c : MC h mo I A) (g : GH B h) {I' : Nat → Int32} {A' : Nat → Nat → Int32} : GH B (EM h mo I' A') := by
  obtain ⟨g1, g2, g3⟩ := g
  refine ⟨g1, fun q x hx => ?_, g3⟩
  by_cases hq : mo ≤ q ∧ q ≤ mo + 26
  · have hs : ∃ y, h.1 q = some y := by
      rw [← (show EM h mo I A = h from c)]
      unfold EM
      simp only
      split
      · exact ⟨_, rfl⟩
      · rw [if_pos (by omega)]; exact ⟨_, rfl⟩
    obtain ⟨y, hy⟩ := hs
    exact g2 q y hy
  · rw [EM_x (by omega)] at hx
    exact g2 q x hx
theorem MC.kp {F : Nat → Prop} {c n B : Nat} {h' : AH} (m : MC h mo I A) (g : GH B h) (k : Kp F c n h h') (hF : ∀ a, mo ≤ a → a ≤ mo + 26 → ¬ F a) : MC h' mo I A := by
  refine Prod.ext ?_ rfl
  funext q
  by_cases hq : mo ≤ q ∧ q ≤ mo + 26
  · have e : (EM h' mo I A).1 q = (EM h mo I A).1 q := by
      unfold EM
      simp only
      split
      · rfl
      · rw [if_pos (by omega), if_pos (by omega)]
    have e2 : (EM h mo I A).1 q = h.1 q := by rw [show EM h mo I A = h from m]
    have hs : ∃ y, h.1 q = some y := by
      rw [← e2]
      unfold EM
      simp only
      split
      · exact ⟨_, rfl⟩
      · rw [if_pos (by omega)]; exact ⟨_, rfl⟩
    obtain ⟨y, hy⟩ := hs
    rw [e, e2, hy]
    exact (k.ow g hy (hF q hq.1 hq.2)).symm
  · exact EM_x (by omega)
end
