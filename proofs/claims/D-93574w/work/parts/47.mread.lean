/-! PURE: the model's reading methods -/
set_option maxRecDepth 100000
/-- the model's picture of the image -/
def MI (I : Nat → Int32) (A : Nat → Nat → Int32) (m : Nat → Nat) (n : Nat) (es : List Nat) (t : Nat) : Prop := (∀ i, i < 96 → A 1 i = nI (m i)) ∧ (∀ i, i < 96 → m i < 256) ∧ (I 5 = nI n) ∧ (n ≤ 96) ∧ (I 6 = nI es.length) ∧ (es.length ≤ 4) ∧ (∀ i, i < es.length → A 3 i = nI (es.getD i 0)) ∧ (∀ e ∈ es, e < n) ∧ (I 7 = nI t) ∧ (1 ≤ t ∧ t ≤ 30)
theorem MI.mem {I : Nat → Int32} {A : Nat → Nat → Int32} {m : Nat → Nat} {n : Nat} {es : List Nat} {t : Nat} (M : MI I A m n es t) : ∀ i, i < 96 → A 1 i = nI (m i) := M.1
theorem MI.byt {I : Nat → Int32} {A : Nat → Nat → Int32} {m : Nat → Nat} {n : Nat} {es : List Nat} {t : Nat} (M : MI I A m n es t) : ∀ i, i < 96 → m i < 256 := M.2.1
theorem MI.siz {I : Nat → Int32} {A : Nat → Nat → Int32} {m : Nat → Nat} {n : Nat} {es : List Nat} {t : Nat} (M : MI I A m n es t) : I 5 = nI n := M.2.2.1
theorem MI.n96 {I : Nat → Int32} {A : Nat → Nat → Int32} {m : Nat → Nat} {n : Nat} {es : List Nat} {t : Nat} (M : MI I A m n es t) : n ≤ 96 := M.2.2.2.1
theorem MI.ecn {I : Nat → Int32} {A : Nat → Nat → Int32} {m : Nat → Nat} {n : Nat} {es : List Nat} {t : Nat} (M : MI I A m n es t) : I 6 = nI es.length := M.2.2.2.2.1
theorem MI.e4 {I : Nat → Int32} {A : Nat → Nat → Int32} {m : Nat → Nat} {n : Nat} {es : List Nat} {t : Nat} (M : MI I A m n es t) : es.length ≤ 4 := M.2.2.2.2.2.1
theorem MI.ent {I : Nat → Int32} {A : Nat → Nat → Int32} {m : Nat → Nat} {n : Nat} {es : List Nat} {t : Nat} (M : MI I A m n es t) : ∀ i, i < es.length → A 3 i = nI (es.getD i 0) := M.2.2.2.2.2.2.1
theorem MI.eln {I : Nat → Int32} {A : Nat → Nat → Int32} {m : Nat → Nat} {n : Nat} {es : List Nat} {t : Nat} (M : MI I A m n es t) : ∀ e ∈ es, e < n := M.2.2.2.2.2.2.2.1
theorem MI.thr {I : Nat → Int32} {A : Nat → Nat → Int32} {m : Nat → Nat} {n : Nat} {es : List Nat} {t : Nat} (M : MI I A m n es t) : I 7 = nI t := M.2.2.2.2.2.2.2.2.1
theorem MI.t30 {I : Nat → Int32} {A : Nat → Nat → Int32} {m : Nat → Nat} {n : Nat} {es : List Nat} {t : Nat} (M : MI I A m n es t) : 1 ≤ t ∧ t ≤ 30 := M.2.2.2.2.2.2.2.2.2
theorem MI.cg {I I' : Nat → Int32} {A A' : Nat → Nat → Int32} {m : Nat → Nat} {n : Nat} {es : List Nat} {t : Nat} (M : MI I A m n es t) (h5 : I' 5 = I 5) (h6 : I' 6 = I 6) (h7 : I' 7 = I 7) (h1 : A' 1 = A 1) (h3 : A' 3 = A 3) : MI I' A' m n es t :=
  ⟨fun i hi => by rw [h1]; exact M.mem i hi, M.byt, by rw [h5]; exact M.siz, M.n96, by rw [h6]; exact M.ecn, M.e4, fun i hi => by rw [h3]; exact M.ent i hi, M.eln, by rw [h7]; exact M.thr, M.t30⟩
theorem m_lI0 {h : AH} {mo : Nat} {I : Nat → Int32} {A : Nat → Nat → Int32} {k i : Nat} (hk : k < 50) (ha : 0 < aO k) (ht : aT k = 0) (hi : i < aN k) {X : Int32 → RS} : xlI (EM h mo I A) (some (ma mo k)) 0 (nI i) X = X (A k i) := by rw [← ht]; exact m_lI hk ha hi
theorem m_lI1 {h : AH} {mo : Nat} {I : Nat → Int32} {A : Nat → Nat → Int32} {k i : Nat} (hk : k < 50) (ha : 0 < aO k) (ht : aT k = 1) (hi : i < aN k) {X : Int32 → RS} : xlI (EM h mo I A) (some (ma mo k)) 1 (nI i) X = X (A k i) := by rw [← ht]; exact m_lI hk ha hi
theorem m_sI0 {h : AH} {mo : Nat} {I : Nat → Int32} {A : Nat → Nat → Int32} {k i : Nat} (hk : k < 50) (ha : 0 < aO k) (ht : aT k = 0) (hi : i < aN k) {v : Int32} {X : AH → RS} : xsI (EM h mo I A) (some (ma mo k)) 0 (nI i) v X = X (EM h mo I (upA A k (upd (A k) i v))) := by
  have := m_sI (h := h) (mo := mo) (I := I) (A := A) hk ha hi (v := v) (X := X)
  rw [ht] at this
  exact this
theorem m_sI1 {h : AH} {mo : Nat} {I : Nat → Int32} {A : Nat → Nat → Int32} {k i : Nat} (hk : k < 50) (ha : 0 < aO k) (ht : aT k = 1) (hi : i < aN k) {v : Int32} (hv : v = 0 ∨ v = 1) {X : AH → RS} : xsI (EM h mo I A) (some (ma mo k)) 1 (nI i) v X = X (EM h mo I (upA A k (upd (A k) i v))) := by
  have := m_sI (h := h) (mo := mo) (I := I) (A := A) hk ha hi (v := v) (X := X)
  rw [ht, show nrT 1 v = v by rcases hv with rfl | rfl <;> decide] at this
  exact this
section
variable {h : AH} {mo : Nat} {I : Nat → Int32} {A : Nat → Nat → Int32} {m : Nat → Nat} {n : Nat} {es : List Nat} {t : Nat}
theorem q_in (x lo hi : Int32) : f_X3_in x lo hi h = rtI (bI (decide (lo ≤ x ∧ x ≤ hi))) h := f_btw x lo hi
theorem q_inN {x lo hi : Nat} (hx : x ≤ 100000) (hl : lo ≤ 100000) (hh : hi ≤ 100000) : f_X3_in (nI x) (nI lo) (nI hi) h = rtI (bI (decide (lo ≤ x ∧ x ≤ hi))) h := f_btwN hx hl hh
theorem q_adr (M : MI I A m n es t) (p : Int32) : f_X3_isAddress (some mo) p (EM h mo I A) = rtI (bI (ad n p)) (EM h mo I A) := by
  unfold f_X3_isAddress
  rw [m_gI (by decide) (by decide), M.siz, q_in, cI_rt, rtZB, ad_in M.n96]
theorem q_sort (M : MI I A m n es t) {a : Nat} (ha : a < 96) : f_X3_sort (some mo) (nI a) (EM h mo I A) = rtI (nI (zk m a)) (EM h mo I A) := by
  have := M.byt a ha
  unfold f_X3_sort
  rw [m_gA (by decide) (by decide), m_lI0 (by decide) (by decide) (by decide) ha, M.mem a ha, pk_shrN (by omega) _ 4 (by decide)]
  rfl
theorem and3 (n : Nat) (h : n < 2 ^ 31) : nI n &&& 3 = nI (n % 4) := by
  apply Int32.toBitVec_inj.mp
  apply BitVec.eq_of_toNat_eq
  rw [Int32.toBitVec_and, BitVec.toNat_and]
  show (BitVec.ofNat 32 n).toNat &&& (2 ^ 2 - 1) = (BitVec.ofNat 32 (n % 4)).toNat
  rw [Nat.and_two_pow_sub_one_eq_mod, BitVec.toNat_ofNat, BitVec.toNat_ofNat]
  omega
theorem q_first (M : MI I A m n es t) {a : Nat} (ha : a < 96) : f_X3_first (some mo) (nI a) (EM h mo I A) = rtI (nI (zf m a)) (EM h mo I A) := by
  have := M.byt a ha
  unfold f_X3_first
  rw [m_gA (by decide) (by decide), m_lI0 (by decide) (by decide) (by decide) ha, M.mem a ha, pk_shrN (by omega) _ 2 (by decide), and3 _ (by omega)]
  rfl
theorem q_opd (M : MI I A m n es t) {a : Nat} (ha : a + 1 < 96) : f_X3_operand (some mo) (nI a) (EM h mo I A) = rtI (nI (zo m a)) (EM h mo I A) := by
  unfold f_X3_operand
  rw [m_gA (by decide) (by decide), nI_1, m_lI0 (by decide) (by decide) (by decide) ha, M.mem _ ha]
  rfl
theorem MI.k16 (M : MI I A m n es t) {a : Nat} (ha : a < 96) : zk m a < 16 := by have := M.byt a ha; unfold zk; omega
/-- the length by the kind, as the model has it -/
def zL (k : Nat) : Nat := if k = 0 ∨ k = 2 ∨ k = 8 ∨ k = 11 ∨ k = 13 then 1 else 2
theorem zL_zl {a : Nat} (h : zk m a ≤ 13) : zL (zk m a) = zl m a := by
  unfold zl zh
  revert h
  generalize zk m a = k
  revert k
  decide
theorem q_len {k : Nat} (hk : k < 16) : f_X3_lengthOf (nI k) h = rtI (nI (zL k)) h := by
  unfold f_X3_lengthOf
  simp (disch := omega) only [lit, nI_eq, ite_rt]
  congr 1
  unfold zL
  revert hk
  revert k
  decide
theorem q_hasG (M : MI I A m n es t) {a : Nat} (ha : a < 96) : f_X3_hasGoal (some mo) (nI a) (EM h mo I A) = rtI (bI (zt m a)) (EM h mo I A) := by
  have hk := M.k16 ha
  unfold f_X3_hasGoal
  rw [m_rc, q_sort M ha]
  simp only [cI_rt, lit]
  rw [q_inN (by omega) (by decide) (by decide), cI_rt, rtZB]
  rfl
theorem q_goal (M : MI I A m n es t) {a : Nat} (ha : a + 1 < 96) : f_X3_goal (some mo) (nI a) (EM h mo I A) = rtI (iI (zg m a)) (EM h mo I A) := by
  have hb : zo m a < 256 := M.byt _ ha
  unfold f_X3_goal
  simp only [m_rc, q_opd M ha, cI_rt, lit]
  simp (disch := omega) only [nI_leI]
  rw [ite_rt]
  congr 1
  apply Int32.toInt_inj.mp
  unfold zg
  split
  · rw [iI_toInt (by split <;> omega), if_neg (by omega), nI_add, Int32.toInt_add, pk_sub_toInt (by omega) (by decide), nI_toI (by omega), Int.bmod_eq_of_le (by omega) (by omega)]
    omega
  · rw [iI_toInt (by split <;> omega), if_pos (by omega), nI_add, nI_add, nI_toI (by omega)]
    omega
theorem MI.zgb (M : MI I A m n es t) {a : Nat} (ha : a + 1 < 96) : -200 ≤ zg m a ∧ zg m a ≤ 300 := by
  have hb : zo m a < 256 := M.byt _ ha
  unfold zg
  split <;> omega
theorem q_snd (M : MI I A m n es t) {x : Nat} (hx : x ≤ 100000) : f_X3_isSound (some mo) (nI x) (EM h mo I A) = rtI (bI (zv m n x)) (EM h mo I A) := by
  have hn := M.n96
  unfold f_X3_isSound
  rw [m_rc, q_adr M, cI_rt, ad_nI hx]
  by_cases h1 : x < n
  · rw [show decide (x < n) = true by simpa using h1, b0t, m_rc, q_sort M (by omega), cI_rt, lit 13]
    have hk := M.k16 (a := x) (by omega)
    have hl := zl_12 m x
    by_cases h2 : zk m x ≤ 13
    · rw [if_neg (nI_nlt h2 (by decide)), m_rc, q_sort M (by omega), cI_rt, q_len hk, cI_rt, m_gI (by decide) (by decide), M.siz, nI_add, zL_zl h2]
      simp (disch := omega) only [nI_leI]
      by_cases h3 : x + zl m x ≤ n
      · rw [if_pos h3, m_rc, q_hasG M (by omega), cI_rt]
        cases ht : zt m x with
        | false => rw [b0f, rtZ1, show zv m n x = true by simp [zv, h1, h2, h3, ht]]; rfl
        | true =>
          have hl2 := zt_l ht
          rw [b0t, m_rc, q_goal M (by omega), cI_rt, m_rc, q_adr M, cI_rt, ad_iI (by have := M.zgb (a := x) (by omega); omega)]
          by_cases h4 : 0 ≤ zg m x ∧ zg m x < n
          · rw [show decide (0 ≤ zg m x ∧ zg m x < ↑n) = true by simpa using h4, b0t, rtZ1, show zv m n x = true by simp [zv, h1, h2, h3, h4]]; rfl
          · rw [show decide (0 ≤ zg m x ∧ zg m x < ↑n) = false by simpa using h4, b0f, rtZ0, show zv m n x = false by simp only [zv, decide_eq_false_iff_not]; intro z; exact h4 (z.2.2.2 ht)]; rfl
      · rw [if_neg h3, rtZ0, show zv m n x = false by simp only [zv, decide_eq_false_iff_not]; intro z; exact h3 z.2.2.1]; rfl
    · rw [if_pos (nI_lt (by omega) (by omega)), rtZ0, show zv m n x = false by simp only [zv, decide_eq_false_iff_not]; intro z; exact h2 z.2.1]; rfl
  · rw [show decide (x < n) = false by simpa using h1, b0f, rtZ0, show zv m n x = false by simp only [zv, decide_eq_false_iff_not]; intro z; exact h1 z.1]; rfl
theorem q_snd0 (M : MI I A m n es t) {p : Int32} (hp : ad n p = false) : f_X3_isSound (some mo) p (EM h mo I A) = rtI (bI false) (EM h mo I A) := by
  unfold f_X3_isSound
  rw [m_rc, q_adr M, cI_rt, hp, b0f, rtZ0]; rfl
theorem q_ends (M : MI I A m n es t) {x : Nat} (hx : x < 96) : f_X3_endsFlow (some mo) (nI x) (EM h mo I A) = rtI (bI (ze m x)) (EM h mo I A) := by
  have hk := M.k16 hx
  unfold f_X3_endsFlow
  simp only [m_rc, q_sort M hx, cI_rt]
  simp (disch := omega) only [rtZ0n, rtZ1n, ite_rt, lit, nI_eq]
  congr 1
  unfold ze
  revert hk
  generalize zk m x = k
  revert k
  decide
theorem q_endsB (M : MI I A m n es t) {x : Nat} (hx : x < 96) : f_X3_endsBlock (some mo) (nI x) (EM h mo I A) = rtI (bI (zb m x)) (EM h mo I A) := by
  have hk := M.k16 hx
  unfold f_X3_endsBlock
  simp only [m_rc, q_ends M hx, q_sort M hx, cI_rt]
  simp (disch := omega) only [bI_0n, rtZ0n, rtZ1n, ite_rt, lit, nI_eq]
  congr 1
  unfold zb ze
  revert hk
  generalize zk m x = k
  revert k
  decide
theorem q_sets (M : MI I A m n es t) {x r : Nat} (hx : x < 96) (hr : r ≤ 100000) : f_X3_sets (some mo) (nI x) (nI r) (EM h mo I A) = rtI (bI (zc m x r)) (EM h mo I A) := by
  have hk := M.k16 hx
  have hf : zf m x < 4 := by unfold zf; omega
  unfold f_X3_sets f_X3_sets_J34
  simp only [m_rc, q_sort M hx, q_first M hx, cI_rt]
  simp (disch := omega) only [bI_0n, rtZ0n, rtZ1n, ite_rt, lit, nI_eq]
  congr 1
  unfold zc
  revert hk
  by_cases hfr : zf m x = r
  · simp only [hfr]
    generalize zk m x = k
    revert k
    decide
  · simp only [hfr]
    generalize zk m x = k
    revert k
    decide
theorem q_entL (k38 : Int32 → AH → RS) (M : MI I A m n es t) (p : Int32) : ∀ (c j : Nat) (b : Bool), es.length - j < c → j ≤ es.length → f_X3_isEntry_L4 k38 c (some mo) p (bI b) (nI j) (EM h mo I A) = k38 (bI (b || (es.drop j).any (fun e => decide (nI e = p)))) (EM h mo I A) := by
  have he4 := M.e4
  intro c
  induction c with
  | zero => intro j b h1; omega
  | succ c ih =>
    intro j b h1 h2
    rw [f_X3_isEntry_L4, m_gI (by decide) (by decide), M.ecn]
    simp (disch := omega) only [nI_leI]
    unfold f_X3_isEntry_J26 f_X3_isEntry_J31
    by_cases h3 : es.length ≤ j
    · rw [if_pos h3, List.drop_eq_nil_of_le h3]; simp
    · have hd : es.drop j = es.getD j 0 :: es.drop (j + 1) := by
        rw [List.drop_eq_getElem_cons (by omega)]
        simp [List.getD, List.getElem?_eq_getElem (show j < es.length by omega)]
      rw [if_neg h3, m_gA (by decide) (by decide), m_lI0 (by decide) (by decide) (by decide) (show j < 4 by omega), M.ent j (by omega), hd, List.any_cons, nI_1]
      cases b with
      | true => rw [n0t, show (1 : Int32) = bI true from rfl, ih (j + 1) true (by omega) (by omega)]; simp
      | false =>
        rw [n0f]
        by_cases h4 : nI (es.getD j 0) = p
        · rw [if_neg (fun z => z h4), show (1 : Int32) = bI true from rfl, ih (j + 1) true (by omega) (by omega), decide_eq_true h4]
          simp only [Bool.true_or, Bool.or_true]
        · rw [if_pos h4, show (0 : Int32) = bI false from rfl, ih (j + 1) false (by omega) (by omega), decide_eq_false h4, Bool.false_or, Bool.false_or]
theorem q_ent (M : MI I A m n es t) {x : Nat} (hx : x ≤ 100000) : f_X3_isEntry (some mo) (nI x) (EM h mo I A) = rtI (bI (decide (x ∈ es))) (EM h mo I A) := by
  have hl := M.eln
  have he4 := M.e4
  have hn := M.n96
  unfold f_X3_isEntry
  have := q_entL (h := h) (mo := mo) (fun x21 h22 => rtZ x21 h22) M (nI x) FUEL 0 false (by unfold FUEL; omega) (by omega)
  refine this.trans ?_
  rw [rtZB]
  congr 2
  simp only [Bool.false_or, List.drop_zero]
  rw [Bool.eq_iff_iff]
  simp only [List.any_eq_true, decide_eq_true_eq]
  constructor
  · rintro ⟨e, h1, h2⟩
    have := hl e h1
    rw [nI_eq (by omega) (by omega)] at h2
    rw [← h2]; exact h1
  · intro h1
    exact ⟨x, h1, rfl⟩
end
