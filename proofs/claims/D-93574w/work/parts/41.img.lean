/-! PURE: instructions, and the image's methods -/
set_option maxRecDepth 100000
def bI (b : Bool) : Int32 := if b then 1 else 0
theorem bI_0 (b : Bool) : (bI b = 0) = (b = false) := by cases b <;> simp [bI]
theorem bI_1 (b : Bool) : (bI b = 1) = (b = true) := by cases b <;> simp [bI]
theorem rtZB (b : Bool) (h : AH) : rtZ (bI b) h = rtI (bI b) h := by cases b <;> simp [rtZ, rtI, bI]
theorem rtIf {c : Prop} [Decidable c] {b : Bool} (h : AH) (hb : (b = true) ↔ c) : (if c then rtI 1 h else rtI 0 h) = rtI (bI b) h := by
  by_cases hc : c
  · rw [if_pos hc, hb.mpr hc]; rfl
  · rw [if_neg hc, show b = false by cases b <;> simp_all]; rfl
theorem rtZ0n (h : AH) : rtZ (nI 0) h = rtI (nI 0) h := rtZ0 h
theorem rtZ1n (h : AH) : rtZ (nI 1) h = rtI (nI 1) h := rtZ1 h
theorem bI_0n (b : Bool) : (bI b = nI 0) = (b = false) := bI_0 b
theorem b0f {α : Type} {A B : α} : (if bI false = 0 then A else B) = A := if_pos rfl
theorem b0t {α : Type} {A B : α} : (if bI true = 0 then A else B) = B := if_neg (by decide)
theorem n0f {α : Type} {A B : α} : (if ¬ bI false = 0 then A else B) = B := if_neg (by decide)
theorem n0t {α : Type} {A B : α} : (if ¬ bI true = 0 then A else B) = A := if_pos (by decide)
/-- what an instruction is -/
def zk (m : Nat → Nat) (a : Nat) : Nat := m a / 16
def zf (m : Nat → Nat) (a : Nat) : Nat := m a / 4 % 4
def zs (m : Nat → Nat) (a : Nat) : Nat := m a % 4
def zo (m : Nat → Nat) (a : Nat) : Nat := m (a + 1)
def zh (m : Nat → Nat) (a : Nat) : Bool := decide (zk m a = 1 ∨ (3 ≤ zk m a ∧ zk m a ≤ 7) ∨ zk m a = 9 ∨ zk m a = 10 ∨ zk m a = 12)
def zl (m : Nat → Nat) (a : Nat) : Nat := if zh m a then 2 else 1
def zt (m : Nat → Nat) (a : Nat) : Bool := decide (4 ≤ zk m a ∧ zk m a ≤ 7)
def zg (m : Nat → Nat) (a : Nat) : Int := (a : Int) + 2 + (if zo m a < 128 then (zo m a : Int) else (zo m a : Int) - 256)
def zv (m : Nat → Nat) (n : Nat) (a : Nat) : Bool := decide (a < n ∧ zk m a ≤ 13 ∧ a + zl m a ≤ n ∧ (zt m a = true → 0 ≤ zg m a ∧ zg m a < n))
def ze (m : Nat → Nat) (a : Nat) : Bool := decide (zk m a = 4 ∨ zk m a = 8 ∨ zk m a = 9 ∨ zk m a = 13)
def zb (m : Nat → Nat) (a : Nat) : Bool := decide (ze m a = true ∨ zk m a = 5 ∨ zk m a = 6)
def zc (m : Nat → Nat) (a r : Nat) : Bool := decide ((zk m a = 1 ∨ zk m a = 2 ∨ zk m a = 10 ∨ zk m a = 11 ∨ zk m a = 12) ∧ zf m a = r)
/-- the target as an address -/
def zq (m : Nat → Nat) (a : Nat) : Nat := (zg m a).toNat
theorem zl_12 (m : Nat → Nat) (a : Nat) : zl m a = 1 ∨ zl m a = 2 := by unfold zl; cases zh m a <;> simp
theorem zt_l {m : Nat → Nat} {a : Nat} (h : zt m a = true) : zl m a = 2 := by
  have h : 4 ≤ zk m a ∧ zk m a ≤ 7 := by simpa [zt] using h
  have : zh m a = true := by simp [zh]; omega
  simp [zl, this]
/-- an image at a: memory m of n bytes, entries es, threshold t -/
def IM (h : AH) (a : Nat) (m : Nat → Nat) (n : Nat) (es : List Nat) (t : Nat) : Prop := ∃ (ba ea : Nat) (f g : Nat → Int32), rd h a = some (.inr (1, [.ref ba, .ref ea, .int (nI t)])) ∧ rd h ba = some (.inl (0, n, .inl f)) ∧ rd h ea = some (.inl (0, es.length, .inl g)) ∧ (∀ i, i < n → f i = nI (m i)) ∧ (∀ i, i < es.length → g i = nI (es.getD i 0)) ∧ n ≤ 96 ∧ (∀ i, i < n → m i < 256) ∧ es.length ≤ 4 ∧ (∀ e ∈ es, e < n)
section
variable {h : AH} {a n t : Nat} {m : Nat → Nat} {es : List Nat}
theorem f_btw (x lo hi : Int32) : f_X1_isBetween x lo hi h = rtI (bI (decide (lo ≤ x ∧ x ≤ hi))) h := by
  unfold f_X1_isBetween
  by_cases h1 : x < lo
  · rw [if_pos h1, rtZ0, show decide (lo ≤ x ∧ x ≤ hi) = false by simp; intro z; exact absurd h1 (Int32.not_lt.mpr z)]; rfl
  · rw [if_neg h1]
    by_cases h2 : hi < x
    · rw [if_pos h2, rtZ0, show decide (lo ≤ x ∧ x ≤ hi) = false by simp; intro z; exact h2]; rfl
    · rw [if_neg h2, rtZ1, show decide (lo ≤ x ∧ x ≤ hi) = true by simp; exact ⟨Int32.not_lt.mp h1, Int32.not_lt.mp h2⟩]; rfl
theorem n31 {k : Nat} (h : k ≤ 100000) : k < 2 ^ 31 := by omega
theorem f_btwN {x lo hi : Nat} (hx : x ≤ 100000) (hl : lo ≤ 100000) (hh : hi ≤ 100000) : f_X1_isBetween (nI x) (nI lo) (nI hi) h = rtI (bI (decide (lo ≤ x ∧ x ≤ hi))) h := by
  rw [f_btw]
  congr 2
  simp only [nI_leI (n31 hl) (n31 hx), nI_leI (n31 hx) (n31 hh)]
theorem i_size (I : IM h a m n es t) : f_X2_size (some a) h = rtI (nI n) h := by
  obtain ⟨ba, ea, f, g, e1, e2, e3, hf, hg, hn, hm, hl, he⟩ := I
  unfold f_X2_size
  rw [gA_v (o := some ba) e1 rfl, aL_v e2 (by decide)]
/-- an int that is an address -/
def ad (n : Nat) (p : Int32) : Bool := decide (0 ≤ p.toInt ∧ p.toInt < n)
theorem ad_nI {x : Nat} (hx : x ≤ 100000) : ad n (nI x) = decide (x < n) := by
  unfold ad
  apply decide_eq_decide.mpr
  rw [nI_toInt (by omega)]
  omega
theorem ad_t {p : Int32} (hp : ad n p = true) : ∃ x, x < n ∧ p = nI x := by
  unfold ad at hp
  have hp := of_decide_eq_true hp
  refine ⟨p.toInt.toNat, by omega, ?_⟩
  apply Int32.toInt_inj.mp
  have h3 := Int32.toInt_lt p
  rw [nI_toInt (by omega)]
  omega
theorem ad_in {p : Int32} (hn : n ≤ 96) : decide ((0 : Int32) ≤ p ∧ p ≤ nI n - 1) = ad n p := by
  unfold ad
  apply decide_eq_decide.mpr
  have e3 : (nI n - 1).toInt = (n : Int) - 1 := pk_sub_toInt (a := n) (b := 1) (by omega) (by decide)
  rw [Int32.le_iff_toInt_le, Int32.le_iff_toInt_le, e3]
  simp
  omega
theorem i_cont (I : IM h a m n es t) (p : Int32) : f_X2_contains (some a) p h = rtI (bI (ad n p)) h := by
  obtain ⟨ba, ea, f, g, e1, e2, e3, hf, hg, hn, hm, hl, he⟩ := I
  unfold f_X2_contains
  rw [gA_v (o := some ba) e1 rfl, aL_v e2 (by decide), f_btw, cI_rt, rtZB, ad_in hn]
theorem i_kind (I : IM h a m n es t) {x : Nat} (hx : x < n) : f_X2_kind (some a) (nI x) h = rtI (nI (zk m x)) h := by
  obtain ⟨ba, ea, f, g, e1, e2, e3, hf, hg, hn, hm, hl, he⟩ := I
  have := hm x hx
  unfold f_X2_kind
  rw [gA_v (o := some ba) e1 rfl, lI_v e2 hx (by omega), hf x hx, lit 16, pk_div (by omega) (by decide) (by decide)]
  rfl
theorem i_first (I : IM h a m n es t) {x : Nat} (hx : x < n) : f_X2_first (some a) (nI x) h = rtI (nI (zf m x)) h := by
  obtain ⟨ba, ea, f, g, e1, e2, e3, hf, hg, hn, hm, hl, he⟩ := I
  have := hm x hx
  unfold f_X2_first
  rw [gA_v (o := some ba) e1 rfl, lI_v e2 hx (by omega), hf x hx, lit 4, pk_div (by omega) (by decide) (by decide), pk_rem (by omega) (by decide) (by decide)]
  rfl
theorem i_second (I : IM h a m n es t) {x : Nat} (hx : x < n) : f_X2_second (some a) (nI x) h = rtI (nI (zs m x)) h := by
  obtain ⟨ba, ea, f, g, e1, e2, e3, hf, hg, hn, hm, hl, he⟩ := I
  have := hm x hx
  unfold f_X2_second
  rw [gA_v (o := some ba) e1 rfl, lI_v e2 hx (by omega), hf x hx, lit 4, pk_rem (by omega) (by decide) (by decide)]
  rfl
theorem IM.k16 (I : IM h a m n es t) {x : Nat} (hx : x < n) : zk m x < 16 := by
  obtain ⟨ba, ea, f, g, e1, e2, e3, hf, hg, hn, hm, hl, he⟩ := I
  have := hm x hx
  unfold zk; omega
theorem IM.rcv (I : IM h a m n es t) {X : RS} : xrc h (some a) 1 X = X := by
  obtain ⟨ba, ea, f, g, e1, -⟩ := I
  exact rc_v e1
theorem ite_rt {c : Prop} [Decidable c] {u v : Int32} {h : AH} : (if c then rtI u h else rtI v h) = rtI (if c then u else v) h := by
  by_cases hc : c <;> simp [hc]
theorem i_hasOp (I : IM h a m n es t) {x : Nat} (hx : x < n) : f_X2_hasOperand (some a) (nI x) h = rtI (bI (zh m x)) h := by
  have hk := I.k16 hx
  unfold f_X2_hasOperand
  rw [I.rcv, i_kind I hx]
  simp only [cI_rt, lit]
  rw [f_btwN (by omega) (by decide) (by decide), cI_rt]
  simp (disch := omega) only [bI_0n, rtZ0n, rtZ1n, ite_rt, lit, nI_eq]
  congr 1
  unfold zh
  revert hk
  generalize zk m x = k
  revert k
  decide
theorem i_len (I : IM h a m n es t) {x : Nat} (hx : x < n) : f_X2_length (some a) (nI x) h = rtI (nI (zl m x)) h := by
  unfold f_X2_length
  rw [I.rcv, i_hasOp I hx, cI_rt]
  unfold zl
  cases zh m x <;> rfl
theorem i_opd (I : IM h a m n es t) {x : Nat} (hx : x + 1 < n) : f_X2_operand (some a) (nI x) h = rtI (nI (zo m x)) h := by
  obtain ⟨ba, ea, f, g, e1, e2, e3, hf, hg, hn, hm, hl, he⟩ := I
  unfold f_X2_operand
  rw [gA_v (o := some ba) e1 rfl, nI_1, lI_v e2 hx (by omega), hf _ hx]
  rfl
theorem i_hasT (I : IM h a m n es t) {x : Nat} (hx : x < n) : f_X2_hasTarget (some a) (nI x) h = rtI (bI (zt m x)) h := by
  have hk := I.k16 hx
  unfold f_X2_hasTarget
  rw [I.rcv, i_kind I hx]
  simp only [cI_rt, lit]
  rw [f_btwN (by omega) (by decide) (by decide), cI_rt, rtZB]
  rfl
/-- an int by its value -/
def iI (z : Int) : Int32 := Int32.ofInt z
theorem iI_toInt {z : Int} (h : -1000000 ≤ z ∧ z ≤ 1000000) : (iI z).toInt = z := by
  unfold iI
  rw [Int32.toInt_ofInt]
  show Int.bmod z 4294967296 = z
  rw [Int.bmod_eq_of_le (by omega) (by omega)]
theorem iI_nI (n : Nat) : nI n = iI n := rfl
theorem nI_toI {k : Nat} (h : k ≤ 100000) : (nI k).toInt = (k : Int) := nI_toInt (by omega)
theorem i_tgt (I : IM h a m n es t) {x : Nat} (hx : x + 1 < n) : f_X2_target (some a) (nI x) h = rtI (iI (zg m x)) h := by
  have hI := I
  obtain ⟨ba, ea, f, g, e1, e2, e3, hf, hg, hn, hm, hl, he⟩ := hI
  have hb : zo m x < 256 := hm _ hx
  unfold f_X2_target
  rw [I.rcv, i_opd I hx]
  simp only [cI_rt, lit]
  simp (disch := omega) only [nI_leI]
  rw [ite_rt]
  congr 1
  apply Int32.toInt_inj.mp
  unfold zg
  split
  · rw [iI_toInt (by split <;> omega), if_neg (by omega), nI_add, Int32.toInt_add, pk_sub_toInt (by omega) (by decide), nI_toI (by omega), Int.bmod_eq_of_le (by omega) (by omega)]
    omega
  · rw [iI_toInt (by split <;> omega), if_pos (by omega), nI_add, nI_add, nI_toI (by omega)]
    omega
theorem ad_iI {z : Int} (h : -1000000 ≤ z ∧ z ≤ 1000000) : ad n (iI z) = decide (0 ≤ z ∧ z < n) := by
  unfold ad; rw [iI_toInt h]
theorem zg_bd (I : IM h a m n es t) {x : Nat} (hx : x + 1 < n) : -200 ≤ zg m x ∧ zg m x ≤ 300 := by
  obtain ⟨ba, ea, f, g, e1, e2, e3, hf, hg, hn, hm, hl, he⟩ := I
  have hb : zo m x < 256 := hm _ hx
  unfold zg
  split <;> omega
theorem i_valid (I : IM h a m n es t) {x : Nat} (hx : x ≤ 100000) : f_X2_isValid (some a) (nI x) h = rtI (bI (zv m n x)) h := by
  have hn : n ≤ 96 := by obtain ⟨ba, ea, f, g, e1, e2, e3, hf, hg, hn, hm, hl, he⟩ := I; exact hn
  unfold f_X2_isValid
  rw [I.rcv, i_cont I, cI_rt, ad_nI hx]
  by_cases h1 : x < n
  · rw [show decide (x < n) = true by simpa using h1, b0t, I.rcv, i_kind I h1, cI_rt, lit 13]
    have hk := I.k16 h1
    have hl := zl_12 m x
    by_cases h2 : zk m x ≤ 13
    · rw [if_neg (nI_nlt h2 (by decide)), I.rcv, i_len I h1, cI_rt]
      obtain ⟨ba, ea, f, g, e1, e2, e3, -⟩ := id I
      rw [gA_v (o := some ba) e1 rfl, aL_v e2 (by decide), nI_add]
      simp (disch := omega) only [nI_leI]
      by_cases h3 : x + zl m x ≤ n
      · rw [if_pos h3, I.rcv, i_hasT I h1, cI_rt]
        cases ht : zt m x with
        | false => rw [b0f, rtZ1, show zv m n x = true by simp [zv, h1, h2, h3, ht]]; rfl
        | true =>
          have hl2 := zt_l ht
          rw [b0t, I.rcv, i_tgt I (by omega), cI_rt, I.rcv, i_cont I, cI_rt, ad_iI (by have := zg_bd I (x := x) (by omega); omega)]
          by_cases h4 : 0 ≤ zg m x ∧ zg m x < n
          · rw [show decide (0 ≤ zg m x ∧ zg m x < ↑n) = true by simpa using h4, b0t, rtZ1, show zv m n x = true by simp [zv, h1, h2, h3, h4]]; rfl
          · rw [show decide (0 ≤ zg m x ∧ zg m x < ↑n) = false by simpa using h4, b0f, rtZ0, show zv m n x = false by simp only [zv, decide_eq_false_iff_not]; intro z; exact h4 (z.2.2.2 ht)]; rfl
      · rw [if_neg h3, rtZ0, show zv m n x = false by simp only [zv, decide_eq_false_iff_not]; intro z; exact h3 z.2.2.1]; rfl
    · rw [if_pos (nI_lt (by omega) (by omega)), rtZ0, show zv m n x = false by simp only [zv, decide_eq_false_iff_not]; intro z; exact h2 z.2.1]; rfl
  · rw [show decide (x < n) = false by simpa using h1, b0f, rtZ0, show zv m n x = false by simp only [zv, decide_eq_false_iff_not]; intro z; exact h1 z.1]; rfl
theorem i_ends (I : IM h a m n es t) {x : Nat} (hx : x < n) : f_X2_endsFlow (some a) (nI x) h = rtI (bI (ze m x)) h := by
  have hk := I.k16 hx
  unfold f_X2_endsFlow
  rw [I.rcv, i_kind I hx]
  simp (disch := omega) only [cI_rt, rtZ0n, rtZ1n, ite_rt, lit, nI_eq]
  congr 1
  unfold ze
  revert hk
  generalize zk m x = k
  revert k
  decide
theorem i_endsB (I : IM h a m n es t) {x : Nat} (hx : x < n) : f_X2_endsBlock (some a) (nI x) h = rtI (bI (zb m x)) h := by
  have hk := I.k16 hx
  unfold f_X2_endsBlock
  simp only [I.rcv, i_ends I hx, cI_rt, i_kind I hx]
  simp (disch := omega) only [bI_0n, rtZ0n, rtZ1n, ite_rt, lit, nI_eq]
  congr 1
  unfold zb ze
  revert hk
  generalize zk m x = k
  revert k
  decide
theorem i_chg (I : IM h a m n es t) {x r : Nat} (hx : x < n) (hr : r ≤ 100000) : f_X2_changes (some a) (nI x) (nI r) h = rtI (bI (zc m x r)) h := by
  have hk := I.k16 hx
  have hf : zf m x < 4 := by unfold zf; omega
  unfold f_X2_changes f_X2_changes_J34 f_X2_changes_J39
  rw [I.rcv, i_kind I hx, cI_rt, I.rcv, i_first I hx, cI_rt]
  simp (disch := omega) only [bI_0n, rtZ0n, rtZ1n, ite_rt, lit, nI_eq]
  congr 1
  unfold zc
  revert hk
  by_cases hfr : zf m x = r
  · simp only [hfr]
    generalize zk m x = k
    revert k
    decide
  · simp only [hfr]
    generalize zk m x = k
    revert k
    decide
/-- the entries -/
theorem i_entL (k37 : Int32 → AH → RS) (I : IM h a m n es t) (p : Int32) : ∀ (c j : Nat) (b : Bool), es.length - j < c → j ≤ es.length → f_X2_isEntry_L4 k37 c (some a) p (bI b) (nI j) h = k37 (bI (b || (es.drop j).any (fun e => decide (nI e = p)))) h := by
  obtain ⟨ba, ea, f, g, e1, e2, e3, hf, hg, hn, hm, hl, he⟩ := id I
  intro c
  induction c with
  | zero => intro j b h1; omega
  | succ c ih =>
    intro j b h1 h2
    rw [f_X2_isEntry_L4, gA_v (o := some ea) e1 rfl, aL_v e3 (by decide)]
    simp (disch := omega) only [nI_leI]
    by_cases h3 : es.length ≤ j
    · rw [if_pos h3, List.drop_eq_nil_of_le h3]; simp
    · rw [if_neg h3, gA_v (o := some ea) e1 rfl, lI_v e3 (by omega) (by omega), hg j (by omega)]
      have hd : es.drop j = es.getD j 0 :: es.drop (j + 1) := by
        rw [List.drop_eq_getElem_cons (by omega)]
        simp [List.getD, List.getElem?_eq_getElem (show j < es.length by omega)]
      unfold f_X2_isEntry_J29
      rw [hd, List.any_cons, nI_1]
      by_cases h4 : nI (es.getD j 0) = p
      · rw [if_neg (fun z => z h4), show bI b ||| 1 = bI true by cases b <;> rfl, ih (j + 1) true (by omega) (by omega), decide_eq_true h4]
        simp only [Bool.true_or, Bool.or_true]
      · rw [if_pos h4, show bI b ||| 0 = bI b by cases b <;> rfl, ih (j + 1) b (by omega) (by omega), decide_eq_false h4, Bool.false_or]
theorem i_ent (I : IM h a m n es t) {x : Nat} (hx : x ≤ 100000) : f_X2_isEntry (some a) (nI x) h = rtI (bI (decide (x ∈ es))) h := by
  have hl : es.length ≤ 4 ∧ ∀ e ∈ es, e < n := by obtain ⟨ba, ea, f, g, e1, e2, e3, hf, hg, hn, hm, hl, he⟩ := I; exact ⟨hl, he⟩
  have hn : n ≤ 96 := by obtain ⟨ba, ea, f, g, e1, e2, e3, hf, hg, hn, hm, hl, he⟩ := I; exact hn
  unfold f_X2_isEntry
  have := i_entL (fun x18 h19 => rtZ x18 h19) I (nI x) FUEL 0 false (by unfold FUEL; omega) (by omega)
  refine this.trans ?_
  rw [rtZB]
  congr 2
  simp only [Bool.false_or, List.drop_zero]
  rw [Bool.eq_iff_iff]
  simp only [List.any_eq_true, decide_eq_true_eq]
  constructor
  · rintro ⟨e, h1, h2⟩
    have := hl.2 e h1
    rw [nI_eq (by omega) (by omega)] at h2
    rw [← h2]; exact h1
  · intro h1
    exact ⟨x, h1, rfl⟩
end
