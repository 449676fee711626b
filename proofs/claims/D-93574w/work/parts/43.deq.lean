/-! PURE: ArrayDeque -/
set_option maxRecDepth 100000
section
variable {B : Nat} {h h' : AH}
def ix (hd cap i : Nat) : Nat := if hd + i < cap then hd + i else hd + i - cap
theorem ix_lt {hd cap i : Nat} (h1 : hd < cap) (h2 : i < cap) : ix hd cap i < cap := by unfold ix; split <;> omega
theorem ix_s {hd cap i : Nat} (h1 : hd < cap) (h2 : i < cap) : (if ix hd cap i + 1 < cap then ix hd cap i + 1 else 0) = ix hd cap (i + 1) := by unfold ix; split <;> split <;> split <;> omega
theorem ix_inj {hd cap i j : Nat} (h1 : hd < cap) (h2 : i < cap) (h3 : j < cap) (e : ix hd cap i = ix hd cap j) : i = j := by unfold ix at e; split at e <;> split at e <;> omega
theorem ix_0 {hd cap : Nat} (h1 : hd < cap) : ix hd cap 0 = hd := by unfold ix; rw [if_pos (by omega)]; omega
theorem ix_1 {hd cap i : Nat} (h1 : hd < cap) (h2 : i + 1 < cap) : ix (ix hd cap 1) cap i = ix hd cap (i + 1) := by unfold ix; split <;> split <;> split <;> omega
theorem ix_sp {hd cap i : Nat} : (hd + i < cap ∧ ix hd cap i = hd + i) ∨ (cap ≤ hd + i ∧ ix hd cap i = hd + i - cap) := by unfold ix; split <;> omega
theorem nI_m1 {n : Nat} (h : 0 < n) : nI n + (-1) = nI (n - 1) := by
  show nI n + -(nI 1) = _
  rw [← Int32.sub_eq_add_neg, pk_sub h]
theorem nI_s1 {n : Nat} (h : 0 < n) : nI n - 1 = nI (n - 1) := pk_sub h
theorem nI_m1t {n : Nat} (h : n < 2 ^ 30) : (nI n + (-1)).toInt = (n : Int) - 1 := by
  show (nI n + -(nI 1)).toInt = _
  rw [← Int32.sub_eq_add_neg, pk_sub_toInt h (by decide)]; rfl
theorem getD_tk {ys : List Nat} {i k : Nat} (hi : i < k) : (ys.take k).getD i 0 = ys.getD i 0 := by
  rw [List.getD_eq_getElem?_getD, List.getElem?_take_of_lt hi, List.getD_eq_getElem?_getD]
theorem p_inc {a n : Nat} (ha : a < n) (hn : n ≤ 100000) : f_J19_inc (nI a) (nI n) h = rtI (nI (if a + 1 < n then a + 1 else 0)) h := by
  unfold f_J19_inc
  rw [nI_1]
  by_cases h1 : a + 1 < n
  · rw [if_pos (nI_lt h1 (by omega)), if_pos h1]
  · rw [if_neg (nI_nlt (by omega) (by omega)), if_neg h1]; rfl
/-- an ArrayDeque at d, its array arr of cap places, head hd, elements ys -/
def DQ (h : AH) (d arr cap hd : Nat) (ys : List Nat) : Prop := ys.length < cap ∧ 17 ≤ cap ∧ cap ≤ 10000 ∧ hd < cap ∧ h.1 d = some (.inr (12, [.ref arr, .int (nI hd), .int (nI (ix hd cap ys.length))])) ∧ ∃ f : Nat → Option Nat, h.1 arr = some (.inl (5, cap, .inr (.inr (.inr (.inr f))))) ∧ ∀ i, i < ys.length → f (ix hd cap i) = some (ys.getD i 0)
theorem p_qnew (g : GH B h) {d : Nat} (he : h.1 d = some (.inr (12, fsJ19))) (hc : 1 ≤ hcl h) (hs : 17 ≤ hsl h) : ∃ h', f_J19_init (some d) h = rtV h' ∧ DQ h' d (hsz h) 17 0 [] ∧ Kp (fun a => a = d) 1 17 h h' ∧ GH B h' ∧ hsz h' = hsz h + 1 := by
  have hd := (g.fresh he).2
  refine ⟨hset (hnew h (.inl (5, zA 5 17)) 17) d (.inr (12, [.ref (hsz h), .int 0, .int 0])), ?_, ⟨by decide, by decide, by decide, by decide, hset_s, _, by rw [hset_o (Ne.symm hd)]; exact hnew_s, fun i hi => absurd hi (Nat.not_lt_zero i)⟩, ?_, ?_, rfl⟩
  · unfold f_J19_init f_J5_init
    simp only [nn_v, cV_rt]
    rw [show (17 : Int32) = nI 17 from rfl, nA_v (by decide) hc hs, pF_v (by rw [hnew_o hd]; exact he) (by decide)]
    rfl
  · exact Kp.tr (F1 := fun _ => False) (F2 := fun a => a = d) (Kp.nw hc hs) (Kp.st rfl) (fun _ z => z.elim) (fun _ _ z => z) (by omega) (by omega)
  · exact g.new.set (by rw [hnew_o hd]; exact he)
theorem DQ.rc {d arr cap hd : Nat} {ys : List Nat} (D : DQ h d arr cap hd ys) {X : RS} : xrc h (some d) 12 X = X := rc_v (rdo D.2.2.2.2.1)
theorem p_qempty {d arr cap hd : Nat} {ys : List Nat} (D : DQ h d arr cap hd ys) : f_J19_isEmpty (some d) h = rtI (bI (decide (ys.length = 0))) h := by
  obtain ⟨d1, d2, d3, d4, d5, f, d6, d7⟩ := D
  unfold f_J19_isEmpty
  rw [gI_v (rdo d5) rfl, gI_v (rdo d5) rfl]
  have hl := ix_lt d4 d1
  by_cases hy : ys.length = 0
  · rw [if_neg (fun z => z (by rw [hy, ix_0 d4])), decide_eq_true hy, rtZ1]; rfl
  · rw [if_pos (fun z => ?_), decide_eq_false hy, rtZ0]; rfl
    have := (nI_eq (by omega) (by omega)).mp z
    have e : ix hd cap 0 = ix hd cap ys.length := by rw [ix_0 d4]; exact this
    have := ix_inj d4 (by omega) d1 e
    omega
theorem p_qsize {d arr cap hd : Nat} {ys : List Nat} (D : DQ h d arr cap hd ys) : f_J19_size (some d) h = rtI (nI ys.length) h := by
  obtain ⟨d1, d2, d3, d4, d5, f, d6, d7⟩ := D
  unfold f_J19_size f_J19_sub
  rw [gI_v (rdo d5) rfl, gI_v (rdo d5) rfl, gA_v (o := some arr) (rdo d5) rfl, aL_v (rdo d6) (by decide)]
  have hl := ix_lt d4 d1
  have e : (nI (ix hd cap ys.length) - nI hd).toInt = (ix hd cap ys.length : Int) - hd := pk_sub_toInt (by omega) (by omega)
  by_cases h1 : hd ≤ ix hd cap ys.length
  · rw [if_pos (by rw [Int32.le_iff_toInt_le, e]; simp; omega), cI_rt, pk_sub h1]
    rw [show ix hd cap ys.length - hd = ys.length by have := @ix_sp hd cap ys.length; omega]
  · rw [if_neg (by rw [Int32.le_iff_toInt_le, e]; simp; omega), cI_rt]
    have : nI (ix hd cap ys.length) - nI hd + nI cap = nI (ix hd cap ys.length) + nI cap - nI hd := by
      rw [Int32.sub_eq_add_neg, Int32.sub_eq_add_neg, Int32.add_assoc, Int32.add_comm (-nI hd), ← Int32.add_assoc]
    show rtI (nI (ix hd cap ys.length) - nI hd + nI cap) h = _
    rw [this, nI_add, pk_sub (by omega)]
    rw [show ix hd cap ys.length + cap - hd = ys.length by have := @ix_sp hd cap ys.length; omega]
theorem getD_tl {ys : List Nat} {i : Nat} : ys.tail.getD i 0 = ys.getD (i + 1) 0 := by cases ys <;> simp
theorem p_qrem {d arr cap hd : Nat} {ys : List Nat} (g : GH B h) (D : DQ h d arr cap hd ys) (hy : 0 < ys.length) : ∃ h', f_J19_removeFirst (some d) h = rtA (some (ys.getD 0 0)) h' ∧ DQ h' d arr cap (ix hd cap 1) ys.tail ∧ Kp (fun a => a = d ∨ a = arr) 0 0 h h' ∧ GH B h' ∧ hsz h' = hsz h := by
  obtain ⟨d1, d2, d3, d4, d5, f, d6, d7⟩ := id D
  have hne : d ≠ arr := by rintro rfl; rw [d5] at d6; cases d6
  refine ⟨hset (hset h arr (.inl (5, cap, .inr (.inr (.inr (.inr (va_up f hd none))))))) d (.inr (12, [.ref arr, .int (nI (ix hd cap 1)), .int (nI (ix hd cap ys.length))])), ?_, ?_, ?_, ?_, rfl⟩
  · unfold f_J19_removeFirst f_J19_pollFirst f_J19_elementAt
    rw [D.rc, gA_v (o := some arr) (rdo d5) rfl, gI_v (rdo d5) rfl, lA_v (rdo d6) (by decide) d4 (by omega), cA_rt]
    have e0 := d7 0 hy
    rw [ix_0 d4] at e0
    rw [e0, if_neg (by simp), sAn_v d6 d4 (by omega), aL_v (t := 5) (x := (cap, .inr (.inr (.inr (.inr (va_up f hd none)))))) (rdo hset_s) (by decide)]
    show xcA (xcI (f_J19_inc (nI hd) (nI cap) _) _) _ = _
    rw [p_inc d4 (by omega), cI_rt, pF_w [.ref arr, .int (nI (ix hd cap 1)), .int (nI (ix hd cap ys.length))] (by rw [hset_o hne]; exact d5) (Nat.le_of_ble_eq_true rfl) (by have := ix_s d4 (i := 0) (by omega); rw [ix_0 d4] at this; rw [this]; rfl), cA_rt, if_pos (by simp)]
  · have hlen : ys.tail.length = ys.length - 1 := by simp
    refine ⟨by omega, d2, d3, ix_lt d4 (by omega), ?_, _, by rw [hset_o (Ne.symm hne)]; exact hset_s, fun i hi => ?_⟩
    · rw [hset_s, hlen, ix_1 d4 (by omega), show ys.length - 1 + 1 = ys.length by omega]
    · rw [hlen] at hi
      rw [ix_1 d4 (by omega), getD_tl]
      unfold va_up
      rw [if_neg (fun z => ?_)]
      · exact d7 (i + 1) (by omega)
      · have e : ix hd cap (i + 1) = ix hd cap 0 := by rw [ix_0 d4]; exact z
        have := ix_inj d4 (by omega) (by omega) e
        omega
  · exact Kp.tr (F1 := fun a => a = arr) (F2 := fun a => a = d) (Kp.st rfl) (Kp.st rfl) (fun a z => Or.inr z) (fun a _ z => Or.inl z) (by omega) (by omega)
  · exact (g.set d6).set (by rw [hset_o hne]; exact d5)
theorem p_qrml {d arr cap hd : Nat} {ys : List Nat} (g : GH B h) (D : DQ h d arr cap hd ys) (hy : 0 < ys.length) : ∃ h', f_J19_removeLast (some d) h = rtA (some (ys.getD (ys.length - 1) 0)) h' ∧ DQ h' d arr cap hd (ys.take (ys.length - 1)) ∧ Kp (fun a => a = d ∨ a = arr) 0 0 h h' ∧ GH B h' ∧ hsz h' = hsz h := by
  obtain ⟨d1, d2, d3, d4, d5, f, d6, d7⟩ := id D
  have hne : d ≠ arr := by rintro rfl; rw [d5] at d6; cases d6
  have hlt := ix_lt d4 d1
  have hl1 : ix hd cap (ys.length - 1) < cap := ix_lt d4 (by omega)
  have hdec : f_J19_dec (nI (ix hd cap ys.length)) (nI cap) h = rtI (nI (ix hd cap (ys.length - 1))) h := by
    unfold f_J19_dec
    have e := nI_m1t (n := ix hd cap ys.length) (by omega)
    have s1 := @ix_sp hd cap ys.length
    have s2 := @ix_sp hd cap (ys.length - 1)
    by_cases h1 : 0 < ix hd cap ys.length
    · rw [if_pos (by rw [Int32.le_iff_toInt_le, e]; simp; omega), nI_m1 h1, show ix hd cap ys.length - 1 = ix hd cap (ys.length - 1) by omega]
    · rw [if_neg (by rw [Int32.le_iff_toInt_le, e]; simp; omega), nI_s1 (by omega), show cap - 1 = ix hd cap (ys.length - 1) by omega]
  refine ⟨hset (hset h d (.inr (12, [.ref arr, .int (nI hd), .int (nI (ix hd cap (ys.length - 1)))]))) arr (.inl (5, cap, .inr (.inr (.inr (.inr (va_up f (ix hd cap (ys.length - 1)) none)))))), ?_, ?_, ?_, ?_, rfl⟩
  · unfold f_J19_removeLast f_J19_pollLast f_J19_elementAt
    rw [D.rc, gA_v (o := some arr) (rdo d5) rfl, gI_v (rdo d5) rfl, aL_v (rdo d6) (by decide)]
    show xcA (xcI (f_J19_dec (nI (ix hd cap ys.length)) (nI cap) _) _) _ = _
    rw [hdec, cI_rt, lA_v (rdo d6) (by decide) hl1 (by omega), cA_rt, d7 _ (by omega), if_neg (by simp), pF_w [.ref arr, .int (nI hd), .int (nI (ix hd cap (ys.length - 1)))] d5 (Nat.le_of_ble_eq_true rfl) rfl, sAn_v (by rw [hset_o (Ne.symm hne)]; exact d6) hl1 (by omega), cA_rt, if_pos (by simp)]
  · have hlen : (ys.take (ys.length - 1)).length = ys.length - 1 := by simp
    refine ⟨by omega, d2, d3, d4, ?_, _, hset_s, fun i hi => ?_⟩
    · rw [hset_o hne, hset_s, hlen]
    · rw [hlen] at hi
      unfold va_up
      rw [if_neg (fun z => ?_), d7 i (by omega)]
      · rw [getD_tk hi]
      · have := ix_inj d4 (by omega) (by omega) z
        omega
  · exact Kp.tr (F1 := fun a => a = d) (F2 := fun a => a = arr) (Kp.st rfl) (Kp.st rfl) (fun a z => Or.inl z) (fun a _ z => Or.inr z) (by omega) (by omega)
  · exact (g.set d5).set (by rw [hset_o (Ne.symm hne)]; exact d6)
theorem p_null {arr cap to : Nat} {K : AH → RS} (hto : to ≤ cap) (hcap : cap ≤ 100000) : ∀ (k n i : Nat) (h : AH) (f : Nat → Option Nat), i + k = to → k < n → h.1 arr = some (.inl (5, cap, .inr (.inr (.inr (.inr f))))) →
    ∃ f' : Nat → Option Nat, f_J19_grow_L145 K n (some arr) (nI i) (nI to) h = K (hset h arr (.inl (5, cap, .inr (.inr (.inr (.inr f')))))) ∧ ∀ j, (j < i ∨ to ≤ j) → f' j = f j := by
  intro k
  induction k with
  | zero =>
    intro n i h f hi hn he
    obtain ⟨n, rfl⟩ : ∃ n', n = n' + 1 := ⟨n - 1, by omega⟩
    refine ⟨f, ?_, fun j _ => rfl⟩
    unfold f_J19_grow_L145
    rw [if_pos (nI_le (by omega) (by omega)), hset_eq he]
  | succ k ih =>
    intro n i h f hi hn he
    obtain ⟨n, rfl⟩ : ∃ n', n = n' + 1 := ⟨n - 1, by omega⟩
    obtain ⟨f', e1, e2⟩ := ih n (i + 1) (hset h arr (.inl (5, cap, .inr (.inr (.inr (.inr (va_up f i none))))))) (va_up f i none) (by omega) (by omega) hset_s
    refine ⟨f', ?_, fun j hj => ?_⟩
    · unfold f_J19_grow_L145
      rw [if_neg (fun z => by have := (nI_leI (by omega) (by omega)).mp z; omega), sAn_v he (by omega) (by omega), nI_1, e1, hset_ss]
    · rw [e2 j (by omega)]
      unfold va_up
      rw [if_neg (by omega)]
def jmp (cap : Nat) : Nat := if 64 ≤ cap then cap / 2 else cap + 2
theorem jmp_2 {cap : Nat} (h : 17 ≤ cap) : 1 ≤ jmp cap ∧ jmp cap ≤ cap + 2 ∧ cap ≤ 2 * jmp cap + 1 := by unfold jmp; split <;> omega
theorem ix_sur {hd cap j : Nat} (h1 : hd < cap) (hj : j < cap) : ∃ i, i < cap ∧ ix hd cap i = j := by
  by_cases h2 : hd ≤ j
  · exact ⟨j - hd, by omega, by unfold ix; rw [if_pos (by omega)]; omega⟩
  · exact ⟨j + cap - hd, by omega, by unfold ix; rw [if_neg (by omega)]; omega⟩
theorem getD_mem {ys : List Nat} {i : Nat} (hi : i < ys.length) : ys.getD i 0 ∈ ys := by
  rw [List.getD_eq_getElem?_getD, List.getElem?_eq_getElem hi]; exact List.getElem_mem _
theorem getD_ap {ys : List Nat} {i y : Nat} (hi : i < ys.length) : (ys ++ [y]).getD i 0 = ys.getD i 0 := by
  rw [List.getD_eq_getElem?_getD, List.getElem?_append_left hi, List.getD_eq_getElem?_getD]
theorem getD_ae {ys : List Nat} {y : Nat} : (ys ++ [y]).getD ys.length 0 = y := by
  rw [List.getD_eq_getElem?_getD, List.getElem?_append_right (Nat.le_refl _)]; simp
/-- full: head and tail meet -/
theorem p_qgrow {d arr cap hd : Nat} {ys : List Nat} (g : GH B h) (d2 : 17 ≤ cap) (d3 : cap ≤ 4000) (d4 : hd < cap) (d5 : h.1 d = some (.inr (12, [.ref arr, .int (nI hd), .int (nI hd)]))) {f : Nat → Option Nat} (d6 : h.1 arr = some (.inl (5, cap, .inr (.inr (.inr (.inr f)))))) (d1 : ys.length = cap) (d7 : ∀ i, i < ys.length → f (ix hd cap i) = some (ys.getD i 0)) (hel : ∀ y ∈ ys, EL h y) (hc : 1 ≤ hcl h) (hs : cap + jmp cap ≤ hsl h) :
    ∃ h', f_J19_grow (some d) 1 h = rtV h' ∧ DQ h' d (hsz h) (cap + jmp cap) (hd + jmp cap) ys ∧ Kp (fun a => a = d) 1 (cap + jmp cap) h h' ∧ GH B h' := by
  obtain ⟨j1, j2, j3⟩ := jmp_2 d2
  have hall : ∀ j, j < cap → ∃ i, i < ys.length ∧ ix hd cap i = j ∧ f j = some (ys.getD i 0) := fun j hj => by
    obtain ⟨i, i1, i2⟩ := ix_sur d4 hj
    exact ⟨i, by omega, i2, by rw [← i2]; exact d7 i (by omega)⟩
  unfold f_J19_grow
  rw [gA_v (o := some arr) (rdo d5) rfl, aL_v (t := 5) (x := (cap, .inr (.inr (.inr (.inr f))))) (rdo d6) (by decide)]
  have hJ : ∀ X : Int32 → RS, (if (64 : Int32) ≤ nI cap then X (nI cap >>> ((1 : Int32) &&& 31)) else X (nI cap + 2)) = X (nI (jmp cap)) := by
    intro X
    unfold jmp
    by_cases h1 : 64 ≤ cap
    · rw [if_pos (show (64 : Int32) ≤ nI cap from nI_le (a := 64) h1 (by omega)), if_pos h1, pk_shrN (by omega) _ 1 (by decide)]
    · rw [if_neg (show ¬ (64 : Int32) ≤ nI cap from fun z => by have := (nI_leI (a := 64) (by decide) (by omega)).mp z; omega), if_neg h1]
      exact congrArg X (nI_add cap 2)
  show ∃ h', (if (64 : Int32) ≤ nI cap then f_J19_grow_J21 (some d) 1 (nI cap) (nI cap >>> ((1 : Int32) &&& 31)) h else f_J19_grow_J21 (some d) 1 (nI cap) (nI cap + 2) h) = _ ∧ _
  rw [hJ (fun y => f_J19_grow_J21 (some d) 1 (nI cap) y h)]
  unfold f_J19_grow_J21
  have e0 : (nI cap + nI (jmp cap) - 2147483639).toInt = ((cap + jmp cap : Nat) : Int) - 2147483639 := by
    rw [nI_add]
    have := Int32.toInt_sub (nI (cap + jmp cap)) 2147483639
    rw [this, nI_toInt (by omega), show (2147483639 : Int32).toInt = 2147483639 by decide]
    simp only [Int.bmod]
    split <;> omega
  rw [if_neg (show ¬ nI (jmp cap) < 1 from nI_nlt (b := 1) (by omega) (by omega)), if_pos (by rw [Int32.le_iff_toInt_le, e0]; simp; omega), nI_add]
  unfold f_J19_grow_J49
  rw [gA_v (o := some arr) (rdo d5) rfl]
  obtain ⟨h1, c1, c2⟩ := p_copyA g d6 (fun i hi y hy => by
    obtain ⟨q, q1, q2, q3⟩ := hall i hi
    rw [q3] at hy
    simp only [Option.some.injEq] at hy
    rw [← hy]
    exact hel _ (getD_mem q1)) (n := cap + jmp cap) (by omega) (by omega) hc hs
  have hd0 := (g.fresh d5).2
  have k1 : Kp (fun _ => False) 1 (cap + jmp cap) h h1 := by
    rw [c2]
    exact Kp.tr (F1 := fun _ => False) (F2 := fun a => a = hsz h) (Kp.nw hc hs) (Kp.st rfl) (fun _ z => z) (fun a ha z => by omega) (by omega) (by omega)
  have g1 : GH B h1 := by rw [c2]; exact g.new.set hnew_s
  have e5 := k1.ow g d5 (fun z => z)
  have e6 : h1.1 (hsz h) = some (.inl (5, cap + jmp cap, .inr (.inr (.inr (.inr (va_cpy f (fun _ => none) 0 0 cap)))))) := by rw [c2]; exact hset_s
  rw [c1, cA_rt, pF_w [.ref (hsz h), .int (nI hd), .int (nI hd)] e5 (Nat.le_of_ble_eq_true rfl) rfl, gI_v (rdo hset_s) rfl, gI_v (rdo hset_s) rfl, if_neg (nI_nlt (Nat.le_refl _) (by omega)), gI_v (rdo hset_s) rfl, gI_v (rdo hset_s) rfl, if_neg (fun z => z rfl), gI_v (rdo hset_s) rfl]
  have e6' : (hset h1 d (.inr (12, [.ref (hsz h), .int (nI hd), .int (nI hd)]))).1 (hsz h) = some (.inl (5, cap + jmp cap, .inr (.inr (.inr (.inr (va_cpy f (fun _ => none) 0 0 cap)))))) := by rw [hset_o (Ne.symm hd0)]; exact e6
  have k2 : Kp (fun a => a = d) 1 (cap + jmp cap) h (hset h1 d (.inr (12, [.ref (hsz h), .int (nI hd), .int (nI hd)]))) := Kp.tr (F1 := fun _ => False) (F2 := fun a => a = d) k1 (Kp.st rfl) (fun _ z => z.elim) (fun _ _ z => z) (by omega) (by omega)
  have g2 : GH B (hset h1 d (.inr (12, [.ref (hsz h), .int (nI hd), .int (nI hd)]))) := g1.set e5
  have e5' : (hset h1 d (.inr (12, [.ref (hsz h), .int (nI hd), .int (nI hd)]))).1 d = some (.inr (12, [.ref (hsz h), .int (nI hd), .int (nI hd)])) := hset_s
  generalize hset h1 d (.inr (12, [.ref (hsz h), .int (nI hd), .int (nI hd)])) = h2 at e6' k2 g2 e5' ⊢
  obtain ⟨q, q1, q2, q3⟩ := hall hd d4
  rw [lA_v (rdo e6') (by decide) (by omega) (by omega), cpy_lo d4, q3, if_neg (by simp)]
  unfold f_J19_grow_J96
  rw [gI_v (rdo e5') rfl, gI_v (rdo e5') rfl, gI_v (rdo e5') rfl]
  have hsub : nI (cap + jmp cap) - nI cap = nI (jmp cap) := by rw [pk_sub (by omega)]; congr 1; omega
  rw [hsub, nI_add, pk_sub (by omega)]
  unfold xcpA
  have E2 := rdo e6'
  simp only [E2, e6']
  have hOK : elOK h2 (va_cpy f (fun _ => none) 0 0 cap) hd (cap - hd) := fun i hi y hy => by
    rw [cpy_lo (by omega)] at hy
    obtain ⟨q, q1, q2, q3⟩ := hall (hd + i) (by omega)
    rw [q3] at hy
    simp only [Option.some.injEq] at hy
    obtain ⟨c, fs, x1, x2⟩ := hel _ (getD_mem q1)
    rw [hy] at x1
    refine ⟨c, fs, k2.rdk g x1 ?_, x2⟩
    rintro rfl
    have := (rdo d5).symm.trans x1
    simp at this
    omega
  have n1 : (nI hd).toNatClampNeg = hd := nI_clamp (by omega)
  have n2 : (nI (hd + jmp cap)).toNatClampNeg = hd + jmp cap := nI_clamp (by omega)
  have n3 : (nI (cap - hd)).toNatClampNeg = cap - hd := nI_clamp (by omega)
  rw [n1, n2, n3, if_pos ⟨rfl, rfl, ⟨by rw [nI_toInt (by omega)]; omega, by rw [nI_toInt (by omega)]; omega, by rw [nI_toInt (by omega)]; omega, by rw [n1, n3]; omega, by rw [n2, n3]; omega⟩, hOK⟩]
  have e5'' : (hset h2 (hsz h) (.inl (5, cap + jmp cap, .inr (.inr (.inr (.inr (va_cpy (va_cpy f (fun _ => none) 0 0 cap) (va_cpy f (fun _ => none) 0 0 cap) hd (hd + jmp cap) (cap - hd)))))))).1 d = some (.inr (12, [.ref (hsz h), .int (nI hd), .int (nI hd)])) := by rw [hset_o hd0]; exact e5'
  rw [gI_v (rdo e5'') rfl, gI_v (rdo e5'') rfl, nI_add, pF_w [.ref (hsz h), .int (nI (hd + jmp cap)), .int (nI hd)] e5'' (Nat.le_of_ble_eq_true rfl) rfl]
  obtain ⟨f', w1, w2⟩ := p_null (arr := hsz h) (cap := cap + jmp cap) (to := hd + jmp cap) (K := fun h43 => rtV h43) (by omega) (by omega) (jmp cap) FUEL hd _ _ (by omega) (by unfold FUEL; omega) (show (hset (hset h2 (hsz h) (.inl (5, cap + jmp cap, .inr (.inr (.inr (.inr (va_cpy (va_cpy f (fun _ => none) 0 0 cap) (va_cpy f (fun _ => none) 0 0 cap) hd (hd + jmp cap) (cap - hd)))))))) d (.inr (12, [.ref (hsz h), .int (nI (hd + jmp cap)), .int (nI hd)]))).1 (hsz h) = _ by rw [hset_o (Ne.symm hd0)]; exact hset_s)
  refine ⟨_, w1, ⟨by omega, by omega, by omega, by omega, ?_, f', hset_s, fun i hi => ?_⟩, ?_, ?_⟩
  · rw [hset_o hd0, hset_s, d1]
    have := @ix_sp (hd + jmp cap) (cap + jmp cap) cap
    rw [show ix (hd + jmp cap) (cap + jmp cap) cap = hd by omega]
  · have s1 := @ix_sp (hd + jmp cap) (cap + jmp cap) i
    have s2 := @ix_sp hd cap i
    rw [w2 _ (by omega), ← d7 i hi]
    by_cases hw : hd + i < cap
    · rw [pk_cpy_in (by omega) (by omega), cpy_lo (by omega)]
      congr 1
      omega
    · rw [pk_cpy_out (by omega), cpy_lo (by omega)]
      congr 1
      omega
  · refine Kp.tr (F1 := fun a => a = d) (F2 := fun a => a = d ∨ a = hsz h) k2 (Kp.tr (F1 := fun a => a = d ∨ a = hsz h) (F2 := fun a => a = d ∨ a = hsz h) (c1 := 0) (n1 := 0) (c2 := 0) (n2 := 0) (c := 0) (n := 0) (Kp.tr (F1 := fun a => a = hsz h) (F2 := fun a => a = d) (c := 0) (n := 0) (Kp.st rfl) (Kp.st rfl) (fun _ z => Or.inr z) (fun _ _ z => Or.inl z) (by omega) (by omega)) (Kp.st (Or.inr rfl)) (fun _ z => z) (fun _ _ z => z) (by omega) (by omega)) (fun _ z => z) (fun a ha z => ?_) (by omega) (by omega)
    rcases z with z | z
    · exact z
    · omega
  · exact ((g2.set e6').set e5'').set (by rw [hset_o (Ne.symm hd0)]; exact hset_s)
/-- cells that no list element is -/
def NE (h : AH) (F : Nat → Prop) : Prop := ∀ a, F a → ∃ x, h.1 a = some x ∧ ∀ (c : Nat) (fs : List Value), x = .inr (c, fs) → ¬ (c = 6 ∨ c = 7 ∨ c = 8 ∨ c = 11)
theorem NE.rd {F : Nat → Prop} (n : NE h F) {y : Nat} {c : Nat} {fs : List Value} (e1 : rd h y = some (.inr (c, fs))) (e2 : c = 6 ∨ c = 7 ∨ c = 8 ∨ c = 11) : ¬ F y := fun hy => by
  obtain ⟨x, x1, x2⟩ := n y hy
  have e3 := (rdo x1).symm.trans e1
  simp only [Option.some.injEq] at e3
  exact x2 c fs e3 e2
theorem EL.kp {F : Nat → Prop} {c n y : Nat} (g : GH B h) (k : Kp F c n h h') (hF : NE h F) (e : EL h y) : EL h' y := by
  obtain ⟨c, fs, e1, e2⟩ := e
  exact ⟨c, fs, k.rdk g e1 (hF.rd e1 e2), e2⟩
theorem BX.kp {F : Nat → Prop} {c n y : Nat} {v : Int32} (g : GH B h) (k : Kp F c n h h') (hF : NE h F) (e : BX h y v) : BX h' y v := k.rdk g e (hF.rd e (by decide))
theorem DQ.ne {d arr cap hd : Nat} {ys : List Nat} (D : DQ h d arr cap hd ys) : NE h (fun a => a = d ∨ a = arr) := by
  obtain ⟨d1, d2, d3, d4, d5, f, d6, d7⟩ := D
  rintro a (rfl | rfl)
  · exact ⟨_, d5, fun c fs z => by cases z; decide⟩
  · exact ⟨_, d6, fun c fs z => by cases z⟩
theorem p_qadd {d arr cap hd : Nat} {ys : List Nat} (g : GH B h) (D : DQ h d arr cap hd ys) {y : Nat} (hy : EL h y) (hel : ∀ z ∈ ys, EL h z) (hcap : cap ≤ 4000) (hc : 1 ≤ hcl h) (hs : cap + jmp cap ≤ hsl h) :
    ∃ h' arr' cap' hd', f_J19_addLast (some d) (some y) h = rtV h' ∧ DQ h' d arr' cap' hd' (ys ++ [y]) ∧ ((arr' = arr ∧ cap' = cap) ∨ (arr' = hsz h ∧ cap' = cap + jmp cap ∧ ys.length + 1 = cap)) ∧ Kp (fun a => a = d ∨ a = arr) 1 (4 * (cap' - cap)) h h' ∧ GH B h' := by
  obtain ⟨d1, d2, d3, d4, d5, f, d6, d7⟩ := id D
  obtain ⟨j1, j2, j3⟩ := jmp_2 d2
  have hne : d ≠ arr := by rintro rfl; rw [d5] at d6; cases d6
  have hlt := ix_lt d4 d1
  obtain ⟨cy, fy, y1, y2⟩ := id hy
  unfold f_J19_addLast
  rw [if_pos (by simp), gA_v (o := some arr) (rdo d5) rfl, gI_v (rdo d5) rfl, sA_v d6 hlt (by omega) y1 y2]
  have e5 : (hset h arr (.inl (5, cap, .inr (.inr (.inr (.inr (va_up f (ix hd cap ys.length) (some y)))))))).1 d = some (.inr (12, [.ref arr, .int (nI hd), .int (nI (ix hd cap ys.length))])) := by rw [hset_o hne]; exact d5
  rw [gI_v (rdo e5) rfl, gI_v (rdo e5) rfl, aL_v (t := 5) (x := (cap, .inr (.inr (.inr (.inr (va_up f (ix hd cap ys.length) (some y))))))) (rdo hset_s) (by decide)]
  show ∃ h' arr' cap' hd', xcI (f_J19_inc (nI (ix hd cap ys.length)) (nI cap) _) _ = _ ∧ _
  rw [p_inc hlt (by omega), cI_rt, ix_s d4 d1, pF_w [.ref arr, .int (nI hd), .int (nI (ix hd cap (ys.length + 1)))] e5 (Nat.le_of_ble_eq_true rfl) rfl]
  have k1 : Kp (fun a => a = d ∨ a = arr) 0 0 h (hset (hset h arr (.inl (5, cap, .inr (.inr (.inr (.inr (va_up f (ix hd cap ys.length) (some y)))))))) d (.inr (12, [.ref arr, .int (nI hd), .int (nI (ix hd cap (ys.length + 1)))]))) := Kp.tr (F1 := fun a => a = arr) (F2 := fun a => a = d) (Kp.st rfl) (Kp.st rfl) (fun a z => Or.inr z) (fun a _ z => Or.inl z) (by omega) (by omega)
  have g1 : GH B (hset (hset h arr (.inl (5, cap, .inr (.inr (.inr (.inr (va_up f (ix hd cap ys.length) (some y)))))))) d (.inr (12, [.ref arr, .int (nI hd), .int (nI (ix hd cap (ys.length + 1)))]))) := (g.set d6).set e5
  have E5 : (hset (hset h arr (.inl (5, cap, .inr (.inr (.inr (.inr (va_up f (ix hd cap ys.length) (some y)))))))) d (.inr (12, [.ref arr, .int (nI hd), .int (nI (ix hd cap (ys.length + 1)))]))).1 d = some (.inr (12, [.ref arr, .int (nI hd), .int (nI (ix hd cap (ys.length + 1)))])) := hset_s
  have E6 : (hset (hset h arr (.inl (5, cap, .inr (.inr (.inr (.inr (va_up f (ix hd cap ys.length) (some y)))))))) d (.inr (12, [.ref arr, .int (nI hd), .int (nI (ix hd cap (ys.length + 1)))]))).1 arr = some (.inl (5, cap, .inr (.inr (.inr (.inr (va_up f (ix hd cap ys.length) (some y))))))) := by rw [hset_o (Ne.symm hne)]; exact hset_s
  have hz : hsz (hset (hset h arr (.inl (5, cap, .inr (.inr (.inr (.inr (va_up f (ix hd cap ys.length) (some y)))))))) d (.inr (12, [.ref arr, .int (nI hd), .int (nI (ix hd cap (ys.length + 1)))]))) = hsz h := rfl
  have hz2 : hcl (hset (hset h arr (.inl (5, cap, .inr (.inr (.inr (.inr (va_up f (ix hd cap ys.length) (some y)))))))) d (.inr (12, [.ref arr, .int (nI hd), .int (nI (ix hd cap (ys.length + 1)))]))) = hcl h := rfl
  have hz3 : hsl (hset (hset h arr (.inl (5, cap, .inr (.inr (.inr (.inr (va_up f (ix hd cap ys.length) (some y)))))))) d (.inr (12, [.ref arr, .int (nI hd), .int (nI (ix hd cap (ys.length + 1)))]))) = hsl h := rfl
  generalize hset (hset h arr (.inl (5, cap, .inr (.inr (.inr (.inr (va_up f (ix hd cap ys.length) (some y)))))))) d (.inr (12, [.ref arr, .int (nI hd), .int (nI (ix hd cap (ys.length + 1)))])) = h1 at k1 g1 E5 E6 hz hz2 hz3 ⊢
  have hlen : (ys ++ [y]).length = ys.length + 1 := by simp
  have hfx : ∀ i, i < (ys ++ [y]).length → va_up f (ix hd cap ys.length) (some y) (ix hd cap i) = some ((ys ++ [y]).getD i 0) := fun i hi => by
    rw [hlen] at hi
    unfold va_up
    by_cases hi2 : i = ys.length
    · subst hi2; rw [if_pos rfl, getD_ae]
    · rw [if_neg (fun z => hi2 (ix_inj d4 (by omega) d1 z)), d7 i (by omega), getD_ap (by omega)]
  have hsp := @ix_sp hd cap (ys.length + 1)
  by_cases hful : ys.length + 1 = cap
  · have e0 : ix hd cap (ys.length + 1) = hd := by omega
    rw [e0] at E5 ⊢
    rw [if_neg (fun z => z rfl), rc_v (rdo E5)]
    obtain ⟨h2, w1, w2, w3, w4⟩ := p_qgrow g1 d2 hcap d4 E5 E6 (by rw [hlen, hful]) hfx (fun z hz => by
      rcases List.mem_append.mp hz with hz | hz
      · exact EL.kp g k1 D.ne (hel z hz)
      · rw [List.mem_singleton.mp hz]; exact EL.kp g k1 D.ne hy) (by omega) (by omega)
    refine ⟨h2, hsz h, cap + jmp cap, hd + jmp cap, ?_, by rw [← hz]; exact w2, Or.inr ⟨rfl, rfl, hful⟩, ?_, w4⟩
    · rw [w1, cV_rt]
    · exact Kp.tr k1 w3 (fun _ z => z) (fun _ _ z => Or.inl z) (by omega) (by omega)
  · rw [if_pos (fun z => ?_)]
    · exact ⟨h1, arr, cap, hd, rfl, ⟨by omega, d2, d3, d4, by rw [hlen]; exact E5, _, E6, hfx⟩, Or.inl ⟨rfl, rfl⟩, k1.w (fun _ _ z => z) (by omega) (by omega), g1⟩
    · have := (nI_eq (by omega) (by omega)).mp z
      omega
end
