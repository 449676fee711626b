/-! PURE: the run's constants, boxed ints, ArrayList -/
set_option maxRecDepth 100000
def WK (B tC tD mi : Nat) (ad : Nat → Nat) (c : (Nat → Option AE) × (Nat → Value)) : Prop :=
  c.2 0 = .ref tC ∧ c.1 tC = some (.inl (8, 256, .inr (.inr (.inr (.inr (fun j => some (ad j))))))) ∧ (∀ j, j < 256 → c.1 (ad j) = some (.inr (11, [.int (vb_c j)]))) ∧
  c.2 1 = .int 127 ∧ c.2 2 = .ref tD ∧ c.1 tD = some (.inl (9, 0, .inr (.inr (.inr (.inr (fun _ => none)))))) ∧ c.2 3 = .int 1 ∧ (c.2 4 = .null ∨ ∃ t, c.2 4 = .ref t) ∧ (c.2 5 = .null ∨ ∃ t, c.2 5 = .ref t) ∧ c.2 10 = .ref mi ∧
  ∀ a e, c.1 a = some e → a < B
/-- a good heap: the constants; what is ours lies behind B -/
def GH (B : Nat) (h : AH) : Prop := (∃ tC tD mi ad, WK B tC tD mi ad h.2.1) ∧ (∀ a e, h.1 a = some e → B ≤ a ∧ a < hsz h) ∧ B ≤ hsz h
section
variable {B : Nat} {h h' : AH}
theorem GH.set (g : GH B h) {a : Nat} {e e' : AE} (he : h.1 a = some e) : GH B (hset h a e') := by
  obtain ⟨g1, g2, g3⟩ := g
  refine ⟨g1, fun q x hx => ?_, g3⟩
  by_cases hq : q = a
  · subst hq; exact g2 q e he
  · rw [hset_o hq] at hx; exact g2 q x hx
theorem GH.new (g : GH B h) {e : AE} {n : Nat} : GH B (hnew h e n) := by
  obtain ⟨g1, g2, g3⟩ := g
  refine ⟨g1, fun q x hx => ?_, Nat.le_trans g3 (Nat.le_succ _)⟩
  show B ≤ q ∧ q < hsz h + 1
  by_cases hq : q = hsz h
  · subst hq; exact ⟨g3, by omega⟩
  · rw [hnew_o hq] at hx; have := g2 q x hx; omega
theorem GH.fresh (g : GH B h) {a : Nat} {e : AE} (he : h.1 a = some e) : a < hsz h ∧ a ≠ hsz h := by have := g.2.1 a e he; omega
theorem GH.rlt (g : GH B h) {a : Nat} {e : AE} (he : rd h a = some e) : a < hsz h := by
  unfold rd at he
  cases h1 : h.1 a with
  | some x => exact (g.2.1 a x h1).2
  | none =>
    rw [h1] at he
    obtain ⟨⟨tC, tD, mi, ad, w⟩, g2, g3⟩ := g
    have := w.2.2.2.2.2.2.2.2.2.2 a e he
    omega
/-- a cell that is read keeps under a call that doesn't write it -/
theorem Kp.rdk {F : Nat → Prop} {c n : Nat} (g : GH B h) (k : Kp F c n h h') {a : Nat} {e : AE} (he : rd h a = some e) (hF : ¬ F a) : rd h' a = some e := by
  have hlt := g.rlt he
  have h1 := k.1 a hlt hF
  have h2 : hro h' = hro h := by unfold hro; rw [k.2.1]
  unfold rd at he ⊢
  rw [h1, h2]
  exact he
theorem Kp.ow {F : Nat → Prop} {c n : Nat} (g : GH B h) (k : Kp F c n h h') {a : Nat} {e : AE} (he : h.1 a = some e) (hF : ¬ F a) : h'.1 a = some e := by
  rw [k.1 a (g.fresh he).1 hF]; exact he
theorem pF_w {a c k : Nat} {fs : List Value} {v : Value} (fs' : List Value) (he : h.1 a = some (.inr (c, fs))) (hk : k < fs.length) (e : fs.set k v = fs') {X : AH → RS} : xpF h (some a) c k v X = X (hset h a (.inr (c, fs'))) := by rw [pF_v he hk, e]
/-- a boxed int -/
def BX (h : AH) (y : Nat) (v : Int32) : Prop := rd h y = some (.inr (11, [.int v]))
/-- what may lie in a list -/
def EL (h : AH) (y : Nat) : Prop := ∃ (c : Nat) (fs : List Value), rd h y = some (.inr (c, fs)) ∧ (c = 6 ∨ c = 7 ∨ c = 8 ∨ c = 11)
theorem BX.el {y : Nat} {v : Int32} (b : BX h y v) : EL h y := ⟨_, _, b, by decide⟩
theorem vb_nI {j : Nat} (hj : 128 ≤ j) (h2 : j ≤ 100000) : vb_c j = nI (j - 128) := by
  unfold vb_c
  exact pk_sub (a := j) (b := 128) hj
theorem p_valueOf (g : GH B h) {v : Nat} (hv : v ≤ 1000) (hc : 1 ≤ hcl h) (hs : 1 ≤ hsl h) : ∃ (y : Nat) (h' : AH), f_J9_valueOf (nI v) h = rtA (some y) h' ∧ BX h' y (nI v) ∧ Kp (fun _ => False) 1 1 h h' ∧ GH B h' := by
  obtain ⟨⟨tC, tD, mi, ad, w⟩, g2, g3⟩ := id g
  have e0 : ¬ nI v < (-128) := by
    rw [Int32.lt_iff_toInt_lt, nI_toInt (by omega)]
    have : ((-128 : Int32)).toInt = -128 := by decide
    omega
  have mk : ∃ (y : Nat) (h' : AH), f_J9_valueOf_J23 (nI v) h = rtA (some y) h' ∧ BX h' y (nI v) ∧ Kp (fun _ => False) 1 1 h h' ∧ GH B h' := by
    refine ⟨hsz h, hset (hnew h (.inr (11, fsJ9)) 1) (hsz h) (.inr (11, [.int (nI v)])), ?_, ?_, ?_, ?_⟩
    · unfold f_J9_valueOf_J23 f_J9_init f_J8_init
      rw [nO_v hc hs]
      simp only [nn_v, cV_rt]
      rw [pF_v hnew_s (by decide), cV_rt]
      rfl
    · exact rdo hset_s
    · refine Kp.tr (F1 := fun _ => False) (F2 := fun a => a = hsz h) (Kp.nw hc hs) (Kp.st rfl) (fun _ z => z) (fun a ha z => ?_) (by omega) (by omega)
      omega
    · exact g.new.set hnew_s
  unfold f_J9_valueOf
  rw [if_neg e0]
  unfold xtI
  rw [show hst h 1 = .int 127 from w.2.2.2.1]
  show ∃ (y : Nat) (h' : AH), (if 127 < nI v then _ else _) = _ ∧ _
  by_cases h1 : 127 < v
  · rw [if_pos (show (127 : Int32) < nI v from nI_lt (a := 127) h1 (by omega))]
    exact mk
  · rw [if_neg (show ¬ (127 : Int32) < nI v from nI_nlt (a := 127) (by omega) (by decide))]
    unfold xtA
    rw [show hst h 0 = .ref tC from w.1]
    have hnC : h.1 tC = none := by
      cases hz : h.1 tC with
      | none => rfl
      | some x => have q1 := g2 tC x hz; have q2 := w.2.2.2.2.2.2.2.2.2.2 tC _ w.2.1; omega
    have hnA : h.1 (ad (v + 128)) = none := by
      cases hz : h.1 (ad (v + 128)) with
      | none => rfl
      | some x => have q1 := g2 _ x hz; have q2 := w.2.2.2.2.2.2.2.2.2.2 _ _ (w.2.2.1 (v + 128) (by omega)); omega
    refine ⟨ad (v + 128), h, ?_, ?_, Kp.rf.w (fun _ _ z => z) (by omega) (by omega), g⟩
    · show xlA h (some tC) (nI v + nI 128) _ = _
      rw [nI_add, lA_v (rdr hnC w.2.1) (by decide) (by omega) (by decide)]
    · have := w.2.2.1 (v + 128) (by omega)
      rw [vb_nI (by omega) (by omega), show v + 128 - 128 = v by omega] at this
      exact rdr hnA this
theorem p_intValue {y : Nat} {v : Int32} (b : BX h y v) : f_J9_intValue (some y) h = rtI v h := by
  unfold f_J9_intValue
  rw [gI_v b rfl]
theorem p_equals {y z v w : Nat} (hv : v ≤ 100000) (hw : w ≤ 100000) (b1 : BX h y (nI v)) (b2 : BX h z (nI w)) : f_J9_equals (some y) (some z) h = rtI (bI (decide (v = w))) h := by
  unfold f_J9_equals
  rw [in_v b2, if_neg (by decide), gI_v b1 rfl, ck_v b2 (by decide), rc_v b2, p_intValue b2, cI_rt]
  by_cases hvw : v = w
  · subst hvw; simp [rtZ1, bI, decide_true]
  · rw [if_pos (fun e => hvw ((nI_eq (n31 hv) (n31 hw)).mp e)), rtZ0, decide_eq_false hvw]; rfl
/-- an ArrayList at l with its array arr (cap places; 0: the shared empty one), of the elements ys -/
def AL (h : AH) (l arr cap : Nat) (ys : List Nat) : Prop := ys.length ≤ cap ∧ cap ≤ 10000 ∧ (∃ mc : Int32, h.1 l = some (.inr (10, [.int mc, .ref arr, .int (nI ys.length)]))) ∧ ((cap = 0 ∧ hst h 2 = .ref arr) ∨ (10 ≤ cap ∧ ∃ f : Nat → Option Nat, h.1 arr = some (.inl (5, cap, .inr (.inr (.inr (.inr f))))) ∧ ∀ i, i < ys.length → f i = some (ys.getD i 0)))
/-- its cells -/
def FL2 (l arr cap : Nat) : Nat → Prop := fun a => a = l ∨ (0 < cap ∧ a = arr)
theorem p_lsize {l arr cap : Nat} {ys : List Nat} (A : AL h l arr cap ys) : f_J7_size (some l) h = rtI (nI ys.length) h := by
  obtain ⟨a1, a2, ⟨mc, a3⟩, a4⟩ := A
  unfold f_J7_size
  rw [gI_v (rdo a3) rfl]
theorem AL.rc {l arr cap : Nat} {ys : List Nat} (A : AL h l arr cap ys) {X : RS} : xrc h (some l) 10 X = X := by
  obtain ⟨a1, a2, ⟨mc, a3⟩, a4⟩ := A
  exact rc_v (rdo a3)
theorem p_lget {l arr cap : Nat} {ys : List Nat} (A : AL h l arr cap ys) {i : Nat} (hi : i < ys.length) : f_J7_get (some l) (nI i) h = rtA (some (ys.getD i 0)) h := by
  obtain ⟨a1, a2, ⟨mc, a3⟩, a4⟩ := id A
  unfold f_J7_get
  rw [gI_v (rdo a3) rfl]
  unfold f_J13_checkIndex f_J14_checkIndex
  rw [if_neg (nI_pos (by omega)), if_pos (nI_lt hi (by omega)), cI_rt, cI_rt, A.rc]
  unfold f_J7_elementData
  rw [gA_v (o := some arr) (rdo a3) rfl]
  rcases a4 with ⟨a4, -⟩ | ⟨a4, f, a5, a6⟩
  · omega
  · rw [lA_v (rdo a5) (by decide) (by omega) (by omega), a6 i hi, cA_rt]
theorem p_lnew (g : GH B h) {l : Nat} {fs : List Value} (he : h.1 l = some (.inr (10, fsJ7))) : ∃ h' arr, f_J7_init (some l) h = rtV h' ∧ AL h' l arr 0 [] ∧ Kp (fun a => a = l) 0 0 h h' ∧ GH B h' := by
  obtain ⟨⟨tC, tD, mi, ad, w⟩, g2, g3⟩ := id g
  refine ⟨hset h l (.inr (10, [.int 0, .ref tD, .int 0])), tD, ?_, ⟨by decide, by decide, ⟨0, hset_s⟩, Or.inl ⟨rfl, w.2.2.2.2.1⟩⟩, Kp.st rfl, g.set he⟩
  unfold f_J7_init f_J6_init f_J5_init
  simp only [nn_v, cV_rt]
  rw [pF_v he (by decide), cV_rt]
  unfold xtA
  rw [show hst (hset h l (.inr (10, List.set fsJ7 0 (.int 0)))) 2 = .ref tD from w.2.2.2.2.1]
  show xpF (hset h l (.inr (10, List.set fsJ7 0 (.int 0)))) (some l) 10 1 (va_rf (some tD)) _ = _
  rw [pF_v hset_s (by decide), hset_ss]
  rfl
/-- the new length -/
def nCap (cap : Nat) : Nat := if cap = 0 then 10 else cap + cap / 2
theorem p_copyA (g : GH B h) {arr cap : Nat} {f : Nat → Option Nat} (he : h.1 arr = some (.inl (5, cap, .inr (.inr (.inr (.inr f)))))) (hel : ∀ i, i < cap → ∀ y, f i = some y → EL h y) {n : Nat} (hcn : cap ≤ n) (hn : n ≤ 100000) (hc : 1 ≤ hcl h) (hs : n ≤ hsl h) :
    ∃ h', f_J12_copyOf (some arr) (nI n) h = rtA (some (hsz h)) h' ∧ h' = hset (hnew h (.inl (5, zA 5 n)) n) (hsz h) (.inl (5, n, .inr (.inr (.inr (.inr (va_cpy f (fun _ => none) 0 0 cap)))))) := by
  obtain ⟨⟨tC, tD, mi, ad, w⟩, g2, g3⟩ := id g
  refine ⟨_, ?_, rfl⟩
  have hne := (g.fresh he).2
  unfold f_J12_copyOf f_J12_copyOf_2 xgc
  simp only [rdo he, if_true]
  unfold xmi
  rw [show hst h 10 = .ref mi from w.2.2.2.2.2.2.2.2.2.1]
  simp only [not_true_eq_false, if_false]
  rw [nA_v hn hc hs, aL_v (t := 5) (x := (cap, .inr (.inr (.inr (.inr f))))) (rdo (by rw [hnew_o hne]; exact he)) (by decide)]
  have hmn : mnI (nI cap) (nI n) = nI cap := by
    unfold mnI
    rw [if_neg (nI_nlt hcn (by omega))]
  simp only [hmn]
  unfold xcpA
  have h1 : rd (hnew h (.inl (5, zA 5 n)) n) arr = some (.inl (5, cap, .inr (.inr (.inr (.inr f))))) := rdo (by rw [hnew_o hne]; exact he)
  have h2 : (hnew h (.inl (5, zA 5 n)) n).1 (hsz h) = some (.inl (5, n, .inr (.inr (.inr (.inr (fun _ => none)))))) := hnew_s
  simp only [h1, h2]
  have hk : (nI cap).toNatClampNeg = cap := nI_clamp (by omega)
  have hz : (0 : Int32).toNatClampNeg = 0 := rfl
  have hOK : elOK (hnew h (.inl (5, zA 5 n)) n) f 0 cap := fun i hi y hy => by
    obtain ⟨c, fs, e1, e2⟩ := hel i hi y (by rw [← hy]; congr 1; omega)
    exact ⟨c, fs, (Kp.nw (F := fun _ => False) hc hs).rdk g e1 (fun z => z), e2⟩
  rw [hk, hz, if_pos ⟨rfl, rfl, ⟨by decide, by decide, by rw [nI_toInt (by omega)]; omega, by rw [hk, hz]; omega, by rw [hk, hz]; omega⟩, hOK⟩, cA_rt]
theorem cpy_lo {f : Nat → Option Nat} {g : Nat → Option Nat} {cap i : Nat} (hi : i < cap) : va_cpy f g 0 0 cap i = f i := by
  rw [pk_cpy_in (by omega) (by omega)]; congr 1; omega
theorem FL2.l {l arr cap : Nat} : FL2 l arr cap l := Or.inl rfl
theorem p_ladd (g : GH B h) {l arr cap : Nat} {ys : List Nat} (A : AL h l arr cap ys) {y : Nat} (hy : EL h y) (hys : ∀ z ∈ ys, EL h z) (hcap : cap ≤ 5000) (hc : 1 ≤ hcl h) (hs : nCap cap ≤ hsl h) (hla : l ≠ arr) :
    ∃ (h' : AH) (arr' cap' : Nat), f_J7_add (some l) (some y) h = rtI 1 h' ∧ AL h' l arr' cap' (ys ++ [y]) ∧ ((arr' = arr ∧ cap' = cap ∧ ys.length < cap) ∨ (arr' = hsz h ∧ cap' = nCap cap ∧ ys.length = cap)) ∧ Kp (FL2 l arr cap) (if ys.length = cap then 1 else 0) (if ys.length = cap then nCap cap else 0) h h' ∧ GH B h' := by
  obtain ⟨a1, a2, ⟨mc, a3⟩, a4⟩ := id A
  have hy1 : y ≠ l := by
    rintro rfl
    obtain ⟨c, fs, e1, e2⟩ := hy
    have := (rdo a3).symm.trans e1
    simp at this
    omega
  unfold f_J7_add
  rw [gI_v (rdo a3) rfl, pF_w [.int (mc + 1), .ref arr, .int (nI ys.length)] a3 (Nat.le_of_ble_eq_true rfl) rfl]
  have k0 : Kp (fun a => a = l) 0 0 h (hset h l (.inr (10, [.int (mc + 1), .ref arr, .int (nI ys.length)]))) := Kp.st rfl
  have g0 : GH B (hset h l (.inr (10, [.int (mc + 1), .ref arr, .int (nI ys.length)]))) := g.set a3
  have b3 : (hset h l (.inr (10, [.int (mc + 1), .ref arr, .int (nI ys.length)]))).1 l = some (.inr (10, [.int (mc + 1), .ref arr, .int (nI ys.length)])) := hset_s
  have hz0 : hsz (hset h l (.inr (10, [.int (mc + 1), .ref arr, .int (nI ys.length)]))) = hsz h ∧ hcl (hset h l (.inr (10, [.int (mc + 1), .ref arr, .int (nI ys.length)]))) = hcl h ∧ hsl (hset h l (.inr (10, [.int (mc + 1), .ref arr, .int (nI ys.length)]))) = hsl h ∧ hst (hset h l (.inr (10, [.int (mc + 1), .ref arr, .int (nI ys.length)]))) = hst h := ⟨rfl, rfl, rfl, rfl⟩
  have hlen : ∀ z, (ys ++ [z]).length = ys.length + 1 := fun z => by simp
  rw [gA_v (o := some arr) (rdo b3) rfl, gI_v (rdo b3) rfl, rc_v (rdo b3)]
  generalize hset h l (.inr (10, [.int (mc + 1), .ref arr, .int (nI ys.length)])) = h0 at k0 g0 b3 hz0 ⊢
  have hE0 : ∀ z, EL h z → z ≠ l → EL h0 z := fun z ⟨c, fs, e1, e2⟩ hz => ⟨c, fs, k0.rdk g e1 hz, e2⟩
  have hysl : ∀ z ∈ ys, z ≠ l := fun z hz => by
    rintro rfl
    obtain ⟨c, fs, e1, e2⟩ := hys z hz
    have := (rdo a3).symm.trans e1
    simp at this
    omega
  obtain ⟨z1, z2, z3, z4⟩ := hz0
  -- the store behind a possible growth
  have fin : ∀ (h1 : AH) (arr1 cap1 : Nat) (f : Nat → Option Nat) (fs : List Value), GH B h1 → h1.1 l = some (.inr (10, [.int (mc + 1), .ref arr1, .int (nI ys.length)])) → h1.1 arr1 = some (.inl (5, cap1, .inr (.inr (.inr (.inr f))))) → (∀ i, i < ys.length → f i = some (ys.getD i 0)) → ys.length < cap1 → 10 ≤ cap1 → cap1 ≤ 10000 → EL h1 y →
      ∃ h2, f_J7_add_2_J11 (some l) (some y) (some arr1) (nI ys.length) h1 = rtV h2 ∧ AL h2 l arr1 cap1 (ys ++ [y]) ∧ Kp (fun a => a = l ∨ a = arr1) 0 0 h1 h2 ∧ GH B h2 := by
    intro h1 arr1 cap1 f fs g1 e1 e2 e3 e4 e5 e6 ⟨c, fy, e7, e8⟩
    have hne : l ≠ arr1 := by rintro rfl; rw [e1] at e2; cases e2
    refine ⟨hset (hset h1 arr1 (.inl (5, cap1, .inr (.inr (.inr (.inr (va_up f ys.length (some y)))))))) l (.inr (10, [.int (mc + 1), .ref arr1, .int (nI (ys.length + 1))])), ?_, ?_, ?_, ?_⟩
    · unfold f_J7_add_2_J11
      rw [sA_v e2 e4 (by omega) e7 e8, nI_1, pF_w [.int (mc + 1), .ref arr1, .int (nI (ys.length + 1))] (by rw [hset_o hne]; exact e1) (Nat.le_of_ble_eq_true rfl) rfl]
    · refine ⟨by rw [hlen]; omega, e6, ⟨mc + 1, by rw [hlen]; exact hset_s⟩, Or.inr ⟨e5, _, by rw [hset_o (Ne.symm hne)]; exact hset_s, fun i hi => ?_⟩⟩
      rw [hlen] at hi
      unfold va_up
      by_cases hiy : i = ys.length
      · subst hiy; simp
      · rw [if_neg hiy, e3 i (by omega)]
        simp [List.getElem?_append_left (show i < ys.length by omega)]
    · exact Kp.tr (F1 := fun a => a = arr1) (F2 := fun a => a = l) (Kp.st rfl) (Kp.st rfl) (fun a z => Or.inr z) (fun a _ z => Or.inl z) (by omega) (by omega)
    · exact (g1.set e2).set (by rw [hset_o hne]; exact e1)
  unfold f_J7_add_2
  rcases a4 with ⟨a4, a5⟩ | ⟨a4, f, a5, a6⟩
  · -- the first array
    subst a4
    have hy0 : ys = [] := by cases ys with | nil => rfl | cons a b => simp at a1
    subst hy0
    obtain ⟨⟨tC, tD, mi, ad, w⟩, g2, g3⟩ := id g0
    have eD : hst h0 2 = .ref arr := by rw [z4]; exact a5
    have harr : tD = arr := by have := w.2.2.2.2.1.symm.trans eD; simpa using this
    subst harr
    have hnD : h0.1 tD = none := by
      cases hz : h0.1 tD with
      | none => rfl
      | some x => have q1 := g2 _ x hz; have q2 := w.2.2.2.2.2.2.2.2.2.2 _ _ w.2.2.2.2.2.1; omega
    have rD := rdr hnD w.2.2.2.2.2.1
    rw [aL_v rD (by decide)]
    rw [if_neg (fun z => z rfl), rc_v (rdo b3)]
    unfold f_J7_grow f_J7_grow_2
    rw [gI_v (rdo b3) rfl, rc_v (rdo b3), gA_v (o := some tD) (rdo b3) rfl, aL_v rD (by decide), if_neg (by decide), gA_v (o := some tD) (rdo b3) rfl]
    unfold xtA
    rw [eD]
    simp only [if_true]
    have hmx : mxI 10 (nI ([] : List Nat).length + 1) = nI 10 := by decide
    rw [hmx, nA_v (by decide) (by omega) (by have : nCap 0 = 10 := rfl; omega)]
    have hl0 : l ≠ hsz h0 := (g0.fresh b3).2
    rw [pF_w [.int (mc + 1), .ref (hsz h0), .int (nI ([] : List Nat).length)] (by rw [hnew_o hl0]; exact b3) (Nat.le_of_ble_eq_true rfl) rfl, cA_rt, cA_rt]
    have k1 : Kp (fun a => a = l) 1 10 h0 (hset (hnew h0 (.inl (5, zA 5 10)) 10) l (.inr (10, [.int (mc + 1), .ref (hsz h0), .int (nI ([] : List Nat).length)]))) := Kp.tr (F1 := fun _ => False) (F2 := fun a => a = l) (Kp.nw (by omega) (by have : nCap 0 = 10 := rfl; omega)) (Kp.st rfl) (fun _ z => z.elim) (fun _ _ z => z) (by omega) (by omega)
    have g1 : GH B (hset (hnew h0 (.inl (5, zA 5 10)) 10) l (.inr (10, [.int (mc + 1), .ref (hsz h0), .int (nI ([] : List Nat).length)]))) := g0.new.set (by rw [hnew_o hl0]; exact b3)
    obtain ⟨c, fy, e7, e8⟩ := hE0 y hy hy1
    obtain ⟨h2, q1, q2, q3, q4⟩ := fin _ (hsz h0) 10 (fun _ => none) [] g1 hset_s (by rw [hset_o (Ne.symm hl0)]; exact hnew_s) (fun i hi => absurd hi (Nat.not_lt_zero i)) (by decide) (by decide) (by decide) ⟨c, fy, k1.rdk g0 e7 hy1, e8⟩
    refine ⟨h2, hsz h0, 10, ?_, q2, Or.inr ⟨z1, rfl, rfl⟩, ?_, q4⟩
    · rw [show (nI ([] : List Nat).length) = nI 0 from rfl] at q1 ⊢
      rw [q1, cV_rt, rtZ1]
    · show Kp (FL2 l tD 0) 1 10 h h2
      refine Kp.tr (F1 := fun a => a = l) (F2 := fun a => a = l ∨ a = hsz h0) (Kp.tr (F1 := fun a => a = l) (F2 := fun a => a = l) (F := fun a => a = l) k0 k1 (fun _ z => z) (fun _ _ z => z) (Nat.le_refl _) (Nat.le_refl _)) q3 (fun a z => Or.inl z) (fun a ha z => ?_) (by omega) (by show 0 + 10 + 0 ≤ 10; omega)
      rcases z with z | z
      · exact Or.inl z
      · omega
  · have b5 : h0.1 arr = some (.inl (5, cap, .inr (.inr (.inr (.inr f))))) := k0.ow g a5 (Ne.symm hla)
    rw [aL_v (rdo b5) (by decide)]
    by_cases hfull : ys.length = cap
    · rw [if_neg (fun z => z (by rw [hfull])), rc_v (rdo b3)]
      unfold f_J7_grow f_J7_grow_2
      rw [gI_v (rdo b3) rfl, rc_v (rdo b3), gA_v (o := some arr) (rdo b3) rfl, aL_v (rdo b5) (by decide), if_pos (show (0 : Int32) < nI cap from nI_lt (a := 0) (by omega) (by omega))]
      unfold f_J7_grow_2_J20 f_J10_newLength
      have hmx : mxI (nI ys.length + 1 - nI cap) (nI cap >>> ((1 : Int32) &&& 31)) = nI (cap / 2) := by
        rw [nI_1, hfull, pk_sub (by omega), show cap + 1 - cap = 1 by omega, pk_shrN (by omega) _ 1 (by decide)]
        unfold mxI
        rw [if_pos (nI_lt (by omega) (by omega))]
      simp only [hmx, nI_add]
      have hnc : nCap cap = cap + cap / 2 := by unfold nCap; rw [if_neg (by omega)]
      rw [if_neg (nI_nle (by omega) (by omega)), if_neg (show ¬ (2147483639 : Int32) < nI (cap + cap / 2) from nI_nlt (b := cap + cap / 2) (a := 2147483639) (by omega) (by decide)), cI_rt, gA_v (o := some arr) (rdo b3) rfl]
      obtain ⟨h1, c1, c2⟩ := p_copyA g0 b5 (fun i hi z hz => by
        rw [a6 i (by omega)] at hz
        simp only [Option.some.injEq] at hz
        have hzi : z ∈ ys := by rw [← hz, List.getD_eq_getElem?_getD, List.getElem?_eq_getElem (by omega)]; exact List.getElem_mem _
        exact hE0 z (hys z hzi) (hysl z hzi)) (n := cap + cap / 2) (by omega) (by omega) (by omega) (by omega)
      have hl0 : l ≠ hsz h0 := (g0.fresh b3).2
      have ha0 : arr ≠ hsz h0 := (g0.fresh b5).2
      have kc : Kp (fun _ => False) 1 (cap + cap / 2) h0 h1 := by
        rw [c2]
        exact Kp.tr (F1 := fun _ => False) (F2 := fun a => a = hsz h0) (Kp.nw (by omega) (by omega)) (Kp.st rfl) (fun _ z => z) (fun a ha z => by omega) (by omega) (by omega)
      have gc : GH B h1 := by rw [c2]; exact g0.new.set hnew_s
      have d3 := kc.ow g0 b3 (fun z => z)
      have d5 : h1.1 (hsz h0) = some (.inl (5, cap + cap / 2, .inr (.inr (.inr (.inr (va_cpy f (fun _ => none) 0 0 cap)))))) := by rw [c2]; exact hset_s
      rw [c1, cA_rt, pF_w [.int (mc + 1), .ref (hsz h0), .int (nI ys.length)] d3 (Nat.le_of_ble_eq_true rfl) rfl, cA_rt, cA_rt]
      have k1 : Kp (fun a => a = l) 1 (cap + cap / 2) h0 (hset h1 l (.inr (10, [.int (mc + 1), .ref (hsz h0), .int (nI ys.length)]))) := Kp.tr (F1 := fun _ => False) (F2 := fun a => a = l) kc (Kp.st rfl) (fun _ z => z.elim) (fun _ _ z => z) (by omega) (by omega)
      obtain ⟨c, fy, e7, e8⟩ := hE0 y hy hy1
      obtain ⟨h2, q1, q2, q3, q4⟩ := fin _ (hsz h0) (cap + cap / 2) _ [] (gc.set d3) hset_s (by rw [hset_o (Ne.symm hl0)]; exact d5) (fun i hi => by rw [cpy_lo (by omega)]; exact a6 i hi) (by omega) (by omega) (by omega) ⟨c, fy, k1.rdk g0 e7 hy1, e8⟩
      refine ⟨h2, hsz h0, cap + cap / 2, ?_, q2, Or.inr ⟨z1, hnc.symm, hfull⟩, ?_, q4⟩
      · rw [q1, cV_rt, rtZ1]
      · rw [if_pos hfull, if_pos hfull, hnc]
        refine Kp.tr (F1 := fun a => a = l) (F2 := fun a => a = l ∨ a = hsz h0) (Kp.tr (F1 := fun a => a = l) (F2 := fun a => a = l) (F := fun a => a = l) k0 k1 (fun _ z => z) (fun _ _ z => z) (Nat.le_refl _) (Nat.le_refl _)) q3 (fun a z => Or.inl z) (fun a ha z => ?_) (by omega) (by omega)
        rcases z with z | z
        · exact Or.inl z
        · omega
    · rw [if_pos (fun z => hfull ((nI_eq (by omega) (by omega)).mp z))]
      obtain ⟨h2, q1, q2, q3, q4⟩ := fin h0 arr cap f [] g0 b3 b5 a6 (by omega) a4 a2 (hE0 y hy hy1)
      refine ⟨h2, arr, cap, ?_, q2, Or.inl ⟨rfl, rfl, by omega⟩, ?_, q4⟩
      · rw [q1, cV_rt, rtZ1]
      · rw [if_neg hfull, if_neg hfull]
        refine Kp.tr (F1 := fun a => a = l) (F2 := fun a => a = l ∨ a = arr) k0 q3 (fun a z => Or.inl z) (fun a ha z => ?_) (by omega) (by omega)
        rcases z with z | z
        · exact Or.inl z
        · exact Or.inr ⟨by omega, z⟩
/-- the boxed ints ys stand for vs -/
def BXS (h : AH) (ys vs : List Nat) : Prop := ys.length = vs.length ∧ ∀ i, i < vs.length → BX h (ys.getD i 0) (nI (vs.getD i 0)) ∧ vs.getD i 0 ≤ 1000
theorem p_idx {arr cap y v : Nat} {ys vs : List Nat} {f : Nat → Option Nat} (he : h.1 arr = some (.inl (5, cap, .inr (.inr (.inr (.inr f)))))) (hf : ∀ i, i < ys.length → f i = some (ys.getD i 0)) (hl : ys.length ≤ cap) (hcap : cap ≤ 10000) (hb : BXS h ys vs) (by_ : BX h y (nI v)) (hv : v ≤ 1000) {K : AH → RS} :
    ∀ (k n i : Nat), i + k = vs.length → k < n → (v ∉ vs.drop i ∧ f_J7_indexOfRange_L42 K n (some y) (nI vs.length) (some arr) (nI i) h = K h) ∨ (v ∈ vs.drop i ∧ ∃ j, j ≤ 10000 ∧ f_J7_indexOfRange_L42 K n (some y) (nI vs.length) (some arr) (nI i) h = rtI (nI j) h) := by
  obtain ⟨b1, b2⟩ := hb
  intro k
  induction k with
  | zero =>
    intro n i hi hn
    obtain ⟨n, rfl⟩ : ∃ n', n = n' + 1 := ⟨n - 1, by omega⟩
    refine Or.inl ⟨by rw [List.drop_eq_nil_of_le (by omega)]; simp, ?_⟩
    unfold f_J7_indexOfRange_L42
    rw [if_pos (nI_le (by omega) (by omega))]
  | succ k ih =>
    intro n i hi hn
    obtain ⟨n, rfl⟩ : ∃ n', n = n' + 1 := ⟨n - 1, by omega⟩
    have hd : vs.drop i = vs.getD i 0 :: vs.drop (i + 1) := by
      rw [List.drop_eq_getElem_cons (by omega)]
      simp [List.getElem?_eq_getElem (show i < vs.length by omega)]
    obtain ⟨c1, c2⟩ := b2 i (by omega)
    unfold f_J7_indexOfRange_L42
    rw [if_neg (fun z => by have := (nI_leI (by omega) (by omega)).mp z; omega), lA_v (rdo he) (by decide) (by omega) (by omega), hf i (by omega), rc_v by_, p_equals (by omega) (by omega) by_ c1, cI_rt]
    by_cases hvv : v = vs.getD i 0
    · rw [decide_eq_true hvv, b0t]
      exact Or.inr ⟨by rw [hd, hvv]; exact List.mem_cons_self .., i, by omega, rfl⟩
    · rw [decide_eq_false hvv, b0f, nI_1]
      rcases ih n (i + 1) (by omega) (by omega) with ⟨d1, d2⟩ | ⟨d1, j, d2, d3⟩
      · exact Or.inl ⟨by rw [hd]; simp only [List.mem_cons, not_or]; exact ⟨hvv, d1⟩, d2⟩
      · exact Or.inr ⟨by rw [hd]; exact List.mem_cons_of_mem _ d1, j, d2, d3⟩
theorem p_contains {l arr cap y v : Nat} {ys vs : List Nat} (A : AL h l arr cap ys) (hb : BXS h ys vs) (by_ : BX h y (nI v)) (hv : v ≤ 1000) : f_J7_contains (some l) (some y) h = rtI (bI (decide (v ∈ vs))) h := by
  obtain ⟨a1, a2, ⟨mc, a3⟩, a4⟩ := id A
  have hl := hb.1
  unfold f_J7_contains f_J7_indexOf f_J7_indexOfRange
  rw [A.rc, gI_v (rdo a3) rfl, A.rc, gA_v (o := some arr) (rdo a3) rfl, if_pos (by simp), hl]
  rcases a4 with ⟨a4, a5⟩ | ⟨a4, f, a5, a6⟩
  · have h0 : vs.length = 0 := by omega
    have hv0 : vs = [] := List.length_eq_zero_iff.mp h0
    subst hv0
    rfl
  · rcases p_idx a5 a6 a1 a2 hb by_ hv (K := fun h12 => rtI (-1) h12) vs.length FUEL 0 (by omega) (by unfold FUEL; omega) with ⟨d1, d2⟩ | ⟨d1, j, d2, d3⟩
    · rw [show (0 : Int32) = nI 0 from rfl, d2, cI_rt, cI_rt, decide_eq_false (by simpa using d1)]
      rfl
    · rw [show (0 : Int32) = nI 0 from rfl, d3, cI_rt, cI_rt, decide_eq_true (by simpa using d1), if_neg (show ¬ nI j < nI 0 from nI_pos (by omega))]
      exact rtZ1 h
end
