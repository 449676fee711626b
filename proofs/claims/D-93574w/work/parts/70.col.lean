/-! PURE: colours -/
set_option maxRecDepth 100000
def Ext (h h' : AH) : Prop := (∀ a e, h.1 a = some e → h'.1 a = some e) ∧ (∀ a e, rd h a = some e → rd h' a = some e) ∧ h'.2.1 = h.2.1
def fc (c : Nat) (κ : Nat → Nat) (h : AH) : AH := (fun q => if κ q = c then h.1 q else none, h.2)
/-- only cells whose colour is in S are changed; old cells keep their colours -/
def KC (S : Nat → Prop) (κ : Nat → Nat) (h : AH) (κ' : Nat → Nat) (h' : AH) : Prop := (∀ a, a < hsz h → ¬ S (κ a) → h'.1 a = h.1 a) ∧ h'.2.1 = h.2.1 ∧ hsz h ≤ hsz h' ∧ ∀ a, a < hsz h → κ' a = κ a
/-- new cells get colour c -/
def nk (c : Nat) (κ : Nat → Nat) (h : AH) : Nat → Nat := fun a => if hsz h ≤ a then c else κ a
/-- colour c becomes colour d -/
def rk (c d : Nat) (κ : Nat → Nat) : Nat → Nat := fun a => if κ a = c then d else κ a
section
variable {B : Nat} {h h' h2 : AH} {κ κ' κ2 : Nat → Nat} {S S' : Nat → Prop} {c d a : Nat} {e : AE}
theorem Ext.rf : Ext h h := ⟨fun _ _ z => z, fun _ _ z => z, rfl⟩
theorem Ext.tr (x : Ext h h') (y : Ext h' h2) : Ext h h2 := ⟨fun a e z => y.1 a e (x.1 a e z), fun a e z => y.2.1 a e (x.2.1 a e z), y.2.2.trans x.2.2⟩
theorem Ext.st (x : Ext h h') : hst h' = hst h := by unfold hst; rw [x.2.2]
theorem fc_i (hc : κ a = c) (he : h.1 a = some e) : (fc c κ h).1 a = some e := by
  show (if κ a = c then h.1 a else none) = some e
  rw [if_pos hc]; exact he
theorem fc_e (he : (fc c κ h).1 a = some e) : κ a = c ∧ h.1 a = some e := by
  have he : (if κ a = c then h.1 a else none) = some e := he
  split at he
  · exact ⟨by assumption, he⟩
  · cases he
theorem GH.low (g : GH B h) (ha : a < B) : h.1 a = none := by
  cases hz : h.1 a with
  | none => rfl
  | some x => have := g.2.1 a x hz; omega
theorem GH.rlow (g : GH B h) (he : hro h a = some e) : a < B := by
  obtain ⟨⟨tC, tD, mi, ad, w⟩, g2, g3⟩ := g
  exact w.2.2.2.2.2.2.2.2.2.2 a e he
theorem rd_cs (he : rd h a = some e) : h.1 a = some e ∨ (h.1 a = none ∧ hro h a = some e) := by
  unfold rd at he
  cases h1 : h.1 a with
  | some x => rw [h1] at he; exact Or.inl he
  | none => rw [h1] at he; exact Or.inr ⟨rfl, he⟩
theorem ext_of (g' : GH B h') (h1 : ∀ a e, h.1 a = some e → h'.1 a = some e) (h2 : h'.2.1 = h.2.1) (g : GH B h) : Ext h h' := by
  refine ⟨h1, fun a e he => ?_, h2⟩
  rcases rd_cs he with z | ⟨z1, z2⟩
  · exact rdo (h1 a e z)
  · exact rdr (g'.low (g.rlow z2)) (by unfold hro; rw [h2]; exact z2)
theorem fc_gh (g : GH B h) : GH B (fc c κ h) := ⟨g.1, fun a e he => g.2.1 a e (fc_e he).2, g.2.2⟩
theorem fc_ext (g : GH B h) : Ext (fc c κ h) h := ext_of g (fun a e he => (fc_e he).2) rfl (fc_gh g)
theorem KC.rf : KC S κ h κ h := ⟨fun _ _ _ => rfl, rfl, Nat.le_refl _, fun _ _ => rfl⟩
theorem KC.tr (x : KC S κ h κ' h') (y : KC S κ' h' κ2 h2) : KC S κ h κ2 h2 := by
  obtain ⟨x1, x2, x3, x4⟩ := x
  obtain ⟨y1, y2, y3, y4⟩ := y
  exact ⟨fun a ha hS => by rw [y1 a (by omega) (by rw [x4 a ha]; exact hS), x1 a ha hS], y2.trans x2, by omega, fun a ha => by rw [y4 a (by omega), x4 a ha]⟩
theorem KC.w (x : KC S κ h κ' h') (hS : ∀ k, S k → S' k) : KC S' κ h κ' h' := ⟨fun a ha z => x.1 a ha (fun y => z (hS _ y)), x.2.1, x.2.2.1, x.2.2.2⟩
theorem KC.ext (g : GH B h) (g' : GH B h') (x : KC S κ h κ' h') (hc : ¬ S c) : Ext (fc c κ h) (fc c κ' h') := by
  refine ext_of (fc_gh g') (fun a e he => ?_) x.2.1 (fc_gh g)
  obtain ⟨z1, z2⟩ := fc_e he
  have ha := (g.fresh z2).1
  exact fc_i (by rw [x.2.2.2 a ha]; exact z1) (by rw [x.1 a ha (by rw [z1]; exact hc)]; exact z2)
theorem KC.kp {F : Nat → Prop} {c1 n1 : Nat} (k : Kp F c1 n1 h h') (f : ∀ a, a < hsz h → F a → S (κ a)) (hk : ∀ a, a < hsz h → κ' a = κ a) : KC S κ h κ' h' :=
  ⟨fun a ha hS => k.1 a ha (fun z => hS (f a ha z)), k.2.1, k.2.2.1, hk⟩
theorem nk_o (ha : a < hsz h) : nk c κ h a = κ a := if_neg (by omega)
theorem nk_or {q : Nat} : nk c κ h q = κ q ∨ nk c κ h q = c := by
  unfold nk; split
  · exact Or.inr rfl
  · exact Or.inl rfl
theorem nk_n (ha : hsz h ≤ a) : nk c κ h a = c := if_pos ha
theorem KC.kn {F : Nat → Prop} {c1 n1 : Nat} (k : Kp F c1 n1 h h') (f : ∀ a, a < hsz h → F a → S (κ a)) : KC S κ h (nk c κ h) h' := KC.kp k f (fun _ ha => nk_o ha)
/-- recolouring -/
theorem rk_1 (g : GH B h) : Ext (fc c κ h) (fc d (rk c d κ) h) := ext_of (fc_gh g) (fun a e he => by
  obtain ⟨z1, z2⟩ := fc_e he
  exact fc_i (by unfold rk; rw [if_pos z1]) z2) rfl (fc_gh g)
theorem rk_2 (g : GH B h) {e : Nat} (hec : e ≠ c) : Ext (fc e κ h) (fc e (rk c d κ) h) := ext_of (fc_gh g) (fun a x he => by
  obtain ⟨z1, z2⟩ := fc_e he
  exact fc_i (by unfold rk; rw [if_neg (by rw [z1]; exact hec)]; exact z1) z2) rfl (fc_gh g)
/-! pictures go along -/
theorem IM.ext {m : Nat → Nat} {n t : Nat} {es : List Nat} (x : Ext h h') (I : IM h a m n es t) : IM h' a m n es t := by
  obtain ⟨ba, ea, f, g, e1, e2, e3, r⟩ := I
  exact ⟨ba, ea, f, g, x.2.1 _ _ e1, x.2.1 _ _ e2, x.2.1 _ _ e3, r⟩
theorem BX.ext {y : Nat} {v : Int32} (x : Ext h h') (b : BX h y v) : BX h' y v := x.2.1 _ _ b
theorem EL.ext {y : Nat} (x : Ext h h') (b : EL h y) : EL h' y := by
  obtain ⟨c, fs, e1, e2⟩ := b
  exact ⟨c, fs, x.2.1 _ _ e1, e2⟩
theorem BXS.ext {ys vs : List Nat} (x : Ext h h') (b : BXS h ys vs) : BXS h' ys vs := ⟨b.1, fun i hi => ⟨(b.2 i hi).1.ext x, (b.2 i hi).2⟩⟩
theorem BXS.el {ys vs : List Nat} (b : BXS h ys vs) : ∀ z ∈ ys, EL h z := fun z hz => by
  obtain ⟨i, hi, rfl⟩ := List.mem_iff_getElem.mp hz
  have := (b.2 i (by rw [← b.1]; exact hi)).1
  rw [List.getD_eq_getElem?_getD, List.getElem?_eq_getElem hi] at this
  exact BX.el this
theorem BXS.nil : BXS h [] [] := ⟨rfl, fun i hi => absurd hi (Nat.not_lt_zero i)⟩
theorem BXS.ap {ys vs : List Nat} {y v : Nat} (b : BXS h ys vs) (e : BX h y (nI v)) (hv : v ≤ 1000) : BXS h (ys ++ [y]) (vs ++ [v]) := by
  refine ⟨by rw [List.length_append, List.length_append, b.1]; rfl, fun i hi => ?_⟩
  rw [List.length_append, List.length_singleton] at hi
  by_cases hiv : i = vs.length
  · subst hiv
    rw [getD_ae, ← b.1, getD_ae]
    exact ⟨e, hv⟩
  · rw [getD_ap (by have := b.1; omega), getD_ap (by omega)]
    exact b.2 i (by omega)
theorem AL.ext {l arr cap : Nat} {ys : List Nat} (x : Ext h h') (A : AL h l arr cap ys) : AL h' l arr cap ys := by
  obtain ⟨a1, a2, ⟨mc, a3⟩, a4⟩ := A
  refine ⟨a1, a2, ⟨mc, x.1 _ _ a3⟩, ?_⟩
  rcases a4 with ⟨z1, z2⟩ | ⟨z1, f, z2, z3⟩
  · exact Or.inl ⟨z1, by rw [x.st]; exact z2⟩
  · exact Or.inr ⟨z1, f, x.1 _ _ z2, z3⟩
theorem AL.col {l arr cap : Nat} {ys : List Nat} (A : AL h l arr cap ys) (hl : κ l = c) (ha : 0 < cap → κ arr = c) : AL (fc c κ h) l arr cap ys := by
  obtain ⟨a1, a2, ⟨mc, a3⟩, a4⟩ := A
  refine ⟨a1, a2, ⟨mc, fc_i hl a3⟩, ?_⟩
  rcases a4 with ⟨z1, z2⟩ | ⟨z1, f, z2, z3⟩
  · exact Or.inl ⟨z1, z2⟩
  · exact Or.inr ⟨z1, f, fc_i (ha (by omega)) z2, z3⟩
theorem AL.cl {l arr cap : Nat} {ys : List Nat} (A : AL (fc c κ h) l arr cap ys) : κ l = c ∧ (0 < cap → κ arr = c) := by
  obtain ⟨a1, a2, ⟨mc, a3⟩, a4⟩ := A
  refine ⟨(fc_e a3).1, fun hc => ?_⟩
  rcases a4 with ⟨z1, z2⟩ | ⟨z1, f, z2, z3⟩
  · omega
  · exact (fc_e z2).1
theorem DQ.ext {l arr cap hd : Nat} {ys : List Nat} (x : Ext h h') (D : DQ h l arr cap hd ys) : DQ h' l arr cap hd ys := by
  obtain ⟨d1, d2, d3, d4, d5, f, d6, d7⟩ := D
  exact ⟨d1, d2, d3, d4, x.1 _ _ d5, f, x.1 _ _ d6, d7⟩
theorem DQ.col {l arr cap hd : Nat} {ys : List Nat} (D : DQ h l arr cap hd ys) (hl : κ l = c) (ha : κ arr = c) : DQ (fc c κ h) l arr cap hd ys := by
  obtain ⟨d1, d2, d3, d4, d5, f, d6, d7⟩ := D
  exact ⟨d1, d2, d3, d4, fc_i hl d5, f, fc_i ha d6, d7⟩
theorem DQ.cl {l arr cap hd : Nat} {ys : List Nat} (D : DQ (fc c κ h) l arr cap hd ys) : κ l = c ∧ κ arr = c := by
  obtain ⟨d1, d2, d3, d4, d5, f, d6, d7⟩ := D
  exact ⟨(fc_e d5).1, (fc_e d6).1⟩
theorem BS.ext {b arr cap : Nat} {T : Nat → Bool} (x : Ext h h') (s : BS h b arr cap T) : BS h' b arr cap T := by
  obtain ⟨u, w, ⟨⟨st, b1⟩, b2, b3⟩, b7⟩ := s
  exact ⟨u, w, ⟨⟨st, x.1 _ _ b1⟩, x.1 _ _ b2, b3⟩, b7⟩
theorem BS.col {b arr cap : Nat} {T : Nat → Bool} (s : BS h b arr cap T) (hl : κ b = c) (ha : κ arr = c) : BS (fc c κ h) b arr cap T := by
  obtain ⟨u, w, ⟨⟨st, b1⟩, b2, b3⟩, b7⟩ := s
  exact ⟨u, w, ⟨⟨st, fc_i hl b1⟩, fc_i ha b2, b3⟩, b7⟩
theorem BS.cl {b arr cap : Nat} {T : Nat → Bool} (s : BS (fc c κ h) b arr cap T) : κ b = c ∧ κ arr = c := by
  obtain ⟨u, w, ⟨⟨st, b1⟩, b2, b3⟩, b7⟩ := s
  exact ⟨(fc_e b1).1, (fc_e b2).1⟩
/-! boxes -/
theorem c_box (g : GH B h) {v : Nat} (hv : v ≤ 1000) (hc : 1 ≤ hcl h) (hs : 1 ≤ hsl h) (κ : Nat → Nat) : ∃ (y : Nat) (h' : AH) (κ' : Nat → Nat), f_J9_valueOf (nI v) h = rtA (some y) h' ∧ BX (fc 0 κ' h') y (nI v) ∧ KC (fun _ => False) κ h κ' h' ∧ GH B h' ∧ hcl h ≤ hcl h' + 1 ∧ hsl h ≤ hsl h' + 1 ∧ (∀ q, κ' q = κ q ∨ κ' q = 0) := by
  obtain ⟨⟨tC, tD, mi, ad, w⟩, g2, g3⟩ := id g
  have e0 : ¬ nI v < (-128) := by
    rw [Int32.lt_iff_toInt_lt, nI_toInt (by omega)]
    have : ((-128 : Int32)).toInt = -128 := by decide
    omega
  have mk : ∃ (y : Nat) (h' : AH) (κ' : Nat → Nat), f_J9_valueOf_J23 (nI v) h = rtA (some y) h' ∧ BX (fc 0 κ' h') y (nI v) ∧ KC (fun _ => False) κ h κ' h' ∧ GH B h' ∧ hcl h ≤ hcl h' + 1 ∧ hsl h ≤ hsl h' + 1 ∧ (∀ q, κ' q = κ q ∨ κ' q = 0) := by
    have kp : Kp (fun _ => False) 1 1 h (hset (hnew h (.inr (11, fsJ9)) 1) (hsz h) (.inr (11, [.int (nI v)]))) := Kp.tr (F1 := fun _ => False) (F2 := fun a => a = hsz h) (Kp.nw hc hs) (Kp.st rfl) (fun _ z => z) (fun a ha z => by omega) (by omega) (by omega)
    refine ⟨hsz h, hset (hnew h (.inr (11, fsJ9)) 1) (hsz h) (.inr (11, [.int (nI v)])), nk 0 κ h, ?_, ?_, KC.kn kp (fun _ _ z => z), g.new.set hnew_s, kp.2.2.2.1, kp.2.2.2.2.1, fun _ => nk_or⟩
    · unfold f_J9_valueOf_J23 f_J9_init f_J8_init
      rw [nO_v hc hs]
      simp only [nn_v, cV_rt]
      rw [pF_v hnew_s (by decide), cV_rt]
      rfl
    · exact rdo (fc_i (nk_n (Nat.le_refl _)) hset_s)
  unfold f_J9_valueOf
  rw [if_neg e0]
  unfold xtI
  rw [show hst h 1 = .int 127 from w.2.2.2.1]
  show ∃ (y : Nat) (h' : AH) (κ' : Nat → Nat), (if 127 < nI v then _ else _) = _ ∧ _
  by_cases h1 : 127 < v
  · rw [if_pos (show (127 : Int32) < nI v from nI_lt (a := 127) h1 (by omega))]
    exact mk
  · rw [if_neg (show ¬ (127 : Int32) < nI v from nI_nlt (a := 127) (by omega) (by decide))]
    unfold xtA
    rw [show hst h 0 = .ref tC from w.1]
    have hnC := g.low (w.2.2.2.2.2.2.2.2.2.2 tC _ w.2.1)
    have hA := w.2.2.1 (v + 128) (by omega)
    have hnA := g.low (w.2.2.2.2.2.2.2.2.2.2 _ _ hA)
    refine ⟨ad (v + 128), h, κ, ?_, ?_, KC.rf, g, by omega, by omega, fun _ => Or.inl rfl⟩
    · show xlA h (some tC) (nI v + nI 128) _ = _
      rw [nI_add, lA_v (rdr hnC w.2.1) (by decide) (by omega) (by decide)]
    · rw [vb_nI (by omega) (by omega), show v + 128 - 128 = v by omega] at hA
      refine rdr ?_ hA
      show (if κ (ad (v + 128)) = 0 then h.1 (ad (v + 128)) else none) = none
      rw [hnA, ite_self]
/-! lists -/
def LA (c : Nat) (κ : Nat → Nat) (h : AH) (l cap : Nat) (ys : List Nat) : Prop := ∃ arr, AL (fc c κ h) l arr cap ys ∧ l ≠ arr ∧ cap ≤ 2 * ys.length + 10
theorem LA.ext {l cap : Nat} {ys : List Nat} (x : Ext (fc c κ h) (fc d κ' h')) (L : LA c κ h l cap ys) : LA d κ' h' l cap ys := by
  obtain ⟨arr, l1, l2, l3⟩ := L
  exact ⟨arr, l1.ext x, l2, l3⟩
theorem LA.al {l cap : Nat} {ys : List Nat} (g : GH B h) (L : LA c κ h l cap ys) : ∃ arr, AL h l arr cap ys := by
  obtain ⟨arr, l1, l2, l3⟩ := L
  exact ⟨arr, l1.ext (fc_ext g)⟩
theorem c_ladd (g : GH B h) {l cap : Nat} {ys : List Nat} (L : LA c κ h l cap ys) {y : Nat} (hy : EL h y) (hys : ∀ z ∈ ys, EL h z) (hl : ys.length ≤ 2000) (hc : 1 ≤ hcl h) (hs : 4 * ys.length + 20 ≤ hsl h) :
    ∃ (h' : AH) (κ' : Nat → Nat) (cap' : Nat), f_J7_add (some l) (some y) h = rtI 1 h' ∧ LA c κ' h' l cap' (ys ++ [y]) ∧ KC (fun k => k = c) κ h κ' h' ∧ GH B h' ∧ hcl h ≤ hcl h' + 1 ∧ hsl h + 4 * cap ≤ hsl h' + 4 * cap' ∧ (∀ q, κ' q = κ q ∨ κ' q = c) := by
  obtain ⟨arr, l1, l2, l3⟩ := L
  have hcap := l1.1
  obtain ⟨k1, k2⟩ := l1.cl
  have lA := l1.ext (fc_ext g)
  have h10 : cap = 0 ∨ 10 ≤ cap := by
    rcases l1.2.2.2 with ⟨z1, z2⟩ | ⟨z1, _⟩
    · exact Or.inl z1
    · exact Or.inr z1
  have hnc : nCap cap ≤ 3 * ys.length + 20 := by unfold nCap; split <;> omega
  obtain ⟨h', arr', cap', e1, e2, e3, e4, e5⟩ := p_ladd g lA hy hys (by omega) hc (by omega) l2
  have kc : KC (fun k => k = c) κ h (nk c κ h) h' := KC.kn e4 (fun a ha z => by
    rcases z with rfl | ⟨z1, rfl⟩
    · exact k1
    · exact k2 z1)
  have hlt : l < hsz h := by obtain ⟨mc, a3⟩ := lA.2.2.1; exact (g.fresh a3).1
  have e2' := e2
  have harr' : l ≠ arr' := by
    rcases e3 with ⟨z1, z2, z3⟩ | ⟨z1, z2, z3⟩
    · rw [z1]; exact l2
    · omega
  refine ⟨h', nk c κ h, cap', e1, ⟨arr', e2.col (by rw [nk_o hlt]; exact k1) (fun hp => ?_), harr', ?_⟩, kc, e5, ?_, ?_, fun _ => nk_or⟩
  · rcases e3 with ⟨z1, z2, z3⟩ | ⟨z1, z2, z3⟩
    · rw [z1]
      have hp' : 0 < cap := by omega
      have : arr < hsz h := by
        rcases lA.2.2.2 with ⟨z4, z5⟩ | ⟨z4, f, z5, z6⟩
        · omega
        · exact (g.fresh z5).1
      rw [nk_o this]; exact k2 hp'
    · rw [z1]; exact nk_n (Nat.le_refl _)
  · rw [List.length_append, List.length_singleton]
    rcases e3 with ⟨z1, z2, z3⟩ | ⟨z1, z2, z3⟩
    · omega
    · rw [z2]
      unfold nCap
      split <;> omega
  · have := e4.2.2.2.1
    split at this <;> omega
  · have := e4.2.2.2.2.1
    rcases e3 with ⟨z1, z2, z3⟩ | ⟨z1, z2, z3⟩
    · rw [if_neg (by omega)] at this; omega
    · rw [if_pos z3] at this
      rw [z2]
      unfold nCap at this ⊢
      rcases h10 with h0 | h0
      · rw [if_pos h0] at this ⊢; omega
      · rw [if_neg (by omega)] at this ⊢; omega
/-! queues -/
def QD (c : Nat) (κ : Nat → Nat) (h : AH) (l cap : Nat) (ys : List Nat) : Prop := ∃ arr hd, DQ (fc c κ h) l arr cap hd ys
theorem QD.ext {l cap : Nat} {ys : List Nat} (x : Ext (fc c κ h) (fc d κ' h')) (L : QD c κ h l cap ys) : QD d κ' h' l cap ys := by
  obtain ⟨arr, hd, l1⟩ := L
  exact ⟨arr, hd, l1.ext x⟩
theorem DQ.lt {l arr cap hd : Nat} {ys : List Nat} (g : GH B h) (D : DQ h l arr cap hd ys) : l < hsz h ∧ arr < hsz h := by
  obtain ⟨d1, d2, d3, d4, d5, f, d6, d7⟩ := D
  exact ⟨(g.fresh d5).1, (g.fresh d6).1⟩
theorem c_qadd (g : GH B h) {l cap N : Nat} {ys : List Nat} (L : QD c κ h l cap ys) {y : Nat} (hy : EL h y) (hys : ∀ z ∈ ys, EL h z) (hN : ys.length + 1 ≤ N) (hcap : cap ≤ 2 * N + 17) (hN2 : N ≤ 1900) (hc : 1 ≤ hcl h) (hs : 4 * N + 40 ≤ hsl h) :
    ∃ (h' : AH) (κ' : Nat → Nat) (cap' : Nat), f_J19_addLast (some l) (some y) h = rtV h' ∧ QD c κ' h' l cap' (ys ++ [y]) ∧ cap' ≤ 2 * N + 17 ∧ KC (fun k => k = c) κ h κ' h' ∧ GH B h' ∧ hcl h ≤ hcl h' + 1 ∧ hsl h + 4 * cap ≤ hsl h' + 4 * cap' ∧ (∀ q, κ' q = κ q ∨ κ' q = c) := by
  obtain ⟨arr, hd, l1⟩ := L
  obtain ⟨k1, k2⟩ := l1.cl
  have lA := l1.ext (fc_ext g)
  have hj := (jmp_2 l1.2.1)
  obtain ⟨h', arr', cap', hd', e1, e2, e3, e4, e5⟩ := p_qadd g lA hy hys (by omega) hc (by omega)
  have hlt := lA.lt g
  have kc : KC (fun k => k = c) κ h (nk c κ h) h' := KC.kn e4 (fun a ha z => by
    rcases z with rfl | rfl
    · exact k1
    · exact k2)
  have ke := e4.2.2.2.2.1
  refine ⟨h', nk c κ h, cap', e1, ⟨arr', hd', e2.col (by rw [nk_o hlt.1]; exact k1) ?_⟩, ?_, kc, e5, e4.2.2.2.1, ?_, fun _ => nk_or⟩
  · rcases e3 with ⟨z1, z2⟩ | ⟨z1, z2, z3⟩
    · rw [z1, nk_o hlt.2]; exact k2
    · rw [z1]; exact nk_n (Nat.le_refl _)
  · rcases e3 with ⟨z1, z2⟩ | ⟨z1, z2, z3⟩ <;> omega
  · rcases e3 with ⟨z1, z2⟩ | ⟨z1, z2, z3⟩ <;> omega
theorem c_qrem (g : GH B h) {l cap : Nat} {ys : List Nat} (L : QD c κ h l cap ys) (hy : 0 < ys.length) : ∃ h', f_J19_removeFirst (some l) h = rtA (some (ys.getD 0 0)) h' ∧ QD c κ h' l cap ys.tail ∧ KC (fun k => k = c) κ h κ h' ∧ GH B h' ∧ hsz h' = hsz h ∧ hcl h ≤ hcl h' ∧ hsl h ≤ hsl h' := by
  obtain ⟨arr, hd, l1⟩ := L
  obtain ⟨k1, k2⟩ := l1.cl
  have lA := l1.ext (fc_ext g)
  obtain ⟨h', e1, e2, e3, e4, e5⟩ := p_qrem g lA hy
  exact ⟨h', e1, ⟨arr, _, e2.col k1 k2⟩, KC.kp e3 (fun a ha z => by
    rcases z with rfl | rfl
    · exact k1
    · exact k2) (fun _ _ => rfl), e4, e5, by have := e3.2.2.2.1; omega, by have := e3.2.2.2.2.1; omega⟩
theorem c_qrml (g : GH B h) {l cap : Nat} {ys : List Nat} (L : QD c κ h l cap ys) (hy : 0 < ys.length) : ∃ h', f_J19_removeLast (some l) h = rtA (some (ys.getD (ys.length - 1) 0)) h' ∧ QD c κ h' l cap (ys.take (ys.length - 1)) ∧ KC (fun k => k = c) κ h κ h' ∧ GH B h' ∧ hsz h' = hsz h ∧ hcl h ≤ hcl h' ∧ hsl h ≤ hsl h' := by
  obtain ⟨arr, hd, l1⟩ := L
  obtain ⟨k1, k2⟩ := l1.cl
  have lA := l1.ext (fc_ext g)
  obtain ⟨h', e1, e2, e3, e4, e5⟩ := p_qrml g lA hy
  exact ⟨h', e1, ⟨arr, _, e2.col k1 k2⟩, KC.kp e3 (fun a ha z => by
    rcases z with rfl | rfl
    · exact k1
    · exact k2) (fun _ _ => rfl), e4, e5, by have := e3.2.2.2.1; omega, by have := e3.2.2.2.2.1; omega⟩
theorem c_qnew (g : GH B h) {l : Nat} (he : h.1 l = some (.inr (12, fsJ19))) (hl : κ l = c) (hc : 1 ≤ hcl h) (hs : 17 ≤ hsl h) : ∃ h', f_J19_init (some l) h = rtV h' ∧ QD c (nk c κ h) h' l 17 [] ∧ KC (fun k => k = c) κ h (nk c κ h) h' ∧ GH B h' ∧ hsz h' = hsz h + 1 ∧ hcl h ≤ hcl h' + 1 ∧ hsl h ≤ hsl h' + 17 := by
  obtain ⟨h', e1, e2, e3, e4, e5⟩ := p_qnew g he hc hs
  refine ⟨h', e1, ⟨_, _, e2.col (by rw [nk_o (g.fresh he).1]; exact hl) (nk_n (Nat.le_refl _))⟩, KC.kn e3 (fun a ha z => by rw [z]; exact hl), e4, e5, e3.2.2.2.1, e3.2.2.2.2.1⟩
/-! bit sets -/
def SB (c : Nat) (κ : Nat → Nat) (h : AH) (b : Nat) (T : Nat → Bool) : Prop := ∃ arr cap, BS (fc c κ h) b arr cap T
theorem SB.ext {b : Nat} {T : Nat → Bool} (x : Ext (fc c κ h) (fc d κ' h')) (L : SB c κ h b T) : SB d κ' h' b T := by
  obtain ⟨arr, cap, l1⟩ := L
  exact ⟨arr, cap, l1.ext x⟩
theorem SB.bs {b : Nat} {T : Nat → Bool} (g : GH B h) (L : SB c κ h b T) : ∃ arr cap, BS h b arr cap T := by
  obtain ⟨arr, cap, l1⟩ := L
  exact ⟨arr, cap, l1.ext (fc_ext g)⟩
theorem SB.cg {b : Nat} {T T' : Nat → Bool} (L : SB c κ h b T) (e : ∀ j, T' j = T j) : SB c κ h b T' := by
  obtain ⟨arr, cap, l1⟩ := L
  exact ⟨arr, cap, l1.cg e⟩
theorem BS.lt {b arr cap : Nat} {T : Nat → Bool} (g : GH B h) (s : BS h b arr cap T) : b < hsz h ∧ arr < hsz h := by
  obtain ⟨u, w, ⟨⟨st, b1⟩, b2, b3⟩, b7⟩ := s
  exact ⟨(g.fresh b1).1, (g.fresh b2).1⟩
theorem BS.c8 {b arr cap : Nat} {T : Nat → Bool} (s : BS h b arr cap T) : cap ≤ 8 := by
  obtain ⟨u, w, ⟨_, _, _, b4, _⟩, _⟩ := s
  exact b4
theorem c_bnew (g : GH B h) {b : Nat} (he : h.1 b = some (.inr (13, fsJ20))) (hb : κ b = c) (hc : 1 ≤ hcl h) (hs : 1 ≤ hsl h) : ∃ h', f_J20_init (some b) h = rtV h' ∧ SB c (nk c κ h) h' b (fun _ => false) ∧ KC (fun k => k = c) κ h (nk c κ h) h' ∧ GH B h' ∧ hsz h' = hsz h + 1 ∧ hcl h ≤ hcl h' + 1 ∧ hsl h ≤ hsl h' + 1 := by
  obtain ⟨h', e1, e2, e3, e4, e5⟩ := p_bnew g he hc hs
  exact ⟨h', e1, ⟨_, _, e2.col (by rw [nk_o (g.fresh he).1]; exact hb) (nk_n (Nat.le_refl _))⟩, KC.kn e3 (fun a ha z => by rw [z]; exact hb), e4, e5, e3.2.2.2.1, e3.2.2.2.2.1⟩
theorem c_bset (g : GH B h) {b x : Nat} {T : Nat → Bool} (L : SB c κ h b T) (hx : x < 256) (hc : 1 ≤ hcl h) (hs : 6 ≤ hsl h) : ∃ h' κ', f_J20_set (some b) (nI x) h = rtV h' ∧ SB c κ' h' b (fun j => T j || decide (j = x)) ∧ KC (fun k => k = c) κ h κ' h' ∧ GH B h' ∧ hcl h ≤ hcl h' + 8 ∧ hsl h ≤ hsl h' + 16 ∧ (∀ q, κ' q = κ q ∨ κ' q = c) := by
  obtain ⟨arr, cap, l1⟩ := L
  obtain ⟨k1, k2⟩ := l1.cl
  have lA := l1.ext (fc_ext g)
  have hlt := lA.lt g
  obtain ⟨h', arr', cap', e1, e2, e3, e4, e5⟩ := p_bset g lA hx hc hs
  have h8 := e2.c8
  refine ⟨h', nk c κ h, e1, ⟨arr', cap', e2.col (by rw [nk_o hlt.1]; exact k1) ?_⟩, KC.kn e4 (fun a ha z => by
    rcases z with rfl | rfl
    · exact k1
    · exact k2), e5, by have := e4.2.2.2.1; omega, by have := e4.2.2.2.2.1; omega, fun _ => nk_or⟩
  rcases e3 with ⟨z1, z2⟩ | ⟨z1, z2⟩
  · rw [z1, nk_o hlt.2]; exact k2
  · rw [z1]; exact nk_n (Nat.le_refl _)
theorem c_band (g : GH B h) {b b2 d : Nat} {T T2 : Nat → Bool} (L : SB c κ h b T) (L2 : SB d κ h b2 T2) (hcd : c ≠ d) : ∃ h', f_J20_and (some b) (some b2) h = rtV h' ∧ SB c κ h' b (fun j => T j && T2 j) ∧ KC (fun k => k = c) κ h κ h' ∧ GH B h' ∧ hcl h ≤ hcl h' ∧ hsl h ≤ hsl h' := by
  obtain ⟨arr, cap, l1⟩ := L
  obtain ⟨arr2, cap2, l2⟩ := L2
  obtain ⟨k1, k2⟩ := l1.cl
  obtain ⟨k3, k4⟩ := l2.cl
  obtain ⟨h', e1, e2, e3, e4⟩ := p_band g (l1.ext (fc_ext g)) (l2.ext (fc_ext g)) (fun z => hcd (by rw [← k1, z, k3])) (fun z => hcd (by rw [← k2, z, k4]))
  exact ⟨h', e1, ⟨arr, cap, e2.col k1 k2⟩, KC.kp e3 (fun a ha z => by
    rcases z with rfl | rfl
    · exact k1
    · exact k2) (fun _ _ => rfl), e4, by have := e3.2.2.2.1; omega, by have := e3.2.2.2.2.1; omega⟩
theorem KC.set (hc : S (κ a)) : KC S κ h κ (hset h a e) := KC.kp (F := fun q => q = a) (c1 := 0) (n1 := 0) (Kp.st rfl) (fun q _ z => by rw [z]; exact hc) (fun _ _ => rfl)
theorem KC.new {n : Nat} (hc : 1 ≤ hcl h) (hs : n ≤ hsl h) : KC S κ h (nk c κ h) (hnew h e n) := KC.kn (F := fun _ => False) (Kp.nw hc hs) (fun _ _ z => z.elim)
end
