/-! PURE: a recovery begins -/
set_option maxRecDepth 100000
section
variable {B : Nat} {h h' : AH} {κ κ' : Nat → Nat} {r im ua d oc lc ob lb lt lg lk b : Nat} {m u : Nat → Nat} {n t : Nat} {es : List Nat} {c : Nat} {S : Nat → Prop}
theorem KC.drop (x : KC (fun k => S k ∨ k = c) κ h κ' h') (hf : ∀ q, κ q ≠ c) : KC S κ h κ' h' := ⟨fun a ha z => x.1 a ha (fun y => y.elim z (hf a)), x.2.1, x.2.2.1, x.2.2.2⟩
theorem nk2_or {e : Nat} {h1 : AH} {q : Nat} (he : κ' q = nk c κ h q ∨ κ' q = c) : κ' q = κ q ∨ κ' q = c := by
  rcases he with z | z
  · rw [z]; exact nk_or
  · exact Or.inr z
/-- a field of r -/
theorem c_put (g : GH B h) {fs : List Value} {k l : Nat} (hr : (fc 10 κ h).1 r = some (.inr (4, fs))) (hk : k < fs.length) : ∃ h', (∀ X : AH → RS, xpF h (some r) 4 k (va_rf (some l)) X = X h') ∧ (fc 10 κ h').1 r = some (.inr (4, fs.set k (.ref l))) ∧ KC (fun k => k = 10) κ h κ h' ∧ GH B h' ∧ hcl h' = hcl h ∧ hsl h' = hsl h := by
  obtain ⟨z1, z2⟩ := fc_e hr
  exact ⟨_, fun X => pF_v z2 hk, fc_i z1 hset_s, KC.set z1, g.set z2, rfl, rfl⟩
theorem c_sQ (g : GH B h) {fs : List Value} {k : Nat} (hr : (fc 10 κ h).1 r = some (.inr (4, fs))) (hk : k < fs.length) (hf : ∀ q, κ q ≠ c) (hc10 : c ≠ 10) (hc : 2 ≤ hcl h) (hs : 20 ≤ hsl h) :
    ∃ h' κ' l, (∀ X : AH → RS, xnO h 12 3 fsJ19 (fun a1 h2 => xnn a1 (xcV (f_J19_init a1 h2) (fun h3 => xpF h3 (some r) 4 k (va_rf a1) X))) = X h') ∧ QD c κ' h' l 17 [] ∧ (fc 10 κ' h').1 r = some (.inr (4, fs.set k (.ref l))) ∧ KC (fun k => k = 10) κ h κ' h' ∧ GH B h' ∧ hcl h ≤ hcl h' + 2 ∧ hsl h ≤ hsl h' + 20 ∧ (∀ q, κ' q = κ q ∨ κ' q = c) := by
  have k1 : KC (fun _ => False) κ h (nk c κ h) (hnew h (.inr (12, fsJ19)) 3) := KC.new (by omega) (by omega)
  have g1 : GH B (hnew h (.inr (12, fsJ19)) 3) := g.new
  obtain ⟨h2, e1, e2, e3, e4, e5, e6, e7⟩ := c_qnew (κ := nk c κ h) (c := c) g1 (l := hsz h) hnew_s (nk_n (Nat.le_refl _)) (by show 1 ≤ hcl h - 1; omega) (by show 17 ≤ hsl h - 3; omega)
  have hr2 := ((k1.ext g g1 (c := 10) (fun z => z)).tr (e3.ext g1 e4 (c := 10) (Ne.symm hc10))).1 _ _ hr
  obtain ⟨h3, s1, s2, s3, s4, s5, s6⟩ := c_put (l := hsz h) e4 hr2 hk
  refine ⟨h3, _, hsz h, fun X => ?_, e2.ext (s3.ext e4 s4 (c := c) hc10), s2, ?_, s4, ?_, ?_, fun q => ?_⟩
  · rw [nO_v (by omega) (by omega), nn_v, e1, cV_rt]; exact s1 X
  · exact KC.drop (((k1.w (S' := fun k => k = 10 ∨ k = c) (fun k z => z.elim)).tr (e3.w (fun k z => Or.inr z))).tr (s3.w (fun k z => Or.inl z))) hf
  · have : hcl h - 1 ≤ hcl h2 + 1 := e6
    omega
  · have : hsl h - 3 ≤ hsl h2 + 17 := e7
    omega
  · rcases nk_or (c := c) (κ := nk c κ h) (h := hnew h (.inr (12, fsJ19)) 3) (q := q) with z | z
    · rw [z]; exact nk_or
    · exact Or.inr z
theorem c_sB (g : GH B h) {fs : List Value} {k : Nat} (hr : (fc 10 κ h).1 r = some (.inr (4, fs))) (hk : k < fs.length) (hf : ∀ q, κ q ≠ c) (hc10 : c ≠ 10) (hc : 2 ≤ hcl h) (hs : 20 ≤ hsl h) :
    ∃ h' κ' l, (∀ X : AH → RS, xnO h 13 3 fsJ20 (fun a1 h2 => xnn a1 (xcV (f_J20_init a1 h2) (fun h3 => xpF h3 (some r) 4 k (va_rf a1) X))) = X h') ∧ SB c κ' h' l (fun _ => false) ∧ (fc 10 κ' h').1 r = some (.inr (4, fs.set k (.ref l))) ∧ KC (fun k => k = 10) κ h κ' h' ∧ GH B h' ∧ hcl h ≤ hcl h' + 2 ∧ hsl h ≤ hsl h' + 20 ∧ (∀ q, κ' q = κ q ∨ κ' q = c) := by
  have k1 : KC (fun _ => False) κ h (nk c κ h) (hnew h (.inr (13, fsJ20)) 3) := KC.new (by omega) (by omega)
  have g1 : GH B (hnew h (.inr (13, fsJ20)) 3) := g.new
  obtain ⟨h2, e1, e2, e3, e4, e5, e6, e7⟩ := c_bnew (κ := nk c κ h) (c := c) g1 (b := hsz h) hnew_s (nk_n (Nat.le_refl _)) (by show 1 ≤ hcl h - 1; omega) (by show 1 ≤ hsl h - 3; omega)
  have hr2 := ((k1.ext g g1 (c := 10) (fun z => z)).tr (e3.ext g1 e4 (c := 10) (Ne.symm hc10))).1 _ _ hr
  obtain ⟨h3, s1, s2, s3, s4, s5, s6⟩ := c_put (l := hsz h) e4 hr2 hk
  refine ⟨h3, _, hsz h, fun X => ?_, e2.ext (s3.ext e4 s4 (c := c) hc10), s2, ?_, s4, ?_, ?_, fun q => ?_⟩
  · rw [nO_v (by omega) (by omega), nn_v, e1, cV_rt]; exact s1 X
  · exact KC.drop (((k1.w (S' := fun k => k = 10 ∨ k = c) (fun k z => z.elim)).tr (e3.w (fun k z => Or.inr z))).tr (s3.w (fun k z => Or.inl z))) hf
  · have : hcl h - 1 ≤ hcl h2 + 1 := e6
    omega
  · have : hsl h - 3 ≤ hsl h2 + 1 := e7
    omega
  · rcases nk_or (c := c) (κ := nk c κ h) (h := hnew h (.inr (13, fsJ20)) 3) (q := q) with z | z
    · rw [z]; exact nk_or
    · exact Or.inr z
theorem c_sL (g : GH B h) {fs : List Value} {k : Nat} (hr : (fc 10 κ h).1 r = some (.inr (4, fs))) (hk : k < fs.length) (hf : ∀ q, κ q ≠ c) (hc10 : c ≠ 10) (hc : 2 ≤ hcl h) (hs : 20 ≤ hsl h) :
    ∃ h' κ' l, (∀ X : AH → RS, xnO h 10 3 fsJ7 (fun a1 h2 => xnn a1 (xcV (f_J7_init a1 h2) (fun h3 => xpF h3 (some r) 4 k (va_rf a1) X))) = X h') ∧ LA c κ' h' l 0 [] ∧ (fc 10 κ' h').1 r = some (.inr (4, fs.set k (.ref l))) ∧ KC (fun k => k = 10) κ h κ' h' ∧ GH B h' ∧ hcl h ≤ hcl h' + 2 ∧ hsl h ≤ hsl h' + 20 ∧ (∀ q, κ' q = κ q ∨ κ' q = c) := by
  have k1 : KC (fun _ => False) κ h (nk c κ h) (hnew h (.inr (10, fsJ7)) 3) := KC.new (by omega) (by omega)
  have g1 : GH B (hnew h (.inr (10, fsJ7)) 3) := g.new
  obtain ⟨h2, e1, e2, e3, e4, e5, e6, e7, e8⟩ := c_lnew (κ := nk c κ h) (c := c) g1 (l := hsz h) hnew_s (nk_n (Nat.le_refl _))
  have hr2 := ((k1.ext g g1 (c := 10) (fun z => z)).tr (e3.ext g1 e4 (c := 10) (Ne.symm hc10))).1 _ _ hr
  obtain ⟨h3, s1, s2, s3, s4, s5, s6⟩ := c_put (l := hsz h) e4 hr2 hk
  refine ⟨h3, _, hsz h, fun X => ?_, e2.ext (s3.ext e4 s4 (c := c) hc10), s2, ?_, s4, ?_, ?_, fun q => nk_or⟩
  · rw [nO_v (by omega) (by omega), nn_v, e1, cV_rt]; exact s1 X
  · exact KC.drop (((k1.w (S' := fun k => k = 10 ∨ k = c) (fun k z => z.elim)).tr (e3.w (fun k z => Or.inr z))).tr (s3.w (fun k z => Or.inl z))) hf
  · have : hcl h - 1 ≤ hcl h2 := e6
    omega
  · have : hsl h - 3 ≤ hsl h2 := e7
    omega
/-- a Distinct: its object is frozen at once -/
theorem c_sD (g : GH B h) {fs : List Value} {k : Nat} (hr : (fc 10 κ h).1 r = some (.inr (4, fs))) (hk : k < fs.length) (hf : ∀ q, κ q ≠ c) (hc10 : c ≠ 10) (hc0 : c ≠ 0) (hc : 2 ≤ hcl h) (hs : 20 ≤ hsl h) :
    ∃ h' κ' o l, (∀ X : AH → RS, xnO h 5 1 fsX6 (fun a1 h2 => xnn a1 (xcV (f_X6_init a1 h2) (fun h3 => xpF h3 (some r) 4 k (va_rf a1) X))) = X h') ∧ LA c κ' h' l 0 [] ∧ (fc 0 κ' h').1 o = some (.inr (5, [.ref l])) ∧ (fc 10 κ' h').1 r = some (.inr (4, fs.set k (.ref o))) ∧ KC (fun k => k = 10) κ h κ' h' ∧ GH B h' ∧ hcl h ≤ hcl h' + 2 ∧ hsl h ≤ hsl h' + 20 ∧ (∀ q, κ' q = κ q ∨ κ' q = c ∨ κ' q = 0) := by
  have hrlt : r < hsz h := (g.fresh (fc_e hr).2).1
  have k1 : KC (fun _ => False) κ h (nk 0 κ h) (hnew h (.inr (5, fsX6)) 1) := KC.new (by omega) (by omega)
  have g1 : GH B (hnew h (.inr (5, fsX6)) 1) := g.new
  have ho : (hnew h (.inr (5, fsX6)) 1).1 (hsz h) = some (.inr (5, fsX6)) := hnew_s
  have hz1 : hsz (hnew h (.inr (5, fsX6)) 1) = hsz h + 1 := rfl
  have hq1 : hcl (hnew h (.inr (5, fsX6)) 1) = hcl h - 1 ∧ hsl (hnew h (.inr (5, fsX6)) 1) = hsl h - 1 := ⟨rfl, rfl⟩
  generalize hh1 : hnew h (.inr (5, fsX6)) 1 = h1 at k1 g1 ho hz1 hq1
  have k2 : KC (fun _ => False) (nk 0 κ h) h1 (nk c (nk 0 κ h) h1) (hnew h1 (.inr (10, fsJ7)) 3) := KC.new (by omega) (by omega)
  have g2 : GH B (hnew h1 (.inr (10, fsJ7)) 3) := g1.new
  obtain ⟨h2, e1, e2, e3, e4, e5, e6, e7, e8⟩ := c_lnew (κ := nk c (nk 0 κ h) h1) (c := c) g2 (l := hsz h1) hnew_s (nk_n (Nat.le_refl _))
  have ho2 : h2.1 (hsz h) = some (.inr (5, fsX6)) := by rw [e8 _ (by omega), hnew_o (by omega)]; exact ho
  have hko : nk c (nk 0 κ h) h1 (hsz h) = 0 := by rw [nk_o (by omega)]; exact nk_n (Nat.le_refl _)
  have k3 : KC (fun k => k = 0) (nk c (nk 0 κ h) h1) h2 (nk c (nk 0 κ h) h1) (hset h2 (hsz h) (.inr (5, [.ref (hsz h1)]))) := KC.set hko
  have g3 : GH B (hset h2 (hsz h) (.inr (5, [.ref (hsz h1)]))) := e4.set ho2
  have x10 := (((k1.ext g g1 (c := 10) (fun z => z)).tr (k2.ext g1 g2 (c := 10) (fun z => z))).tr (e3.ext g2 e4 (c := 10) (Ne.symm hc10))).tr (k3.ext e4 g3 (c := 10) (by omega))
  obtain ⟨h4, s1, s2, s3, s4, s5, s6⟩ := c_put (l := hsz h) g3 (x10.1 _ _ hr) hk
  refine ⟨h4, nk c (nk 0 κ h) h1, hsz h, hsz h1, fun X => ?_, (e2.ext (k3.ext e4 g3 (c := c) hc0)).ext (s3.ext g3 s4 (c := c) hc10), (s3.ext g3 s4 (c := 0) (by omega)).1 _ _ (fc_i hko hset_s), s2, ?_, s4, ?_, ?_, fun q => ?_⟩
  · rw [nO_v (by omega) (by omega), nn_v]
    unfold f_X6_init
    rw [nn_v, hh1, nO_v (by omega) (by omega), nn_v, e1, cV_rt, pF_w [.ref (hsz h1)] ho2 (Nat.le_of_ble_eq_true rfl) rfl, cV_rt]
    exact s1 X
  · refine ⟨fun a ha hS => ?_, ?_, ?_, fun a ha => ?_⟩
    · rw [s3.1 a (by show a < hsz h2; rw [e5]; show a < hsz h1 + 1; omega) (by rw [nk_o (by omega), nk_o ha]; exact hS), hset_o (by omega), e8 a (by omega), hnew_o (by omega)]
      rw [← hh1, hnew_o (by omega)]
    · rw [s3.2.1]
      show h2.2.1 = h.2.1
      rw [e3.2.1]
      show h1.2.1 = h.2.1
      rw [← hh1]; rfl
    · have q1 := s3.2.2.1
      have q2 : hsz h2 = hsz h1 + 1 := e5
      have q3 : hsz h2 ≤ hsz h4 := q1
      omega
    · rw [nk_o (by omega), nk_o ha]
  · have : hcl h1 - 1 ≤ hcl h2 := e6
    have q : hcl h4 = hcl h2 := s5
    omega
  · have : hsl h1 - 3 ≤ hsl h2 := e7
    have q : hsl h4 = hsl h2 := s6
    omega
  · rcases nk_or (c := c) (κ := nk 0 κ h) (h := h1) (q := q) with z | z
    · rw [z]
      rcases nk_or (c := 0) (κ := κ) (h := h) (q := q) with z | z
      · exact Or.inl z
      · exact Or.inr (Or.inr z)
    · exact Or.inr (Or.inl z)
end
