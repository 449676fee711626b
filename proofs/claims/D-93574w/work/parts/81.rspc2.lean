/-! PURE: a recovery speculates -/
set_option maxRecDepth 100000
section
variable {B : Nat} {h h' : AH} {κ κ' : Nat → Nat} {r im ua d oc lc ob lb lt lg lk b : Nat} {m u w : Nat → Nat} {n t : Nat} {es : List Nat} {c : Nat} {S : Nat → Prop}
theorem RB.mk (R : RB κ h r im ua d oc ob lt lg lk b m n es t u w) (g : GH B h) (g' : GH B h') (k : KC (fun k => k = 11) κ h κ' h') {w' : Nat → Nat} (U : UA κ' h' ua n w') : RB κ' h' r im ua d oc ob lt lg lk b m n es t u w' := ⟨(k.ext g g' (c := 0) (by omega)).1 _ _ R.1, R.2.1.ext (k.ext g g' (c := 0) (by omega)), U, R.2.2.2.ext (k.ext g g' (c := 18) (by omega))⟩
theorem c_spcL {y tot sc : Nat} {gg : Nat × Nat} (h2n : gg.2 ≤ n) (hu0 : ∀ q, gg.1 ≤ q → q < gg.2 → u q = 0) (htt : t ≤ 30) (hts : t ≤ sc) (hsc : sc ≤ 400) {K : AH → RS} : ∀ (k f a i : Nat) (s C : List Nat) (h : AH), ch m n gg.2 k a = some s → gg.1 ≤ a → k < f → i + s.length = tot → tot ≤ 96 → GH B h → RB κ h r im ua d oc ob lt lg lk b m n es t u (wU m u C) → GP κ h y gg sc tot → AB m C a →
    ∃ h', f_X5_speculate_L7 K f (some r) (some y) (nI a) (nI i) h = K h' ∧ UA κ h' ua n (wU m u (C ++ s)) ∧ KC (fun k => k = 11) κ h κ h' ∧ GH B h' ∧ hcl h' = hcl h ∧ hsl h' = hsl h ∧ hsz h' = hsz h := by
  intro k
  induction k with
  | zero => intro f a i s C h hc; unfold ch at hc; cases hc
  | succ k ih =>
    intro f a i s C h hc hga hf htot ht96 g R P hAB
    have hn := R.2.1.n96
    obtain ⟨f, rfl⟩ : ∃ f', f = f' + 2 := ⟨f - 2, by omega⟩
    obtain ⟨⟨hv, hle⟩, rr, rfl, hr⟩ := ch_c2 hc
    obtain ⟨v1, v2, v3, v4⟩ := zv_f hv
    have hz := zl_12 m a
    rw [List.length_cons] at htot
    have Ih := R.2.1.ext (fc_ext g)
    have hrh := rdo (fc_e R.1).2
    have hyh := rdo (fc_e P).2
    unfold f_X5_speculate_L7
    rw [gI_v hyh rfl, if_neg (fun z => by have := (nI_leI (by omega) (by omega)).mp z; omega), gI_v hyh rfl, gA_v (o := some im) hrh rfl, Ih.th, if_neg (nI_nlt hts (by omega)), gA_v (o := some ua) hrh rfl]
    rw [show (4 : Int32) = nI 4 from rfl]
    obtain ⟨h1, e1, e2, e3, e4, e5, e6, e7⟩ := c_mark g R.2.2.1 (a := a) (v := 4) v1 hn (X := fun h12 => xgA h12 (some r) 4 0 (fun v13 => xrc h12 v13 1 (xcI (f_X2_length v13 (nI a) h12) (fun v15 h14 => if ¬ v15 = 2 then f_X5_speculate_J57 (f_X5_speculate_L7 K (f + 1)) K (some r) (some y) (nI a) (nI i) h14 else xgA h14 (some r) 4 1 (fun v24 => xsI h14 v24 0 (nI a + 1) 5 (fun h25 => f_X5_speculate_J57 (f_X5_speculate_L7 K (f + 1)) K (some r) (some y) (nI a) (nI i) h25))))))
    rw [e1]
    have R1 := R.mk g e4 e3 e2
    have Ih1 := R1.2.1.ext (fc_ext e4)
    have hrh1 := rdo (fc_e R1.1).2
    have P1 : GP κ h1 y gg sc tot := (e3.ext g e4 (c := 21) (by omega)).1 _ _ P
    rw [gA_v (o := some im) hrh1 rfl, Ih1.rcv, i_len Ih1 v1, cI_rt]
    have hw : ∀ q, wU m u (C ++ [a]) q = if q = a then 4 else if q = a + 1 ∧ zl m a = 2 then 5 else wU m u C q := wU_ap hAB (hu0 a hga (by omega)) (fun z => hu0 (a + 1) (by omega) (by omega))
    -- the next one
    have J57 : ∀ h2, GH B h2 → UA κ h2 ua n (wU m u (C ++ [a])) → KC (fun k => k = 11) κ h κ h2 → hcl h2 = hcl h → hsl h2 = hsl h → hsz h2 = hsz h → ∃ h', f_X5_speculate_J57 (f_X5_speculate_L7 K (f + 1)) K (some r) (some y) (nI a) (nI i) h2 = K h' ∧ UA κ h' ua n (wU m u (C ++ a :: rr)) ∧ KC (fun k => k = 11) κ h κ h' ∧ GH B h' ∧ hcl h' = hcl h ∧ hsl h' = hsl h ∧ hsz h' = hsz h := by
      intro h2 g2 U2 k2 q1 q2 q3
      have R2 := R.mk g g2 k2 U2
      have Ih2 := R2.2.1.ext (fc_ext g2)
      have hrh2 := rdo (fc_e R2.1).2
      have P2 : GP κ h2 y gg sc tot := (k2.ext g g2 (c := 21) (by omega)).1 _ _ P
      unfold f_X5_speculate_J57
      rw [gA_v (o := some im) hrh2 rfl, Ih2.rcv, i_len Ih2 v1, cI_rt, nI_add, nI_1]
      rcases hr with ⟨hze, rfl⟩ | ⟨hze, hr0, hr⟩
      · unfold f_X5_speculate_L7
        rw [gI_v (rdo (fc_e P2).2) rfl, if_pos (nI_le (by simp at htot; omega) (by omega))]
        exact ⟨h2, rfl, U2, k2, g2, q1, q2, q3⟩
      · obtain ⟨h3, d1, d2, d3, d4, d5, d6, d7⟩ := ih (f + 1) (a + zl m a) (i + 1) rr (C ++ [a]) h2 hr (by omega) (by omega) (by omega) ht96 g2 R2 P2 hAB.ap
        rw [List.append_assoc] at d2
        exact ⟨h3, d1, d2, k2.tr d3, d4, by omega, by omega, by omega⟩
    rcases hz with hz | hz
    · rw [hz, if_pos (show ¬ nI 1 = 2 by decide)]
      refine J57 h1 e4 (e2.cg (fun q hq => ?_)) e3 e5 e6 e7
      rw [hw, hz]
      unfold updN
      by_cases hqa : q = a
      · rw [if_pos hqa, if_pos hqa]
      · rw [if_neg hqa, if_neg hqa, if_neg (by omega)]
    · rw [hz, if_neg (show ¬ ¬ nI 2 = 2 by decide), gA_v (o := some ua) hrh1 rfl, nI_1]
      rw [show (5 : Int32) = nI 5 from rfl]
      obtain ⟨h2, f1, f2, f3, f4, f5, f6, f7⟩ := c_mark e4 R1.2.2.1 (a := a + 1) (v := 5) (by omega) hn (X := fun h25 => f_X5_speculate_J57 (f_X5_speculate_L7 K (f + 1)) K (some r) (some y) (nI a) (nI i) h25)
      rw [f1]
      refine J57 h2 f4 (f2.cg (fun q hq => ?_)) (e3.tr f3) (by omega) (by omega) (by omega)
      rw [hw, hz]
      unfold updN
      by_cases hqa : q = a
      · rw [if_pos hqa, if_neg (by omega), if_pos hqa]
      · rw [if_neg hqa]
        by_cases hq1 : q = a + 1
        · rw [if_pos ⟨hq1, rfl⟩, if_pos hq1]
        · rw [if_neg (fun z => hq1 z.1), if_neg hq1, if_neg hqa]
theorem c_spc {y : Nat} {gg : Nat × Nat} (h2n : gg.2 ≤ n) (hu0 : ∀ q, gg.1 ≤ q → q < gg.2 → u q = 0) (htt : 1 ≤ t ∧ t ≤ 30) {C : List Nat} (g : GH B h) (R : RB κ h r im ua d oc ob lt lg lk b m n es t u (wU m u C)) (P : GP κ h y gg (tst m n u gg).1 (tst m n u gg).2.length) (hAB : AB m C gg.1) :
    ∃ h', f_X5_speculate (some r) (some y) h = rtV h' ∧ UA κ h' ua n (wU m u (C ++ chn m n u t gg)) ∧ KC (fun k => k = 11) κ h κ h' ∧ GH B h' ∧ hcl h' = hcl h ∧ hsl h' = hsl h ∧ hsz h' = hsz h := by
  have hn := R.2.1.n96
  have Ih := R.2.1.ext (fc_ext g)
  have hrh := rdo (fc_e R.1).2
  have hyh := rdo (fc_e P).2
  have hb := tst_b (m := m) (n := n) (u := u) gg (by omega)
  unfold f_X5_speculate chn
  rw [gI_v hyh rfl]
  by_cases hts : t ≤ (tst m n u gg).1
  · rw [if_pos hts]
    rcases tst_p (m := m) (n := n) (u := u) gg with z | ⟨s, z1, z2, z3⟩
    · rw [z] at hts; simp only at hts; omega
    · rw [z3] at P hts hb ⊢
      simp only at P hts hb ⊢
      exact c_spcL (K := fun h29 => rtV h29) h2n hu0 htt.2 hts hb.1 (n + 1) FUEL gg.1 0 s C h z1 (Nat.le_refl _) (by unfold FUEL; omega) (Nat.zero_add _) hb.2 g R P hAB
  · rw [if_neg hts, List.append_nil]
    refine ⟨h, ?_, R.2.2.1, KC.rf, g, rfl, rfl, rfl⟩
    show f_X5_speculate_L7 _ (99999 + 1) _ _ _ (nI 0) h = _
    unfold f_X5_speculate_L7
    rw [gI_v hyh rfl]
    by_cases h0 : (tst m n u gg).2.length ≤ 0
    · rw [if_pos (nI_le h0 (by omega))]
    · rw [if_neg (fun z => h0 ((nI_leI (by omega) (by omega)).mp z)), gI_v hyh rfl, gA_v (o := some im) hrh rfl, Ih.th, if_pos (nI_lt (by omega) (by omega))]
end
