/-! PURE: a recovery follows an address, 2 -/
set_option maxRecDepth 100000
section
variable {B : Nat} {h h' : AH} {κ κ' : Nat → Nat} {r im ua d oc lc ob lb lt lg lk b : Nat} {m u : Nat → Nat} {n t : Nat} {es : List Nat}
theorem c_fol {S : ST} {Kc Ks : Nat} (g : GH B h) (hKs : 20000 ≤ Ks) (sg : SG m n S) (hw : S.2.1.length ≤ 4 + 8 * c2 n S.1) {a : Nat} (ha : a < 256) (R : RD κ h r im ua d oc lc ob lb lt lg lk b m n es t S (Kc + 2) (Ks + 1)) {S' : ST} {o : Option Nat} (e : fol m n S a = (S', o)) :
    ∃ h' κ', f_X5_follow (some r) (nI a) h = rtI (oI o) h' ∧ RD κ' h' r im ua d oc lc ob lb lt lg lk b m n es t S' (Kc + (if o = none then 0 else 2)) (Ks + (if o = none then 0 else 1)) ∧ KC SF6 κ h κ' h' ∧ GH B h' := by
  obtain ⟨r1, r2, r3, r4, r5, r6, r7, capd, capc, capb, capt, yd, yc, yb, yt, a1, a2, a3, a4, a5, a6, a7, a8, a9, a10, a11⟩ := id R
  have hn := r4.n96
  have hrh := rdo (fc_e r1).2
  have Ih := r4.ext (fc_ext g)
  have ug := sg.ug
  obtain ⟨arr, cap, sh⟩ := r6.bs g
  obtain ⟨fu, u1, u2⟩ := id r5
  have u1h := rdo (fc_e u1).2
  obtain ⟨g1, g2, g3, g4, g5, g6, g7, g8, g9, g10, g11⟩ := id sg
  have hc2 := c2_le (n := n) (u := S.1)
  have lcf : yc.length ≤ 96 := by have := nodup_le g7 g6; have := a5.1; omega
  have lbd : yb.length ≤ 256 := by have := nodup_le g9 g8; have := a7.1; omega
  have ltb : yt.length ≤ 48 := by have := a9.1; omega
  have lwl : yd.length = S.2.1.length := a2.1
  have cpc : capc ≤ 202 := by obtain ⟨_, _, _, z⟩ := a4; omega
  have cpb : capb ≤ 522 := by obtain ⟨_, _, _, z⟩ := a6; omega
  have cpt : capt ≤ 106 := by obtain ⟨_, _, _, z⟩ := a8; omega
  have h5 : ∀ i, S.1 i ≤ 5 := fun i => by have := g2 i; omega
  unfold f_X5_follow
  unfold fol at e
  rw [rc_v hrh, c_acc g hrh sh ha, cI_rt]
  by_cases e1 : S.1 a = 1
  · rw [if_pos e1] at e
    cases e
    rw [decide_eq_true e1, b0t]
    exact ⟨h, κ, rfl, R.w (by rw [if_pos rfl]; omega) (by rw [if_pos rfl]; omega), KC.rf, g⟩
  · rw [if_neg e1] at e
    rw [decide_eq_false e1, b0f, gA_v (o := some im) hrh rfl, Ih.rcv, i_valid Ih (by omega), cI_rt]
    by_cases e2 : zv m n a = false
    · rw [if_pos e2] at e
      cases e
      rw [e2, n0f, gA_v (o := some ob) hrh rfl]
      obtain ⟨y, h2, κ2, c1, c2', c3, c4, c5, c6⟩ := c_box g (v := a) (by omega) (by omega) (by omega) κ
      rw [c1, cA_rt]
      have x0 := c3.ext g c4 (c := 0) (fun z => z)
      have ho2 := x0.1 _ _ r3
      obtain ⟨h3, κ3, cap3, ys3, w3, d1, d2, d3, d4, d5, d6, d7⟩ := c_dist c4 (c := 14) (by decide) ho2 (a6.ext (c3.ext g c4 (c := 14) (fun z => z))) (a7.ext x0) c2' (by omega) (by omega) (by omega) (by omega)
      rw [rc_v (rdo (fc_e ho2).2), d1, cI_rt]
      have y0 := d4.ext c4 d5 (c := 0) (by omega)
      have yy : ∀ c, c ≠ 14 → Ext (fc c κ h) (fc c κ3 h3) := fun c hc => (c3.ext g c4 (c := c) (fun z => z)).tr (d4.ext c4 d5 (c := c) hc)
      refine ⟨h3, κ3, rfl, ⟨(yy 0 (by decide)).1 _ _ r1, (yy 0 (by decide)).1 _ _ r2, (yy 0 (by decide)).1 _ _ r3, r4.ext (yy 0 (by decide)), r5.ext (yy 11 (by decide)), r6.ext (yy 18 (by decide)), fun q => ?_, capd, capc, cap3, capt, yd, yc, ys3, yt, a1.ext (yy 12 (by decide)), a2.ext (yy 0 (by decide)), a3, a4.ext (yy 13 (by decide)), a5.ext (yy 0 (by decide)), d2, d3, a8.ext (yy 15 (by decide)), tbs_ext (yy 0 (by decide)) a9, ?_, ?_⟩, (c3.w (fun k z => z.elim)).tr (d4.w (fun k z => Or.inr (Or.inr (Or.inr (Or.inl z))))), d5⟩
      · rcases d7.2 q with z | z
        · rcases c6.2 q with z2 | z2
          · rw [z, z2]; exact r7 q
          · rw [z, z2]; decide
        · rw [z]; decide
      · simp only [if_true]; omega
      · simp only [if_true]; omega
    · rw [if_neg e2] at e
      have hv : zv m n a = true := by simpa using e2
      obtain ⟨v1, v2, v3, v4⟩ := zv_f hv
      have hz := zl_12 m a
      rw [hv, n0t, gA_v (o := some im) hrh rfl, Ih.rcv, i_len Ih v1, cI_rt, rc_v hrh, c_tkn hrh u1h u2 h5 hn v1, cI_rt]
      -- a conflict
      have J64 : e1 = e1 → (tk (S.1 a) || tk (S.1 (a + zl m a - 1))) = true → ∃ h' κ', f_X5_follow_J64 (some r) (nI a) h = rtI (oI o) h' ∧ RD κ' h' r im ua d oc lc ob lb lt lg lk b m n es t S' (Kc + (if o = none then 0 else 2)) (Ks + (if o = none then 0 else 1)) ∧ KC SF6 κ h κ' h' ∧ GH B h' := by
        intro _ htk
        rw [if_pos htk] at e
        cases e
        unfold f_X5_follow_J64
        rw [gA_v (o := some oc) hrh rfl]
        obtain ⟨y, h2, κ2, c1, c2', c3, c4, c5, c6⟩ := c_box g (v := a) (by omega) (by omega) (by omega) κ
        rw [c1, cA_rt]
        have x0 := c3.ext g c4 (c := 0) (fun z => z)
        have ho2 := x0.1 _ _ r2
        obtain ⟨h3, κ3, cap3, ys3, w3, d1, d2, d3, d4, d5, d6, d7⟩ := c_dist c4 (c := 13) (by decide) ho2 (a4.ext (c3.ext g c4 (c := 13) (fun z => z))) (a5.ext x0) c2' (by omega) (by omega) (by omega) (by omega)
        rw [rc_v (rdo (fc_e ho2).2), d1, cI_rt]
        have yy : ∀ c, c ≠ 13 → Ext (fc c κ h) (fc c κ3 h3) := fun c hc => (c3.ext g c4 (c := c) (fun z => z)).tr (d4.ext c4 d5 (c := c) hc)
        refine ⟨h3, κ3, rfl, ⟨(yy 0 (by decide)).1 _ _ r1, (yy 0 (by decide)).1 _ _ r2, (yy 0 (by decide)).1 _ _ r3, r4.ext (yy 0 (by decide)), r5.ext (yy 11 (by decide)), r6.ext (yy 18 (by decide)), fun q => ?_, capd, cap3, capb, capt, yd, ys3, yb, yt, a1.ext (yy 12 (by decide)), a2.ext (yy 0 (by decide)), a3, d2, d3, a6.ext (yy 14 (by decide)), a7.ext (yy 0 (by decide)), a8.ext (yy 15 (by decide)), tbs_ext (yy 0 (by decide)) a9, ?_, ?_⟩, (c3.w (fun k z => z.elim)).tr (d4.w (fun k z => Or.inr (Or.inr (Or.inl z)))), d5⟩
        · rcases d7.2 q with z | z
          · rcases c6.2 q with z2 | z2
            · rw [z, z2]; exact r7 q
            · rw [z, z2]; decide
          · rw [z]; decide
        · simp only [if_true]; omega
        · simp only [if_true]; omega
      cases htk1 : tk (S.1 a) with
      | true => rw [n0t]; exact J64 rfl (by rw [htk1]; rfl)
      | false =>
        rw [n0f, rc_v hrh, nI_add, nI_s1 (by omega), c_tkn hrh u1h u2 h5 hn (show a + zl m a - 1 < n by omega), cI_rt]
        cases htk2 : tk (S.1 (a + zl m a - 1)) with
        | true => rw [b0t]; exact J64 rfl (by rw [htk1, htk2]; rfl)
        | false =>
          rw [if_neg (by rw [htk1, htk2]; decide)] at e
          cases e
          have z0 := tk_f htk1 (g2 _)
          have z1 := tk_f htk2 (g2 _)
          obtain ⟨m1, m2⟩ := mk1_c hv z0 z1
          rw [b0f, gA_v (o := some b) hrh rfl, sh.rc]
          obtain ⟨h2, κ2, c1, c2', c3, c4, c5, c6⟩ := c_bset g r6 ha (by omega) (by omega)
          rw [c1, cV_rt]
          have yy : ∀ c, c ≠ 18 → Ext (fc c κ h) (fc c κ2 h2) := fun c hc => c3.ext g c4 (c := c) hc
          have hr2 := (yy 0 (by decide)).1 _ _ r1
          rw [gA_v (o := some ua) (rdo (fc_e hr2).2) rfl]
          obtain ⟨h3, s1, s2, s3, s4, s5, s6, s7⟩ := c_mark c4 (r5.ext (yy 11 (by decide))) v1 hn (v := 1) (X := fun h24 => if ¬ nI (zl m a) = 2 then f_X5_follow_J107 (some r) (nI a) (nI (zl m a)) h24 else xgA h24 (some r) 4 1 (fun v64 => xsI h24 v64 0 (nI a + 1) 2 (fun h65 => f_X5_follow_J107 (some r) (nI a) (nI (zl m a)) h65)))
          have s1 : xsI h2 (some ua) 0 (nI a) 1 (fun h24 => if ¬ nI (zl m a) = 2 then f_X5_follow_J107 (some r) (nI a) (nI (zl m a)) h24 else xgA h24 (some r) 4 1 (fun v64 => xsI h24 v64 0 (nI a + 1) 2 (fun h65 => f_X5_follow_J107 (some r) (nI a) (nI (zl m a)) h65))) = _ := s1
          rw [s1]
          have hno2 : ∀ q, κ2 q ≠ 19 ∧ κ2 q ≠ 20 := fun q => by
            rcases c6.2 q with z | z
            · rw [z]; exact r7 q
            · rw [z]; decide
          -- behind the marks
          have fin : ∀ h4, UA κ2 h4 ua n (mk1 m S.1 a) → KC (fun k => k = 11) κ2 h2 κ2 h4 → GH B h4 → hcl h4 = hcl h2 → hsl h4 = hsl h2 → ∃ h' κ', f_X5_follow_J107 (some r) (nI a) (nI (zl m a)) h4 = rtI (oI (if ze m a = true then none else some (a + zl m a))) h' ∧ RD κ' h' r im ua d oc lc ob lb lt lg lk b m n es t (acc m n S a) (Kc + (if (if ze m a = true then none else some (a + zl m a)) = none then 0 else 2)) (Ks + (if (if ze m a = true then none else some (a + zl m a)) = none then 0 else 1)) ∧ KC SF6 κ h κ' h' ∧ GH B h' := by
            intro h4 U4 k4 g4 q1 q2
            have ww : ∀ c, c ≠ 18 → c ≠ 11 → Ext (fc c κ h) (fc c κ2 h4) := fun c h1 h2 => (yy c h1).tr (k4.ext c4 g4 (c := c) h2)
            obtain ⟨h5', κ5, f1, f2, f3, f4⟩ := c_107 (Kc := Kc + 2) (Ks := Ks + 1) g4 (by omega) sg hw hv htk1 htk2 (im := im) (es := es) (t := t) ⟨(ww 0 (by decide) (by decide)).1 _ _ r1, (ww 0 (by decide) (by decide)).1 _ _ r2, (ww 0 (by decide) (by decide)).1 _ _ r3, r4.ext (ww 0 (by decide) (by decide)), U4, (c2'.ext (k4.ext c4 g4 (c := 18) (by decide))).cg (fun q => by
              show decide (mk1 m S.1 a q = 1) = (decide (S.1 q = 1) || decide (q = a))
              unfold mk1
              by_cases hq : q = a
              · simp [hq]
              · rw [if_neg hq]
                by_cases hq2 : q = a + 1 ∧ zl m a = 2
                · have : S.1 q = 0 := by
                    have hh := z1
                    rw [hq2.2] at hh
                    rw [hq2.1]; exact hh
                  rw [if_pos hq2, this]; simp [hq]
                · rw [if_neg hq2]; simp [hq]), hno2, capd, capc, capb, capt, yd, yc, yb, yt, a1.ext (ww 12 (by decide) (by decide)), a2.ext (ww 0 (by decide) (by decide)), a3, a4.ext (ww 13 (by decide) (by decide)), a5.ext (ww 0 (by decide) (by decide)), a6.ext (ww 14 (by decide) (by decide)), a7.ext (ww 0 (by decide) (by decide)), a8.ext (ww 15 (by decide) (by decide)), tbs_ext (ww 0 (by decide) (by decide)) a9, by simp only; omega, by simp only; omega⟩
            refine ⟨h5', κ5, f1, f2.w (by cases ze m a <;> simp) (by cases ze m a <;> simp), ((c3.w (fun k z => Or.inr (Or.inr (Or.inr (Or.inr (Or.inr z)))))).tr (k4.w (fun k z => Or.inl z))).tr f3, f4⟩
          by_cases l2 : zl m a = 2
          · rw [if_neg (fun z => z (by rw [l2]; rfl))]
            have hr3 := (s3.ext c4 s4 (c := 0) (by omega)).1 _ _ hr2
            rw [gA_v (o := some ua) (rdo (fc_e hr3).2) rfl, nI_1]
            obtain ⟨h4, w1, w2, w3, w4, w5, w6, w7⟩ := c_mark s4 s2 (show a + 1 < n by omega) hn (v := 2) (X := fun h65 => f_X5_follow_J107 (some r) (nI a) (nI (zl m a)) h65)
            have w1 : xsI h3 (some ua) 0 (nI (a + 1)) 2 (fun h65 => f_X5_follow_J107 (some r) (nI a) (nI (zl m a)) h65) = _ := w1
            rw [w1]
            refine fin h4 (w2.cg (fun i _ => ?_)) (s3.tr w3) w4 (by omega) (by omega)
            unfold mk1 updN
            by_cases hi : i = a
            · rw [if_pos hi, if_neg (by omega), if_pos hi]
            · rw [if_neg hi]
              by_cases hi2 : i = a + 1
              · rw [if_pos ⟨hi2, l2⟩, if_pos hi2]
              · rw [if_neg (fun z => hi2 z.1), if_neg hi2, if_neg hi]
          · rw [if_pos (show ¬ nI (zl m a) = 2 from fun z => l2 ((nI_eq (b := 2) (by omega) (by decide)).mp z))]
            refine fin h3 (s2.cg (fun i _ => ?_)) s3 s4 s5 s6
            unfold mk1 updN
            by_cases hi : i = a
            · rw [if_pos hi, if_pos hi]
            · rw [if_neg hi, if_neg (fun z => l2 z.2), if_neg hi]
/-- one address is followed to its end -/
theorem c_folL {Kc Ks : Nat} (hKs : 20000 ≤ Ks) {K : Option Nat → AH → RS} : ∀ (k f : Nat) (S : ST) (a : Nat) (h : AH) (κ : Nat → Nat), GH B h → SG m n S → S.2.1.length ≤ 4 + 8 * c2 n S.1 → a < 256 → c0 n S.1 < k → k < f → RD κ h r im ua d oc lc ob lb lt lg lk b m n es t S (Kc + 2) (Ks + 1) →
    ∃ h' κ', f_X5_init_L153 K f (some r) (nI a) h = K (some r) h' ∧ RD κ' h' r im ua d oc lc ob lb lt lg lk b m n es t (folL m n k S a) Kc Ks ∧ KC SF6 κ h κ' h' ∧ GH B h' := by
  intro k
  induction k with
  | zero => intro f S a h κ _ _ _ _ h1; omega
  | succ k ih =>
    intro f S a h κ g sg hw ha hk hf R
    obtain ⟨f, rfl⟩ : ∃ f', f = f' + 2 := ⟨f - 2, by omega⟩
    have hn := R.2.2.2.1.n96
    have hm := R.2.2.2.1.byt
    cases e : fol m n S a with
    | mk S' o =>
      obtain ⟨h2, κ2, c1, c2', c3, c4⟩ := c_fol g hKs sg hw ha R e
      obtain ⟨q1, q2, q3, ⟨w, q4, q5⟩, q6⟩ := fol_g hm hn sg ha e
      unfold f_X5_init_L153 folL
      rw [if_neg (nI_pos (by omega)), rc_v (rdo (fc_e R.1).2), c1, cI_rt, e]
      cases o with
      | none =>
        unfold f_X5_init_L153
        rw [if_pos (show oI none < 0 by decide)]
        exact ⟨h2, κ2, rfl, c2', c3, c4⟩
      | some x =>
        obtain ⟨hx1, hx2⟩ := q6 x rfl
        obtain ⟨h3, κ3, d1, d2, d3, d4⟩ := ih (f + 1) S' x h2 κ2 c4 q1 (by rw [q4, List.length_append]; omega) hx1 (by omega) (by omega) c2'
        exact ⟨h3, κ3, d1, d2, c3.tr d3, d4⟩
/-- the list is worked off -/
theorem c_drn {Kc Ks : Nat} (hKs : 20000 ≤ Ks) {K : Option Nat → AH → RS} : ∀ (j f p : Nat) (S : ST) (h : AH) (κ : Nat → Nat), GH B h → SG m n S → p + S.2.1.length ≤ 4 + 8 * c2 n S.1 → 4 + 8 * n < j + p → j < f → RD κ h r im ua d oc lc ob lb lt lg lk b m n es t S Kc Ks →
    ∃ h' κ', f_X5_init_L129 K f (some r) h = K (some r) h' ∧ RD κ' h' r im ua d oc lc ob lb lt lg lk b m n es t (drn m n j S) Kc Ks ∧ KC SF6 κ h κ' h' ∧ GH B h' := by
  intro j
  induction j with
  | zero =>
    intro f p S h κ g sg h1 h2
    have := c2_le (n := n) (u := S.1)
    omega
  | succ j ih =>
    intro f p S h κ g sg h1 h2 hf R
    obtain ⟨f, rfl⟩ : ∃ f', f = f' + 1 := ⟨f - 1, by omega⟩
    obtain ⟨r1, r2, r3, r4, r5, r6, r7, capd, capc, capb, capt, yd, yc, yb, yt, a1, a2, a3, a4, a5, a6, a7, a8, a9, a10, a11⟩ := id R
    have hn := r4.n96
    have hm := r4.byt
    have hrh := rdo (fc_e r1).2
    have lwl : yd.length = S.2.1.length := a2.1
    obtain ⟨arrq, hdq, q1⟩ := id a1
    have q1h := q1.ext (fc_ext g)
    unfold f_X5_init_L129
    rw [gA_v (o := some d) hrh rfl, q1h.rc, p_qempty q1h, cI_rt]
    cases e : S.2.1 with
    | nil =>
      have hd : drn m n (j + 1) S = S := by unfold drn; rw [e]
      rw [hd, decide_eq_true (by rw [lwl, e]; rfl), n0t]
      exact ⟨h, κ, rfl, R, KC.rf, g⟩
    | cons x rr =>
      have hd : drn m n (j + 1) S = drn m n j (folL m n (n + 1) (S.1, rr, S.2.2) x) := by
        conv => lhs; unfold drn
        rw [e]
      obtain ⟨g', hx⟩ := sg.tl e
      rw [e] at a2 a10 a11 h1 lwl
      rw [List.length_cons] at a10 a11 h1 lwl
      rw [hd, decide_eq_false (by omega), n0f, gA_v (o := some d) hrh rfl, q1h.rc]
      obtain ⟨h2', c1, c2', c3, c4, c5, c6, c7⟩ := c_qrem g a1 (by omega)
      have x0 := c3.ext g c4 (c := 0) (by omega)
      have b0 := (a2.2 0 (by simp)).1
      have b0' : BX h2' (yd.getD 0 0) (nI x) := (b0.ext x0).ext (fc_ext c4)
      rw [c1, cA_rt, ck_v b0' (by decide), rc_v b0', p_intValue b0', cI_rt]
      have yy : ∀ c, c ≠ 12 → Ext (fc c κ h) (fc c κ h2') := fun c hc => c3.ext g c4 (c := c) hc
      have hbt : BXS (fc 0 κ h2') yd.tail rr := by
        refine ⟨by rw [List.length_tail]; omega, fun i hi => ?_⟩
        have := a2.2 (i + 1) (by simp; omega)
        rw [getD_tl]
        exact ⟨this.1.ext x0, this.2⟩
      have R2 : RD κ h2' r im ua d oc lc ob lb lt lg lk b m n es t (S.1, rr, S.2.2) (Kc + 2) (Ks + 1) := ⟨(yy 0 (by decide)).1 _ _ r1, (yy 0 (by decide)).1 _ _ r2, (yy 0 (by decide)).1 _ _ r3, r4.ext (yy 0 (by decide)), r5.ext (yy 11 (by decide)), r6.ext (yy 18 (by decide)), r7, capd, capc, capb, capt, yd.tail, yc, yb, yt, c2', hbt, a3, a4.ext (yy 13 (by decide)), a5.ext (yy 0 (by decide)), a6.ext (yy 14 (by decide)), a7.ext (yy 0 (by decide)), a8.ext (yy 15 (by decide)), tbs_ext (yy 0 (by decide)) a9, by simp only; omega, by simp only; omega⟩
      have hc0 : c0 n S.1 ≤ n := cnt_le _ _
      obtain ⟨h3, κ3, d1, d2, d3, d4⟩ := c_folL hKs (K := fun x66 h67 => f_X5_init_L129 K f x66 h67) (n + 1) FUEL (S.1, rr, S.2.2) x h2' κ c4 g' (by simp only; omega) hx (by simp only; omega) (by unfold FUEL; omega) R2
      rw [d1]
      obtain ⟨q1, q2, q3, w, q4, q5⟩ := folL_g hm hn (n + 1) (S.1, rr, S.2.2) x g' hx
      obtain ⟨h4, κ4, f1, f2, f3, f4⟩ := ih f (p + 1) _ h3 κ3 d4 q1 (by rw [q4, List.length_append]; simp only at q5 q3 ⊢; omega) (by omega) (by omega) d2
      exact ⟨h4, κ4, f1, f2, ((c3.w (fun k z => Or.inr (Or.inl z))).tr d3).tr f3, f4⟩
end
