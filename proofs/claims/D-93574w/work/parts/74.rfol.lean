/-! PURE: a recovery follows an address -/
set_option maxRecDepth 100000
section
variable {B : Nat} {h h' : AH} {κ κ' : Nat → Nat} {r im ua d oc lc ob lb lt lg lk b : Nat} {m u : Nat → Nat} {n t : Nat} {es : List Nat}
/-- adding to a Distinct -/
theorem c_dist (g : GH B h) {c o l cap y v : Nat} {ys vs : List Nat} (hcc : c ≠ 0) (ho : (fc 0 κ h).1 o = some (.inr (5, [.ref l]))) (L : LA c κ h l cap ys) (bs : BXS (fc 0 κ h) ys vs) (by_ : BX (fc 0 κ h) y (nI v)) (hv : v ≤ 1000) (hl : ys.length ≤ 500) (hc : 1 ≤ hcl h) (hs : 3000 ≤ hsl h) :
    ∃ (h' : AH) (κ' : Nat → Nat) (cap' : Nat) (ys' : List Nat) (w : Int32), f_X6_add (some o) (some y) h = rtI w h' ∧ LA c κ' h' l cap' ys' ∧ BXS (fc 0 κ' h') ys' (ins vs v) ∧ KC (fun k => k = c) κ h κ' h' ∧ GH B h' ∧ hcl h ≤ hcl h' + 1 ∧ hsl h + 4 * cap ≤ hsl h' + 4 * cap' ∧ (∀ q, κ' q = κ q ∨ κ' q = c) := by
  have hoh : rd h o = some (.inr (5, [.ref l])) := rdo (fc_e ho).2
  obtain ⟨arr, A⟩ := L.al g
  have x := fc_ext (c := 0) (κ := κ) g
  unfold f_X6_add
  rw [gA_v (o := some l) hoh rfl, A.rc, p_contains A (bs.ext x) (by_.ext x) hv, cI_rt]
  unfold ins
  by_cases hin : v ∈ vs
  · rw [decide_eq_true hin, n0t, if_pos hin, rtZ0]
    exact ⟨h, κ, cap, ys, 0, rfl, L, bs, KC.rf, g, by omega, by omega, fun _ => Or.inl rfl⟩
  · rw [decide_eq_false hin, n0f, if_neg hin, gA_v (o := some l) hoh rfl, A.rc]
    obtain ⟨h2, κ2, cap2, f1, f2, f3, f4, f5, f6⟩ := c_ladd g L (by_.el.ext x) (fun z hz => (bs.el z hz).ext x) (by omega) hc (by omega)
    rw [f1, cI_rt, if_neg (by decide), rtZ1]
    have x0 := f3.ext g f4 (c := 0) (by omega)
    exact ⟨h2, κ2, cap2, ys ++ [y], 1, rfl, f2, (bs.ext x0).ap (by_.ext x0) hv, f3, f4, f5, f6⟩
/-- adding all of a finished list to a queue -/
theorem c_addAll {c le arr cape N : Nat} (hcc : c ≠ 0) {ye vs : List Nat} (hN : N ≤ 1900) {K : AH → RS} : ∀ (k f i : Nat) (h : AH) (κ : Nat → Nat) (cap : Nat) (ys ws : List Nat), i + k = ye.length → k < f → GH B h → AL (fc 0 κ h) le arr cape ye → BXS (fc 0 κ h) ye vs → QD c κ h d cap ys → BXS (fc 0 κ h) ys ws → ys.length + k ≤ N → cap ≤ 2 * N + 17 → k ≤ hcl h → 16 * N + 148 ≤ hsl h + 4 * cap →
    ∃ h' κ' cap' ys', f_X1_addAll_L2 K f (some le) (some d) (nI i) h = K h' ∧ QD c κ' h' d cap' ys' ∧ BXS (fc 0 κ' h') ys' (ws ++ vs.drop i) ∧ cap' ≤ 2 * N + 17 ∧ KC (fun k => k = c) κ h κ' h' ∧ GH B h' ∧ hcl h ≤ hcl h' + k ∧ hsl h + 4 * cap ≤ hsl h' + 4 * cap' ∧ (∀ q, κ' q = κ q ∨ κ' q = c) := by
  intro k
  induction k with
  | zero =>
    intro f i h κ cap ys ws h1 h2 g A bs Q bq hl hcap hc hs
    obtain ⟨f, rfl⟩ : ∃ f', f = f' + 1 := ⟨f - 1, by omega⟩
    have Ah := A.ext (fc_ext g)
    have hcp := Ah.2.1
    have hyl := Ah.1
    unfold f_X1_addAll_L2
    rw [Ah.rc, p_lsize Ah, cI_rt, if_pos (nI_le (by omega) (by omega))]
    refine ⟨h, κ, cap, ys, rfl, Q, ?_, hcap, KC.rf, g, by omega, by omega, fun _ => Or.inl rfl⟩
    rw [List.drop_eq_nil_of_le (by have := bs.1; omega), List.append_nil]
    exact bq
  | succ k ih =>
    intro f i h κ cap ys ws h1 h2 g A bs Q bq hl hcap hc hs
    obtain ⟨f, rfl⟩ : ∃ f', f = f' + 1 := ⟨f - 1, by omega⟩
    have x := fc_ext (c := 0) (κ := κ) g
    have Ah := A.ext x
    have hcp := Ah.2.1
    have hyl := Ah.1
    have hv := bs.1
    unfold f_X1_addAll_L2
    rw [Ah.rc, p_lsize Ah, cI_rt, if_neg (fun z => by have := (nI_leI (by omega) (by omega)).mp z; omega), Ah.rc, p_lget Ah (by omega), cA_rt]
    obtain ⟨bi, bi2⟩ := bs.2 i (by omega)
    obtain ⟨arrq, hdq, q1⟩ := id Q
    rw [(q1.ext (fc_ext g)).rc]
    obtain ⟨h2', κ2, cap2, f1, f2, f2', f3, f4, f5, f6⟩ := c_qadd g (N := N) Q (bi.el.ext x) (fun z hz => (bq.el z hz).ext x) (by omega) hcap (by omega) (by omega) (by omega)
    rw [f1, cV_rt, nI_1]
    have x0 := f3.ext g f4 (c := 0) (by omega)
    obtain ⟨h3', κ3, cap3, ys3, s1, s2, s3, s4, s5, s6, s7, s8⟩ := ih f (i + 1) h2' κ2 cap2 _ (ws ++ [vs.getD i 0]) (by omega) (by omega) f4 (A.ext x0) (bs.ext x0) f2 ((bq.ext x0).ap (bi.ext x0) bi2) (by rw [List.length_append, List.length_singleton]; omega) f2' (by omega) (by omega)
    refine ⟨h3', κ3, cap3, ys3, s1, s2, ?_, s4, f3.tr s5, s6, by omega, by omega, fun q => ?_⟩
    rotate_left
    · rcases s8.2 q with z | z
      · rw [z]; exact f6.2 q
      · exact Or.inr z
    rw [drop_g 0 (show i < vs.length by omega)]
    rw [List.append_assoc] at s3
    exact s3
/-- a recovery in the descent -/
def RD (κ : Nat → Nat) (h : AH) (r im ua d oc lc ob lb lt lg lk b : Nat) (m : Nat → Nat) (n : Nat) (es : List Nat) (t : Nat) (S : ST) (Kc Ks : Nat) : Prop :=
  (fc 0 κ h).1 r = some (.inr (4, RF im ua d oc ob lt lg lk b)) ∧ (fc 0 κ h).1 oc = some (.inr (5, [.ref lc])) ∧ (fc 0 κ h).1 ob = some (.inr (5, [.ref lb])) ∧
  IM (fc 0 κ h) im m n es t ∧ UA κ h ua n S.1 ∧ SB 18 κ h b (fun a => decide (S.1 a = 1)) ∧ (∀ q, κ q ≠ 19 ∧ κ q ≠ 20) ∧
  ∃ (capd capc capb capt : Nat) (yd yc yb yt : List Nat), QD 12 κ h d capd yd ∧ BXS (fc 0 κ h) yd S.2.1 ∧ capd ≤ 1817 ∧ LA 13 κ h lc capc yc ∧ BXS (fc 0 κ h) yc S.2.2.1 ∧ LA 14 κ h lb capb yb ∧ BXS (fc 0 κ h) yb S.2.2.2.1 ∧
    LA 15 κ h lt capt yt ∧ (yt.length = S.2.2.2.2.length ∧ ∀ i, i < S.2.2.2.2.length → TB (fc 0 κ h) m (yt.getD i 0) (S.2.2.2.2.getD i T0)) ∧
    Kc + 2 * S.2.1.length + 70 * c0 n S.1 ≤ hcl h ∧ Ks + S.2.1.length + 150 * c0 n S.1 ≤ hsl h + 4 * (capd + capc + capb + capt)
theorem RD.w {S : ST} {Kc Ks Kc' Ks' : Nat} (R : RD κ h r im ua d oc lc ob lb lt lg lk b m n es t S Kc Ks) (h1 : Kc' ≤ Kc) (h2 : Ks' ≤ Ks) : RD κ h r im ua d oc lc ob lb lt lg lk b m n es t S Kc' Ks' := by
  obtain ⟨r1, r2, r3, r4, r5, r6, r7, capd, capc, capb, capt, yd, yc, yb, yt, a1, a2, a3, a4, a5, a6, a7, a8, a9, a10, a11⟩ := R
  exact ⟨r1, r2, r3, r4, r5, r6, r7, capd, capc, capb, capt, yd, yc, yb, yt, a1, a2, a3, a4, a5, a6, a7, a8, a9, by omega, by omega⟩
abbrev SF6 : Nat → Prop := fun k => k = 11 ∨ k = 12 ∨ k = 13 ∨ k = 14 ∨ k = 15 ∨ k = 18
/-- the lists of tables -/
theorem tb_el {H : AH} {yt : List Nat} {tb : List TT} (hy : yt.length = tb.length) (hT : ∀ i, i < tb.length → TB H m (yt.getD i 0) (tb.getD i T0)) : ∀ z ∈ yt, EL H z := fun z hz => by
  obtain ⟨i, hi, rfl⟩ := List.mem_iff_getElem.mp hz
  have := hT i (by omega)
  rw [List.getD_eq_getElem?_getD, List.getElem?_eq_getElem hi] at this
  exact TB.el this
/-- the end of an accepted instruction -/
theorem c_175 (g : GH B h) (hr : rd h r = some (.inr (4, RF im ua d oc ob lt lg lk b))) (I : IM h im m n es t) {a : Nat} (ha : a < n) : f_X5_follow_J175 (some r) (nI a) (nI (zl m a)) h = rtI (oI (if ze m a = true then none else some (a + zl m a))) h := by
  unfold f_X5_follow_J175
  rw [gA_v (o := some im) hr rfl, I.rcv, i_ends I ha, cI_rt, nI_add]
  cases ze m a with
  | true => rw [b0t, if_pos rfl]; rfl
  | false => rw [b0f, if_neg (by decide)]; rfl
theorem tbs_ap {H : AH} {yt : List Nat} {tb : List TT} {y : Nat} {T : TT} (hy : yt.length = tb.length ∧ ∀ i, i < tb.length → TB H m (yt.getD i 0) (tb.getD i T0)) (h1 : TB H m y T) : (yt ++ [y]).length = (tb ++ [T]).length ∧ ∀ i, i < (tb ++ [T]).length → TB H m ((yt ++ [y]).getD i 0) ((tb ++ [T]).getD i T0) := by
  refine ⟨by rw [List.length_append, List.length_append, hy.1]; rfl, fun i hi => ?_⟩
  rw [List.length_append, List.length_singleton] at hi
  by_cases hit : i = tb.length
  · have e1 : (yt ++ [y]).getD i 0 = y := by rw [hit, ← hy.1, getD_ae]
    have e2 : (tb ++ [T]).getD i T0 = T := by rw [hit, List.getD_eq_getElem?_getD, List.getElem?_append_right (Nat.le_refl _)]; simp
    rw [e1, e2]; exact h1
  · have e2 : (tb ++ [T]).getD i T0 = tb.getD i T0 := by rw [List.getD_eq_getElem?_getD, List.getElem?_append_left (by omega), List.getD_eq_getElem?_getD]
    rw [getD_ap (by omega), e2]
    exact hy.2 i (by omega)
theorem tbs_ext {H H' : AH} {yt : List Nat} {tb : List TT} (x : Ext H H') (hy : yt.length = tb.length ∧ ∀ i, i < tb.length → TB H m (yt.getD i 0) (tb.getD i T0)) : yt.length = tb.length ∧ ∀ i, i < tb.length → TB H' m (yt.getD i 0) (tb.getD i T0) := ⟨hy.1, fun i hi => (hy.2 i hi).ext x⟩
/-- behind the marks: target, table, end -/
theorem c_107 {S : ST} {Kc Ks : Nat} (g : GH B h) (hKs : 20000 ≤ Ks) (sg : SG m n S) (hw : S.2.1.length ≤ 4 + 8 * c2 n S.1) {a : Nat} (hv : zv m n a = true) (h1 : tk (S.1 a) = false) (h2 : tk (S.1 (a + zl m a - 1)) = false)
    (R : RD κ h r im ua d oc lc ob lb lt lg lk b m n es t (mk1 m S.1 a, S.2) (Kc + 60 * zl m a) (Ks + 130 * zl m a)) :
    ∃ h' κ', f_X5_follow_J107 (some r) (nI a) (nI (zl m a)) h = rtI (oI (if ze m a = true then none else some (a + zl m a))) h' ∧ RD κ' h' r im ua d oc lc ob lb lt lg lk b m n es t (acc m n S a) Kc Ks ∧ KC SF6 κ h κ' h' ∧ GH B h' := by
  obtain ⟨r1, r2, r3, r4, r5, r6, r7, capd, capc, capb, capt, yd, yc, yb, yt, a1, a2, a3, a4, a5, a6, a7, a8, a9, a10, a11⟩ := R
  have hn := r4.n96
  have hm := r4.byt
  obtain ⟨v1, v2, v3, v4⟩ := zv_f hv
  have hz := zl_12 m a
  have ug := sg.ug
  have e0 := tk_f h1 (ug.2.1 _)
  have e1 := tk_f h2 (ug.2.1 _)
  have ug1 := mk1_g ug hv e0 e1
  obtain ⟨k1, k2⟩ := mk1_c hv e0 e1
  have hc2 := c2_le (n := n) (u := mk1 m S.1 a)
  obtain ⟨g1, g2, g3, g4, g5, g6, g7, g8, g9, g10, g11⟩ := id sg
  have lcf : yc.length ≤ 96 := by have := nodup_le g7 g6; have := a5.1; simp only at this; omega
  have lbd : yb.length ≤ 256 := by have := nodup_le g9 g8; have := a7.1; simp only at this; omega
  have ltb : yt.length ≤ 48 := by have := a9.1; simp only at this; omega
  have lwl : yd.length = S.2.1.length := a2.1
  have cpc : capc ≤ 202 := by obtain ⟨_, _, _, z⟩ := a4; omega
  have cpb : capb ≤ 522 := by obtain ⟨_, _, _, z⟩ := a6; omega
  have cpt : capt ≤ 106 := by obtain ⟨_, _, _, z⟩ := a8; omega
  simp only at a10 a11 a2 a5 a7 a9
  -- the table
  have J136 : ∀ (h2 : AH) (κ2 : Nat → Nat) (capd2 : Nat) (yd2 : List Nat), GH B h2 → KC SF6 κ h κ2 h2 → Ext (fc 0 κ h) (fc 0 κ2 h2) → Ext (fc 11 κ h) (fc 11 κ2 h2) → Ext (fc 13 κ h) (fc 13 κ2 h2) → Ext (fc 14 κ h) (fc 14 κ2 h2) → Ext (fc 15 κ h) (fc 15 κ2 h2) → Ext (fc 18 κ h) (fc 18 κ2 h2) → (∀ q, κ2 q ≠ 19 ∧ κ2 q ≠ 20) →
      QD 12 κ2 h2 d capd2 yd2 → BXS (fc 0 κ2 h2) yd2 (wl1 m S.2.1 a) → capd2 ≤ 1817 → (zk m a = 9 → wl1 m S.2.1 a = S.2.1) → (wl1 m S.2.1 a).length ≤ S.2.1.length + 1 →
      Kc + 58 * zl m a + 2 * (wl1 m S.2.1 a).length + 70 * c0 n (mk1 m S.1 a) ≤ hcl h2 → Ks + 125 * zl m a + (wl1 m S.2.1 a).length + 150 * c0 n (mk1 m S.1 a) ≤ hsl h2 + 4 * (capd2 + capc + capb + capt) →
      ∃ h' κ', f_X5_follow_J136 (some r) (nI a) (nI (zl m a)) h2 = rtI (oI (if ze m a = true then none else some (a + zl m a))) h' ∧ RD κ' h' r im ua d oc lc ob lb lt lg lk b m n es t (acc m n S a) Kc Ks ∧ KC SF6 κ h κ' h' ∧ GH B h' := by
    intro h2 κ2 capd2 yd2 gg kk x0 x11 x13 x14 x15 x18 hno Q2 B2 hcd hw9 hwl hcl2 hsl2
    have hr2 := x0.1 _ _ r1
    have I2 := r4.ext x0
    have I2h := I2.ext (fc_ext gg)
    unfold f_X5_follow_J136
    rw [gA_v (o := some im) (rdo (fc_e hr2).2) rfl, I2h.rcv, i_kind I2h v1, cI_rt]
    have hk16 := I2h.k16 v1
    by_cases h9 : zk m a = 9
    · obtain ⟨l2, t9, _⟩ := zk9 h9
      have hww := hw9 h9
      rw [hww] at B2 hcl2 hsl2
      rw [if_neg (fun z => z (by rw [h9]; rfl)), rc_v (rdo (fc_e hr2).2)]
      obtain ⟨h3, κ3, y, c1, c2', c3, c4, c5, c6, c7, c8⟩ := c_mkT gg hr2 I2 (r6.ext x18) ug1 (r5.ext x11) hno (a := a) (by omega) (by omega) (by omega)
      rw [c1, cA_rt]
      have y0 := c4.ext gg c6 (c := 0) (by omega)
      have hr3 := y0.1 _ _ hr2
      rw [gA_v (o := some lt) (rdo (fc_e hr3).2) rfl]
      have L3 := (a8.ext x15).ext (c4.ext gg c6 (c := 15) (by omega))
      obtain ⟨arrt, At⟩ := L3.al c6
      have T3 := tbs_ext (x0.tr y0) a9
      obtain ⟨h4, κ4, capt4, d1, d2, d3, d4, d5, d6⟩ := c_ladd c6 L3 (y := y) (c2'.el.ext (fc_ext c6)) (fun z hz => (tb_el T3.1 T3.2 z hz).ext (fc_ext c6)) (by omega) (by omega) (by omega)
      rw [At.rc, d1, cI_rt]
      have cpt4 : capt4 ≤ 110 := by
        obtain ⟨_, _, _, z⟩ := d2
        rw [List.length_append, List.length_singleton] at z
        omega
      have z0 := d3.ext c6 d4 (c := 0) (by omega)
      have TB4 := c2'.ext z0
      obtain ⟨on, le, arr, cape, ye, t1, t2, t3⟩ := id TB4
      have hr4 := z0.1 _ _ hr3
      rw [gA_v (o := some le) ((fc_ext d4).2.1 _ _ t1) rfl, gA_v (o := some d) (rdo (fc_e hr4).2) rfl]
      have hpl := (plc_p (m := m) (n := n) (u := mk1 m S.1 a) (zo m a) (bnd m (mk1 m S.1 a) (zf m a) 6 a)).1
      have hyel : ye.length ≤ 16 := by have := t3.1; rw [List.length_map] at this; simp only at this; omega
      have Q4 := (Q2.ext (c4.ext gg c6 (c := 12) (by omega))).ext (d3.ext c6 d4 (c := 12) (by omega))
      obtain ⟨h5, κ5, cap5, ys5, s1, s2, s3, s4, s5, s6, s7, s8⟩ := c_addAll (B := B) (c := 12) (d := d) (N := 900) (by decide) (vs := (plc m n (mk1 m S.1 a) (zo m a) (bnd m (mk1 m S.1 a) (zf m a) 6 a)).map m) (by omega) (K := fun h11 => rtV h11) ye.length FUEL 0 h4 κ4 capd2 yd2 _ (by omega) (by unfold FUEL; omega) d4 t2 t3 Q4 ((B2.ext y0).ext z0) (by have := B2.1; omega) hcd (by omega) (by omega)
      show ∃ h' κ', xcV (f_X1_addAll_L2 _ FUEL (some le) (some d) (nI 0) h4) _ = _ ∧ _
      rw [s1, cV_rt]
      have w0 := s5.ext d4 s6 (c := 0) (by omega)
      have hr5 := w0.1 _ _ hr4
      have I5 := ((I2.ext y0).ext z0).ext w0
      rw [c_175 s6 (rdo (fc_e hr5).2) (I5.ext (fc_ext s6)) v1]
      have hea : acc m n S a = (mkP (mk1 m S.1 a) (pl m n S.1 a), S.2.1 ++ (pl m n S.1 a).map m, S.2.2.1, S.2.2.2.1, S.2.2.2.2 ++ [(a, zo m a, (bn m S.1 a).map (fun p => min p.1 16), pl m n S.1 a)]) := by
        unfold acc; rw [if_pos h9, hww]
      have hp2 := (plc_p (m := m) (n := n) (u := mk1 m S.1 a) (zo m a) (bn m S.1 a)).2
      have hmc := mkP_c hp2
      have y11 : Ext (fc 11 κ3 h3) (fc 11 κ5 h5) := (d3.ext c6 d4 (c := 11) (by omega)).tr (s5.ext d4 s6 (c := 11) (by omega))
      have y13 : Ext (fc 13 κ h) (fc 13 κ5 h5) := ((x13.tr (c4.ext gg c6 (c := 13) (by omega))).tr (d3.ext c6 d4 (c := 13) (by omega))).tr (s5.ext d4 s6 (c := 13) (by omega))
      have y14 : Ext (fc 14 κ h) (fc 14 κ5 h5) := ((x14.tr (c4.ext gg c6 (c := 14) (by omega))).tr (d3.ext c6 d4 (c := 14) (by omega))).tr (s5.ext d4 s6 (c := 14) (by omega))
      have y18 : Ext (fc 18 κ h) (fc 18 κ5 h5) := ((x18.tr (c4.ext gg c6 (c := 18) (by omega))).tr (d3.ext c6 d4 (c := 18) (by omega))).tr (s5.ext d4 s6 (c := 18) (by omega))
      have yy0 : Ext (fc 0 κ h) (fc 0 κ5 h5) := ((x0.tr y0).tr z0).tr w0
      have hpl1 : (pl m n S.1 a).length ≤ 16 := hpl
      have hc0m : c0 n (mkP (mk1 m S.1 a) (pl m n S.1 a)) ≤ c0 n (mk1 m S.1 a) := hmc.1
      have hlen : (S.2.1 ++ (pl m n S.1 a).map m).length = S.2.1.length + (pl m n S.1 a).length := by rw [List.length_append, List.length_map]
      refine ⟨h5, κ5, rfl, ?_, ((kk.tr (c4.w (fun k z => Or.inl z))).tr (d3.w (fun k z => Or.inr (Or.inr (Or.inr (Or.inr (Or.inl z))))))).tr (s5.w (fun k z => Or.inr (Or.inl z))), s6⟩
      rw [hea]
      refine ⟨hr5, yy0.1 _ _ r2, yy0.1 _ _ r3, I5, c3.ext y11, (r6.ext y18).cg (fun q => ?_), fun q => ?_, cap5, capc, capb, capt4, ys5, yc, yb, yt ++ [y], s2, s3, s4, a4.ext y13, a5.ext yy0, a6.ext y14, a7.ext yy0, d2.ext (s5.ext d4 s6 (c := 15) (by omega)), tbs_ext w0 (tbs_ap (tbs_ext z0 T3) TB4), ?_, ?_⟩
      · show decide (mkP (mk1 m S.1 a) (pl m n S.1 a) q = 1) = decide (mk1 m S.1 a q = 1)
        apply decide_eq_decide.mpr
        unfold mkP
        by_cases hq : q ∈ pl m n S.1 a
        · have := of_decide_eq_true (hp2 q hq)
          rw [if_pos hq]
          constructor
          · intro z; omega
          · intro z; exact absurd z this.2.1
        · rw [if_neg hq]
      · -- no cell has a scratch colour
        rcases s8.2 q with z | z
        · rcases d6.2 q with z2 | z2
          · rw [z, z2]; exact c5 q
          · rw [z, z2]; decide
        · rw [z]; decide
      · simp only
        rw [hlen]
        omega
      · simp only
        rw [hlen]
        omega
    · rw [if_pos (show ¬ nI (zk m a) = 9 from fun z => h9 ((nI_eq (b := 9) (by omega) (by decide)).mp z)), c_175 gg (rdo (fc_e hr2).2) I2h v1]
      have hea : acc m n S a = (mk1 m S.1 a, wl1 m S.2.1 a, S.2.2) := by unfold acc; rw [if_neg h9]
      refine ⟨h2, κ2, rfl, ?_, kk, gg⟩
      rw [hea]
      exact ⟨hr2, x0.1 _ _ r2, x0.1 _ _ r3, I2, r5.ext x11, r6.ext x18, hno, capd2, capc, capb, capt, yd2, yc, yb, yt, Q2, B2, hcd, a4.ext x13, a5.ext x0, a6.ext x14, a7.ext x0, a8.ext x15, tbs_ext x0 a9, by simp only; omega, by simp only; omega⟩
  unfold f_X5_follow_J107
  have hrh := rdo (fc_e r1).2
  have Ih := r4.ext (fc_ext g)
  rw [gA_v (o := some im) hrh rfl, Ih.rcv, i_hasT Ih v1, cI_rt]
  cases ht : zt m a with
  | false =>
    rw [b0f]
    have hww : wl1 m S.2.1 a = S.2.1 := by unfold wl1; rw [ht]; rfl
    exact J136 h κ capd yd g KC.rf Ext.rf Ext.rf Ext.rf Ext.rf Ext.rf Ext.rf r7 a1 (by rw [hww]; exact a2) a3 (fun _ => hww) (by rw [hww]; omega) (by rw [hww]; omega) (by rw [hww]; omega)
  | true =>
    have l2 := zt_l ht
    have hzq := zq_lt hv ht
    have hww : wl1 m S.2.1 a = S.2.1 ++ [zq m a] := by unfold wl1; rw [ht]; rfl
    have hwl2 : (wl1 m S.2.1 a).length = S.2.1.length + 1 := by rw [hww, List.length_append, List.length_singleton]
    rw [b0t, gA_v (o := some d) hrh rfl, gA_v (o := some im) hrh rfl, Ih.rcv, i_tgt Ih (by omega), cI_rt, ← hzq.2, ← iI_nI]
    obtain ⟨y, h2, κ2, c1, c2', c3, c4, c5, c6⟩ := c_box g (v := zq m a) (by omega) (by omega) (by omega) κ
    rw [c1, cA_rt]
    have y0 := c3.ext g c4 (c := 0) (fun z => z)
    have Q2 := a1.ext (c3.ext g c4 (c := 12) (fun z => z))
    have B2 := a2.ext y0
    obtain ⟨arrq, hdq, q1⟩ := id Q2
    obtain ⟨h3, κ3, cap3, f1, f2, f2', f3, f4, f5, f6⟩ := c_qadd c4 (N := 900) Q2 (c2'.el.ext (fc_ext c4)) (fun z hz => (B2.el z hz).ext (fc_ext c4)) (by omega) a3 (by omega) (by omega) (by omega)
    rw [(q1.ext (fc_ext c4)).rc, f1, cV_rt]
    have z0 := f3.ext c4 f4 (c := 0) (by omega)
    refine J136 h3 κ3 cap3 _ f4 ((c3.w (fun k z => z.elim)).tr (f3.w (fun k z => Or.inr (Or.inl z)))) (y0.tr z0) ((c3.ext g c4 (c := 11) (fun z => z)).tr (f3.ext c4 f4 (c := 11) (by omega))) ((c3.ext g c4 (c := 13) (fun z => z)).tr (f3.ext c4 f4 (c := 13) (by omega))) ((c3.ext g c4 (c := 14) (fun z => z)).tr (f3.ext c4 f4 (c := 14) (by omega))) ((c3.ext g c4 (c := 15) (fun z => z)).tr (f3.ext c4 f4 (c := 15) (by omega))) ((c3.ext g c4 (c := 18) (fun z => z)).tr (f3.ext c4 f4 (c := 18) (by omega))) (fun q => ?_) f2 (by rw [hww]; exact (B2.ext z0).ap (c2'.ext z0) (by omega)) f2' (fun z => ?_) (by omega) (by omega) (by omega)
    · rcases f6.2 q with z | z
      · rcases c6.2 q with z2 | z2
        · rw [z, z2]; exact r7 q
        · rw [z, z2]; decide
      · rw [z]; decide
    · have := (zk9 z).2.1
      rw [ht] at this; cases this
end
