/-! PURE: leaders from tables; all leaders; heads -/
set_option maxRecDepth 100000
section
variable {B : Nat} {h h' : AH} {κ κ' : Nat → Nat} {r im ua d oc lc ob lb lt lg lk b : Nat} {m : Nat → Nat} {n t : Nat} {es : List Nat} {c : Nat} {S : Nat → Prop}
theorem FS.tbl {bs cap Kc Ks : Nat} {T : Nat → Bool} (s : FS B κ h r im ua d oc lc ob lb lt lg lk b m n es t bs cap T Kc Ks) : ∃ arr cp yt, AL h lt arr cp yt ∧ (yt.length = (dS m n es).2.2.2.2.length ∧ ∀ i, i < (dS m n es).2.2.2.2.length → TB h m (yt.getD i 0) ((dS m n es).2.2.2.2.getD i T0)) := by
  obtain ⟨arr, cp, yt, a1, a2⟩ := s.2.1.2.2.2.2.2.2.1
  exact ⟨arr, cp, yt, a1.ext (fc_ext s.1), tbs_ext (fc_ext s.1) a2⟩
theorem c_fl131 {bs Kc Ks i : Nat} (hKc : 9 ≤ Kc) (hKs : 22 ≤ Ks) (hi : i < (dS m n es).2.2.2.2.length) {K : Option Nat → Option Nat → Int32 → AH → RS} : ∀ (k f p : Nat) (h : AH) (κ : Nat → Nat) (cap : Nat) (T : Nat → Bool), p + k = ((dS m n es).2.2.2.2.getD i T0).2.2.2.length → k < f → FS B κ h r im ua d oc lc ob lb lt lg lk b m n es t bs cap T Kc Ks →
    ∃ h' κ' cap' T', f_X5_findLeaders_L131 K f (some r) (some bs) (nI i) (nI p) h = K (some r) (some bs) (nI i) h' ∧ FS B κ' h' r im ua d oc lc ob lb lt lg lk b m n es t bs cap' T' Kc Ks ∧ (∀ j, T' j = true ↔ T j = true ∨ ∃ x ∈ ((dS m n es).2.2.2.2.getD i T0).2.2.2.drop p, j = m x) ∧ KC (fun k => k = 24) κ h κ' h' ∧ (∀ q, κ' q = κ q ∨ κ' q = 24) := by
  intro k
  induction k with
  | zero =>
    intro f p h κ cap T h1 h2 s
    obtain ⟨f, rfl⟩ : ∃ f', f = f' + 1 := ⟨f - 1, by omega⟩
    obtain ⟨_, _, _, _, _, _, _, _, _, sg10, sg11⟩ := s.sg
    obtain ⟨arr, cp, yt, A, hy, hT⟩ := s.tbl
    obtain ⟨on, le, ar2, cp2, ye, b1, b2, b3⟩ := hT i hi
    have hle := b3.1
    rw [List.length_map] at hle
    have h16 := (sg10 _ (List.mem_of_getElem? (l := (dS m n es).2.2.2.2) (i := i) (a := (dS m n es).2.2.2.2.getD i T0) (by rw [List.getD_eq_getElem?_getD, List.getElem?_eq_getElem hi]; rfl))).2.2.2.1
    unfold f_X5_findLeaders_L131
    rw [gA_v (o := some lt) s.hr rfl, A.rc, p_lget A (by omega), cA_rt, ck_v b1 (by decide), gA_v (o := some le) b1 rfl, b2.rc, p_lsize b2, cI_rt, if_pos (nI_le (by omega) (by omega))]
    exact ⟨h, κ, cap, T, rfl, s, fun j => by rw [List.drop_of_length_le (by omega)]; simp, KC.rf, fun _ => Or.inl rfl⟩
  | succ k ih =>
    intro f p h κ cap T h1 h2 s
    obtain ⟨f, rfl⟩ : ∃ f', f = f' + 1 := ⟨f - 1, by omega⟩
    have hn := s.img.n96
    obtain ⟨_, _, _, _, _, _, _, _, _, sg10, sg11⟩ := s.sg
    obtain ⟨arr, cp, yt, A, hy, hT⟩ := s.tbl
    obtain ⟨on, le, ar2, cp2, ye, b1, b2, b3⟩ := hT i hi
    have hle := b3.1
    rw [List.length_map] at hle
    have hTg := sg10 _ (List.mem_of_getElem? (l := (dS m n es).2.2.2.2) (i := i) (a := (dS m n es).2.2.2.2.getD i T0) (by rw [List.getD_eq_getElem?_getD, List.getElem?_eq_getElem hi]; rfl))
    generalize hTi : ((dS m n es).2.2.2.2.getD i T0).2.2.2 = ps at h1 b3 hle ih ⊢
    rw [hTi] at hTg
    have hp : p < ps.length := by omega
    have hbx := (b3.2 p (by rw [List.length_map]; exact hp)).1
    rw [List.getD_eq_getElem?_getD (l := ps.map m), List.getElem?_map, List.getElem?_eq_getElem hp] at hbx
    have hbx : BX h (ye.getD p 0) (nI (m ps[p])) := hbx
    have hm := s.img.byt _ (hTg.2.2.2.2 ps[p] (List.getElem_mem hp))
    unfold f_X5_findLeaders_L131
    rw [gA_v (o := some lt) s.hr rfl, A.rc, p_lget A (by omega), cA_rt, ck_v b1 (by decide), gA_v (o := some le) b1 rfl, b2.rc, p_lsize b2, cI_rt, if_neg (fun z => by have := (nI_leI (by omega) (by omega)).mp z; omega)]
    rw [gA_v (o := some lt) s.hr rfl, A.rc, p_lget A (by omega), cA_rt, ck_v b1 (by decide), gA_v (o := some le) b1 rfl, b2.rc, p_lget b2 (by omega), cA_rt, ck_v hbx (by decide), rc_v hbx, p_intValue hbx, cI_rt]
    obtain ⟨h1', κ1, cap1, e1, e2, e3, e4⟩ := fs_set s hKc hKs (x := m ps[p]) (by omega) (X := fun h83 => f_X5_findLeaders_L131 K f (some r) (some bs) (nI i) (nI p + 1) h83)
    rw [e1, nI_1]
    obtain ⟨h2', κ2, cap2, T2, d1, d2, d3, d4, d5⟩ := ih f (p + 1) h1' κ1 cap1 _ (by omega) (by omega) e2
    refine ⟨h2', κ2, cap2, T2, d1, d2, fun j => ?_, e3.tr d4, fun q => by rcases d5 q with z | z <;> rcases e4 q with y | y <;> omega⟩
    rw [d3 j, Bool.or_eq_true, decide_eq_true_eq, or_assoc, List.drop_eq_getElem_cons hp]
    simp only [List.mem_cons, exists_eq_or_imp]
theorem c_fl118 {bs Kc Ks : Nat} (hKc : 9 ≤ Kc) (hKs : 22 ≤ Ks) {K : Option Nat → Option Nat → AH → RS} : ∀ (k f i : Nat) (h : AH) (κ : Nat → Nat) (cap : Nat) (T : Nat → Bool), i + k = (dS m n es).2.2.2.2.length → k < f → FS B κ h r im ua d oc lc ob lb lt lg lk b m n es t bs cap T Kc Ks →
    ∃ h' κ' cap' T', f_X5_findLeaders_L118 K f (some r) (some bs) (nI i) h = K (some r) (some bs) h' ∧ FS B κ' h' r im ua d oc lc ob lb lt lg lk b m n es t bs cap' T' Kc Ks ∧ (∀ j, T' j = true ↔ T j = true ∨ ∃ Q ∈ (dS m n es).2.2.2.2.drop i, ∃ x ∈ Q.2.2.2, j = m x) ∧ KC (fun k => k = 24) κ h κ' h' ∧ (∀ q, κ' q = κ q ∨ κ' q = 24) := by
  intro k
  induction k with
  | zero =>
    intro f i h κ cap T h1 h2 s
    obtain ⟨f, rfl⟩ : ∃ f', f = f' + 1 := ⟨f - 1, by omega⟩
    have hn := s.img.n96
    obtain ⟨_, _, _, _, _, _, _, _, _, sg10, sg11⟩ := s.sg
    have hc2 := c2_le (n := n) (u := (dS m n es).1)
    obtain ⟨arr, cp, yt, A, hy, hT⟩ := s.tbl
    unfold f_X5_findLeaders_L118
    rw [gA_v (o := some lt) s.hr rfl, A.rc, p_lsize A, cI_rt, if_pos (nI_le (by omega) (by omega))]
    exact ⟨h, κ, cap, T, rfl, s, fun j => by rw [List.drop_of_length_le (by omega)]; simp, KC.rf, fun _ => Or.inl rfl⟩
  | succ k ih =>
    intro f i h κ cap T h1 h2 s
    obtain ⟨f, rfl⟩ : ∃ f', f = f' + 1 := ⟨f - 1, by omega⟩
    have hn := s.img.n96
    obtain ⟨_, _, _, _, _, _, _, _, _, sg10, sg11⟩ := s.sg
    have hc2 := c2_le (n := n) (u := (dS m n es).1)
    obtain ⟨arr, cp, yt, A, hy, hT⟩ := s.tbl
    have hi : i < (dS m n es).2.2.2.2.length := by omega
    have he : (dS m n es).2.2.2.2.getD i T0 = (dS m n es).2.2.2.2[i] := by rw [List.getD_eq_getElem?_getD, List.getElem?_eq_getElem hi]; rfl
    have hTg := sg10 _ (List.getElem_mem hi)
    unfold f_X5_findLeaders_L118
    rw [gA_v (o := some lt) s.hr rfl, A.rc, p_lsize A, cI_rt, if_neg (fun z => by have := (nI_leI (by omega) (by omega)).mp z; omega)]
    obtain ⟨h1', κ1, cap1, T1, e1, e2, e3, e4, e5⟩ := c_fl131 (B := B) (r := r) (im := im) (ua := ua) (d := d) (oc := oc) (lc := lc) (ob := ob) (lb := lb) (lt := lt) (lg := lg) (lk := lk) (b := b) (t := t) (bs := bs) hKc hKs hi (K := fun x85 x86 x87 h88 => f_X5_findLeaders_L118 K f x85 x86 (x87 + 1) h88) ((dS m n es).2.2.2.2.getD i T0).2.2.2.length FUEL 0 h κ cap T (Nat.zero_add _) (by rw [he]; unfold FUEL; omega) s
    show ∃ h' κ' cap' T', f_X5_findLeaders_L131 _ FUEL (some r) (some bs) (nI i) (nI 0) h = _ ∧ _
    rw [e1, nI_1]
    obtain ⟨h2', κ2, cap2, T2, d1, d2, d3, d4, d5⟩ := ih f (i + 1) h1' κ1 cap1 T1 (by omega) (by omega) e2
    refine ⟨h2', κ2, cap2, T2, d1, d2, fun j => ?_, e4.tr d4, fun q => by rcases d5 q with z | z <;> rcases e5 q with y | y <;> omega⟩
    rw [d3 j, e3 j, List.drop_eq_getElem_cons hi, he, List.drop_zero, or_assoc]
    simp only [List.mem_cons, exists_eq_or_imp]
/-- the leaders -/
theorem isL_iff (sg : SG m n (dS m n es)) (j : Nat) : isL m (dU m n es) n es (dS m n es).2.2.2.2 j = true ↔ dU m n es j = 1 ∧ (((j ∈ es ∨ ∃ a, dU m n es a = 1 ∧ ((zt m a = true ∧ j = zq m a) ∨ (zb m a = true ∧ j = a + zl m a)))) ∨ ∃ Q ∈ (dS m n es).2.2.2.2, ∃ x ∈ Q.2.2.2, j = m x) := by
  obtain ⟨sg1, sg2, sg3, _⟩ := sg
  have sg1 : ∀ a, n ≤ a → dU m n es a = 0 := sg1
  have sg3 : ∀ a, dU m n es a = 1 → zv m n a = true ∧ _ := sg3
  unfold isL isG isT isE
  simp only [Bool.and_eq_true, Bool.or_eq_true, decide_eq_true_eq, anF_iff, List.any_eq_true, pG, if_neg (show ¬ (false = true) by decide)]
  refine and_congr Iff.rfl ?_
  constructor
  · rintro (((q | ⟨p, _, p2, ⟨p3, p4⟩, p5⟩) | ⟨Q, q1, x, q2, q3⟩) | (⟨q1, q2, q3, q4⟩ | ⟨q1, q2, q3, q4⟩))
    · exact Or.inl (Or.inl q)
    · exact Or.inl (Or.inr ⟨p, p3, Or.inl ⟨p4, by unfold zq; omega⟩⟩)
    · exact Or.inr ⟨Q, q1, x, q2, q3.symm⟩
    · exact Or.inl (Or.inr ⟨j - 1, q2, Or.inr ⟨q4, by omega⟩⟩)
    · exact Or.inl (Or.inr ⟨j - 2, q2, Or.inr ⟨q4, by omega⟩⟩)
  · rintro ((q | ⟨a, a1, ⟨a2, a3⟩ | ⟨a2, a3⟩⟩) | ⟨Q, q1, x, q2, q3⟩)
    · exact Or.inl (Or.inl (Or.inl q))
    · have hv := (sg3 a a1).1
      have hz := zv_f hv
      exact Or.inl (Or.inl (Or.inr ⟨a, Nat.zero_le _, by omega, ⟨a1, a2⟩, by have := hz.2.2.2 a2; rw [a3]; unfold zq; omega⟩))
    · rcases zl_12 m a with hl | hl
      · exact Or.inr (Or.inl ⟨by omega, by rw [show j - 1 = a by omega]; exact a1, by rw [show j - 1 = a by omega]; exact hl, by rw [show j - 1 = a by omega]; exact a2⟩)
      · exact Or.inr (Or.inr ⟨by omega, by rw [show j - 2 = a by omega]; exact a1, by rw [show j - 2 = a by omega]; exact hl, by rw [show j - 2 = a by omega]; exact a2⟩)
    · exact Or.inl (Or.inr ⟨Q, q1, x, q2, q3.symm⟩)
theorem beq_of {a b : Bool} (h : a = true ↔ b = true) : a = b := by
  cases a <;> cases b <;> simp_all
theorem c_lead (g : GH B h) (R : RX (fc 0 κ h) r im ua d oc lc ob lb lt lg lk b m n es t) (hc : 20 ≤ hcl h) (hs : 60 ≤ hsl h) :
    ∃ h' κ' cap', f_X5_findLeaders (some r) h = rtA (some (hsz h)) h' ∧ FS B κ' h' r im ua d oc lc ob lb lt lg lk b m n es t (hsz h) cap' (isL m (dU m n es) n es (dS m n es).2.2.2.2) (hcl h - 1) (hsl h - 2) ∧ KC (fun k => k = 24) κ h κ' h' ∧ (∀ q, κ' q = κ q ∨ κ' q = 24) := by
  have k1 : KC (fun k => k = 24) κ h (nk 24 κ h) (hnew h (.inr (13, fsJ20)) 3) := KC.new (by omega) (by omega)
  have g1 : GH B (hnew h (.inr (13, fsJ20)) 3) := g.new
  obtain ⟨h2, e1, e2, e3, e4, e5, e6, e7⟩ := c_bnew2 (κ := nk 24 κ h) (c := 24) g1 (b := hsz h) hnew_s (nk_n (Nat.le_refl _)) (by show 1 ≤ hcl h - 1; omega) (by show 1 ≤ hsl h - 3; omega)
  have e6' : hcl h - 1 ≤ hcl h2 + 1 := e6
  have e7' : hsl h - 3 ≤ hsl h2 + 1 := e7
  have R2 := (R.ext (k1.ext g g1 (c := 0) (by decide))).ext (e3.ext g1 e4 (c := 0) (by decide))
  have o2 : ∀ q, nk 24 (nk 24 κ h) (hnew h (.inr (13, fsJ20)) 3) q = κ q ∨ nk 24 (nk 24 κ h) (hnew h (.inr (13, fsJ20)) 3) q = 24 := fun q => by
    rcases nk_or (c := 24) (κ := nk 24 κ h) (h := hnew h (.inr (13, fsJ20)) 3) (q := q) with z | z
    · rw [z]; exact nk_or
    · exact Or.inr z
  have kk2 := k1.tr e3
  unfold f_X5_findLeaders
  rw [nO_v (by omega) (by omega), nn_v, e1, cV_rt]
  generalize nk 24 (nk 24 κ h) (hnew h (.inr (13, fsJ20)) 3) = κ2 at *
  have s2 : FS B κ2 h2 r im ua d oc lc ob lb lt lg lk b m n es t (hsz h) 1 (fun _ => false) (hcl h - 1) (hsl h - 2) := ⟨e4, R2, e2, by omega, by omega⟩
  obtain ⟨h3, κ3, cap3, T3, d1, d2, d3, d4, d5⟩ := c_fl10 (B := B) (bs := hsz h) (Kc := hcl h - 1) (Ks := hsl h - 2) (by omega) (by omega) (K := fun x16 x17 h18 => xgA h18 x16 4 8 (fun v19 => xrc h18 v19 13 (xcI (f_J20_nextSetBit v19 0 h18) (fun v21 h20 => f_X5_findLeaders_L50 (fun x54 x55 h56 => f_X5_findLeaders_L118 (fun x90 x91 h92 => xgA h92 x90 4 8 (fun v93 => xrc h92 x91 13 (xcV (f_J20_and x91 v93 h92) (fun h94 => rtA x91 h94)))) FUEL x54 x55 0 h56) FUEL x16 x17 v21 h20)))) es.length FUEL 0 h2 κ2 1 _ (Nat.zero_add _) (by have := s2.img.e4; unfold FUEL; omega) s2
  obtain ⟨ar3, cp3, A3⟩ := d2.acc
  obtain ⟨r0, n1, n2⟩ := p_bnext d2.1 A3 (x := 0) (by decide)
  rw [show f_X5_findLeaders_L10 _ FUEL (some r) (some (hsz h)) 0 h2 = _ from d1, gA_v (o := some b) d2.hr rfl, A3.rc, show f_J20_nextSetBit (some b) 0 h3 = _ from n1, cI_rt]
  obtain ⟨h4, κ4, cap4, T4, f1, f2, f3, f4, f5⟩ := c_fl50 (B := B) (bs := hsz h) (Kc := hcl h - 1) (Ks := hsl h - 2) (by omega) (by omega) (K := fun x54 x55 h56 => f_X5_findLeaders_L118 (fun x90 x91 h92 => xgA h92 x90 4 8 (fun v93 => xrc h92 x91 13 (xcV (f_J20_and x91 v93 h92) (fun h94 => rtA x91 h94)))) FUEL x54 x55 0 h56) 97 FUEL 0 r0 h3 κ3 cap3 T3 (by omega) (by omega) (by unfold FUEL; omega) n2 d2
  rw [f1]
  have hc2 := c2_le (n := n) (u := (dS m n es).1)
  have hn := s2.img.n96
  obtain ⟨_, _, _, _, _, _, _, _, _, sg10, sg11⟩ := s2.sg
  obtain ⟨h5, κ5, cap5, T5, p1, p2, p3, p4, p5⟩ := c_fl118 (B := B) (bs := hsz h) (Kc := hcl h - 1) (Ks := hsl h - 2) (by omega) (by omega) (K := fun x90 x91 h92 => xgA h92 x90 4 8 (fun v93 => xrc h92 x91 13 (xcV (f_J20_and x91 v93 h92) (fun h94 => rtA x91 h94)))) (dS m n es).2.2.2.2.length FUEL 0 h4 κ4 cap4 T4 (Nat.zero_add _) (by unfold FUEL; omega) f2
  rw [show f_X5_findLeaders_L118 _ FUEL (some r) (some (hsz h)) 0 h4 = _ from p1, gA_v (o := some b) p2.hr rfl]
  obtain ⟨g5, R5, N5, b5, b5'⟩ := id p2
  obtain ⟨ar5, cp5, A5⟩ := R5.2.2.2.1
  obtain ⟨ar6, N6⟩ := N5
  obtain ⟨k61, k62⟩ := N6.cl
  obtain ⟨k63, k64⟩ := A5.cl
  obtain ⟨h6, q1, q2, q3, q4⟩ := p_band g5 (N6.ext (fc_ext g5)) (A5.ext (fc_ext g5)) (fun z => by rw [z, k63] at k61; cases k61) (fun z => by rw [z, k64] at k62; cases k62)
  rw [(N6.ext (fc_ext g5)).rc, q1, cV_rt]
  have kc6 : KC (fun k => k = 24) κ5 h5 κ5 h6 := KC.kp q3 (fun a ha z => by
    rcases z with rfl | rfl
    · exact k61
    · exact k62) (fun _ _ => rfl)
  refine ⟨h6, κ5, cap5, rfl, ⟨q4, R5.ext (kc6.ext g5 q4 (c := 0) (by decide)), ⟨ar6, (q2.col k61 k62).cg (fun j => ?_)⟩, ?_, ?_⟩, (((kk2.tr d4).tr f4).tr p4).tr kc6, fun q => ?_⟩
  · refine beq_of ?_
    rw [isL_iff s2.sg, Bool.and_eq_true, p3 j, f3 j, d3 j, decide_eq_true_eq]
    simp only [List.drop_zero, Nat.zero_le, true_and, Bool.false_eq_true, false_or]
    exact and_comm
  · have := q3.2.2.2.1; omega
  · have := q3.2.2.2.2.1; omega
  · rcases o2 q with y | y <;> rcases d5 q with z | z <;> rcases f5 q with w | w <;> rcases p5 q with v | v <;> omega
end
