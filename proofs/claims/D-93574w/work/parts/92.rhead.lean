/-! PURE: a recovery's heads and reach -/
set_option maxRecDepth 100000
section
variable {B : Nat} {h h' : AH} {κ κ' : Nat → Nat} {r im ua d oc lc ob lb lt lg lk b : Nat} {m : Nat → Nat} {n t : Nat} {es : List Nat} {c : Nat} {S : Nat → Prop}
theorem c_fh10 {bs Kc Ks : Nat} (hKc : 9 ≤ Kc) (hKs : 22 ≤ Ks) {K : Option Nat → Option Nat → AH → RS} : ∀ (k f i : Nat) (h : AH) (κ : Nat → Nat) (cap : Nat) (T : Nat → Bool), i + k = es.length → k < f → FS B κ h r im ua d oc lc ob lb lt lg lk b m n es t bs cap T Kc Ks →
    ∃ h' κ' cap' T', f_X5_findHeads_L10 K f (some r) (some bs) (nI i) h = K (some r) (some bs) h' ∧ FS B κ' h' r im ua d oc lc ob lb lt lg lk b m n es t bs cap' T' Kc Ks ∧ (∀ j, T' j = true ↔ T j = true ∨ j ∈ es.drop i) ∧ KC (fun k => k = 24) κ h κ' h' ∧ (∀ q, κ' q = κ q ∨ κ' q = 24) := by
  intro k
  induction k with
  | zero =>
    intro f i h κ cap T h1 h2 s
    obtain ⟨f, rfl⟩ : ∃ f', f = f' + 1 := ⟨f - 1, by omega⟩
    have I := s.img
    have h4 := I.e4
    obtain ⟨ea, n1, n2, n3⟩ := I.en
    unfold f_X5_findHeads_L10
    rw [gA_v (o := some im) s.hr rfl, n1, n2, if_pos (nI_le (by omega) (by omega))]
    exact ⟨h, κ, cap, T, rfl, s, fun j => by rw [List.drop_of_length_le (by omega)]; simp, KC.rf, fun _ => Or.inl rfl⟩
  | succ k ih =>
    intro f i h κ cap T h1 h2 s
    obtain ⟨f, rfl⟩ : ∃ f', f = f' + 1 := ⟨f - 1, by omega⟩
    have I := s.img
    have h4 := I.e4
    have hn := I.n96
    obtain ⟨ea, n1, n2, n3⟩ := I.en
    have hi : i < es.length := by omega
    have hm : es.getD i 0 ∈ es := getD_mem hi
    have hlt := I.eln _ hm
    unfold f_X5_findHeads_L10
    rw [gA_v (o := some im) s.hr rfl, n1, n2, if_neg (fun z => by have := (nI_leI (by omega) (by omega)).mp z; omega), gA_v (o := some im) s.hr rfl, n1, n3 i hi]
    obtain ⟨h1', κ1, cap1, e1, e2, e3, e4⟩ := fs_set s hKc hKs (x := es.getD i 0) (by omega) (X := fun h14 => f_X5_findHeads_L10 K f (some r) (some bs) (nI i + 1) h14)
    rw [e1, nI_1]
    obtain ⟨h2', κ2, cap2, T2, d1, d2, d3, d4, d5⟩ := ih f (i + 1) h1' κ1 cap1 _ (by omega) (by omega) e2
    refine ⟨h2', κ2, cap2, T2, d1, d2, fun j => ?_, e3.tr d4, fun q => by rcases d5 q with z | z <;> rcases e4 q with y | y <;> omega⟩
    rw [d3 j, List.drop_eq_getElem_cons hi, List.mem_cons, Bool.or_eq_true, decide_eq_true_eq, List.getD_eq_getElem?_getD, List.getElem?_eq_getElem hi, Option.getD_some, or_assoc]
theorem c_fh50 {bs Kc Ks : Nat} (hKc : 9 ≤ Kc) (hKs : 22 ≤ Ks) {K : Option Nat → Option Nat → AH → RS} : ∀ (k f x : Nat) (rr : Int32) (h : AH) (κ : Nat → Nat) (cap : Nat) (T : Nat → Bool), 97 ≤ x + k → x ≤ 97 → k < f → NX (fun a => decide (dU m n es a = 1)) x rr → FS B κ h r im ua d oc lc ob lb lt lg lk b m n es t bs cap T Kc Ks →
    ∃ h' κ' cap' T', f_X5_findHeads_L50 K f (some r) (some bs) rr h = K (some r) (some bs) h' ∧ FS B κ' h' r im ua d oc lc ob lb lt lg lk b m n es t bs cap' T' Kc Ks ∧ (∀ j, T' j = true ↔ T j = true ∨ ∃ a, x ≤ a ∧ dU m n es a = 1 ∧ (zk m a = 7 ∧ j = zq m a)) ∧ KC (fun k => k = 24) κ h κ' h' ∧ (∀ q, κ' q = κ q ∨ κ' q = 24) := by
  intro k
  induction k with
  | zero =>
    intro f x rr h κ cap T h1 hx2 h2 hnx s
    obtain ⟨f, rfl⟩ : ∃ f', f = f' + 1 := ⟨f - 1, by omega⟩
    obtain ⟨sg1, sg2, sg3, _⟩ := s.sg
    have hn := s.img.n96
    rcases hnx with ⟨rfl, z⟩ | ⟨j, rfl, z1, z2, z3, z4⟩
    · refine ⟨h, κ, cap, T, ?_, s, fun j => ?_, KC.rf, fun _ => Or.inl rfl⟩
      · unfold f_X5_findHeads_L50; rw [if_pos (by decide)]
      · constructor
        · exact Or.inl
        · rintro (q | ⟨a, a1, a2, _⟩)
          · exact q
          · exact absurd a2 (of_decide_eq_false (z a a1))
    · have := sg1 j (by omega)
      have z3 : dU m n es j = 1 := of_decide_eq_true z3
      rw [show dU m n es j = 0 from this] at z3; cases z3
  | succ k ih =>
    intro f x rr h κ cap T h1 hx2 h2 hnx s
    obtain ⟨f, rfl⟩ : ∃ f', f = f' + 1 := ⟨f - 1, by omega⟩
    obtain ⟨sg1, sg2, sg3, _⟩ := s.sg
    have hn := s.img.n96
    rcases hnx with ⟨rfl, z⟩ | ⟨j, rfl, z1, z2, z3, z4⟩
    · refine ⟨h, κ, cap, T, ?_, s, fun j => ?_, KC.rf, fun _ => Or.inl rfl⟩
      · unfold f_X5_findHeads_L50; rw [if_pos (by decide)]
      · constructor
        · exact Or.inl
        · rintro (q | ⟨a, a1, a2, _⟩)
          · exact q
          · exact absurd a2 (of_decide_eq_false (z a a1))
    · have hu : dU m n es j = 1 := of_decide_eq_true z3
      have hv := (sg3 j hu).1
      obtain ⟨v1, v2, v3, v4⟩ := zv_f hv
      unfold f_X5_findHeads_L50
      rw [if_neg (nI_pos (by omega)), gA_v (o := some im) s.hr rfl, s.img.rcv, i_kind s.img v1, cI_rt]
      have J79 : ∀ (h1 : AH) (κ1 : Nat → Nat) (cap1 : Nat) (T1 : Nat → Bool), FS B κ1 h1 r im ua d oc lc ob lb lt lg lk b m n es t bs cap1 T1 Kc Ks →
          ∃ h' κ' cap' T', f_X5_findHeads_J79 (f_X5_findHeads_L50 K f) K (some r) (some bs) (nI j) h1 = K (some r) (some bs) h' ∧ FS B κ' h' r im ua d oc lc ob lb lt lg lk b m n es t bs cap' T' Kc Ks ∧ (∀ i, T' i = true ↔ T1 i = true ∨ ∃ a, j + 1 ≤ a ∧ dU m n es a = 1 ∧ (zk m a = 7 ∧ i = zq m a)) ∧ KC (fun k => k = 24) κ1 h1 κ' h' ∧ (∀ q, κ' q = κ1 q ∨ κ' q = 24) := by
        intro h1 κ1 cap1 T1 s1
        obtain ⟨arr, cp, A⟩ := s1.acc
        obtain ⟨r2, e1, e2⟩ := p_bnext s1.1 A (x := j + 1) (by omega)
        unfold f_X5_findHeads_J79
        rw [gA_v (o := some b) s1.hr rfl, A.rc, nI_1, e1, cI_rt]
        exact ih f (j + 1) r2 h1 κ1 cap1 T1 (by omega) (by omega) (by omega) e2 s1
      have fin : ∀ {T1 T' : Nat → Bool}, (∀ i, T1 i = true ↔ T i = true ∨ (zk m j = 7 ∧ i = zq m j)) → (∀ i, T' i = true ↔ T1 i = true ∨ ∃ a, j + 1 ≤ a ∧ dU m n es a = 1 ∧ (zk m a = 7 ∧ i = zq m a)) → ∀ i, T' i = true ↔ T i = true ∨ ∃ a, x ≤ a ∧ dU m n es a = 1 ∧ (zk m a = 7 ∧ i = zq m a) := by
        intro T1 T' t1 t2 i
        rw [t2 i, t1 i]
        constructor
        · rintro ((q | q) | ⟨a, q1, q2⟩)
          · exact Or.inl q
          · exact Or.inr ⟨j, z2, hu, q⟩
          · exact Or.inr ⟨a, by omega, q2⟩
        · rintro (q | ⟨a, q1, q2, q3⟩)
          · exact Or.inl (Or.inl q)
          · by_cases haj : a < j
            · exact absurd q2 (of_decide_eq_false (z4 a q1 haj))
            · by_cases haj2 : a = j
              · subst haj2
                exact Or.inl (Or.inr q3)
              · exact Or.inr ⟨a, by omega, q2, q3⟩
      by_cases h7 : zk m j = 7
      · have ht : zt m j = true := by unfold zt; rw [h7]; rfl
        have l2 := zt_l ht
        have hzq := zq_lt hv ht
        rw [if_neg (fun z => z (by rw [h7]; rfl)), gA_v (o := some im) s.hr rfl, s.img.rcv, i_tgt s.img (by omega), cI_rt, ← hzq.2, ← iI_nI]
        obtain ⟨h2', κ2, cap2, f1, f2, f3, f4⟩ := fs_set s hKc hKs (x := zq m j) (by omega) (X := fun h51 => f_X5_findHeads_J79 (f_X5_findHeads_L50 K f) K (some r) (some bs) (nI j) h51)
        rw [f1]
        obtain ⟨h', κ', cap', T', e1, e2, e3, e4, e5⟩ := J79 h2' κ2 cap2 _ f2
        exact ⟨h', κ', cap', T', e1, e2, fin (fun i => by rw [Bool.or_eq_true, decide_eq_true_eq]; simp [h7]) e3, f3.tr e4, fun q => by rcases e5 q with z | z <;> rcases f4 q with y | y <;> omega⟩
      · have h16 := s.img.k16 v1
        rw [if_pos (show ¬ nI (zk m j) = 7 from n_y (k := 7) (by omega) (by decide) h7)]
        obtain ⟨h', κ', cap', T', e1, e2, e3, e4, e5⟩ := J79 h κ cap T s
        exact ⟨h', κ', cap', T', e1, e2, fin (T1 := T) (fun i => by simp [h7]) e3, e4, e5⟩
theorem isH_iff (sg : SG m n (dS m n es)) (j : Nat) : isH m (dU m n es) n es j = true ↔ dU m n es j = 1 ∧ (j ∈ es ∨ ∃ a, dU m n es a = 1 ∧ (zk m a = 7 ∧ j = zq m a)) := by
  obtain ⟨sg1, sg2, sg3, _⟩ := sg
  have sg1 : ∀ a, n ≤ a → dU m n es a = 0 := sg1
  have sg3 : ∀ a, dU m n es a = 1 → zv m n a = true ∧ _ := sg3
  unfold isH isG
  simp only [Bool.and_eq_true, Bool.or_eq_true, decide_eq_true_eq, anF_iff, pG, if_true]
  refine and_congr Iff.rfl (or_congr Iff.rfl ?_)
  constructor
  · rintro ⟨p, _, p2, ⟨p3, p4⟩, p5⟩
    exact ⟨p, p3, p4, by unfold zq; omega⟩
  · rintro ⟨a, a1, a2, a3⟩
    have hz := zv_f (sg3 a a1).1
    have ht : zt m a = true := by unfold zt; rw [a2]; rfl
    have := hz.2.2.2 ht
    exact ⟨a, Nat.zero_le _, by omega, ⟨a1, a2⟩, by rw [a3]; unfold zq; omega⟩
theorem c_heads (g : GH B h) (R : RX (fc 0 κ h) r im ua d oc lc ob lb lt lg lk b m n es t) (hc : 20 ≤ hcl h) (hs : 60 ≤ hsl h) :
    ∃ h' κ' cap', f_X5_findHeads (some r) h = rtA (some (hsz h)) h' ∧ FS B κ' h' r im ua d oc lc ob lb lt lg lk b m n es t (hsz h) cap' (isH m (dU m n es) n es) (hcl h - 1) (hsl h - 2) ∧ KC (fun k => k = 24) κ h κ' h' ∧ (∀ q, κ' q = κ q ∨ κ' q = 24) := by
  have k1 : KC (fun k => k = 24) κ h (nk 24 κ h) (hnew h (.inr (13, fsJ20)) 3) := KC.new (by omega) (by omega)
  have g1 : GH B (hnew h (.inr (13, fsJ20)) 3) := g.new
  obtain ⟨h2, e1, e2, e3, e4, e5, e6, e7⟩ := c_bnew2 (κ := nk 24 κ h) (c := 24) g1 (b := hsz h) hnew_s (nk_n (Nat.le_refl _)) (by show 1 ≤ hcl h - 1; omega) (by show 1 ≤ hsl h - 3; omega)
  have e6' : hcl h - 1 ≤ hcl h2 + 1 := e6
  have e7' : hsl h - 3 ≤ hsl h2 + 1 := e7
  have R2 := (R.ext (k1.ext g g1 (c := 0) (by decide))).ext (e3.ext g1 e4 (c := 0) (by decide))
  have o2 : ∀ q, nk 24 (nk 24 κ h) (hnew h (.inr (13, fsJ20)) 3) q = κ q ∨ nk 24 (nk 24 κ h) (hnew h (.inr (13, fsJ20)) 3) q = 24 := fun q => by
    rcases nk_or (c := 24) (κ := nk 24 κ h) (h := hnew h (.inr (13, fsJ20)) 3) (q := q) with z | z
    · rw [z]; exact nk_or
    · exact Or.inr z
  have kk2 := k1.tr e3
  unfold f_X5_findHeads
  rw [nO_v (by omega) (by omega), nn_v, e1, cV_rt]
  generalize nk 24 (nk 24 κ h) (hnew h (.inr (13, fsJ20)) 3) = κ2 at *
  have s2 : FS B κ2 h2 r im ua d oc lc ob lb lt lg lk b m n es t (hsz h) 1 (fun _ => false) (hcl h - 1) (hsl h - 2) := ⟨e4, R2, e2, by omega, by omega⟩
  obtain ⟨h3, κ3, cap3, T3, d1, d2, d3, d4, d5⟩ := c_fh10 (B := B) (bs := hsz h) (Kc := hcl h - 1) (Ks := hsl h - 2) (by omega) (by omega) (K := fun x16 x17 h18 => xgA h18 x16 4 8 (fun v19 => xrc h18 v19 13 (xcI (f_J20_nextSetBit v19 0 h18) (fun v21 h20 => f_X5_findHeads_L50 (fun x42 x43 h44 => xgA h44 x42 4 8 (fun v45 => xrc h44 x43 13 (xcV (f_J20_and x43 v45 h44) (fun h46 => rtA x43 h46)))) FUEL x16 x17 v21 h20)))) es.length FUEL 0 h2 κ2 1 _ (Nat.zero_add _) (by have := s2.img.e4; unfold FUEL; omega) s2
  obtain ⟨ar3, cp3, A3⟩ := d2.acc
  obtain ⟨r0, n1, n2⟩ := p_bnext d2.1 A3 (x := 0) (by decide)
  rw [show f_X5_findHeads_L10 _ FUEL (some r) (some (hsz h)) 0 h2 = _ from d1, gA_v (o := some b) d2.hr rfl, A3.rc, show f_J20_nextSetBit (some b) 0 h3 = _ from n1, cI_rt]
  obtain ⟨h5, κ5, cap5, T5, p1, p2, p3, p4, p5⟩ := c_fh50 (B := B) (bs := hsz h) (Kc := hcl h - 1) (Ks := hsl h - 2) (by omega) (by omega) (K := fun x42 x43 h44 => xgA h44 x42 4 8 (fun v45 => xrc h44 x43 13 (xcV (f_J20_and x43 v45 h44) (fun h46 => rtA x43 h46)))) 97 FUEL 0 r0 h3 κ3 cap3 T3 (by omega) (by omega) (by unfold FUEL; omega) n2 d2
  rw [p1, gA_v (o := some b) p2.hr rfl]
  obtain ⟨g5, R5, N5, b5, b5'⟩ := id p2
  obtain ⟨ar5, cp5, A5⟩ := R5.2.2.2.1
  obtain ⟨ar6, N6⟩ := N5
  obtain ⟨k61, k62⟩ := N6.cl
  obtain ⟨k63, k64⟩ := A5.cl
  obtain ⟨h6, q1, q2, q3, q4⟩ := p_band g5 (N6.ext (fc_ext g5)) (A5.ext (fc_ext g5)) (fun z => by rw [z, k63] at k61; cases k61) (fun z => by rw [z, k64] at k62; cases k62)
  rw [(N6.ext (fc_ext g5)).rc, q1, cV_rt]
  have kc6 : KC (fun k => k = 24) κ5 h5 κ5 h6 := KC.kp q3 (fun a ha z => by
    rcases z with rfl | rfl
    · exact k61
    · exact k62) (fun _ _ => rfl)
  refine ⟨h6, κ5, cap5, rfl, ⟨q4, R5.ext (kc6.ext g5 q4 (c := 0) (by decide)), ⟨ar6, (q2.col k61 k62).cg (fun j => ?_)⟩, ?_, ?_⟩, ((kk2.tr d4).tr p4).tr kc6, fun q => ?_⟩
  · refine beq_of ?_
    rw [isH_iff s2.sg, Bool.and_eq_true, p3 j, d3 j, decide_eq_true_eq]
    simp only [List.drop_zero, Nat.zero_le, true_and, Bool.false_eq_true, false_or]
    exact and_comm
  · have := q3.2.2.2.1; omega
  · have := q3.2.2.2.2.1; omega
  · rcases o2 q with y | y <;> rcases d5 q with z | z <;> rcases p5 q with v | v <;> omega
end
