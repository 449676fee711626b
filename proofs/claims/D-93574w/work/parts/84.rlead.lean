/-! PURE: a recovery's leaders and heads -/
set_option maxRecDepth 100000
section
variable {B : Nat} {h h' : AH} {κ κ' : Nat → Nat} {r im ua d oc lc ob lb lt lg lk b : Nat} {m : Nat → Nat} {n t : Nat} {es : List Nat} {c : Nat} {S : Nat → Prop}
/-- a frozen recovery and a set under construction -/
def FS (B : Nat) (κ : Nat → Nat) (h : AH) (r im ua d oc lc ob lb lt lg lk b : Nat) (m : Nat → Nat) (n : Nat) (es : List Nat) (t : Nat) (bs cap : Nat) (T : Nat → Bool) (Kc Ks : Nat) : Prop := GH B h ∧ RX (fc 0 κ h) r im ua d oc lc ob lb lt lg lk b m n es t ∧ SN 24 κ h bs cap T ∧ Kc ≤ hcl h + cap ∧ Ks ≤ hsl h + 2 * cap
theorem SN.c8 {cap : Nat} {T : Nat → Bool} (L : SN c κ h b cap T) : cap ≤ 8 := by
  obtain ⟨arr, s⟩ := L
  exact s.c8
theorem fs_set {bs cap Kc Ks x : Nat} {T : Nat → Bool} (s : FS B κ h r im ua d oc lc ob lb lt lg lk b m n es t bs cap T Kc Ks) (hKc : 9 ≤ Kc) (hKs : 22 ≤ Ks) (hx : x < 256) {X : AH → RS} :
    ∃ h' κ' cap', xrc h (some bs) 13 (xcV (f_J20_set (some bs) (nI x) h) X) = X h' ∧ FS B κ' h' r im ua d oc lc ob lb lt lg lk b m n es t bs cap' (fun j => T j || decide (j = x)) Kc Ks ∧ KC (fun k => k = 24) κ h κ' h' ∧ (∀ q, κ' q = κ q ∨ κ' q = 24) := by
  obtain ⟨g, R, N, s1, s2⟩ := s
  have h8 := N.c8
  obtain ⟨h1, κ1, cap1, e1, e2, e3, e4, e5, e6, e7, e8⟩ := c_bset2 g N hx (by omega) (by omega)
  obtain ⟨arr, N'⟩ := N.bs g
  rw [N'.rc, e1, cV_rt]
  exact ⟨h1, κ1, cap1, rfl, ⟨e4, R.ext (e3.ext g e4 (c := 0) (by decide)), e2, by omega, by omega⟩, e3, e7⟩
theorem FS.hr {bs cap Kc Ks : Nat} {T : Nat → Bool} (s : FS B κ h r im ua d oc lc ob lb lt lg lk b m n es t bs cap T Kc Ks) : rd h r = some (.inr (4, RF im ua d oc ob lt lg lk b)) := rdo (fc_e s.2.1.1).2
theorem FS.img {bs cap Kc Ks : Nat} {T : Nat → Bool} (s : FS B κ h r im ua d oc lc ob lb lt lg lk b m n es t bs cap T Kc Ks) : IM h im m n es t := s.2.1.2.1.ext (fc_ext s.1)
theorem FS.acc {bs cap Kc Ks : Nat} {T : Nat → Bool} (s : FS B κ h r im ua d oc lc ob lb lt lg lk b m n es t bs cap T Kc Ks) : ∃ arr cp, BS h b arr cp (fun a => decide (dU m n es a = 1)) := by
  obtain ⟨arr, cp, z⟩ := s.2.1.2.2.2.1
  exact ⟨arr, cp, z.ext (fc_ext s.1)⟩
theorem FS.sg {bs cap Kc Ks : Nat} {T : Nat → Bool} (s : FS B κ h r im ua d oc lc ob lb lt lg lk b m n es t bs cap T Kc Ks) : SG m n (dS m n es) := (dS_g s.img.byt s.img.n96 s.img.eln s.img.e4).1
--BEGIN
theorem c_fl10 {bs Kc Ks : Nat} (hKc : 9 ≤ Kc) (hKs : 22 ≤ Ks) {K : Option Nat → Option Nat → AH → RS} : ∀ (k f i : Nat) (h : AH) (κ : Nat → Nat) (cap : Nat) (T : Nat → Bool), i + k = es.length → k < f → FS B κ h r im ua d oc lc ob lb lt lg lk b m n es t bs cap T Kc Ks →
    ∃ h' κ' cap' T', f_X5_findLeaders_L10 K f (some r) (some bs) (nI i) h = K (some r) (some bs) h' ∧ FS B κ' h' r im ua d oc lc ob lb lt lg lk b m n es t bs cap' T' Kc Ks ∧ (∀ j, T' j = true ↔ T j = true ∨ j ∈ es.drop i) ∧ KC (fun k => k = 24) κ h κ' h' ∧ (∀ q, κ' q = κ q ∨ κ' q = 24) := by
  intro k
  induction k with
  | zero =>
    intro f i h κ cap T h1 h2 s
    obtain ⟨f, rfl⟩ : ∃ f', f = f' + 1 := ⟨f - 1, by omega⟩
    have I := s.img
    have h4 := I.e4
    obtain ⟨ea, n1, n2, n3⟩ := I.en
    unfold f_X5_findLeaders_L10
    rw [gA_v (o := some im) s.hr rfl, n1, n2, if_pos (nI_le (by omega) (by omega))]
    exact ⟨h, κ, cap, T, rfl, s, fun j => by rw [List.drop_of_length_le (by omega)]; simp, KC.rf, fun _ => Or.inl rfl⟩
  | succ k ih =>
    intro f i h κ cap T h1 h2 s
    obtain ⟨f, rfl⟩ : ∃ f', f = f' + 1 := ⟨f - 1, by omega⟩
    have I := s.img
    have h4 := I.e4
    have hn := I.n96
    obtain ⟨ea, n1, n2, n3⟩ := I.en
    have hi : i < es.length := by omega
    have hm : es.getD i 0 ∈ es := getD_mem hi
    have hlt := I.eln _ hm
    unfold f_X5_findLeaders_L10
    rw [gA_v (o := some im) s.hr rfl, n1, n2, if_neg (fun z => by have := (nI_leI (by omega) (by omega)).mp z; omega), gA_v (o := some im) s.hr rfl, n1, n3 i hi]
    obtain ⟨h1', κ1, cap1, e1, e2, e3, e4⟩ := fs_set s hKc hKs (x := es.getD i 0) (by omega) (X := fun h14 => f_X5_findLeaders_L10 K f (some r) (some bs) (nI i + 1) h14)
    rw [e1, nI_1]
    obtain ⟨h2', κ2, cap2, T2, d1, d2, d3, d4, d5⟩ := ih f (i + 1) h1' κ1 cap1 _ (by omega) (by omega) e2
    refine ⟨h2', κ2, cap2, T2, d1, d2, fun j => ?_, e3.tr d4, fun q => by rcases d5 q with z | z <;> rcases e4 q with y | y <;> omega⟩
    rw [d3 j, List.drop_eq_getElem_cons hi, List.mem_cons, Bool.or_eq_true, decide_eq_true_eq, List.getD_eq_getElem?_getD, List.getElem?_eq_getElem hi, Option.getD_some, or_assoc]
--END
theorem c_fl50 {bs Kc Ks : Nat} (hKc : 9 ≤ Kc) (hKs : 22 ≤ Ks) {K : Option Nat → Option Nat → AH → RS} : ∀ (k f x : Nat) (rr : Int32) (h : AH) (κ : Nat → Nat) (cap : Nat) (T : Nat → Bool), 97 ≤ x + k → x ≤ 97 → k < f → NX (fun a => decide (dU m n es a = 1)) x rr → FS B κ h r im ua d oc lc ob lb lt lg lk b m n es t bs cap T Kc Ks →
    ∃ h' κ' cap' T', f_X5_findLeaders_L50 K f (some r) (some bs) rr h = K (some r) (some bs) h' ∧ FS B κ' h' r im ua d oc lc ob lb lt lg lk b m n es t bs cap' T' Kc Ks ∧ (∀ j, T' j = true ↔ T j = true ∨ ∃ a, x ≤ a ∧ dU m n es a = 1 ∧ ((zt m a = true ∧ j = zq m a) ∨ (zb m a = true ∧ j = a + zl m a))) ∧ KC (fun k => k = 24) κ h κ' h' ∧ (∀ q, κ' q = κ q ∨ κ' q = 24) := by
  intro k
  induction k with
  | zero =>
    intro f x rr h κ cap T h1 hx2 h2 hnx s
    obtain ⟨f, rfl⟩ : ∃ f', f = f' + 1 := ⟨f - 1, by omega⟩
    obtain ⟨sg1, sg2, sg3, _⟩ := s.sg
    have hn := s.img.n96
    rcases hnx with ⟨rfl, z⟩ | ⟨j, rfl, z1, z2, z3, z4⟩
    · refine ⟨h, κ, cap, T, ?_, s, fun j => ?_, KC.rf, fun _ => Or.inl rfl⟩
      · unfold f_X5_findLeaders_L50; rw [if_pos (by decide)]
      · constructor
        · exact Or.inl
        · rintro (q | ⟨a, a1, a2, _⟩)
          · exact q
          · exact absurd a2 (of_decide_eq_false (z a a1))
    · have := sg1 j (by omega)
      have z3 : dU m n es j = 1 := of_decide_eq_true z3
      rw [show dU m n es j = 0 from this] at z3; cases z3
  | succ k ih =>
    intro f x rr h κ cap T h1 hx2 h2 hnx s
    obtain ⟨f, rfl⟩ : ∃ f', f = f' + 1 := ⟨f - 1, by omega⟩
    obtain ⟨sg1, sg2, sg3, _⟩ := s.sg
    have hn := s.img.n96
    rcases hnx with ⟨rfl, z⟩ | ⟨j, rfl, z1, z2, z3, z4⟩
    · refine ⟨h, κ, cap, T, ?_, s, fun j => ?_, KC.rf, fun _ => Or.inl rfl⟩
      · unfold f_X5_findLeaders_L50; rw [if_pos (by decide)]
      · constructor
        · exact Or.inl
        · rintro (q | ⟨a, a1, a2, _⟩)
          · exact q
          · exact absurd a2 (of_decide_eq_false (z a a1))
    · have hu : dU m n es j = 1 := of_decide_eq_true z3
      have hv := (sg3 j hu).1
      obtain ⟨v1, v2, v3, v4⟩ := zv_f hv
      have hl := zl_12 m j
      unfold f_X5_findLeaders_L50
      rw [if_neg (nI_pos (by omega)), gA_v (o := some im) s.hr rfl, s.img.rcv, i_hasT s.img v1, cI_rt]
      -- the next one
      have J102 : ∀ (h1 : AH) (κ1 : Nat → Nat) (cap1 : Nat) (T1 : Nat → Bool), FS B κ1 h1 r im ua d oc lc ob lb lt lg lk b m n es t bs cap1 T1 Kc Ks →
          ∃ h' κ' cap' T', f_X5_findLeaders_J102 (f_X5_findLeaders_L50 K f) K (some r) (some bs) (nI j) h1 = K (some r) (some bs) h' ∧ FS B κ' h' r im ua d oc lc ob lb lt lg lk b m n es t bs cap' T' Kc Ks ∧ (∀ i, T' i = true ↔ T1 i = true ∨ ∃ a, j + 1 ≤ a ∧ dU m n es a = 1 ∧ ((zt m a = true ∧ i = zq m a) ∨ (zb m a = true ∧ i = a + zl m a))) ∧ KC (fun k => k = 24) κ1 h1 κ' h' ∧ (∀ q, κ' q = κ1 q ∨ κ' q = 24) := by
        intro h1 κ1 cap1 T1 s1
        obtain ⟨arr, cp, A⟩ := s1.acc
        obtain ⟨r2, e1, e2⟩ := p_bnext s1.1 A (x := j + 1) (by omega)
        unfold f_X5_findLeaders_J102
        rw [gA_v (o := some b) s1.hr rfl, A.rc, nI_1, e1, cI_rt]
        exact ih f (j + 1) r2 h1 κ1 cap1 T1 (by omega) (by omega) (by omega) e2 s1
      have J77 : ∀ (h1 : AH) (κ1 : Nat → Nat) (cap1 : Nat) (T1 : Nat → Bool), FS B κ1 h1 r im ua d oc lc ob lb lt lg lk b m n es t bs cap1 T1 Kc Ks →
          ∃ h' κ' cap' T', f_X5_findLeaders_J77 (f_X5_findLeaders_L50 K f) K (some r) (some bs) (nI j) h1 = K (some r) (some bs) h' ∧ FS B κ' h' r im ua d oc lc ob lb lt lg lk b m n es t bs cap' T' Kc Ks ∧ (∀ i, T' i = true ↔ T1 i = true ∨ (zb m j = true ∧ i = j + zl m j) ∨ ∃ a, j + 1 ≤ a ∧ dU m n es a = 1 ∧ ((zt m a = true ∧ i = zq m a) ∨ (zb m a = true ∧ i = a + zl m a))) ∧ KC (fun k => k = 24) κ1 h1 κ' h' ∧ (∀ q, κ' q = κ1 q ∨ κ' q = 24) := by
        intro h1 κ1 cap1 T1 s1
        unfold f_X5_findLeaders_J77
        rw [gA_v (o := some im) s1.hr rfl, s1.img.rcv, i_endsB s1.img v1, cI_rt]
        cases hb : zb m j with
        | false =>
          rw [b0f]
          obtain ⟨h', κ', cap', T', e1, e2, e3, e4, e5⟩ := J102 h1 κ1 cap1 T1 s1
          exact ⟨h', κ', cap', T', e1, e2, fun i => by rw [e3 i]; simp, e4, e5⟩
        | true =>
          rw [b0t, gA_v (o := some im) s1.hr rfl, s1.img.rcv, i_len s1.img v1, cI_rt, nI_add]
          obtain ⟨h2', κ2, cap2, f1, f2, f3, f4⟩ := fs_set s1 hKc hKs (x := j + zl m j) (by omega) (X := fun h46 => f_X5_findLeaders_J102 (f_X5_findLeaders_L50 K f) K (some r) (some bs) (nI j) h46)
          rw [f1]
          obtain ⟨h', κ', cap', T', e1, e2, e3, e4, e5⟩ := J102 h2' κ2 cap2 _ f2
          refine ⟨h', κ', cap', T', e1, e2, fun i => ?_, f3.tr e4, fun q => by rcases e5 q with z | z <;> rcases f4 q with y | y <;> omega⟩
          rw [e3 i, Bool.or_eq_true, decide_eq_true_eq, or_assoc]
          simp
      have fin : ∀ {T1 T' : Nat → Bool}, (∀ i, T1 i = true ↔ T i = true ∨ (zt m j = true ∧ i = zq m j)) → (∀ i, T' i = true ↔ T1 i = true ∨ (zb m j = true ∧ i = j + zl m j) ∨ ∃ a, j + 1 ≤ a ∧ dU m n es a = 1 ∧ ((zt m a = true ∧ i = zq m a) ∨ (zb m a = true ∧ i = a + zl m a))) → ∀ i, T' i = true ↔ T i = true ∨ ∃ a, x ≤ a ∧ dU m n es a = 1 ∧ ((zt m a = true ∧ i = zq m a) ∨ (zb m a = true ∧ i = a + zl m a)) := by
        intro T1 T' t1 t2 i
        rw [t2 i, t1 i]
        constructor
        · rintro ((q | q) | q | ⟨a, q1, q2⟩)
          · exact Or.inl q
          · exact Or.inr ⟨j, z2, hu, Or.inl q⟩
          · exact Or.inr ⟨j, z2, hu, Or.inr q⟩
          · exact Or.inr ⟨a, by omega, q2⟩
        · rintro (q | ⟨a, q1, q2, q3⟩)
          · exact Or.inl (Or.inl q)
          · by_cases haj : a < j
            · exact absurd q2 (of_decide_eq_false (z4 a q1 haj))
            · by_cases haj2 : a = j
              · subst haj2
                rcases q3 with q3 | q3
                · exact Or.inl (Or.inr q3)
                · exact Or.inr (Or.inl q3)
              · exact Or.inr (Or.inr ⟨a, by omega, q2, q3⟩)
      cases ht : zt m j with
      | false =>
        rw [b0f]
        obtain ⟨h', κ', cap', T', e1, e2, e3, e4, e5⟩ := J77 h κ cap T s
        exact ⟨h', κ', cap', T', e1, e2, fin (T1 := T) (fun i => by rw [ht]; simp) e3, e4, e5⟩
      | true =>
        have l2 := zt_l ht
        have hzq := zq_lt hv ht
        rw [b0t, gA_v (o := some im) s.hr rfl, s.img.rcv, i_tgt s.img (by omega), cI_rt, ← hzq.2, ← iI_nI]
        obtain ⟨h2', κ2, cap2, f1, f2, f3, f4⟩ := fs_set s hKc hKs (x := zq m j) (by omega) (X := fun h51 => f_X5_findLeaders_J77 (f_X5_findLeaders_L50 K f) K (some r) (some bs) (nI j) h51)
        rw [f1]
        obtain ⟨h', κ', cap', T', e1, e2, e3, e4, e5⟩ := J77 h2' κ2 cap2 _ f2
        exact ⟨h', κ', cap', T', e1, e2, fin (fun i => by rw [Bool.or_eq_true, decide_eq_true_eq, ht]; simp) e3, f3.tr e4, fun q => by rcases e5 q with z | z <;> rcases f4 q with y | y <;> omega⟩
end
