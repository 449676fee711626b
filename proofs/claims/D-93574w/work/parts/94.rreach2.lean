/-! PURE: what a recovery's heads reach, part 2 -/
set_option maxRecDepth 100000
section
variable {B : Nat} {h h' : AH} {κ κ' : Nat → Nat} {r im ua d oc lc ob lb lt lg lk b : Nat} {m : Nat → Nat} {n t : Nat} {es : List Nat} {c : Nat} {S : Nat → Prop}
theorem c_addN (g : GH B h) (R : RX (fc 0 κ h) r im ua d oc lc ob lb lt lg lk b m n es t) {dq cap N a : Nat} {ys ws : List Nat} (Q : QD 27 κ h dq cap ys) (bq : BXS (fc 0 κ h) ys ws) (hu : dU m n es a = 1) (hl : ys.length + (nxs m (dS m n es).2.2.2.2 a).length ≤ N) (hN : N ≤ 1900) (hcap : cap ≤ 2 * N + 17) (hc : 2 * (nxs m (dS m n es).2.2.2.2 a).length ≤ hcl h) (hs : 16 * N + 151 ≤ hsl h + 4 * cap) :
    ∃ h' κ' cap' ys', f_X5_addNext (some r) (nI a) (some dq) h = rtV h' ∧ RX (fc 0 κ' h') r im ua d oc lc ob lb lt lg lk b m n es t ∧ QD 27 κ' h' dq cap' ys' ∧ BXS (fc 0 κ' h') ys' (ws ++ nxs m (dS m n es).2.2.2.2 a) ∧ cap' ≤ 2 * N + 17 ∧ KC (fun k => k = 27) κ h κ' h' ∧ GH B h' ∧ hcl h ≤ hcl h' + 2 * (nxs m (dS m n es).2.2.2.2 a).length ∧ hsl h + 4 * cap ≤ hsl h' + 4 * cap' + 2 ∧ (∀ q, κ' q = κ q ∨ κ' q = 27 ∨ κ' q = 0) := by
  have hn := R.2.1.n96
  have sg := (dS_g R.2.1.byt R.2.1.n96 R.2.1.eln R.2.1.e4).1
  have hv := (sg.2.2.1 a hu).1
  obtain ⟨v1, v2, v3, v4⟩ := zv_f hv
  have hz := zl_12 m a
  have h16 := R.2.1.k16 v1
  have hc2 := c2_le (n := n) (u := (dS m n es).1)
  have g11 := sg.2.2.2.2.2.2.2.2.2.2
  have hnl : (nxs m (dS m n es).2.2.2.2 a).length = (if ze m a = true then [] else [a + zl m a]).length + ((if zt m a = true ∧ zk m a ≠ 7 then [zq m a] else []).length + (nxT m (dS m n es).2.2.2.2 a).length) := by unfold nxs; rw [List.length_append, List.length_append]
  rw [hnl] at hl hc ⊢
  -- the next in line
  have P1 : ∃ h1 κ1 cap1 ys1, f_X5_addNext (some r) (nI a) (some dq) h = f_X5_addNext_J28 (some r) (nI a) (some dq) h1 ∧ RX (fc 0 κ1 h1) r im ua d oc lc ob lb lt lg lk b m n es t ∧ QD 27 κ1 h1 dq cap1 ys1 ∧ BXS (fc 0 κ1 h1) ys1 (ws ++ (if ze m a = true then [] else [a + zl m a])) ∧ cap1 ≤ 2 * N + 17 ∧ KC (fun k => k = 27) κ h κ1 h1 ∧ GH B h1 ∧ hcl h ≤ hcl h1 + 2 * (if ze m a = true then [] else [a + zl m a]).length ∧ hsl h + 4 * cap ≤ hsl h1 + 4 * cap1 + 1 ∧ (∀ q, κ1 q = κ q ∨ κ1 q = 27 ∨ κ1 q = 0) := by
    have I := R.2.1.ext (fc_ext g)
    have hrh := rdo (fc_e R.1).2
    unfold f_X5_addNext
    rw [gA_v (o := some im) hrh rfl, I.rcv, i_ends I v1, cI_rt]
    cases hze : ze m a with
    | true =>
      rw [n0t, if_pos rfl]
      exact ⟨h, κ, cap, ys, rfl, R, Q, by rw [List.append_nil]; exact bq, hcap, KC.rf, g, by omega, by omega, fun _ => Or.inl rfl⟩
    | false =>
      rw [hze, if_neg (by decide), List.length_singleton] at hl hc
      rw [n0f, if_neg (by decide), gA_v (o := some im) hrh rfl, I.rcv, i_len I v1, cI_rt, nI_add]
      obtain ⟨h1, κ1, cap1, ys1, e1, e2, e3, e4, e5, e6, e7, e8, e9, e10⟩ := c_push g R Q bq (v := a + zl m a) (N := N) (by omega) (by omega) hN hcap (by omega) (by omega) (X := fun h56 => f_X5_addNext_J28 (some r) (nI a) (some dq) h56)
      exact ⟨h1, κ1, cap1, ys1, e1, e2, e3, e4, e5, e6, e7, by rw [List.length_singleton]; omega, e9, e10⟩
  obtain ⟨h1, κ1, cap1, ys1, e1, e2, e3, e4, e5, e6, e7, e8, e9, e10⟩ := P1
  rw [e1]
  have hl1 : ys1.length = ys.length + (if ze m a = true then [] else [a + zl m a]).length := by rw [e4.1, List.length_append, bq.1]
  -- the target
  have P2 : ∃ h2 κ2 cap2 ys2, f_X5_addNext_J28 (some r) (nI a) (some dq) h1 = f_X5_addNext_J67 (some r) (nI a) (some dq) h2 ∧ RX (fc 0 κ2 h2) r im ua d oc lc ob lb lt lg lk b m n es t ∧ QD 27 κ2 h2 dq cap2 ys2 ∧ BXS (fc 0 κ2 h2) ys2 ((ws ++ (if ze m a = true then [] else [a + zl m a])) ++ (if zt m a = true ∧ zk m a ≠ 7 then [zq m a] else [])) ∧ cap2 ≤ 2 * N + 17 ∧ KC (fun k => k = 27) κ1 h1 κ2 h2 ∧ GH B h2 ∧ hcl h1 ≤ hcl h2 + 2 * (if zt m a = true ∧ zk m a ≠ 7 then [zq m a] else []).length ∧ hsl h1 + 4 * cap1 ≤ hsl h2 + 4 * cap2 + 1 ∧ (∀ q, κ2 q = κ1 q ∨ κ2 q = 27 ∨ κ2 q = 0) := by
    have I := e2.2.1.ext (fc_ext e7)
    have hrh := rdo (fc_e e2.1).2
    have stay : ¬ (zt m a = true ∧ zk m a ≠ 7) → ∃ h2 κ2 cap2 ys2, f_X5_addNext_J67 (some r) (nI a) (some dq) h1 = f_X5_addNext_J67 (some r) (nI a) (some dq) h2 ∧ RX (fc 0 κ2 h2) r im ua d oc lc ob lb lt lg lk b m n es t ∧ QD 27 κ2 h2 dq cap2 ys2 ∧ BXS (fc 0 κ2 h2) ys2 ((ws ++ (if ze m a = true then [] else [a + zl m a])) ++ (if zt m a = true ∧ zk m a ≠ 7 then [zq m a] else [])) ∧ cap2 ≤ 2 * N + 17 ∧ KC (fun k => k = 27) κ1 h1 κ2 h2 ∧ GH B h2 ∧ hcl h1 ≤ hcl h2 + 2 * (if zt m a = true ∧ zk m a ≠ 7 then [zq m a] else []).length ∧ hsl h1 + 4 * cap1 ≤ hsl h2 + 4 * cap2 + 1 ∧ (∀ q, κ2 q = κ1 q ∨ κ2 q = 27 ∨ κ2 q = 0) := fun hno => by
      rw [if_neg hno]
      exact ⟨h1, κ1, cap1, ys1, rfl, e2, e3, by rw [List.append_nil]; exact e4, e5, KC.rf, e7, by omega, by omega, fun _ => Or.inl rfl⟩
    unfold f_X5_addNext_J28
    rw [gA_v (o := some im) hrh rfl, I.rcv, i_hasT I v1, cI_rt]
    cases ht : zt m a with
    | false =>
      rw [b0f]
      have := stay (by rw [ht]; simp)
      rw [ht] at this
      exact this
    | true =>
      have l2 := zt_l ht
      have hzq := zq_lt hv ht
      rw [b0t, gA_v (o := some im) hrh rfl, I.rcv, i_kind I v1, cI_rt]
      by_cases h7 : zk m a = 7
      · rw [if_pos (by rw [h7]; rfl)]
        have := stay (by simp [h7])
        rw [ht] at this
        exact this
      · rw [ht, if_pos (show true = true ∧ zk m a ≠ 7 from ⟨rfl, h7⟩), List.length_singleton] at hl hc
        rw [if_neg (show ¬ nI (zk m a) = 7 from n_y (k := 7) (by omega) (by decide) h7), if_pos (show true = true ∧ zk m a ≠ 7 from ⟨rfl, h7⟩), gA_v (o := some im) hrh rfl, I.rcv, i_tgt I (by omega), cI_rt, ← hzq.2, ← iI_nI]
        obtain ⟨h2, κ2, cap2, ys2, f1, f2, f3, f4, f5, f6, f7, f8, f9, f10⟩ := c_push e7 e2 e3 e4 (v := zq m a) (N := N) (by omega) (by omega) hN e5 (by omega) (by omega) (X := fun h48 => f_X5_addNext_J67 (some r) (nI a) (some dq) h48)
        exact ⟨h2, κ2, cap2, ys2, f1, f2, f3, f4, f5, f6, f7, by rw [List.length_singleton]; omega, f9, f10⟩
  obtain ⟨h2, κ2, cap2, ys2, f1, f2, f3, f4, f5, f6, f7, f8, f9, f10⟩ := P2
  rw [f1]
  have hl2 : ys2.length = ys1.length + (if zt m a = true ∧ zk m a ≠ 7 then [zq m a] else []).length := by rw [f4.1, List.length_append, e4.1]
  obtain ⟨h3, κ3, cap3, ys3, w1, w2, w3, w4, w5, w6, w7, w8, w9⟩ := c_an69 (B := B) (dq := dq) (N := N) (a := a) hN (by omega) (K := fun h39 => rtV h39) (dS m n es).2.2.2.2.length FUEL 0 h2 κ2 cap2 ys2 _ (Nat.zero_add _) (by unfold FUEL; omega) f7 f2 f3 f4 (by rw [List.drop_zero]; omega) f5 (by rw [List.drop_zero]; omega) (by omega)
  rw [List.drop_zero] at w3 w7
  refine ⟨h3, κ3, cap3, ys3, w1, f2.ext (w5.ext f7 w6 (c := 0) (by decide)), w2, ?_, w4, (e6.tr f6).tr w5, w6, by omega, by omega, fun q => by rcases w9 q with z | z <;> rcases f10 q with y | y | y <;> rcases e10 q with x | x | x <;> omega⟩
  unfold nxs
  rw [List.append_assoc, List.append_assoc] at w3
  exact w3
theorem c_rchL {N bs dq hd : Nat} (hN : N ≤ 1900) {K : Option Nat → AH → RS} : ∀ (k f : Nat) (h : AH) (κ : Nat → Nat) (cap : Nat) (T : Nat → Bool) (capq : Nat) (ys ws : List Nat), ws.length + pot (dS m n es).2.2.2.2 n T ≤ k → k < f → k ≤ N → GH B h → RX (fc 0 κ h) r im ua d oc lc ob lb lt lg lk b m n es t → SN 24 κ h bs cap T → QD 27 κ h dq capq ys → BXS (fc 0 κ h) ys ws → capq ≤ 2 * N + 17 → 2 * pot (dS m n es).2.2.2.2 n T + 9 ≤ hcl h + cap → 16 * N + 200 + pot (dS m n es).2.2.2.2 n T ≤ hsl h + 4 * capq + 2 * cap →
    (∀ x, T x = true → dU m n es x = 1 ∧ Rch m (dU m n es) (dS m n es).2.2.2.2 hd x) → (∀ w ∈ ws, w < 256 ∧ (dU m n es w = 1 → Rch m (dU m n es) (dS m n es).2.2.2.2 hd w)) → (∀ a b, T a = true → sucR m (dS m n es).2.2.2.2 a b → dU m n es b = 1 → T b = true ∨ b ∈ ws) → (T hd = true ∨ hd ∈ ws) → dU m n es hd = 1 →
    ∃ h' κ' cap' T', f_X5_countReached_L24 K f (some r) (some bs) (some dq) h = K (some bs) h' ∧ SN 24 κ' h' bs cap' T' ∧ (∀ x, T' x = rchB m (dU m n es) (dS m n es).2.2.2.2 hd x) ∧ KC (fun k => k = 24 ∨ k = 27) κ h κ' h' ∧ GH B h' ∧ hcl h + cap ≤ hcl h' + 2 * pot (dS m n es).2.2.2.2 n T + 8 ∧ hsl h + 4 * capq + 2 * cap ≤ hsl h' + 8 * N + 68 + pot (dS m n es).2.2.2.2 n T + 16 := by
  intro k
  induction k with
  | zero =>
    intro f h κ cap T capq ys ws h1 h2 hk g R N0 Q bq hcap hc hs i1 i2 i3 i4 hu
    obtain ⟨f, rfl⟩ : ∃ f', f = f' + 1 := ⟨f - 1, by omega⟩
    have hw : ws = [] := List.length_eq_zero_iff.mp (by omega)
    subst hw
    obtain ⟨arq, hdq, q1⟩ := id Q
    have q1h := q1.ext (fc_ext g)
    have h8 := N0.c8
    unfold f_X5_countReached_L24
    rw [q1h.rc, p_qempty q1h, cI_rt, decide_eq_true (by rw [bq.1]; rfl), n0t]
    refine ⟨h, κ, cap, T, rfl, N0, fun x => beq_of ?_, KC.rf, g, by omega, by omega⟩
    rw [rchB_iff]
    exact Rch.all (i4.resolve_right (by simp)) (fun a b ha hb hu => (i3 a b ha hb hu).resolve_right (by simp)) (fun x hx => (i1 x hx).2) x
  | succ k ih =>
    intro f h κ cap T capq ys ws h1 h2 hk g R N0 Q bq hcap hc hs i1 i2 i3 i4 hu
    obtain ⟨f, rfl⟩ : ∃ f', f = f' + 1 := ⟨f - 1, by omega⟩
    obtain ⟨arq, hdq, q1⟩ := id Q
    have q1h := q1.ext (fc_ext g)
    have h8 := N0.c8
    have hbl := bq.1
    unfold f_X5_countReached_L24
    rw [q1h.rc, p_qempty q1h, cI_rt]
    cases ws with
    | nil =>
      rw [decide_eq_true (by rw [hbl]; rfl), n0t]
      refine ⟨h, κ, cap, T, rfl, N0, fun x => beq_of ?_, KC.rf, g, by omega, by omega⟩
      rw [rchB_iff]
      exact Rch.all (i4.resolve_right (by simp)) (fun a b ha hb hu => (i3 a b ha hb hu).resolve_right (by simp)) (fun x hx => (i1 x hx).2) x
    | cons w rs =>
      rw [List.length_cons] at hbl h1
      rw [decide_eq_false (by omega), n0f, q1h.rc]
      obtain ⟨h2', c1, c2', c3, c4, c5, c6, c7⟩ := c_qrem g Q (by omega)
      have yy : ∀ c, c ≠ 27 → Ext (fc c κ h) (fc c κ h2') := fun c hc => c3.ext g c4 (c := c) hc
      have b0 := (bq.2 0 (by simp)).1
      have b0' : BX h2' (ys.getD 0 0) (nI w) := (b0.ext (yy 0 (by decide))).ext (fc_ext c4)
      have hbt : BXS (fc 0 κ h2') ys.tail rs := by
        refine ⟨by rw [List.length_tail]; omega, fun i hi => ?_⟩
        have := bq.2 (i + 1) (by simp; omega)
        rw [getD_tl]
        exact ⟨this.1.ext (yy 0 (by decide)), this.2⟩
      have R2 := R.ext (yy 0 (by decide))
      have N2 := N0.ext (yy 24 (by decide))
      have hrh2 := rdo (fc_e R2.1).2
      obtain ⟨ar, cp, A⟩ := R2.2.2.2.1
      obtain ⟨iw1, iw2⟩ := i2 w (List.mem_cons_self ..)
      rw [c1, cA_rt, ck_v b0' (by decide), rc_v b0', p_intValue b0', cI_rt, rc_v hrh2, c_acc c4 hrh2 (A.ext (fc_ext c4)) iw1, cI_rt]
      have k27 : KC (fun k => k = 24 ∨ k = 27) κ h κ h2' := c3.w (fun k z => Or.inr z)
      -- it stays as it is
      have skip : (dU m n es w = 1 → T w = true) → ∃ h' κ' cap' T', f_X5_countReached_J74 (f_X5_countReached_L24 K f) K (some r) (some bs) (some dq) h2' = K (some bs) h' ∧ SN 24 κ' h' bs cap' T' ∧ (∀ x, T' x = rchB m (dU m n es) (dS m n es).2.2.2.2 hd x) ∧ KC (fun k => k = 24 ∨ k = 27) κ h κ' h' ∧ GH B h' ∧ hcl h + cap ≤ hcl h' + 2 * pot (dS m n es).2.2.2.2 n T + 8 ∧ hsl h + 4 * capq + 2 * cap ≤ hsl h' + 8 * N + 68 + pot (dS m n es).2.2.2.2 n T + 16 := fun hw => by
        unfold f_X5_countReached_J74
        obtain ⟨h3, κ3, cap3, T3, e1, e2, e3, e4, e5, e6, e7⟩ := ih f h2' κ cap T capq ys.tail rs (by omega) (by omega) (by omega) c4 R2 N2 c2' hbt hcap (by omega) (by omega) i1 (fun x hx => i2 x (List.mem_cons_of_mem _ hx)) (fun a b ha hb hub => by
          rcases i3 a b ha hb hub with z | z
          · exact Or.inl z
          · rcases List.mem_cons.mp z with rfl | z
            · exact Or.inl (hw hub)
            · exact Or.inr z) (by
          rcases i4 with z | z
          · exact Or.inl z
          · rcases List.mem_cons.mp z with rfl | z
            · exact Or.inl (hw hu)
            · exact Or.inr z) hu
        exact ⟨h3, κ3, cap3, T3, e1, e2, e3, k27.tr e4, e5, by omega, by omega⟩
      by_cases hac : dU m n es w = 1
      · obtain ⟨ar2, N2'⟩ := N2.bs c4
        rw [decide_eq_true hac, b0t, N2'.rc, p_bget c4 N2' iw1, cI_rt]
        cases hT : T w with
        | true =>
          rw [n0t]
          exact skip (fun _ => hT)
        | false =>
          rw [n0f]
          have sg := (dS_g R.2.1.byt R.2.1.n96 R.2.1.eln R.2.1.e4).1
          have hn := R.2.1.n96
          obtain ⟨v1, v2, v3, v4⟩ := zv_f (sg.2.2.1 w hac).1
          have hz := zl_12 m w
          have hps := pot_s (tb := (dS m n es).2.2.2.2) (T := T) v1 hT
          have hnl := nxs_len (m := m) (tb := (dS m n es).2.2.2.2) (a := w)
          obtain ⟨h3, κ3, cap3, s1, s2, s3, s4, s5, s6, s7, s8⟩ := c_bset2 c4 N2 iw1 (by omega) (by omega)
          rw [N2'.rc, s1, cV_rt]
          have x3 : ∀ c, c ≠ 24 → Ext (fc c κ h2') (fc c κ3 h3) := fun c hc => s3.ext c4 s4 (c := c) hc
          have R3 := R2.ext (x3 0 (by decide))
          rw [rc_v (rdo (fc_e R3.1).2)]
          have hlt : ys.tail.length = rs.length := hbt.1
          obtain ⟨h4, κ4, cap4, ys4, w1, w2, w3, w4, w5, w6, w7, w8, w9, w10⟩ := c_addN s4 R3 (c2'.ext (x3 27 (by decide))) (hbt.ext (x3 0 (by decide))) hac (N := N) (by omega) hN hcap (by omega) (by omega)
          rw [w1, cV_rt]
          unfold f_X5_countReached_J74
          have N4 := s2.ext (w6.ext s4 w7 (c := 24) (by decide))
          have hrw := iw2 hac
          obtain ⟨h5, κ5, cap5, T5, e1, e2, e3, e4, e5, e6, e7⟩ := ih f h4 κ4 cap3 _ cap4 ys4 _ (by rw [List.length_append]; omega) (by omega) (by omega) w7 w2 N4 w3 w4 w5 (by omega) (by omega) (fun x hx => by
            rw [Bool.or_eq_true, decide_eq_true_eq] at hx
            rcases hx with z | z
            · exact i1 x z
            · subst z; exact ⟨hac, hrw⟩) (fun x hx => by
            rcases List.mem_append.mp hx with z | z
            · exact i2 x (List.mem_cons_of_mem _ z)
            · have hs := nxs_mem.mp z
              refine ⟨?_, fun hx1 => hrw.st hs hx1⟩
              rcases hs with ⟨_, rfl⟩ | ⟨⟨ht, _⟩, rfl⟩ | ⟨T', hT', _, p, hp, rfl⟩
              · omega
              · have := (zq_lt (sg.2.2.1 w hac).1 ht).1; omega
              · have hTg := sg.2.2.2.2.2.2.2.2.2.1 T' hT'
                exact R.2.1.byt p (hTg.2.2.2.2 p hp)) (fun a b ha hb hub => by
            rw [Bool.or_eq_true, decide_eq_true_eq] at ha ⊢
            rcases ha with z | z
            · rcases i3 a b z hb hub with y | y
              · exact Or.inl (Or.inl y)
              · rcases List.mem_cons.mp y with y | y
                · exact Or.inl (Or.inr y)
                · exact Or.inr (List.mem_append_left _ y)
            · subst z
              exact Or.inr (List.mem_append_right _ (nxs_mem.mpr hb))) (by
            rw [Bool.or_eq_true, decide_eq_true_eq]
            rcases i4 with z | z
            · exact Or.inl (Or.inl z)
            · rcases List.mem_cons.mp z with y | y
              · exact Or.inl (Or.inr y)
              · exact Or.inr (List.mem_append_left _ y)) hu
          exact ⟨h5, κ5, cap5, T5, e1, e2, e3, ((k27.tr (s3.w (fun k z => Or.inl z))).tr (w6.w (fun k z => Or.inr z))).tr e4, e5, by omega, by omega⟩
      · rw [decide_eq_false hac, b0f]
        exact skip (fun z => absurd z hac)
end
