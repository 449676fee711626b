/-! PURE: a recovery tests its gaps and speculates -/
set_option maxRecDepth 100000
section
variable {B : Nat} {h h' : AH} {κ κ' : Nat → Nat} {r im ua d oc lc ob lb lt lg lk b : Nat} {m u w : Nat → Nat} {n t : Nat} {es : List Nat} {c : Nat} {S : Nat → Prop}
theorem c_chkL (g : GH B h) (R : RB κ h r im ua d oc ob lt lg lk b m n es t u w) {y bs arr cap : Nat} {T : Nat → Bool} (N : BS h bs arr cap T) (hT : ∀ j, T j = true → zv m n j = true) {sc ins : Int32} {K : Option Nat → Int32 → Int32 → AH → RS} : ∀ (k f x : Nat) (rr : Int32), 97 ≤ x + k → x ≤ 97 → k < f → NX T x rr →
    ((∀ j, x ≤ j → T j = true → (zt m j = false ∨ u (zq m j) = 1 ∨ T (zq m j) = true)) ∧ f_X5_test_L143 K f (some r) (some y) (some bs) sc ins rr h = K (some y) sc ins h) ∨ (¬ (∀ j, x ≤ j → T j = true → (zt m j = false ∨ u (zq m j) = 1 ∨ T (zq m j) = true)) ∧ f_X5_test_L143 K f (some r) (some y) (some bs) sc ins rr h = rtV h) := by
  have hn := R.2.1.n96
  have Ih := R.2.1.ext (fc_ext g)
  have hrh := rdo (fc_e R.1).2
  have gi : ∀ {X : Option Nat → RS}, xgA h (some r) 4 0 X = X (some im) := gA_v (o := some im) hrh rfl
  obtain ⟨arrb, capb, sh⟩ := R.2.2.2.bs g
  intro k
  induction k with
  | zero =>
    intro f x rr h1 hx2 h2 hnx
    obtain ⟨f, rfl⟩ : ∃ f', f = f' + 1 := ⟨f - 1, by omega⟩
    rcases hnx with ⟨rfl, z⟩ | ⟨j, rfl, z1, z2, z3, z4⟩
    · refine Or.inl ⟨fun j hj hTj => ?_, ?_⟩
      · rw [z j hj] at hTj; cases hTj
      · unfold f_X5_test_L143; rw [if_pos (by decide)]
    · have := (zv_f (hT j z3)).1
      omega
  | succ k ih =>
    intro f x rr h1 hx2 h2 hnx
    obtain ⟨f, rfl⟩ : ∃ f', f = f' + 1 := ⟨f - 1, by omega⟩
    rcases hnx with ⟨rfl, z⟩ | ⟨j, rfl, z1, z2, z3, z4⟩
    · refine Or.inl ⟨fun j hj hTj => ?_, ?_⟩
      · rw [z j hj] at hTj; cases hTj
      · unfold f_X5_test_L143; rw [if_pos (by decide)]
    · have hv := hT j z3
      obtain ⟨v1, v2, v3, v4⟩ := zv_f hv
      unfold f_X5_test_L143
      rw [if_neg (nI_pos (by omega)), gi, Ih.rcv, i_hasT Ih v1, cI_rt]
      -- on to the next
      have J193 : (zt m j = false ∨ u (zq m j) = 1 ∨ T (zq m j) = true) → ((∀ j, x ≤ j → T j = true → (zt m j = false ∨ u (zq m j) = 1 ∨ T (zq m j) = true)) ∧ f_X5_test_J193 (f_X5_test_L143 K f) K (some r) (some y) (some bs) sc ins (nI j) h = K (some y) sc ins h) ∨ (¬ (∀ j, x ≤ j → T j = true → (zt m j = false ∨ u (zq m j) = 1 ∨ T (zq m j) = true)) ∧ f_X5_test_J193 (f_X5_test_L143 K f) K (some r) (some y) (some bs) sc ins (nI j) h = rtV h) := by
        intro hok
        unfold f_X5_test_J193
        rw [N.rc, nI_1]
        obtain ⟨r2, e1, e2⟩ := p_bnext g N (x := j + 1) (by omega)
        rw [e1, cI_rt]
        rcases ih f (j + 1) r2 (by omega) (by omega) (by omega) e2 with ⟨q1, q2⟩ | ⟨q1, q2⟩
        · refine Or.inl ⟨fun i hi hTi => ?_, q2⟩
          by_cases hij : i < j
          · rw [z4 i hi hij] at hTi; cases hTi
          · by_cases hij2 : i = j
            · rw [hij2]; exact hok
            · exact q1 i (by omega) hTi
        · exact Or.inr ⟨fun z => q1 (fun i hi hTi => z i (by omega) hTi), q2⟩
      cases ht : zt m j with
      | false => rw [b0f]; exact J193 (Or.inl ht)
      | true =>
        have l2 := zt_l ht
        have hzq := zq_lt hv ht
        rw [b0t, gi, Ih.rcv, i_tgt Ih (by omega), cI_rt, ← hzq.2, ← iI_nI, rc_v hrh, c_acc g hrh sh (by omega), cI_rt]
        by_cases hu : u (zq m j) = 1
        · rw [decide_eq_true hu, n0t]; exact J193 (Or.inr (Or.inl hu))
        · rw [decide_eq_false hu, n0f, gi, Ih.rcv, i_tgt Ih (by omega), cI_rt, ← hzq.2, ← iI_nI, N.rc, p_bget g N (by omega), cI_rt]
          cases hTz : T (zq m j) with
          | true => rw [n0t]; exact J193 (Or.inr (Or.inr hTz))
          | false =>
            rw [n0f]
            refine Or.inr ⟨fun z => ?_, rfl⟩
            rcases z j z2 z3 with q | q | q
            · rw [ht] at q; cases q
            · exact hu q
            · rw [hTz] at q; cases q
/-- a gap is tested -/
theorem c_test (g : GH B h) (R : RB κ h r im ua d oc ob lt lg lk b m n es t u w) {y : Nat} {gg : Nat × Nat} (h12 : gg.1 < gg.2) (h2n : gg.2 ≤ n) (P : GP κ h y gg 0 0) (hno : ∀ q, κ q ≠ 22) (hc : 12 ≤ hcl h) (hs : 40 ≤ hsl h) :
    ∃ h' κ', f_X5_test (some r) (some y) h = rtV h' ∧ GP κ' h' y gg (tst m n u gg).1 (tst m n u gg).2.length ∧ (∀ a, a < hsz h → a ≠ y → h'.1 a = h.1 a) ∧ h'.2.1 = h.2.1 ∧ hsz h ≤ hsz h' ∧ (∀ a, a < hsz h → κ' a = κ a) ∧ GH B h' ∧ hcl h ≤ hcl h' + 12 ∧ hsl h ≤ hsl h' + 40 ∧ (∀ q, κ' q ≠ 22) := by
  have hn := R.2.1.n96
  have k1 : KC (fun _ => False) κ h (nk 22 κ h) (hnew h (.inr (13, fsJ20)) 3) := KC.new (by omega) (by omega)
  have g1 : GH B (hnew h (.inr (13, fsJ20)) 3) := g.new
  obtain ⟨h2, e1, e2, e3, e4, e5, e6, e7⟩ := c_bnew2 (κ := nk 22 κ h) (c := 22) g1 (b := hsz h) hnew_s (nk_n (Nat.le_refl _)) (by show 1 ≤ hcl h - 1; omega) (by show 1 ≤ hsl h - 3; omega)
  have e6' : hcl h - 1 ≤ hcl h2 + 1 := e6
  have e7' : hsl h - 3 ≤ hsl h2 + 1 := e7
  have R2 := (R.kc g g1 k1 (fun z => z) (fun z => z) (fun z => z)).kc g1 e4 e3 (by omega) (by omega) (by omega)
  have P2 : GP _ h2 y gg 0 0 := (e3.ext g1 e4 (c := 21) (by omega)).1 _ _ ((k1.ext g g1 (c := 21) (fun z => z)).1 _ _ P)
  unfold f_X5_test
  rw [nO_v (by omega) (by omega), nn_v, e1, cV_rt, gI_v (rdo (fc_e P2).2) rfl]
  obtain ⟨h3, κ3, cap3, d1, d2, d3, d4, d5, d6, d7⟩ := c_tsL (B := B) (y := y) (bs := hsz h) (gg := gg) rfl (by omega) h2n (K := fun x51 x52 x53 x54 x55 h56 => xrc h56 x53 13 (xcI (f_J20_nextSetBit x53 0 h56) (fun v58 h57 => f_X5_test_L143 (fun x92 x93 x94 h95 => xpF h95 x92 7 2 (.int x93) (fun h96 => xpF h96 x92 7 3 (.int x94) (fun h97 => rtV h97))) FUEL x51 x52 x53 x54 x55 v58 h57))) (n + 1) FUEL gg.1 0 0 h2 _ 1 _ (by omega) (by unfold FUEL; omega) (by omega) e4 R2 P2 e2 (by omega) (by omega) (by omega)
  have kk : KC (fun k => k = 22) κ h κ3 h3 := ((k1.w (fun k z => z.elim)).tr e3).tr d2
  have kk0 : KC (fun _ => False) κ h κ3 h3 := kk.none (fun q => hno q)
  have P3 : GP κ3 h3 y gg 0 0 := (d2.ext e4 d3 (c := 21) (by omega)).1 _ _ P2
  -- nothing found
  have fail : tst m n u gg = (0, []) → ∀ {X : RS}, X = rtV h3 → ∃ h' κ', X = rtV h' ∧ GP κ' h' y gg (tst m n u gg).1 (tst m n u gg).2.length ∧ (∀ a, a < hsz h → a ≠ y → h'.1 a = h.1 a) ∧ h'.2.1 = h.2.1 ∧ hsz h ≤ hsz h' ∧ (∀ a, a < hsz h → κ' a = κ a) ∧ GH B h' ∧ hcl h ≤ hcl h' + 12 ∧ hsl h ≤ hsl h' + 40 ∧ (∀ q, κ' q ≠ 22) := fun ht X hX => by
    refine ⟨h3, rk 22 23 κ3, hX, ?_, fun a ha _ => kk0.1 a ha (fun z => z), kk0.2.1, kk0.2.2.1, fun a ha => ?_, d3, by omega, by omega, fun q => ?_⟩
    · rw [ht]
      exact (rk_2 d3 (e := 21) (by decide)).1 _ _ P3
    · unfold rk
      rw [kk0.2.2.2 a ha, if_neg (hno a)]
    · unfold rk
      split
      · decide
      · assumption
  rw [show (0 : Int32) = nI 0 from rfl] at *
  rcases d7 with ⟨z1, z2⟩ | ⟨s, z1, z2, z3⟩
  · exact fail (by unfold tst; rw [z1]) z2
  · have R3 := R2.kc e4 d3 d2 (by omega) (by omega) (by omega)
    obtain ⟨p1, p2, p3, p4⟩ := ch_p _ _ _ z1
    have z3 : SN 22 κ3 h3 (hsz h) cap3 (fun j => decide (j ∈ s)) := z3.cg (fun j => by simp)
    obtain ⟨arr3, N3⟩ := z3.bs d3
    obtain ⟨r0, q1, q2⟩ := p_bnext d3 N3 (x := 0) (by omega)
    have hTv : ∀ j, (fun j => decide (j ∈ s)) j = true → zv m n j = true := fun j hj => (p2 j (by simpa using hj)).2.1
    have z2' := z2
    rw [N3.rc, show (nI 0) = nI 0 from rfl, q1, cI_rt] at z2'
    have htok : (∀ j, 0 ≤ j → (fun j => decide (j ∈ s)) j = true → (zt m j = false ∨ u (zq m j) = 1 ∨ (fun j => decide (j ∈ s)) (zq m j) = true)) ↔ tok m u s s = true := by
      unfold tok
      rw [List.all_eq_true]
      constructor
      · intro hh j hj
        rcases hh j (Nat.zero_le _) (by simpa using hj) with q | q | q
        · simp [q]
        · simp [q]
        · have : zq m j ∈ s := by simpa using q
          simp [this]
      · intro hh j _ hj
        have := hh j (by simpa using hj)
        simp only [Bool.or_eq_true, Bool.not_eq_true', decide_eq_true_eq] at this
        rcases this with (q | q) | q
        · exact Or.inl q
        · exact Or.inr (Or.inl q)
        · exact Or.inr (Or.inr (by simpa using q))
    rcases c_chkL d3 R3 (y := y) N3 hTv (sc := nI (0 + scr m s)) (ins := nI (0 + s.length)) (K := fun x92 x93 x94 h95 => xpF h95 x92 7 2 (.int x93) (fun h96 => xpF h96 x92 7 3 (.int x94) (fun h97 => rtV h97))) 97 FUEL 0 r0 (by omega) (by omega) (by unfold FUEL; omega) q2 with ⟨t1, t2⟩ | ⟨t1, t2⟩
    · have ht : tst m n u gg = (scr m s, s) := by unfold tst; rw [z1]; simp only; rw [if_pos (htok.mp t1)]
      obtain ⟨ky, hy⟩ := fc_e P3
      rw [t2, pF_w [.int (nI gg.1), .int (nI (gg.2 - gg.1)), .int (nI (0 + scr m s)), .int (nI 0)] hy (Nat.le_of_ble_eq_true rfl) rfl, pF_w [.int (nI gg.1), .int (nI (gg.2 - gg.1)), .int (nI (0 + scr m s)), .int (nI (0 + s.length))] hset_s (Nat.le_of_ble_eq_true rfl) rfl, hset_ss] at z2'
      rw [Nat.zero_add, Nat.zero_add] at z2'
      refine ⟨_, rk 22 23 κ3, z2', ?_, fun a ha hay => ?_, kk0.2.1, kk0.2.2.1, fun a ha => ?_, d3.set hy, ?_, ?_, fun q => ?_⟩
      · rw [ht]
        exact fc_i (by unfold rk; rw [if_neg (by rw [ky]; decide)]; exact ky) hset_s
      · rw [hset_o hay]; exact kk0.1 a ha (fun z => z)
      · unfold rk
        rw [kk0.2.2.2 a ha, if_neg (hno a)]
      · show hcl h ≤ hcl h3 + 12
        omega
      · show hsl h ≤ hsl h3 + 40
        omega
      · unfold rk
        split
        · decide
        · assumption
    · rw [t2] at z2'
      exact fail (by unfold tst; rw [z1]; simp only; rw [if_neg (fun z => t1 (htok.mpr z))]) z2'
end
