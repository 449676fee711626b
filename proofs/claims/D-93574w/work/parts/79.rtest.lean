/-! PURE: a recovery tests a gap -/
set_option maxRecDepth 100000
section
variable {B : Nat} {h h' : AH} {κ κ' : Nat → Nat} {r im ua d oc lc ob lb lt lg lk b : Nat} {m u w : Nat → Nat} {n t : Nat} {es : List Nat} {c : Nat} {S : Nat → Prop}
/-- bit sets, with their capacity -/
def SN (c : Nat) (κ : Nat → Nat) (h : AH) (b cap : Nat) (T : Nat → Bool) : Prop := ∃ arr, BS (fc c κ h) b arr cap T
theorem SN.ext {d cap : Nat} {T : Nat → Bool} (x : Ext (fc c κ h) (fc d κ' h')) (L : SN c κ h b cap T) : SN d κ' h' b cap T := by
  obtain ⟨arr, l1⟩ := L
  exact ⟨arr, l1.ext x⟩
theorem SN.sb {cap : Nat} {T : Nat → Bool} (L : SN c κ h b cap T) : SB c κ h b T := by
  obtain ⟨arr, l1⟩ := L
  exact ⟨arr, cap, l1⟩
theorem SN.bs {cap : Nat} {T : Nat → Bool} (g : GH B h) (L : SN c κ h b cap T) : ∃ arr, BS h b arr cap T := by
  obtain ⟨arr, l1⟩ := L
  exact ⟨arr, l1.ext (fc_ext g)⟩
theorem SN.cg {cap : Nat} {T T' : Nat → Bool} (L : SN c κ h b cap T) (e : ∀ j, T' j = T j) : SN c κ h b cap T' := by
  obtain ⟨arr, l1⟩ := L
  exact ⟨arr, l1.cg e⟩
theorem c_bnew2 (g : GH B h) {b : Nat} (he : h.1 b = some (.inr (13, fsJ20))) (hb : κ b = c) (hc : 1 ≤ hcl h) (hs : 1 ≤ hsl h) : ∃ h', f_J20_init (some b) h = rtV h' ∧ SN c (nk c κ h) h' b 1 (fun _ => false) ∧ KC (fun k => k = c) κ h (nk c κ h) h' ∧ GH B h' ∧ hsz h' = hsz h + 1 ∧ hcl h ≤ hcl h' + 1 ∧ hsl h ≤ hsl h' + 1 := by
  obtain ⟨h', e1, e2, e3, e4, e5⟩ := p_bnew g he hc hs
  exact ⟨h', e1, ⟨_, e2.col (by rw [nk_o (g.fresh he).1]; exact hb) (nk_n (Nat.le_refl _))⟩, KC.kn e3 (fun a ha z => by rw [z]; exact hb), e4, e5, e3.2.2.2.1, e3.2.2.2.2.1⟩
theorem c_bset2 (g : GH B h) {b x cap : Nat} {T : Nat → Bool} (L : SN c κ h b cap T) (hx : x < 256) (hc : 1 ≤ hcl h) (hs : 6 ≤ hsl h) : ∃ h' κ' cap', f_J20_set (some b) (nI x) h = rtV h' ∧ SN c κ' h' b cap' (fun j => T j || decide (j = x)) ∧ KC (fun k => k = c) κ h κ' h' ∧ GH B h' ∧ hcl h + cap ≤ hcl h' + cap' ∧ hsl h + 2 * cap ≤ hsl h' + 2 * cap' ∧ (∀ q, κ' q = κ q ∨ κ' q = c) ∧ cap' ≤ 8 := by
  obtain ⟨arr, l1⟩ := L
  obtain ⟨k1, k2⟩ := l1.cl
  have lA := l1.ext (fc_ext g)
  have hlt := lA.lt g
  obtain ⟨h', arr', cap', e1, e2, e3, e4, e5⟩ := p_bset g lA hx hc hs
  have h8 := e2.c8
  have hcc : cap ≤ cap' := by rcases e3 with ⟨z1, z2⟩ | ⟨z1, z2⟩ <;> omega
  refine ⟨h', nk c κ h, cap', e1, ⟨arr', e2.col (by rw [nk_o hlt.1]; exact k1) ?_⟩, KC.kn e4 (fun a ha z => by
    rcases z with rfl | rfl
    · exact k1
    · exact k2), e5, by have := e4.2.2.2.1; omega, by have := e4.2.2.2.2.1; omega, fun _ => nk_or, h8⟩
  rcases e3 with ⟨z1, z2⟩ | ⟨z1, z2⟩
  · rw [z1, nk_o hlt.2]; exact k2
  · rw [z1]; exact nk_n (Nat.le_refl _)
/-- the scan -/
theorem c_tsL {e y bs : Nat} {gg : Nat × Nat} (hge : gg.2 = e) (hg12 : gg.1 ≤ gg.2) (he : e ≤ n) {K : Option Nat → Option Nat → Option Nat → Int32 → Int32 → AH → RS} : ∀ (k f a sc ins : Nat) (h : AH) (κ : Nat → Nat) (cap : Nat) (T : Nat → Bool), n < a + k → k < f → a ≤ n → GH B h → RB κ h r im ua d oc ob lt lg lk b m n es t u w → GP κ h y gg 0 0 → SN 22 κ h bs cap T → cap ≤ 8 → 10 ≤ hcl h + cap → 30 ≤ hsl h + 2 * cap →
    ∃ h' κ' cap', cap' ≤ 8 ∧ KC (fun k => k = 22) κ h κ' h' ∧ GH B h' ∧ hcl h + cap ≤ hcl h' + cap' ∧ hsl h + 2 * cap ≤ hsl h' + 2 * cap' ∧ (∀ q, κ' q = κ q ∨ κ' q = 22) ∧
      ((ch m n e k a = none ∧ f_X5_test_L22 K f (some r) (some y) (some bs) (nI a) (nI sc) (nI ins) 0 h = rtV h') ∨
       ∃ s, ch m n e k a = some s ∧ f_X5_test_L22 K f (some r) (some y) (some bs) (nI a) (nI sc) (nI ins) 0 h = K (some r) (some y) (some bs) (nI (sc + scr m s)) (nI (ins + s.length)) h' ∧ SN 22 κ' h' bs cap' (fun j => T j || decide (j ∈ s))) := by
  intro k
  induction k with
  | zero => intro f a sc ins h κ cap T h1 h2 h3; omega
  | succ k ih =>
    intro f a sc ins h κ cap T h1 h2 h3 g R P N hcap hc hs
    obtain ⟨f, rfl⟩ : ∃ f', f = f' + 2 := ⟨f - 2, by omega⟩
    have hn := R.2.1.n96
    have Ih := R.2.1.ext (fc_ext g)
    have hrh := rdo (fc_e R.1).2
    have hyh := rdo (fc_e P).2
    have gi : ∀ {X : Option Nat → RS}, xgA h (some r) 4 0 X = X (some im) := gA_v (o := some im) hrh rfl
    have hend : f_X8_end (some y) h = rtI (nI e) h := by
      unfold f_X8_end
      rw [gI_v hyh rfl, gI_v hyh rfl, nI_add, show gg.1 + (gg.2 - gg.1) = e by omega]
    have stop : ¬ (zv m n a = true ∧ a + zl m a ≤ e) → ch m n e (k + 1) a = none := fun z => by unfold ch; rw [if_neg z]
    have hz := zl_12 m a
    have no : ¬ (zv m n a = true ∧ a + zl m a ≤ e) → ∀ {X : RS}, X = rtV h → ∃ h' κ' cap', cap' ≤ 8 ∧ KC (fun k => k = 22) κ h κ' h' ∧ GH B h' ∧ hcl h + cap ≤ hcl h' + cap' ∧ hsl h + 2 * cap ≤ hsl h' + 2 * cap' ∧ (∀ q, κ' q = κ q ∨ κ' q = 22) ∧ ((ch m n e (k + 1) a = none ∧ X = rtV h') ∨ ∃ s, ch m n e (k + 1) a = some s ∧ X = K (some r) (some y) (some bs) (nI (sc + scr m s)) (nI (ins + s.length)) h' ∧ SN 22 κ' h' bs cap' (fun j => T j || decide (j ∈ s))) := fun z X hX => ⟨h, κ, cap, hcap, KC.rf, g, by omega, by omega, fun q => Or.inl rfl, Or.inl ⟨stop z, hX⟩⟩
    unfold f_X5_test_L22
    rw [if_neg (fun z => z rfl), rc_v hyh, hend, cI_rt]
    by_cases hea : e ≤ a
    · rw [if_pos (nI_le hea (by omega))]
      exact no (fun z => by omega) rfl
    · rw [if_neg (fun z => hea ((nI_leI (by omega) (by omega)).mp z)), gi, Ih.rcv, i_valid Ih (by omega), cI_rt]
      cases hv : zv m n a with
      | false =>
        rw [b0f]
        exact no (fun z => by rw [hv] at z; cases z.1) rfl
      | true =>
        obtain ⟨v1, v2, v3, v4⟩ := zv_f hv
        rw [b0t, gi, Ih.rcv, i_len Ih v1, cI_rt, rc_v hyh, hend, cI_rt, nI_add]
        by_cases hle : a + zl m a ≤ e
        · obtain ⟨arr, Nh⟩ := N.bs g
          rw [if_pos (nI_le hle (by omega)), Nh.rc]
          obtain ⟨h2', κ2, cap2, c1, c2', c3, c4, c5, c6, c7, c8⟩ := c_bset2 g N (show a < 256 by omega) (by omega) (by omega)
          rw [c1, cV_rt]
          have R2 := R.kc g c4 c3 (by omega) (by omega) (by omega)
          have P2 : GP κ2 h2' y gg 0 0 := (c3.ext g c4 (c := 21) (by omega)).1 _ _ P
          have I2h := R2.2.1.ext (fc_ext c4)
          have hr2 := rdo (fc_e R2.1).2
          have gi2 : ∀ {X : Option Nat → RS}, xgA h2' (some r) 4 0 X = X (some im) := gA_v (o := some im) hr2 rfl
          have hk16 := I2h.k16 v1
          have J105 : ∀ v : Nat, f_X5_test_J105 (f_X5_test_L22 K (f + 1)) K (some r) (some y) (some bs) (nI a) (nI ins) (nI v) 1 (nI sc) h2' = f_X5_test_L22 K (f + 1) (some r) (some y) (some bs) (nI (a + zl m a)) (nI (sc + (1 + v))) (nI (ins + 1)) (bI (ze m a)) h2' := fun v => by
            unfold f_X5_test_J105
            rw [gi2, I2h.rcv, i_ends I2h v1, cI_rt, gi2, I2h.rcv, i_len I2h v1, cI_rt, nI_add, lit 1, nI_add, nI_add, nI_add]
          have st : xgA h2' (some r) 4 0 (fun v24 => xrc h2' v24 1 (xcI (f_X2_kind v24 (nI a) h2') (fun v26 h25 => if ¬ v26 = 7 then xgA h25 (some r) 4 0 (fun v27 => xrc h25 v27 1 (xcI (f_X2_hasTarget v27 (nI a) h25) (fun v29 h28 => if v29 = 0 then f_X5_test_J105 (f_X5_test_L22 K (f + 1)) K (some r) (some y) (some bs) (nI a) (nI ins) 0 1 (nI sc) h28 else f_X5_test_J105 (f_X5_test_L22 K (f + 1)) K (some r) (some y) (some bs) (nI a) (nI ins) 2 1 (nI sc) h28))) else f_X5_test_J105 (f_X5_test_L22 K (f + 1)) K (some r) (some y) (some bs) (nI a) (nI ins) 3 1 (nI sc) h25))) = f_X5_test_L22 K (f + 1) (some r) (some y) (some bs) (nI (a + zl m a)) (nI (sc + sc1 m a)) (nI (ins + 1)) (bI (ze m a)) h2' := by
            rw [gi2, I2h.rcv, i_kind I2h v1, cI_rt]
            by_cases h7 : zk m a = 7
            · rw [if_neg (fun z => z (by rw [h7]; rfl)), show (3 : Int32) = nI 3 from rfl, J105, show sc1 m a = 1 + 3 by simp [sc1, h7]]
            · rw [if_pos (show ¬ nI (zk m a) = 7 from fun z => h7 ((nI_eq (b := 7) (by omega) (by decide)).mp z)), gi2, I2h.rcv, i_hasT I2h v1, cI_rt]
              cases ht : zt m a with
              | true => rw [b0t, show (2 : Int32) = nI 2 from rfl, J105, show sc1 m a = 1 + 2 by simp [sc1, h7, ht]]
              | false => rw [b0f, show (0 : Int32) = nI 0 from rfl, J105, show sc1 m a = 1 + 0 by simp [sc1, h7, ht]]
          rw [st]
          cases hze : ze m a with
          | true =>
            have hch : ch m n e (k + 1) a = some [a] := by unfold ch; rw [if_pos ⟨hv, hle⟩, if_pos hze]
            unfold f_X5_test_L22
            rw [if_pos (show ¬ bI true = 0 by decide)]
            refine ⟨h2', κ2, cap2, c8, c3, c4, c5, c6, c7, Or.inr ⟨[a], hch, ?_, c2'.cg (fun j => by simp)⟩⟩
            simp [scr]
          | false =>
            obtain ⟨h3', κ3, cap3, d1, d2, d3, d4, d5, d6, d7⟩ := ih (f + 1) (a + zl m a) (sc + sc1 m a) (ins + 1) h2' κ2 cap2 _ (by omega) (by omega) (by omega) c4 R2 P2 c2' c8 (by omega) (by omega)
            have hch : ch m n e (k + 1) a = (ch m n e k (a + zl m a)).map (fun s => a :: s) := by
              conv => lhs; unfold ch
              rw [if_pos ⟨hv, hle⟩, if_neg (by rw [hze]; decide)]
            refine ⟨h3', κ3, cap3, d1, c3.tr d2, d3, by omega, by omega, fun q => ?_, ?_⟩
            · rcases d6 q with z | z
              · rw [z]; exact c7 q
              · exact Or.inr z
            · rw [hch]
              rcases d7 with ⟨z1, z2⟩ | ⟨s, z1, z2, z3⟩
              · exact Or.inl ⟨by rw [z1]; rfl, z2⟩
              · refine Or.inr ⟨a :: s, by rw [z1]; rfl, ?_, z3.cg (fun j => ?_)⟩
                · rw [show (bI false) = 0 from rfl, z2]
                  simp only [scr, List.map_cons, List.sum_cons, List.length_cons]
                  congr 2 <;> omega
                · simp only [List.mem_cons]
                  by_cases hja : j = a
                  · simp [hja]
                  · simp [hja]
        · rw [if_neg (fun z => hle ((nI_leI (by omega) (by omega)).mp z))]
          exact no (fun z => hle z.2) rfl
end
