/-! PURE: a recovery finds its gaps -/
set_option maxRecDepth 100000
section
variable {B : Nat} {h h' : AH} {κ κ' : Nat → Nat} {r im ua d oc lc ob lb lt lg lk b : Nat} {m u w : Nat → Nat} {n t : Nat} {es : List Nat} {c : Nat} {S : Nat → Prop}
def RB (κ : Nat → Nat) (h : AH) (r im ua d oc ob lt lg lk b : Nat) (m : Nat → Nat) (n : Nat) (es : List Nat) (t : Nat) (u w : Nat → Nat) : Prop :=
  (fc 0 κ h).1 r = some (.inr (4, RF im ua d oc ob lt lg lk b)) ∧ IM (fc 0 κ h) im m n es t ∧ UA κ h ua n w ∧ SB 18 κ h b (fun a => decide (u a = 1))
theorem RB.ext (R : RB κ h r im ua d oc ob lt lg lk b m n es t u w) (x0 : Ext (fc 0 κ h) (fc 0 κ' h')) (x11 : Ext (fc 11 κ h) (fc 11 κ' h')) (x18 : Ext (fc 18 κ h) (fc 18 κ' h')) : RB κ' h' r im ua d oc ob lt lg lk b m n es t u w := ⟨x0.1 _ _ R.1, R.2.1.ext x0, R.2.2.1.ext x11, R.2.2.2.ext x18⟩
theorem RB.kc (R : RB κ h r im ua d oc ob lt lg lk b m n es t u w) (g : GH B h) (g' : GH B h') (k : KC S κ h κ' h') (h0 : ¬ S 0) (h11 : ¬ S 11) (h18 : ¬ S 18) : RB κ' h' r im ua d oc ob lt lg lk b m n es t u w := R.ext (k.ext g g' h0) (k.ext g g' h11) (k.ext g g' h18)
/-- a gap's object -/
def GP (κ : Nat → Nat) (h : AH) (y : Nat) (g : Nat × Nat) (sc ins : Nat) : Prop := (fc 21 κ h).1 y = some (.inr (7, [.int (nI g.1), .int (nI (g.2 - g.1)), .int (nI sc), .int (nI ins)]))
/-- gaps, the first k of them tested -/
def GS (κ : Nat → Nat) (h : AH) (m : Nat → Nat) (n : Nat) (u : Nat → Nat) (k : Nat) (yg : List Nat) (G : List (Nat × Nat)) : Prop := yg.length = G.length ∧ yg.Nodup ∧ ∀ i, i < G.length → GP κ h (yg.getD i 0) (G.getD i (0, 0)) (if i < k then (tst m n u (G.getD i (0, 0))).1 else 0) (if i < k then (tst m n u (G.getD i (0, 0))).2.length else 0)
theorem GS.ext {k : Nat} {yg : List Nat} {G : List (Nat × Nat)} (s : GS κ h m n u k yg G) (x : Ext (fc 21 κ h) (fc 21 κ' h')) : GS κ' h' m n u k yg G := ⟨s.1, s.2.1, fun i hi => x.1 _ _ (s.2.2 i hi)⟩
theorem GS.el {k : Nat} {yg : List Nat} {G : List (Nat × Nat)} (s : GS κ h m n u k yg G) : ∀ z ∈ yg, EL h z := fun z hz => by
  obtain ⟨i, hi, rfl⟩ := List.mem_iff_getElem.mp hz
  have := s.2.2 i (by rw [← s.1]; exact hi)
  rw [List.getD_eq_getElem?_getD, List.getElem?_eq_getElem hi] at this
  exact ⟨_, _, rdo (fc_e this).2, by decide⟩
theorem c_gapsL (hw : ∀ a, tk (w a) = tk (u a)) (hw5 : ∀ a, w a ≤ 5) {K : AH → RS} : ∀ (k f a bg : Nat) (h : AH) (κ : Nat → Nat) (cap : Nat) (yg : List Nat) (G : List (Nat × Nat)), a + k = n + 1 → k < f → bg ≤ a ∧ (a ≤ n ∨ bg = a) → GH B h → RB κ h r im ua d oc ob lt lg lk b m n es t u w → LA 16 κ h lg cap yg → GS κ h m n u 0 yg G → G ++ gs u (n - a) a bg = gaps n u → 2 * k ≤ hcl h → 2000 + 4 * k ≤ hsl h + 4 * cap → (∀ q, κ q ≠ 22) →
    ∃ h' κ' cap' yg', f_X5_findGaps_L4 K f (some r) (nI bg) (nI a) h = K h' ∧ LA 16 κ' h' lg cap' yg' ∧ GS κ' h' m n u 0 yg' (gaps n u) ∧ KC (fun k => k = 16) κ h κ' h' ∧ GH B h' ∧ hcl h ≤ hcl h' + 2 * k ∧ hsl h + 4 * cap ≤ hsl h' + 4 * cap' + 4 * k ∧ (∀ q, κ' q ≠ 22) := by
  intro k
  induction k with
  | zero =>
    intro f a bg h κ cap yg G h1 h2 hb g R L s hG hc hs hno
    have hn := R.2.1.n96
    obtain ⟨f, rfl⟩ : ∃ f', f = f' + 1 := ⟨f - 1, by omega⟩
    have Ih := R.2.1.ext (fc_ext g)
    have hrh := rdo (fc_e R.1).2
    unfold f_X5_findGaps_L4
    rw [gA_v (o := some im) hrh rfl, Ih.rcv, i_size Ih, cI_rt, if_pos (nI_lt (by omega) (by omega))]
    have e0 : gs u (n - a) a bg = [] := by rw [show n - a = 0 by omega]; unfold gs; rw [if_neg (by omega)]
    rw [e0, List.append_nil] at hG
    subst hG
    exact ⟨h, κ, cap, yg, rfl, L, s, KC.rf, g, by omega, by omega, hno⟩
  | succ k ih =>
    intro f a bg h κ cap yg G h1 h2 hb g R L s hG hc hs hno
    have hn := R.2.1.n96
    obtain ⟨f, rfl⟩ : ∃ f', f = f' + 1 := ⟨f - 1, by omega⟩
    have Ih := R.2.1.ext (fc_ext g)
    have hrh := rdo (fc_e R.1).2
    have gi : ∀ {X : Option Nat → RS}, xgA h (some r) 4 0 X = X (some im) := gA_v (o := some im) hrh rfl
    obtain ⟨fu, u1, u2⟩ := R.2.2.1
    have u1h := rdo (fc_e u1).2
    unfold f_X5_findGaps_L4
    rw [gi, Ih.rcv, i_size Ih, cI_rt, if_neg (nI_nlt (by omega) (by omega)), gi, Ih.rcv, i_size Ih, cI_rt]
    -- a gap may end
    have J34 : (a = n ∨ tk (u a) = true) → ∃ h' κ' cap' yg', f_X5_findGaps_J34 (f_X5_findGaps_L4 K f) K (some r) (nI bg) (nI a) h = K h' ∧ LA 16 κ' h' lg cap' yg' ∧ GS κ' h' m n u 0 yg' (gaps n u) ∧ KC (fun k => k = 16) κ h κ' h' ∧ GH B h' ∧ hcl h ≤ hcl h' + 2 * (k + 1) ∧ hsl h + 4 * cap ≤ hsl h' + 4 * cap' + 4 * (k + 1) ∧ (∀ q, κ' q ≠ 22) := by
      intro hx
      rw [gs_nx (by omega) hx] at hG
      unfold f_X5_findGaps_J34 f_X5_findGaps_J58 f_X5_findGaps_J62
      by_cases hab : a ≤ bg
      · rw [if_neg (by omega), List.nil_append] at hG
        rw [if_pos (nI_le hab (by omega)), nI_1]
        obtain ⟨h', κ', cap', yg', e1, e2, e3, e4, e5, e6, e7, e8⟩ := ih f (a + 1) (a + 1) h κ cap yg G (by omega) (by omega) ⟨Nat.le_refl _, Or.inr rfl⟩ g R L s hG (by omega) (by omega) hno
        exact ⟨h', κ', cap', yg', e1, e2, e3, e4, e5, by omega, by omega, e8⟩
      · rw [if_pos (by omega)] at hG
        have hGl : G.length < 97 := by
          have h1 := gaps_len n u
          rw [← hG, List.length_append, List.length_append, List.length_singleton] at h1
          omega
        have hyl := s.1
        rw [if_neg (fun z => hab ((nI_leI (by omega) (by omega)).mp z)), gA_v (o := some lg) hrh rfl]
        have hcap : cap ≤ 2 * yg.length + 10 := by obtain ⟨_, _, _, z⟩ := L; exact z
        rw [nO_v (by omega) (by omega), nn_v]
        unfold f_X8_init
        rw [nn_v, pF_w [.int (nI bg), .int 0, .int 0, .int 0] hnew_s (Nat.le_of_ble_eq_true rfl) rfl, pk_sub (by omega), pF_w [.int (nI bg), .int (nI (a - bg)), .int 0, .int 0] hset_s (Nat.le_of_ble_eq_true rfl) rfl, hset_ss, cV_rt]
        have k1 : KC (fun _ => False) κ h (nk 21 κ h) (hset (hnew h (.inr (7, fsX8)) 4) (hsz h) (.inr (7, [.int (nI bg), .int (nI (a - bg)), .int 0, .int 0]))) := by
          refine KC.kn (F := fun _ => False) (c1 := 1) (n1 := 4) (Kp.tr (F1 := fun _ => False) (F2 := fun q => q = hsz h) (Kp.nw (by omega) (by omega)) (Kp.st rfl) (fun _ z => z) (fun q hq z => by omega) (by omega) (by omega)) (fun _ _ z => z)
        have g1 : GH B (hset (hnew h (.inr (7, fsX8)) 4) (hsz h) (.inr (7, [.int (nI bg), .int (nI (a - bg)), .int 0, .int 0]))) := g.new.set hnew_s
        have hy1 : (fc 21 (nk 21 κ h) (hset (hnew h (.inr (7, fsX8)) 4) (hsz h) (.inr (7, [.int (nI bg), .int (nI (a - bg)), .int 0, .int 0])))).1 (hsz h) = some (.inr (7, [.int (nI bg), .int (nI (a - bg)), .int 0, .int 0])) := fc_i (nk_n (Nat.le_refl _)) hset_s
        have hq1 : hcl (hset (hnew h (.inr (7, fsX8)) 4) (hsz h) (.inr (7, [.int (nI bg), .int (nI (a - bg)), .int 0, .int 0]))) = hcl h - 1 ∧ hsl (hset (hnew h (.inr (7, fsX8)) 4) (hsz h) (.inr (7, [.int (nI bg), .int (nI (a - bg)), .int 0, .int 0]))) = hsl h - 4 := ⟨rfl, rfl⟩
        have hno1 : ∀ q, nk 21 κ h q ≠ 22 := fun q => by
          rcases nk_or (c := 21) (κ := κ) (h := h) (q := q) with z | z
          · rw [z]; exact hno q
          · omega
        generalize hset (hnew h (.inr (7, fsX8)) 4) (hsz h) (.inr (7, [.int (nI bg), .int (nI (a - bg)), .int 0, .int 0])) = h1' at k1 g1 hy1 hq1 ⊢
        generalize nk 21 κ h = κ1 at k1 hy1 hno1
        have hnew : hsz h ∉ yg := fun hm => by
          obtain ⟨i, hi, he⟩ := List.mem_iff_getElem.mp hm
          have := s.2.2 i (by omega)
          rw [List.getD_eq_getElem?_getD, List.getElem?_eq_getElem hi] at this
          have hlt := (g.fresh (fc_e this).2).1
          simp only [Option.getD_some] at hlt
          omega
        have L1 := L.ext (k1.ext g g1 (c := 16) (fun z => z))
        have s1 := s.ext (k1.ext g g1 (c := 21) (fun z => z))
        obtain ⟨arr1, A1⟩ := L1.al g1
        obtain ⟨h2', κ2, cap2, f1, f2, f3, f4, f5, f6⟩ := c_ladd g1 L1 (y := hsz h) ⟨_, _, rdo (fc_e hy1).2, by decide⟩ s1.el (by omega) (by omega) (by omega)
        rw [A1.rc, f1, cI_rt, nI_1]
        have x21 := f3.ext g1 f4 (c := 21) (by omega)
        have s2 : GS κ2 h2' m n u 0 (yg ++ [hsz h]) (G ++ [(bg, a)]) := by
          refine ⟨by rw [List.length_append, List.length_append, hyl]; rfl, ?_, fun i hi => ?_⟩
          · rw [List.nodup_append]
            refine ⟨s.2.1, by simp, fun x hx y hy => ?_⟩
            rw [List.mem_singleton.mp hy]
            rintro rfl
            exact hnew hx
          · rw [List.length_append, List.length_singleton] at hi
            by_cases hiG : i = G.length
            · subst hiG
              rw [getP_ae, ← hyl, getD_ae]
              exact x21.1 _ _ hy1
            · rw [getP_ap (by omega), getD_ap (by omega)]
              exact x21.1 _ _ (s1.2.2 i (by omega))
        have R2 := (R.kc g g1 k1 (fun z => z) (fun z => z) (fun z => z)).kc g1 f4 f3 (by omega) (by omega) (by omega)
        obtain ⟨h', κ', cap', yg', e1, e2, e3, e4, e5, e6, e7, e8⟩ := ih f (a + 1) (a + 1) h2' κ2 cap2 _ (G ++ [(bg, a)]) (by omega) (by omega) ⟨Nat.le_refl _, Or.inr rfl⟩ f4 R2 f2 s2 (by rw [List.append_assoc]; exact hG) (by omega) (by omega) (fun q => by
          rcases f6.2 q with z | z
          · rw [z]; exact hno1 q
          · omega)
        exact ⟨h', κ', cap', yg', e1, e2, e3, ((k1.w (fun k z => z.elim)).tr f3).tr e4, e5, by omega, by omega, e8⟩
    by_cases han : a = n
    · rw [if_pos (by rw [han])]
      exact J34 (Or.inl han)
    · have hlt : a < n := by omega
      rw [if_neg (fun z => han ((nI_eq (by omega) (by omega)).mp z)), rc_v hrh, c_tkn hrh u1h u2 hw5 hn hlt, cI_rt, hw a]
      cases htk : tk (u a) with
      | true => rw [b0t]; exact J34 (Or.inr htk)
      | false =>
        unfold f_X5_findGaps_J62
        rw [b0f, nI_1]
        obtain ⟨h', κ', cap', yg', e1, e2, e3, e4, e5, e6, e7, e8⟩ := ih f (a + 1) bg h κ cap yg G (by omega) (by omega) ⟨by omega, Or.inl (by omega)⟩ g R L s (by
          rw [← hG, show n - a = (n - (a + 1)) + 1 by omega]
          conv => rhs; unfold gs
          rw [if_neg (by rw [htk]; decide)]) (by omega) (by omega) hno
        exact ⟨h', κ', cap', yg', e1, e2, e3, e4, e5, by omega, by omega, e8⟩
end
