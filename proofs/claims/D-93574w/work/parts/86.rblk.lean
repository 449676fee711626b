/-! PURE: a recovery's blocks -/
set_option maxRecDepth 100000
section
variable {B : Nat} {h h' H H' : AH} {κ κ' : Nat → Nat} {r im ua d oc lc ob lb lt lg lk b : Nat} {m : Nat → Nat} {n t : Nat} {es : List Nat} {c : Nat} {S : Nat → Prop}
theorem gl_cons {a : Nat} {l : List Nat} (hl : l ≠ []) : (a :: l).getLastD 0 = l.getLastD 0 := by
  cases l with
  | nil => exact absurd rfl hl
  | cons x l => rfl
theorem c_blL {bs cap y : Nat} {L : Nat → Bool} {ld ld0 : Int32} {K : Option Nat → Option Nat → Int32 → Option Nat → AH → RS} : ∀ (k f a i : Nat) (lst : Int32) (h : AH), n ≤ a + k → dU m n es a = 1 → k + 1 < f → i + k ≤ 1000 → GH B h → RX (fc 0 κ h) r im ua d oc lc ob lb lt lg lk b m n es t → SN 24 κ h bs cap L → (fc 25 κ h).1 y = some (.inr (8, [.int ld, .int (nI i), .int lst])) →
    ∃ h', f_X5_findBlocks_L30 K f (some r) (some bs) ld0 (some y) (nI a) 1 h = K (some r) (some bs) ld0 (some y) h' ∧ (fc 25 κ h').1 y = some (.inr (8, [.int ld, .int (nI (i + (blc m (dU m n es) L k a).length)), .int (nI ((blc m (dU m n es) L k a).getLastD 0))])) ∧ KC (fun k => k = 25) κ h κ h' ∧ GH B h' ∧ hcl h' = hcl h ∧ hsl h' = hsl h ∧ hsz h' = hsz h := by
  intro k
  induction k with
  | zero =>
    intro f a i lst h h1 hu hf hi g R N P
    have I := R.2.1.ext (fc_ext g)
    have sg := (dS_g I.byt I.n96 I.eln I.e4).1
    have := sg.1 a (by omega)
    rw [show dU m n es a = 0 from this] at hu
    cases hu
  | succ k ih =>
    intro f a i lst h h1 hu hf hi g R N P
    obtain ⟨f, rfl⟩ : ∃ f', f = f' + 2 := ⟨f - 2, by omega⟩
    have I0 := R.2.1.ext (fc_ext g)
    have hn := I0.n96
    obtain ⟨sg1, sg2, sg3, _⟩ := (dS_g I0.byt I0.n96 I0.eln I0.e4).1
    have hv := (sg3 a hu).1
    obtain ⟨v1, v2, v3, v4⟩ := zv_f hv
    have hl := zl_12 m a
    obtain ⟨ky, hy⟩ := fc_e P
    unfold f_X5_findBlocks_L30
    rw [if_neg (show ¬ (1 : Int32) = 0 by decide), gI_v (rdo hy) rfl, nI_1, pF_w [.int ld, .int (nI (i + 1)), .int lst] hy (Nat.le_of_ble_eq_true rfl) rfl, pF_w [.int ld, .int (nI (i + 1)), .int (nI a)] hset_s (Nat.le_of_ble_eq_true rfl) rfl, hset_ss]
    have k1 : KC (fun k => k = 25) κ h κ (hset h y (.inr (8, [.int ld, .int (nI (i + 1)), .int (nI a)]))) := KC.set ky
    have g1 : GH B (hset h y (.inr (8, [.int ld, .int (nI (i + 1)), .int (nI a)]))) := g.set hy
    have P1 : (fc 25 κ (hset h y (.inr (8, [.int ld, .int (nI (i + 1)), .int (nI a)])))).1 y = some (.inr (8, [.int ld, .int (nI (i + 1)), .int (nI a)])) := fc_i ky hset_s
    have q1 : hcl (hset h y (.inr (8, [.int ld, .int (nI (i + 1)), .int (nI a)]))) = hcl h ∧ hsl (hset h y (.inr (8, [.int ld, .int (nI (i + 1)), .int (nI a)]))) = hsl h ∧ hsz (hset h y (.inr (8, [.int ld, .int (nI (i + 1)), .int (nI a)]))) = hsz h := ⟨rfl, rfl, rfl⟩
    generalize hset h y (.inr (8, [.int ld, .int (nI (i + 1)), .int (nI a)])) = h1' at k1 g1 P1 q1 ⊢
    have R1 := R.ext (k1.ext g g1 (c := 0) (by decide))
    have N1 := N.ext (k1.ext g g1 (c := 24) (by decide))
    have I := R1.2.1.ext (fc_ext g1)
    have hrh := rdo (fc_e R1.1).2
    rw [gA_v (o := some im) hrh rfl, I.rcv, i_endsB I v1, cI_rt, gA_v (o := some im) hrh rfl, I.rcv, i_len I v1, cI_rt, nI_add]
    -- it ends here
    have stop : ¬ (zb m a = false ∧ dU m n es (a + zl m a) = 1 ∧ L (a + zl m a) = false) → ∃ h', f_X5_findBlocks_J103 (f_X5_findBlocks_L30 K (f + 1)) K (some r) (some bs) ld0 (some y) (nI (a + zl m a)) h1' = K (some r) (some bs) ld0 (some y) h' ∧ (fc 25 κ h').1 y = some (.inr (8, [.int ld, .int (nI (i + (blc m (dU m n es) L (k + 1) a).length)), .int (nI ((blc m (dU m n es) L (k + 1) a).getLastD 0))])) ∧ KC (fun k => k = 25) κ h κ h' ∧ GH B h' ∧ hcl h' = hcl h ∧ hsl h' = hsl h ∧ hsz h' = hsz h := fun hno => by
      unfold f_X5_findBlocks_J103 f_X5_findBlocks_J104 f_X5_findBlocks_L30
      rw [if_pos rfl]
      refine ⟨h1', rfl, ?_, k1, g1, q1.1, q1.2.1, q1.2.2⟩
      unfold blc
      rw [if_neg hno]
      exact P1
    cases hb : zb m a with
    | true =>
      rw [n0t]
      exact stop (fun z => by rw [hb] at z; cases z.1)
    | false =>
      obtain ⟨ar1, cp1, A1⟩ := R1.2.2.2.1
      rw [n0f, rc_v hrh, c_acc g1 hrh (A1.ext (fc_ext g1)) (show a + zl m a < 256 by omega), cI_rt]
      by_cases hac : dU m n es (a + zl m a) = 1
      · obtain ⟨ar2, N2⟩ := N1.bs g1
        rw [decide_eq_true hac, b0t, N2.rc, p_bget g1 N2 (by omega), cI_rt]
        cases hL : L (a + zl m a) with
        | true =>
          rw [n0t]
          exact stop (fun z => by rw [hL] at z; cases z.2.2)
        | false =>
          rw [n0f]
          unfold f_X5_findBlocks_J104
          obtain ⟨h2', d1, d2, d3, d4, d5, d6, d7⟩ := ih (f + 1) (a + zl m a) (i + 1) (nI a) h1' (by omega) hac (by omega) (by omega) g1 R1 N1 P1
          refine ⟨h2', d1, ?_, k1.tr d3, d4, by omega, by omega, by omega⟩
          unfold blc
          rw [if_pos ⟨hb, hac, hL⟩, List.length_cons, gl_cons (blc_ne _ _), show i + ((blc m (dU m n es) L k (a + zl m a)).length + 1) = i + 1 + (blc m (dU m n es) L k (a + zl m a)).length by omega]
          exact d2
      · rw [decide_eq_false hac, b0f]
        exact stop (fun z => hac z.2.1)
/-- the blocks so far -/
def BK (H : AH) (m : Nat → Nat) (n : Nat) (es : List Nat) (yk ls : List Nat) : Prop := yk.length = ls.length ∧ (∀ i, i < ls.length → LK (isL m (dU m n es) n es (dS m n es).2.2.2.2) i (ls.getD i 0)) ∧ ∀ i, i < ls.length → H.1 (yk.getD i 0) = some (.inr (8, [.int (nI (ls.getD i 0)), .int (nI (bkl m (dU m n es) n es (dS m n es).2.2.2.2 (ls.getD i 0)).length), .int (nI ((bkl m (dU m n es) n es (dS m n es).2.2.2.2 (ls.getD i 0)).getLastD 0))]))
theorem BK.ext {yk ls : List Nat} (s : BK H m n es yk ls) (x : Ext H H') : BK H' m n es yk ls := ⟨s.1, s.2.1, fun i hi => x.1 _ _ (s.2.2 i hi)⟩
theorem BK.el {yk ls : List Nat} (s : BK H m n es yk ls) : ∀ z ∈ yk, EL H z := fun z hz => by
  obtain ⟨i, hi, rfl⟩ := List.mem_iff_getElem.mp hz
  have := s.2.2 i (by rw [← s.1]; exact hi)
  rw [List.getD_eq_getElem?_getD, List.getElem?_eq_getElem hi] at this
  exact ⟨_, _, rdo this, by decide⟩
theorem cnt_eq {L : Nat → Bool} {a b : Nat} (hab : a ≤ b) (h : ∀ i, a ≤ i → i < b → L i = false) : cnt L b = cnt L a := by
  induction b with
  | zero => rw [show a = 0 by omega]
  | succ b ih =>
    by_cases e : a = b + 1
    · rw [e]
    · rw [cnt_s1, h b (by omega) (by omega), ih (by omega) (fun i h1 h2 => h i h1 (by omega))]; simp
theorem c_bkL {bs cap : Nat} {K : AH → RS} : ∀ (k f x : Nat) (rr : Int32) (h : AH) (κ : Nat → Nat) (capk : Nat) (yk ls : List Nat), n ≤ x + k → x ≤ n → k < f → NX (isL m (dU m n es) n es (dS m n es).2.2.2.2) x rr → GH B h → RX (fc 0 κ h) r im ua d oc lc ob lb lt lg lk b m n es t → SN 24 κ h bs cap (isL m (dU m n es) n es (dS m n es).2.2.2.2) → LA 17 κ h lk capk yk → BK (fc 26 κ h) m n es yk ls → ls.length = cnt (isL m (dU m n es) n es (dS m n es).2.2.2.2) x → (∀ q, κ q ≠ 25) → 2 * k ≤ hcl h → 2000 + 3 * k ≤ hsl h + 4 * capk →
    ∃ h' κ' capk' yk' ls', f_X5_findBlocks_L11 K f (some r) (some bs) rr h = K h' ∧ RX (fc 0 κ' h') r im ua d oc lc ob lb lt lg lk b m n es t ∧ LA 17 κ' h' lk capk' yk' ∧ BK (fc 26 κ' h') m n es yk' ls' ∧ ls'.length = cnt (isL m (dU m n es) n es (dS m n es).2.2.2.2) n ∧ KC (fun k => k = 17) κ h κ' h' ∧ GH B h' ∧ hcl h ≤ hcl h' + 2 * k ∧ hsl h + 4 * capk ≤ hsl h' + 3 * k + 4 * capk' := by
  intro k
  have done : ∀ (f x : Nat) (rr : Int32) (h : AH) (κ : Nat → Nat) (capk : Nat) (yk ls : List Nat), x ≤ n → rr = -1 → (∀ j, x ≤ j → isL m (dU m n es) n es (dS m n es).2.2.2.2 j = false) → GH B h → RX (fc 0 κ h) r im ua d oc lc ob lb lt lg lk b m n es t → LA 17 κ h lk capk yk → BK (fc 26 κ h) m n es yk ls → ls.length = cnt (isL m (dU m n es) n es (dS m n es).2.2.2.2) x → ∃ h' κ' capk' yk' ls', f_X5_findBlocks_L11 K (f + 1) (some r) (some bs) rr h = K h' ∧ RX (fc 0 κ' h') r im ua d oc lc ob lb lt lg lk b m n es t ∧ LA 17 κ' h' lk capk' yk' ∧ BK (fc 26 κ' h') m n es yk' ls' ∧ ls'.length = cnt (isL m (dU m n es) n es (dS m n es).2.2.2.2) n ∧ KC (fun k => k = 17) κ h κ' h' ∧ GH B h' ∧ hcl h ≤ hcl h' + 2 * k ∧ hsl h + 4 * capk ≤ hsl h' + 3 * k + 4 * capk' := by
    intro f x rr h κ capk yk ls hx hr hz g R L K' hl
    subst hr
    refine ⟨h, κ, capk, yk, ls, ?_, R, L, K', ?_, KC.rf, g, by omega, by omega⟩
    · unfold f_X5_findBlocks_L11; rw [if_pos (by decide)]
    · rw [hl, cnt_eq hx (fun i h1 _ => hz i h1)]
  induction k with
  | zero =>
    intro f x rr h κ capk yk ls h1 hx hf hnx g R N L K' hl hno hc hs
    obtain ⟨f, rfl⟩ : ∃ f', f = f' + 1 := ⟨f - 1, by omega⟩
    rcases hnx with ⟨hr, z⟩ | ⟨j, rfl, z1, z2, z3, z4⟩
    · exact done f x rr h κ capk yk ls hx hr z g R L K' hl
    · have I := R.2.1.ext (fc_ext g)
      have sg := (dS_g I.byt I.n96 I.eln I.e4).1
      have hu := ((isL_iff sg j).mp z3).1
      rw [show dU m n es j = 0 from sg.1 j (by omega)] at hu
      cases hu
  | succ k ih =>
    intro f x rr h κ capk yk ls h1 hx hf hnx g R N L K' hl hno hc hs
    obtain ⟨f, rfl⟩ : ∃ f', f = f' + 1 := ⟨f - 1, by omega⟩
    rcases hnx with ⟨hr, z⟩ | ⟨j, rfl, z1, z2, z3, z4⟩
    · exact done f x rr h κ capk yk ls hx hr z g R L K' hl
    · have I := R.2.1.ext (fc_ext g)
      have hn := I.n96
      have sg := (dS_g I.byt I.n96 I.eln I.e4).1
      have hu := ((isL_iff sg j).mp z3).1
      have hjn : j < n := by
        by_cases hj : j < n
        · exact hj
        · rw [show dU m n es j = 0 from sg.1 j (by omega)] at hu; cases hu
      have hcj : cnt (isL m (dU m n es) n es (dS m n es).2.2.2.2) j = ls.length := by rw [hl, cnt_eq z2 z4]
      have hcx : cnt (isL m (dU m n es) n es (dS m n es).2.2.2.2) x ≤ x := cnt_le _ _
      have hyl := K'.1
      have hcapk : capk ≤ 2 * yk.length + 10 := by obtain ⟨_, _, _, z⟩ := L; exact z
      unfold f_X5_findBlocks_L11
      rw [if_neg (nI_pos (by omega)), nO_v (by omega) (by omega), nn_v]
      unfold f_X9_init
      rw [nn_v, pF_w [.int (nI j), .int 0, .int 0] hnew_s (Nat.le_of_ble_eq_true rfl) rfl, cV_rt]
      have k1 : KC (fun _ => False) κ h (nk 25 κ h) (hset (hnew h (.inr (8, fsX9)) 3) (hsz h) (.inr (8, [.int (nI j), .int 0, .int 0]))) := KC.kn (F := fun _ => False) (c1 := 1) (n1 := 3) (Kp.tr (F1 := fun _ => False) (F2 := fun q => q = hsz h) (Kp.nw (by omega) (by omega)) (Kp.st rfl) (fun _ z => z) (fun q hq z => by omega) (by omega) (by omega)) (fun _ _ z => z)
      have g1 : GH B (hset (hnew h (.inr (8, fsX9)) 3) (hsz h) (.inr (8, [.int (nI j), .int 0, .int 0]))) := g.new.set hnew_s
      have P1 : (fc 25 (nk 25 κ h) (hset (hnew h (.inr (8, fsX9)) 3) (hsz h) (.inr (8, [.int (nI j), .int 0, .int 0])))).1 (hsz h) = some (.inr (8, [.int (nI j), .int (nI 0), .int 0])) := fc_i (nk_n (Nat.le_refl _)) hset_s
      have hq1 : hcl (hset (hnew h (.inr (8, fsX9)) 3) (hsz h) (.inr (8, [.int (nI j), .int 0, .int 0]))) = hcl h - 1 ∧ hsl (hset (hnew h (.inr (8, fsX9)) 3) (hsz h) (.inr (8, [.int (nI j), .int 0, .int 0]))) = hsl h - 3 := ⟨rfl, rfl⟩
      generalize hset (hnew h (.inr (8, fsX9)) 3) (hsz h) (.inr (8, [.int (nI j), .int 0, .int 0])) = h1' at k1 g1 P1 hq1 ⊢
      generalize nk 25 κ h = κ1 at k1 P1
      generalize hsz h = y at P1 ⊢
      have R1 := R.ext (k1.ext g g1 (c := 0) (fun z => z))
      have N1 := N.ext (k1.ext g g1 (c := 24) (fun z => z))
      have L1 := L.ext (k1.ext g g1 (c := 17) (fun z => z))
      have K1 := K'.ext (k1.ext g g1 (c := 26) (fun z => z))
      obtain ⟨h2', e1, e2, e3, e4, e5, e6, e7⟩ := c_blL (B := B) (y := y) (bs := bs) (ld := nI j) (ld0 := nI j) (K := fun x49 x50 x51 x52 h53 => xgA h53 x49 4 7 (fun v54 => xrc h53 v54 10 (xcI (f_J7_add v54 x52 h53) (fun v56 h55 => xrc h55 x50 13 (xcI (f_J20_nextSetBit x50 (x51 + 1) h55) (fun v58 h57 => f_X5_findBlocks_L11 K f x49 x50 v58 h57)))))) n FUEL j 0 0 h1' (by omega) hu (by unfold FUEL; omega) (by omega) g1 R1 N1 P1
      rw [e1]
      rw [Nat.zero_add] at e2
      -- the block is frozen
      have x26 : Ext (fc 25 κ1 h2') (fc 26 (rk 25 26 κ1) h2') := rk_1 e4
      have xx : ∀ c, c ≠ 25 → Ext (fc c κ1 h1') (fc c (rk 25 26 κ1) h2') := fun c hc => (e3.ext g1 e4 (c := c) hc).tr (rk_2 e4 hc)
      have R2 := R1.ext (xx 0 (by decide))
      have N2 := N1.ext (xx 24 (by decide))
      have L2 := L1.ext (xx 17 (by decide))
      have K2 := K1.ext (xx 26 (by decide))
      have P2 := x26.1 _ _ e2
      have k2 : KC (fun k => k = 17) κ h (rk 25 26 κ1) h2' := by
        have z := KC.none (S := fun k => k = 25) ((k1.w (fun k z => z.elim)).tr e3) (fun q => hno q)
        refine ⟨fun a ha _ => z.1 a ha (fun z => z), z.2.1, z.2.2.1, fun a ha => ?_⟩
        unfold rk
        rw [z.2.2.2 a ha, if_neg (hno a)]
      have hno2 : ∀ q, rk 25 26 κ1 q ≠ 25 := fun q => by
        unfold rk
        split
        · decide
        · assumption
      generalize rk 25 26 κ1 = κ2 at R2 N2 L2 K2 P2 k2 hno2
      have hrh2 := rdo (fc_e R2.1).2
      obtain ⟨ar2, A2⟩ := L2.al e4
      obtain ⟨h3, κ3, cap3, f1, f2, f3, f4, f5, f6, f7⟩ := c_ladd e4 L2 (y := y) ⟨_, _, rdo (fc_e P2).2, by decide⟩ (fun z hz => (K2.el z hz).ext (fc_ext e4)) (by omega) (by omega) (by omega)
      rw [gA_v (o := some lk) hrh2 rfl, A2.rc, f1, cI_rt]
      have x3 : ∀ c, c ≠ 17 → Ext (fc c κ2 h2') (fc c κ3 h3) := fun c hc => f3.ext e4 f4 (c := c) hc
      have N3 := N2.ext (x3 24 (by decide))
      obtain ⟨ar3, N3'⟩ := N3.bs f4
      obtain ⟨r2, n1, n2⟩ := p_bnext f4 N3' (x := j + 1) (by omega)
      rw [N3'.rc, nI_1, n1, cI_rt]
      have hs1 := cnt_s1 (L := isL m (dU m n es) n es (dS m n es).2.2.2.2) (a := j)
      rw [z3, if_pos rfl, hcj] at hs1
      have K3 : BK (fc 26 κ3 h3) m n es (yk ++ [y]) (ls ++ [j]) := by
        refine ⟨by rw [List.length_append, List.length_append, hyl]; rfl, fun i hi => ?_, fun i hi => ?_⟩
        · rw [List.length_append, List.length_singleton] at hi
          by_cases hil : i = ls.length
          · subst hil
            rw [getD_ae]
            exact ⟨z3, hcj⟩
          · rw [getD_ap (by omega)]
            exact K'.2.1 i (by omega)
        · rw [List.length_append, List.length_singleton] at hi
          refine (x3 26 (by decide)).1 _ _ ?_
          by_cases hil : i = ls.length
          · subst hil
            rw [getD_ae, ← hyl, getD_ae]
            exact P2
          · rw [getD_ap (by omega), getD_ap (by omega)]
            exact K2.2.2 i (by omega)
      obtain ⟨h4, κ4, cap4, yk4, ls4, w1, w2, w3, w4, w5, w6, w7, w8, w9⟩ := ih (by
        intro f x rr h κ capk yk ls hx hr hz g R L K' hl
        subst hr
        refine ⟨h, κ, capk, yk, ls, ?_, R, L, K', ?_, KC.rf, g, by omega, by omega⟩
        · unfold f_X5_findBlocks_L11; rw [if_pos (by decide)]
        · rw [hl, cnt_eq hx (fun i h1 _ => hz i h1)]) f (j + 1) r2 h3 κ3 cap3 (yk ++ [y]) (ls ++ [j]) (by omega) (by omega) (by omega) n2 f4 (R2.ext (x3 0 (by decide))) N3 f2 K3 (by rw [List.length_append, List.length_singleton, hs1]) (fun q => by rcases f7 q with z | z; (rw [z]; exact hno2 q); omega) (by omega) (by omega)
      exact ⟨h4, κ4, cap4, yk4, ls4, w1, w2, w3, w4, w5, (k2.tr f3).tr w6, w7, by omega, by omega⟩
end
