/-! PURE: a recovery is read -/
set_option maxRecDepth 100000
def RF (im ua d oc ob lt lg lk b : Nat) : List Value := [.ref im, .ref ua, .ref d, .ref oc, .ref ob, .ref lt, .ref lg, .ref lk, .ref b]
section
variable {B : Nat} {h h' : AH} {κ κ' : Nat → Nat} {r im ua d oc ob lt lg lk b : Nat} {m u : Nat → Nat} {n t : Nat} {es : List Nat}
theorem m1_n {x y : Nat} (hx : x < 2 ^ 30) (hy : y < 2 ^ 30) (hxy : x < y) : nI x - nI y < 0 := pk_sneg hy hxy
/-- is accepted -/
theorem c_acc (g : GH B h) (hr : rd h r = some (.inr (4, RF im ua d oc ob lt lg lk b))) {arr cap : Nat} {T : Nat → Bool} (s : BS h b arr cap T) {a : Nat} (ha : a < 256) : f_X5_isAccepted (some r) (nI a) h = rtI (bI (T a)) h := by
  unfold f_X5_isAccepted
  rw [if_neg (nI_pos (by omega)), gA_v (o := some b) hr rfl, s.rc, p_bget g s ha, cI_rt]
  cases T a with
  | true => rw [b0t, rtZ1]; rfl
  | false => rw [b0f, rtZ0]; rfl
theorem c_acc0 {p : Int32} (hp : p < 0) : f_X5_isAccepted (some r) p h = rtI (bI false) h := by
  unfold f_X5_isAccepted
  rw [if_pos hp, rtZ0]; rfl
theorem c_tkn (hr : rd h r = some (.inr (4, RF im ua d oc ob lt lg lk b))) {f : Nat → Int32} (hu : rd h ua = some (.inl (0, n, .inl f))) (hf : ∀ i, i < n → f i = nI (u i)) (h5 : ∀ i, u i ≤ 5) (hn : n ≤ 96) {a : Nat} (ha : a < n) : f_X5_isTaken (some r) (nI a) h = rtI (bI (tk (u a))) h := by
  have h5a := h5 a
  unfold f_X5_isTaken
  rw [gA_v (o := some ua) hr rfl, lI_v hu ha (by omega), hf a ha, gA_v (o := some ua) hr rfl, lI_v hu ha (by omega), hf a ha, gA_v (o := some ua) hr rfl, lI_v hu ha (by omega), hf a ha]
  simp (disch := omega) only [rtZ0n, rtZ1n, ite_rt, lit, nI_eq]
  congr 1
  unfold tk
  revert h5a
  generalize u a = k
  revert k
  decide
/-- what lies directly before -/
theorem c_bef (g : GH B h) (hr : rd h r = some (.inr (4, RF im ua d oc ob lt lg lk b))) (I : IM h im m n es t) {arr cap : Nat} (s : BS h b arr cap (fun a => decide (u a = 1))) (G : UG m n u) {a : Nat} (ha : a ≤ n) : f_X5_before (some r) (nI a) h = rtI (oI (bef m u a)) h := by
  have hn : n ≤ 96 := by obtain ⟨_, _, _, _, _, _, _, _, _, hn, _⟩ := I; exact hn
  have Rr : ∀ {X : RS}, xrc h (some r) 4 X = X := rc_v hr
  have gi : ∀ {X : Option Nat → RS}, xgA h (some r) 4 0 X = X (some im) := gA_v (o := some im) hr rfl
  have step : ∀ (f l : Nat) (x : Int32) (K : Int32 → AH → RS), 1 ≤ l → l ≤ 2 → f_X5_before_L4 K (f + 1) (some r) (nI a) x (nI l) h = f_X5_before_L4 K f (some r) (nI a) (if l ≤ a ∧ u (a - l) = 1 ∧ zl m (a - l) = l ∧ ze m (a - l) = false then nI (a - l) else x) (nI (l + 1)) h := by
    intro f l x K l1 l2
    conv => lhs; unfold f_X5_before_L4
    unfold f_X5_before_J53 f_X5_before_J54
    rw [if_neg (show ¬ (2 : Int32) < nI l from nI_nlt (a := 2) l2 (by decide)), Rr, nI_1]
    by_cases hal : l ≤ a
    · rw [pk_sub hal, c_acc g hr s (by omega), cI_rt]
      by_cases hu : u (a - l) = 1
      · have hv := (zv_f (G.2.2.1 _ hu).1).1
        rw [decide_eq_true hu, b0t, gi, I.rcv, i_len I hv, cI_rt]
        have hz := zl_12 m (a - l)
        by_cases hzl : zl m (a - l) = l
        · rw [hzl, if_neg (fun z => z rfl), gi, I.rcv, i_ends I hv, cI_rt]
          cases hze : ze m (a - l) with
          | true => rw [n0t, if_neg (by simp)]
          | false => rw [n0f, if_pos ⟨hal, hu, rfl, rfl⟩]
        · rw [if_pos (fun z => hzl ((nI_eq (by omega) (by omega)).mp z)), if_neg (fun z => hzl z.2.2.1)]
      · rw [decide_eq_false hu, b0f, if_neg (fun z => hu z.2.1)]
    · rw [c_acc0 (m1_n (by omega) (by omega) (by omega)), cI_rt, b0f, if_neg (fun z => hal z.1)]
  unfold f_X5_before
  obtain ⟨F, hF⟩ : ∃ F, FUEL = F + 1 + 1 + 1 := ⟨99997, rfl⟩
  rw [hF, show (1 : Int32) = nI 1 from rfl, step _ 1 _ _ (by omega) (by omega), step _ 2 _ _ (by omega) (by omega)]
  unfold f_X5_before_L4
  rw [if_pos (show (2 : Int32) < nI (2 + 1) by decide)]
  unfold bef
  by_cases c1 : 1 ≤ a ∧ u (a - 1) = 1 ∧ zl m (a - 1) = 1 ∧ ze m (a - 1) = false
  · have c2 : ¬ (2 ≤ a ∧ u (a - 2) = 1 ∧ zl m (a - 2) = 2 ∧ ze m (a - 2) = false) := by
      rintro ⟨x1, x2, x3, x4⟩
      have := (G.2.2.1 _ x2).2 x3
      rw [show a - 2 + 1 = a - 1 by omega, c1.2.1] at this
      omega
    rw [if_pos c1, if_neg c2, if_pos c1]; rfl
  · rw [if_neg c1, if_neg c1]
    by_cases c2 : 2 ≤ a ∧ u (a - 2) = 1 ∧ zl m (a - 2) = 2 ∧ ze m (a - 2) = false
    · rw [if_pos c2, if_pos c2]; rfl
    · rw [if_neg c2, if_neg c2]; rfl
/-- the bound of a table -/
theorem c_bndL (g : GH B h) (hr : rd h r = some (.inr (4, RF im ua d oc ob lt lg lk b))) (I : IM h im m n es t) {arr cap : Nat} (s : BS h b arr cap (fun a => decide (u a = 1))) (G : UG m n u) {rg j : Nat} (hrg : rg < 4) {K : Option Nat → Int32 → Int32 → Int32 → AH → RS} :
    ∀ (f c a : Nat), 6 - c < f → c ≤ 6 → a ≤ n → f_X5_makeTable_L23 K f (some r) (nI j) (nI rg) (-1) (-1) (nI a) 1 (nI c) h = K (some r) (nI j) (bV (bnd m u rg (6 - c) a)) (oV (bnd m u rg (6 - c) a)) h := by
  have hn : n ≤ 96 := by obtain ⟨_, _, _, _, _, _, _, _, _, hn, _⟩ := I; exact hn
  have hm : ∀ i, i < n → m i < 256 := by obtain ⟨_, _, _, _, _, _, _, _, _, _, hm, _⟩ := I; exact hm
  have Rr : ∀ {X : RS}, xrc h (some r) 4 X = X := rc_v hr
  have gi : ∀ {X : Option Nat → RS}, xgA h (some r) 4 0 X = X (some im) := gA_v (o := some im) hr rfl
  have stop : ∀ (f : Nat) (p1 p2 p3 p4 p5 : Int32), f_X5_makeTable_L23 K (f + 1) (some r) (nI j) p1 p2 p3 p4 0 p5 h = K (some r) (nI j) p2 p3 h := fun f p1 p2 p3 p4 p5 => by
    unfold f_X5_makeTable_L23
    rw [if_pos rfl, ite_self]
  intro f
  induction f with
  | zero => intro c a h1; omega
  | succ f ih =>
    intro c a h1 h2 h3
    unfold f_X5_makeTable_L23
    by_cases hc : c = 6
    · subst hc
      rw [if_pos (show (6 : Int32) ≤ nI 6 by decide)]
      rfl
    · obtain ⟨f, rfl⟩ : ∃ f', f = f' + 1 := ⟨f - 1, by omega⟩
      obtain ⟨k, hk⟩ : ∃ k, 6 - c = k + 1 := ⟨6 - c - 1, by omega⟩
      have hk' : 6 - (c + 1) = k := by omega
      rw [if_neg (show ¬ (6 : Int32) ≤ nI c from fun z => by have := (nI_leI (a := 6) (by decide) (by omega)).mp z; omega), if_neg (by decide), Rr, c_bef g hr I s G h3, cI_rt, hk]
      have hb0 : bnd m u rg (k + 1) a = match bef m u a with
        | none => none
        | some p => if zk m p = 6 then (match bef m u p with
          | some c => if zk m c = 3 ∧ zf m c = rg then some (zo m c, none) else bnd m u rg k p
          | none => bnd m u rg k p)
          else if zc m p rg then (if zk m p = 1 then some (zo m p + 1, some (zo m p)) else if zk m p = 12 then some (zo m p + 1, none) else none)
          else bnd m u rg k p := rfl
      cases hb : bef m u a with
      | none =>
        rw [show oI none = (-1 : Int32) from rfl]
        rw [if_pos (by decide)]
        unfold f_X5_makeTable_J53 f_X5_makeTable_J154 f_X5_makeTable_J263
        rw [if_pos rfl, if_pos rfl, stop, hb0, hb]
        rfl
      | some p =>
        obtain ⟨b1, b2, b3, b4⟩ := bef_v G hb
        obtain ⟨v1, v2, v3, v4⟩ := zv_f b4
        have hk16 := I.k16 v1
        have iH := ih (c + 1) p (by omega) (by omega) (by omega)
        rw [hk'] at iH
        rw [show oI (some p) = nI p from rfl]
        rw [if_neg (show ¬ nI p < 0 from nI_pos (by omega))]
        rw [hb] at hb0
        simp only at hb0
        unfold f_X5_makeTable_J53
        rw [if_neg (by decide), gi, I.rcv, i_kind I v1, cI_rt]
        by_cases h6 : zk m p = 6
        · rw [if_pos h6] at hb0
          rw [if_neg (fun z => z (by rw [h6]; rfl)), Rr, c_bef g hr I s G (by omega), cI_rt]
          have J117 : ∀ q : Int32, bnd m u rg (k + 1) a = bnd m u rg k p → f_X5_makeTable_J117 (f_X5_makeTable_L23 K (f + 1)) K (some r) (nI j) (nI rg) (-1) (-1) (nI p) (nI c) q h = K (some r) (nI j) (bV (bnd m u rg (k + 1) a)) (oV (bnd m u rg (k + 1) a)) h := fun q e => by
            unfold f_X5_makeTable_J117 f_X5_makeTable_J118 f_X5_makeTable_J138 f_X5_makeTable_J149 f_X5_makeTable_J263
            rw [if_pos rfl, if_neg (by decide), nI_1, e]
            exact iH
          cases hb2 : bef m u p with
          | none =>
            rw [hb2] at hb0
            rw [show oI none = (-1 : Int32) from rfl]
            rw [if_pos (by decide)]
            exact J117 _ hb0
          | some q =>
            obtain ⟨c1, c2, c3, c4⟩ := bef_v G hb2
            obtain ⟨w1, w2, w3, w4⟩ := zv_f c4
            have hk2 := I.k16 w1
            have hf2 : zf m q < 4 := by unfold zf; omega
            rw [hb2] at hb0
            simp only at hb0
            rw [show oI (some q) = nI q from rfl]
            rw [if_neg (show ¬ nI q < 0 from nI_pos (by omega)), gi, I.rcv, i_kind I w1, cI_rt]
            by_cases k3 : zk m q = 3
            · have hl2 := zk_l2 (m := m) (a := q) (Or.inr (Or.inl k3))
              rw [if_neg (fun z => z (by rw [k3]; rfl)), gi, I.rcv, i_first I w1, cI_rt]
              by_cases k4 : zf m q = rg
              · rw [if_pos ⟨k3, k4⟩] at hb0
                rw [if_neg (fun z => z (by rw [k4]))]
                unfold f_X5_makeTable_J118 f_X5_makeTable_J138 f_X5_makeTable_J149 f_X5_makeTable_J263
                rw [if_neg (by decide), gi, I.rcv, i_opd I (by omega), cI_rt, if_pos (by decide), stop, hb0]
                rfl
              · rw [if_neg (fun z => k4 z.2)] at hb0
                rw [if_pos (fun z => k4 ((nI_eq (by omega) (by omega)).mp z))]
                exact J117 _ hb0
            · rw [if_neg (fun z => k3 z.1)] at hb0
              rw [if_pos (show ¬ nI (zk m q) = 3 from fun z => k3 ((nI_eq (b := 3) (by omega) (by decide)).mp z))]
              exact J117 _ hb0
        · rw [if_neg h6] at hb0
          rw [if_pos (show ¬ nI (zk m p) = 6 from fun z => h6 ((nI_eq (b := 6) (by omega) (by decide)).mp z))]
          unfold f_X5_makeTable_J154
          rw [if_neg (by decide), gi, I.rcv, i_chg I v1 (by omega), cI_rt]
          have hzc : zc m p rg = decide ((zk m p = 1 ∨ zk m p = 2 ∨ zk m p = 10 ∨ zk m p = 11 ∨ zk m p = 12) ∧ zf m p = rg) := rfl
          cases hzc1 : zc m p rg with
          | false =>
            rw [hzc1, if_neg (by decide)] at hb0
            unfold f_X5_makeTable_J263
            rw [b0f, nI_1, hb0]
            exact iH
          | true =>
            rw [hzc1, if_pos rfl] at hb0
            rw [b0t, gi, I.rcv, i_kind I v1, cI_rt]
            unfold f_X5_makeTable_J190 f_X5_makeTable_J211 f_X5_makeTable_J216 f_X5_makeTable_J238 f_X5_makeTable_J258 f_X5_makeTable_J263
            by_cases k1 : zk m p = 1
            · have hl2 := zk_l2 (m := m) (a := p) (Or.inl k1)
              rw [if_pos k1] at hb0
              rw [if_neg (fun z => z (by rw [k1]; rfl)), if_pos (by decide), if_neg (by decide), gi, I.rcv, i_opd I (by omega), cI_rt, if_neg (by decide), gi, I.rcv, i_opd I (by omega), cI_rt, stop, nI_1, hb0]
              rfl
            · rw [if_neg k1] at hb0
              rw [if_pos (show ¬ nI (zk m p) = 1 from fun z => k1 ((nI_eq (b := 1) (by omega) (by decide)).mp z)), if_neg (by decide), gi, I.rcv, i_kind I v1, cI_rt]
              by_cases k12 : zk m p = 12
              · have hl2 := zk_l2 (m := m) (a := p) (Or.inr (Or.inr k12))
                rw [if_pos k12] at hb0
                rw [if_neg (fun z => z (by rw [k12]; rfl)), if_neg (by decide), gi, I.rcv, i_opd I (by omega), cI_rt, if_pos rfl, stop, nI_1, hb0]
                rfl
              · rw [if_neg k12] at hb0
                rw [if_pos (show ¬ nI (zk m p) = 12 from fun z => k12 ((nI_eq (b := 12) (by omega) (by decide)).mp z)), if_pos rfl, if_pos rfl, stop, hb0]
                rfl
end
