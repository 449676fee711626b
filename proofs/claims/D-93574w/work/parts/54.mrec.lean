/-! PURE: the model's descent, 5: following -/
set_option maxRecDepth 100000
section
variable {li la : List Nat} {I I' I2 : Nat → Int32} {A A' A2 : Nat → Nat → Int32} {m : Nat → Nat} {n : Nat} {es : List Nat} {t : Nat} {h : AH} {mo : Nat}
def MD (I : Nat → Int32) (A : Nat → Nat → Int32) (m : Nat → Nat) (n : Nat) (S : ST) (P : List Nat) : Prop := MU A m S.1 ∧ MR I A n S.1 (P ++ S.2.1) S.2.2.1 S.2.2.2.1 S.2.2.2.2
theorem q_18 {a l : Nat} (hl : a + l ≤ 96) {K : Option Nat → Int32 → AH → RS} : ∀ (f c : Nat) (A : Nat → Nat → Int32), c ≤ l → l - c < f →
    ∃ A', f_X3_accepts_L18 K f (some mo) (nI a) (nI l) (nI (a + c)) (EM h mo I A) = K (some mo) (nI a) (EM h mo I A') ∧ (∀ k, k ≠ 17 → A' k = A k) ∧ ∀ j, A' 17 j = if a + c ≤ j ∧ j < a + l then nI a else A 17 j := by
  intro f
  induction f with
  | zero => intro c A h1 h2; omega
  | succ f ih =>
    intro c A h1 h2
    unfold f_X3_accepts_L18
    rw [nI_add]
    by_cases hc : l ≤ c
    · rw [if_pos (nI_le (by omega) (by omega))]
      exact ⟨A, rfl, fun _ _ => rfl, fun j => by rw [if_neg (by omega)]⟩
    · rw [if_neg (fun z => by have := (nI_leI (by omega) (by omega)).mp z; omega), m_gA (by decide) (by decide), m_sI0 (by decide) (by decide) (by decide) (show a + c < 96 by omega), nI_1, Nat.add_assoc]
      obtain ⟨A', e1, e2, e3⟩ := ih (c + 1) (upA A 17 (upd (A 17) (a + c) (nI a))) (by omega) (by omega)
      refine ⟨A', e1, fun k hk => by rw [e2 k hk, upA_n hk], fun j => ?_⟩
      rw [e3 j, upA_s]
      by_cases hj : j = a + c
      · rw [if_neg (by omega), hj, upd_s, if_pos (by omega)]
      · rw [upd_n hj]
        by_cases hj2 : a + (c + 1) ≤ j ∧ j < a + l
        · rw [if_pos hj2, if_pos (by omega)]
        · rw [if_neg hj2, if_neg (by omega)]
theorem cnt1_mk1 {u : Nat → Nat} {a : Nat} (ha : a < n) (h0 : u a = 0) (h1 : zl m a = 2 → u (a + 1) = 0) : cnt (fun q => decide (mk1 m u a q = 1)) n = cnt (fun q => decide (u q = 1)) n + 1 := by
  apply cnt_up (a := a) ha
  · simp [h0]
  · simp [mk1]
  · intro k _ hk
    unfold mk1
    rw [if_neg hk]
    by_cases h2 : k = a + 1 ∧ zl m a = 2
    · rw [if_pos h2]
      have := h1 h2.2
      rw [h2.1, this]; decide
    · rw [if_neg h2]
theorem c2_le {u : Nat → Nat} : c2 n u ≤ n := cnt_le _ _
theorem q_acc {S : ST} {P : List Nat} (M : MI I A m n es t) (D : MD I A m n S P) (g : SG m n S) {a : Nat} (hv : zv m n a = true) (h1 : tk (S.1 a) = false) (h2 : tk (S.1 (a + zl m a - 1)) = false) (hcap : (P ++ S.2.1).length ≤ 4 + 8 * c2 n S.1) :
    ∃ I' A', f_X3_accepts (some mo) (nI a) (EM h mo I A) = rtV (EM h mo I' A') ∧ MD I' A' m n (acc m n S a) P ∧ Un liD laD I A I' A' ∧ A' 16 a = nI (zl m a) := by
  have hn := M.n96
  have ug := g.ug
  obtain ⟨U, R⟩ := D
  obtain ⟨v1, v2, v3, v4⟩ := zv_f hv
  have e0 := tk_f h1 (ug.2.1 _)
  have e1 := tk_f h2 (ug.2.1 _)
  have ug1 := mk1_g ug hv e0 e1
  obtain ⟨k1, k2⟩ := mk1_c hv e0 e1
  have hl := zl_12 m a
  have hk16 := M.k16 (a := a) (by omega)
  have e1' : zl m a = 2 → S.1 (a + 1) = 0 := fun z => by rw [z] at e1; exact e1
  unfold f_X3_accepts
  rw [m_rc, q_sort M (by omega), cI_rt, q_len hk16, cI_rt, zL_zl v2, m_gA (by decide) (by decide), m_sI0 (by decide) (by decide) (by decide) (show a < 96 by omega)]
  obtain ⟨A1, b1, b2, b3⟩ := q_18 (h := h) (mo := mo) (I := I) (a := a) (l := zl m a) (by omega) (K := fun x15 x16 h17 => xgI h17 x15 2 24 (fun v18 => xpF h17 x15 2 24 (.int (v18 + 1)) (fun h19 => xrc h19 x15 2 (xcI (f_X3_hasGoal x15 x16 h19) (fun v21 h20 => if v21 = 0 then f_X3_accepts_J65 x15 x16 h20 else xrc h20 x15 2 (xcI (f_X3_goal x15 x16 h20) (fun v30 h29 => xrc h29 x15 2 (xcV (f_X3_adds x15 v30 h29) (fun h31 => f_X3_accepts_J65 x15 x16 h31))))))))) FUEL 0 (upA A 16 (upd (A 16) a (nI (zl m a)))) (by omega) (by unfold FUEL; omega)
  rw [Nat.add_zero] at b1
  rw [b1, m_gI (by decide) (by decide), R.2.2.2.1, nI_1, m_pI (by decide) (by decide), m_rc]
  have un1 : Un liD laD I A (upd I 24 (nI (cnt (fun a => decide (S.1 a = 1)) n + 1))) A1 := (Un.uI (by decide)).tr ⟨fun _ _ => rfl, fun k hk => by rw [b2 k (fun z => hk (by rw [z]; decide)), upA_n (fun z => hk (by rw [z]; decide))]⟩
  have M1 := M.un un1 (by decide) (by decide) (by decide) (by decide) (by decide)
  have U1 : MU A1 m (mk1 m S.1 a) := by
    obtain ⟨u1, u2, u3⟩ := U
    refine ⟨fun q hq => ?_, fun q hq => ?_, fun q hq => ?_⟩
    · rw [b2 16 (by decide), upA_s]
      by_cases hqa : q = a
      · subst hqa; rw [upd_s]; simp [mk1]
      · rw [upd_n hqa, u1 q hq]
        unfold mk1
        rw [if_neg hqa]
        by_cases hq2 : q = a + 1 ∧ zl m a = 2
        · rw [if_pos hq2, hq2.1, e1' hq2.2]; rfl
        · rw [if_neg hq2]
    · rw [b3 q, upA_n (show 17 ≠ 16 by decide), u2 q hq]
      unfold mk1
      by_cases hqa : q = a
      · rw [if_pos hqa, if_pos (by omega), if_pos rfl, hqa]
      · rw [if_neg hqa]
        by_cases hq2 : q = a + 1 ∧ zl m a = 2
        · rw [if_pos hq2, if_pos (by omega), if_neg (by decide), if_pos rfl, hq2.1]; rfl
        · rw [if_neg hq2, if_neg (by omega)]
    · rw [b2 20 (by decide), upA_n (show 20 ≠ 16 by decide), u3 q hq]
      unfold mk1
      by_cases hqa : q = a
      · rw [if_pos hqa, hqa, e0]; rfl
      · rw [if_neg hqa]
        by_cases hq2 : q = a + 1 ∧ zl m a = 2
        · rw [if_pos hq2, hq2.1, e1' hq2.2]; rfl
        · rw [if_neg hq2]
  have R1 : MR (upd I 24 (nI (cnt (fun a => decide (S.1 a = 1)) n + 1))) A1 n (mk1 m S.1 a) (P ++ S.2.1) S.2.2.1 S.2.2.2.1 S.2.2.2.2 := by
    obtain ⟨r1, r2, r3, r4, r5, r6, r7, r8, r9⟩ := R
    have eA : ∀ k, k ≠ 16 → k ≠ 17 → A1 k = A k := fun k h6 h7 => by rw [b2 k h7, upA_n h6]
    refine ⟨by rw [eA 21 (by decide) (by decide)]; exact r1, by rw [eA 22 (by decide) (by decide)]; exact r2, by rw [upd_n (by decide)]; exact r3, by rw [upd_s, cnt1_mk1 v1 e0 e1'], by rw [upd_n (by decide)]; exact r5, by rw [eA 30 (by decide) (by decide)]; exact r6, by rw [upd_n (by decide)]; exact r7, by rw [upd_n (by decide)]; exact r8, fun k hk => (r9 k hk).cg (eA _ (by decide) (by decide)) (eA _ (by decide) (by decide)) (eA _ (by decide) (by decide)) (eA _ (by decide) (by decide)) (eA _ (by decide) (by decide))⟩
  have hb16 : A1 16 a = nI (zl m a) := by rw [b2 16 (by decide), upA_s, upd_s]
  have hc2 := c2_le (n := n) (u := mk1 m S.1 a)
  generalize upd I 24 (nI (cnt (fun a => decide (S.1 a = 1)) n + 1)) = I1 at un1 M1 R1 ⊢
  -- the table, if it is one
  have fin : ∀ I3 A3, Un liD laD I A I3 A3 → MI I3 A3 m n es t → MU A3 m (mk1 m S.1 a) → MR I3 A3 n (mk1 m S.1 a) (P ++ wl1 m S.2.1 a) S.2.2.1 S.2.2.2.1 S.2.2.2.2 → A3 16 a = nI (zl m a) → (zk m a = 9 → wl1 m S.2.1 a = S.2.1) →
      ∃ I' A', f_X3_accepts_J65 (some mo) (nI a) (EM h mo I3 A3) = rtV (EM h mo I' A') ∧ MD I' A' m n (acc m n S a) P ∧ Un liD laD I A I' A' ∧ A' 16 a = nI (zl m a) := by
    intro I3 A3 un3 M3 U3 R3 hb3 hw3
    unfold f_X3_accepts_J65
    rw [m_rc, q_sort M3 (by omega), cI_rt]
    by_cases h9 : zk m a = 9
    · obtain ⟨l2, t9, _⟩ := zk9 h9
      have htl : ∀ T ∈ S.2.2.2.2, T.2.2.2.length ≤ 16 := fun T hT => (g.2.2.2.2.2.2.2.2.2.1 T hT).2.2.2.1
      have htb : 2 * S.2.2.2.2.length ≤ c2 n S.1 := g.2.2.2.2.2.2.2.2.2.2
      rw [if_neg (fun z => z (by rw [h9]; rfl)), m_rc]
      obtain ⟨I4, A4, c1, c2', c3, c4⟩ := q_tab (h := h) (mo := mo) M3 U3 ug1 R3 (a := a) (by omega) (by omega) (by rw [hw3 h9]; omega) htl rfl rfl
      rw [c1, cV_rt]
      refine ⟨I4, A4, rfl, ⟨?_, ?_⟩, un3.tr (c4.w (by decide) (by decide)), by rw [c4.2 16 (by decide)]; exact hb3⟩
      · have : (acc m n S a).1 = mkP (mk1 m S.1 a) (pl m n S.1 a) := by unfold acc; rw [if_pos h9]
        rw [this]; exact c2'
      · have : acc m n S a = (mkP (mk1 m S.1 a) (pl m n S.1 a), wl1 m S.2.1 a ++ (pl m n S.1 a).map m, S.2.2.1, S.2.2.2.1, S.2.2.2.2 ++ [(a, zo m a, (bn m S.1 a).map (fun p => min p.1 16), pl m n S.1 a)]) := by unfold acc; rw [if_pos h9]
        rw [this]
        show MR I4 A4 n _ (P ++ (wl1 m S.2.1 a ++ (pl m n S.1 a).map m)) _ _ _
        rw [← List.append_assoc]
        exact c3
    · rw [if_pos (show ¬ nI (zk m a) = 9 from fun z => h9 ((nI_eq (b := 9) (by omega) (by decide)).mp z))]
      have : acc m n S a = (mk1 m S.1 a, wl1 m S.2.1 a, S.2.2) := by unfold acc; rw [if_neg h9]
      refine ⟨I3, A3, rfl, ?_, un3, hb3⟩
      rw [this]
      exact ⟨U3, R3⟩
  rw [q_hasG M1 (by omega), cI_rt]
  cases ht : zt m a with
  | false =>
    rw [b0f]
    have hw : wl1 m S.2.1 a = S.2.1 := by unfold wl1; rw [ht]; rfl
    exact fin _ A1 un1 M1 U1 (by rw [hw]; exact R1) hb16 (fun _ => hw)
  | true =>
    have l2 := zt_l ht
    have hw : wl1 m S.2.1 a = S.2.1 ++ [zq m a] := by unfold wl1; rw [ht]; rfl
    have hzq := zq_lt hv ht
    rw [b0t, m_rc, q_goal M1 (by omega), cI_rt, m_rc, ← hzq.2, ← iI_nI]
    obtain ⟨I2, A2, c1, c2', c3⟩ := q_adds (h := h) (mo := mo) R1 (by omega) (v := zq m a)
    rw [c1, cV_rt]
    refine fin I2 A2 (un1.tr (c3.w (by decide) (by decide))) (M1.un c3 (by decide) (by decide) (by decide) (by decide) (by decide)) (U1.cg (c3.2 16 (by decide)) (c3.2 17 (by decide)) (c3.2 20 (by decide))) ?_ (by rw [c3.2 16 (by decide)]; exact hb16) (fun z => ?_)
    · rw [hw, ← List.append_assoc]; exact c2'
    · have := (zk9 z).2.1
      rw [ht] at this; cases this
theorem q_freeL {u : Nat → Nat} (M : MI I A m n es t) (U : MU A m u) {a : Nat} (hv : zv m n a = true) {K : Int32 → AH → RS} : ∀ (f c : Nat) (b : Bool), c ≤ zl m a → zl m a - c < f → ∃ b', f_X3_isFree_L4 K f (some mo) (nI a) (bI b) (nI (a + c)) (EM h mo I A) = K (bI b') (EM h mo I A) ∧ (b' = true ↔ b = true ∧ ∀ j, a + c ≤ j → j < a + zl m a → tk (u j) = false) := by
  have hn := M.n96
  obtain ⟨v1, v2, v3, v4⟩ := zv_f hv
  have hk16 := M.k16 (a := a) (by omega)
  have hl := zl_12 m a
  intro f
  induction f with
  | zero => intro c b h1 h2; omega
  | succ f ih =>
    intro c b h1 h2
    unfold f_X3_isFree_L4
    rw [m_rc, q_sort M (by omega), cI_rt, q_len hk16, cI_rt, zL_zl v2, nI_add]
    unfold f_X3_isFree_J44 f_X3_isFree_J45
    by_cases hc : zl m a ≤ c
    · rw [if_pos (nI_le (by omega) (by omega))]
      exact ⟨b, rfl, fun z => ⟨z, fun j j1 j2 => by omega⟩, fun z => z.1⟩
    · rw [if_neg (fun z => by have := (nI_leI (by omega) (by omega)).mp z; omega), nI_1]
      have no : ∀ b : Bool, (b = false ∨ tk (u (a + c)) = true) → ∃ b', f_X3_isFree_L4 K f (some mo) (nI a) (nI 0) (nI (a + c + 1)) (EM h mo I A) = K (bI b') (EM h mo I A) ∧ (b' = true ↔ b = true ∧ ∀ j, a + c ≤ j → j < a + zl m a → tk (u j) = false) := by
        intro b hb
        obtain ⟨b', e1, e2⟩ := ih (c + 1) false (by omega) (by omega)
        refine ⟨b', e1, ?_⟩
        rw [e2]
        constructor
        · rintro ⟨z, _⟩; cases z
        · rintro ⟨z1, z2⟩
          rcases hb with hb | hb
          · rw [hb] at z1; cases z1
          · rw [z2 (a + c) (by omega) (by omega)] at hb; cases hb
      cases b with
      | false => rw [b0f]; exact no false (Or.inl rfl)
      | true =>
        have ho := own_pos U (a := a + c) (by omega)
        rw [b0t, m_gA (by decide) (by decide), m_lI0 (by decide) (by decide) (by decide) (show a + c < 96 by omega)]
        by_cases h12 : u (a + c) = 1 ∨ u (a + c) = 2
        · rw [if_pos (by rw [ho]; exact h12)]
          exact no true (Or.inr (decide_eq_true (by omega)))
        · rw [if_neg (by rw [ho]; exact h12), m_gA (by decide) (by decide), m_lI1 (by decide) (by decide) (by decide) (show a + c < 96 by omega), U.2.2 _ (by omega)]
          by_cases h3 : u (a + c) = 3
          · rw [decide_eq_true h3, n0t]
            exact no true (Or.inr (decide_eq_true (by omega)))
          · rw [decide_eq_false h3, n0f]
            obtain ⟨b', e1, e2⟩ := ih (c + 1) true (by omega) (by omega)
            refine ⟨b', e1, ?_⟩
            rw [e2]
            constructor
            · rintro ⟨_, z2⟩
              refine ⟨rfl, fun j j1 j2 => ?_⟩
              by_cases hj : j = a + c
              · rw [hj]; exact decide_eq_false (by omega)
              · exact z2 j (by omega) j2
            · rintro ⟨_, z2⟩
              exact ⟨rfl, fun j j1 j2 => z2 j (by omega) j2⟩
theorem q_free {u : Nat → Nat} (M : MI I A m n es t) (U : MU A m u) {a : Nat} (hv : zv m n a = true) : f_X3_isFree (some mo) (nI a) (EM h mo I A) = rtI (bI (!(tk (u a) || tk (u (a + zl m a - 1))))) (EM h mo I A) := by
  have hl := zl_12 m a
  obtain ⟨b', e1, e2⟩ := q_freeL (h := h) (mo := mo) M U hv (K := fun x27 h28 => rtZ x27 h28) FUEL 0 true (by omega) (by unfold FUEL; omega)
  unfold f_X3_isFree
  rw [Nat.add_zero] at e1
  refine e1.trans ?_
  rw [rtZB]
  congr 2
  rw [Bool.eq_iff_iff, e2]
  simp only [Bool.not_eq_true', Bool.or_eq_false_iff, true_and]
  constructor
  · intro z
    exact ⟨z a (by omega) (by omega), z _ (by omega) (by omega)⟩
  · rintro ⟨z1, z2⟩ j j1 j2
    by_cases hj : j = a
    · rw [hj]; exact z1
    · rw [show j = a + zl m a - 1 by omega]; exact z2
theorem q_bad {S : ST} {P : List Nat} (D : MD I A m n S P) (g : SG m n S) {a : Nat} (ha : a < 256) :
    ∃ I' A', f_X3_isBadAt (some mo) (nI a) (EM h mo I A) = rtV (EM h mo I' A') ∧ MD I' A' m n (S.1, S.2.1, S.2.2.1, ins S.2.2.2.1 a, S.2.2.2.2) P ∧ Un liD laD I A I' A' := by
  obtain ⟨U, r1, r2, r3, r4, r5, r6, r7, r8, r9⟩ := D
  unfold f_X3_isBadAt
  rw [m_gI (by decide) (by decide), r7, m_gA (by decide) (by decide), m_lI1 (by decide) (by decide) (by decide) (show a < 256 from ha), r1 a ha]
  unfold f_X3_isBadAt_J19
  have upd1 : ∀ b : Nat, a < 256 → ∀ x, x < 256 → upd (A 21) a 1 x = bI (decide (x ∈ ins S.2.2.2.1 a)) := fun b _ x hx => by
    by_cases hxa : x = a
    · subst hxa
      rw [upd_s, decide_eq_true (ins_mem.mpr (Or.inr rfl))]; rfl
    · rw [upd_n hxa, r1 x hx]
      congr 1
      apply decide_eq_decide.mpr
      rw [ins_mem]
      simp [hxa]
  have fin : ∀ d : Int32, nI S.2.2.2.1.length + d = nI (ins S.2.2.2.1 a).length → ∃ I' A', xpF (EM h mo I A) (some mo) 2 26 (.int (nI S.2.2.2.1.length + d)) (fun h10 => xgA h10 (some mo) 2 21 (fun v11 => xsI h10 v11 1 (nI a) 1 (fun h12 => rtV h12))) = rtV (EM h mo I' A') ∧ MD I' A' m n (S.1, S.2.1, S.2.2.1, ins S.2.2.2.1 a, S.2.2.2.2) P ∧ Un liD laD I A I' A' := by
    intro d hd
    rw [m_pI (by decide) (by decide), m_gA (by decide) (by decide), m_sI1 (by decide) (by decide) (by decide) (show a < 256 from ha) (Or.inr rfl)]
    refine ⟨_, _, rfl, ⟨U.cg (upA_n (by decide)) (upA_n (by decide)) (upA_n (by decide)), ?_, by rw [upA_n (by decide)]; exact r2, by rw [upd_n (by decide)]; exact r3, by rw [upd_n (by decide)]; exact r4, by rw [upd_n (by decide)]; exact r5, by rw [upA_n (by decide)]; exact r6, by rw [upd_s, hd], by rw [upd_n (by decide)]; exact r8, fun k hk => (r9 k hk).cg (upA_n (by decide)) (upA_n (by decide)) (upA_n (by decide)) (upA_n (by decide)) (upA_n (by decide))⟩, (Un.uI (by decide)).tr (Un.uA (by decide))⟩
    rw [upA_s]
    exact upd1 0 ha
  by_cases hin : a ∈ S.2.2.2.1
  · rw [decide_eq_true hin, b0t]
    refine fin 0 ?_
    unfold ins
    rw [if_pos hin, Int32.add_zero]
  · rw [decide_eq_false hin, b0f]
    refine fin 1 ?_
    unfold ins
    rw [if_neg hin, nI_1, List.length_append, List.length_singleton]
theorem q_cfL {cf : List Nat} (h25 : I 25 = nI cf.length) (hL : LSq (A 30) cf) (hc : cf.length ≤ 96) (hcn : ∀ x ∈ cf, x < 256) {a : Nat} (ha : a < 256) {K : Option Nat → Int32 → AH → RS} : ∀ (f c : Nat), c ≤ cf.length → cf.length - c < f →
    f_X3_conflictAt_L2 K f (some mo) (nI a) (nI c) (EM h mo I A) = if a ∈ cf.drop c then rtV (EM h mo I A) else K (some mo) (nI a) (EM h mo I A) := by
  intro f
  induction f with
  | zero => intro c h1 h2; omega
  | succ f ih =>
    intro c h1 h2
    unfold f_X3_conflictAt_L2
    rw [m_gI (by decide) (by decide), h25]
    by_cases hcl : cf.length ≤ c
    · rw [if_pos (nI_le hcl (by omega)), List.drop_eq_nil_of_le hcl]; simp
    · have hd : cf.drop c = cf.getD c 0 :: cf.drop (c + 1) := by
        rw [List.drop_eq_getElem_cons (by omega)]
        simp [List.getD, List.getElem?_eq_getElem (show c < cf.length by omega)]
      have hx := hcn _ (getD_mem (show c < cf.length by omega))
      rw [if_neg (fun z => hcl ((nI_leI (by omega) (by omega)).mp z)), m_gA (by decide) (by decide), m_lI0 (by decide) (by decide) (by decide) (show c < 96 by omega), hL c (by omega), hd]
      by_cases he : cf.getD c 0 = a
      · rw [if_neg (fun z => z (by rw [he])), if_pos (by rw [he]; exact List.mem_cons_self ..)]
      · rw [if_pos (fun z => he ((nI_eq (by omega) (by omega)).mp z)), nI_1, ih (c + 1) (by omega) (by omega)]
        by_cases hm : a ∈ cf.drop (c + 1)
        · rw [if_pos hm, if_pos (List.mem_cons_of_mem _ hm)]
        · rw [if_neg hm, if_neg (fun z => (List.mem_cons.mp z).elim (fun z => he z.symm) hm)]
theorem q_cf {S : ST} {P : List Nat} (hn : n ≤ 96) (D : MD I A m n S P) (g : SG m n S) {a : Nat} (ha : a < n) :
    ∃ I' A', f_X3_conflictAt (some mo) (nI a) (EM h mo I A) = rtV (EM h mo I' A') ∧ MD I' A' m n (S.1, S.2.1, ins S.2.2.1 a, S.2.2.2) P ∧ Un liD laD I A I' A' := by
  obtain ⟨U, r1, r2, r3, r4, r5, r6, r7, r8, r9⟩ := id D
  have g6 := g.2.2.2.2.2.1
  have g7 := g.2.2.2.2.2.2.1
  have hlen := nodup_le g7 g6
  unfold f_X3_conflictAt
  rw [show (0 : Int32) = nI 0 from rfl, q_cfL r5 r6 (by omega) (fun x hx => by have := g6 x hx; omega) (show a < 256 by omega) FUEL 0 (by omega) (by unfold FUEL; omega), List.drop_zero]
  unfold ins
  by_cases hin : a ∈ S.2.2.1
  · rw [if_pos hin, if_pos hin]
    exact ⟨I, A, rfl, D, Un.rf⟩
  · rw [if_neg hin, if_neg hin]
    have hl2 : S.2.2.1.length < 96 := by
      have := nodup_le (ins_nd g7 (a := a)) (N := n) (fun x hx => by
        rcases ins_mem.mp hx with hx | hx
        · exact g6 x hx
        · omega)
      unfold ins at this
      rw [if_neg hin, List.length_append, List.length_singleton] at this
      omega
    rw [m_gA (by decide) (by decide), m_gI (by decide) (by decide), r5, m_sI0 (by decide) (by decide) (by decide) (show S.2.2.1.length < 96 from hl2), m_gI (by decide) (by decide), r5, nI_1, m_pI (by decide) (by decide)]
    refine ⟨_, _, rfl, ⟨U.cg (upA_n (by decide)) (upA_n (by decide)) (upA_n (by decide)), by rw [upA_n (by decide)]; exact r1, by rw [upA_n (by decide)]; exact r2, by rw [upd_n (by decide)]; exact r3, by rw [upd_n (by decide)]; exact r4, by rw [upd_s, List.length_append, List.length_singleton], by rw [upA_s]; exact r6.add, by rw [upd_n (by decide)]; exact r7, by rw [upd_n (by decide)]; exact r8, fun k hk => (r9 k hk).cg (upA_n (by decide)) (upA_n (by decide)) (upA_n (by decide)) (upA_n (by decide)) (upA_n (by decide))⟩, (Un.uA (by decide)).tr (Un.uI (by decide))⟩
/-- one step, and on -/
theorem q_folL {K : AH → RS} (hK : K = fun h34 => rtV h34) {P : List Nat} : ∀ (k : Nat) (f : Nat) (I : Nat → Int32) (A : Nat → Nat → Int32) (S : ST) (a : Nat), MI I A m n es t → MD I A m n S P → SG m n S → a < 256 → (P ++ S.2.1).length ≤ 4 + 8 * c2 n S.1 → c0 n S.1 < k → k < f →
    ∃ I' A', f_X3_follows_L4 K f (some mo) (nI a) (nI 1) (EM h mo I A) = rtV (EM h mo I' A') ∧ MD I' A' m n (folL m n k S a) P ∧ Un liD laD I A I' A' := by
  subst hK
  intro k
  induction k with
  | zero => intro f I A S a _ _ _ _ _ h1; omega
  | succ k ih =>
    intro f I A S a M D g ha hcap hk hf
    obtain ⟨f, rfl⟩ : ∃ f', f = f' + 2 := ⟨f - 2, by omega⟩
    have hn := M.n96
    have hm : ∀ i, i < n → m i < 256 := fun i hi => M.byt i (by omega)
    -- the loop stops
    have stop : ∀ (I' : Nat → Int32) (A' : Nat → Nat → Int32) (q : Int32), f_X3_follows_L4 (fun h34 => rtV h34) (f + 1) (some mo) q (nI 0) (EM h mo I' A') = rtV (EM h mo I' A') := fun I' A' q => by
      unfold f_X3_follows_L4
      rw [if_pos (show nI 0 = 0 from rfl)]
    unfold f_X3_follows_L4
    rw [if_neg (show ¬ nI 1 = 0 by decide), m_rc, q_adr M, cI_rt, ad_nI (by omega)]
    unfold folL
    -- behind the first test
    have J28 : S.1 a ≠ 1 → ∃ I' A', f_X3_follows_J28 (f_X3_follows_L4 (fun h34 => rtV h34) (f + 1)) (fun h34 => rtV h34) (some mo) (nI a) (nI 0) (EM h mo I A) = rtV (EM h mo I' A') ∧ MD I' A' m n (match fol m n S a with
        | (S', none) => S'
        | (S', some b) => folL m n k S' b) P ∧ Un liD laD I A I' A' := by
      intro hna
      unfold f_X3_follows_J28
      rw [m_rc, q_snd M (by omega), cI_rt]
      cases hv : zv m n a with
      | false =>
        rw [n0f, m_rc]
        obtain ⟨I1, A1, c1, c2, c3⟩ := q_bad (h := h) (mo := mo) D g ha
        rw [c1, cV_rt, stop]
        have hfol : fol m n S a = ((S.1, S.2.1, S.2.2.1, ins S.2.2.2.1 a, S.2.2.2.2), none) := by
          unfold fol; rw [if_neg hna, if_pos hv]
        rw [hfol]
        exact ⟨I1, A1, rfl, c2, c3⟩
      | true =>
        obtain ⟨v1, v2, v3, v4⟩ := zv_f hv
        rw [n0t, m_rc, q_free M D.1 hv, cI_rt]
        cases htk : (tk (S.1 a) || tk (S.1 (a + zl m a - 1))) with
        | true =>
          rw [show (!true) = false from rfl, n0f, m_rc]
          obtain ⟨I1, A1, c1, c2, c3⟩ := q_cf (h := h) (mo := mo) hn D g v1
          rw [c1, cV_rt, stop]
          have hfol : fol m n S a = ((S.1, S.2.1, ins S.2.2.1 a, S.2.2.2), none) := by
            unfold fol; rw [if_neg hna, if_neg (by rw [hv]; decide), if_pos htk]
          rw [hfol]
          exact ⟨I1, A1, rfl, c2, c3⟩
        | false =>
          rw [show (!false) = true from rfl, n0t, m_rc]
          have htk2 := htk
          rw [Bool.or_eq_false_iff] at htk2
          obtain ⟨I1, A1, c1, c2', c3, c4⟩ := q_acc (h := h) (mo := mo) M D g hv htk2.1 htk2.2 hcap
          have M1 := M.un c3 (by decide) (by decide) (by decide) (by decide) (by decide)
          obtain ⟨q1, q2, q3, w, q4, q5⟩ := acc_g hm hn g hv htk2.1 htk2.2
          have hl := zl_12 m a
          rw [c1, cV_rt, m_rc, q_ends M1 (by omega), cI_rt]
          have J78 : ∀ y : Int32, f_X3_follows_J78 (f_X3_follows_L4 (fun h34 => rtV h34) (f + 1)) (fun h34 => rtV h34) (some mo) (nI a) y (EM h mo I1 A1) = f_X3_follows_L4 (fun h34 => rtV h34) (f + 1) (some mo) (nI (a + zl m a)) y (EM h mo I1 A1) := fun y => by
            unfold f_X3_follows_J78
            rw [m_gA (by decide) (by decide), m_lI0 (by decide) (by decide) (by decide) (show a < 96 by omega), c4, nI_add]
          rw [J78, J78]
          have hfol : fol m n S a = (acc m n S a, if ze m a then none else some (a + zl m a)) := by
            unfold fol; rw [if_neg hna, if_neg (by rw [hv]; decide), if_neg (by rw [htk]; decide)]
          rw [hfol]
          cases hze : ze m a with
          | true =>
            rw [n0t, show (0 : Int32) = nI 0 from rfl, stop]
            exact ⟨I1, A1, rfl, c2', c3⟩
          | false =>
            rw [n0f, show (1 : Int32) = nI 1 from rfl]
            obtain ⟨I2, A2, d1, d2, d3⟩ := ih (f + 1) I1 A1 (acc m n S a) (a + zl m a) M1 c2' q1 (by omega) (by rw [q4, ← List.append_assoc, List.length_append]; omega) (by omega) (by omega)
            exact ⟨I2, A2, d1, d2, c3.tr d3⟩
    by_cases h1 : a < n
    · rw [decide_eq_true h1, b0t, m_gA (by decide) (by decide), m_lI0 (by decide) (by decide) (by decide) (show a < 96 by omega), D.1.1 a (by omega)]
      by_cases hu : S.1 a = 1
      · have hl := zl_12 m a
        rw [if_pos hu, if_neg (nI_nle (by omega) (by omega))]
        have hfol : fol m n S a = (S, none) := by unfold fol; rw [if_pos hu]
        rw [hfol]
        exact ⟨I, A, rfl, D, Un.rf⟩
      · rw [if_neg hu, if_pos (by decide)]
        exact J28 hu
    · rw [decide_eq_false h1, b0f]
      exact J28 (by rw [g.1 a (by omega)]; decide)
end
