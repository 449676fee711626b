/-! PURE: the model's leaders, blocks, heads, reach -/
set_option maxRecDepth 100000
theorem drop_g {α : Type} {l : List α} {j : Nat} (d : α) (hj : j < l.length) : l.drop j = l.getD j d :: l.drop (j + 1) := by
  rw [List.drop_eq_getElem_cons hj]
  simp [List.getElem?_eq_getElem hj]
theorem iI_eq {z : Int} {x : Nat} (h : -1000000 ≤ z ∧ z ≤ 1000000) (hx : x ≤ 100000) : (iI z = nI x) = (z = (x : Int)) := by
  apply propext
  rw [← Int32.toInt_inj, iI_toInt h, nI_toI hx]
/-- the tables, as the model has them -/
def MT (I : Nat → Int32) (A : Nat → Nat → Int32) (n : Nat) (tb : List TT) : Prop := I 27 = nI tb.length ∧ tb.length ≤ 48 ∧ (∀ k, k < tb.length → TE A k (tb.getD k T0)) ∧ ∀ T ∈ tb, T.1 < n ∧ T.2.2.2.length ≤ 16 ∧ ∀ p ∈ T.2.2.2, p < n
theorem getT_mem {tb : List TT} {k : Nat} (hk : k < tb.length) : tb.getD k T0 ∈ tb := by
  rw [List.getD_eq_getElem?_getD, List.getElem?_eq_getElem hk]; exact List.getElem_mem _
section
variable {li la : List Nat} {I I' I2 : Nat → Int32} {A A' A2 : Nat → Nat → Int32} {m : Nat → Nat} {n : Nat} {es : List Nat} {t : Nat} {h : AH} {mo : Nat} {u : Nat → Nat} {tb : List TT}
theorem MT.un (T : MT I A n tb) (x : Un li la I A I' A') (h27 : 27 ∉ li) (h31 : 31 ∉ la) (h32 : 32 ∉ la) (h33 : 33 ∉ la) (h34 : 34 ∉ la) (h35 : 35 ∉ la) : MT I' A' n tb :=
  ⟨by rw [x.1 27 h27]; exact T.1, T.2.1, fun k hk => (T.2.2.1 k hk).cg (x.2 31 h31) (x.2 32 h32) (x.2 33 h33) (x.2 34 h34) (x.2 35 h35), T.2.2.2⟩
theorem MU.un (U : MU A m u) (x : Un li la I A I' A') (h16 : 16 ∉ la) (h17 : 17 ∉ la) (h20 : 20 ∉ la) : MU A' m u := U.cg (x.2 16 h16) (x.2 17 h17) (x.2 20 h20)
theorem q_goalL (M : MI I A m n es t) (U : MU A m u) (g : UG m n u) {x : Nat} (hx : x ≤ 1000) {cl : Bool} {K : Int32 → AH → RS} : ∀ (k f c : Nat) (b : Bool), c + k = n → k < f →
    f_X3_isGoal_L5 K f (some mo) (nI x) (bI cl) (bI b) (nI c) (EM h mo I A) = K (bI (b || anF (pG m u cl x) k c)) (EM h mo I A) := by
  have hn := M.n96
  intro k
  induction k with
  | zero =>
    intro f c b h1 h2
    obtain ⟨f, rfl⟩ : ∃ f', f = f' + 1 := ⟨f - 1, by omega⟩
    unfold f_X3_isGoal_L5
    rw [m_gI (by decide) (by decide), M.siz, if_pos (nI_le (by omega) (by omega))]
    simp [anF]
  | succ k ih =>
    intro f c b h1 h2
    obtain ⟨f, rfl⟩ : ∃ f', f = f' + 1 := ⟨f - 1, by omega⟩
    have J70 : ∀ y : Bool, f_X3_isGoal_J70 (f_X3_isGoal_L5 K f) K (some mo) (nI x) (bI cl) (nI c) (bI y) (EM h mo I A) = K (bI (y || anF (pG m u cl x) k (c + 1))) (EM h mo I A) := fun y => by
      unfold f_X3_isGoal_J70
      rw [nI_1, ih f (c + 1) y (by omega) (by omega)]
    have J65 : f_X3_isGoal_J65 (f_X3_isGoal_L5 K f) K (some mo) (nI x) (bI cl) (nI c) (EM h mo I A) = K (bI true) (EM h mo I A) := by
      unfold f_X3_isGoal_J65
      rw [show (1 : Int32) = bI true from rfl, J70]; simp
    have J69 : f_X3_isGoal_J69 (f_X3_isGoal_L5 K f) K (some mo) (nI x) (bI cl) (nI c) (EM h mo I A) = K (bI (anF (pG m u cl x) k (c + 1))) (EM h mo I A) := by
      unfold f_X3_isGoal_J69
      rw [show (0 : Int32) = bI false from rfl, J70]; simp
    unfold f_X3_isGoal_L5
    rw [m_gI (by decide) (by decide), M.siz, if_neg (fun z => by have := (nI_leI (by omega) (by omega)).mp z; omega)]
    cases b with
    | true => rw [n0t, J65]; simp
    | false =>
      rw [n0f, m_gA (by decide) (by decide), m_lI0 (by decide) (by decide) (by decide) (show c < 96 by omega), U.1 c (by omega)]
      have fin : ∀ b' : Bool, pG m u cl x c = b' → K (bI (b' || anF (pG m u cl x) k (c + 1))) (EM h mo I A) = K (bI (false || anF (pG m u cl x) (k + 1) c)) (EM h mo I A) := fun b' hb => by
        conv => rhs; unfold anF
        rw [hb]; simp
      by_cases hu : u c = 1
      · have hv := (g.2.2.1 c hu).1
        obtain ⟨v1, v2, v3, v4⟩ := zv_f hv
        have hz := zl_12 m c
        have hk16 := M.k16 (a := c) (by omega)
        rw [if_pos hu, if_neg (nI_nle (by omega) (by omega))]
        have J55 : zl m c = 2 → (if cl = true then decide (zk m c = 7) else zt m c) = true → f_X3_isGoal_J55 (f_X3_isGoal_L5 K f) K (some mo) (nI x) (bI cl) (nI c) (EM h mo I A) = K (bI (false || anF (pG m u cl x) (k + 1) c)) (EM h mo I A) := fun l2 hcl => by
          have hgb := M.zgb (a := c) (by omega)
          unfold f_X3_isGoal_J55
          rw [m_rc, q_goal M (by omega), cI_rt]
          by_cases hgx : zg m c = (x : Int)
          · rw [if_neg (fun z => z (by rw [iI_eq (by omega) (by omega)]; exact hgx)), J65]
            have hp : pG m u cl x c = true := by unfold pG; rw [hcl]; simp [hu, hgx]
            rw [← fin true hp]; simp
          · rw [if_pos (by rw [iI_eq (by omega) (by omega)]; exact hgx), J69]
            have hp : pG m u cl x c = false := by unfold pG; simp [hgx]
            rw [← fin false hp]; simp
        have no : (if cl = true then decide (zk m c = 7) else zt m c) = false → K (bI (anF (pG m u cl x) k (c + 1))) (EM h mo I A) = K (bI (false || anF (pG m u cl x) (k + 1) c)) (EM h mo I A) := fun hcl => by
          have hp : pG m u cl x c = false := by unfold pG; rw [hcl]; simp
          rw [← fin false hp]; simp
        cases cl with
        | false =>
          rw [b0f, m_rc, q_hasG M (by omega), cI_rt]
          cases ht : zt m c with
          | false => rw [b0f, J69]; exact no (by simpa using ht)
          | true => rw [b0t]; exact J55 (zt_l ht) (by simpa using ht)
        | true =>
          rw [b0t, m_rc, q_sort M (by omega), cI_rt]
          by_cases h7 : zk m c = 7
          · rw [if_neg (fun z => z (by rw [h7]; rfl))]
            exact J55 (zt_l (decide_eq_true (by omega))) (by simpa using h7)
          · rw [if_pos (show ¬ nI (zk m c) = 7 from fun z => h7 ((nI_eq (b := 7) (by omega) (by decide)).mp z)), J69]
            exact no (by simpa using h7)
      · rw [if_neg hu, if_pos (show nI 0 ≤ 0 by decide), J69]
        have hp : pG m u cl x c = false := by unfold pG; simp [hu]
        rw [← fin false hp]; simp
theorem q_isG (M : MI I A m n es t) (U : MU A m u) (g : UG m n u) {x : Nat} (hx : x ≤ 1000) (cl : Bool) : f_X3_isGoal (some mo) (nI x) (bI cl) (EM h mo I A) = rtI (bI (isG m u n cl x)) (EM h mo I A) := by
  have hn := M.n96
  have := q_goalL (h := h) (mo := mo) M U g hx (cl := cl) (K := fun x44 h45 => rtZ x44 h45) n FUEL 0 false (by omega) (by unfold FUEL; omega)
  unfold f_X3_isGoal
  refine this.trans ?_
  rw [rtZB]; rfl
theorem q_tgL15 (M : MI I A m n es t) (T : MT I A n tb) {x tt : Nat} (hx : x ≤ 1000) (htt : tt < tb.length) {K : Option Nat → Int32 → Int32 → Int32 → AH → RS} : ∀ (k f c : Nat) (b : Bool), c + k = (tb.getD tt T0).2.2.2.length → k < f →
    f_X3_isTableGoal_L15 K f (some mo) (nI x) (bI b) (nI tt) (nI c) (EM h mo I A) = K (some mo) (nI x) (bI (b || ((tb.getD tt T0).2.2.2.drop c).any (fun p => decide (m p = x)))) (nI tt) (EM h mo I A) := by
  have hn := M.n96
  obtain ⟨t1, t2, t3, t4⟩ := T
  obtain ⟨e1, e2, e3, e4, e5⟩ := t3 tt htt
  obtain ⟨f1, f2, f3⟩ := t4 _ (getT_mem htt)
  intro k
  induction k with
  | zero =>
    intro f c b h1 h2
    obtain ⟨f, rfl⟩ : ∃ f', f = f' + 1 := ⟨f - 1, by omega⟩
    unfold f_X3_isTableGoal_L15
    rw [m_gA (by decide) (by decide), m_lI0 (by decide) (by decide) (by decide) (show tt < 48 by omega), e4, if_pos (nI_le (by omega) (by omega)), List.drop_eq_nil_of_le (by omega)]
    simp
  | succ k ih =>
    intro f c b h1 h2
    obtain ⟨f, rfl⟩ : ∃ f', f = f' + 1 := ⟨f - 1, by omega⟩
    have hd := drop_g (l := (tb.getD tt T0).2.2.2) (j := c) 0 (by omega)
    have hp := f3 _ (getD_mem (ys := (tb.getD tt T0).2.2.2) (i := c) (by omega))
    have hby := M.byt _ (show (tb.getD tt T0).2.2.2.getD c 0 < 96 by omega)
    unfold f_X3_isTableGoal_L15 f_X3_isTableGoal_J51 f_X3_isTableGoal_J56
    rw [m_gA (by decide) (by decide), m_lI0 (by decide) (by decide) (by decide) (show tt < 48 by omega), e4, if_neg (fun z => by have := (nI_leI (by omega) (by omega)).mp z; omega), nI_1, hd, List.any_cons]
    cases b with
    | true => rw [n0t, show (1 : Int32) = bI true from rfl, ih f (c + 1) true (by omega) (by omega)]; simp
    | false =>
      rw [n0f, m_gA (by decide) (by decide), m_gA (by decide) (by decide), lit 16, nI_mul, nI_add, m_lI0 (by decide) (by decide) (by decide) (show 16 * tt + c < 768 by omega), e5 c (by omega), m_lI0 (by decide) (by decide) (by decide) (show (tb.getD tt T0).2.2.2.getD c 0 < 96 by omega), M.mem _ (by omega)]
      by_cases hmx : m ((tb.getD tt T0).2.2.2.getD c 0) = x
      · rw [if_neg (fun z => z (by rw [hmx])), show (1 : Int32) = bI true from rfl, ih f (c + 1) true (by omega) (by omega), decide_eq_true hmx]; simp
      · rw [if_pos (fun z => hmx ((nI_eq (by omega) (by omega)).mp z)), show (0 : Int32) = bI false from rfl, ih f (c + 1) false (by omega) (by omega), decide_eq_false hmx]; simp
theorem q_tgL4 (M : MI I A m n es t) (T : MT I A n tb) {x : Nat} (hx : x ≤ 1000) {K : Int32 → AH → RS} : ∀ (k f c : Nat) (b : Bool), c + k = tb.length → k < f →
    f_X3_isTableGoal_L4 K f (some mo) (nI x) (bI b) (nI c) (EM h mo I A) = K (bI (b || (tb.drop c).any (fun T => T.2.2.2.any (fun p => decide (m p = x))))) (EM h mo I A) := by
  have hT2 := T.2.1
  intro k
  induction k with
  | zero =>
    intro f c b h1 h2
    obtain ⟨f, rfl⟩ : ∃ f', f = f' + 1 := ⟨f - 1, by omega⟩
    unfold f_X3_isTableGoal_L4
    rw [m_gI (by decide) (by decide), T.1, if_pos (nI_le (by omega) (by omega)), List.drop_eq_nil_of_le (by omega)]
    simp
  | succ k ih =>
    intro f c b h1 h2
    obtain ⟨f, rfl⟩ : ∃ f', f = f' + 1 := ⟨f - 1, by omega⟩
    have hd := drop_g (l := tb) (j := c) T0 (by omega)
    have hl := (T.2.2.2 _ (getT_mem (tb := tb) (k := c) (by omega))).2.1
    unfold f_X3_isTableGoal_L4
    rw [m_gI (by decide) (by decide), T.1, if_neg (fun z => by have := (nI_leI (by omega) (by omega)).mp z; omega), show (0 : Int32) = nI 0 from rfl, q_tgL15 M T hx (by omega) (tb.getD c T0).2.2.2.length FUEL 0 b (by omega) (by unfold FUEL; omega), nI_1, ih f (c + 1) _ (by omega) (by omega), List.drop_zero, hd, List.any_cons, Bool.or_assoc]
theorem q_isT (M : MI I A m n es t) (T : MT I A n tb) {x : Nat} (hx : x ≤ 1000) : f_X3_isTableGoal (some mo) (nI x) (EM h mo I A) = rtI (bI (isT m tb x)) (EM h mo I A) := by
  have hT2 := T.2.1
  have := q_tgL4 (h := h) (mo := mo) M T hx (K := fun x39 h40 => rtZ x39 h40) tb.length FUEL 0 false (by omega) (by unfold FUEL; omega)
  unfold f_X3_isTableGoal
  refine this.trans ?_
  rw [rtZB]; rfl
theorem rt_or {b c : Bool} {X : RS} {g : AH} (hX : X = rtI (bI c) g) : (if ¬ bI b = 0 then rtZ 1 g else X) = rtI (bI (b || c)) g := by
  cases b with
  | true => rw [n0t, rtZ1]; rfl
  | false => rw [n0f, hX]; rfl
theorem q_isL (M : MI I A m n es t) (U : MU A m u) (g : UG m n u) (T : MT I A n tb) {x : Nat} (hx : x < 96) : f_X3_isLeader (some mo) (nI x) (EM h mo I A) = rtI (bI (isL m u n es tb x)) (EM h mo I A) := by
  have hn := M.n96
  obtain ⟨u1, u2, u3⟩ := id U
  obtain ⟨g1, g2, g3, g4⟩ := id g
  unfold f_X3_isLeader
  rw [m_gA (by decide) (by decide), m_lI0 (by decide) (by decide) (by decide) hx, u1 x hx]
  have hz0 := zl_12 m x
  by_cases hu : u x = 1
  · rw [if_pos hu, if_pos (nI_ne0 (by omega) (by omega))]
    -- what lies ahead
    have tl : ∀ y : Int32, (x = 0 ∧ y = -1) ∨ (1 ≤ x ∧ y = A 17 (x - 1)) → (if y < 0 then rtZ 0 (EM h mo I A) else xgA (EM h mo I A) (some mo) 2 16 (fun v13 => xlI (EM h mo I A) v13 0 y (fun v14 => if ¬ (y + v14) = nI x then rtZ 0 (EM h mo I A) else xrc (EM h mo I A) (some mo) 2 (xcI (f_X3_endsBlock (some mo) y (EM h mo I A)) (fun v16 h15 => if v16 = 0 then rtZ 0 h15 else rtZ 1 h15))))) = rtI (bI (isE m u x)) (EM h mo I A) := by
      intro y hy
      rcases hy with ⟨h0, rfl⟩ | ⟨h0, rfl⟩
      · subst h0
        rw [if_pos (by decide), rtZ0, show isE m u 0 = false from decide_eq_false (by omega)]; rfl
      · rw [u2 (x - 1) (by omega)]
        by_cases e1 : u (x - 1) = 1
        · have hn2 : ¬ (2 ≤ x ∧ u (x - 2) = 1 ∧ zl m (x - 2) = 2 ∧ zb m (x - 2) = true) := by
            rintro ⟨x1, x2, x3, x4⟩
            have := (g3 _ x2).2 x3
            rw [show x - 2 + 1 = x - 1 by omega, e1] at this
            omega
          have hl := zl_12 m (x - 1)
          rw [if_pos e1, if_neg (show ¬ nI (x - 1) < 0 from nI_pos (by omega)), m_gA (by decide) (by decide), m_lI0 (by decide) (by decide) (by decide) (show x - 1 < 96 by omega), u1 _ (by omega), if_pos e1, nI_add]
          by_cases e2 : zl m (x - 1) = 1
          · rw [e2, show x - 1 + 1 = x by omega, if_neg (fun z => z rfl), m_rc, q_endsB M (by omega), cI_rt]
            cases hzb : zb m (x - 1) with
            | true => rw [b0t, rtZ1, show isE m u x = true from decide_eq_true (Or.inl ⟨h0, e1, e2, hzb⟩)]; rfl
            | false =>
              rw [b0f, rtZ0, show isE m u x = false from decide_eq_false (by
                rintro (z | z)
                · rw [hzb] at z; exact absurd z.2.2.2 (by decide)
                · exact hn2 z)]; rfl
          · rw [if_pos (fun z => by have := (nI_eq (by omega) (by omega)).mp z; omega), rtZ0, show isE m u x = false from decide_eq_false (by
              rintro (z | z)
              · exact e2 z.2.2.1
              · exact hn2 z)]; rfl
        · rw [if_neg e1]
          by_cases e2 : u (x - 1) = 2
          · obtain ⟨x1, x2, x3⟩ := g4 _ e2
            rw [show x - 1 - 1 = x - 2 by omega] at x2 x3
            rw [if_pos e2, show x - 1 - 1 = x - 2 by omega, if_neg (show ¬ nI (x - 2) < 0 from nI_pos (by omega)), m_gA (by decide) (by decide), m_lI0 (by decide) (by decide) (by decide) (show x - 2 < 96 by omega), u1 _ (by omega), if_pos x2, x3, nI_add, show x - 2 + 2 = x by omega, if_neg (fun z => z rfl), m_rc, q_endsB M (by omega), cI_rt]
            cases hzb : zb m (x - 2) with
            | true => rw [b0t, rtZ1, show isE m u x = true from decide_eq_true (Or.inr ⟨by omega, x2, x3, hzb⟩)]; rfl
            | false =>
              rw [b0f, rtZ0, show isE m u x = false from decide_eq_false (by
                rintro (z | z)
                · exact e1 z.2.1
                · rw [hzb] at z; exact absurd z.2.2.2 (by decide))]; rfl
          · rw [if_neg e2, if_pos (by decide), rtZ0, show isE m u x = false from decide_eq_false (by
              rintro (z | z)
              · exact e1 z.2.1
              · have := (g3 _ z.2.1).2 z.2.2.1
                rw [show x - 2 + 1 = x - 1 by omega] at this
                exact e2 this)]; rfl
    have J27 : ∀ y : Int32, (x = 0 ∧ y = -1) ∨ (1 ≤ x ∧ y = A 17 (x - 1)) → f_X3_isLeader_J27 (some mo) (nI x) y (EM h mo I A) = rtI (bI (isL m u n es tb x)) (EM h mo I A) := by
      intro y hy
      unfold f_X3_isLeader_J27
      rw [m_rc, q_ent M (by omega), cI_rt, m_rc, show (0 : Int32) = bI false from rfl, q_isG M U g (by omega) false, cI_rt, m_rc, q_isT M T (by omega), cI_rt]
      have hL : isL m u n es tb x = (decide (x ∈ es) || (isG m u n false x || (isT m tb x || isE m u x))) := by
        unfold isL; simp [hu, Bool.or_assoc]
      rw [hL]
      exact rt_or (rt_or (rt_or (tl y hy)))
    by_cases h0 : x = 0
    · rw [if_pos (show nI x ≤ 0 by rw [h0]; decide)]
      exact J27 _ (Or.inl ⟨h0, rfl⟩)
    · rw [if_neg (nI_nle (by omega) (by omega)), m_gA (by decide) (by decide), nI_s1 (by omega), m_lI0 (by decide) (by decide) (by decide) (show x - 1 < 96 by omega)]
      exact J27 _ (Or.inr ⟨by omega, rfl⟩)
  · rw [if_neg hu, if_neg (fun z => z rfl), rtZ0, show isL m u n es tb x = false by unfold isL; simp [hu]]; rfl
theorem q_isH (M : MI I A m n es t) (U : MU A m u) (g : UG m n u) {x : Nat} (hx : x < 96) : f_X3_isHead (some mo) (nI x) (EM h mo I A) = rtI (bI (isH m u n es x)) (EM h mo I A) := by
  have hz0 := zl_12 m x
  unfold f_X3_isHead
  rw [m_gA (by decide) (by decide), m_lI0 (by decide) (by decide) (by decide) hx, U.1 x hx]
  by_cases hu : u x = 1
  · rw [if_pos hu, if_neg (nI_nle (by omega) (by omega)), m_rc, q_ent M (by omega), cI_rt, m_rc, show (1 : Int32) = bI true from rfl, q_isG M U g (by omega) true, cI_rt]
    have hL : isH m u n es x = (decide (x ∈ es) || isG m u n true x) := by unfold isH; simp [hu]
    rw [hL]
    have : (if ¬ bI (decide (x ∈ es)) = 0 then rtZ 1 (EM h mo I A) else if bI (isG m u n true x) = 0 then rtZ 0 (EM h mo I A) else rtZ 1 (EM h mo I A)) = rtI (bI (decide (x ∈ es) || isG m u n true x)) (EM h mo I A) := by
      apply rt_or
      cases isG m u n true x with
      | true => rw [b0t, rtZ1]; rfl
      | false => rw [b0f, rtZ0]; rfl
    exact this
  · rw [if_neg hu, if_pos (by decide), rtZ0, show isH m u n es x = false by unfold isH; simp [hu]]; rfl
theorem q_isB (M : MI I A m n es t) (U : MU A m u) (g : UG m n u) {x : Nat} (hx : x ≤ 1000) : f_X3_isBegin (some mo) (nI x) (EM h mo I A) = rtI (bI (decide (u x = 1))) (EM h mo I A) := by
  have hn := M.n96
  have hz0 := zl_12 m x
  unfold f_X3_isBegin
  rw [m_rc, q_adr M, cI_rt, ad_nI (by omega)]
  by_cases h1 : x < n
  · rw [decide_eq_true h1, b0t, m_gA (by decide) (by decide), m_lI0 (by decide) (by decide) (by decide) (show x < 96 by omega), U.1 x (by omega)]
    by_cases hu : u x = 1
    · rw [if_pos hu, if_neg (nI_nle (by omega) (by omega)), rtZ1, decide_eq_true hu]; rfl
    · rw [if_neg hu, if_pos (by decide), rtZ0, decide_eq_false hu]; rfl
  · rw [decide_eq_false h1, b0f, rtZ0, decide_eq_false (by rw [g.1 x (by omega)]; decide)]; rfl
theorem q_blkL (M : MI I A m n es t) (U : MU A m u) (g : UG m n u) (T : MT I A n tb) {K : Int32 → AH → RS} : ∀ (k f c : Nat), c + k = n → k < f →
    f_X3_blocks_L4 K f (some mo) (nI (cnt (isL m u n es tb) c)) (nI c) (EM h mo I A) = K (nI (cnt (isL m u n es tb) n)) (EM h mo I A) := by
  have hn := M.n96
  intro k
  induction k with
  | zero =>
    intro f c h1 h2
    obtain ⟨f, rfl⟩ : ∃ f', f = f' + 1 := ⟨f - 1, by omega⟩
    unfold f_X3_blocks_L4
    rw [m_gI (by decide) (by decide), M.siz, if_pos (nI_le (by omega) (by omega)), show c = n by omega]
  | succ k ih =>
    intro f c h1 h2
    obtain ⟨f, rfl⟩ : ∃ f', f = f' + 1 := ⟨f - 1, by omega⟩
    unfold f_X3_blocks_L4 f_X3_blocks_J26
    rw [m_gI (by decide) (by decide), M.siz, if_neg (fun z => by have := (nI_leI (by omega) (by omega)).mp z; omega), m_rc, q_isL M U g T (by omega), cI_rt, nI_1]
    have ih' := ih f (c + 1) (by omega) (by omega)
    rw [cnt_s1] at ih'
    cases hL : isL m u n es tb c with
    | true =>
      rw [hL, if_pos rfl] at ih'
      rw [b0t, nI_1, ih']
    | false =>
      rw [hL, if_neg (by decide)] at ih'
      rw [b0f, Int32.add_zero]
      exact ih'
theorem q_blocks (M : MI I A m n es t) (U : MU A m u) (g : UG m n u) (T : MT I A n tb) : f_X3_blocks (some mo) (EM h mo I A) = rtI (nI (cnt (isL m u n es tb) n)) (EM h mo I A) := by
  have hn := M.n96
  exact q_blkL (h := h) (mo := mo) M U g T (K := fun x15 h16 => rtI x15 h16) n FUEL 0 (by omega) (by unfold FUEL; omega)
theorem q_bszL (M : MI I A m n es t) (U : MU A m u) (g : UG m n u) (T : MT I A n tb) {K : Option Nat → Int32 → Int32 → AH → RS} : ∀ (k f a c : Nat), u a = 1 → n ≤ a + k → k < f →
    ∃ l, (blc m u (isL m u n es tb) k a).getLast? = some l ∧ f_X3_blockSize_L4 K f (some mo) (nI (c + 1)) (nI a) (EM h mo I A) = K (some mo) (nI (c + (blc m u (isL m u n es tb) k a).length)) (nI l) (EM h mo I A) := by
  have hn := M.n96
  intro k
  induction k with
  | zero =>
    intro f a c h1 h2 h3
    have := (zv_f (g.2.2.1 a h1).1).1
    omega
  | succ k ih =>
    intro f a c h1 h2 h3
    obtain ⟨f, rfl⟩ : ∃ f', f = f' + 1 := ⟨f - 1, by omega⟩
    obtain ⟨v1, v2, v3, v4⟩ := zv_f (g.2.2.1 a h1).1
    have hz := zl_12 m a
    unfold f_X3_blockSize_L4
    have hA : A 16 a = nI (zl m a) := by rw [U.1 a (by omega), if_pos h1]
    have stop : ¬ (zb m a = false ∧ u (a + zl m a) = 1 ∧ isL m u n es tb (a + zl m a) = false) → blc m u (isL m u n es tb) (k + 1) a = [a] := fun hc => by
      unfold blc; rw [if_neg hc]
    rw [m_rc, q_endsB M (by omega), cI_rt]
    cases hzb : zb m a with
    | true =>
      rw [n0t, stop (by rw [hzb]; simp)]
      exact ⟨a, rfl, rfl⟩
    | false =>
      rw [n0f, m_gA (by decide) (by decide), m_lI0 (by decide) (by decide) (by decide) (show a < 96 by omega), hA, m_rc, nI_add, q_isB M U g (by omega), cI_rt]
      by_cases hu : u (a + zl m a) = 1
      · obtain ⟨w1, w2, w3, w4⟩ := zv_f (g.2.2.1 _ hu).1
        rw [decide_eq_true hu, b0t, m_gA (by decide) (by decide), m_lI0 (by decide) (by decide) (by decide) (show a < 96 by omega), hA, m_rc, nI_add, q_isL M U g T (by omega), cI_rt]
        cases hL : isL m u n es tb (a + zl m a) with
        | true =>
          rw [n0t, stop (by rw [hL]; simp)]
          exact ⟨a, rfl, rfl⟩
        | false =>
          rw [n0f, m_gA (by decide) (by decide), m_lI0 (by decide) (by decide) (by decide) (show a < 96 by omega), hA, nI_1, nI_add]
          obtain ⟨l, e1, e2⟩ := ih f (a + zl m a) (c + 1) hu (by omega) (by omega)
          have hb : blc m u (isL m u n es tb) (k + 1) a = a :: blc m u (isL m u n es tb) k (a + zl m a) := by
            conv => lhs; unfold blc
            rw [if_pos ⟨hzb, hu, hL⟩]
          rw [hb]
          refine ⟨l, by rw [List.getLast?_cons_of_ne_nil (blc_ne _ _)]; exact e1, ?_⟩
          rw [e2, List.length_cons, show c + 1 + (blc m u (isL m u n es tb) k (a + zl m a)).length = c + ((blc m u (isL m u n es tb) k (a + zl m a)).length + 1) by omega]
      · rw [decide_eq_false hu, b0f, stop (fun z => hu z.2.1)]
        exact ⟨a, rfl, rfl⟩
/-- a block's instructions -/
def bkl (m u : Nat → Nat) (n : Nat) (es : List Nat) (tb : List TT) (a : Nat) : List Nat := blc m u (isL m u n es tb) n a
theorem q_bsz (M : MI I A m n es t) (U : MU A m u) (g : UG m n u) (T : MT I A n tb) {a : Nat} (ha : u a = 1) : ∃ l, (bkl m u n es tb a).getLast? = some l ∧ f_X3_blockSize (some mo) (nI a) (EM h mo I A) = rtI (nI (bkl m u n es tb a).length) (EM h mo (upd I 44 (nI l)) A) := by
  have hn := M.n96
  obtain ⟨l, e1, e2⟩ := q_bszL (h := h) (mo := mo) M U g T (K := fun x20 x21 x22 h23 => xpF h23 x20 2 44 (.int x22) (fun h24 => rtI x21 h24)) n FUEL a 0 ha (by omega) (by unfold FUEL; omega)
  refine ⟨l, e1, ?_⟩
  unfold f_X3_blockSize
  rw [show (1 : Int32) = nI (0 + 1) from rfl, e2, m_pI (by decide) (by decide), Nat.zero_add]
  rfl
/-! reach -/
def rea (u : Nat → Nat) (O : List Nat) (a : Nat) : List Nat := if u a = 1 ∧ a ∉ O then O ++ [a] else O
def reaL (u : Nat → Nat) (O l : List Nat) : List Nat := l.foldl (rea u) O
def MO (I : Nat → Int32) (A : Nat → Nat → Int32) (O : List Nat) : Prop := (∀ a, a < 96 → A 45 a = bI (decide (a ∈ O))) ∧ LSq (A 46) O ∧ I 47 = nI O.length
def GO (u : Nat → Nat) (O : List Nat) : Prop := O.Nodup ∧ ∀ x ∈ O, u x = 1
theorem rea_g {O : List Nat} {a : Nat} (G : GO u O) : GO u (rea u O a) := by
  unfold rea
  split
  · rename_i hc
    refine ⟨?_, fun x hx => ?_⟩
    · rw [List.nodup_append]
      refine ⟨G.1, by simp, fun x hx y hy => ?_⟩
      rw [List.mem_singleton.mp hy]
      rintro rfl
      exact hc.2 hx
    · rcases List.mem_append.mp hx with hx | hx
      · exact G.2 x hx
      · rw [List.mem_singleton.mp hx]; exact hc.1
  · exact G
theorem rea_p {O : List Nat} {a : Nat} : ∃ w, rea u O a = O ++ w := by
  unfold rea
  split
  · exact ⟨[a], rfl⟩
  · exact ⟨[], by simp⟩
theorem rea_m {O : List Nat} {a x : Nat} : x ∈ rea u O a ↔ x ∈ O ∨ (x = a ∧ u a = 1) := by
  unfold rea
  split
  · rename_i hc
    simp only [List.mem_append, List.mem_singleton]
    constructor
    · rintro (h | h)
      · exact Or.inl h
      · exact Or.inr ⟨h, hc.1⟩
    · rintro (h | h)
      · exact Or.inl h
      · exact Or.inr h.1
  · rename_i hc
    constructor
    · exact Or.inl
    · rintro (h | ⟨rfl, h⟩)
      · exact h
      · exact Classical.byContradiction (fun z => hc ⟨h, z⟩)
theorem reaL_g : ∀ (l : List Nat) {O : List Nat}, GO u O → GO u (reaL u O l)
  | [], O, G => G
  | a :: l, O, G => reaL_g l (rea_g G)
theorem reaL_p : ∀ (l O : List Nat), ∃ w, reaL u O l = O ++ w
  | [], O => ⟨[], by simp [reaL]⟩
  | a :: l, O => by
    obtain ⟨w, hw⟩ := rea_p (u := u) (O := O) (a := a)
    obtain ⟨w', hw'⟩ := reaL_p l (rea u O a)
    exact ⟨w ++ w', by show reaL u (rea u O a) l = _; rw [hw', hw, List.append_assoc]⟩
theorem reaL_m : ∀ (l O : List Nat) (x : Nat), x ∈ reaL u O l ↔ x ∈ O ∨ (x ∈ l ∧ u x = 1)
  | [], O, x => by simp [reaL]
  | a :: l, O, x => by
    show x ∈ reaL u (rea u O a) l ↔ _
    rw [reaL_m l, rea_m, List.mem_cons]
    constructor
    · rintro ((h | ⟨rfl, h⟩) | h)
      · exact Or.inl h
      · exact Or.inr ⟨Or.inl rfl, h⟩
      · exact Or.inr ⟨Or.inr h.1, h.2⟩
    · rintro (h | ⟨rfl | h, h2⟩)
      · exact Or.inl (Or.inl h)
      · exact Or.inl (Or.inr ⟨rfl, h2⟩)
      · exact Or.inr ⟨h, h2⟩
theorem GO.len (g : UG m n u) {O : List Nat} (G : GO u O) : O.length ≤ n := nodup_le G.1 (fun x hx => (zv_f (g.2.2.1 x (G.2 x hx)).1).1)
theorem q_rea (M : MI I A m n es t) (U : MU A m u) (g : UG m n u) {O : List Nat} (Q : MO I A O) (G : GO u O) {a : Nat} (ha : a ≤ 1000) :
    ∃ I' A', f_X3_reaches (some mo) (nI a) (EM h mo I A) = rtV (EM h mo I' A') ∧ MO I' A' (rea u O a) ∧ Un [47] [45, 46] I A I' A' := by
  have hn := M.n96
  obtain ⟨q1, q2, q3⟩ := id Q
  unfold f_X3_reaches
  rw [m_rc, q_isB M U g ha, cI_rt]
  by_cases hu : u a = 1
  · obtain ⟨v1, v2, v3, v4⟩ := zv_f (g.2.2.1 a hu).1
    rw [decide_eq_true hu, b0t, m_gA (by decide) (by decide), m_lI1 (by decide) (by decide) (by decide) (show a < 96 by omega), q1 a (by omega)]
    by_cases hO : a ∈ O
    · rw [decide_eq_true hO, b0t]
      refine ⟨I, A, rfl, ?_, Un.rf⟩
      unfold rea
      rw [if_neg (fun z => z.2 hO)]
      exact Q
    · have hr : rea u O a = O ++ [a] := by unfold rea; rw [if_pos ⟨hu, hO⟩]
      have hlen := (rea_g (a := a) G).len g
      rw [hr, List.length_append, List.length_singleton] at hlen
      rw [decide_eq_false hO, b0f, m_gA (by decide) (by decide), m_sI1 (by decide) (by decide) (by decide) (show a < 96 by omega) (Or.inr rfl), m_gA (by decide) (by decide), m_gI (by decide) (by decide), q3, m_sI0 (by decide) (by decide) (by decide) (show O.length < 96 by omega), m_gI (by decide) (by decide), q3, nI_1, m_pI (by decide) (by decide), hr]
      refine ⟨_, _, rfl, ⟨fun x hx => ?_, ?_, ?_⟩, (Un.uA (by decide)).tr ((Un.uA (by decide)).tr (Un.uI (by decide)))⟩
      · rw [upA_n (by decide), upA_s]
        by_cases hxa : x = a
        · subst hxa; rw [upd_s, decide_eq_true (by simp)]; rfl
        · rw [upd_n hxa, q1 x hx]
          congr 1
          apply decide_eq_decide.mpr
          simp [hxa]
      · rw [upA_s, upA_n (by decide)]; exact q2.add
      · rw [upd_s, List.length_append, List.length_singleton]
  · rw [decide_eq_false hu, b0f]
    refine ⟨I, A, rfl, ?_, Un.rf⟩
    unfold rea
    rw [if_neg (fun z => hu z.1)]
    exact Q
theorem q_fL134 (g : UG m n u) {tt a kk : Nat} (htt : tt < tb.length) (ha : a < 96) (hTa : (tb.getD tt T0).1 = a) {K : Option Nat → Int32 → Int32 → Int32 → AH → RS} : ∀ (k f c : Nat) (O : List Nat) (I : Nat → Int32) (A : Nat → Nat → Int32), c + k = (tb.getD tt T0).2.2.2.length → k < f → MI I A m n es t → MU A m u → MT I A n tb → MO I A O → GO u O →
    ∃ I' A', f_X3_functionSize_L134 K f (some mo) (nI kk) (nI a) (nI tt) (nI c) (EM h mo I A) = K (some mo) (nI kk) (nI a) (nI tt) (EM h mo I' A') ∧ MO I' A' (reaL u O (((tb.getD tt T0).2.2.2.drop c).map m)) ∧ Un [47] [45, 46] I A I' A' := by
  intro k
  induction k with
  | zero =>
    intro f c O I A h1 h2 M U T Q G
    obtain ⟨t1, t2, t3, t4⟩ := T
    obtain ⟨e1, e2, e3, e4, e5⟩ := t3 tt htt
    obtain ⟨f1, f2, f3⟩ := t4 _ (getT_mem htt)
    obtain ⟨f, rfl⟩ : ∃ f', f = f' + 1 := ⟨f - 1, by omega⟩
    unfold f_X3_functionSize_L134
    rw [m_gA (by decide) (by decide), m_lI0 (by decide) (by decide) (by decide) (show tt < 48 by omega), e4, if_pos (nI_le (by omega) (by omega)), List.drop_eq_nil_of_le (by omega)]
    exact ⟨I, A, rfl, Q, Un.rf⟩
  | succ k ih =>
    intro f c O I A h1 h2 M U T Q G
    have hn := M.n96
    obtain ⟨t1, t2, t3, t4⟩ := id T
    obtain ⟨e1, e2, e3, e4, e5⟩ := t3 tt htt
    obtain ⟨f1, f2, f3⟩ := t4 _ (getT_mem htt)
    obtain ⟨f, rfl⟩ : ∃ f', f = f' + 1 := ⟨f - 1, by omega⟩
    have hd := drop_g (l := (tb.getD tt T0).2.2.2) (j := c) 0 (by omega)
    have hp := f3 _ (getD_mem (ys := (tb.getD tt T0).2.2.2) (i := c) (by omega))
    have hby := M.byt _ (show (tb.getD tt T0).2.2.2.getD c 0 < 96 by omega)
    unfold f_X3_functionSize_L134
    rw [m_gA (by decide) (by decide), m_lI0 (by decide) (by decide) (by decide) (show tt < 48 by omega), e4, if_neg (fun z => by have := (nI_leI (by omega) (by omega)).mp z; omega), m_gA (by decide) (by decide), m_lI0 (by decide) (by decide) (by decide) (show tt < 48 by omega), e1, hTa, if_neg (fun z => z rfl), m_gA (by decide) (by decide), m_gA (by decide) (by decide), lit 16, nI_mul, nI_add, m_lI0 (by decide) (by decide) (by decide) (show 16 * tt + c < 768 by omega), e5 c (by omega), m_lI0 (by decide) (by decide) (by decide) (show (tb.getD tt T0).2.2.2.getD c 0 < 96 by omega), M.mem _ (by omega), m_rc]
    obtain ⟨I1, A1, d1, d2, d3⟩ := q_rea (h := h) (mo := mo) M U g Q G (a := m ((tb.getD tt T0).2.2.2.getD c 0)) (by omega)
    rw [d1, cV_rt, nI_1]
    obtain ⟨I2, A2, g1, g2, g3⟩ := ih f (c + 1) _ I1 A1 (by omega) (by omega) (M.un d3 (by decide) (by decide) (by decide) (by decide) (by decide)) (U.un d3 (by decide) (by decide) (by decide)) (T.un d3 (by decide) (by decide) (by decide) (by decide) (by decide) (by decide)) d2 (rea_g G)
    refine ⟨I2, A2, g1, ?_, d3.tr g3⟩
    rw [hd, List.map_cons]
    exact g2
def tSu (m : Nat → Nat) (a : Nat) (T : TT) : List Nat := if T.1 = a then T.2.2.2.map m else []
theorem q_fL122 (g : UG m n u) {a kk : Nat} (ha : a < 96) {K : Option Nat → Int32 → AH → RS} : ∀ (k f c : Nat) (O : List Nat) (I : Nat → Int32) (A : Nat → Nat → Int32), c + k = tb.length → k < f → MI I A m n es t → MU A m u → MT I A n tb → MO I A O → GO u O →
    ∃ I' A', f_X3_functionSize_L122 K f (some mo) (nI kk) (nI a) (nI c) (EM h mo I A) = K (some mo) (nI kk) (EM h mo I' A') ∧ MO I' A' (reaL u O ((tb.drop c).flatMap (tSu m a))) ∧ Un [47] [45, 46] I A I' A' := by
  intro k
  induction k with
  | zero =>
    intro f c O I A h1 h2 M U T Q G
    have hT2 := T.2.1
    obtain ⟨f, rfl⟩ : ∃ f', f = f' + 1 := ⟨f - 1, by omega⟩
    unfold f_X3_functionSize_L122
    rw [m_gI (by decide) (by decide), T.1, if_pos (nI_le (by omega) (by omega)), List.drop_eq_nil_of_le (by omega)]
    exact ⟨I, A, rfl, Q, Un.rf⟩
  | succ k ih =>
    intro f c O I A h1 h2 M U T Q G
    have hn := M.n96
    obtain ⟨t1, t2, t3, t4⟩ := id T
    obtain ⟨e1, e2, e3, e4, e5⟩ := t3 c (by omega)
    obtain ⟨f1, f2, f3⟩ := t4 _ (getT_mem (tb := tb) (k := c) (by omega))
    obtain ⟨f, rfl⟩ : ∃ f', f = f' + 1 := ⟨f - 1, by omega⟩
    have hd := drop_g (l := tb) (j := c) T0 (by omega)
    rw [hd, List.flatMap_cons]
    unfold f_X3_functionSize_L122
    rw [m_gI (by decide) (by decide), T.1, if_neg (fun z => by have := (nI_leI (by omega) (by omega)).mp z; omega), show (0 : Int32) = nI 0 from rfl]
    by_cases hTa : (tb.getD c T0).1 = a
    · obtain ⟨I1, A1, d1, d2, d3⟩ := q_fL134 (h := h) (mo := mo) (es := es) (t := t) g (tb := tb) (tt := c) (kk := kk) (by omega) ha hTa (K := fun x62 x63 x64 x65 h66 => f_X3_functionSize_J185 (f_X3_functionSize_L122 K f) K x62 x63 x64 x65 h66) (tb.getD c T0).2.2.2.length FUEL 0 O I A (by omega) (by unfold FUEL; omega) M U T Q G
      rw [d1]
      unfold f_X3_functionSize_J185
      rw [nI_1]
      rw [List.drop_zero] at d2
      obtain ⟨I2, A2, g1, g2, g3⟩ := ih f (c + 1) _ I1 A1 (by omega) (by omega) (M.un d3 (by decide) (by decide) (by decide) (by decide) (by decide)) (U.un d3 (by decide) (by decide) (by decide)) (T.un d3 (by decide) (by decide) (by decide) (by decide) (by decide) (by decide)) d2 (reaL_g _ G)
      refine ⟨I2, A2, g1, ?_, d3.tr g3⟩
      have : tSu m a (tb.getD c T0) = (tb.getD c T0).2.2.2.map m := by unfold tSu; rw [if_pos hTa]
      rw [this]
      unfold reaL at g2 ⊢
      rw [List.foldl_append]
      exact g2
    · have hs : tSu m a (tb.getD c T0) = [] := by unfold tSu; rw [if_neg hTa]
      rw [hs, List.nil_append]
      obtain ⟨F, hF⟩ : ∃ F, FUEL = F + 1 := ⟨99999, rfl⟩
      rw [hF]
      unfold f_X3_functionSize_L134 f_X3_functionSize_J185
      rw [m_gA (by decide) (by decide), m_lI0 (by decide) (by decide) (by decide) (show c < 48 by omega), e4, m_gA (by decide) (by decide), m_lI0 (by decide) (by decide) (by decide) (show c < 48 by omega), e1, if_pos (show ¬ nI (tb.getD c T0).1 = nI a from fun z => hTa ((nI_eq (by omega) (by omega)).mp z)), nI_1, ite_self]
      exact ih f (c + 1) O I A (by omega) (by omega) M U T Q G
/-- where it goes on from a -/
def suL (m : Nat → Nat) (tb : List TT) (a : Nat) : List Nat := (if ze m a = true then [] else [a + zl m a]) ++ ((if zt m a = true ∧ zk m a ≠ 7 then [zq m a] else []) ++ tb.flatMap (tSu m a))
theorem suL_m {a b : Nat} : b ∈ suL m tb a ↔ sucR m tb a b := by
  unfold suL sucR
  rw [List.mem_append, List.mem_append, List.mem_flatMap]
  have h1 : (b ∈ (if ze m a = true then ([] : List Nat) else [a + zl m a])) ↔ (ze m a = false ∧ b = a + zl m a) := by
    cases ze m a <;> simp
  have h2 : (b ∈ (if zt m a = true ∧ zk m a ≠ 7 then [zq m a] else [])) ↔ ((zt m a = true ∧ zk m a ≠ 7) ∧ b = zq m a) := by
    by_cases hc : zt m a = true ∧ zk m a ≠ 7
    · rw [if_pos hc]; simp [hc]
    · rw [if_neg hc]; simp only [List.not_mem_nil, false_iff]; exact fun z => hc z.1
  have h3 : (∃ T ∈ tb, b ∈ tSu m a T) ↔ ∃ T ∈ tb, T.1 = a ∧ ∃ p ∈ T.2.2.2, m p = b := by
    constructor
    · rintro ⟨T, hT, hb⟩
      unfold tSu at hb
      split at hb
      · rename_i e
        obtain ⟨p, p1, p2⟩ := List.mem_map.mp hb
        exact ⟨T, hT, e, p, p1, p2⟩
      · simp at hb
    · rintro ⟨T, hT, e, p, p1, p2⟩
      refine ⟨T, hT, ?_⟩
      unfold tSu
      rw [if_pos e]
      exact List.mem_map.mpr ⟨p, p1, p2⟩
  rw [h1, h2, h3]
theorem q_fL61 (g : UG m n u) (hmt : ∀ T ∈ tb, ∀ p ∈ T.2.2.2, p < n) {hd : Nat} {K : Option Nat → AH → RS} : ∀ (j f k : Nat) (O : List Nat) (I : Nat → Int32) (A : Nat → Nat → Int32), n < j + k → j < f → k ≤ O.length → MI I A m n es t → MU A m u → MT I A n tb → MO I A O → GO u O → (∀ i, i < k → ∀ b ∈ suL m tb (O.getD i 0), u b = 1 → b ∈ O) → hd ∈ O → (∀ x ∈ O, Rch m u tb hd x) →
    ∃ I' A' O', f_X3_functionSize_L61 K f (some mo) (nI k) (EM h mo I A) = K (some mo) (EM h mo I' A') ∧ MO I' A' O' ∧ GO u O' ∧ (∀ a ∈ O', ∀ b ∈ suL m tb a, u b = 1 → b ∈ O') ∧ hd ∈ O' ∧ (∀ x ∈ O', Rch m u tb hd x) ∧ Un [47] [45, 46] I A I' A' := by
  intro j
  induction j with
  | zero =>
    intro f k O I A h1 h2 h3 M U T Q G
    have := G.len g
    omega
  | succ j ih =>
    intro f k O I A h1 h2 h3 M U T Q G hcl hhd hR
    have hn := M.n96
    have hT2 := T.2.1
    have hOl := G.len g
    obtain ⟨f, rfl⟩ : ∃ f', f = f' + 1 := ⟨f - 1, by omega⟩
    obtain ⟨q1, q2, q3⟩ := id Q
    unfold f_X3_functionSize_L61
    rw [m_gI (by decide) (by decide), q3]
    by_cases hk : O.length ≤ k
    · rw [if_pos (nI_le hk (by omega))]
      refine ⟨I, A, O, rfl, Q, G, fun a ha b hb hu => ?_, hhd, hR, Un.rf⟩
      obtain ⟨i, hi, rfl⟩ := List.mem_iff_getElem.mp ha
      have := hcl i (by omega) b
      rw [List.getD_eq_getElem?_getD, List.getElem?_eq_getElem hi] at this
      exact this hb hu
    · have hmem := getD_mem (ys := O) (i := k) (by omega)
      rw [if_neg (fun z => hk ((nI_leI (by omega) (by omega)).mp z)), m_gA (by decide) (by decide), m_lI0 (by decide) (by decide) (by decide) (show k < 96 by omega), q2 k (by omega)]
      obtain ⟨a, hadef⟩ : ∃ a, O.getD k 0 = a := ⟨_, rfl⟩
      rw [hadef] at hmem ⊢
      have hua := G.2 a hmem
      obtain ⟨v1, v2, v3, v4⟩ := zv_f (g.2.2.1 a hua).1
      have hz := zl_12 m a
      have hk16 := M.k16 (a := a) (by omega)
      rw [m_rc, q_ends M (by omega), cI_rt]
      -- the tables, and on
      have J119 : ∀ (O1 : List Nat) (I1 : Nat → Int32) (A1 : Nat → Nat → Int32), Un [47] [45, 46] I A I1 A1 → MO I1 A1 O1 → GO u O1 → reaL u O1 (tb.flatMap (tSu m a)) = reaL u O (suL m tb a) →
          ∃ I' A' O', f_X3_functionSize_J119 (f_X3_functionSize_L61 K f) K (some mo) (nI k) (nI a) (EM h mo I1 A1) = K (some mo) (EM h mo I' A') ∧ MO I' A' O' ∧ GO u O' ∧ (∀ a ∈ O', ∀ b ∈ suL m tb a, u b = 1 → b ∈ O') ∧ hd ∈ O' ∧ (∀ x ∈ O', Rch m u tb hd x) ∧ Un [47] [45, 46] I A I' A' := by
        intro O1 I1 A1 u1 Q1 G1 e1
        have M1 := M.un u1 (by decide) (by decide) (by decide) (by decide) (by decide)
        have U1 := U.un u1 (by decide) (by decide) (by decide)
        have T1 := T.un u1 (by decide) (by decide) (by decide) (by decide) (by decide) (by decide)
        obtain ⟨I2, A2, d1, d2, d3⟩ := q_fL122 (h := h) (mo := mo) (es := es) (t := t) g (tb := tb) (a := a) (kk := k) (by omega) (K := fun x73 x74 h75 => f_X3_functionSize_L61 K f x73 (x74 + 1) h75) tb.length FUEL 0 O1 I1 A1 (by omega) (by unfold FUEL; omega) M1 U1 T1 Q1 G1
        unfold f_X3_functionSize_J119
        rw [show (0 : Int32) = nI 0 from rfl, d1, nI_1]
        rw [List.drop_zero, e1] at d2
        have u2 := u1.tr d3
        obtain ⟨w, hw⟩ := reaL_p (u := u) (suL m tb a) O
        have hmm : ∀ x, x ∈ reaL u O (suL m tb a) ↔ x ∈ O ∨ (x ∈ suL m tb a ∧ u x = 1) := reaL_m _ _
        obtain ⟨I3, A3, O3, f1, f2, f3, f4, f5, f6, f7⟩ := ih f (k + 1) _ I2 A2 (by omega) (by omega) (by rw [hw, List.length_append]; omega) (M.un u2 (by decide) (by decide) (by decide) (by decide) (by decide)) (U.un u2 (by decide) (by decide) (by decide)) (T.un u2 (by decide) (by decide) (by decide) (by decide) (by decide) (by decide)) d2 (reaL_g _ G) (fun i hi b hb hub => by
          rw [hmm]
          have e : (reaL u O (suL m tb a)).getD i 0 = O.getD i 0 := by
            rw [hw, List.getD_eq_getElem?_getD, List.getElem?_append_left (by omega), List.getD_eq_getElem?_getD]
          rw [e] at hb
          by_cases hik : i = k
          · subst hik
            rw [hadef] at hb
            exact Or.inr ⟨hb, hub⟩
          · exact Or.inl (hcl i (by omega) b hb hub)) ((hmm hd).mpr (Or.inl hhd)) (fun x hx => by
          rcases (hmm x).mp hx with hx | hx
          · exact hR x hx
          · exact (hR a hmem).st (suL_m.mp hx.1) hx.2)
        exact ⟨I3, A3, O3, f1, f2, f3, f4, f5, f6, u2.tr f7⟩
      -- the target
      have J96 : ∀ (O1 : List Nat) (I1 : Nat → Int32) (A1 : Nat → Nat → Int32), Un [47] [45, 46] I A I1 A1 → MO I1 A1 O1 → GO u O1 → reaL u O1 ((if zt m a = true ∧ zk m a ≠ 7 then [zq m a] else []) ++ tb.flatMap (tSu m a)) = reaL u O (suL m tb a) →
          ∃ I' A' O', f_X3_functionSize_J96 (f_X3_functionSize_L61 K f) K (some mo) (nI k) (nI a) (EM h mo I1 A1) = K (some mo) (EM h mo I' A') ∧ MO I' A' O' ∧ GO u O' ∧ (∀ a ∈ O', ∀ b ∈ suL m tb a, u b = 1 → b ∈ O') ∧ hd ∈ O' ∧ (∀ x ∈ O', Rch m u tb hd x) ∧ Un [47] [45, 46] I A I' A' := by
        intro O1 I1 A1 u1 Q1 G1 e1
        have M1 := M.un u1 (by decide) (by decide) (by decide) (by decide) (by decide)
        have U1 := U.un u1 (by decide) (by decide) (by decide)
        unfold f_X3_functionSize_J96
        rw [m_rc, q_sort M1 (by omega), cI_rt, show (4 : Int32) = nI 4 from rfl, show (6 : Int32) = nI 6 from rfl, q_inN (by omega) (by decide) (by decide), cI_rt]
        by_cases h4 : 4 ≤ zk m a ∧ zk m a ≤ 6
        · have ht : zt m a = true := decide_eq_true (by omega)
          have l2 := zt_l ht
          have hzq := zq_lt (g.2.2.1 a hua).1 ht
          rw [if_pos ⟨ht, by omega⟩] at e1
          rw [decide_eq_true h4, b0t, m_rc, q_goal M1 (by omega), cI_rt, ← hzq.2, ← iI_nI, m_rc]
          obtain ⟨I2, A2, d1, d2, d3⟩ := q_rea (h := h) (mo := mo) M1 U1 g Q1 G1 (a := zq m a) (by omega)
          rw [d1, cV_rt]
          exact J119 _ I2 A2 (u1.tr d3) d2 (rea_g G1) e1
        · rw [if_neg (show ¬ (zt m a = true ∧ zk m a ≠ 7) by
            rintro ⟨z1, z2⟩
            have z1 : 4 ≤ zk m a ∧ zk m a ≤ 7 := of_decide_eq_true z1
            omega), List.nil_append] at e1
          rw [decide_eq_false h4, b0f]
          exact J119 O1 I1 A1 u1 Q1 G1 e1
      cases hze : ze m a with
      | true =>
        rw [n0t]
        refine J96 O I A Un.rf Q G ?_
        unfold suL
        rw [if_pos hze, List.nil_append]
      | false =>
        rw [n0f, m_gA (by decide) (by decide), m_lI0 (by decide) (by decide) (by decide) (show a < 96 by omega), U.1 a (by omega), if_pos hua, nI_add, m_rc]
        obtain ⟨I2, A2, d1, d2, d3⟩ := q_rea (h := h) (mo := mo) M U g Q G (a := a + zl m a) (by omega)
        rw [d1, cV_rt]
        refine J96 _ I2 A2 d3 d2 (rea_g G) ?_
        unfold suL
        rw [show (if ze m a = true then ([] : List Nat) else [a + zl m a]) = [a + zl m a] by rw [hze]; rfl]
        rfl
theorem q_fL30 {x : Int32} {K : Option Nat → Int32 → AH → RS} : ∀ (k f c : Nat) (A : Nat → Nat → Int32), c + k = 96 → k < f →
    ∃ A', f_X3_functionSize_L30 K f (some mo) x (nI c) (EM h mo I A) = K (some mo) x (EM h mo I A') ∧ (∀ x, x ≠ 45 → A' x = A x) ∧ (∀ j, j < c → A' 45 j = A 45 j) ∧ ∀ j, c ≤ j → j < 96 → A' 45 j = 0 := by
  intro k
  induction k with
  | zero =>
    intro f c A h1 h2
    obtain ⟨f, rfl⟩ : ∃ f', f = f' + 1 := ⟨f - 1, by omega⟩
    unfold f_X3_functionSize_L30
    rw [if_pos (show (96 : Int32) ≤ nI c from nI_le (a := 96) (by omega) (by omega))]
    exact ⟨A, rfl, fun _ _ => rfl, fun _ _ => rfl, fun j j1 j2 => by omega⟩
  | succ k ih =>
    intro f c A h1 h2
    obtain ⟨f, rfl⟩ : ∃ f', f = f' + 1 := ⟨f - 1, by omega⟩
    unfold f_X3_functionSize_L30
    rw [if_neg (show ¬ (96 : Int32) ≤ nI c from fun z => by have := (nI_leI (a := 96) (by decide) (by omega)).mp z; omega), m_gA (by decide) (by decide), m_sI1 (by decide) (by decide) (by decide) (show c < 96 by omega) (Or.inl rfl), nI_1]
    obtain ⟨A', e1, e2, e3, e4⟩ := ih f (c + 1) (upA A 45 (upd (A 45) c 0)) (by omega) (by omega)
    refine ⟨A', e1, fun x hx => by rw [e2 x hx, upA_n hx], fun j hj => by rw [e3 j (by omega), upA_s, upd_n (by omega)], fun j j1 j2 => ?_⟩
    by_cases hjc : j = c
    · subst hjc; rw [e3 j (by omega), upA_s, upd_s]
    · exact e4 j (by omega) j2
noncomputable def rchB (m u : Nat → Nat) (tb : List TT) (hd x : Nat) : Bool := @decide (Rch m u tb hd x) (Classical.propDecidable _)
theorem rchB_iff {hd x : Nat} : rchB m u tb hd x = true ↔ Rch m u tb hd x := by
  unfold rchB
  exact @decide_eq_true_iff _ (Classical.propDecidable _)
/-- the model's reach -/
theorem q_reach (M : MI I A m n es t) (U : MU A m u) (g : UG m n u) (T : MT I A n tb) {hd : Nat} (hh : u hd = 1) :
    ∃ I' A', f_X3_functionSize_L30 (fun x14 x15 h16 => xpF h16 x14 2 47 (.int 0) (fun h17 => xrc h17 x14 2 (xcV (f_X3_reaches x14 x15 h17) (fun h18 => f_X3_functionSize_L61 (fun x85 h86 => xgI h86 x85 2 47 (fun v87 => rtI v87 h86)) FUEL x14 0 h18)))) FUEL (some mo) (nI hd) 0 (EM h mo I A) = rtI (nI (cnt (rchB m u tb hd) n)) (EM h mo I' A') ∧ Un [47] [45, 46] I A I' A' := by
  have hn := M.n96
  have hv := (zv_f (g.2.2.1 hd hh).1).1
  obtain ⟨A1, a1, a2, a3, a4⟩ := q_fL30 (h := h) (mo := mo) (I := I) (x := nI hd) (K := fun x14 x15 h16 => xpF h16 x14 2 47 (.int 0) (fun h17 => xrc h17 x14 2 (xcV (f_X3_reaches x14 x15 h17) (fun h18 => f_X3_functionSize_L61 (fun x85 h86 => xgI h86 x85 2 47 (fun v87 => rtI v87 h86)) FUEL x14 0 h18)))) 96 FUEL 0 A (by omega) (by unfold FUEL; omega)
  show ∃ I' A', f_X3_functionSize_L30 _ FUEL (some mo) (nI hd) (nI 0) (EM h mo I A) = _ ∧ _
  rw [a1, m_pI (by decide) (by decide), m_rc]
  have u1 : Un [47] [45, 46] I A (upd I 47 0) A1 := (Un.uI (by decide)).tr ⟨fun _ _ => rfl, fun k hk => a2 k (fun z => hk (by rw [z]; decide))⟩
  have Q1 : MO (upd I 47 0) A1 [] := ⟨fun a ha => by rw [a4 a (Nat.zero_le _) ha]; rfl, fun i hi => absurd hi (Nat.not_lt_zero i), upd_s⟩
  obtain ⟨I2, A2, b1, b2, b3⟩ := q_rea (h := h) (mo := mo) (M.un u1 (by decide) (by decide) (by decide) (by decide) (by decide)) (U.un u1 (by decide) (by decide) (by decide)) g Q1 ⟨List.nodup_nil, fun x hx => by cases hx⟩ (a := hd) (by omega)
  rw [b1, cV_rt]
  have hr : rea u [] hd = [hd] := by unfold rea; rw [if_pos ⟨hh, by simp⟩]; rfl
  rw [hr] at b2
  have u2 := u1.tr b3
  obtain ⟨I3, A3, O, c1, c2, c3, c4, c5, c6, c7⟩ := q_fL61 (h := h) (mo := mo) (es := es) (t := t) g (tb := tb) (fun T' hT' => (T.2.2.2 T' hT').2.2) (hd := hd) (K := fun x85 h86 => xgI h86 x85 2 47 (fun v87 => rtI v87 h86)) (n + 1) FUEL 0 [hd] I2 A2 (by omega) (by unfold FUEL; omega) (Nat.zero_le _) (M.un u2 (by decide) (by decide) (by decide) (by decide) (by decide)) (U.un u2 (by decide) (by decide) (by decide)) (T.un u2 (by decide) (by decide) (by decide) (by decide) (by decide) (by decide)) b2 ⟨by simp, fun x hx => by rw [List.mem_singleton.mp hx]; exact hh⟩ (fun i hi => absurd hi (Nat.not_lt_zero i)) (by simp) (fun x hx => by rw [List.mem_singleton.mp hx]; exact Rch.hd)
  show ∃ I' A', f_X3_functionSize_L61 _ FUEL (some mo) (nI 0) (EM h mo I2 A2) = _ ∧ _
  rw [c1, m_gI (by decide) (by decide), c2.2.2]
  refine ⟨I3, A3, ?_, u2.tr c7⟩
  congr 2
  rw [← cnt_mem O c3.1 (fun x hx => (zv_f (g.2.2.1 x (c3.2 x hx)).1).1)]
  apply cnt_congr
  intro x _
  rw [Bool.eq_iff_iff, rchB_iff, ← Rch.all (r := fun y => decide (y ∈ O)) (by simpa using c5) (fun a b ha hs hb => by
    have ha : a ∈ O := by simpa using ha
    simpa using c4 a ha b (suL_m.mpr hs) hb) (fun y hy => c6 y (by simpa using hy)) x]
end
