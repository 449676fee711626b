/-! PURE: the model's gaps -/
set_option maxRecDepth 100000
section
variable {li la : List Nat} {I I' I2 : Nat → Int32} {A A' A2 : Nat → Nat → Int32} {m : Nat → Nat} {n : Nat} {es : List Nat} {t : Nat} {h : AH} {mo : Nat}
theorem q_used {u : Nat → Nat} (U : MU A m u) {a : Nat} (ha : a < 96) : f_X3_isUsed (some mo) (nI a) (EM h mo I A) = rtI (bI (tk (u a))) (EM h mo I A) := by
  have ho := own_pos U ha
  unfold f_X3_isUsed
  rw [m_gA (by decide) (by decide), m_lI0 (by decide) (by decide) (by decide) (show a < 96 from ha)]
  by_cases h12 : u a = 1 ∨ u a = 2
  · rw [if_pos (by rw [ho]; exact h12), rtZ1, show tk (u a) = true from decide_eq_true (by omega)]; rfl
  · rw [if_neg (by rw [ho]; exact h12), m_gA (by decide) (by decide), m_lI1 (by decide) (by decide) (by decide) (show a < 96 from ha), U.2.2 a ha]
    by_cases h3 : u a = 3
    · rw [decide_eq_true h3, b0t, rtZ1, show tk (u a) = true from decide_eq_true (by omega)]; rfl
    · rw [decide_eq_false h3, b0f, rtZ0, show tk (u a) = false from decide_eq_false (by omega)]; rfl
theorem q_inGap (M : MI I A m n es t) {a e : Nat} (ha : a ≤ 1000) (he : e ≤ 1000) : f_X3_isInGap (some mo) (nI a) (nI e) (EM h mo I A) = rtI (bI (decide (zv m n a = true ∧ a + zl m a ≤ e))) (EM h mo I A) := by
  have hn := M.n96
  unfold f_X3_isInGap
  rw [m_rc, q_snd M (by omega), cI_rt]
  cases hv : zv m n a with
  | false => rw [b0f, rtZ0, decide_eq_false (by simp)]; rfl
  | true =>
    obtain ⟨v1, v2, v3, v4⟩ := zv_f hv
    have hk16 := M.k16 (a := a) (by omega)
    have hl := zl_12 m a
    rw [b0t, m_rc, q_sort M (by omega), cI_rt, q_len hk16, cI_rt, zL_zl v2, nI_add]
    by_cases hg : a + zl m a ≤ e
    · rw [if_neg (nI_nlt hg (by omega)), rtZ1, decide_eq_true ⟨rfl, hg⟩]; rfl
    · rw [if_pos (nI_lt (by omega) (by omega)), rtZ0, decide_eq_false (fun z => hg z.2)]; rfl
theorem ch_c2 {e k a : Nat} {s : List Nat} (hc : ch m n e (k + 1) a = some s) : (zv m n a = true ∧ a + zl m a ≤ e) ∧ ∃ r, s = a :: r ∧ ((ze m a = true ∧ r = []) ∨ (ze m a = false ∧ r ≠ [] ∧ ch m n e k (a + zl m a) = some r)) := by
  obtain ⟨h1, h2⟩ := ch_cs hc
  refine ⟨h1, ?_⟩
  rcases h2 with ⟨h2, rfl⟩ | ⟨h2, s', h3, rfl⟩
  · exact ⟨[], rfl, Or.inl ⟨h2, rfl⟩⟩
  · exact ⟨s', rfl, Or.inr ⟨h2, (ch_p _ _ _ h3).1, h3⟩⟩
theorem q_tbL (M : MI I A m n es t) {e l g : Nat} (he : e ≤ n) (hg : g ≤ 1000) {K : Int32 → AH → RS} : ∀ (k f a : Nat) (s : List Nat) (b : Bool), ch m n e k a = some s → s.getLast? = some l → k < f →
    f_X3_isTestBegin_L6 K f (some mo) (nI l) (nI g) (bI b) (nI a) (EM h mo I A) = K (bI (b || decide (g ∈ s))) (EM h mo I A) := by
  have hn := M.n96
  intro k
  induction k with
  | zero => intro f a s b hc; unfold ch at hc; cases hc
  | succ k ih =>
    intro f a s b hc hl hf
    obtain ⟨f, rfl⟩ : ∃ f', f = f' + 2 := ⟨f - 2, by omega⟩
    have hp := (ch_p _ _ _ hc).2.1 l (List.mem_of_getLast? hl)
    obtain ⟨⟨hv, hle⟩, r, rfl, hr⟩ := ch_c2 hc
    obtain ⟨v1, v2, v3, v4⟩ := zv_f hv
    obtain ⟨w1, w2, w3, w4⟩ := zv_f hp.2.1
    have hk16 := M.k16 (a := a) (by omega)
    have hz := zl_12 m a
    have hz2 := zl_12 m l
    have J28 : ∀ y : Bool, f_X3_isTestBegin_J28 (f_X3_isTestBegin_L6 K (f + 1)) K (some mo) (nI l) (nI g) (nI a) (bI y) (EM h mo I A) = f_X3_isTestBegin_L6 K (f + 1) (some mo) (nI l) (nI g) (bI y) (nI (a + zl m a)) (EM h mo I A) := fun y => by
      unfold f_X3_isTestBegin_J28
      rw [m_rc, q_sort M (by omega), cI_rt, q_len hk16, cI_rt, zL_zl v2, nI_add]
    have st : f_X3_isTestBegin_L6 K (f + 2) (some mo) (nI l) (nI g) (bI b) (nI a) (EM h mo I A) = f_X3_isTestBegin_L6 K (f + 1) (some mo) (nI l) (nI g) (bI (b || decide (g = a))) (nI (a + zl m a)) (EM h mo I A) := by
      conv => lhs; unfold f_X3_isTestBegin_L6
      rw [if_neg (nI_nlt hp.1 (by omega))]
      unfold f_X3_isTestBegin_J23
      cases b with
      | true => rw [n0t, show (1 : Int32) = bI true from rfl, J28]; rfl
      | false =>
        rw [n0f]
        by_cases hga : g = a
        · rw [if_neg (fun z => z (by rw [hga])), show (1 : Int32) = bI true from rfl, J28, decide_eq_true hga]; rfl
        · rw [if_pos (fun z => hga ((nI_eq (by omega) (by omega)).mp z).symm), show (0 : Int32) = bI false from rfl, J28, decide_eq_false hga]; rfl
    rw [st]
    rcases hr with ⟨hze, rfl⟩ | ⟨hze, hr0, hr⟩
    · have hla : a = l := by simpa using hl
      unfold f_X3_isTestBegin_L6
      rw [if_pos (nI_lt (by omega) (by omega))]
      simp
    · rw [List.getLast?_cons_of_ne_nil hr0] at hl
      rw [ih (f + 1) _ r _ hr hl (by omega)]
      simp [Bool.or_assoc]
theorem q_tb (M : MI I A m n es t) {e l g k a : Nat} {s : List Nat} (he : e ≤ n) (hg : g ≤ 1000) (hc : ch m n e k a = some s) (hl : s.getLast? = some l) (hk : k ≤ 1000) : f_X3_isTestBegin (some mo) (nI a) (nI l) (nI g) (EM h mo I A) = rtI (bI (decide (g ∈ s))) (EM h mo I A) := by
  have := q_tbL (h := h) (mo := mo) M he hg (K := fun x25 h26 => rtZ x25 h26) k FUEL a s false hc hl (by unfold FUEL; omega)
  unfold f_X3_isTestBegin
  refine this.trans ?_
  rw [rtZB]; rfl
theorem q_tsL {u : Nat → Nat} (M : MI I A m n es t) (U : MU A m u) {e l fr : Nat} {c : List Nat} (he : e ≤ n) (hc0 : ch m n e (n + 1) fr = some c) (hl0 : c.getLast? = some l) {K : Int32 → AH → RS} : ∀ (k f a sc : Nat) (s : List Nat), ch m n e k a = some s → s.getLast? = some l → k < f →
    f_X3_tested_L50 K f (some mo) (nI fr) (nI l) (nI sc) (nI a) (EM h mo I A) = if tok m u c s = true then K (nI (sc + scr m s)) (EM h mo I A) else rtI 0 (EM h mo I A) := by
  have hn := M.n96
  intro k
  induction k with
  | zero => intro f a sc s hc; unfold ch at hc; cases hc
  | succ k ih =>
    intro f a sc s hc hl hf
    obtain ⟨f, rfl⟩ : ∃ f', f = f' + 2 := ⟨f - 2, by omega⟩
    have hp := (ch_p _ _ _ hc).2.1 l (List.mem_of_getLast? hl)
    obtain ⟨⟨hv, hle⟩, r, rfl, hr⟩ := ch_c2 hc
    obtain ⟨v1, v2, v3, v4⟩ := zv_f hv
    obtain ⟨w1, w2, w3, w4⟩ := zv_f hp.2.1
    have hk16 := M.k16 (a := a) (by omega)
    have hz := zl_12 m a
    -- the rest
    have tail : ∀ sc', f_X3_tested_L50 K (f + 1) (some mo) (nI fr) (nI l) (nI sc') (nI (a + zl m a)) (EM h mo I A) = if tok m u c r = true then K (nI (sc' + scr m r)) (EM h mo I A) else rtI 0 (EM h mo I A) := by
      intro sc'
      rcases hr with ⟨hze, rfl⟩ | ⟨hze, hr0, hr⟩
      · have hla : a = l := by simpa using hl
        unfold f_X3_tested_L50
        rw [if_pos (nI_lt (by omega) (by omega))]
        simp [tok, scr]
      · rw [List.getLast?_cons_of_ne_nil hr0] at hl
        exact ih (f + 1) _ sc' r hr hl (by omega)
    have J134 : ∀ y : Nat, f_X3_tested_J134 (f_X3_tested_L50 K (f + 1)) K (some mo) (nI fr) (nI l) (nI a) (nI y) 1 (nI sc) (EM h mo I A) = f_X3_tested_L50 K (f + 1) (some mo) (nI fr) (nI l) (nI (sc + (1 + y))) (nI (a + zl m a)) (EM h mo I A) := fun y => by
      unfold f_X3_tested_J134
      rw [m_rc, q_sort M (by omega), cI_rt, q_len hk16, cI_rt, zL_zl v2, nI_add, lit 1, nI_add, nI_add]
    have J96 : f_X3_tested_J96 (f_X3_tested_L50 K (f + 1)) K (some mo) (nI fr) (nI l) (nI sc) (nI a) (EM h mo I A) = if tok m u c r = true then K (nI (sc + sc1 m a + scr m r)) (EM h mo I A) else rtI 0 (EM h mo I A) := by
      rw [← tail]
      unfold f_X3_tested_J96
      rw [m_rc, q_sort M (by omega), cI_rt]
      by_cases h7 : zk m a = 7
      · rw [if_neg (fun z => z (by rw [h7]; rfl)), show (3 : Int32) = nI 3 from rfl, J134, show sc1 m a = 1 + 3 by simp [sc1, h7]]
      · rw [if_pos (show ¬ nI (zk m a) = 7 from fun z => h7 ((nI_eq (b := 7) (by omega) (by decide)).mp z)), m_rc, q_sort M (by omega), cI_rt, show (4 : Int32) = nI 4 from rfl, show (6 : Int32) = nI 6 from rfl, q_inN (by omega) (by decide) (by decide), cI_rt]
        by_cases h4 : 4 ≤ zk m a ∧ zk m a ≤ 6
        · rw [decide_eq_true h4, b0t, show (2 : Int32) = nI 2 from rfl, J134, show sc1 m a = 1 + 2 by
            have : zt m a = true := decide_eq_true (by omega)
            simp [sc1, h7, this]]
        · rw [decide_eq_false h4, b0f, show (0 : Int32) = nI 0 from rfl, J134, show sc1 m a = 1 + 0 by
            have : zt m a = false := decide_eq_false (by omega)
            simp [sc1, h7, this]]
    have hsum : sc + sc1 m a + scr m r = sc + scr m (a :: r) := by simp [scr]; omega
    rw [hsum] at J96
    have htok : tok m u c (a :: r) = ((!(zt m a) || decide (u (zq m a) = 1) || decide (zq m a ∈ c)) && tok m u c r) := by simp [tok]
    rw [htok]
    unfold f_X3_tested_L50
    rw [if_neg (nI_nlt hp.1 (by omega)), m_rc, q_hasG M (by omega), cI_rt]
    cases ht : zt m a with
    | false => rw [b0f, J96]; simp
    | true =>
      have l2 := zt_l ht
      have hzq := zq_lt hv ht
      have hzq2 := zl_12 m (zq m a)
      rw [b0t, m_gA (by decide) (by decide), m_rc, q_goal M (by omega), cI_rt, ← hzq.2, ← iI_nI, m_lI0 (by decide) (by decide) (by decide) (show zq m a < 96 by omega), U.1 _ (by omega)]
      by_cases hu : u (zq m a) = 1
      · rw [if_pos hu, if_pos (nI_ne0 (by omega) (by omega)), J96]
        simp [hu]
      · rw [if_neg hu, if_neg (fun z => z rfl), m_rc, q_goal M (by omega), cI_rt, ← hzq.2, ← iI_nI, m_rc, q_tb M he (by omega) hc0 hl0 (by omega), cI_rt]
        by_cases hin : zq m a ∈ c
        · rw [decide_eq_true hin, n0t, J96]
          simp
        · rw [decide_eq_false hin, n0f]
          simp [hu]
theorem q_tL2 (M : MI I A m n es t) {e fr : Nat} (he : e ≤ n) {K : Option Nat → Int32 → Int32 → Int32 → AH → RS} : ∀ (k f a : Nat), n < a + k → k < f → a ≤ 96 →
    ∃ l, f_X3_tested_L2 K f (some mo) (nI fr) (nI e) (nI a) (EM h mo I A) = K (some mo) (nI fr) (nI e) (nI l) (EM h mo I A) ∧ l ≤ 96 ∧ ((∃ s, ch m n e k a = some s ∧ s.getLast? = some l) ∨ (ch m n e k a = none ∧ ¬ (zv m n l = true ∧ l + zl m l ≤ e))) := by
  have hn := M.n96
  intro k
  induction k with
  | zero =>
    intro f a h1 h2 h3
    obtain ⟨f, rfl⟩ : ∃ f', f = f' + 1 := ⟨f - 1, by omega⟩
    unfold f_X3_tested_L2
    have hg : ¬ (zv m n a = true ∧ a + zl m a ≤ e) := fun z => by have := (zv_f z.1).1; omega
    rw [m_rc, q_inGap M (by omega) (by omega), cI_rt, decide_eq_false hg, b0f]
    exact ⟨a, rfl, h3, Or.inr ⟨rfl, hg⟩⟩
  | succ k ih =>
    intro f a h1 h2 h3
    obtain ⟨f, rfl⟩ : ∃ f', f = f' + 1 := ⟨f - 1, by omega⟩
    unfold f_X3_tested_L2
    rw [m_rc, q_inGap M (by omega) (by omega), cI_rt]
    by_cases hg : zv m n a = true ∧ a + zl m a ≤ e
    · obtain ⟨v1, v2, v3, v4⟩ := zv_f hg.1
      have hk16 := M.k16 (a := a) (by omega)
      have hz := zl_12 m a
      rw [decide_eq_true hg, b0t, m_rc, q_ends M (by omega), cI_rt]
      cases hze : ze m a with
      | true =>
        rw [n0t]
        refine ⟨a, rfl, h3, Or.inl ⟨[a], ?_, rfl⟩⟩
        unfold ch
        rw [if_pos hg, if_pos hze]
      | false =>
        rw [n0f, m_rc, q_sort M (by omega), cI_rt, q_len hk16, cI_rt, zL_zl v2, nI_add]
        obtain ⟨l, e1, e2, e3⟩ := ih f (a + zl m a) (by omega) (by omega) (by omega)
        refine ⟨l, e1, e2, ?_⟩
        unfold ch
        rw [if_pos hg, if_neg (by rw [hze]; decide)]
        rcases e3 with ⟨s, s1, s2⟩ | ⟨s1, s2⟩
        · exact Or.inl ⟨a :: s, by rw [s1]; rfl, by rw [List.getLast?_cons_of_ne_nil (ch_p _ _ _ s1).1]; exact s2⟩
        · exact Or.inr ⟨by rw [s1]; rfl, s2⟩
    · rw [decide_eq_false hg, b0f]
      refine ⟨a, rfl, h3, Or.inr ⟨?_, hg⟩⟩
      unfold ch
      rw [if_neg hg]
theorem q_tested {u : Nat → Nat} (M : MI I A m n es t) (U : MU A m u) {b e : Nat} (hbe : b ≤ e) (he : e ≤ n) : f_X3_tested (some mo) (nI b) (nI e) (EM h mo I A) = rtI (nI (tst m n u (b, e)).1) (EM h mo I A) := by
  have hn := M.n96
  obtain ⟨l, e1, e2, e3⟩ := q_tL2 (h := h) (mo := mo) M he (fr := b) (K := fun x16 x17 x18 x19 h20 => f_X3_tested_J33 x16 x17 x18 x19 h20) (n + 1) FUEL b (by omega) (by unfold FUEL; omega) (by omega)
  unfold f_X3_tested
  refine e1.trans ?_
  unfold f_X3_tested_J33 tst
  rw [m_rc, q_inGap M (by omega) (by omega), cI_rt]
  rcases e3 with ⟨s, s1, s2⟩ | ⟨s1, s2⟩
  · obtain ⟨p1, p2, p3, p4⟩ := ch_p _ _ _ s1
    have hp := p2 l (List.mem_of_getLast? s2)
    rw [decide_eq_true hp.2, n0t]
    have := q_tsL (h := h) (mo := mo) M U he s1 s2 (K := fun x74 h75 => rtI x74 h75) (n + 1) FUEL b 0 s s1 s2 (by unfold FUEL; omega)
    refine this.trans ?_
    simp only [s1]
    by_cases htk : tok m u s s = true
    · rw [if_pos htk, if_pos htk]; simp
    · rw [if_neg htk, if_neg htk]; rfl
  · rw [decide_eq_false s2, n0f]
    simp only [s1]
    rfl
/-- the model's gaps -/
def MG (I : Nat → Int32) (A : Nat → Nat → Int32) (m : Nat → Nat) (n : Nat) (u : Nat → Nat) (G : List (Nat × Nat)) : Prop := I 28 = nI G.length ∧ ∀ k, k < G.length → A 36 k = nI (G.getD k (0, 0)).1 ∧ A 37 k = nI ((G.getD k (0, 0)).2 - (G.getD k (0, 0)).1) ∧ A 38 k = nI (tst m n u (G.getD k (0, 0))).1
theorem getP_ap {G : List (Nat × Nat)} {g : Nat × Nat} {k : Nat} (hk : k < G.length) : (G ++ [g]).getD k (0, 0) = G.getD k (0, 0) := by
  rw [List.getD_eq_getElem?_getD, List.getElem?_append_left hk, List.getD_eq_getElem?_getD]
theorem getP_ae {G : List (Nat × Nat)} {g : Nat × Nat} : (G ++ [g]).getD G.length (0, 0) = g := by
  rw [List.getD_eq_getElem?_getD, List.getElem?_append_right (Nat.le_refl _)]; simp
theorem q_gL12 {u : Nat → Nat} (M : MI I A m n es t) (U : MU A m u) {a : Nat} {K : Option Nat → Int32 → Int32 → AH → RS} : ∀ (k f e : Nat), e + k = n → k < f → a ≤ e →
    ∃ e', f_X3_looksAtGaps_L12 K f (some mo) (nI a) (nI e) (EM h mo I A) = K (some mo) (nI a) (nI e') (EM h mo I A) ∧ e ≤ e' ∧ e' ≤ n ∧ gs u (n - e) e a = gs u (n - e') e' a ∧ (e' = n ∨ tk (u e') = true) := by
  have hn := M.n96
  intro k
  induction k with
  | zero =>
    intro f e h1 h2 h3
    obtain ⟨f, rfl⟩ : ∃ f', f = f' + 1 := ⟨f - 1, by omega⟩
    unfold f_X3_looksAtGaps_L12
    rw [m_gI (by decide) (by decide), M.siz, if_pos (nI_le (by omega) (by omega))]
    exact ⟨e, rfl, Nat.le_refl _, by omega, rfl, Or.inl (by omega)⟩
  | succ k ih =>
    intro f e h1 h2 h3
    obtain ⟨f, rfl⟩ : ∃ f', f = f' + 1 := ⟨f - 1, by omega⟩
    unfold f_X3_looksAtGaps_L12
    rw [m_gI (by decide) (by decide), M.siz, if_neg (fun z => by have := (nI_leI (by omega) (by omega)).mp z; omega), m_rc, q_used U (by omega), cI_rt]
    cases htk : tk (u e) with
    | true =>
      rw [n0t]
      exact ⟨e, rfl, Nat.le_refl _, by omega, rfl, Or.inr htk⟩
    | false =>
      rw [n0f, nI_1]
      obtain ⟨e', e1, e2, e3, e4, e5⟩ := ih f (e + 1) (by omega) (by omega) (by omega)
      refine ⟨e', e1, by omega, e3, ?_, e5⟩
      rw [← e4, show n - e = (n - (e + 1)) + 1 by omega]
      conv => lhs; unfold gs
      rw [if_neg (by rw [htk]; decide)]
theorem gs_nx {u : Nat → Nat} {a e : Nat} (he : e ≤ n) (hx : e = n ∨ tk (u e) = true) : gs u (n - e) e a = (if a < e then [(a, e)] else []) ++ gs u (n - (e + 1)) (e + 1) (e + 1) := by
  by_cases hen : e = n
  · subst hen
    rw [show e - e = 0 by omega, show e - (e + 1) = 0 by omega]
    unfold gs
    rw [if_neg (show ¬ e + 1 < e + 1 by omega), List.append_nil]
  · rw [show n - e = (n - (e + 1)) + 1 by omega]
    conv => lhs; unfold gs
    rw [if_pos (hx.resolve_left hen)]
theorem q_gL2 {u : Nat → Nat} {K : Option Nat → AH → RS} : ∀ (k f a : Nat) (I : Nat → Int32) (A : Nat → Nat → Int32) (G : List (Nat × Nat)), n < a + k → k < f → a ≤ n + 1 → MI I A m n es t → MU A m u → MG I A m n u G → G ++ gs u (n - a) a a = gaps n u →
    ∃ I' A', f_X3_looksAtGaps_L2 K f (some mo) (nI a) (EM h mo I A) = K (some mo) (EM h mo I' A') ∧ MG I' A' m n u (gaps n u) ∧ Un [28] [36, 37, 38] I A I' A' := by
  intro k
  induction k with
  | zero =>
    intro f a I A G h1 h2 h3 M U MGp hG
    have hn := M.n96
    obtain ⟨f, rfl⟩ : ∃ f', f = f' + 1 := ⟨f - 1, by omega⟩
    unfold f_X3_looksAtGaps_L2
    rw [m_gI (by decide) (by decide), M.siz, if_pos (nI_le (by omega) (by omega))]
    have e0 : gs u (n - a) a a = [] := by rw [show n - a = 0 by omega]; unfold gs; rw [if_neg (by omega)]
    rw [e0, List.append_nil] at hG
    subst hG
    exact ⟨I, A, rfl, MGp, Un.rf⟩
  | succ k ih =>
    intro f a I A G h1 h2 h3 M U MGp hG
    have hn := M.n96
    obtain ⟨f, rfl⟩ : ∃ f', f = f' + 1 := ⟨f - 1, by omega⟩
    unfold f_X3_looksAtGaps_L2
    rw [m_gI (by decide) (by decide), M.siz]
    by_cases han : n ≤ a
    · rw [if_pos (nI_le han (by omega))]
      have e0 : gs u (n - a) a a = [] := by rw [show n - a = 0 by omega]; unfold gs; rw [if_neg (by omega)]
      rw [e0, List.append_nil] at hG
      subst hG
      exact ⟨I, A, rfl, MGp, Un.rf⟩
    · rw [if_neg (fun z => han ((nI_leI (by omega) (by omega)).mp z))]
      obtain ⟨e, e1, e2, e3, e4, e5⟩ := q_gL12 (h := h) (mo := mo) M U (a := a) (K := fun x14 x15 x16 h17 => f_X3_looksAtGaps_J34 (f_X3_looksAtGaps_L2 K f) K x14 x15 x16 h17) (n - a) FUEL a (by omega) (by unfold FUEL; omega) (Nat.le_refl _)
      rw [e1]
      rw [e4, gs_nx e3 e5] at hG
      unfold f_X3_looksAtGaps_J34 f_X3_looksAtGaps_J86
      by_cases hea : e ≤ a
      · rw [if_neg (by omega), List.nil_append] at hG
        rw [if_pos (nI_le hea (by omega)), nI_1]
        exact ih f (e + 1) I A G (by omega) (by omega) (by omega) M U MGp hG
      · rw [if_pos (by omega)] at hG
        have hGl : G.length < 96 := by
          have h1 := gaps_len n u
          rw [← hG, List.length_append, List.length_append, List.length_singleton] at h1
          omega
        rw [if_neg (fun z => hea ((nI_leI (by omega) (by omega)).mp z)), m_gA (by decide) (by decide), m_gI (by decide) (by decide), MGp.1, m_sI0 (by decide) (by decide) (by decide) (show G.length < 96 from hGl), m_gA (by decide) (by decide), m_gI (by decide) (by decide), MGp.1, pk_sub (by omega), m_sI0 (by decide) (by decide) (by decide) (show G.length < 96 from hGl), m_gA (by decide) (by decide), m_gI (by decide) (by decide), MGp.1, m_rc]
        have u1 : Un [28] [36, 37, 38] I A I (upA (upA A 36 (upd (A 36) G.length (nI a))) 37 (upd ((upA A 36 (upd (A 36) G.length (nI a))) 37) G.length (nI (e - a)))) := (Un.uA (by decide)).tr (Un.uA (by decide))
        have k1 : ∀ j, (upA (upA A 36 (upd (A 36) G.length (nI a))) 37 (upd ((upA A 36 (upd (A 36) G.length (nI a))) 37) G.length (nI (e - a)))) 36 j = upd (A 36) G.length (nI a) j := fun j => by rw [upA_n (by decide), upA_s]
        have k2 : ∀ j, (upA (upA A 36 (upd (A 36) G.length (nI a))) 37 (upd ((upA A 36 (upd (A 36) G.length (nI a))) 37) G.length (nI (e - a)))) 37 j = upd (A 37) G.length (nI (e - a)) j := fun j => by rw [upA_s, upA_n (by decide)]
        have k3 : (upA (upA A 36 (upd (A 36) G.length (nI a))) 37 (upd ((upA A 36 (upd (A 36) G.length (nI a))) 37) G.length (nI (e - a)))) 38 = A 38 := by rw [upA_n (by decide), upA_n (by decide)]
        generalize upA (upA A 36 (upd (A 36) G.length (nI a))) 37 (upd ((upA A 36 (upd (A 36) G.length (nI a))) 37) G.length (nI (e - a))) = A1 at u1 k1 k2 k3 ⊢
        have M1 := M.un u1 (by decide) (by decide) (by decide) (by decide) (by decide)
        have U1 : MU A1 m u := U.cg (u1.2 16 (by decide)) (u1.2 17 (by decide)) (u1.2 20 (by decide))
        rw [q_tested M1 U1 (by omega) e3, cI_rt, m_sI0 (by decide) (by decide) (by decide) (show G.length < 96 from hGl), m_gI (by decide) (by decide), MGp.1, nI_1, m_pI (by decide) (by decide), nI_1]
        have u2 : Un [28] [36, 37, 38] I A (upd I 28 (nI (G.length + 1))) (upA A1 38 (upd (A1 38) G.length (nI (tst m n u (a, e)).1))) := u1.tr ((Un.uA (by decide)).tr (Un.uI (by decide)))
        obtain ⟨I', A', f1, f2, f3⟩ := ih f (e + 1) _ _ (G ++ [(a, e)]) (by omega) (by omega) (by omega) (M.un u2 (by decide) (by decide) (by decide) (by decide) (by decide)) (U.cg (u2.2 16 (by decide)) (u2.2 17 (by decide)) (u2.2 20 (by decide))) ⟨by rw [upd_s, List.length_append, List.length_singleton], fun j hj => by
          rw [List.length_append, List.length_singleton] at hj
          rw [upA_n (show 36 ≠ 38 by decide), upA_n (show 37 ≠ 38 by decide), upA_s, k1, k2, k3]
          by_cases hjG : j = G.length
          · subst hjG
            rw [getP_ae, upd_s, upd_s, upd_s]
            exact ⟨rfl, rfl, rfl⟩
          · rw [getP_ap (by omega), upd_n hjG, upd_n hjG, upd_n hjG]
            exact MGp.2 j (by omega)⟩ (by rw [List.append_assoc]; exact hG)
        exact ⟨I', A', f1, f2, u2.tr f3⟩
/-- the model's speculation -/
def MS (A : Nat → Nat → Int32) (m : Nat → Nat) (C : List Nat) : Prop := (∀ q, q < 96 → A 18 q = nI (if q ∈ C then zl m q else 0)) ∧ ∀ q, q < 96 → A 19 q = if q ∈ C then nI q else if 1 ≤ q ∧ q - 1 ∈ C ∧ zl m (q - 1) = 2 then nI (q - 1) else -1
theorem q_s29 {a l : Nat} (hl : a + l ≤ 96) {K : Option Nat → Int32 → Int32 → AH → RS} : ∀ (f c : Nat) (A : Nat → Nat → Int32), c ≤ l → l - c < f →
    ∃ A', f_X3_speculates_L29 K f (some mo) (nI a) (nI l) (nI (a + c)) (EM h mo I A) = K (some mo) (nI a) (nI l) (EM h mo I A') ∧ (∀ k, k ≠ 19 → A' k = A k) ∧ ∀ j, A' 19 j = if a + c ≤ j ∧ j < a + l then nI a else A 19 j := by
  intro f
  induction f with
  | zero => intro c A h1 h2; omega
  | succ f ih =>
    intro c A h1 h2
    unfold f_X3_speculates_L29
    rw [nI_add]
    by_cases hc : l ≤ c
    · rw [if_pos (nI_le (by omega) (by omega))]
      exact ⟨A, rfl, fun _ _ => rfl, fun j => by rw [if_neg (by omega)]⟩
    · rw [if_neg (fun z => by have := (nI_leI (by omega) (by omega)).mp z; omega), m_gA (by decide) (by decide), m_sI0 (by decide) (by decide) (by decide) (show a + c < 96 by omega), nI_1, Nat.add_assoc]
      obtain ⟨A', e1, e2, e3⟩ := ih (c + 1) (upA A 19 (upd (A 19) (a + c) (nI a))) (by omega) (by omega)
      refine ⟨A', e1, fun k hk => by rw [e2 k hk, upA_n hk], fun j => ?_⟩
      rw [e3 j, upA_s]
      by_cases hj : j = a + c
      · rw [if_neg (by omega), hj, upd_s, if_pos (by omega)]
      · rw [upd_n hj]
        by_cases hj2 : a + (c + 1) ≤ j ∧ j < a + l
        · rw [if_pos hj2, if_pos (by omega)]
        · rw [if_neg hj2, if_neg (by omega)]
theorem MS.ap {C : List Nat} {a : Nat} (S : MS A m C) (B : AB m C a) (h18 : ∀ q, A' 18 q = upd (A 18) a (nI (zl m a)) q) (h19 : ∀ q, A' 19 q = if a ≤ q ∧ q < a + zl m a then nI a else A 19 q) : MS A' m (C ++ [a]) := by
  have hz := zl_12 m a
  refine ⟨fun q hq => ?_, fun q hq => ?_⟩
  · rw [h18]
    by_cases hqa : q = a
    · subst hqa; rw [upd_s, if_pos (by simp)]
    · rw [upd_n hqa, S.1 q hq]
      simp [hqa]
  · rw [h19]
    by_cases hqa : q = a
    · subst hqa; rw [if_pos (by omega), if_pos (by simp)]
    · by_cases hq1 : q = a + 1 ∧ zl m a = 2
      · obtain ⟨rfl, hz2⟩ := hq1
        rw [if_pos (by omega), if_neg, if_pos]
        · rfl
        · exact ⟨by omega, by simp, by simpa using hz2⟩
        · intro hm
          rcases List.mem_append.mp hm with hm | hm
          · exact B.nm (by omega) hm
          · have := List.mem_singleton.mp hm; omega
      · rw [if_neg (by omega), S.2 q hq]
        have e1 : (q ∈ C ++ [a]) = (q ∈ C) := by simp [hqa]
        have e2 : (1 ≤ q ∧ q - 1 ∈ C ++ [a] ∧ zl m (q - 1) = 2) = (1 ≤ q ∧ q - 1 ∈ C ∧ zl m (q - 1) = 2) := by
          apply propext
          constructor
          · rintro ⟨z1, z2, z3⟩
            refine ⟨z1, ?_, z3⟩
            rcases List.mem_append.mp z2 with z2 | z2
            · exact z2
            · have z4 := List.mem_singleton.mp z2
              exact absurd ⟨by omega, by rw [← z4]; exact z3⟩ hq1
          · rintro ⟨z1, z2, z3⟩
            exact ⟨z1, List.mem_append_left _ z2, z3⟩
        simp only [e1, e2]
theorem q_specL {e : Nat} (he : e ≤ n) {K : AH → RS} : ∀ (k f a : Nat) (s C : List Nat) (I : Nat → Int32) (A : Nat → Nat → Int32), ch m n e k a = some s → k < f → MI I A m n es t → AB m C a → MS A m C → I 29 = nI C.length →
    ∃ I' A', f_X3_speculates_L4 K f (some mo) (nI a) (nI 1) (EM h mo I A) = K (EM h mo I' A') ∧ MS A' m (C ++ s) ∧ I' 29 = nI (C ++ s).length ∧ Un [29] [18, 19] I A I' A' := by
  intro k
  induction k with
  | zero => intro f a s C I A hc; unfold ch at hc; cases hc
  | succ k ih =>
    intro f a s C I A hc hf M B S h29
    have hn := M.n96
    obtain ⟨f, rfl⟩ : ∃ f', f = f' + 2 := ⟨f - 2, by omega⟩
    obtain ⟨⟨hv, hle⟩, r, rfl, hr⟩ := ch_c2 hc
    obtain ⟨v1, v2, v3, v4⟩ := zv_f hv
    have hk16 := M.k16 (a := a) (by omega)
    have hz := zl_12 m a
    unfold f_X3_speculates_L4
    rw [if_neg (show ¬ nI 1 = 0 by decide), m_rc, q_sort M (by omega), cI_rt, q_len hk16, cI_rt, zL_zl v2, m_gA (by decide) (by decide), m_sI0 (by decide) (by decide) (by decide) (show a < 96 by omega)]
    obtain ⟨A1, b1, b2, b3⟩ := q_s29 (h := h) (mo := mo) (I := I) (a := a) (l := zl m a) (by omega) (K := fun x19 x20 x21 h22 => xgI h22 x19 2 29 (fun v23 => xpF h22 x19 2 29 (.int (v23 + 1)) (fun h24 => xrc h24 x19 2 (xcI (f_X3_endsFlow x19 x20 h24) (fun v26 h25 => if ¬ v26 = 0 then f_X3_speculates_J75 (f_X3_speculates_L4 K (f + 1)) K x19 x20 x21 0 h25 else f_X3_speculates_J75 (f_X3_speculates_L4 K (f + 1)) K x19 x20 x21 1 h25))))) FUEL 0 (upA A 18 (upd (A 18) a (nI (zl m a)))) (by omega) (by unfold FUEL; omega)
    rw [Nat.add_zero a] at b1
    rw [b1, m_gI (by decide) (by decide), h29, nI_1, m_pI (by decide) (by decide), m_rc]
    have u1 : Un [29] [18, 19] I A (upd I 29 (nI (C.length + 1))) A1 := (Un.uI (by decide)).tr ⟨fun _ _ => rfl, fun k hk => by rw [b2 k (fun z => hk (by rw [z]; decide)), upA_n (fun z => hk (by rw [z]; decide))]⟩
    have M1 := M.un u1 (by decide) (by decide) (by decide) (by decide) (by decide)
    have S1 : MS A1 m (C ++ [a]) := S.ap B (fun q => by rw [b2 18 (by decide), upA_s]) (fun q => by rw [b3 q, upA_n (show 19 ≠ 18 by decide)]; rfl)
    have h29' : upd I 29 (nI (C.length + 1)) 29 = nI (C ++ [a]).length := by rw [upd_s, List.length_append, List.length_singleton]
    generalize upd I 29 (nI (C.length + 1)) = I1 at u1 M1 h29' ⊢
    rw [q_ends M1 (by omega), cI_rt]
    unfold f_X3_speculates_J75
    rw [nI_add]
    rcases hr with ⟨hze, rfl⟩ | ⟨hze, hr0, hr⟩
    · rw [hze, n0t]
      unfold f_X3_speculates_L4
      rw [if_pos rfl]
      exact ⟨I1, A1, rfl, S1, h29', u1⟩
    · rw [hze, n0f]
      obtain ⟨I2, A2, d1, d2, d3, d4⟩ := ih (f + 1) (a + zl m a) r (C ++ [a]) I1 A1 hr (by omega) M1 B.ap S1 h29'
      rw [List.append_assoc] at d2 d3
      exact ⟨I2, A2, d1, d2, d3, u1.tr d4⟩
theorem q_gL95 {u : Nat → Nat} {gl : List (Nat × Nat)} (hgl : gl.length ≤ 96) (hgp : ∀ g ∈ gl, g.1 < g.2 ∧ g.2 ≤ n) {K : AH → RS} : ∀ (r : List (Nat × Nat)) (f : Nat) (pre : List (Nat × Nat)) (I : Nat → Int32) (A : Nat → Nat → Int32), r.length < f → pre ++ r = gl → r.Pairwise (fun g g' => g.2 < g'.1) → (∀ g ∈ r, AB m (csp m n u t pre) g.1) → MI I A m n es t → MG I A m n u gl → MS A m (csp m n u t pre) → I 29 = nI (csp m n u t pre).length →
    ∃ I' A', f_X3_looksAtGaps_L95 K f (some mo) (nI pre.length) (EM h mo I A) = K (EM h mo I' A') ∧ MS A' m (csp m n u t gl) ∧ I' 29 = nI (csp m n u t gl).length ∧ Un [29] [18, 19] I A I' A' := by
  intro r
  induction r with
  | nil =>
    intro f pre I A h1 h2 _ _ M MGp S h29
    obtain ⟨f, rfl⟩ : ∃ f', f = f' + 1 := ⟨f - 1, by omega⟩
    rw [List.append_nil] at h2
    subst h2
    unfold f_X3_looksAtGaps_L95
    rw [m_gI (by decide) (by decide), MGp.1, if_pos (nI_le (Nat.le_refl _) (by omega))]
    exact ⟨I, A, rfl, S, h29, Un.rf⟩
  | cons g r ih =>
    intro f pre I A h1 h2 hpw hab M MGp S h29
    have hn := M.n96
    have ht := M.t30
    rw [List.length_cons] at h1
    obtain ⟨f, rfl⟩ : ∃ f', f = f' + 1 := ⟨f - 1, by omega⟩
    have hlen : pre.length + (r.length + 1) = gl.length := by rw [← h2, List.length_append, List.length_cons]
    have hg : gl.getD pre.length (0, 0) = g := by
      rw [← h2, List.getD_eq_getElem?_getD, List.getElem?_append_right (Nat.le_refl _)]; simp
    have hgm : g ∈ gl := by rw [← h2]; simp
    obtain ⟨gp1, gp2⟩ := hgp g hgm
    obtain ⟨k1, k2, k3⟩ := MGp.2 pre.length (by omega)
    rw [hg] at k1 k2 k3
    have hb := tst_b (m := m) (n := n) (u := u) g (by omega)
    unfold f_X3_looksAtGaps_L95 f_X3_looksAtGaps_J126
    rw [m_gI (by decide) (by decide), MGp.1, if_neg (fun z => by have := (nI_leI (by omega) (by omega)).mp z; omega), m_gA (by decide) (by decide), m_lI0 (by decide) (by decide) (by decide) (show pre.length < 96 by omega), k3, m_gI (by decide) (by decide), M.thr, nI_1]
    have h2' : (pre ++ [g]) ++ r = gl := by rw [List.append_assoc]; exact h2
    have hpw' := List.pairwise_cons.mp hpw
    have hl1 : pre.length + 1 = (pre ++ [g]).length := by rw [List.length_append, List.length_singleton]
    rcases chn_p (m := m) (n := n) (u := u) ht.1 g with ⟨c1, c2⟩ | ⟨c1, c2, c3⟩
    · rw [if_pos (nI_lt c1 (by omega)), hl1]
      have hcs : csp m n u t (pre ++ [g]) = csp m n u t pre := by rw [csp_ap, c2, List.append_nil]
      exact ih f (pre ++ [g]) I A (by omega) h2' hpw'.2 (fun g' hg' => by rw [hcs]; exact hab g' (List.mem_cons_of_mem _ hg')) M MGp (by rw [hcs]; exact S) (by rw [hcs]; exact h29)
    · rw [if_neg (nI_nlt c1 (by omega)), m_gA (by decide) (by decide), m_lI0 (by decide) (by decide) (by decide) (show pre.length < 96 by omega), k1, m_rc]
      obtain ⟨I1, A1, d1, d2, d3, d4⟩ := q_specL (h := h) (mo := mo) (es := es) (t := t) gp2 (K := fun h34 => rtV h34) (n + 1) FUEL g.1 _ (csp m n u t pre) I A c2 (by unfold FUEL; omega) M (hab g (List.mem_cons_self ..)) S h29
      unfold f_X3_speculates
      rw [show (1 : Int32) = nI 1 from rfl, d1, cV_rt, hl1]
      rw [← csp_ap] at d2 d3
      have hab2 : AB m (csp m n u t (pre ++ [g])) g.2 := fun c hc => by
        rw [csp_ap] at hc
        rcases List.mem_append.mp hc with hc | hc
        · have := hab g (List.mem_cons_self ..) c hc; omega
        · exact ((ch_p _ _ _ c2).2.1 c hc).2.2
      obtain ⟨I2, A2, f1, f2, f3, f4⟩ := ih f (pre ++ [g]) I1 A1 (by omega) h2' hpw'.2 (fun g' hg' => hab2.w (Nat.le_of_lt (hpw'.1 g' hg'))) (M.un d4 (by decide) (by decide) (by decide) (by decide) (by decide)) ⟨by rw [d4.1 28 (by decide)]; exact MGp.1, fun k hk => by rw [d4.2 36 (by decide), d4.2 37 (by decide), d4.2 38 (by decide)]; exact MGp.2 k hk⟩ d2 d3
      exact ⟨I2, A2, f1, f2, f3, d4.tr f4⟩
/-- all about gaps -/
theorem q_gaps {u : Nat → Nat} (M : MI I A m n es t) (U : MU A m u) (h28 : I 28 = nI 0) (S : MS A m []) (h29 : I 29 = nI 0) :
    ∃ I' A', f_X3_looksAtGaps (some mo) (EM h mo I A) = rtV (EM h mo I' A') ∧ MG I' A' m n u (gaps n u) ∧ MS A' m (csp m n u t (gaps n u)) ∧ I' 29 = nI (csp m n u t (gaps n u)).length ∧ Un [28, 29] [18, 19, 36, 37, 38] I A I' A' := by
  have hn := M.n96
  obtain ⟨I1, A1, e1, e2, e3⟩ := q_gL2 (h := h) (mo := mo) (es := es) (t := t) (u := u) (K := fun x40 h41 => f_X3_looksAtGaps_L95 (fun h57 => rtV h57) FUEL x40 0 h41) (n + 1) FUEL 0 I A [] (by omega) (by unfold FUEL; omega) (by omega) M U ⟨h28, fun k hk => absurd hk (Nat.not_lt_zero k)⟩ rfl
  unfold f_X3_looksAtGaps
  show ∃ I' A', f_X3_looksAtGaps_L2 _ FUEL (some mo) (nI 0) (EM h mo I A) = _ ∧ _
  rw [e1]
  have hgl := gaps_len n u
  obtain ⟨I2, A2, f1, f2, f3, f4⟩ := q_gL95 (h := h) (mo := mo) (es := es) (t := t) (u := u) (m := m) (n := n) (gl := gaps n u) (by omega) (fun g hg => ⟨(gaps_p g hg).1, (gaps_p g hg).2.1⟩) (K := fun h57 => rtV h57) (gaps n u) FUEL [] I1 A1 (by unfold FUEL; omega) rfl (gs_srt n 0 0 (Nat.le_refl _) (fun q h1 h2 => by omega)) (fun g _ c hc => by simp [csp] at hc) (M.un e3 (by decide) (by decide) (by decide) (by decide) (by decide)) e2 (by
    show MS A1 m []
    unfold MS
    rw [e3.2 18 (by decide), e3.2 19 (by decide)]
    exact S) (by rw [e3.1 29 (by decide)]; exact h29)
  refine ⟨I2, A2, f1, ⟨by rw [f4.1 28 (by decide)]; exact e2.1, fun k hk => by rw [f4.2 36 (by decide), f4.2 37 (by decide), f4.2 38 (by decide)]; exact e2.2 k hk⟩, f2, f3, (e3.w (by decide) (by decide)).tr (f4.w (by decide) (by decide))⟩
end
