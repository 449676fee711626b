/-! PURE: the model recovers -/
set_option maxRecDepth 100000
/-- the descent's end -/
def S0 (es : List Nat) : ST := ((fun _ => 0), es, [], [], [])
def dS (m : Nat → Nat) (n : Nat) (es : List Nat) : ST := drn m n 2000 (S0 es)
def dU (m : Nat → Nat) (n : Nat) (es : List Nat) : Nat → Nat := (dS m n es).1
def dC (m : Nat → Nat) (n : Nat) (es : List Nat) (t : Nat) : List Nat := csp m n (dU m n es) t (gaps n (dU m n es))
def nA (m : Nat → Nat) (n : Nat) (es : List Nat) : Nat := cnt (fun a => decide (dU m n es a = 1)) n
theorem S0_g {m : Nat → Nat} {n : Nat} {es : List Nat} (he : ∀ e ∈ es, e < n) (hn : n ≤ 96) : SG m n (S0 es) := by
  refine ⟨fun _ _ => rfl, fun _ => Nat.zero_le _, fun a ha => (by cases ha), fun a ha => (by cases ha), fun x hx => ?_, fun x hx => (by cases hx), List.nodup_nil, fun x hx => (by cases hx), List.nodup_nil, fun T hT => (by cases hT), Nat.zero_le _⟩
  have := he x hx
  omega
theorem SG.tl {m : Nat → Nat} {n a : Nat} {S : ST} {r : List Nat} (g : SG m n S) (e : S.2.1 = a :: r) : SG m n (S.1, r, S.2.2) ∧ a < 256 := by
  obtain ⟨g1, g2, g3, g4, g5, g6, g7, g8, g9, g10, g11⟩ := g
  exact ⟨⟨g1, g2, g3, g4, fun x hx => g5 x (by rw [e]; exact List.mem_cons_of_mem _ hx), g6, g7, g8, g9, g10, g11⟩, g5 a (by rw [e]; exact List.mem_cons_self ..)⟩
theorem drn_g {m : Nat → Nat} {n : Nat} (hm : ∀ i, i < n → m i < 256) (hn : n ≤ 96) : ∀ (j p : Nat) (S : ST), SG m n S → p + S.2.1.length ≤ 4 + 8 * c2 n S.1 → 4 + 8 * n < j + p → SG m n (drn m n j S) ∧ (drn m n j S).2.1 = []
  | 0, p, S, g, h1, h2 => by have := c2_le (n := n) (u := S.1); omega
  | j + 1, p, S, g, h1, h2 => by
    cases e : S.2.1 with
    | nil =>
      have : drn m n (j + 1) S = S := by unfold drn; rw [e]
      rw [this]; exact ⟨g, e⟩
    | cons a r =>
      have : drn m n (j + 1) S = drn m n j (folL m n (n + 1) (S.1, r, S.2.2) a) := by
        conv => lhs; unfold drn
        rw [e]
      rw [this]
      obtain ⟨g', ha⟩ := g.tl e
      obtain ⟨q1, q2, q3, w, q4, q5⟩ := folL_g hm hn (n + 1) (S.1, r, S.2.2) a g' ha
      rw [e, List.length_cons] at h1
      refine drn_g hm hn j (p + 1) _ q1 ?_ (by omega)
      rw [q4, List.length_append]
      simp only at q5 q3 ⊢
      omega
section
variable {I I' I2 : Nat → Int32} {A A' A2 : Nat → Nat → Int32} {m : Nat → Nat} {n : Nat} {es : List Nat} {t : Nat} {h : AH} {mo : Nat}
theorem dS_g (hm : ∀ i, i < n → m i < 256) (hn : n ≤ 96) (he : ∀ e ∈ es, e < n) (h4 : es.length ≤ 4) : SG m n (dS m n es) ∧ (dS m n es).2.1 = [] :=
  drn_g hm hn 2000 0 (S0 es) (S0_g he hn) (by show 0 + es.length ≤ _; omega) (by omega)
theorem q_drn {K : Option Nat → AH → RS} : ∀ (j f : Nat) (I : Nat → Int32) (A : Nat → Nat → Int32) (S : ST) (P : List Nat), MI I A m n es t → MD I A m n S P → SG m n S → (P ++ S.2.1).length ≤ 4 + 8 * c2 n S.1 → 4 + 8 * n < j + P.length → j < f →
    ∃ I' A' P', f_X3_recover_L139 K f (some mo) (nI P.length) (EM h mo I A) = K (some mo) (EM h mo I' A') ∧ MD I' A' m n (drn m n j S) P' ∧ Un liD laD I A I' A' := by
  intro j
  induction j with
  | zero =>
    intro f I A S P M D g h1 h2
    have := c2_le (n := n) (u := S.1)
    rw [List.length_append] at h1
    omega
  | succ j ih =>
    intro f I A S P M D g h1 h2 hf
    obtain ⟨f, rfl⟩ : ∃ f', f = f' + 1 := ⟨f - 1, by omega⟩
    have hn := M.n96
    have hm : ∀ i, i < n → m i < 256 := fun i hi => M.byt i (by omega)
    have hc2 := c2_le (n := n) (u := S.1)
    obtain ⟨U, r1, r2, r3, r4, r5, r6, r7, r8, r9⟩ := id D
    unfold f_X3_recover_L139
    rw [m_gI (by decide) (by decide), r3]
    cases e : S.2.1 with
    | nil =>
      have hd : drn m n (j + 1) S = S := by unfold drn; rw [e]
      rw [hd, if_pos (by rw [List.append_nil]; exact nI_le (Nat.le_refl _) (by rw [e, List.append_nil] at h1; omega))]
      exact ⟨I, A, P, rfl, D, Un.rf⟩
    | cons a r =>
      have hd : drn m n (j + 1) S = drn m n j (folL m n (n + 1) (S.1, r, S.2.2) a) := by
        conv => lhs; unfold drn
        rw [e]
      obtain ⟨g', ha⟩ := g.tl e
      rw [e] at r2 h1
      have hlen : (P ++ a :: r).length = P.length + r.length + 1 := by rw [List.length_append, List.length_cons]; omega
      have hga : (P ++ a :: r).getD P.length 0 = a := by
        rw [List.getD_eq_getElem?_getD, List.getElem?_append_right (Nat.le_refl _)]; simp
      rw [hd, if_neg (fun z => by have := (nI_leI (by omega) (by omega)).mp z; omega), m_gA (by decide) (by decide), m_lI0 (by decide) (by decide) (by decide) (show P.length < 1024 by omega), r2 P.length (by omega), hga, m_rc]
      have D' : MD I A m n (S.1, r, S.2.2) (P ++ [a]) := by
        have e2 : (P ++ [a]) ++ r = P ++ S.2.1 := by rw [e, List.append_assoc]; rfl
        refine ⟨U, r1, ?_, ?_, r4, r5, r6, r7, r8, r9⟩
        · show LSq (A 22) ((P ++ [a]) ++ r)
          rw [e2, e]; exact r2
        · show I 23 = nI ((P ++ [a]) ++ r).length
          rw [e2]; exact r3
      have hc0 : c0 n S.1 ≤ n := cnt_le _ _
      obtain ⟨I1, A1, d1, d2, d3⟩ := q_folL (h := h) (mo := mo) (es := es) (t := t) (K := fun h34 => rtV h34) rfl (n + 1) FUEL I A (S.1, r, S.2.2) a M D' g' ha (by
        show ((P ++ [a]) ++ r).length ≤ 4 + 8 * c2 n S.1
        rw [List.append_assoc]; exact h1) (by show c0 n S.1 < n + 1; omega) (by unfold FUEL; omega)
      unfold f_X3_follows
      rw [show (1 : Int32) = nI 1 from rfl, d1, cV_rt, nI_add]
      obtain ⟨q1, q2, q3, w, q4, q5⟩ := folL_g hm hn (n + 1) (S.1, r, S.2.2) a g' ha
      obtain ⟨I2, A2, P', f1, f2, f3⟩ := ih f I1 A1 _ (P ++ [a]) (M.un d3 (by decide) (by decide) (by decide) (by decide) (by decide)) d2 q1 (by
        rw [q4, List.length_append, List.length_append, List.length_append, List.length_singleton]
        simp only at q5 q3 ⊢
        omega) (by rw [List.length_append, List.length_singleton]; omega) (by omega)
      rw [List.length_append, List.length_singleton] at f1
      exact ⟨I2, A2, P', f1, f2, d3.tr f3⟩
theorem q_rL7 {K : Option Nat → AH → RS} : ∀ (k f c : Nat) (A : Nat → Nat → Int32), c + k = 96 → k < f →
    ∃ A', f_X3_recover_L7 K f (some mo) (nI c) (EM h mo I A) = K (some mo) (EM h mo I A') ∧ (∀ x, x ∉ [16, 17, 18, 19, 20] → A' x = A x) ∧ (∀ x j, j < c → A' x j = A x j) ∧ ∀ j, c ≤ j → j < 96 → A' 16 j = 0 ∧ A' 17 j = -1 ∧ A' 18 j = 0 ∧ A' 19 j = -1 ∧ A' 20 j = 0 := by
  intro k
  induction k with
  | zero =>
    intro f c A h1 h2
    obtain ⟨f, rfl⟩ : ∃ f', f = f' + 1 := ⟨f - 1, by omega⟩
    unfold f_X3_recover_L7
    rw [if_pos (show (96 : Int32) ≤ nI c from nI_le (a := 96) (by omega) (by omega))]
    exact ⟨A, rfl, fun _ _ => rfl, fun _ _ _ => rfl, fun j j1 j2 => by omega⟩
  | succ k ih =>
    intro f c A h1 h2
    obtain ⟨f, rfl⟩ : ∃ f', f = f' + 1 := ⟨f - 1, by omega⟩
    unfold f_X3_recover_L7
    rw [if_neg (show ¬ (96 : Int32) ≤ nI c from fun z => by have := (nI_leI (a := 96) (by decide) (by omega)).mp z; omega),
      m_gA (by decide) (by decide), m_sI0 (by decide) (by decide) (by decide) (show c < 96 by omega), m_gA (by decide) (by decide), m_sI0 (by decide) (by decide) (by decide) (show c < 96 by omega), m_gA (by decide) (by decide), m_sI0 (by decide) (by decide) (by decide) (show c < 96 by omega), m_gA (by decide) (by decide), m_sI0 (by decide) (by decide) (by decide) (show c < 96 by omega), m_gA (by decide) (by decide), m_sI1 (by decide) (by decide) (by decide) (show c < 96 by omega) (Or.inl rfl), nI_1]
    obtain ⟨A1, hA1⟩ : ∃ A1, upA A 16 (upd (A 16) c 0) = A1 := ⟨_, rfl⟩
    rw [hA1]
    obtain ⟨A2, hA2⟩ : ∃ A2, upA A1 17 (upd (A1 17) c (-1)) = A2 := ⟨_, rfl⟩
    rw [hA2]
    obtain ⟨A3, hA3⟩ : ∃ A3, upA A2 18 (upd (A2 18) c 0) = A3 := ⟨_, rfl⟩
    rw [hA3]
    obtain ⟨A4, hA4⟩ : ∃ A4, upA A3 19 (upd (A3 19) c (-1)) = A4 := ⟨_, rfl⟩
    rw [hA4]
    obtain ⟨A5, hA5⟩ : ∃ A5, upA A4 20 (upd (A4 20) c 0) = A5 := ⟨_, rfl⟩
    rw [hA5]
    obtain ⟨A', e1, e2, e3, e4⟩ := ih f (c + 1) A5 (by omega) (by omega)
    have g1 : ∀ x, x ∉ [16, 17, 18, 19, 20] → A5 x = A x := fun x hx => by
      simp only [List.mem_cons, List.not_mem_nil, or_false, not_or] at hx
      rw [← hA5, upA_n hx.2.2.2.2, ← hA4, upA_n hx.2.2.2.1, ← hA3, upA_n hx.2.2.1, ← hA2, upA_n hx.2.1, ← hA1, upA_n hx.1]
    have u1 : ∀ (B : Nat → Nat → Int32) (y : Nat) (v : Int32) (x j : Nat), j ≠ c → upA B y (upd (B y) c v) x j = B x j := fun B y v x j hj => by
      by_cases hxy : x = y
      · subst hxy; rw [upA_s, upd_n hj]
      · rw [upA_n hxy]
    have g2 : ∀ x j, j ≠ c → A5 x j = A x j := fun x j hj => by
      rw [← hA5, u1 _ _ _ _ _ hj, ← hA4, u1 _ _ _ _ _ hj, ← hA3, u1 _ _ _ _ _ hj, ← hA2, u1 _ _ _ _ _ hj, ← hA1, u1 _ _ _ _ _ hj]
    have g3 : A5 16 c = 0 ∧ A5 17 c = -1 ∧ A5 18 c = 0 ∧ A5 19 c = -1 ∧ A5 20 c = 0 := by
      refine ⟨?_, ?_, ?_, ?_, ?_⟩
      · rw [← hA5, upA_n (by decide), ← hA4, upA_n (by decide), ← hA3, upA_n (by decide), ← hA2, upA_n (by decide), ← hA1, upA_s, upd_s]
      · rw [← hA5, upA_n (by decide), ← hA4, upA_n (by decide), ← hA3, upA_n (by decide), ← hA2, upA_s, upd_s]
      · rw [← hA5, upA_n (by decide), ← hA4, upA_n (by decide), ← hA3, upA_s, upd_s]
      · rw [← hA5, upA_n (by decide), ← hA4, upA_s, upd_s]
      · rw [← hA5, upA_s, upd_s]
    refine ⟨A', e1, fun x hx => by rw [e2 x hx, g1 x hx], fun x j hj => by rw [e3 x j (by omega), g2 x j (by omega)], fun j j1 j2 => ?_⟩
    by_cases hjc : j = c
    · subst hjc
      rw [e3 16 j (by omega), e3 17 j (by omega), e3 18 j (by omega), e3 19 j (by omega), e3 20 j (by omega)]
      exact g3
    · exact e4 j (by omega) j2
theorem q_rL56 {K : Option Nat → AH → RS} : ∀ (k f c : Nat) (A : Nat → Nat → Int32), c + k = 256 → k < f →
    ∃ A', f_X3_recover_L56 K f (some mo) (nI c) (EM h mo I A) = K (some mo) (EM h mo I A') ∧ (∀ x, x ≠ 21 → A' x = A x) ∧ (∀ j, j < c → A' 21 j = A 21 j) ∧ ∀ j, c ≤ j → j < 256 → A' 21 j = 0 := by
  intro k
  induction k with
  | zero =>
    intro f c A h1 h2
    obtain ⟨f, rfl⟩ : ∃ f', f = f' + 1 := ⟨f - 1, by omega⟩
    unfold f_X3_recover_L56
    rw [if_pos (show (256 : Int32) ≤ nI c from nI_le (a := 256) (by omega) (by omega))]
    exact ⟨A, rfl, fun _ _ => rfl, fun _ _ => rfl, fun j j1 j2 => by omega⟩
  | succ k ih =>
    intro f c A h1 h2
    obtain ⟨f, rfl⟩ : ∃ f', f = f' + 1 := ⟨f - 1, by omega⟩
    unfold f_X3_recover_L56
    rw [if_neg (show ¬ (256 : Int32) ≤ nI c from fun z => by have := (nI_leI (a := 256) (by decide) (by omega)).mp z; omega), m_gA (by decide) (by decide), m_sI1 (by decide) (by decide) (by decide) (show c < 256 by omega) (Or.inl rfl), nI_1]
    obtain ⟨A', e1, e2, e3, e4⟩ := ih f (c + 1) (upA A 21 (upd (A 21) c 0)) (by omega) (by omega)
    refine ⟨A', e1, fun x hx => by rw [e2 x hx, upA_n hx], fun j hj => by rw [e3 j (by omega), upA_s, upd_n (by omega)], fun j j1 j2 => ?_⟩
    by_cases hjc : j = c
    · subst hjc; rw [e3 j (by omega), upA_s, upd_s]
    · exact e4 j (by omega) j2
theorem q_rL113 {u : Nat → Nat} {cf bd : List Nat} {tb : List TT} {K : Option Nat → AH → RS} : ∀ (k f c : Nat) (I : Nat → Int32) (A : Nat → Nat → Int32), c + k = es.length → k < f → MI I A m n es t → MR I A n u (es.take c) cf bd tb →
    ∃ I' A', f_X3_recover_L113 K f (some mo) (nI c) (EM h mo I A) = K (some mo) (EM h mo I' A') ∧ MR I' A' n u es cf bd tb ∧ Un [23] [22] I A I' A' := by
  intro k
  induction k with
  | zero =>
    intro f c I A h1 h2 M R
    have h4 := M.e4
    obtain ⟨f, rfl⟩ : ∃ f', f = f' + 1 := ⟨f - 1, by omega⟩
    unfold f_X3_recover_L113
    rw [m_gI (by decide) (by decide), M.ecn, if_pos (nI_le (by omega) (by omega))]
    rw [List.take_of_length_le (by omega)] at R
    exact ⟨I, A, rfl, R, Un.rf⟩
  | succ k ih =>
    intro f c I A h1 h2 M R
    have h4 := M.e4
    obtain ⟨f, rfl⟩ : ∃ f', f = f' + 1 := ⟨f - 1, by omega⟩
    unfold f_X3_recover_L113
    rw [m_gI (by decide) (by decide), M.ecn, if_neg (fun z => by have := (nI_leI (by omega) (by omega)).mp z; omega), m_gA (by decide) (by decide), m_lI0 (by decide) (by decide) (by decide) (show c < 4 by omega), M.ent c (by omega), m_rc]
    obtain ⟨I1, A1, d1, d2, d3⟩ := q_adds (h := h) (mo := mo) R (by rw [List.length_take]; omega) (v := es.getD c 0)
    rw [d1, cV_rt, nI_1]
    rw [← take_s (show c < es.length by omega)] at d2
    obtain ⟨I2, A2, f1, f2, f3⟩ := ih f (c + 1) I1 A1 (by omega) (by omega) (M.un d3 (by decide) (by decide) (by decide) (by decide) (by decide)) d2
    exact ⟨I2, A2, f1, f2, d3.tr f3⟩
/-- the model's picture of a recovery -/
def MRv (I : Nat → Int32) (A : Nat → Nat → Int32) (m : Nat → Nat) (n : Nat) (es : List Nat) (t : Nat) : Prop := (∃ P, MD I A m n (dS m n es) P) ∧ MG I A m n (dU m n es) (gaps n (dU m n es)) ∧ MS A m (dC m n es t) ∧ I 29 = nI (dC m n es t).length
abbrev liR : List Nat := [0, 15, 23, 24, 25, 26, 27, 28, 29, 43]
abbrev laR : List Nat := [16, 17, 18, 19, 20, 21, 22, 30, 31, 32, 33, 34, 35, 36, 37, 38]
theorem q_recover (M : MI I A m n es t) : ∃ I' A', f_X3_recover (some mo) (EM h mo I A) = rtI (nI (nA m n es)) (EM h mo I' A') ∧ MRv I' A' m n es t ∧ Un liR laR I A I' A' ∧ I' 0 = 0 ∧ I' 15 = 1 := by
  have hn := M.n96
  have hm : ∀ i, i < n → m i < 256 := fun i hi => M.byt i (by omega)
  unfold f_X3_recover
  rw [m_pI (by decide) (by decide)]
  have u0 : Un liR laR I A (upd I 0 0) A := Un.uI (by decide)
  have z0 : upd I 0 0 0 = (0 : Int32) := upd_s
  generalize upd I 0 0 = I0 at u0 z0 ⊢
  obtain ⟨K7, hK7⟩ : ∃ K7 : Option Nat → AH → RS, K7 = (fun x16 h17 => f_X3_recover_L56 (fun x24 h25 => xpF h25 x24 2 23 (.int 0) (fun h26 => xpF h26 x24 2 24 (.int 0) (fun h27 => xpF h27 x24 2 25 (.int 0) (fun h28 => xpF h28 x24 2 26 (.int 0) (fun h29 => xpF h29 x24 2 27 (.int 0) (fun h30 => xpF h30 x24 2 28 (.int 0) (fun h31 => xpF h31 x24 2 29 (.int 0) (fun h32 => f_X3_recover_L113 (fun x41 h42 => f_X3_recover_L139 (fun x51 h52 => xrc h52 x51 2 (xcV (f_X3_looksAtGaps x51 h52) (fun h53 => xpZ h53 x51 2 15 1 (fun h54 => xgI h54 x51 2 24 (fun v55 => rtI v55 h54))))) FUEL x41 0 h42) FUEL x24 0 h32)))))))) FUEL x16 0 h17) := ⟨_, rfl⟩
  rw [← hK7]
  obtain ⟨A1, a1, a2, a3, a4⟩ := q_rL7 (h := h) (mo := mo) (I := I0) (K := K7) 96 FUEL 0 A (by omega) (by unfold FUEL; omega)
  rw [show (0 : Int32) = nI 0 from rfl, a1, hK7]
  simp only
  obtain ⟨K56, hK56⟩ : ∃ K56 : Option Nat → AH → RS, K56 = (fun x24 h25 => xpF h25 x24 2 23 (.int 0) (fun h26 => xpF h26 x24 2 24 (.int 0) (fun h27 => xpF h27 x24 2 25 (.int 0) (fun h28 => xpF h28 x24 2 26 (.int 0) (fun h29 => xpF h29 x24 2 27 (.int 0) (fun h30 => xpF h30 x24 2 28 (.int 0) (fun h31 => xpF h31 x24 2 29 (.int 0) (fun h32 => f_X3_recover_L113 (fun x41 h42 => f_X3_recover_L139 (fun x51 h52 => xrc h52 x51 2 (xcV (f_X3_looksAtGaps x51 h52) (fun h53 => xpZ h53 x51 2 15 1 (fun h54 => xgI h54 x51 2 24 (fun v55 => rtI v55 h54))))) FUEL x41 0 h42) FUEL x24 0 h32)))))))) := ⟨_, rfl⟩
  rw [← hK56]
  obtain ⟨A2, b1, b2, b3, b4⟩ := q_rL56 (h := h) (mo := mo) (I := I0) (K := K56) 256 FUEL 0 A1 (by omega) (by unfold FUEL; omega)
  rw [show (0 : Int32) = nI 0 from rfl, b1, hK56]
  simp only
  rw [m_pI (by decide) (by decide), m_pI (by decide) (by decide), m_pI (by decide) (by decide), m_pI (by decide) (by decide), m_pI (by decide) (by decide), m_pI (by decide) (by decide), m_pI (by decide) (by decide)]
  have u1 : Un liR laR I A I0 A2 := u0.tr ⟨fun _ _ => rfl, fun k hk => by
    rw [b2 k (fun z => hk (by rw [z]; decide)), a2 k (fun z => hk (by simp at z ⊢; omega))]⟩
  have u2 : Un liR laR I A (upd (upd (upd (upd (upd (upd (upd I0 23 0) 24 0) 25 0) 26 0) 27 0) 28 0) 29 0) A2 := u1.tr ((Un.uI (by decide)).tr ((Un.uI (by decide)).tr ((Un.uI (by decide)).tr ((Un.uI (by decide)).tr ((Un.uI (by decide)).tr ((Un.uI (by decide)).tr (Un.uI (by decide))))))))
  have z2 : ∀ k, k ∈ [0, 23, 24, 25, 26, 27, 28, 29] → upd (upd (upd (upd (upd (upd (upd I0 23 0) 24 0) 25 0) 26 0) 27 0) 28 0) 29 0 k = (0 : Int32) := fun k hk => by
    simp only [List.mem_cons, List.not_mem_nil, or_false] at hk
    rcases hk with rfl | rfl | rfl | rfl | rfl | rfl | rfl | rfl <;> simp [upd, z0]
  generalize upd (upd (upd (upd (upd (upd (upd I0 23 0) 24 0) 25 0) 26 0) 27 0) 28 0) 29 0 = I2 at u2 z2 ⊢
  have M2 := M.un u2 (by decide) (by decide) (by decide) (by decide) (by decide)
  have arr : ∀ j, j < 96 → A2 16 j = 0 ∧ A2 17 j = -1 ∧ A2 18 j = 0 ∧ A2 19 j = -1 ∧ A2 20 j = 0 := fun j hj => by
    rw [b2 16 (by decide), b2 17 (by decide), b2 18 (by decide), b2 19 (by decide), b2 20 (by decide)]
    exact a4 j (Nat.zero_le _) hj
  have U2 : MU A2 m (fun _ => 0) := ⟨fun a ha => (arr a ha).1, fun a ha => (arr a ha).2.1, fun a ha => (arr a ha).2.2.2.2⟩
  have hcnt : cnt (fun a => decide ((fun _ => 0 : Nat → Nat) a = 1)) n = 0 := by
    have : ∀ k, cnt (fun a => decide ((fun _ => 0 : Nat → Nat) a = 1)) k = 0 := fun k => by
      induction k with
      | zero => rfl
      | succ k ih => show cnt _ k + _ = 0; rw [ih]; simp
    exact this n
  have R2 : MR I2 A2 n (fun _ => 0) (es.take 0) [] [] [] := by
    refine ⟨fun a ha => ?_, fun i hi => ?_, z2 23 (by decide), ?_, z2 25 (by decide), fun i hi => absurd hi (Nat.not_lt_zero i), z2 26 (by decide), z2 27 (by decide), fun k hk => absurd hk (Nat.not_lt_zero k)⟩
    · rw [b4 a (Nat.zero_le _) ha]; rfl
    · rw [List.take_zero] at hi; exact absurd hi (Nat.not_lt_zero i)
    · rw [z2 24 (by decide), hcnt]; rfl
  obtain ⟨I3, A3, c1, c2, c3⟩ := q_rL113 (h := h) (mo := mo) (u := fun _ => 0) (cf := []) (bd := []) (tb := []) (K := fun x41 h42 => f_X3_recover_L139 (fun x51 h52 => xrc h52 x51 2 (xcV (f_X3_looksAtGaps x51 h52) (fun h53 => xpZ h53 x51 2 15 1 (fun h54 => xgI h54 x51 2 24 (fun v55 => rtI v55 h54))))) FUEL x41 0 h42) es.length FUEL 0 I2 A2 (by omega) (by have := M.e4; unfold FUEL; omega) M2 R2
  show ∃ I' A', f_X3_recover_L113 _ FUEL (some mo) (nI 0) (EM h mo I2 A2) = _ ∧ _
  rw [c1]
  have M3 := M2.un c3 (by decide) (by decide) (by decide) (by decide) (by decide)
  have D3 : MD I3 A3 m n (S0 es) [] := ⟨U2.cg (c3.2 16 (by decide)) (c3.2 17 (by decide)) (c3.2 20 (by decide)), c2⟩
  obtain ⟨I4, A4, P', d1, d2, d3⟩ := q_drn (h := h) (mo := mo) (es := es) (t := t) (K := fun x51 h52 => xrc h52 x51 2 (xcV (f_X3_looksAtGaps x51 h52) (fun h53 => xpZ h53 x51 2 15 1 (fun h54 => xgI h54 x51 2 24 (fun v55 => rtI v55 h54))))) 2000 FUEL I3 A3 (S0 es) [] M3 D3 (S0_g M.eln hn) (by have := M.e4; show es.length ≤ _; omega) (by show 4 + 8 * n < 2000 + 0; omega) (by unfold FUEL; omega)
  show ∃ I' A', f_X3_recover_L139 _ FUEL (some mo) (nI ([] : List Nat).length) (EM h mo I3 A3) = _ ∧ _
  rw [d1]
  have M4 := M3.un d3 (by decide) (by decide) (by decide) (by decide) (by decide)
  have S4 : MS A4 m [] := by
    refine ⟨fun q hq => ?_, fun q hq => ?_⟩
    · rw [d3.2 18 (by decide), c3.2 18 (by decide), (arr q hq).2.2.1, if_neg (by simp)]; rfl
    · rw [d3.2 19 (by decide), c3.2 19 (by decide), (arr q hq).2.2.2.1, if_neg (by simp), if_neg (by simp)]
  obtain ⟨I5, A5, e1, e2, e3, e4, e5⟩ := q_gaps (h := h) (mo := mo) M4 d2.1 (by rw [d3.1 28 (by decide), c3.1 28 (by decide), z2 28 (by decide)]; rfl) S4 (by rw [d3.1 29 (by decide), c3.1 29 (by decide), z2 29 (by decide)]; rfl)
  rw [m_rc, e1, cV_rt, m_pZ (by decide) (by decide) (Or.inr rfl), m_gI (by decide) (by decide), upd_n (by decide), e5.1 24 (by decide), d2.2.2.2.2.1]
  have u5 : Un liR laR I A (upd I5 15 1) A5 := u2.tr ((c3.w (by decide) (by decide)).tr ((d3.w (by decide) (by decide)).tr ((e5.w (by decide) (by decide)).tr (Un.uI (by decide)))))
  refine ⟨_, _, rfl, ⟨⟨P', ?_⟩, ?_, e3, ?_⟩, u5, ?_, upd_s⟩
  · obtain ⟨U, r1, r2, r3, r4, r5, r6, r7, r8, r9⟩ := d2
    have x15 : ∀ k, k ≠ 15 → k ∉ [28, 29] → upd I5 15 1 k = I4 k := fun k h1 h2 => by rw [upd_n h1, e5.1 k h2]
    refine ⟨U.cg (e5.2 16 (by decide)) (e5.2 17 (by decide)) (e5.2 20 (by decide)), by rw [e5.2 21 (by decide)]; exact r1, by rw [e5.2 22 (by decide)]; exact r2, by rw [x15 23 (by decide) (by decide)]; exact r3, by rw [x15 24 (by decide) (by decide)]; exact r4, by rw [x15 25 (by decide) (by decide)]; exact r5, by rw [e5.2 30 (by decide)]; exact r6, by rw [x15 26 (by decide) (by decide)]; exact r7, by rw [x15 27 (by decide) (by decide)]; exact r8, fun k hk => (r9 k hk).cg (e5.2 31 (by decide)) (e5.2 32 (by decide)) (e5.2 33 (by decide)) (e5.2 34 (by decide)) (e5.2 35 (by decide))⟩
  · exact ⟨by rw [upd_n (by decide)]; exact e2.1, e2.2⟩
  · rw [upd_n (by decide)]; exact e4
  · rw [upd_n (by decide), e5.1 0 (by decide), d3.1 0 (by decide), c3.1 0 (by decide)]
    exact z2 0 (by decide)
end
