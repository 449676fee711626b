/-! PURE: the model runs -/
set_option maxRecDepth 100000
theorem and_nI {x y : Nat} (hx : x < 2 ^ 31) (hy : y < 2 ^ 31) : nI x &&& nI y = nI (x &&& y) := by
  have h : x &&& y < 2 ^ 31 := Nat.lt_of_le_of_lt Nat.and_le_left hx
  apply Int32.toBitVec_inj.mp
  apply BitVec.eq_of_toNat_eq
  rw [Int32.toBitVec_and, BitVec.toNat_and, pk_tn (by omega), pk_tn (by omega), pk_tn (by omega)]
section
variable {li la : List Nat} {I I' I2 : Nat → Int32} {A A' A2 : Nat → Nat → Int32} {m : Nat → Nat} {n : Nat} {es : List Nat} {t : Nat} {h : AH} {mo : Nat} {ex : Nat → Nat} {R : RSt}
def MRn (I : Nat → Int32) (A : Nat → Nat → Int32) (ex : Nat → Nat) (R : RSt) : Prop := (∀ a, a < 96 → A 40 a = nI (ex a)) ∧ (∀ k, k < 4 → A 41 k = nI (R.1 k)) ∧ I 49 = bI R.2.1 ∧ I 48 = nI R.2.2.length ∧ LSq (A 42) R.2.2
theorem MRn.rg (Q : MRn I A ex R) (r v : Nat) : MRn I (upA A 41 (upd (A 41) r (nI v))) ex (updN R.1 r v, R.2) := by
  obtain ⟨q1, q2, q3, q4, q5⟩ := Q
  refine ⟨by rw [upA_n (by decide)]; exact q1, fun k hk => ?_, q3, q4, by rw [upA_n (by decide)]; exact q5⟩
  rw [upA_s]
  show upd (A 41) r (nI v) k = nI (updN R.1 r v k)
  unfold updN
  by_cases hkr : k = r
  · subst hkr; rw [upd_s, if_pos rfl]
  · rw [upd_n hkr, if_neg hkr]; exact q2 k hk
theorem q_calls (M : MI I A m n es t) (Q : MRn I A ex R) (g : RG n R) {a x : Nat} (hv : zv m n a = true) (ht : zt m a = true) : ∃ I' A', f_X3_calls (some mo) (nI a) (nI x) (EM h mo I A) = rtI (oI (if R.2.2.length = 8 then none else some (zq m a))) (EM h mo I' A') ∧ MRn I' A' ex (if R.2.2.length = 8 then R else (R.1, R.2.1, R.2.2 ++ [x])) ∧ Un [48, 49] [41, 42] I A I' A' := by
  have hn := M.n96
  obtain ⟨v1, v2, v3, v4⟩ := zv_f hv
  have l2 := zt_l ht
  have hzq := zq_lt hv ht
  obtain ⟨q1, q2, q3, q4, q5⟩ := id Q
  have g2 := g.2.1
  unfold f_X3_calls
  rw [m_gI (by decide) (by decide), q4]
  by_cases h8 : R.2.2.length = 8
  · rw [if_neg (fun z => z (by rw [h8]; rfl)), if_pos h8, if_pos h8]
    exact ⟨I, A, rfl, Q, Un.rf⟩
  · rw [if_pos (show ¬ nI R.2.2.length = 8 from fun z => h8 ((nI_eq (b := 8) (by omega) (by decide)).mp z)), if_neg h8, if_neg h8, m_gA (by decide) (by decide), m_gI (by decide) (by decide), q4, m_sI0 (by decide) (by decide) (by decide) (show R.2.2.length < 8 by omega), m_gI (by decide) (by decide), q4, nI_1, m_pI (by decide) (by decide), m_rc]
    have u1 : Un [48, 49] [41, 42] I A (upd I 48 (nI (R.2.2.length + 1))) (upA A 42 (upd (A 42) R.2.2.length (nI x))) := (Un.uA (by decide)).tr (Un.uI (by decide))
    rw [q_goal (M.un u1 (by decide) (by decide) (by decide) (by decide) (by decide)) (by omega), cI_rt, ← hzq.2, ← iI_nI]
    refine ⟨_, _, rfl, ⟨by rw [upA_n (by decide)]; exact q1, by rw [upA_n (by decide)]; exact q2, by rw [upd_n (by decide)]; exact q3, ?_, ?_⟩, u1⟩
    · rw [upd_s]
      show nI (R.2.2.length + 1) = nI (R.2.2 ++ [x]).length
      rw [List.length_append, List.length_singleton]
    · rw [upA_s]; exact q5.add
theorem q_rets (Q : MRn I A ex R) (g : RG n R) : ∃ I' A', f_X3_returns (some mo) (EM h mo I A) = rtI (oI (if R.2.2.length = 0 then none else some (R.2.2.getD (R.2.2.length - 1) 0))) (EM h mo I' A') ∧ MRn I' A' ex (if R.2.2.length = 0 then R else (R.1, R.2.1, R.2.2.take (R.2.2.length - 1))) ∧ Un [48, 49] [41, 42] I A I' A' := by
  obtain ⟨q1, q2, q3, q4, q5⟩ := id Q
  have g2 := g.2.1
  unfold f_X3_returns
  rw [m_gI (by decide) (by decide), q4]
  by_cases h8 : R.2.2.length = 0
  · rw [if_neg (fun z => z (by rw [h8]; rfl)), if_pos h8, if_pos h8]
    exact ⟨I, A, rfl, Q, Un.rf⟩
  · rw [if_pos (nI_ne0 (by omega) (by omega)), if_neg h8, if_neg h8, m_gI (by decide) (by decide), q4, nI_s1 (by omega), m_pI (by decide) (by decide), m_gA (by decide) (by decide), m_gI (by decide) (by decide), upd_s, m_lI0 (by decide) (by decide) (by decide) (show R.2.2.length - 1 < 8 by omega), q5 _ (by omega)]
    refine ⟨_, _, rfl, ⟨q1, q2, by rw [upd_n (by decide)]; exact q3, ?_, fun i hi => ?_⟩, Un.uI (by decide)⟩
    · rw [upd_s]
      show _ = nI (R.2.2.take (R.2.2.length - 1)).length
      rw [List.length_take]
      congr 1
      omega
    · have hi : i < (R.2.2.take (R.2.2.length - 1)).length := hi
      rw [List.length_take] at hi
      show A 42 i = nI ((R.2.2.take (R.2.2.length - 1)).getD i 0)
      rw [getD_tk (by omega)]
      exact q5 i (by omega)
theorem q_exec (M : MI I A m n es t) (Q : MRn I A ex R) (g : RG n R) {a : Nat} (hv : zv m n a = true) : ∃ I' A', f_X3_executes (some mo) (nI a) (EM h mo I A) = rtI (oI (stp m n R a).2) (EM h mo I' A') ∧ MRn I' A' ex (stp m n R a).1 ∧ Un [48, 49] [41, 42] I A I' A' := by
  have hn := M.n96
  obtain ⟨v1, v2, v3, v4⟩ := zv_f hv
  have hk16 := M.k16 (a := a) (by omega)
  have hz := zl_12 m a
  have hby := M.byt a (by omega)
  have hf : zf m a < 4 := by unfold zf; omega
  have hs : zs m a < 4 := by unfold zs; omega
  obtain ⟨q1, q2, q3, q4, q5⟩ := id Q
  obtain ⟨g1, g2, g3⟩ := id g
  have gf := g1 (zf m a)
  have gs := g1 (zs m a)
  have hk : ∀ j, zk m a = j → (j = 1 ∨ (3 ≤ j ∧ j ≤ 7) ∨ j = 9 ∨ j = 10 ∨ j = 12) → zl m a = 2 := fun j e z => by
    unfold zl zh
    rw [e, if_pos (decide_eq_true z)]
  have ht : ∀ j, zk m a = j → 4 ≤ j ∧ j ≤ 7 → zt m a = true := fun j e z => by
    unfold zt; rw [e]; exact decide_eq_true z
  have J38 : ∀ y : Int32, (zl m a = 2 → y = nI (zo m a)) → ∃ I' A', f_X3_executes_J38 (some mo) (nI a) (nI (zf m a)) (nI (a + zl m a)) y (EM h mo I A) = rtI (oI (stp m n R a).2) (EM h mo I' A') ∧ MRn I' A' ex (stp m n R a).1 ∧ Un [48, 49] [41, 42] I A I' A' := by
    intro y hy
    unfold f_X3_executes_J38
    rw [m_gA (by decide) (by decide), m_lI0 (by decide) (by decide) (by decide) (show a < 96 by omega), M.mem a (by omega), m_rc, q_sort M (by omega), cI_rt]
    have hsv : nI (m a) &&& 3 = nI (zs m a) := and3 _ (by omega)
    rw [hsv]
    have hcase : zk m a = 0 ∨ zk m a = 1 ∨ zk m a = 2 ∨ zk m a = 3 ∨ zk m a = 4 ∨ zk m a = 5 ∨ zk m a = 6 ∨ zk m a = 7 ∨ zk m a = 8 ∨ zk m a = 9 ∨ zk m a = 10 ∨ zk m a = 11 ∨ zk m a = 12 ∨ zk m a = 13 := by omega
    rcases hcase with e | e | e | e | e | e | e | e | e | e | e | e | e | e
    · rw [e]
      rw [if_neg (by decide), if_neg (by decide), if_neg (by decide), if_neg (by decide), if_neg (by decide), if_neg (by decide), if_neg (by decide), if_neg (by decide), if_neg (by decide), if_neg (by decide), if_neg (by decide), if_neg (by decide), if_neg (by decide)]
      rw [show stp m n R a = (R, some (a + zl m a)) by unfold stp; rw [e]; rfl]
      exact ⟨I, A, rfl, Q, Un.rf⟩
    · have l2 := hk _ e (by decide)
      have ho : zo m a < 256 := M.byt _ (by omega)
      rw [e]
      rw [if_pos (by decide), m_gA (by decide) (by decide), m_sI0 (by decide) (by decide) (by decide) (show zf m a < 4 by omega), hy l2]
      rw [show stp m n R a = ((updN R.1 (zf m a) (zo m a), R.2), some (a + zl m a)) by unfold stp; rw [e]; rfl]
      exact ⟨_, _, rfl, Q.rg _ _, Un.uA (by decide)⟩
    · rw [e]
      rw [if_neg (by decide), if_pos (by decide), m_gA (by decide) (by decide), m_gA (by decide) (by decide), m_lI0 (by decide) (by decide) (by decide) (show zf m a < 4 by omega), q2 _ hf, m_gA (by decide) (by decide), m_lI0 (by decide) (by decide) (by decide) (show zs m a < 4 by omega), q2 _ hs, nI_add, lit 256, pk_rem (by omega) (by decide) (by decide), m_sI0 (by decide) (by decide) (by decide) (show zf m a < 4 by omega)]
      rw [show stp m n R a = ((updN R.1 (zf m a) ((R.1 (zf m a) + R.1 (zs m a)) % 256), R.2), some (a + zl m a)) by unfold stp; rw [e]; rfl]
      exact ⟨_, _, rfl, Q.rg _ _, Un.uA (by decide)⟩
    · have l2 := hk _ e (by decide)
      have ho : zo m a < 256 := M.byt _ (by omega)
      rw [e]
      rw [if_neg (by decide), if_neg (by decide), if_pos (by decide), m_gA (by decide) (by decide), m_lI0 (by decide) (by decide) (by decide) (show zf m a < 4 by omega), q2 _ hf, hy l2]
      rw [show stp m n R a = ((R.1, decide (R.1 (zf m a) < zo m a), R.2.2), some (a + zl m a)) by unfold stp; rw [e]; rfl]
      by_cases hc : zo m a ≤ R.1 (zf m a)
      · rw [if_pos (nI_le hc (by omega)), m_pZ (by decide) (by decide) (Or.inl rfl), decide_eq_false (by omega)]
        exact ⟨_, _, rfl, ⟨q1, q2, upd_s, by rw [upd_n (by decide)]; exact q4, q5⟩, Un.uI (by decide)⟩
      · rw [if_neg (fun z => hc ((nI_leI (by omega) (by omega)).mp z)), m_pZ (by decide) (by decide) (Or.inr rfl), decide_eq_true (by omega)]
        exact ⟨_, _, rfl, ⟨q1, q2, upd_s, by rw [upd_n (by decide)]; exact q4, q5⟩, Un.uI (by decide)⟩
    · have l2 := hk _ e (by decide)
      have ho : zo m a < 256 := M.byt _ (by omega)
      have ht7 := ht _ e (by decide)
      have hzq := zq_lt hv ht7
      rw [e]
      rw [if_neg (by decide), if_neg (by decide), if_neg (by decide), if_pos (by decide), m_rc, q_goal M (by omega), cI_rt, ← hzq.2, ← iI_nI]
      rw [show stp m n R a = (R, some (zq m a)) by unfold stp; rw [e]; rfl]
      exact ⟨I, A, rfl, Q, Un.rf⟩
    · have l2 := hk _ e (by decide)
      have ho : zo m a < 256 := M.byt _ (by omega)
      have ht7 := ht _ e (by decide)
      have hzq := zq_lt hv ht7
      rw [e]
      rw [if_neg (by decide), if_neg (by decide), if_neg (by decide), if_neg (by decide), if_pos (by decide), m_gI (by decide) (by decide), q3]
      rw [show stp m n R a = (R, if R.2.1 = true then some (zq m a) else some (a + zl m a)) by unfold stp; rw [e]; rfl]
      cases hfl : R.2.1 with
      | false =>
        rw [b0f, if_neg (by decide)]
        exact ⟨I, A, rfl, Q, Un.rf⟩
      | true =>
        rw [b0t, if_pos rfl, m_rc, q_goal M (by omega), cI_rt, ← hzq.2, ← iI_nI]
        exact ⟨I, A, rfl, Q, Un.rf⟩
    · have l2 := hk _ e (by decide)
      have ho : zo m a < 256 := M.byt _ (by omega)
      have ht7 := ht _ e (by decide)
      have hzq := zq_lt hv ht7
      rw [e]
      rw [if_neg (by decide), if_neg (by decide), if_neg (by decide), if_neg (by decide), if_neg (by decide), if_pos (by decide), m_gI (by decide) (by decide), q3]
      rw [show stp m n R a = (R, if R.2.1 = true then some (a + zl m a) else some (zq m a)) by unfold stp; rw [e]; rfl]
      cases hfl : R.2.1 with
      | false =>
        rw [b0f, if_neg (by decide), m_rc, q_goal M (by omega), cI_rt, ← hzq.2, ← iI_nI]
        exact ⟨I, A, rfl, Q, Un.rf⟩
      | true =>
        rw [b0t, if_pos rfl]
        exact ⟨I, A, rfl, Q, Un.rf⟩
    · have l2 := hk _ e (by decide)
      have ho : zo m a < 256 := M.byt _ (by omega)
      have ht7 := ht _ e (by decide)
      have hzq := zq_lt hv ht7
      rw [e]
      rw [if_neg (by decide), if_neg (by decide), if_neg (by decide), if_neg (by decide), if_neg (by decide), if_neg (by decide), if_pos (by decide), m_rc]
      obtain ⟨I1, A1, c1, c2, c3⟩ := q_calls (h := h) (mo := mo) M Q g hv ht7 (x := a + zl m a)
      rw [c1, cI_rt]
      refine ⟨I1, A1, ?_, ?_, c3⟩
      · unfold stp; rw [e]; simp only; split <;> rfl
      · have : (stp m n R a).1 = if R.2.2.length = 8 then R else (R.1, R.2.1, R.2.2 ++ [a + zl m a]) := by unfold stp; rw [e]; simp only; split <;> rfl
        rw [this]; exact c2
    · rw [e]
      rw [if_neg (by decide), if_neg (by decide), if_neg (by decide), if_neg (by decide), if_neg (by decide), if_neg (by decide), if_neg (by decide), if_pos (by decide), m_rc]
      obtain ⟨I1, A1, c1, c2, c3⟩ := q_rets (h := h) (mo := mo) Q g
      rw [c1, cI_rt]
      refine ⟨I1, A1, ?_, ?_, c3⟩
      · unfold stp; rw [e]; simp only; split <;> rfl
      · have : (stp m n R a).1 = if R.2.2.length = 0 then R else (R.1, R.2.1, R.2.2.take (R.2.2.length - 1)) := by unfold stp; rw [e]; simp only; split <;> rfl
        rw [this]; exact c2
    · have l2 := hk _ e (by decide)
      have ho : zo m a < 256 := M.byt _ (by omega)
      rw [e]
      rw [if_neg (by decide), if_neg (by decide), if_neg (by decide), if_neg (by decide), if_neg (by decide), if_neg (by decide), if_neg (by decide), if_neg (by decide), if_pos (by decide), m_gA (by decide) (by decide), m_lI0 (by decide) (by decide) (by decide) (show zf m a < 4 by omega), q2 _ hf, m_rc, hy l2, nI_add, q_adr M, cI_rt, ad_nI (by omega)]
      rw [show stp m n R a = (R, if zo m a + R.1 (zf m a) < n then some (m (zo m a + R.1 (zf m a))) else none) by unfold stp; rw [e]; rfl]
      by_cases hc : zo m a + R.1 (zf m a) < n
      · rw [decide_eq_true hc, b0t, if_pos hc, m_gA (by decide) (by decide), m_gA (by decide) (by decide), m_lI0 (by decide) (by decide) (by decide) (show zf m a < 4 by omega), q2 _ hf, nI_add, m_lI0 (by decide) (by decide) (by decide) (show zo m a + R.1 (zf m a) < 96 by omega), M.mem _ (by omega)]
        exact ⟨I, A, rfl, Q, Un.rf⟩
      · rw [decide_eq_false hc, b0f, if_neg hc]
        exact ⟨I, A, rfl, Q, Un.rf⟩
    · have l2 := hk _ e (by decide)
      have ho : zo m a < 256 := M.byt _ (by omega)
      rw [e]
      unfold f_X3_loads
      rw [if_neg (by decide), if_neg (by decide), if_neg (by decide), if_neg (by decide), if_neg (by decide), if_neg (by decide), if_neg (by decide), if_neg (by decide), if_neg (by decide), if_pos (by decide), m_rc, m_rc, hy l2, q_adr M, cI_rt, ad_nI (by omega)]
      by_cases hc : zo m a < n
      · rw [decide_eq_true hc, n0t, m_gA (by decide) (by decide), m_gA (by decide) (by decide), m_lI0 (by decide) (by decide) (by decide) (show zo m a < 96 by omega), M.mem _ (by omega), m_sI0 (by decide) (by decide) (by decide) (show zf m a < 4 by omega), cI_rt]
        rw [show stp m n R a = ((updN R.1 (zf m a) (m (zo m a)), R.2), some (a + zl m a)) by unfold stp; rw [e]; simp only; rw [if_pos hc]]
        exact ⟨_, _, rfl, Q.rg _ _, Un.uA (by decide)⟩
      · rw [decide_eq_false hc, n0f, cI_rt]
        rw [show stp m n R a = (R, none) by unfold stp; rw [e]; simp only; rw [if_neg hc]]
        exact ⟨I, A, rfl, Q, Un.rf⟩
    · rw [e]
      rw [if_neg (by decide), if_neg (by decide), if_neg (by decide), if_neg (by decide), if_neg (by decide), if_neg (by decide), if_neg (by decide), if_neg (by decide), if_neg (by decide), if_neg (by decide), if_pos (by decide), m_gA (by decide) (by decide), m_gA (by decide) (by decide), m_lI0 (by decide) (by decide) (by decide) (show zs m a < 4 by omega), q2 _ hs, m_sI0 (by decide) (by decide) (by decide) (show zf m a < 4 by omega)]
      rw [show stp m n R a = ((updN R.1 (zf m a) (R.1 (zs m a)), R.2), some (a + zl m a)) by unfold stp; rw [e]; rfl]
      exact ⟨_, _, rfl, Q.rg _ _, Un.uA (by decide)⟩
    · have l2 := hk _ e (by decide)
      have ho : zo m a < 256 := M.byt _ (by omega)
      rw [e]
      rw [if_neg (by decide), if_neg (by decide), if_neg (by decide), if_neg (by decide), if_neg (by decide), if_neg (by decide), if_neg (by decide), if_neg (by decide), if_neg (by decide), if_neg (by decide), if_neg (by decide), if_pos (by decide), m_gA (by decide) (by decide), m_lI0 (by decide) (by decide) (by decide) (show zf m a < 4 by omega), q2 _ hf, hy l2, and_nI (by omega) (by omega), m_sI0 (by decide) (by decide) (by decide) (show zf m a < 4 by omega)]
      rw [show stp m n R a = ((updN R.1 (zf m a) (R.1 (zf m a) &&& zo m a), R.2), some (a + zl m a)) by unfold stp; rw [e]; rfl]
      exact ⟨_, _, rfl, Q.rg _ _, Un.uA (by decide)⟩
    · rw [e]
      rw [if_neg (by decide), if_neg (by decide), if_neg (by decide), if_neg (by decide), if_neg (by decide), if_neg (by decide), if_neg (by decide), if_neg (by decide), if_neg (by decide), if_neg (by decide), if_neg (by decide), if_neg (by decide), if_pos (by decide)]
      rw [show stp m n R a = (R, none) by unfold stp; rw [e]; rfl]
      exact ⟨I, A, rfl, Q, Un.rf⟩
  unfold f_X3_executes
  rw [m_rc, q_first M (by omega), cI_rt, m_rc, q_sort M (by omega), cI_rt, q_len hk16, cI_rt, m_rc, q_sort M (by omega), cI_rt, q_len hk16, cI_rt, zL_zl v2, nI_add]
  by_cases l2 : zl m a = 2
  · rw [if_neg (fun z => z (by rw [l2]; rfl)), m_rc, q_opd M (by omega), cI_rt]
    exact J38 _ (fun _ => rfl)
  · rw [if_pos (show ¬ nI (zl m a) = 2 from fun z => l2 ((nI_eq (b := 2) (by omega) (by decide)).mp z))]
    exact J38 0 (fun z => absurd z l2)
theorem q_runL {K : Option Nat → Int32 → AH → RS} : ∀ (k f c : Nat) (ex : Nat → Nat) (R : RSt) (o : Option Nat) (I : Nat → Int32) (A : Nat → Nat → Int32), c + k = 200 → k < f → MI I A m n es t → RG n R → MRn I A ex R → (∀ x, o = some x → x < 256) →
    ∃ I' A', f_X3_run_L74 K f (some mo) (nI c) (oI o) (EM h mo I A) = K (some mo) (nI (c + (rnn m n k ex R o).2.2)) (EM h mo I' A') ∧ (∀ a, a < 96 → A' 40 a = nI ((rnn m n k ex R o).1 a)) ∧ (∀ j, j < 4 → A' 41 j = nI ((rnn m n k ex R o).2.1 j)) ∧ Un [48, 49] [40, 41, 42] I A I' A' := by
  intro k
  induction k with
  | zero =>
    intro f c ex R o I A h1 h2 M g Q ho
    obtain ⟨f, rfl⟩ : ∃ f', f = f' + 1 := ⟨f - 1, by omega⟩
    unfold f_X3_run_L74
    rw [if_pos (show (200 : Int32) ≤ nI c from nI_le (a := 200) (by omega) (by omega))]
    exact ⟨I, A, rfl, Q.1, Q.2.1, Un.rf⟩
  | succ k ih =>
    intro f c ex R o I A h1 h2 M g Q ho
    have hn := M.n96
    have hm : ∀ i, i < n → m i < 256 := fun i hi => M.byt i (by omega)
    obtain ⟨f, rfl⟩ : ∃ f', f = f' + 1 := ⟨f - 1, by omega⟩
    unfold f_X3_run_L74
    rw [if_neg (show ¬ (200 : Int32) ≤ nI c from fun z => by have := (nI_leI (a := 200) (by decide) (by omega)).mp z; omega), m_rc]
    cases o with
    | none =>
      rw [q_snd0 M (p := oI none) (by show ad n (-1) = false; unfold ad; rw [show ((-1 : Int32)).toInt = -1 from rfl]; exact decide_eq_false (by omega)), cI_rt, b0f]
      exact ⟨I, A, rfl, Q.1, Q.2.1, Un.rf⟩
    | some x =>
      have hx := ho x rfl
      rw [show oI (some x) = nI x from rfl, q_snd M (by omega), cI_rt]
      cases hv : zv m n x with
      | false =>
        have hr : rnn m n (k + 1) ex R (some x) = (ex, R.1, 0) := by unfold rnn; simp only; rw [if_neg (by rw [hv]; decide)]
        rw [b0f, hr]
        exact ⟨I, A, rfl, Q.1, Q.2.1, Un.rf⟩
      | true =>
        obtain ⟨v1, v2, v3, v4⟩ := zv_f hv
        obtain ⟨q1, q2, q3, q4, q5⟩ := id Q
        rw [b0t, m_gA (by decide) (by decide), m_lI0 (by decide) (by decide) (by decide) (show x < 96 by omega), q1 x (by omega), nI_1, m_sI0 (by decide) (by decide) (by decide) (show x < 96 by omega), m_rc]
        have u1 : Un [48, 49] [40, 41, 42] I A I (upA A 40 (upd (A 40) x (nI (ex x + 1)))) := Un.uA (by decide)
        have Q1 : MRn I (upA A 40 (upd (A 40) x (nI (ex x + 1)))) (updN ex x (ex x + 1)) R := by
          refine ⟨fun a ha => ?_, by rw [upA_n (by decide)]; exact q2, q3, q4, by rw [upA_n (by decide)]; exact q5⟩
          rw [upA_s]
          unfold updN
          by_cases hax : a = x
          · subst hax; rw [upd_s, if_pos rfl]
          · rw [upd_n hax, if_neg hax]; exact q1 a ha
        have M1 := M.un u1 (by decide) (by decide) (by decide) (by decide) (by decide)
        obtain ⟨I2, A2, d1, d2, d3⟩ := q_exec (h := h) (mo := mo) M1 Q1 g hv
        obtain ⟨g', ho'⟩ := stp_g hm hn g hv
        rw [d1, cI_rt, nI_1]
        have u2 := u1.tr (d3.w (li' := [48, 49]) (la' := [40, 41, 42]) (by decide) (by decide))
        obtain ⟨I3, A3, f1, f2, f3, f4⟩ := ih f (c + 1) _ _ _ I2 A2 (by omega) (by omega) (M.un u2 (by decide) (by decide) (by decide) (by decide) (by decide)) g' d2 ho'
        have hr : rnn m n (k + 1) ex R (some x) = ((rnn m n k (updN ex x (ex x + 1)) (stp m n R x).1 (stp m n R x).2).1, (rnn m n k (updN ex x (ex x + 1)) (stp m n R x).1 (stp m n R x).2).2.1, (rnn m n k (updN ex x (ex x + 1)) (stp m n R x).1 (stp m n R x).2).2.2 + 1) := by
          conv => lhs; unfold rnn
          simp only; rw [if_pos hv]
        rw [hr]
        refine ⟨I3, A3, ?_, f2, f3, u2.tr f4⟩
        rw [f1]
        simp only
        rw [show c + 1 + (rnn m n k (updN ex x (ex x + 1)) (stp m n R x).1 (stp m n R x).2).2.2 = c + ((rnn m n k (updN ex x (ex x + 1)) (stp m n R x).1 (stp m n R x).2).2.2 + 1) by omega]
theorem q_r21 {x : Int32} {K : Option Nat → Int32 → AH → RS} : ∀ (k f c : Nat) (A : Nat → Nat → Int32), c + k = 96 → k < f →
    ∃ A', f_X3_run_L21 K f (some mo) x (nI c) (EM h mo I A) = K (some mo) x (EM h mo I A') ∧ (∀ x, x ≠ 40 → A' x = A x) ∧ (∀ j, j < c → A' 40 j = A 40 j) ∧ ∀ j, c ≤ j → j < 96 → A' 40 j = 0 := by
  intro k
  induction k with
  | zero =>
    intro f c A h1 h2
    obtain ⟨f, rfl⟩ : ∃ f', f = f' + 1 := ⟨f - 1, by omega⟩
    unfold f_X3_run_L21
    rw [if_pos (show (96 : Int32) ≤ nI c from nI_le (a := 96) (by omega) (by omega))]
    exact ⟨A, rfl, fun _ _ => rfl, fun _ _ => rfl, fun j j1 j2 => by omega⟩
  | succ k ih =>
    intro f c A h1 h2
    obtain ⟨f, rfl⟩ : ∃ f', f = f' + 1 := ⟨f - 1, by omega⟩
    unfold f_X3_run_L21
    rw [if_neg (show ¬ (96 : Int32) ≤ nI c from fun z => by have := (nI_leI (a := 96) (by decide) (by omega)).mp z; omega), m_gA (by decide) (by decide), m_sI0 (by decide) (by decide) (by decide) (show c < 96 by omega), nI_1]
    obtain ⟨A', e1, e2, e3, e4⟩ := ih f (c + 1) (upA A 40 (upd (A 40) c 0)) (by omega) (by omega)
    refine ⟨A', e1, fun x hx => by rw [e2 x hx, upA_n hx], fun j hj => by rw [e3 j (by omega), upA_s, upd_n (by omega)], fun j j1 j2 => ?_⟩
    by_cases hjc : j = c
    · subst hjc; rw [e3 j (by omega), upA_s, upd_s]
    · exact e4 j (by omega) j2
theorem q_r42 {x : Int32} {K : Option Nat → Int32 → AH → RS} : ∀ (k f c : Nat) (A : Nat → Nat → Int32), c + k = 4 → k < f →
    ∃ A', f_X3_run_L42 K f (some mo) x (nI c) (EM h mo I A) = K (some mo) x (EM h mo I A') ∧ (∀ x, x ≠ 41 → A' x = A x) ∧ (∀ j, j < c → A' 41 j = A 41 j) ∧ ∀ j, c ≤ j → j < 4 → A' 41 j = 0 := by
  intro k
  induction k with
  | zero =>
    intro f c A h1 h2
    obtain ⟨f, rfl⟩ : ∃ f', f = f' + 1 := ⟨f - 1, by omega⟩
    unfold f_X3_run_L42
    rw [if_pos (show (4 : Int32) ≤ nI c from nI_le (a := 4) (by omega) (by omega))]
    exact ⟨A, rfl, fun _ _ => rfl, fun _ _ => rfl, fun j j1 j2 => by omega⟩
  | succ k ih =>
    intro f c A h1 h2
    obtain ⟨f, rfl⟩ : ∃ f', f = f' + 1 := ⟨f - 1, by omega⟩
    unfold f_X3_run_L42
    rw [if_neg (show ¬ (4 : Int32) ≤ nI c from fun z => by have := (nI_leI (a := 4) (by decide) (by omega)).mp z; omega), m_gA (by decide) (by decide), m_sI0 (by decide) (by decide) (by decide) (show c < 4 by omega), nI_1]
    obtain ⟨A', e1, e2, e3, e4⟩ := ih f (c + 1) (upA A 41 (upd (A 41) c 0)) (by omega) (by omega)
    refine ⟨A', e1, fun x hx => by rw [e2 x hx, upA_n hx], fun j hj => by rw [e3 j (by omega), upA_s, upd_n (by omega)], fun j j1 j2 => ?_⟩
    by_cases hjc : j = c
    · subst hjc; rw [e3 j (by omega), upA_s, upd_s]
    · exact e4 j (by omega) j2
/-- the run from a -/
def rn (m : Nat → Nat) (n a : Nat) : (Nat → Nat) × (Nat → Nat) × Nat := rnn m n 200 (fun _ => 0) run0 (some a)
theorem run0_g : RG n run0 := ⟨fun _ => (show 0 < 256 by decide), by decide, fun x hx => by cases hx⟩
theorem q_run (M : MI I A m n es t) {a : Nat} (ha : a < n) : ∃ I' A', f_X3_run (some mo) (nI a) (EM h mo I A) = rtI (nI (rn m n a).2.2) (EM h mo I' A') ∧ (∀ x, x < 96 → A' 40 x = nI ((rn m n a).1 x)) ∧ (∀ j, j < 4 → A' 41 j = nI ((rn m n a).2.1 j)) ∧ I' 0 = 0 ∧ I' 39 = 1 ∧ Un [0, 39, 48, 49] [40, 41, 42] I A I' A' := by
  have hn := M.n96
  unfold f_X3_run
  rw [m_pI (by decide) (by decide), m_rc]
  have u0 : Un [0, 39, 48, 49] [40, 41, 42] I A (upd I 0 0) A := Un.uI (by decide)
  have z0 : upd I 0 0 0 = (0 : Int32) := upd_s
  generalize upd I 0 0 = I0 at u0 z0 ⊢
  have M0 := M.un u0 (by decide) (by decide) (by decide) (by decide) (by decide)
  rw [q_adr M0, cI_rt, ad_nI (by omega), decide_eq_true ha, n0t]
  obtain ⟨A1, a1, a2, a3, a4⟩ := q_r21 (h := h) (mo := mo) (I := I0) (x := nI a) (K := fun x11 x12 h13 => f_X3_run_L42 (fun x21 x22 h23 => xpZ h23 x21 2 49 0 (fun h24 => xpF h24 x21 2 48 (.int 0) (fun h25 => f_X3_run_L74 (fun x39 x40 h41 => xpZ h41 x39 2 39 1 (fun h42 => rtI x40 h42)) FUEL x21 0 x22 h25))) FUEL x11 x12 0 h13) 96 FUEL 0 A (by omega) (by unfold FUEL; omega)
  show ∃ I' A', f_X3_run_L21 _ FUEL (some mo) (nI a) (nI 0) (EM h mo I0 A) = _ ∧ _
  rw [a1]
  obtain ⟨A2, b1, b2, b3, b4⟩ := q_r42 (h := h) (mo := mo) (I := I0) (x := nI a) (K := fun x21 x22 h23 => xpZ h23 x21 2 49 0 (fun h24 => xpF h24 x21 2 48 (.int 0) (fun h25 => f_X3_run_L74 (fun x39 x40 h41 => xpZ h41 x39 2 39 1 (fun h42 => rtI x40 h42)) FUEL x21 0 x22 h25))) 4 FUEL 0 A1 (by omega) (by unfold FUEL; omega)
  show ∃ I' A', f_X3_run_L42 _ FUEL (some mo) (nI a) (nI 0) (EM h mo I0 A1) = _ ∧ _
  rw [b1, m_pZ (by decide) (by decide) (Or.inl rfl), m_pI (by decide) (by decide)]
  have u1 : Un [0, 39, 48, 49] [40, 41, 42] I A (upd (upd I0 49 0) 48 0) A2 := u0.tr ((Un.uI (by decide)).tr ((Un.uI (by decide)).tr ⟨fun _ _ => rfl, fun k hk => by rw [b2 k (fun z => hk (by rw [z]; decide)), a2 k (fun z => hk (by rw [z]; decide))]⟩))
  have z1 : upd (upd I0 49 0) 48 0 49 = (0 : Int32) ∧ upd (upd I0 49 0) 48 0 48 = (0 : Int32) ∧ upd (upd I0 49 0) 48 0 0 = (0 : Int32) := ⟨by rw [upd_n (by decide), upd_s], upd_s, by rw [upd_n (by decide), upd_n (by decide)]; exact z0⟩
  generalize upd (upd I0 49 0) 48 0 = I1 at u1 z1 ⊢
  have M1 := M.un u1 (by decide) (by decide) (by decide) (by decide) (by decide)
  have Q1 : MRn I1 A2 (fun _ => 0) run0 := ⟨fun x hx => by rw [b2 40 (by decide), a4 x (Nat.zero_le _) hx]; rfl, fun k hk => by rw [b4 k (Nat.zero_le _) hk]; rfl, z1.1, z1.2.1, fun i hi => absurd hi (Nat.not_lt_zero i)⟩
  obtain ⟨I3, A3, d1, d2, d3, d4⟩ := q_runL (h := h) (mo := mo) (es := es) (t := t) (K := fun x39 x40 h41 => xpZ h41 x39 2 39 1 (fun h42 => rtI x40 h42)) 200 FUEL 0 (fun _ => 0) run0 (some a) I1 A2 (by omega) (by unfold FUEL; omega) M1 run0_g Q1 (fun x hx => by cases hx; omega)
  show ∃ I' A', f_X3_run_L74 _ FUEL (some mo) (nI 0) (oI (some a)) (EM h mo I1 A2) = _ ∧ _
  rw [d1, m_pZ (by decide) (by decide) (Or.inr rfl), Nat.zero_add]
  refine ⟨_, _, rfl, d2, d3, ?_, upd_s, u1.tr ((d4.w (by decide) (by decide)).tr (Un.uI (by decide)))⟩
  rw [upd_n (by decide), d4.1 0 (by decide)]
  exact z1.2.2
end
