/-! PURE: the model's descent, 2: tables -/
set_option maxRecDepth 100000
section
variable {li la : List Nat} {I I' I2 : Nat → Int32} {A A' A2 : Nat → Nat → Int32} {m : Nat → Nat} {n : Nat} {es : List Nat} {t : Nat} {h : AH} {mo : Nat}
/-- the table that is being made -/
def TP (A : Nat → Nat → Int32) (T : Nat) (ps : List Nat) : Prop := A 34 T = nI ps.length ∧ ∀ i, i < ps.length → A 35 (16 * T + i) = nI (ps.getD i 0)
/-- only table T is written -/
def TF (T : Nat) (A A' : Nat → Nat → Int32) : Prop := (∀ k, k ∉ [31, 32, 33, 34, 35] → A' k = A k) ∧ (∀ k, k ≠ 35 → ∀ j, j ≠ T → A' k j = A k j) ∧ (∀ j, j < 16 * T ∨ 16 * T + 16 ≤ j → A' 35 j = A 35 j)
theorem TF.rf {T : Nat} : TF T A A := ⟨fun _ _ => rfl, fun _ _ _ _ => rfl, fun _ _ => rfl⟩
theorem TF.tr {T : Nat} (a : TF T A A') (b : TF T A' A2) : TF T A A2 := ⟨fun k hk => by rw [b.1 k hk, a.1 k hk], fun k hk j hj => by rw [b.2.1 k hk j hj, a.2.1 k hk j hj], fun j hj => by rw [b.2.2 j hj, a.2.2 j hj]⟩
theorem TF.up {T k : Nat} {v : Int32} (hk : k ∈ [31, 32, 33, 34]) : TF T A (upA A k (upd (A k) T v)) := by
  have h5 : k ≠ 35 := by rintro rfl; simp at hk
  refine ⟨fun j hj => upA_n (fun z => hj (by rw [z]; simp at hk ⊢; omega)), fun j _ i hi => ?_, fun j _ => by rw [upA_n (Ne.symm h5)]⟩
  by_cases hjk : j = k
  · subst hjk; rw [upA_s, upd_n hi]
  · rw [upA_n hjk]
theorem TF.u35 {T i : Nat} {v : Int32} (hi : i < 16) : TF T A (upA A 35 (upd (A 35) (16 * T + i) v)) := by
  refine ⟨fun j hj => upA_n (fun z => hj (by rw [z]; simp)), fun j hj i _ => by rw [upA_n hj], fun j hj => ?_⟩
  rw [upA_s, upd_n (by omega)]
theorem TF.mu {T : Nat} {u : Nat → Nat} (f : TF T A A') (U : MU A m u) : MU A' m u := U.cg (f.1 16 (by decide)) (f.1 17 (by decide)) (f.1 20 (by decide))
theorem TF.mi {T : Nat} (f : TF T A A') (M : MI I A m n es t) : MI I A' m n es t := M.cg rfl rfl rfl (f.1 1 (by decide)) (f.1 3 (by decide))
theorem nI_mul (a b : Nat) : nI a * nI b = nI (a * b) := (Int32.ofNat_mul a b).symm
theorem own_neg {u : Nat → Nat} (U : MU A m u) {a : Nat} (ha : a < 96) : (A 17 a < 0) = ¬ (u a = 1 ∨ u a = 2) := by
  rw [U.2.1 a ha]
  by_cases h1 : u a = 1
  · rw [if_pos h1]
    have : ¬ nI a < 0 := nI_pos (by omega)
    simp [h1, this]
  · rw [if_neg h1]
    by_cases h2 : u a = 2
    · rw [if_pos h2]
      have : ¬ nI (a - 1) < 0 := nI_pos (by omega)
      simp [h2, this]
    · rw [if_neg h2, m1_lt]; simp [h1, h2]
theorem own_pos {u : Nat → Nat} (U : MU A m u) {a : Nat} (ha : a < 96) : (0 ≤ A 17 a) = (u a = 1 ∨ u a = 2) := by
  have := own_neg U ha
  rw [← Int32.not_lt, this]
  exact propext Classical.not_not
theorem q_enters {u : Nat → Nat} (M : MI I A m n es t) (U : MU A m u) {T p : Nat} {ps : List Nat} (hT : I 27 = nI T) (hT2 : T < 48) (P : TP A T ps) (hps : ps.length < 16) (hp : p ≤ 100000) :
    ∃ A', f_X3_entersTable (some mo) (nI p) (EM h mo I A) = rtV (EM h mo I A') ∧ TP A' T (if fit n u p then ps ++ [p] else ps) ∧ TF T A A' ∧ (∀ k, k ∉ [34, 35] → A' k = A k) := by
  have hn := M.n96
  unfold f_X3_entersTable
  rw [m_rc, q_adr M, cI_rt, ad_nI hp]
  by_cases h1 : p < n
  · rw [decide_eq_true h1, b0t, m_gA (by decide) (by decide), m_lI0 (by decide) (by decide) (by decide) (show p < 96 by omega)]
    have ho := own_neg U (a := p) (by omega)
    by_cases h2 : u p = 1 ∨ u p = 2
    · rw [if_neg (by rw [ho]; exact fun z => z h2)]
      refine ⟨A, rfl, ?_, TF.rf, fun _ _ => rfl⟩
      rw [show fit n u p = false from decide_eq_false (by omega)]
      exact P
    · rw [if_pos (by rw [ho]; exact h2), m_gA (by decide) (by decide), m_gI (by decide) (by decide), hT, m_gA (by decide) (by decide), m_gI (by decide) (by decide), hT, m_lI0 (by decide) (by decide) (by decide) (show T < 48 from hT2), P.1, lit 16, nI_mul, nI_add, m_sI0 (by decide) (by decide) (by decide) (show 16 * T + ps.length < 768 by omega), m_gA (by decide) (by decide), m_gI (by decide) (by decide), hT, m_lI0 (by decide) (by decide) (by decide) (show T < 48 from hT2), upA_n (by decide), P.1, nI_1, m_sI0 (by decide) (by decide) (by decide) (show T < 48 from hT2), upA_n (show 34 ≠ 35 by decide)]
      refine ⟨_, rfl, ?_, (TF.u35 (v := nI p) hps).tr ?_, ?_⟩
      · rw [show fit n u p = true from decide_eq_true (by omega), if_pos rfl]
        refine ⟨?_, fun i hi => ?_⟩
        · rw [upA_s, upd_s]; simp
        · rw [upA_n (by decide), upA_s]
          simp only [List.length_append, List.length_singleton] at hi
          by_cases hi2 : i = ps.length
          · subst hi2; rw [upd_s, getD_ae]
          · rw [upd_n (by omega), P.2 i (by omega), getD_ap (by omega)]
      · have := TF.up (A := upA A 35 (upd (A 35) (16 * T + ps.length) (nI p))) (T := T) (k := 34) (v := nI (ps.length + 1)) (by decide)
        rw [upA_n (show 34 ≠ 35 by decide)] at this
        exact this
      · intro k hk
        rw [upA_n (fun z => hk (by rw [z]; decide)), upA_n (fun z => hk (by rw [z]; decide))]
  · rw [decide_eq_false h1, b0f]
    refine ⟨A, rfl, ?_, TF.rf, fun _ _ => rfl⟩
    rw [show fit n u p = false from decide_eq_false (by omega)]
    exact P
theorem q_156 {u : Nat → Nat} {T b bo : Nat} (hT : I 27 = nI T) (hT2 : T < 48) (hbo : bo ≤ 16) (hb : b ≤ 1000) {K : Option Nat → AH → RS} : ∀ (k c : Nat) (A : Nat → Nat → Int32) (ps : List Nat), MI I A m n es t → MU A m u → TP A T ps → A 33 T = nI bo → bo - c < k → c ≤ bo → ps.length ≤ c →
    ∃ A', f_X3_tabulates_L156 K k (some mo) (nI b) (nI c) (EM h mo I A) = K (some mo) (EM h mo I A') ∧ TP A' T (ps ++ plB n u (bo - c) (b + c)) ∧ TF T A A' ∧ (∀ k, k ∉ [34, 35] → A' k = A k) := by
  intro k
  induction k with
  | zero => intro c A ps M U P h33 h1; omega
  | succ k ih =>
    intro c A ps M U P h33 h1 h2 h3
    unfold f_X3_tabulates_L156
    rw [m_gA (by decide) (by decide), m_gI (by decide) (by decide), hT, m_lI0 (by decide) (by decide) (by decide) (show T < 48 from hT2), h33]
    by_cases hc : bo ≤ c
    · rw [if_pos (nI_le hc (by omega)), show bo - c = 0 by omega]
      exact ⟨A, rfl, by unfold plB; rw [List.append_nil]; exact P, TF.rf, fun _ _ => rfl⟩
    · rw [if_neg (fun z => hc ((nI_leI (by omega) (by omega)).mp z)), m_rc, nI_add]
      obtain ⟨A1, e1, e2, e3, e4⟩ := q_enters (h := h) (mo := mo) M U hT hT2 P (by omega) (show b + c ≤ 100000 by omega)
      rw [e1, cV_rt, nI_1]
      obtain ⟨A2, f1, f2, f3, f4⟩ := ih (c + 1) A1 _ (e3.mi M) (e3.mu U) e2 (by rw [e4 33 (by decide)]; exact h33) (by omega) (by omega) (by split <;> (try rw [List.length_append, List.length_singleton]) <;> omega)
      refine ⟨A2, f1, ?_, e3.tr f3, fun k hk => by rw [f4 k hk, e4 k hk]⟩
      obtain ⟨j, hj⟩ : ∃ j, bo - c = j + 1 := ⟨bo - c - 1, by omega⟩
      rw [hj]
      unfold plB
      rw [show bo - (c + 1) = j by omega] at f2
      rw [← Nat.add_assoc] at f2
      by_cases hf : fit n u (b + c) = true
      · rw [if_pos hf] at f2 ⊢
        rw [List.append_assoc] at f2
        exact f2
      · rw [if_neg hf] at f2 ⊢
        exact f2
theorem q_70 {u : Nat → Nat} {T b : Nat} (hT : I 27 = nI T) (hT2 : T < 48) (hb : b ≤ 1000) {K : Option Nat → AH → RS} : ∀ (k c : Nat) (A : Nat → Nat → Int32) (ps : List Nat), MI I A m n es t → MU A m u → TP A T ps → 8 - c < k → c ≤ 8 → ps.length ≤ c →
    ∃ A', f_X3_tabulates_L70 K k (some mo) (nI b) (nI c) (EM h mo I A) = K (some mo) (EM h mo I A') ∧ TP A' T (ps ++ plU m n u (8 - c) (b + c)) ∧ TF T A A' ∧ (∀ k, k ∉ [34, 35] → A' k = A k) := by
  intro k
  induction k with
  | zero => intro c A ps M U P h1; omega
  | succ k ih =>
    intro c A ps M U P h1 h2 h3
    have hn := M.n96
    unfold f_X3_tabulates_L70
    by_cases hc : c = 8
    · subst hc
      rw [if_pos (by decide)]
      exact ⟨A, rfl, by rw [show 8 - 8 = 0 from rfl]; unfold plU; rw [List.append_nil]; exact P, TF.rf, fun _ _ => rfl⟩
    · rw [if_neg (show ¬ (8 : Int32) ≤ nI c from fun z => by have := (nI_leI (a := 8) (by decide) (by omega)).mp z; omega), m_rc, nI_add, q_adr M, cI_rt, ad_nI (by omega)]
      obtain ⟨j, hj⟩ : ∃ j, 8 - c = j + 1 := ⟨8 - c - 1, by omega⟩
      rw [hj]
      have stop : (fit n u (b + c) && zv m n (m (b + c))) = false → TP A T (ps ++ plU m n u (j + 1) (b + c)) := fun z => by
        unfold plU
        rw [if_neg (by rw [z]; simp), List.append_nil]
        exact P
      by_cases h4 : b + c < n
      · rw [decide_eq_true h4, b0t, m_gA (by decide) (by decide), m_lI0 (by decide) (by decide) (by decide) (show b + c < 96 by omega)]
        have ho := own_pos U (a := b + c) (by omega)
        by_cases h5 : u (b + c) = 1 ∨ u (b + c) = 2
        · rw [if_pos (by rw [ho]; exact h5)]
          exact ⟨A, rfl, stop (by rw [show fit n u (b + c) = false from decide_eq_false (by omega)]; rfl), TF.rf, fun _ _ => rfl⟩
        · have hby := M.byt (b + c) (by omega)
          rw [if_neg (by rw [ho]; exact h5), m_gA (by decide) (by decide), m_lI0 (by decide) (by decide) (by decide) (show b + c < 96 by omega), M.mem _ (by omega), m_rc, q_snd M (by omega), cI_rt]
          have hf : fit n u (b + c) = true := decide_eq_true (by omega)
          cases hz : zv m n (m (b + c)) with
          | false =>
            rw [b0f]
            exact ⟨A, rfl, stop (by rw [hz, Bool.and_false]), TF.rf, fun _ _ => rfl⟩
          | true =>
            rw [b0t, m_rc]
            obtain ⟨A1, e1, e2, e3, e4⟩ := q_enters (h := h) (mo := mo) M U hT hT2 P (by omega) (show b + c ≤ 100000 by omega)
            rw [e1, cV_rt, nI_1]
            rw [if_pos hf] at e2
            obtain ⟨A2, f1, f2, f3, f4⟩ := ih (c + 1) A1 _ (e3.mi M) (e3.mu U) e2 (by omega) (by omega) (by simp; omega)
            refine ⟨A2, f1, ?_, e3.tr f3, fun k hk => by rw [f4 k hk, e4 k hk]⟩
            unfold plU
            rw [if_pos (by rw [hf, hz]; rfl)]
            rw [show 8 - (c + 1) = j by omega, ← Nat.add_assoc, List.append_assoc] at f2
            exact f2
      · rw [decide_eq_false h4, b0f]
        exact ⟨A, rfl, stop (by rw [show fit n u (b + c) = false from decide_eq_false (by omega)]; rfl), TF.rf, fun _ _ => rfl⟩
end
