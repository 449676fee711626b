/-! PURE: the model's descent, 4: a table is made, an instruction is accepted -/
set_option maxRecDepth 100000
section
variable {li la : List Nat} {I I' I2 : Nat → Int32} {A A' A2 : Nat → Nat → Int32} {m : Nat → Nat} {n : Nat} {es : List Nat} {t : Nat} {h : AH} {mo : Nat}
def bM (x : Option (Nat × Option Nat)) : Option Nat := x.map (fun p => min p.1 16)
theorem bV_le {x : Option (Nat × Option Nat)} (hb : ∀ p, x = some p → p.1 ≤ 1000) {Y : Int32 → RS} : (if bV x ≤ 16 then Y (bV x) else Y 16) = Y (bW (bM x)) := by
  cases x with
  | none => rw [if_pos (by decide)]; rfl
  | some p =>
    obtain ⟨b, o⟩ := p
    have := hb _ rfl
    simp only at this
    show (if nI b ≤ 16 then Y (nI b) else Y 16) = Y (nI (min b 16))
    by_cases h1 : b ≤ 16
    · rw [if_pos (show nI b ≤ 16 from nI_le (b := 16) h1 (by decide)), Nat.min_eq_left h1]
    · rw [if_neg (show ¬ nI b ≤ 16 from fun z => h1 ((nI_leI (b := 16) (by omega) (by decide)).mp z)), Nat.min_eq_right (by omega)]; rfl
theorem bnd_b {u : Nat → Nat} {r : Nat} (hm : ∀ i, i < 96 → m i < 256) (hn : n ≤ 96) (g : UG m n u) : ∀ (k a : Nat) (p : Nat × Option Nat), bnd m u r k a = some p → p.1 ≤ 256 ∧ ∀ o, p.2 = some o → o ≤ 256
  | 0, a, p, e => by simp [bnd] at e
  | k + 1, a, p, e => by
    unfold bnd at e
    have hop : ∀ q, u q = 1 → (zk m q = 1 ∨ zk m q = 3 ∨ zk m q = 12) → zo m q < 256 := fun q hq hk => by
      have := (zv_f (g.2.2.1 q hq).1).2.2.1
      rw [zk_l2 hk] at this
      exact hm _ (by omega)
    cases hb : bef m u a with
    | none => rw [hb] at e; simp at e
    | some q =>
      obtain ⟨b1, b2, b3, b4⟩ := bef_v g hb
      simp only [hb] at e
      split at e
      · cases hb2 : bef m u q with
        | none => simp only [hb2] at e; exact bnd_b hm hn g k q p e
        | some c =>
          obtain ⟨c1, c2, c3, c4⟩ := bef_v g hb2
          simp only [hb2] at e
          split at e
          · rename_i hz
            cases e
            have := hop c c3 (Or.inr (Or.inl hz.1))
            exact ⟨by show zo m c ≤ 256; omega, fun o ho => by cases ho⟩
          · exact bnd_b hm hn g k q p e
      · split at e
        · split at e
          · rename_i hz
            cases e
            have := hop q b3 (Or.inl hz)
            exact ⟨by show zo m q + 1 ≤ 256; omega, fun o ho => by cases ho; omega⟩
          · split at e
            · rename_i hz
              cases e
              have := hop q b3 (Or.inr (Or.inr hz))
              exact ⟨by show zo m q + 1 ≤ 256; omega, fun o ho => by cases ho⟩
            · cases e
        · exact bnd_b hm hn g k q p e
theorem q_tab {u : Nat → Nat} {D cf bd : List Nat} {tb : List TT} (M : MI I A m n es t) (U : MU A m u) (g : UG m n u) (R : MR I A n u D cf bd tb) {a : Nat} (ha : a + 1 < n) (htb : tb.length < 48) (hD : D.length + 16 ≤ 1024) (htl : ∀ T ∈ tb, T.2.2.2.length ≤ 16) {x : Option (Nat × Option Nat)} (hx : x = bnd m u (zf m a) 6 a) {ps : List Nat} (hps : ps = plc m n u (zo m a) x) :
    ∃ I' A', f_X3_tabulates (some mo) (nI a) (EM h mo I A) = rtV (EM h mo I' A') ∧ MU A' m (mkP u ps) ∧ MR I' A' n (mkP u ps) (D ++ ps.map m) cf bd (tb ++ [(a, zo m a, bM x, ps)]) ∧ Un [23, 27, 43] [20, 22, 31, 32, 33, 34, 35] I A I' A' := by
  have hn := M.n96
  have hbd := fun p (e : x = some p) => bnd_b M.byt hn g 6 a p (hx ▸ e)
  have hzo : zo m a < 256 := M.byt _ (by omega)
  obtain ⟨pl1, pl2⟩ := plc_p (m := m) (n := n) (u := u) (zo m a) x
  rw [← hps] at pl1 pl2
  obtain ⟨T, hTl⟩ : ∃ T, tb.length = T := ⟨_, rfl⟩
  unfold f_X3_tabulates
  rw [m_rc, q_opd M (by omega), cI_rt, m_rc]
  unfold f_X3_boundOf
  rw [m_rc, q_first M (by omega), cI_rt, m_pI (by decide) (by decide)]
  have u1 : Un [43] [] I A (upd I 43 (-1)) A := Un.uI (by decide)
  have hb := q_boundL (h := h) (mo := mo) (M.un u1 (by decide) (by decide) (by decide) (by decide) (by decide)) U g upd_s (show zf m a < 4 by unfold zf; omega) FUEL 0 a (by unfold FUEL; omega) (by omega) (by omega)
  rw [show 6 - 0 = 6 from rfl, ← hx] at hb
  rw [show (0 : Int32) = nI 0 from rfl, hb, cI_rt]
  have u2 : Un [43] [] I A (upd (upd I 43 (-1)) 43 (oV x)) A := u1.tr (Un.uI (by decide))
  have h43 : upd (upd I 43 (-1)) 43 (oV x) 43 = oV x := upd_s
  generalize upd (upd I 43 (-1)) 43 (oV x) = I3 at u2 h43 ⊢
  have h27 : I3 27 = nI T := by rw [u2.1 27 (by decide), ← hTl]; exact R.2.2.2.2.2.2.2.1
  rw [m_gA (by decide) (by decide), m_gI (by decide) (by decide), h27, m_sI0 (by decide) (by decide) (by decide) (show T < 48 by omega), m_gA (by decide) (by decide), m_gI (by decide) (by decide), h27, m_sI0 (by decide) (by decide) (by decide) (show T < 48 by omega), m_gA (by decide) (by decide), m_gI (by decide) (by decide), h27]
  have f1 : TF T A (upA A 31 (upd (A 31) T (nI a))) := TF.up (by decide)
  have k1 : (upA A 31 (upd (A 31) T (nI a))) 31 T = nI a := by rw [upA_s, upd_s]
  have un1 : Un [43] [31, 32, 33, 34] I3 A I3 (upA A 31 (upd (A 31) T (nI a))) := Un.uA (by decide)
  generalize upA A 31 (upd (A 31) T (nI a)) = A1 at f1 k1 un1 ⊢
  have f2 : TF T A1 (upA A1 32 (upd (A1 32) T (nI (zo m a)))) := TF.up (by decide)
  have k2 : (upA A1 32 (upd (A1 32) T (nI (zo m a)))) 31 T = nI a ∧ (upA A1 32 (upd (A1 32) T (nI (zo m a)))) 32 T = nI (zo m a) := ⟨by rw [upA_n (by decide)]; exact k1, by rw [upA_s, upd_s]⟩
  have un2 : Un [43] [31, 32, 33, 34] I3 A I3 (upA A1 32 (upd (A1 32) T (nI (zo m a)))) := un1.tr (Un.uA (by decide))
  generalize upA A1 32 (upd (A1 32) T (nI (zo m a))) = A2 at f2 k2 un2 ⊢
  rw [bV_le (fun p e => by have := (hbd p e).1; omega) (Y := fun y => f_X3_tabulates_J52 (some mo) (nI (zo m a)) (bV x) y (nI T) (some (ma mo 33)) (EM h mo I3 A2))]
  unfold f_X3_tabulates_J52
  rw [m_sI0 (by decide) (by decide) (by decide) (show T < 48 by omega), m_gA (by decide) (by decide), m_gI (by decide) (by decide), h27, m_sI0 (by decide) (by decide) (by decide) (show T < 48 by omega)]
  have f3 : TF T A2 (upA A2 33 (upd (A2 33) T (bW (bM x)))) := TF.up (by decide)
  have k3 : (upA A2 33 (upd (A2 33) T (bW (bM x)))) 31 T = nI a ∧ (upA A2 33 (upd (A2 33) T (bW (bM x)))) 32 T = nI (zo m a) ∧ (upA A2 33 (upd (A2 33) T (bW (bM x)))) 33 T = bW (bM x) := ⟨by rw [upA_n (by decide)]; exact k2.1, by rw [upA_n (by decide)]; exact k2.2, by rw [upA_s, upd_s]⟩
  have un3 : Un [43] [31, 32, 33, 34] I3 A I3 (upA A2 33 (upd (A2 33) T (bW (bM x)))) := un2.tr (Un.uA (by decide))
  generalize upA A2 33 (upd (A2 33) T (bW (bM x))) = A3 at f3 k3 un3 ⊢
  rw [show (0 : Int32) = nI 0 from rfl]
  have f4 : TF T A3 (upA A3 34 (upd (A3 34) T (nI 0))) := TF.up (by decide)
  have k4 : (upA A3 34 (upd (A3 34) T (nI 0))) 31 T = nI a ∧ (upA A3 34 (upd (A3 34) T (nI 0))) 32 T = nI (zo m a) ∧ (upA A3 34 (upd (A3 34) T (nI 0))) 33 T = bW (bM x) ∧ TP (upA A3 34 (upd (A3 34) T (nI 0))) T [] := ⟨by rw [upA_n (by decide)]; exact k3.1, by rw [upA_n (by decide)]; exact k3.2.1, by rw [upA_n (by decide)]; exact k3.2.2, by rw [upA_s, upd_s]; rfl, fun i hi => absurd hi (Nat.not_lt_zero i)⟩
  have un4 : Un [43] [31, 32, 33, 34] I3 A I3 (upA A3 34 (upd (A3 34) T (nI 0))) := un3.tr (Un.uA (by decide))
  generalize upA A3 34 (upd (A3 34) T (nI 0)) = A4 at f4 k4 un4 ⊢
  have F4 : TF T A A4 := (f1.tr f2).tr (f3.tr f4)
  have M4 : MI I3 A4 m n es t := F4.mi (M.un u2 (by decide) (by decide) (by decide) (by decide) (by decide))
  have U4 : MU A4 m u := F4.mu U
  -- the marks
  have fin : ∀ A5, TP A5 T ps → TF T A4 A5 → (∀ k, k ∉ [34, 35] → A5 k = A4 k) → ∃ I' A', f_X3_tabulates_J184 (some mo) (EM h mo I3 A5) = rtV (EM h mo I' A') ∧ MU A' m (mkP u ps) ∧ MR I' A' n (mkP u ps) (D ++ ps.map m) cf bd (tb ++ [(a, zo m a, bM x, ps)]) ∧ Un [23, 27, 43] [20, 22, 31, 32, 33, 34, 35] I A I' A' := by
    intro A5 P5 F5 e5
    have F : TF T A A5 := F4.tr F5
    have R5 : MR I3 A5 n u D cf bd tb := by
      obtain ⟨r1, r2, r3, r4, r5, r6, r7, r8, r9⟩ := R
      refine ⟨by rw [F.1 21 (by decide)]; exact r1, by rw [F.1 22 (by decide)]; exact r2, by rw [u2.1 23 (by decide)]; exact r3, by rw [u2.1 24 (by decide)]; exact r4, by rw [u2.1 25 (by decide)]; exact r5, by rw [F.1 30 (by decide)]; exact r6, by rw [u2.1 26 (by decide)]; exact r7, by rw [u2.1 27 (by decide)]; exact r8, fun k hk => (r9 k hk).tf F (by omega) (htl _ ?_)⟩
      rw [List.getD_eq_getElem?_getD, List.getElem?_eq_getElem hk]; exact List.getElem_mem _
    have mk0 : mkP u (ps.take 0) = u := by funext q; simp [mkP]
    obtain ⟨I6, A6, c1, c2, c3, c4, c5⟩ := q_187 (h := h) (mo := mo) (m := m) (n := n) (es := es) (t := t) (u := u) (T := T) (ps := ps) (D := D) (cf := cf) (bd := bd) (tb := tb) (by omega) hTl pl1 pl2 (K := fun x53 h54 => xgI h54 x53 2 27 (fun v55 => xpF h54 x53 2 27 (.int (v55 + 1)) (fun h56 => rtV h56))) (by omega) FUEL 0 I3 A5 (by unfold FUEL; omega) (by omega) (F5.mi M4) (by rw [mk0]; exact F5.mu U4) (by rw [mk0]; simpa using R5) P5
    have h27' : I6 27 = nI T := by rw [c5.1 27 (by decide)]; exact h27
    unfold f_X3_tabulates_J184
    rw [show (0 : Int32) = nI 0 from rfl, c1, m_gI (by decide) (by decide), h27', nI_1, m_pI (by decide) (by decide)]
    refine ⟨_, _, rfl, c2, ?_, ?_⟩
    · obtain ⟨r1, r2, r3, r4, r5, r6, r7, r8, r9⟩ := c3
      refine ⟨r1, r2, by rw [upd_n (by decide)]; exact r3, by rw [upd_n (by decide)]; exact r4, by rw [upd_n (by decide)]; exact r5, r6, by rw [upd_n (by decide)]; exact r7, by rw [upd_s, List.length_append, List.length_singleton, hTl], fun k hk => ?_⟩
      rw [List.length_append, List.length_singleton] at hk
      by_cases hkT : k = T
      · have e : (tb ++ [((a, zo m a, bM x, ps) : TT)]).getD k T0 = (a, zo m a, bM x, ps) := by
          rw [hkT, ← hTl, List.getD_eq_getElem?_getD, List.getElem?_append_right (Nat.le_refl _)]; simp
        rw [e, hkT]
        refine ⟨?_, ?_, ?_, c4⟩
        · rw [c5.2 31 (by decide), e5 31 (by decide)]; exact k4.1
        · rw [c5.2 32 (by decide), e5 32 (by decide)]; exact k4.2.1
        · rw [c5.2 33 (by decide), e5 33 (by decide)]; exact k4.2.2.1
      · have e : (tb ++ [((a, zo m a, bM x, ps) : TT)]).getD k T0 = tb.getD k T0 := by
          rw [List.getD_eq_getElem?_getD, List.getElem?_append_left (by omega), List.getD_eq_getElem?_getD]
        rw [e]
        exact r9 k (by omega)
    · exact ((u2.w (by decide) (by decide)).tr ((un4.w (by decide) (by decide)).tr ((show Un [23, 27, 43] [20, 22, 31, 32, 33, 34, 35] I3 A4 I3 A5 from ⟨fun _ _ => rfl, fun k hk => e5 k (fun z => hk (by simp at z ⊢; omega))⟩).tr ((c5.w (by decide) (by decide)).tr (Un.uI (by decide))))))
  cases x with
  | none =>
    rw [if_neg (show ¬ nI 0 ≤ bV none by decide)]
    obtain ⟨A5, d1, d2, d3, d4⟩ := q_70 (h := h) (mo := mo) (u := u) h27 (show T < 48 by omega) (show zo m a ≤ 1000 by omega) (K := fun x77 h78 => f_X3_tabulates_J130 x77 h78) FUEL 0 A4 [] M4 U4 k4.2.2.2 (by unfold FUEL; omega) (by omega) (by simp)
    rw [d1]
    exact fin A5 (by rw [hps]; exact d2) d3 d4
  | some p =>
    obtain ⟨b, o⟩ := p
    obtain ⟨hb1, hb2⟩ := hbd _ rfl
    simp only at hb1 hb2
    rw [if_pos (show nI 0 ≤ bV (some (b, o)) from nI_le (a := 0) (b := b) (by omega) (by omega)), m_gI (by decide) (by decide), h43]
    cases o with
    | none =>
      rw [if_pos (show oV (some (b, none)) < nI 0 from show (-1 : Int32) < nI 0 by decide)]
      obtain ⟨A5, d1, d2, d3, d4⟩ := q_156 (h := h) (mo := mo) (u := u) h27 (show T < 48 by omega) (show min b 16 ≤ 16 by omega) (show zo m a ≤ 1000 by omega) (K := fun x34 h35 => f_X3_tabulates_J184 x34 h35) FUEL 0 A4 [] M4 U4 k4.2.2.2 k4.2.2.1 (by unfold FUEL; omega) (by omega) (by simp)
      rw [d1]
      exact fin A5 (by rw [hps]; exact d2) d3 d4
    | some o =>
      have ho := hb2 o rfl
      rw [if_neg (show ¬ oV (some (b, some o)) < nI 0 from nI_pos (n := o) (by omega)), m_gI (by decide) (by decide), h43, m_rc]
      show ∃ I' A', xcV (f_X3_entersTable (some mo) (nI (zo m a) + nI o) (EM h mo I3 A4)) _ = _ ∧ _
      rw [nI_add]
      obtain ⟨A5, d1, d2, d3, d4⟩ := q_enters (h := h) (mo := mo) M4 U4 h27 (show T < 48 by omega) k4.2.2.2 (by simp) (show zo m a + o ≤ 100000 by omega)
      rw [d1, cV_rt]
      refine fin A5 ?_ d3 d4
      rw [hps]
      show TP A5 T (plB n u 1 (zo m a + o))
      unfold plB
      by_cases hf : fit n u (zo m a + o) = true
      · rw [if_pos hf] at d2 ⊢; exact d2
      · rw [if_neg hf] at d2 ⊢; exact d2
end
