/-! PURE: the model's calls that change the world -/
set_option maxRecDepth 100000
section
variable {li la : List Nat} {I I' I2 : Nat → Int32} {A A' A2 : Nat → Nat → Int32} {h : AH} {mo : Nat} {W : WS}
theorem MW.txt (w : MW I A W) (x : Un [0, 13, 14] [12] I A I' A') {l : List Nat} {f : Int32} (m : MTx I' A' l) (e : I' 14 = f) : MW I' A' (wI W, wS W, wR W, wN W, l, f) := by
  obtain ⟨w1, w2, w3, w4, w5, w6, w7⟩ := w
  exact ⟨w1.un x (by decide) (by decide) (by decide) (by decide) (by decide), w2.un x (by decide) (by decide) (by decide) (by decide) (by decide) (by decide), w3.un x (by decide) (by decide) (by decide), w4.un x (by decide) (by decide) (by decide), m, e, by rw [x.1 27 (by decide)]; exact w7⟩
theorem MW.th (w : MW I A W) (c : Int32) : MW (upd I 0 c) A W := w.un (Un.uI (by decide))
theorem o_app (w : MW I A W) (p : Int32) : MEnd mo h (f_X3_appendCharacter (some mo) p (EM h mo I A)) (w_app p W) := by
  unfold f_X3_appendCharacter w_app
  rw [m_pI (by decide) (by decide), show (33 : Int32) = nI 33 from rfl, show (126 : Int32) = nI 126 from rfl, q_btw (by decide) (by decide), cI_rt]
  have w0 := w.th 0
  have z0 : upd I 0 0 0 = (0 : Int32) := upd_s
  have u0 : Un [0, 13, 14] [12] I A (upd I 0 0) A := Un.uI (by decide)
  generalize upd I 0 0 = I0 at w0 z0 u0 ⊢
  obtain ⟨t1, t2, t3, t4⟩ := w0.2.2.2.2.1
  cases hb : btw p 33 126 with
  | false => rw [n0f, if_neg (by decide)]; exact q_failE w0 (c := 1) (by decide)
  | true =>
    obtain ⟨p1, p2, p3⟩ := btw_x hb
    rw [n0t, if_pos rfl, m_gI (by decide) (by decide), t1]
    by_cases h60 : (wT W).length < 60
    · rw [if_pos h60, if_pos (show ¬ nI (wT W).length = 60 from fun z => by have := (nI_eq (b := 60) (by omega) (by decide)).mp z; omega), m_gA (by decide) (by decide), m_gI (by decide) (by decide), t1, m_sI0 (by decide) (by decide) (by decide) (show (wT W).length < 60 from h60), m_gI (by decide) (by decide), t1, nI_1, m_pI (by decide) (by decide), m_gI (by decide) (by decide), upd_s]
      refine MEnd.of rfl (w.txt (u0.tr ((Un.uA (by decide)).tr (Un.uI (by decide)))) ⟨?_, ?_, ?_, ?_⟩ ?_) ?_ (fun _ => rfl)
      · rw [upd_s, List.length_append, List.length_singleton]
      · rw [List.length_append, List.length_singleton]; omega
      · rw [upA_s, p1]
        have := t3.add (v := adx p)
        rw [← p1] at this ⊢
        exact this
      · intro x hx
        rcases List.mem_append.mp hx with hx | hx
        · exact t4 x hx
        · rw [List.mem_singleton.mp hx]; exact ⟨p2, p3⟩
      · rw [upd_n (by decide)]; exact w0.2.2.2.2.2.1
      · rw [upd_n (by decide)]; exact z0
    · rw [if_neg h60, if_neg (fun z => z (by rw [show (wT W).length = 60 by omega]; rfl))]
      exact q_failE w0 (c := 2) (by decide)
theorem q_digit {c : Nat} (hc : c ≤ 1000) : f_X3_digitOf (nI c) h = rtI (oI (dgt c)) h := by
  unfold f_X3_digitOf dgt
  rw [show (48 : Int32) = nI 48 from rfl, show (57 : Int32) = nI 57 from rfl, q_inN (by omega) (by decide) (by decide), cI_rt]
  by_cases h1 : 48 ≤ c ∧ c ≤ 57
  · rw [decide_eq_true h1, b0t, if_pos h1, pk_sub h1.1]; rfl
  · rw [decide_eq_false h1, b0f, if_neg h1, show (97 : Int32) = nI 97 from rfl, show (102 : Int32) = nI 102 from rfl, q_inN (by omega) (by decide) (by decide), cI_rt]
    by_cases h2 : 97 ≤ c ∧ c ≤ 102
    · rw [decide_eq_true h2, b0t, if_pos h2, pk_sub h2.1, show (10 : Int32) = nI 10 from rfl, nI_add]; rfl
    · rw [decide_eq_false h2, b0f, if_neg h2]; rfl
theorem dgt_b {c d : Nat} (e : dgt c = some d) : d < 16 := by
  unfold dgt at e
  split at e
  · cases e; omega
  · split at e
    · cases e; omega
    · cases e
theorem gdn_le : ∀ (l : List Nat), gdn l ≤ l.length
  | [] => Nat.le_refl _
  | c :: l => by
    have := gdn_le l
    unfold gdn
    rw [List.length_cons]
    split <;> omega
theorem gdn_all : ∀ (l : List Nat), gdn l = l.length → ∀ i, i < l.length → dgt (l.getD i 0) ≠ none
  | [], _, i, hi => absurd hi (Nat.not_lt_zero i)
  | c :: l, e, i, hi => by
    have h1 := gdn_le l
    unfold gdn at e
    rw [List.length_cons] at e hi
    split at e
    · omega
    · rename_i hc
      cases i with
      | zero => exact hc
      | succ i => exact gdn_all l (by omega) i (by omega)
theorem q_aL7 {l : List Nat} (T : MTx I A l) {K : Option Nat → Int32 → AH → RS} : ∀ (k f c : Nat), c + k = l.length → k < f →
    f_X3_addBytes_L7 K f (some mo) (nI c) (EM h mo I A) = K (some mo) (nI (c + gdn (l.drop c))) (EM h mo I A) := by
  obtain ⟨t1, t2, t3, t4⟩ := T
  intro k
  induction k with
  | zero =>
    intro f c h1 h2
    obtain ⟨f, rfl⟩ : ∃ f', f = f' + 1 := ⟨f - 1, by omega⟩
    unfold f_X3_addBytes_L7
    rw [m_gI (by decide) (by decide), t1, if_pos (nI_le (by omega) (by omega)), List.drop_eq_nil_of_le (by omega)]
    rfl
  | succ k ih =>
    intro f c h1 h2
    obtain ⟨f, rfl⟩ : ∃ f', f = f' + 1 := ⟨f - 1, by omega⟩
    have hc := t4 _ (getD_mem (ys := l) (i := c) (by omega))
    unfold f_X3_addBytes_L7
    rw [m_gI (by decide) (by decide), t1, if_neg (fun z => by have := (nI_leI (by omega) (by omega)).mp z; omega), m_gA (by decide) (by decide), m_lI0 (by decide) (by decide) (by decide) (show c < 60 by omega), t3 c (by omega), q_digit (by omega), cI_rt, drop_g 0 (show c < l.length by omega), nI_1]
    unfold gdn
    cases hd : dgt (l.getD c 0) with
    | none => rw [if_pos (show oI none < 0 by decide), if_pos rfl]; rfl
    | some d =>
      have := dgt_b hd
      rw [if_neg (show ¬ oI (some d) < 0 from nI_pos (by omega)), if_neg (by simp), ih f (c + 1) (by omega) (by omega)]
      congr 2
      omega
theorem q_aL111 {l : List Nat} {m : Nat → Nat} {n many : Nat} (hl : l.length = 2 * many) (hg : ∀ i, i < l.length → dgt (l.getD i 0) ≠ none) (hn : n + many ≤ 96) {K : Option Nat → Int32 → AH → RS} : ∀ (k f c : Nat) (A : Nat → Nat → Int32), c + k = many → k < f → LSq (A 12) l → l.length ≤ 60 → (∀ x ∈ l, 33 ≤ x ∧ x ≤ 126) → I 5 = nI n →
    ∃ A', f_X3_addBytes_L111 K f (some mo) (nI many) (nI c) (EM h mo I A) = K (some mo) (nI many) (EM h mo I A') ∧ (∀ j, A' 1 j = if n + c ≤ j ∧ j < n + many then nI (rdB l (j - n)) else A 1 j) ∧ ∀ x, x ≠ 1 → A' x = A x := by
  intro k
  induction k with
  | zero =>
    intro f c A h1 h2 _ _ _ _
    obtain ⟨f, rfl⟩ : ∃ f', f = f' + 1 := ⟨f - 1, by omega⟩
    unfold f_X3_addBytes_L111
    rw [if_pos (nI_le (by omega) (by omega))]
    exact ⟨A, rfl, fun j => by rw [if_neg (by omega)], fun _ _ => rfl⟩
  | succ k ih =>
    intro f c A h1 h2 t3 t2 t4 h5
    obtain ⟨f, rfl⟩ : ∃ f', f = f' + 1 := ⟨f - 1, by omega⟩
    have c1 := t4 _ (getD_mem (ys := l) (i := 2 * c) (by omega))
    have c2 := t4 _ (getD_mem (ys := l) (i := 2 * c + 1) (by omega))
    have g1 := hg (2 * c) (by omega)
    have g2 := hg (2 * c + 1) (by omega)
    obtain ⟨d1, e1⟩ : ∃ d, dgt (l.getD (2 * c) 0) = some d := by
      cases h : dgt (l.getD (2 * c) 0) with
      | none => exact absurd h g1
      | some d => exact ⟨d, rfl⟩
    obtain ⟨d2, e2⟩ : ∃ d, dgt (l.getD (2 * c + 1) 0) = some d := by
      cases h : dgt (l.getD (2 * c + 1) 0) with
      | none => exact absurd h g2
      | some d => exact ⟨d, rfl⟩
    have hr : rdB l c = 16 * d1 + d2 := by unfold rdB dgv; rw [e1, e2]; rfl
    unfold f_X3_addBytes_L111
    rw [if_neg (fun z => by have := (nI_leI (by omega) (by omega)).mp z; omega), m_gA (by decide) (by decide), m_gI (by decide) (by decide), h5, m_gA (by decide) (by decide), show (2 : Int32) = nI 2 from rfl, nI_mul, m_lI0 (by decide) (by decide) (by decide) (show 2 * c < 60 by omega), t3 _ (by omega), q_digit (by omega), cI_rt, m_gA (by decide) (by decide), nI_1, m_lI0 (by decide) (by decide) (by decide) (show 2 * c + 1 < 60 by omega), t3 _ (by omega), q_digit (by omega), cI_rt, e1, e2, nI_add, show (16 : Int32) = nI 16 from rfl]
    show ∃ A', xsI (EM h mo I A) (some (ma mo 1)) 0 (nI (n + c)) (nI 16 * nI d1 + nI d2) _ = _ ∧ _
    rw [nI_mul, nI_add, m_sI0 (by decide) (by decide) (by decide) (show n + c < 96 by omega), nI_1]
    obtain ⟨A', f1, f2, f3⟩ := ih f (c + 1) (upA A 1 (upd (A 1) (n + c) (nI (16 * d1 + d2)))) (by omega) (by omega) (by rw [upA_n (by decide)]; exact t3) t2 t4 h5
    refine ⟨A', f1, fun j => ?_, fun x hx => by rw [f3 x hx, upA_n hx]⟩
    rw [f2 j, upA_s]
    by_cases hj : j = n + c
    · rw [if_neg (by omega), hj, upd_s, if_pos (by omega), show n + c - n = c by omega, hr]
    · rw [upd_n hj]
      by_cases hj2 : n + (c + 1) ≤ j ∧ j < n + many
      · rw [if_pos hj2, if_pos (by omega)]
      · rw [if_neg hj2, if_neg (by omega)]
theorem rdB_b {l : List Nat} {k : Nat} : rdB l k < 256 := by
  unfold rdB dgv
  have h1 : ∀ c, (dgt c).getD 0 < 16 := fun c => by
    cases h : dgt c with
    | none => decide
    | some d => exact dgt_b h
  have := h1 (l.getD (2 * k) 0)
  have := h1 (l.getD (2 * k + 1) 0)
  omega
theorem o_addB (w : MW I A W) : MEnd mo h (f_X3_addBytes (some mo) (EM h mo I A)) (w_addB W) := by
  unfold f_X3_addBytes
  rw [m_pI (by decide) (by decide)]
  have w0 := w.th 0
  have z0 : upd I 0 0 0 = (0 : Int32) := upd_s
  have u0 : Un [0, 13, 14] [12] I A (upd I 0 0) A := Un.uI (by decide)
  generalize upd I 0 0 = I0 at w0 z0 u0 ⊢
  obtain ⟨t1, t2, t3, t4⟩ := id w0.2.2.2.2.1
  rw [show (0 : Int32) = nI 0 from rfl, q_aL7 w0.2.2.2.2.1 (wT W).length FUEL 0 (by omega) (by unfold FUEL; omega), List.drop_zero, Nat.zero_add]
  have hgl := gdn_le (wT W)
  have hn : gn (wI W) ≤ 96 := w.1.n96
  -- a bad text
  have bad : badT (wT W) = true → MEnd mo h (f_X3_addBytes_J64 (some mo) (nI (gdn (wT W))) (some mo) (EM h mo I0 A)) (w_addB W) := fun hb => by
    unfold f_X3_addBytes_J64 w_addB
    rw [m_pI (by decide) (by decide), m_gI (by decide) (by decide), m_pI (by decide) (by decide), m_gI (by decide) (by decide), upd_n (by decide), upd_s, if_neg (nI_pos (by omega)), if_pos hb]
    have w1 : MW (upd (upd I0 14 (nI (gdn (wT W)))) 13 0) A (wI W, wS W, wR W, wN W, [], nI (gdn (wT W))) := w.txt (u0.tr ((Un.uI (by decide)).tr (Un.uI (by decide)))) ⟨upd_s, by decide, fun i hi => absurd hi (Nat.not_lt_zero i), fun x hx => by cases hx⟩ (by rw [upd_n (by decide), upd_s])
    exact q_failE w1 (c := 1) (by decide)
  unfold f_X3_addBytes_J33 f_X3_addBytes_J59
  rw [m_gI (by decide) (by decide), t1]
  by_cases b1 : gdn (wT W) < (wT W).length
  · rw [if_pos (nI_lt b1 (by omega))]
    exact bad (decide_eq_true (Or.inl b1))
  · rw [if_neg (nI_nlt (by omega) (by omega)), m_gI (by decide) (by decide), t1, show (2 : Int32) = nI 2 from rfl, pk_rem (by omega) (by decide) (by decide)]
    by_cases b2 : (wT W).length % 2 = 1
    · rw [b2, if_pos (show nI 1 = 1 from rfl)]
      exact bad (decide_eq_true (Or.inr (Or.inl b2)))
    · rw [if_neg (show ¬ nI ((wT W).length % 2) = 1 from fun z => b2 ((nI_eq (b := 1) (by omega) (by decide)).mp z)), m_gI (by decide) (by decide), t1]
      by_cases b3 : (wT W).length = 0
      · rw [if_neg (fun z => z (by rw [b3]; rfl))]
        exact bad (decide_eq_true (Or.inr (Or.inr b3)))
      · have hb : badT (wT W) = false := decide_eq_false (by omega)
        rw [if_pos (nI_ne0 (by omega) (by omega))]
        unfold f_X3_addBytes_J64 w_addB
        rw [m_pI (by decide) (by decide), m_gI (by decide) (by decide), upd_n (by decide), t1, m_pI (by decide) (by decide), m_gI (by decide) (by decide), upd_n (by decide), upd_s, if_pos (by decide), m_gI (by decide) (by decide), upd_n (by decide), upd_n (by decide), w0.1.siz, show (2 : Int32) = nI 2 from rfl, pk_div (by omega) (by decide) (by decide), nI_add, if_neg (show ¬ badT (wT W) = true by rw [hb]; decide)]
        have u1 : Un [0, 13, 14] [12] I A (upd (upd I0 14 (-1)) 13 0) A := u0.tr ((Un.uI (by decide)).tr (Un.uI (by decide)))
        have w1 : MW (upd (upd I0 14 (-1)) 13 0) A (wI W, wS W, wR W, wN W, [], -1) := w.txt u1 ⟨upd_s, by decide, fun i hi => absurd hi (Nat.not_lt_zero i), fun x hx => by cases hx⟩ (by rw [upd_n (by decide), upd_s])
        have z1 : upd (upd I0 14 (-1)) 13 0 0 = (0 : Int32) := by rw [upd_n (by decide), upd_n (by decide)]; exact z0
        by_cases b4 : gn (wI W) + (wT W).length / 2 ≤ 96
        · rw [if_pos (show nI (gn (wI W) + (wT W).length / 2) ≤ 96 from nI_le (b := 96) b4 (by decide)), if_neg (by omega)]
          have hall := gdn_all (wT W) (by omega)
          generalize upd (upd I0 14 (-1)) 13 0 = I1 at u1 w1 z1 ⊢
          obtain ⟨A2, d1, d2, d3⟩ := q_aL111 (h := h) (mo := mo) (I := I1) (l := wT W) (n := gn (wI W)) (many := (wT W).length / 2) (m := gm (wI W)) (by omega) hall b4 (K := fun x48 x49 h50 => xgI h50 x48 2 5 (fun v51 => xpF h50 x48 2 5 (.int (v51 + x49)) (fun h52 => xrc h52 x48 2 (xcV (f_X3_changes x48 1 h52) (fun h53 => xgI h53 x48 2 5 (fun v54 => rtI v54 h53)))))) ((wT W).length / 2) FUEL 0 A (by omega) (by unfold FUEL; omega) t3 t2 t4 w1.1.siz
          rw [show (0 : Int32) = nI 0 from rfl, d1, m_gI (by decide) (by decide), show I1 5 = nI (gn (wI W)) from w1.1.siz, nI_add, m_pI (by decide) (by decide), m_rc]
          have M1 : MIg I1 A (wI W) := w1.1
          obtain ⟨I3, e1, e2, e3, e4, e5⟩ := q_chg (h := h) (mo := mo) (I := upd I1 5 (nI (gn (wI W) + (wT W).length / 2))) (A := A2) true (by rw [upd_n (by decide)]; exact w1.2.2.2.1.z)
          rw [show (1 : Int32) = bI true from rfl, e1, cV_rt, m_gI (by decide) (by decide), e5.1 5 (by decide), upd_s]
          refine MEnd.of rfl (w1.chg (g := (addM (gm (wI W)) (gn (wI W)) (wT W), gn (wI W) + (wT W).length / 2, ge (wI W), gt (wI W))) (b := true) (I1 := upd I1 5 (nI (gn (wI W) + (wT W).length / 2))) (A1 := A2) ((Un.uI (by decide)).tr ⟨fun _ _ => rfl, fun k hk => d3 k (fun z => hk (by rw [z]; decide))⟩) ?_ e2 e3 e4 e5) (by rw [e5.1 0 (by decide), upd_n (by decide)]; exact z1) (fun _ => rfl)
          refine ⟨fun i hi => ?_, fun i hi => ?_, upd_s, b4, by rw [upd_n (by decide)]; exact M1.ecn, M1.e4, fun i hi => by rw [d3 3 (by decide)]; exact M1.ent i hi, fun e he => ?_, by rw [upd_n (by decide)]; exact M1.thr, M1.t30⟩
          · rw [d2 i]
            show _ = nI (addM (gm (wI W)) (gn (wI W)) (wT W) i)
            unfold addM
            by_cases hc : gn (wI W) + 0 ≤ i ∧ i < gn (wI W) + (wT W).length / 2
            · rw [if_pos hc, if_pos (by omega)]
            · rw [if_neg hc, if_neg (by omega)]; exact M1.mem i hi
          · show addM (gm (wI W)) (gn (wI W)) (wT W) i < 256
            unfold addM
            split
            · exact rdB_b
            · exact M1.byt i hi
          · have := M1.eln e he
            show e < gn (wI W) + (wT W).length / 2
            omega
        · rw [if_neg (show ¬ nI (gn (wI W) + (wT W).length / 2) ≤ 96 from fun z => b4 ((nI_leI (b := 96) (by omega) (by decide)).mp z)), if_pos (by omega)]
          exact q_failE w1 (c := 2) (by decide)
theorem o_setB (w : MW I A W) (p q : Int32) : MEnd mo h (f_X3_setByte (some mo) p q (EM h mo I A)) (w_setB p q W) := by
  unfold f_X3_setByte w_setB
  rw [m_pI (by decide) (by decide)]
  have w0 := w.th 0
  have z0 : upd I 0 0 0 = (0 : Int32) := upd_s
  have u0 : Un [0, 5, 6, 7] [1, 3] I A (upd I 0 0) A := Un.uI (by decide)
  generalize upd I 0 0 = I0 at w0 z0 u0 ⊢
  have M0 : MIg I0 A (wI W) := w0.1
  rw [m_rc, q_adr M0, cI_rt]
  cases hp : ad (gn (wI W)) p with
  | false => rw [n0f, if_neg (by decide)]; exact q_failE w0 (c := 1) (by decide)
  | true =>
    obtain ⟨p1, p2⟩ := ad_x hp
    have hn := M0.n96
    rw [n0t, if_pos rfl, show (255 : Int32) = nI 255 from rfl, q_btw0 (by decide), cI_rt]
    cases hq : btw q 0 255 with
    | false => rw [n0f, if_neg (by decide)]; exact q_failE w0 (c := 2) (by decide)
    | true =>
      obtain ⟨q1, q2, q3⟩ := btw_x hq
      rw [n0t, if_pos rfl, m_gA (by decide) (by decide)]
      conv => arg 3; rw [p1, q1]
      rw [m_lI0 (by decide) (by decide) (by decide) (show adx p < 96 by omega), m_gA (by decide) (by decide), m_sI0 (by decide) (by decide) (by decide) (show adx p < 96 by omega), m_rc, M0.mem _ (by omega)]
      obtain ⟨I3, e1, e2, e3, e4, e5⟩ := q_chg (h := h) (mo := mo) (I := I0) (A := upA A 1 (upd (A 1) (adx p) (nI (adx q)))) true w0.2.2.2.1.z
      rw [show (1 : Int32) = bI true from rfl, e1, cV_rt]
      refine MEnd.of rfl (w.chg (b := true) (I1 := I0) (u0.tr (Un.uA (by decide))) ?_ e2 e3 e4 e5) (by rw [e5.1 0 (by decide)]; exact z0) (fun _ => rfl)
      refine ⟨fun i hi => ?_, fun i hi => ?_, M0.siz, M0.n96, M0.ecn, M0.e4, fun i hi => by rw [upA_n (by decide)]; exact M0.ent i hi, M0.eln, M0.thr, M0.t30⟩
      · rw [upA_s]
        show _ = nI (updN (gm (wI W)) (adx p) (adx q) i)
        unfold updN
        by_cases hc : i = adx p
        · rw [hc, upd_s, if_pos rfl]
        · rw [upd_n hc, if_neg hc]; exact M0.mem i hi
      · show updN (gm (wI W)) (adx p) (adx q) i < 256
        unfold updN
        split
        · omega
        · exact M0.byt i hi
theorem o_byte (w : MW I A W) (p : Int32) : MEnd mo h (f_X3_byteAt (some mo) p (EM h mo I A)) (w_byte p W) := by
  unfold f_X3_byteAt w_byte
  rw [m_pI (by decide) (by decide)]
  have w0 := w.th 0
  have z0 : upd I 0 0 0 = (0 : Int32) := upd_s
  generalize upd I 0 0 = I0 at w0 z0 ⊢
  have M0 : MIg I0 A (wI W) := w0.1
  rw [m_rc, q_adr M0, cI_rt]
  cases hp : ad (gn (wI W)) p with
  | false => rw [b0f, if_neg (by decide)]; exact q_failE w0 (c := 1) (by decide)
  | true =>
    obtain ⟨p1, p2⟩ := ad_x hp
    have hn := M0.n96
    rw [b0t, if_pos rfl, m_gA (by decide) (by decide)]
    conv => arg 3; rw [p1]
    rw [m_lI0 (by decide) (by decide) (by decide) (show adx p < 96 by omega), M0.mem _ (by omega)]
    exact MEnd.of rfl w0 z0 (fun _ => rfl)
theorem o_clear (w : MW I A W) : MEnd mo h (f_X3_clear (some mo) (EM h mo I A)) (w_clear W) := by
  unfold f_X3_clear w_clear
  have M0 : MIg I A (wI W) := w.1
  rw [m_pI (by decide) (by decide), m_gI (by decide) (by decide), upd_n (by decide), M0.siz, m_pI (by decide) (by decide), m_pI (by decide) (by decide), m_rc]
  have u0 : Un [0, 5, 6, 7] [1, 3] I A (upd (upd (upd I 0 0) 5 0) 6 0) A := (Un.uI (by decide)).tr ((Un.uI (by decide)).tr (Un.uI (by decide)))
  have z0 : upd (upd (upd I 0 0) 5 0) 6 0 0 = (0 : Int32) ∧ upd (upd (upd I 0 0) 5 0) 6 0 5 = (0 : Int32) ∧ upd (upd (upd I 0 0) 5 0) 6 0 6 = (0 : Int32) ∧ upd (upd (upd I 0 0) 5 0) 6 0 7 = I 7 ∧ upd (upd (upd I 0 0) 5 0) 6 0 39 = I 39 := ⟨by rw [upd_n (by decide), upd_n (by decide), upd_s], by rw [upd_n (by decide), upd_s], upd_s, by rw [upd_n (by decide), upd_n (by decide), upd_n (by decide)], by rw [upd_n (by decide), upd_n (by decide), upd_n (by decide)]⟩
  generalize upd (upd (upd I 0 0) 5 0) 6 0 = I0 at u0 z0 ⊢
  obtain ⟨I3, e1, e2, e3, e4, e5⟩ := q_chg (h := h) (mo := mo) (I := I0) (A := A) true (by rw [z0.2.2.2.2]; exact w.2.2.2.1.z)
  rw [show (1 : Int32) = bI true from rfl, e1, cV_rt]
  refine MEnd.of rfl (w.chg (b := true) u0 ?_ e2 e3 e4 e5) (by rw [e5.1 0 (by decide)]; exact z0.1) (fun _ => rfl)
  exact ⟨M0.mem, M0.byt, z0.2.1, Nat.zero_le _, z0.2.2.1, Nat.zero_le _, fun i hi => absurd hi (Nat.not_lt_zero i), fun e he => (by cases he), by rw [z0.2.2.2.1]; exact M0.thr, M0.t30⟩
theorem o_addE (w : MW I A W) (p : Int32) : MEnd mo h (f_X3_addEntry (some mo) p (EM h mo I A)) (w_addE p W) := by
  unfold f_X3_addEntry w_addE f_X3_addEntry_J35
  rw [m_pI (by decide) (by decide)]
  have w0 := w.th 0
  have z0 : upd I 0 0 0 = (0 : Int32) := upd_s
  have u0 : Un [0, 5, 6, 7] [1, 3] I A (upd I 0 0) A := Un.uI (by decide)
  generalize upd I 0 0 = I0 at w0 z0 u0 ⊢
  have M0 : MIg I0 A (wI W) := w0.1
  rw [m_rc, q_adr M0, cI_rt]
  cases hp : ad (gn (wI W)) p with
  | false => rw [n0f, if_neg (by decide)]; exact q_failE w0 (c := 1) (by decide)
  | true =>
    obtain ⟨p1, p2⟩ := ad_x hp
    have hn := M0.n96
    have he4 := M0.e4
    rw [n0t, if_pos rfl, m_gI (by decide) (by decide), M0.ecn]
    by_cases h4 : (ge (wI W)).length = 4
    · rw [if_pos (show nI (ge (wI W)).length = 4 by rw [h4]; rfl), if_pos (Or.inl h4)]
      exact q_failE w0 (c := 2) (by decide)
    · rw [if_neg (show ¬ nI (ge (wI W)).length = 4 from fun z => h4 ((nI_eq (b := 4) (by omega) (by decide)).mp z)), m_rc]
      conv => arg 3; rw [p1]
      rw [q_ent M0 (by omega), cI_rt]
      by_cases hin : adx p ∈ ge (wI W)
      · rw [decide_eq_true hin, b0t, if_pos (Or.inr hin)]
        exact q_failE w0 (c := 2) (by decide)
      · rw [decide_eq_false hin, b0f, if_neg (fun z => z.elim h4 hin), m_gA (by decide) (by decide), m_gI (by decide) (by decide), M0.ecn, m_sI0 (by decide) (by decide) (by decide) (show (ge (wI W)).length < 4 by omega), m_gI (by decide) (by decide), M0.ecn, nI_1, m_pI (by decide) (by decide), m_rc]
        obtain ⟨I3, e1, e2, e3, e4, e5⟩ := q_chg (h := h) (mo := mo) (I := upd I0 6 (nI ((ge (wI W)).length + 1))) (A := upA A 3 (upd (A 3) (ge (wI W)).length (nI (adx p)))) false (by rw [upd_n (by decide)]; exact w0.2.2.2.1.z)
        rw [show (0 : Int32) = bI false from rfl, e1, cV_rt, m_gI (by decide) (by decide), e5.1 6 (by decide), upd_s, nI_s1 (by omega), Nat.add_sub_cancel]
        refine MEnd.of rfl (w.chg (b := false) (I1 := upd I0 6 (nI ((ge (wI W)).length + 1))) (u0.tr ((Un.uA (by decide)).tr (Un.uI (by decide)))) ?_ e2 e3 e4 e5) (by rw [e5.1 0 (by decide), upd_n (by decide)]; exact z0) (fun _ => rfl)
        refine ⟨fun i hi => by rw [upA_n (by decide)]; exact M0.mem i hi, M0.byt, by rw [upd_n (by decide)]; exact M0.siz, M0.n96, ?_, ?_, fun i hi => ?_, fun e he => ?_, by rw [upd_n (by decide)]; exact M0.thr, M0.t30⟩
        · rw [upd_s]
          show _ = nI (ge (wI W) ++ [adx p]).length
          rw [List.length_append, List.length_singleton]
        · show (ge (wI W) ++ [adx p]).length ≤ 4
          rw [List.length_append, List.length_singleton]; omega
        · rw [upA_s]
          exact LSq.add (l := ge (wI W)) (fun j hj => M0.ent j hj) i hi
        · rcases List.mem_append.mp he with he | he
          · exact M0.eln e he
          · rw [List.mem_singleton.mp he]; exact p2
theorem q_reL {es : List Nat} (h4 : es.length ≤ 4) {x : Int32} {K : Option Nat → Int32 → AH → RS} : ∀ (k f c : Nat) (A : Nat → Nat → Int32), c + k + 1 = es.length → k < f → I 6 = nI es.length →
    ∃ A', f_X3_removeEntry_L34 K f (some mo) x (nI c) (EM h mo I A) = K (some mo) x (EM h mo I A') ∧ (∀ j, A' 3 j = if c ≤ j ∧ j + 1 < es.length then A 3 (j + 1) else A 3 j) ∧ ∀ y, y ≠ 3 → A' y = A y := by
  intro k
  induction k with
  | zero =>
    intro f c A h1 h2 h6
    obtain ⟨f, rfl⟩ : ∃ f', f = f' + 1 := ⟨f - 1, by omega⟩
    unfold f_X3_removeEntry_L34
    rw [m_gI (by decide) (by decide), h6, nI_s1 (by omega), if_pos (nI_le (by omega) (by omega))]
    exact ⟨A, rfl, fun j => by rw [if_neg (by omega)], fun _ _ => rfl⟩
  | succ k ih =>
    intro f c A h1 h2 h6
    obtain ⟨f, rfl⟩ : ∃ f', f = f' + 1 := ⟨f - 1, by omega⟩
    unfold f_X3_removeEntry_L34
    rw [m_gI (by decide) (by decide), h6, nI_s1 (by omega), if_neg (fun z => by have := (nI_leI (by omega) (by omega)).mp z; omega), m_gA (by decide) (by decide), m_gA (by decide) (by decide), nI_1, m_lI0 (by decide) (by decide) (by decide) (show c + 1 < 4 by omega), m_sI0 (by decide) (by decide) (by decide) (show c < 4 by omega)]
    obtain ⟨A', f1, f2, f3⟩ := ih f (c + 1) (upA A 3 (upd (A 3) c (A 3 (c + 1)))) (by omega) (by omega) h6
    refine ⟨A', f1, fun j => ?_, fun y hy => by rw [f3 y hy, upA_n hy]⟩
    rw [f2 j, upA_s]
    by_cases hj : j = c
    · subst hj
      rw [if_neg (by omega), upd_s, if_pos (by omega)]
    · rw [upd_n hj]
      by_cases hj2 : c + 1 ≤ j ∧ j + 1 < es.length
      · rw [if_pos hj2, if_pos (by omega), upd_n (by omega)]
      · rw [if_neg hj2, if_neg (by omega)]
theorem er_g {es : List Nat} {x i : Nat} : (es.eraseIdx x).getD i 0 = if i < x then es.getD i 0 else es.getD (i + 1) 0 := by
  rw [List.getD_eq_getElem?_getD, List.getElem?_eraseIdx]
  split <;> rw [List.getD_eq_getElem?_getD]
theorem o_remE (w : MW I A W) (p : Int32) : MEnd mo h (f_X3_removeEntry (some mo) p (EM h mo I A)) (w_remE p W) := by
  unfold f_X3_removeEntry w_remE
  rw [m_pI (by decide) (by decide)]
  have w0 := w.th 0
  have z0 : upd I 0 0 0 = (0 : Int32) := upd_s
  have u0 : Un [0, 5, 6, 7] [1, 3] I A (upd I 0 0) A := Un.uI (by decide)
  generalize upd I 0 0 = I0 at w0 z0 u0 ⊢
  have M0 : MIg I0 A (wI W) := w0.1
  have he4 := M0.e4
  rw [m_gI (by decide) (by decide), M0.ecn, q_ad (by omega), cI_rt]
  cases hp : ad (ge (wI W)).length p with
  | false => rw [n0f, if_neg (by decide)]; exact q_failE w0 (c := 1) (by decide)
  | true =>
    obtain ⟨p1, p2⟩ := ad_x hp
    rw [n0t, if_pos rfl, m_gA (by decide) (by decide)]
    conv => arg 3; rw [p1]
    rw [m_lI0 (by decide) (by decide) (by decide) (show adx p < 4 by omega), M0.ent _ p2]
    obtain ⟨A2, d1, d2, d3⟩ := q_reL (h := h) (mo := mo) (I := I0) (es := ge (wI W)) he4 (x := nI ((ge (wI W)).getD (adx p) 0)) (K := fun x17 x18 h19 => xgI h19 x17 2 6 (fun v20 => xpF h19 x17 2 6 (.int (v20 - 1)) (fun h21 => xrc h21 x17 2 (xcV (f_X3_changes x17 0 h21) (fun h22 => rtI x18 h22))))) ((ge (wI W)).length - 1 - adx p) FUEL (adx p) A (by omega) (by unfold FUEL; omega) M0.ecn
    rw [d1, m_gI (by decide) (by decide), M0.ecn, nI_s1 (by omega), m_pI (by decide) (by decide), m_rc]
    obtain ⟨I3, e1, e2, e3, e4, e5⟩ := q_chg (h := h) (mo := mo) (I := upd I0 6 (nI ((ge (wI W)).length - 1))) (A := A2) false (by rw [upd_n (by decide)]; exact w0.2.2.2.1.z)
    rw [show (0 : Int32) = bI false from rfl, e1, cV_rt]
    have hlen : ((ge (wI W)).eraseIdx (adx p)).length = (ge (wI W)).length - 1 := List.length_eraseIdx_of_lt p2
    refine MEnd.of rfl (w.chg (b := false) (I1 := upd I0 6 (nI ((ge (wI W)).length - 1))) (u0.tr ((Un.uI (by decide)).tr ⟨fun _ _ => rfl, fun k hk => d3 k (fun z => hk (by rw [z]; decide))⟩)) ?_ e2 e3 e4 e5) (by rw [e5.1 0 (by decide), upd_n (by decide)]; exact z0) (fun _ => rfl)
    refine ⟨fun i hi => by rw [d3 1 (by decide)]; exact M0.mem i hi, M0.byt, by rw [upd_n (by decide)]; exact M0.siz, M0.n96, ?_, ?_, fun i hi => ?_, fun e he => M0.eln e (List.mem_of_mem_eraseIdx he), by rw [upd_n (by decide)]; exact M0.thr, M0.t30⟩
    · rw [upd_s]
      show _ = nI ((ge (wI W)).eraseIdx (adx p)).length
      rw [hlen]
    · show ((ge (wI W)).eraseIdx (adx p)).length ≤ 4
      omega
    · have hi : i < ((ge (wI W)).eraseIdx (adx p)).length := hi
      show _ = nI (((ge (wI W)).eraseIdx (adx p)).getD i 0)
      rw [d2 i, er_g]
      by_cases hc : i < adx p
      · rw [if_neg (by omega), if_pos hc]; exact M0.ent i (by omega)
      · rw [if_pos (by omega), if_neg hc]; exact M0.ent (i + 1) (by omega)
theorem o_thr (w : MW I A W) (p : Int32) : MEnd mo h (f_X3_setThreshold (some mo) p (EM h mo I A)) (w_thr p W) := by
  unfold f_X3_setThreshold w_thr
  rw [m_pI (by decide) (by decide)]
  have w0 := w.th 0
  have z0 : upd I 0 0 0 = (0 : Int32) := upd_s
  have u0 : Un [0, 5, 6, 7] [1, 3] I A (upd I 0 0) A := Un.uI (by decide)
  generalize upd I 0 0 = I0 at w0 z0 u0 ⊢
  have M0 : MIg I0 A (wI W) := w0.1
  rw [show (1 : Int32) = nI 1 from rfl, show (30 : Int32) = nI 30 from rfl, q_btw (by decide) (by decide), cI_rt]
  cases hp : btw p 1 30 with
  | false => rw [n0f, if_neg (by decide)]; exact q_failE w0 (c := 1) (by decide)
  | true =>
    obtain ⟨p1, p2, p3⟩ := btw_x hp
    rw [n0t, if_pos rfl, m_gI (by decide) (by decide), M0.thr, m_pI (by decide) (by decide), m_rc]
    obtain ⟨I3, e1, e2, e3, e4, e5⟩ := q_chg (h := h) (mo := mo) (I := upd I0 7 p) (A := A) false (by rw [upd_n (by decide)]; exact w0.2.2.2.1.z)
    rw [show (0 : Int32) = bI false from rfl, e1, cV_rt]
    refine MEnd.of rfl (w.chg (b := false) (I1 := upd I0 7 p) (u0.tr (Un.uI (by decide))) ?_ e2 e3 e4 e5) (by rw [e5.1 0 (by decide), upd_n (by decide)]; exact z0) (fun _ => rfl)
    exact ⟨M0.mem, M0.byt, by rw [upd_n (by decide)]; exact M0.siz, M0.n96, by rw [upd_n (by decide)]; exact M0.ecn, M0.e4, M0.ent, M0.eln, by rw [upd_s]; exact p1, ⟨p2, p3⟩⟩
theorem o_val (w : MW I A W) (p : Int32) : MEnd mo h (f_X3_isValid (some mo) p (EM h mo I A)) (w_val p W) := by
  unfold f_X3_isValid w_val f_X3_isValid_J14
  have M0 : MIg I A (wI W) := w.1
  have hn := M0.n96
  rw [m_rc, q_adr M0, cI_rt]
  cases hp : ad (gn (wI W)) p with
  | false =>
    rw [b0f, if_neg (by decide), m_pI (by decide) (by decide), m_gI (by decide) (by decide), upd_s, if_pos (by decide), rtZ0]
    exact MEnd.of rfl (w.th 1) upd_s (fun z => by cases z)
  | true =>
    obtain ⟨p1, p2⟩ := ad_x hp
    have M1 : MIg (upd I 0 0) A (wI W) := (w.th 0).1
    rw [b0t, if_pos rfl, m_pI (by decide) (by decide), m_gI (by decide) (by decide), upd_s, if_neg (by decide), m_rc]
    conv => arg 3; rw [p1]
    rw [q_snd M1 (by omega), cI_rt]
    refine MEnd.of (b := bI (zv (gm (wI W)) (gn (wI W)) (adx p))) ?_ (w.th 0) upd_s (fun _ => rfl)
    cases zv (gm (wI W)) (gn (wI W)) (adx p) with
    | true => rw [b0t, rtZ1]; rfl
    | false => rw [b0f, rtZ0]; rfl
theorem o_rec (w : MW I A W) : MEnd mo h (f_X3_recover (some mo) (EM h mo I A)) (w_rec W) := by
  obtain ⟨w1, w2, w3, w4, w5, w6, w7⟩ := w
  obtain ⟨I1, A1, d1, d2, d3, d4, d5⟩ := q_recover (h := h) (mo := mo) w1
  have hg := (dS_g (m := gm (wI W)) (n := gn (wI W)) (es := ge (wI W)) (fun i hi => w1.byt i (by have := w1.n96; omega)) w1.n96 w1.eln w1.e4).1.2.2.2.2.2.2.2.2.2.2
  have hc := c2_le (n := gn (wI W)) (u := (dS (gm (wI W)) (gn (wI W)) (ge (wI W))).1)
  have hn := w1.n96
  have h27 : ∃ k, k ≤ 48 ∧ I1 27 = nI k := by
    obtain ⟨P, U, r1, r2, r3, r4, r5, r6, r7, r8, r9⟩ := d2.1
    exact ⟨_, by omega, r8⟩
  refine MEnd.of d1 ⟨w1.un d3 (by decide) (by decide) (by decide) (by decide) (by decide), w2.un d3 (by decide) (by decide) (by decide) (by decide) (by decide) (by decide), ⟨fun z => (by cases z), fun _ => ⟨d5, d2⟩⟩, w4.un d3 (by decide) (by decide) (by decide), w5.un d3 (by decide) (by decide), ?_, h27⟩ d4 (fun _ => rfl)
  show I1 14 = wF W
  rw [d3.1 14 (by decide)]; exact w6
theorem rnn_b {m : Nat → Nat} {n : Nat} : ∀ (k e : Nat) (ex : Nat → Nat) (R : RSt) (o : Option Nat), (∀ a, ex a ≤ e) → ∀ a, (rnn m n k ex R o).1 a ≤ e + k
  | 0, e, ex, R, o, h, a => h a
  | k + 1, e, ex, R, o, h, a => by
    cases o with
    | none => have := h a; show ex a ≤ _; omega
    | some x =>
      unfold rnn
      simp only
      split
      · have := rnn_b (m := m) (n := n) k (e + 1) (updN ex x (ex x + 1)) (stp m n R x).1 (stp m n R x).2 (fun b => by
          have h1 := h b
          have h2 := h x
          unfold updN
          split <;> omega) a
        simp only
        omega
      · have := h a; show ex a ≤ _; omega
theorem rn_b {m : Nat → Nat} {n x a : Nat} : (rn m n x).1 a ≤ 200 := by
  have := rnn_b (m := m) (n := n) 200 0 (fun _ => 0) run0 (some x) (fun _ => Nat.le_refl _) a
  unfold rn
  omega
theorem o_run (w : MW I A W) (p : Int32) : MEnd mo h (f_X3_run (some mo) p (EM h mo I A)) (w_run p W) := by
  unfold w_run
  have M0 : MIg I A (wI W) := w.1
  cases hp : ad (gn (wI W)) p with
  | false =>
    rw [if_neg (by decide)]
    unfold f_X3_run
    rw [m_pI (by decide) (by decide), m_rc, q_adr (show MIg (upd I 0 0) A (wI W) from (w.th 0).1), cI_rt, hp, n0f]
    exact q_failE (w.th 0) (c := 1) (by decide)
  | true =>
    obtain ⟨p1, p2⟩ := ad_x hp
    rw [if_pos rfl]
    conv => arg 3; rw [p1]
    obtain ⟨w1, w2, w3, w4, w5, w6, w7⟩ := w
    obtain ⟨I1, A1, d1, d2, d3, d4, d5, d6⟩ := q_run (h := h) (mo := mo) M0 p2
    refine MEnd.of d1 ⟨w1.un d6 (by decide) (by decide) (by decide) (by decide) (by decide), w2.un d6 (by decide) (by decide) (by decide) (by decide) (by decide) (by decide), w3.un d6 (by decide) (by decide) (by decide), ⟨fun z => (by cases z), fun x z => by cases z; exact ⟨d5, d2, d3, fun _ => rn_b⟩⟩, w5.un d6 (by decide) (by decide), ?_, by rw [d6.1 27 (by decide)]; exact w7⟩ d4 (fun _ => rfl)
    show I1 14 = wF W
    rw [d6.1 14 (by decide)]; exact w6
end
