/-! PURE: the model's answers, 2 -/
set_option maxRecDepth 100000
def w_flt (W : WS) : OR := (0, wF W, W)
def w_siz (W : WS) : OR := (0, nI (gn (wI W)), W)
def w_ent (W : WS) : OR := (0, nI (ge (wI W)).length, W)
section
variable {li la : List Nat} {I I' I2 : Nat → Int32} {A A' A2 : Nat → Nat → Int32} {h : AH} {mo : Nat} {W : WS}
theorem o_flt (w : MW I A W) : MEnd mo h (f_X3_faultPosition (some mo) (EM h mo I A)) (w_flt W) := by
  unfold f_X3_faultPosition w_flt
  rw [m_pI (by decide) (by decide), m_gI (by decide) (by decide), (w.th 0).2.2.2.2.2.1]
  exact MEnd.of rfl (w.th 0) upd_s (fun _ => rfl)
theorem o_siz (w : MW I A W) : MEnd mo h (f_X3_size (some mo) (EM h mo I A)) (w_siz W) := by
  unfold f_X3_size w_siz
  rw [m_pI (by decide) (by decide), m_gI (by decide) (by decide), (w.th 0).1.siz]
  exact MEnd.of rfl (w.th 0) upd_s (fun _ => rfl)
theorem o_ent (w : MW I A W) : MEnd mo h (f_X3_entryCount (some mo) (EM h mo I A)) (w_ent W) := by
  unfold f_X3_entryCount w_ent
  rw [m_pI (by decide) (by decide), m_gI (by decide) (by decide), (w.th 0).1.ecn]
  exact MEnd.of rfl (w.th 0) upd_s (fun _ => rfl)
theorem q_cmpL {m u : Nat → Nat} {n t : Nat} {es : List Nat} {tb : List TT} (M : MI I A m n es t) (U : MU A m u) (g : UG m n u) (T : MT I A n tb) {tt : Nat} (htt : tt < tb.length) {K : Int32 → AH → RS} : ∀ (k f c : Nat) (b : Bool), c + k = (tb.getD tt T0).2.2.2.length → k < f →
    f_X3_isComplete_L24 K f (some mo) (nI tt) (bI b) (nI c) (EM h mo I A) = K (bI (b && ((tb.getD tt T0).2.2.2.drop c).all (fun p => decide (u (m p) = 1)))) (EM h mo I A) := by
  have hn := M.n96
  obtain ⟨t1, t2, t3, t4⟩ := T
  obtain ⟨e1, e2, e3, e4, e5⟩ := t3 tt htt
  obtain ⟨f1, f2, f3⟩ := t4 _ (getT_mem htt)
  intro k
  induction k with
  | zero =>
    intro f c b h1 h2
    obtain ⟨f, rfl⟩ : ∃ f', f = f' + 1 := ⟨f - 1, by omega⟩
    unfold f_X3_isComplete_L24
    rw [m_gA (by decide) (by decide), m_lI0 (by decide) (by decide) (by decide) (show tt < 48 by omega), e4, if_pos (nI_le (by omega) (by omega)), List.drop_eq_nil_of_le (by omega)]
    simp
  | succ k ih =>
    intro f c b h1 h2
    obtain ⟨f, rfl⟩ : ∃ f', f = f' + 1 := ⟨f - 1, by omega⟩
    have hd := drop_g (l := (tb.getD tt T0).2.2.2) (j := c) 0 (by omega)
    have hp := f3 _ (getD_mem (ys := (tb.getD tt T0).2.2.2) (i := c) (by omega))
    have hby := M.byt _ (show (tb.getD tt T0).2.2.2.getD c 0 < 96 by omega)
    unfold f_X3_isComplete_L24 f_X3_isComplete_J65 f_X3_isComplete_J66
    rw [m_gA (by decide) (by decide), m_lI0 (by decide) (by decide) (by decide) (show tt < 48 by omega), e4, if_neg (fun z => by have := (nI_leI (by omega) (by omega)).mp z; omega), nI_1, hd, List.all_cons]
    cases b with
    | false => rw [b0f, show (0 : Int32) = bI false from rfl, ih f (c + 1) false (by omega) (by omega)]; simp
    | true =>
      rw [b0t, m_gA (by decide) (by decide), m_gA (by decide) (by decide), lit 16, nI_mul, nI_add, m_lI0 (by decide) (by decide) (by decide) (show 16 * tt + c < 768 by omega), e5 c (by omega), m_lI0 (by decide) (by decide) (by decide) (show (tb.getD tt T0).2.2.2.getD c 0 < 96 by omega), M.mem _ (by omega), m_rc, q_isB M U g (by omega), cI_rt]
      by_cases hmx : u (m ((tb.getD tt T0).2.2.2.getD c 0)) = 1
      · rw [decide_eq_true hmx, b0t, show (1 : Int32) = bI true from rfl, ih f (c + 1) true (by omega) (by omega)]; simp
      · rw [decide_eq_false hmx, b0f, show (0 : Int32) = bI false from rfl, ih f (c + 1) false (by omega) (by omega)]; simp
theorem o_cmp (w : MW I A W) (p : Int32) : MEnd mo h (f_X3_isComplete (some mo) p (EM h mo I A)) (w_cmp p W) := by
  unfold f_X3_isComplete w_cmp
  rw [m_gI (by decide) (by decide), q_in, cI_rt]
  refine o_refu w (Y := fun h4 => rtZ 0 h4) (by funext x; exact rtZ0 x) (fun hr => ?_) (fun hr hp => ?_)
  · have T := MRv.mt w.1 (w.rt hr).2
    rw [T.1]
    exact ad_in (by have := T.2.1; omega)
  · obtain ⟨p1, p2⟩ := ad_x hp
    conv => arg 3; rw [p1]
    have w0 := w.th 0
    have V := (w0.rt hr).2
    have T := MRv.mt w0.1 V
    have hl := (T.2.2.2 _ (getT_mem p2)).2.1
    have := q_cmpL (h := h) (mo := mo) w0.1 V.mu w0.1.ug T p2 (K := fun x31 h32 => rtZ x31 h32) _ FUEL 0 true (by rw [Nat.zero_add]) (by unfold FUEL; omega)
    refine MEnd.cg (MEnd.of (b := bI (tCmp (wI W) ((rTb (wI W)).getD (adx p) T0))) ?_ w0 upd_s (fun _ => rfl)) this
    rw [rtZB, List.drop_zero, Bool.true_and]; rfl
theorem o_blN (w : MW I A W) : MEnd mo h (f_X3_blockCount (some mo) (EM h mo I A)) (w_blN W) := by
  unfold f_X3_blockCount w_blN
  rw [m_gI (by decide) (by decide)]
  cases hr : wR W with
  | false =>
    rw [w.2.2.1.1 hr, if_pos rfl]
    exact o_ofR w (fun z => by rw [hr] at z; cases z)
  | true =>
    have V := (w.rt hr).2
    rw [(w.rt hr).1, if_neg (by decide), m_rc, q_blocks w.1 V.mu w.1.ug (MRv.mt w.1 V), cI_rt]
    exact o_ofR w (fun _ => rfl)
theorem q_bl55 {m u : Nat → Nat} {n t : Nat} {es : List Nat} {tb : List TT} (M : MI I A m n es t) (U : MU A m u) (g : UG m n u) (T : MT I A n tb) {q : Int32} {K : Option Nat → Int32 → Int32 → AH → RS} : ∀ (f a k F : Nat), a + f = n → f < F → cnt (isL m u n es tb) a + k < cnt (isL m u n es tb) n →
    f_X3_block_L55 K F (some mo) q (nI k) (nI a) (EM h mo I A) = K (some mo) q (nI (kth (isL m u n es tb) f a k)) (EM h mo I A) := by
  have hn := M.n96
  intro f
  induction f with
  | zero => intro a k F h1 h2 h3; rw [show a = n by omega] at h3; omega
  | succ f ih =>
    intro a k F h1 h2 h3
    obtain ⟨F, rfl⟩ : ∃ F', F = F' + 1 := ⟨F - 1, by omega⟩
    have e := cnt_s1 (L := isL m u n es tb) (a := a)
    have hcn := cnt_le (isL m u n es tb) n
    unfold f_X3_block_L55 f_X3_block_J68 f_X3_block_J83
    rw [m_rc, q_isL M U g T (by omega), cI_rt, nI_1]
    unfold kth
    cases hL : isL m u n es tb a with
    | true =>
      rw [hL, if_pos rfl] at e
      rw [b0t, if_pos rfl]
      by_cases hk : k = 0
      · rw [if_pos (by rw [hk]; decide), if_pos hk]
      · rw [if_neg (nI_nle (by omega) (by omega)), if_neg hk, m_rc, q_isL M U g T (by omega), cI_rt, hL, b0t, nI_s1 (by omega)]
        exact ih (a + 1) (k - 1) F (by omega) (by omega) (by omega)
    | false =>
      rw [hL, if_neg (by decide)] at e
      rw [b0f, if_neg (by decide), m_rc, q_isL M U g T (by omega), cI_rt, hL, b0f, Int32.sub_zero]
      exact ih (a + 1) k F (by omega) (by omega) (by omega)
theorem o_bl (w : MW I A W) (p q : Int32) : MEnd mo h (f_X3_block (some mo) p q (EM h mo I A)) (w_bl p q W) := by
  unfold f_X3_block f_X3_block_J26 w_bl
  have hn := w.1.n96
  have hcn := cnt_le (rL (wI W)) (gn (wI W))
  have J27 : ∀ b b' : Bool, (wR W = true → b' = b) → (wR W = true → b = true → ad (cnt (rL (wI W)) (gn (wI W))) p = true) → MEnd mo h (f_X3_block_J27 (some mo) p q (bI b') (some mo) (EM h mo I A)) (rf W b (if btw q 0 2 = true then (0, bPart (wI W) (kth (rL (wI W)) (gn (wI W)) 0 (adx p)) (adx q), W) else (3, 0, W))) := by
    intro b b' hb hpb
    unfold f_X3_block_J27
    refine o_refu w rfl hb (fun hr hbt => ?_)
    obtain ⟨p1, p2⟩ := ad_x (hpb hr hbt)
    have w0 := w.th 0
    have V := (w0.rt hr).2
    have T := MRv.mt w0.1 V
    rw [show (2 : Int32) = nI 2 from rfl, q_btw0 (by decide), cI_rt]
    cases hq : btw q 0 2 with
    | false => rw [n0f, if_neg (by decide)]; exact q_failE w0 (c := 3) (by decide)
    | true =>
      obtain ⟨q1, q2, q3⟩ := btw_x hq
      obtain ⟨k1, k2⟩ := kth_0 p2
      have hua : rU (wI W) (kth (rL (wI W)) (gn (wI W)) 0 (adx p)) = 1 := by
        have := k1.1
        unfold rL isL at this
        rw [Bool.and_eq_true] at this
        exact of_decide_eq_true this.1
      obtain ⟨l, l1, l2⟩ := q_bsz (h := h) (mo := mo) w0.1 V.mu w0.1.ug T hua
      rw [n0t, if_pos rfl]
      conv => arg 3; rw [p1]
      have e55 := q_bl55 (h := h) (mo := mo) w0.1 V.mu w0.1.ug T (q := q) (K := fun x40 x41 x42 h43 => xrc h43 x40 2 (xcI (f_X3_blockSize x40 x42 h43) (fun v45 h44 => if ¬ x41 = 0 then if ¬ x41 = 1 then xgI h44 x40 2 44 (fun v46 => rtI v46 h44) else rtI v45 h44 else rtI x42 h44))) (gn (wI W)) 0 (adx p) FUEL (by omega) (by unfold FUEL; omega) (by show 0 + adx p < _; rw [Nat.zero_add]; exact p2)
      refine MEnd.cg ?_ e55
      show MEnd mo h (xrc _ _ _ (xcI (f_X3_blockSize (some mo) (nI (kth (rL (wI W)) (gn (wI W)) 0 (adx p))) (EM h mo (upd I 0 0) A)) _)) _
      rw [m_rc, l2, cI_rt]
      have w1 := w0.un (I' := upd (upd I 0 0) 44 (nI l)) (A' := A) (Un.uI (by decide))
      have z1 : upd (upd I 0 0) 44 (nI l) 0 = nI 0 := by rw [upd_n (by decide)]; exact upd_s
      have hgl : (rB (wI W) (kth (rL (wI W)) (gn (wI W)) 0 (adx p))).getLastD 0 = l := by
        rw [List.getLastD_eq_getLast?]
        show (bkl _ _ _ _ _ _).getLast?.getD 0 = l
        rw [l1]; rfl
      unfold bPart
      by_cases c0 : adx q = 0
      · rw [if_neg (fun z => z (show q = 0 from (btw_i (k := 0) (by decide) hq).mpr c0)), if_pos c0]
        exact MEnd.of rfl w1 z1 (fun _ => rfl)
      · rw [if_pos (show ¬ q = 0 from fun z => c0 ((btw_i (k := 0) (by decide) hq).mp z)), if_neg c0]
        by_cases c1 : adx q = 1
        · rw [if_neg (fun z => z (show q = 1 from (btw_i (k := 1) (by decide) hq).mpr c1)), if_pos c1]
          exact MEnd.of rfl w1 z1 (fun _ => rfl)
        · rw [if_pos (show ¬ q = 1 from fun z => c1 ((btw_i (k := 1) (by decide) hq).mp z)), if_neg c1, m_gI (by decide) (by decide), upd_s, hgl]
          exact MEnd.of rfl w1 z1 (fun _ => rfl)
  rw [m_gI (by decide) (by decide)]
  cases hr : wR W with
  | false =>
    rw [w.2.2.1.1 hr, if_pos rfl, show (0 : Int32) = bI false from rfl]
    exact J27 _ false (fun z => by rw [hr] at z; cases z) (fun z => by rw [hr] at z; cases z)
  | true =>
    have V := (w.rt hr).2
    rw [(w.rt hr).1, if_neg (by decide), m_rc, q_blocks w.1 V.mu w.1.ug (MRv.mt w.1 V), cI_rt, q_ad (by show cnt (rL (wI W)) _ ≤ 96; omega), cI_rt]
    cases hp : ad (cnt (rL (wI W)) (gn (wI W))) p with
    | false =>
      have hp' : ad (cnt (isL (gm (wI W)) (rU (wI W)) (gn (wI W)) (ge (wI W)) (rTb (wI W))) (gn (wI W))) p = false := hp
      rw [hp', b0f, show (0 : Int32) = bI false from rfl]
      exact J27 false false (fun _ => rfl) (fun _ z => by cases z)
    | true =>
      have hp' : ad (cnt (isL (gm (wI W)) (rU (wI W)) (gn (wI W)) (ge (wI W)) (rTb (wI W))) (gn (wI W))) p = true := hp
      rw [hp', b0t, show (1 : Int32) = bI true from rfl]
      exact J27 true true (fun _ => rfl) (fun _ _ => hp)
theorem q_fnL {m u : Nat → Nat} {n t : Nat} {es : List Nat} (M : MI I A m n es t) (U : MU A m u) (g : UG m n u) (h15 : I 15 = 1) {K : Option Nat → Int32 → AH → RS} : ∀ (k f c : Nat), c + k = n → k < f →
    f_X3_functionCount_L4 K f (some mo) (nI (cnt (isH m u n es) c)) (nI c) (EM h mo I A) = K (some mo) (nI (cnt (isH m u n es) n)) (EM h mo I A) := by
  have hn := M.n96
  intro k
  induction k with
  | zero =>
    intro f c h1 h2
    obtain ⟨f, rfl⟩ : ∃ f', f = f' + 1 := ⟨f - 1, by omega⟩
    unfold f_X3_functionCount_L4
    rw [m_gI (by decide) (by decide), M.siz, if_pos (nI_le (by omega) (by omega)), show c = n by omega]
  | succ k ih =>
    intro f c h1 h2
    obtain ⟨f, rfl⟩ : ∃ f', f = f' + 1 := ⟨f - 1, by omega⟩
    unfold f_X3_functionCount_L4 f_X3_functionCount_J33
    rw [m_gI (by decide) (by decide), M.siz, if_neg (fun z => by have := (nI_leI (by omega) (by omega)).mp z; omega), m_gI (by decide) (by decide), h15, if_neg (by decide), m_rc, q_isH M U g (by omega), cI_rt, nI_1]
    have ih' := ih f (c + 1) (by omega) (by omega)
    rw [cnt_s1] at ih'
    cases hL : isH m u n es c with
    | true =>
      rw [hL, if_pos rfl] at ih'
      rw [b0t, nI_1, ih']
    | false =>
      rw [hL, if_neg (by decide)] at ih'
      rw [b0f, Int32.add_zero]
      exact ih'
theorem o_fnN (w : MW I A W) : MEnd mo h (f_X3_functionCount (some mo) (EM h mo I A)) (w_fnN W) := by
  unfold f_X3_functionCount w_fnN
  have hn := w.1.n96
  cases hr : wR W with
  | false =>
    have e : ∀ K : Option Nat → Int32 → AH → RS, f_X3_functionCount_L4 K FUEL (some mo) 0 0 (EM h mo I A) = K (some mo) 0 (EM h mo I A) := fun K => by
      obtain ⟨F, hF⟩ : ∃ F, FUEL = F + 1 := ⟨99999, rfl⟩
      rw [hF]
      unfold f_X3_functionCount_L4
      rw [m_gI (by decide) (by decide), m_gI (by decide) (by decide), w.2.2.1.1 hr, if_pos rfl, ite_self]
    rw [e]
    unfold f_X3_functionCount_J41
    exact o_ofR w (fun z => by rw [hr] at z; cases z)
  | true =>
    have V := (w.rt hr).2
    have e := q_fnL (h := h) (mo := mo) w.1 V.mu w.1.ug (w.rt hr).1 (K := fun x17 x18 h19 => f_X3_functionCount_J41 x17 x18 h19) (gn (wI W)) FUEL 0 (by omega) (by unfold FUEL; omega)
    refine MEnd.cg ?_ e
    unfold f_X3_functionCount_J41
    exact o_ofR w (fun _ => rfl)
theorem o_fn (w : MW I A W) (p : Int32) : MEnd mo h (f_X3_functionSize (some mo) p (EM h mo I A)) (w_fn p W) := by
  unfold f_X3_functionSize w_fn
  have hn := w.1.n96
  rw [m_rc, q_adr w.1, cI_rt]
  refine o_refu w rfl (fun _ => rfl) (fun hr hp => ?_)
  obtain ⟨p1, p2⟩ := ad_x hp
  have p2 : adx p < gn (wI W) := p2
  have w0 := w.th 0
  have V := (w0.rt hr).2
  have T := MRv.mt w0.1 V
  conv => arg 3; rw [p1]
  rw [m_rc, q_isH w0.1 V.mu w0.1.ug (by omega), cI_rt]
  cases hH : rH (wI W) (adx p) with
  | false =>
    have hH' : isH (gm (wI W)) (rU (wI W)) (gn (wI W)) (ge (wI W)) (adx p) = false := hH
    rw [hH', n0f, if_neg (by decide)]
    exact q_failE w0 (c := 3) (by decide)
  | true =>
    have hH' : isH (gm (wI W)) (rU (wI W)) (gn (wI W)) (ge (wI W)) (adx p) = true := hH
    have hua : rU (wI W) (adx p) = 1 := by
      unfold isH at hH'
      rw [Bool.and_eq_true] at hH'
      exact of_decide_eq_true hH'.1
    rw [hH', n0t, if_pos rfl]
    obtain ⟨I1, A1, d1, d2⟩ := q_reach (h := h) (mo := mo) w0.1 V.mu w0.1.ug T hua
    refine MEnd.cg (MEnd.of rfl (w0.un (d2.w (by decide) (by decide))) ?_ (fun _ => rfl)) d1
    rw [d2.1 0 (by decide)]; exact upd_s
theorem o_exA (w : MW I A W) (p : Int32) : MEnd mo h (f_X3_executedAt (some mo) p (EM h mo I A)) (w_exA p W) := by
  unfold f_X3_executedAt f_X3_executedAt_J25 w_exA
  have hn := w.1.n96
  have N := w.2.2.2.1
  rw [m_gI (by decide) (by decide)]
  cases hr : wN W with
  | none =>
    rw [N.1 hr, if_pos rfl, m_pI (by decide) (by decide), m_gI (by decide) (by decide), upd_s, if_pos (by decide)]
    exact MEnd.of rfl (w.th 1) upd_s (fun z => by cases z)
  | some r =>
    obtain ⟨n1, n2, n3, n4⟩ := N.2 r hr
    rw [n1, if_neg (by decide), m_rc, q_adr w.1, cI_rt]
    simp only
    cases hp : ad (gn (wI W)) p with
    | false =>
      rw [b0f, m_pI (by decide) (by decide), m_gI (by decide) (by decide), upd_s, if_pos (by decide), if_neg (by decide)]
      exact MEnd.of rfl (w.th 2) upd_s (fun z => by cases z)
    | true =>
      obtain ⟨p1, p2⟩ := ad_x hp
      conv => arg 3; rw [p1]
      rw [b0t, m_pI (by decide) (by decide), m_gI (by decide) (by decide), upd_s, if_neg (by decide), if_pos rfl, m_gA (by decide) (by decide), m_lI0 (by decide) (by decide) (by decide) (show adx p < 96 by omega), n2 _ (by omega)]
      exact MEnd.of rfl (w.th 0) upd_s (fun _ => rfl)
theorem o_reg (w : MW I A W) (p : Int32) : MEnd mo h (f_X3_register (some mo) p (EM h mo I A)) (w_reg p W) := by
  unfold f_X3_register f_X3_register_J26 w_reg
  have N := w.2.2.2.1
  rw [m_gI (by decide) (by decide)]
  cases hr : wN W with
  | none =>
    rw [N.1 hr, if_pos rfl, m_pI (by decide) (by decide), m_gI (by decide) (by decide), upd_s, if_pos (by decide)]
    exact MEnd.of rfl (w.th 1) upd_s (fun z => by cases z)
  | some r =>
    obtain ⟨n1, n2, n3, n4⟩ := N.2 r hr
    rw [n1, if_neg (by decide), show (3 : Int32) = nI 3 from rfl, q_btw0 (by decide), cI_rt]
    simp only
    cases hp : btw p 0 3 with
    | false =>
      rw [b0f, m_pI (by decide) (by decide), m_gI (by decide) (by decide), upd_s, if_pos (by decide), if_neg (by decide)]
      exact MEnd.of rfl (w.th 2) upd_s (fun z => by cases z)
    | true =>
      obtain ⟨p1, p2, p3⟩ := btw_x hp
      conv => arg 3; rw [p1]
      rw [b0t, m_pI (by decide) (by decide), m_gI (by decide) (by decide), upd_s, if_neg (by decide), if_pos rfl, m_gA (by decide) (by decide), m_lI0 (by decide) (by decide) (by decide) (show adx p < 4 by omega), n3 _ (by omega)]
      exact MEnd.of rfl (w.th 0) upd_s (fun _ => rfl)
theorem q_unX {m : Nat → Nat} {n t : Nat} {es : List Nat} (M : MI I A m n es t) {K : Option Nat → Int32 → AH → RS} : ∀ (k f c : Nat) (x : Int32), c + k = n → k < f → ∃ v, f_X3_unrecovered_L27 K f (some mo) x (nI c) (EM h mo I A) = K (some mo) v (EM h mo I A) := by
  have hn := M.n96
  intro k
  induction k with
  | zero =>
    intro f c x h1 h2
    obtain ⟨f, rfl⟩ : ∃ f', f = f' + 1 := ⟨f - 1, by omega⟩
    unfold f_X3_unrecovered_L27
    rw [m_gI (by decide) (by decide), M.siz, if_pos (nI_le (by omega) (by omega))]
    exact ⟨x, rfl⟩
  | succ k ih =>
    intro f c x h1 h2
    obtain ⟨f, rfl⟩ : ∃ f', f = f' + 1 := ⟨f - 1, by omega⟩
    unfold f_X3_unrecovered_L27 f_X3_unrecovered_J58 f_X3_unrecovered_J59
    rw [m_gI (by decide) (by decide), M.siz, if_neg (fun z => by have := (nI_leI (by omega) (by omega)).mp z; omega), m_gA (by decide) (by decide), m_lI0 (by decide) (by decide) (by decide) (show c < 96 by omega), m_gA (by decide) (by decide), m_lI0 (by decide) (by decide) (by decide) (show c < 96 by omega), nI_1]
    split
    · exact ih f (c + 1) _ (by omega) (by omega)
    · split
      · exact ih f (c + 1) _ (by omega) (by omega)
      · exact ih f (c + 1) _ (by omega) (by omega)
theorem q_unL {m u ex : Nat → Nat} {n t : Nat} {es : List Nat} (M : MI I A m n es t) (U : MU A m u) (h40 : ∀ a, a < 96 → A 40 a = nI (ex a)) (hex : ∀ a, ex a ≤ 200) {K : Option Nat → Int32 → AH → RS} : ∀ (k f c : Nat), c + k = n → k < f → f_X3_unrecovered_L27 K f (some mo) (nI (cnt (fun a => decide (0 < ex a) && decide (u a ≠ 1)) c)) (nI c) (EM h mo I A) = K (some mo) (nI (cnt (fun a => decide (0 < ex a) && decide (u a ≠ 1)) n)) (EM h mo I A) := by
  have hn := M.n96
  intro k
  induction k with
  | zero =>
    intro f c h1 h2
    obtain ⟨f, rfl⟩ : ∃ f', f = f' + 1 := ⟨f - 1, by omega⟩
    unfold f_X3_unrecovered_L27
    rw [m_gI (by decide) (by decide), M.siz, if_pos (nI_le (by omega) (by omega)), show c = n by omega]
  | succ k ih =>
    intro f c h1 h2
    obtain ⟨f, rfl⟩ : ∃ f', f = f' + 1 := ⟨f - 1, by omega⟩
    have he := hex c
    have hz := zl_12 m c
    unfold f_X3_unrecovered_L27 f_X3_unrecovered_J58 f_X3_unrecovered_J59
    rw [m_gI (by decide) (by decide), M.siz, if_neg (fun z => by have := (nI_leI (by omega) (by omega)).mp z; omega), m_gA (by decide) (by decide), m_lI0 (by decide) (by decide) (by decide) (show c < 96 by omega), m_gA (by decide) (by decide), m_lI0 (by decide) (by decide) (by decide) (show c < 96 by omega), nI_1, h40 c (by omega), U.1 c (by omega), Int32.add_zero, nI_1]
    have ih' := ih f (c + 1) (by omega) (by omega)
    rw [cnt_s1] at ih'
    by_cases hx : 0 < ex c
    · rw [if_neg (nI_nle hx (by omega))]
      by_cases hu : u c = 1
      · rw [if_pos hu, if_pos (nI_ne0 (by omega) (by omega))]
        rw [if_neg (by simp [hu])] at ih'
        exact ih'
      · rw [if_neg hu, if_neg (fun z => z rfl)]
        rw [if_pos (by simp [hx, hu])] at ih'
        exact ih'
    · rw [if_pos (by rw [show ex c = 0 by omega]; decide)]
      rw [if_neg (by simp [hx])] at ih'
      exact ih'
theorem o_unr (w : MW I A W) : MEnd mo h (f_X3_unrecovered (some mo) (EM h mo I A)) (w_unr W) := by
  unfold f_X3_unrecovered f_X3_unrecovered_J19 f_X3_unrecovered_J20 w_unr
  have hn := w.1.n96
  have N := w.2.2.2.1
  have bad : MEnd mo h (xpF (EM h mo I A) (some mo) 2 0 (.int 1) (fun h9 => f_X3_unrecovered_L27 (fun x31 x32 h33 => xgI h33 x31 2 0 (fun v34 => if ¬ v34 = 0 then rtI 0 h33 else rtI x32 h33)) FUEL (some mo) 0 0 h9)) (1, 0, W) := by
    rw [m_pI (by decide) (by decide)]
    obtain ⟨v, hv⟩ := q_unX (h := h) (mo := mo) (w.th 1).1 (K := fun x31 x32 h33 => xgI h33 x31 2 0 (fun v34 => if ¬ v34 = 0 then rtI 0 h33 else rtI x32 h33)) (gn (wI W)) FUEL 0 0 (by omega) (by unfold FUEL; omega)
    refine MEnd.cg ?_ hv
    rw [m_gI (by decide) (by decide), upd_s, if_pos (by decide)]
    exact MEnd.of rfl (w.th 1) upd_s (fun z => by cases z)
  rw [m_gI (by decide) (by decide)]
  cases hr : wR W with
  | false =>
    rw [w.2.2.1.1 hr, if_pos rfl, if_neg (by decide)]
    exact bad
  | true =>
    have V := ((w.th 0).rt hr).2
    rw [(w.rt hr).1, if_neg (by decide), m_gI (by decide) (by decide), if_pos rfl]
    cases hN : wN W with
    | none =>
      rw [N.1 hN, if_pos rfl]
      exact bad
    | some r =>
      obtain ⟨n1, n2, n3, n4⟩ := N.2 r hN
      rw [n1, if_neg (by decide), m_pI (by decide) (by decide)]
      have e := q_unL (h := h) (mo := mo) (w.th 0).1 V.mu n2 n4 (K := fun x31 x32 h33 => xgI h33 x31 2 0 (fun v34 => if ¬ v34 = 0 then rtI 0 h33 else rtI x32 h33)) (gn (wI W)) FUEL 0 (by omega) (by unfold FUEL; omega)
      refine MEnd.cg ?_ e
      rw [m_gI (by decide) (by decide), upd_s, if_neg (by decide)]
      exact MEnd.of rfl (w.th 0) upd_s (fun _ => rfl)
theorem o_dec (w : MW I A W) (p q : Int32) : MEnd mo h (f_X3_decode (some mo) p q (EM h mo I A)) (w_dec p q W) := by
  unfold f_X3_decode w_dec
  rw [m_pI (by decide) (by decide)]
  have w0 := w.th 0
  have z0 : upd I 0 0 0 = (0 : Int32) := upd_s
  generalize upd I 0 0 = I0 at w0 z0 ⊢
  have M0 : MIg I0 A (wI W) := w0.1
  rw [m_rc, q_adr M0, cI_rt]
  cases hp : ad (gn (wI W)) p with
  | false => rw [n0f, if_neg (by decide)]; exact q_failE w0 (c := 1) (by decide)
  | true =>
    obtain ⟨p1, p2⟩ := ad_x hp
    have hn := M0.n96
    rw [n0t, if_pos rfl, show (5 : Int32) = nI 5 from rfl, q_btw0 (by decide), cI_rt]
    cases hq : btw q 0 5 with
    | false => rw [n0f, if_neg (by decide)]; exact q_failE w0 (c := 2) (by decide)
    | true =>
      obtain ⟨q1, q2, q3⟩ := btw_x hq
      rw [n0t, if_pos rfl, m_rc]
      conv => arg 3; rw [p1]
      rw [q_snd M0 (by omega), cI_rt]
      cases hv : zv (gm (wI W)) (gn (wI W)) (adx p) with
      | false => rw [n0f, if_neg (by decide)]; exact q_failE w0 (c := 3) (by decide)
      | true =>
        obtain ⟨v1, v2, v3, v4⟩ := zv_f hv
        have hk16 := M0.k16 (a := adx p) (by omega)
        have hby := M0.byt (adx p) (by omega)
        have hz := zl_12 (gm (wI W)) (adx p)
        rw [n0t, if_pos rfl]
        by_cases c0 : adx q = 0
        · rw [if_pos (show q = 0 from (btw_i (k := 0) (by decide) hq).mpr c0), if_pos c0, m_rc, q_sort M0 (by omega), cI_rt]
          exact MEnd.of rfl w0 z0 (fun _ => rfl)
        · rw [if_neg (show ¬ q = 0 from fun z => c0 ((btw_i (k := 0) (by decide) hq).mp z)), if_neg c0]
          by_cases c1 : adx q = 1
          · rw [if_pos (show q = 1 from (btw_i (k := 1) (by decide) hq).mpr c1), if_pos c1, m_rc, q_sort M0 (by omega), cI_rt, q_len hk16, cI_rt, zL_zl v2]
            exact MEnd.of rfl w0 z0 (fun _ => rfl)
          · rw [if_neg (show ¬ q = 1 from fun z => c1 ((btw_i (k := 1) (by decide) hq).mp z)), if_neg c1]
            by_cases c2 : adx q = 2
            · rw [if_pos (show q = 2 from (btw_i (k := 2) (by decide) hq).mpr c2), if_pos c2, m_rc, q_first M0 (by omega), cI_rt]
              exact MEnd.of rfl w0 z0 (fun _ => rfl)
            · rw [if_neg (show ¬ q = 2 from fun z => c2 ((btw_i (k := 2) (by decide) hq).mp z)), if_neg c2]
              by_cases c3 : adx q = 3
              · rw [if_pos (show q = 3 from (btw_i (k := 3) (by decide) hq).mpr c3), if_pos c3, m_gA (by decide) (by decide), m_lI0 (by decide) (by decide) (by decide) (show adx p < 96 by omega), M0.mem _ (by omega), and3 _ (by omega)]
                exact MEnd.of rfl w0 z0 (fun _ => rfl)
              · rw [if_neg (show ¬ q = 3 from fun z => c3 ((btw_i (k := 3) (by decide) hq).mp z)), if_neg c3]
                by_cases c4 : adx q = 4
                · rw [if_pos (show q = 4 from (btw_i (k := 4) (by decide) hq).mpr c4), if_pos c4, m_rc, q_sort M0 (by omega), cI_rt, q_len hk16, cI_rt, zL_zl v2]
                  cases hh : zh (gm (wI W)) (adx p) with
                  | true =>
                    have l2 : zl (gm (wI W)) (adx p) = 2 := by unfold zl; rw [hh]; rfl
                    rw [if_neg (fun z => z (by rw [l2]; rfl)), m_rc, q_opd M0 (by omega), cI_rt, if_pos rfl]
                    exact MEnd.of rfl w0 z0 (fun _ => rfl)
                  | false =>
                    have l2 : zl (gm (wI W)) (adx p) = 1 := by unfold zl; rw [hh]; rfl
                    rw [if_pos (by rw [l2]; decide), if_neg (by decide)]
                    exact q_failE w0 (c := 3) (by decide)
                · rw [if_neg (show ¬ q = 4 from fun z => c4 ((btw_i (k := 4) (by decide) hq).mp z)), if_neg c4, m_rc, q_hasG M0 (by omega), cI_rt]
                  cases ht : zt (gm (wI W)) (adx p) with
                  | true =>
                    have l2 := zt_l ht
                    rw [b0t, m_rc, q_goal M0 (by omega), cI_rt, if_pos rfl]
                    exact MEnd.of rfl w0 z0 (fun _ => rfl)
                  | false =>
                    rw [b0f, if_neg (by decide)]
                    exact q_failE w0 (c := 3) (by decide)
/-- copying an array -/
theorem q_cpS {K : Option Nat → AH → RS} : ∀ (k f c : Nat) (A : Nat → Nat → Int32), c + k = 96 → k < f →
    ∃ A', f_X3_save_L7 K f (some mo) (nI c) (EM h mo I A) = K (some mo) (EM h mo I A') ∧ (∀ x, x ≠ 2 → A' x = A x) ∧ (∀ j, j < c → A' 2 j = A 2 j) ∧ ∀ j, c ≤ j → j < 96 → A' 2 j = A 1 j := by
  intro k
  induction k with
  | zero =>
    intro f c A h1 h2
    obtain ⟨f, rfl⟩ : ∃ f', f = f' + 1 := ⟨f - 1, by omega⟩
    unfold f_X3_save_L7
    rw [if_pos (show (96 : Int32) ≤ nI c from nI_le (a := 96) (by omega) (by omega))]
    exact ⟨A, rfl, fun _ _ => rfl, fun _ _ => rfl, fun j j1 j2 => by omega⟩
  | succ k ih =>
    intro f c A h1 h2
    obtain ⟨f, rfl⟩ : ∃ f', f = f' + 1 := ⟨f - 1, by omega⟩
    unfold f_X3_save_L7
    rw [if_neg (show ¬ (96 : Int32) ≤ nI c from fun z => by have := (nI_leI (a := 96) (by decide) (by omega)).mp z; omega), m_gA (by decide) (by decide), m_gA (by decide) (by decide), m_lI0 (by decide) (by decide) (by decide) (show c < 96 by omega), m_sI0 (by decide) (by decide) (by decide) (show c < 96 by omega), nI_1]
    obtain ⟨A', e1, e2, e3, e4⟩ := ih f (c + 1) (upA A 2 (upd (A 2) c (A 1 c))) (by omega) (by omega)
    refine ⟨A', e1, fun x hx => by rw [e2 x hx, upA_n hx], fun j hj => by rw [e3 j (by omega), upA_s, upd_n (by omega)], fun j j1 j2 => ?_⟩
    by_cases hjc : j = c
    · subst hjc; rw [e3 j (by omega), upA_s, upd_s]
    · rw [e4 j (by omega) j2, upA_n (by decide)]
theorem q_cpS4 {K : Option Nat → AH → RS} : ∀ (k f c : Nat) (A : Nat → Nat → Int32), c + k = 4 → k < f →
    ∃ A', f_X3_save_L33 K f (some mo) (nI c) (EM h mo I A) = K (some mo) (EM h mo I A') ∧ (∀ x, x ≠ 4 → A' x = A x) ∧ (∀ j, j < c → A' 4 j = A 4 j) ∧ ∀ j, c ≤ j → j < 4 → A' 4 j = A 3 j := by
  intro k
  induction k with
  | zero =>
    intro f c A h1 h2
    obtain ⟨f, rfl⟩ : ∃ f', f = f' + 1 := ⟨f - 1, by omega⟩
    unfold f_X3_save_L33
    rw [if_pos (show (4 : Int32) ≤ nI c from nI_le (a := 4) (by omega) (by omega))]
    exact ⟨A, rfl, fun _ _ => rfl, fun _ _ => rfl, fun j j1 j2 => by omega⟩
  | succ k ih =>
    intro f c A h1 h2
    obtain ⟨f, rfl⟩ : ∃ f', f = f' + 1 := ⟨f - 1, by omega⟩
    unfold f_X3_save_L33
    rw [if_neg (show ¬ (4 : Int32) ≤ nI c from fun z => by have := (nI_leI (a := 4) (by decide) (by omega)).mp z; omega), m_gA (by decide) (by decide), m_gA (by decide) (by decide), m_lI0 (by decide) (by decide) (by decide) (show c < 4 by omega), m_sI0 (by decide) (by decide) (by decide) (show c < 4 by omega), nI_1]
    obtain ⟨A', e1, e2, e3, e4⟩ := ih f (c + 1) (upA A 4 (upd (A 4) c (A 3 c))) (by omega) (by omega)
    refine ⟨A', e1, fun x hx => by rw [e2 x hx, upA_n hx], fun j hj => by rw [e3 j (by omega), upA_s, upd_n (by omega)], fun j j1 j2 => ?_⟩
    by_cases hjc : j = c
    · subst hjc; rw [e3 j (by omega), upA_s, upd_s]
    · rw [e4 j (by omega) j2, upA_n (by decide)]
theorem q_cpR {K : Option Nat → AH → RS} : ∀ (k f c : Nat) (A : Nat → Nat → Int32), c + k = 96 → k < f →
    ∃ A', f_X3_restore_L26 K f (some mo) (nI c) (EM h mo I A) = K (some mo) (EM h mo I A') ∧ (∀ x, x ≠ 1 → A' x = A x) ∧ (∀ j, j < c → A' 1 j = A 1 j) ∧ ∀ j, c ≤ j → j < 96 → A' 1 j = A 2 j := by
  intro k
  induction k with
  | zero =>
    intro f c A h1 h2
    obtain ⟨f, rfl⟩ : ∃ f', f = f' + 1 := ⟨f - 1, by omega⟩
    unfold f_X3_restore_L26
    rw [if_pos (show (96 : Int32) ≤ nI c from nI_le (a := 96) (by omega) (by omega))]
    exact ⟨A, rfl, fun _ _ => rfl, fun _ _ => rfl, fun j j1 j2 => by omega⟩
  | succ k ih =>
    intro f c A h1 h2
    obtain ⟨f, rfl⟩ : ∃ f', f = f' + 1 := ⟨f - 1, by omega⟩
    unfold f_X3_restore_L26
    rw [if_neg (show ¬ (96 : Int32) ≤ nI c from fun z => by have := (nI_leI (a := 96) (by decide) (by omega)).mp z; omega), m_gA (by decide) (by decide), m_gA (by decide) (by decide), m_lI0 (by decide) (by decide) (by decide) (show c < 96 by omega), m_sI0 (by decide) (by decide) (by decide) (show c < 96 by omega), nI_1]
    obtain ⟨A', e1, e2, e3, e4⟩ := ih f (c + 1) (upA A 1 (upd (A 1) c (A 2 c))) (by omega) (by omega)
    refine ⟨A', e1, fun x hx => by rw [e2 x hx, upA_n hx], fun j hj => by rw [e3 j (by omega), upA_s, upd_n (by omega)], fun j j1 j2 => ?_⟩
    by_cases hjc : j = c
    · subst hjc; rw [e3 j (by omega), upA_s, upd_s]
    · rw [e4 j (by omega) j2, upA_n (by decide)]
theorem q_cpR4 {K : Option Nat → AH → RS} : ∀ (k f c : Nat) (A : Nat → Nat → Int32), c + k = 4 → k < f →
    ∃ A', f_X3_restore_L52 K f (some mo) (nI c) (EM h mo I A) = K (some mo) (EM h mo I A') ∧ (∀ x, x ≠ 3 → A' x = A x) ∧ (∀ j, j < c → A' 3 j = A 3 j) ∧ ∀ j, c ≤ j → j < 4 → A' 3 j = A 4 j := by
  intro k
  induction k with
  | zero =>
    intro f c A h1 h2
    obtain ⟨f, rfl⟩ : ∃ f', f = f' + 1 := ⟨f - 1, by omega⟩
    unfold f_X3_restore_L52
    rw [if_pos (show (4 : Int32) ≤ nI c from nI_le (a := 4) (by omega) (by omega))]
    exact ⟨A, rfl, fun _ _ => rfl, fun _ _ => rfl, fun j j1 j2 => by omega⟩
  | succ k ih =>
    intro f c A h1 h2
    obtain ⟨f, rfl⟩ : ∃ f', f = f' + 1 := ⟨f - 1, by omega⟩
    unfold f_X3_restore_L52
    rw [if_neg (show ¬ (4 : Int32) ≤ nI c from fun z => by have := (nI_leI (a := 4) (by decide) (by omega)).mp z; omega), m_gA (by decide) (by decide), m_gA (by decide) (by decide), m_lI0 (by decide) (by decide) (by decide) (show c < 4 by omega), m_sI0 (by decide) (by decide) (by decide) (show c < 4 by omega), nI_1]
    obtain ⟨A', e1, e2, e3, e4⟩ := ih f (c + 1) (upA A 3 (upd (A 3) c (A 4 c))) (by omega) (by omega)
    refine ⟨A', e1, fun x hx => by rw [e2 x hx, upA_n hx], fun j hj => by rw [e3 j (by omega), upA_s, upd_n (by omega)], fun j j1 j2 => ?_⟩
    by_cases hjc : j = c
    · subst hjc; rw [e3 j (by omega), upA_s, upd_s]
    · rw [e4 j (by omega) j2, upA_n (by decide)]
/-- a call without an answer -/
def MEndV (mo : Nat) (h : AH) (r : RS) (o : OR) : Prop := ∃ (I' : Nat → Int32) (A' : Nat → Nat → Int32), r = rtV (EM h mo I' A') ∧ MW I' A' o.2.2 ∧ I' 0 = nI o.1
theorem o_save (w : MW I A W) : MEndV mo h (f_X3_save (some mo) (EM h mo I A)) (w_save W) := by
  unfold f_X3_save w_save
  rw [m_pI (by decide) (by decide)]
  obtain ⟨w1, w2, w3, w4, w5, w6, w7⟩ := w.th 0
  have z0 : upd I 0 0 0 = (0 : Int32) := upd_s
  generalize upd I 0 0 = I0 at w1 w2 w3 w4 w5 w6 w7 z0 ⊢
  obtain ⟨A1, a1, a2, a3, a4⟩ := q_cpS (h := h) (mo := mo) (I := I0) (K := fun x10 h11 => f_X3_save_L33 (fun x20 h21 => xgI h21 x20 2 5 (fun v22 => xpF h21 x20 2 8 (.int v22) (fun h23 => xgI h23 x20 2 6 (fun v24 => xpF h23 x20 2 9 (.int v24) (fun h25 => xgI h25 x20 2 7 (fun v26 => xpF h25 x20 2 10 (.int v26) (fun h27 => xpZ h27 x20 2 11 1 (fun h28 => rtV h28)))))))) FUEL x10 0 h11) 96 FUEL 0 A (by omega) (by unfold FUEL; omega)
  show MEndV mo h (f_X3_save_L7 _ FUEL (some mo) (nI 0) (EM h mo I0 A)) _
  rw [a1]
  obtain ⟨A2, b1, b2, b3, b4⟩ := q_cpS4 (h := h) (mo := mo) (I := I0) (K := fun x20 h21 => xgI h21 x20 2 5 (fun v22 => xpF h21 x20 2 8 (.int v22) (fun h23 => xgI h23 x20 2 6 (fun v24 => xpF h23 x20 2 9 (.int v24) (fun h25 => xgI h25 x20 2 7 (fun v26 => xpF h25 x20 2 10 (.int v26) (fun h27 => xpZ h27 x20 2 11 1 (fun h28 => rtV h28)))))))) 4 FUEL 0 A1 (by omega) (by unfold FUEL; omega)
  show MEndV mo h (f_X3_save_L33 _ FUEL (some mo) (nI 0) (EM h mo I0 A1)) _
  rw [b1, m_gI (by decide) (by decide), m_pI (by decide) (by decide), m_gI (by decide) (by decide), m_pI (by decide) (by decide), m_gI (by decide) (by decide), m_pI (by decide) (by decide), m_pZ (by decide) (by decide) (Or.inr rfl)]
  have x1 : Un [8, 9, 10, 11] [2, 4] I0 A (upd (upd (upd (upd I0 8 (I0 5)) 9 (upd I0 8 (I0 5) 6)) 10 (upd (upd I0 8 (I0 5)) 9 (upd I0 8 (I0 5) 6) 7)) 11 1) A2 := (Un.uI (by decide)).tr ((Un.uI (by decide)).tr ((Un.uI (by decide)).tr ((Un.uI (by decide)).tr ⟨fun _ _ => rfl, fun k hk => by rw [b2 k (fun z => hk (by rw [z]; decide)), a2 k (fun z => hk (by rw [z]; decide))]⟩)))
  have y8 : upd (upd (upd (upd I0 8 (I0 5)) 9 (upd I0 8 (I0 5) 6)) 10 (upd (upd I0 8 (I0 5)) 9 (upd I0 8 (I0 5) 6) 7)) 11 1 8 = I0 5 := by rw [upd_n (by decide), upd_n (by decide), upd_n (by decide), upd_s]
  have y9 : upd (upd (upd (upd I0 8 (I0 5)) 9 (upd I0 8 (I0 5) 6)) 10 (upd (upd I0 8 (I0 5)) 9 (upd I0 8 (I0 5) 6) 7)) 11 1 9 = I0 6 := by rw [upd_n (by decide), upd_n (by decide), upd_s, upd_n (by decide)]
  have y10 : upd (upd (upd (upd I0 8 (I0 5)) 9 (upd I0 8 (I0 5) 6)) 10 (upd (upd I0 8 (I0 5)) 9 (upd I0 8 (I0 5) 6) 7)) 11 1 10 = I0 7 := by rw [upd_n (by decide), upd_s, upd_n (by decide), upd_n (by decide)]
  have y11 : upd (upd (upd (upd I0 8 (I0 5)) 9 (upd I0 8 (I0 5) 6)) 10 (upd (upd I0 8 (I0 5)) 9 (upd I0 8 (I0 5) 6) 7)) 11 1 11 = (1 : Int32) := upd_s
  generalize upd (upd (upd (upd I0 8 (I0 5)) 9 (upd I0 8 (I0 5) 6)) 10 (upd (upd I0 8 (I0 5)) 9 (upd I0 8 (I0 5) 6) 7)) 11 1 = I1 at x1 y8 y9 y10 y11 ⊢
  refine ⟨I1, A2, rfl, ⟨w1.un x1 (by decide) (by decide) (by decide) (by decide) (by decide), ⟨fun z => (by cases z), fun g z => ?_⟩, w3.un x1 (by decide) (by decide) (by decide), w4.un x1 (by decide) (by decide) (by decide), w5.un x1 (by decide) (by decide), by rw [x1.1 14 (by decide)]; exact w6, by rw [x1.1 27 (by decide)]; exact w7⟩, by rw [x1.1 0 (by decide)]; exact z0⟩
  cases z
  refine ⟨y11, ?_⟩
  refine ⟨fun i hi => ?_, w1.byt, y8.trans w1.siz, w1.n96, y9.trans w1.ecn, w1.e4, fun i hi => ?_, w1.eln, y10.trans w1.thr, w1.t30⟩
  · show A2 2 i = _
    rw [b2 2 (by decide), a4 i (Nat.zero_le _) hi]; exact w1.mem i hi
  · show A2 4 i = _
    have := w1.e4
    rw [b4 i (Nat.zero_le _) (by omega), a2 3 (by decide)]; exact w1.ent i hi
theorem o_rest (w : MW I A W) : MEndV mo h (f_X3_restore (some mo) (EM h mo I A)) (w_rest W) := by
  unfold f_X3_restore f_X3_restore_J13 w_rest
  have S := w.2.1
  rw [m_gI (by decide) (by decide)]
  cases hs : wS W with
  | none =>
    rw [S.1 hs, if_pos rfl, m_pI (by decide) (by decide), m_gI (by decide) (by decide), upd_n (by decide), S.1 hs, if_neg (by decide)]
    exact ⟨_, _, rfl, w.th 1, upd_s⟩
  | some g =>
    obtain ⟨s1, s2⟩ := S.2 g hs
    rw [s1, if_neg (by decide), m_pI (by decide) (by decide), m_gI (by decide) (by decide), upd_n (by decide), s1, if_pos (by decide)]
    have x0 : Un [0, 5, 6, 7] [1, 3] I A (upd I 0 0) A := Un.uI (by decide)
    have z0 : upd I 0 0 0 = (0 : Int32) := upd_s
    have s3 : MIs (upd I 0 0) A g := s2.un x0 (by decide) (by decide) (by decide) (by decide) (by decide)
    generalize upd I 0 0 = I0 at x0 z0 s3 ⊢
    obtain ⟨A1, a1, a2, a3, a4⟩ := q_cpR (h := h) (mo := mo) (I := I0) (K := fun x16 h17 => f_X3_restore_L52 (fun x26 h27 => xgI h27 x26 2 8 (fun v28 => xpF h27 x26 2 5 (.int v28) (fun h29 => xgI h29 x26 2 9 (fun v30 => xpF h29 x26 2 6 (.int v30) (fun h31 => xgI h31 x26 2 10 (fun v32 => xpF h31 x26 2 7 (.int v32) (fun h33 => xrc h33 x26 2 (xcV (f_X3_changes x26 1 h33) (fun h34 => rtV h34))))))))) FUEL x16 0 h17) 96 FUEL 0 A (by omega) (by unfold FUEL; omega)
    show MEndV mo h (f_X3_restore_L26 _ FUEL (some mo) (nI 0) (EM h mo I0 A)) _
    rw [a1]
    obtain ⟨A2, b1, b2, b3, b4⟩ := q_cpR4 (h := h) (mo := mo) (I := I0) (K := fun x26 h27 => xgI h27 x26 2 8 (fun v28 => xpF h27 x26 2 5 (.int v28) (fun h29 => xgI h29 x26 2 9 (fun v30 => xpF h29 x26 2 6 (.int v30) (fun h31 => xgI h31 x26 2 10 (fun v32 => xpF h31 x26 2 7 (.int v32) (fun h33 => xrc h33 x26 2 (xcV (f_X3_changes x26 1 h33) (fun h34 => rtV h34))))))))) 4 FUEL 0 A1 (by omega) (by unfold FUEL; omega)
    show MEndV mo h (f_X3_restore_L52 _ FUEL (some mo) (nI 0) (EM h mo I0 A1)) _
    rw [b1, m_gI (by decide) (by decide), m_pI (by decide) (by decide), m_gI (by decide) (by decide), m_pI (by decide) (by decide), m_gI (by decide) (by decide), m_pI (by decide) (by decide), m_rc]
    have x1 : Un [0, 5, 6, 7] [1, 3] I A (upd (upd (upd I0 5 (I0 8)) 6 (upd I0 5 (I0 8) 9)) 7 (upd (upd I0 5 (I0 8)) 6 (upd I0 5 (I0 8) 9) 10)) A2 := x0.tr ((Un.uI (by decide)).tr ((Un.uI (by decide)).tr ((Un.uI (by decide)).tr ⟨fun _ _ => rfl, fun k hk => by rw [b2 k (fun z => hk (by rw [z]; decide)), a2 k (fun z => hk (by rw [z]; decide))]⟩)))
    have y5 : upd (upd (upd I0 5 (I0 8)) 6 (upd I0 5 (I0 8) 9)) 7 (upd (upd I0 5 (I0 8)) 6 (upd I0 5 (I0 8) 9) 10) 5 = I0 8 := by rw [upd_n (by decide), upd_n (by decide), upd_s]
    have y6 : upd (upd (upd I0 5 (I0 8)) 6 (upd I0 5 (I0 8) 9)) 7 (upd (upd I0 5 (I0 8)) 6 (upd I0 5 (I0 8) 9) 10) 6 = I0 9 := by rw [upd_n (by decide), upd_s, upd_n (by decide)]
    have y7 : upd (upd (upd I0 5 (I0 8)) 6 (upd I0 5 (I0 8) 9)) 7 (upd (upd I0 5 (I0 8)) 6 (upd I0 5 (I0 8) 9) 10) 7 = I0 10 := by rw [upd_s, upd_n (by decide), upd_n (by decide)]
    have y0 : upd (upd (upd I0 5 (I0 8)) 6 (upd I0 5 (I0 8) 9)) 7 (upd (upd I0 5 (I0 8)) 6 (upd I0 5 (I0 8) 9) 10) 0 = (0 : Int32) := by rw [upd_n (by decide), upd_n (by decide), upd_n (by decide)]; exact z0
    have y39 : upd (upd (upd I0 5 (I0 8)) 6 (upd I0 5 (I0 8) 9)) 7 (upd (upd I0 5 (I0 8)) 6 (upd I0 5 (I0 8) 9) 10) 39 = I 39 := by rw [upd_n (by decide), upd_n (by decide), upd_n (by decide), x0.1 39 (by decide)]
    generalize upd (upd (upd I0 5 (I0 8)) 6 (upd I0 5 (I0 8) 9)) 7 (upd (upd I0 5 (I0 8)) 6 (upd I0 5 (I0 8) 9) 10) = I1 at x1 y5 y6 y7 y0 y39 ⊢
    obtain ⟨I3, e1, e2, e3, e4, e5⟩ := q_chg (h := h) (mo := mo) (I := I1) (A := A2) true (by rw [y39]; exact w.2.2.2.1.z)
    rw [show (1 : Int32) = bI true from rfl, e1, cV_rt]
    refine ⟨I3, A2, rfl, w.chg (b := true) (I1 := I1) x1 ?_ e2 e3 e4 e5, by rw [e5.1 0 (by decide)]; exact y0⟩
    have s3 : MI (fun k => I0 (k + 3)) (fun k => A (k + 1)) (gm g) (gn g) (ge g) (gt g) := s3
    refine ⟨fun i hi => ?_, s3.byt, y5.trans s3.siz, s3.n96, y6.trans s3.ecn, s3.e4, fun i hi => ?_, s3.eln, y7.trans s3.thr, s3.t30⟩
    · rw [b2 1 (by decide), a4 i (Nat.zero_le _) hi]; exact s3.mem i hi
    · have := s3.e4
      rw [b4 i (Nat.zero_le _) (by omega), a2 4 (by decide)]; exact s3.ent i hi
end
