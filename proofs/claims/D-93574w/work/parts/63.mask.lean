/-! PURE: the model's answers -/
set_option maxRecDepth 100000
def rU (g : IMG) : Nat → Nat := dU (gm g) (gn g) (ge g)
def rTb (g : IMG) : List TT := (dS (gm g) (gn g) (ge g)).2.2.2.2
def rCf (g : IMG) : List Nat := (dS (gm g) (gn g) (ge g)).2.2.1
def rBd (g : IMG) : List Nat := (dS (gm g) (gn g) (ge g)).2.2.2.1
def rC (g : IMG) : List Nat := dC (gm g) (gn g) (ge g) (gt g)
def rG (g : IMG) : List (Nat × Nat) := gaps (gn g) (rU g)
def rL (g : IMG) : Nat → Bool := isL (gm g) (rU g) (gn g) (ge g) (rTb g)
def rH (g : IMG) : Nat → Bool := isH (gm g) (rU g) (gn g) (ge g)
def rA (g : IMG) : Nat → Bool := fun a => decide (rU g a = 1)
def rN (g : IMG) : Nat := cnt (rA g) (gn g)
/-- the k-th from a on -/
def kth (L : Nat → Bool) : Nat → Nat → Nat → Nat
  | 0, a, _ => a
  | f + 1, a, k => if L a = true then (if k = 0 then a else kth L f (a + 1) (k - 1)) else kth L f (a + 1) k
theorem kth_p {L : Nat → Bool} : ∀ (f a k : Nat), cnt L a + k < cnt L (a + f) → LK L (cnt L a + k) (kth L f a k) ∧ kth L f a k < a + f
  | 0, a, k, h => by rw [Nat.add_zero] at h; omega
  | f + 1, a, k, h => by
    have e := cnt_s1 (L := L) (a := a)
    unfold kth
    cases hL : L a with
    | true =>
      rw [hL, if_pos rfl] at e
      rw [if_pos rfl]
      by_cases hk : k = 0
      · rw [if_pos hk]
        exact ⟨⟨hL, by omega⟩, by omega⟩
      · rw [if_neg hk]
        have := kth_p (L := L) f (a + 1) (k - 1) (by rw [show a + 1 + f = a + (f + 1) by omega]; omega)
        rw [show cnt L (a + 1) + (k - 1) = cnt L a + k by omega] at this
        exact ⟨this.1, by omega⟩
    | false =>
      rw [hL, if_neg (by decide)] at e
      rw [if_neg (by decide)]
      have := kth_p (L := L) f (a + 1) k (by rw [show a + 1 + f = a + (f + 1) by omega]; omega)
      rw [show cnt L (a + 1) + k = cnt L a + k by omega] at this
      exact ⟨this.1, by omega⟩
theorem kth_0 {L : Nat → Bool} {n k : Nat} (hk : k < cnt L n) : LK L k (kth L n 0 k) ∧ kth L n 0 k < n := by
  have := kth_p (L := L) n 0 k (by rw [Nat.zero_add]; show 0 + k < _; omega)
  rw [Nat.zero_add] at this
  have e : cnt L 0 + k = k := by show 0 + k = k; omega
  rw [e] at this
  exact this
def ofR (W : WS) (v : Int32) : OR := if wR W = true then (0, v, W) else (1, 0, W)
def rf (W : WS) (b : Bool) (o : OR) : OR := if wR W = true then (if b = true then o else (2, 0, W)) else (1, 0, W)
def w_acc (W : WS) : OR := ofR W (nI (rN (wI W)))
def w_accAt (p : Int32) (W : WS) : OR := rf W (ad (rN (wI W)) p) (0, nI (kth (rA (wI W)) (gn (wI W)) 0 (adx p)), W)
def w_use (p : Int32) (W : WS) : OR := rf W (ad (gn (wI W)) p) (0, nI (wU (gm (wI W)) (rU (wI W)) (rC (wI W)) (adx p)), W)
def w_cfN (W : WS) : OR := ofR W (nI (rCf (wI W)).length)
def w_cf (p : Int32) (W : WS) : OR := rf W (ad (rCf (wI W)).length p) (0, nI ((rCf (wI W)).getD (adx p) 0), W)
def w_bdN (W : WS) : OR := ofR W (nI (rBd (wI W)).length)
def w_tbN (W : WS) : OR := ofR W (nI (rTb (wI W)).length)
def tPart (T : TT) (q : Nat) : Int32 := if q = 0 then nI T.1 else if q = 1 then nI T.2.1 else if q = 2 then bW T.2.2.1 else nI T.2.2.2.length
def w_tb (p q : Int32) (W : WS) : OR := rf W (ad (rTb (wI W)).length p) (if btw q 0 3 = true then (0, tPart ((rTb (wI W)).getD (adx p) T0) (adx q), W) else (3, 0, W))
def w_tbE (p q : Int32) (W : WS) : OR := rf W (ad (rTb (wI W)).length p && ad ((rTb (wI W)).getD (adx p) T0).2.2.2.length q) (0, nI (gm (wI W) (((rTb (wI W)).getD (adx p) T0).2.2.2.getD (adx q) 0)), W)
def tCmp (g : IMG) (T : TT) : Bool := T.2.2.2.all (fun p => decide (rU g (gm g p) = 1))
def w_cmp (p : Int32) (W : WS) : OR := rf W (ad (rTb (wI W)).length p) (0, bI (tCmp (wI W) ((rTb (wI W)).getD (adx p) T0)), W)
def w_gpN (W : WS) : OR := ofR W (nI (rG (wI W)).length)
def gPart (g : IMG) (x : Nat × Nat) (q : Nat) : Int32 := if q = 0 then nI x.1 else if q = 1 then nI (x.2 - x.1) else nI (tst (gm g) (gn g) (rU g) x).1
def w_gp (p q : Int32) (W : WS) : OR := rf W (ad (rG (wI W)).length p) (if btw q 0 2 = true then (0, gPart (wI W) ((rG (wI W)).getD (adx p) (0, 0)) (adx q), W) else (3, 0, W))
def w_spc (W : WS) : OR := ofR W (nI (rC (wI W)).length)
def rB (g : IMG) (a : Nat) : List Nat := bkl (gm g) (rU g) (gn g) (ge g) (rTb g) a
def w_blN (W : WS) : OR := ofR W (nI (cnt (rL (wI W)) (gn (wI W))))
def bPart (g : IMG) (a q : Nat) : Int32 := if q = 0 then nI a else if q = 1 then nI (rB g a).length else nI ((rB g a).getLastD 0)
def w_bl (p q : Int32) (W : WS) : OR := rf W (ad (cnt (rL (wI W)) (gn (wI W))) p) (if btw q 0 2 = true then (0, bPart (wI W) (kth (rL (wI W)) (gn (wI W)) 0 (adx p)) (adx q), W) else (3, 0, W))
def w_fnN (W : WS) : OR := ofR W (nI (cnt (rH (wI W)) (gn (wI W))))
noncomputable def w_fn (p : Int32) (W : WS) : OR := rf W (ad (gn (wI W)) p) (if rH (wI W) (adx p) = true then (0, nI (cnt (rchB (gm (wI W)) (rU (wI W)) (rTb (wI W)) (adx p)) (gn (wI W))), W) else (3, 0, W))
def w_exA (p : Int32) (W : WS) : OR := match wN W with
  | none => (1, 0, W)
  | some r => if ad (gn (wI W)) p = true then (0, nI (r.1 (adx p)), W) else (2, 0, W)
def unr (g : IMG) (r : RUN) : Nat := cnt (fun a => decide (0 < r.1 a) && decide (rU g a ≠ 1)) (gn g)
def w_unr (W : WS) : OR := if wR W = true then (match wN W with
  | none => (1, 0, W)
  | some r => (0, nI (unr (wI W) r), W)) else (1, 0, W)
def w_reg (p : Int32) (W : WS) : OR := match wN W with
  | none => (1, 0, W)
  | some r => if btw p 0 3 = true then (0, nI (r.2 (adx p)), W) else (2, 0, W)
section
variable {li la : List Nat} {I I' I2 : Nat → Int32} {A A' A2 : Nat → Nat → Int32} {h : AH} {mo : Nat} {W : WS}
theorem MIg.sg {g : IMG} (M : MIg I A g) : SG (gm g) (gn g) (dS (gm g) (gn g) (ge g)) ∧ (dS (gm g) (gn g) (ge g)).2.1 = [] := dS_g (fun i hi => M.byt i (by have := M.n96; omega)) M.n96 M.eln M.e4
theorem MIg.ug {g : IMG} (M : MIg I A g) : UG (gm g) (gn g) (rU g) := M.sg.1.ug
theorem MRv.mt {g : IMG} (M : MIg I A g) (V : MRv I A (gm g) (gn g) (ge g) (gt g)) : MT I A (gn g) (rTb g) := by
  obtain ⟨⟨P, U, r1, r2, r3, r4, r5, r6, r7, r8, r9⟩, -⟩ := V
  obtain ⟨g1, g2, g3, g4, g5, g6, g7, g8, g9, g10, g11⟩ := M.sg.1
  have hc := c2_le (n := gn g) (u := (dS (gm g) (gn g) (ge g)).1)
  have hn := M.n96
  exact ⟨r8, by unfold rTb; omega, r9, fun T hT => ⟨(g10 T hT).1, (g10 T hT).2.2.2.1, (g10 T hT).2.2.2.2⟩⟩
theorem MRv.mu {g : IMG} (V : MRv I A (gm g) (gn g) (ge g) (gt g)) : MU A (gm g) (rU g) := V.1.choose_spec.1
theorem MW.rt (w : MW I A W) (hr : wR W = true) : I 15 = 1 ∧ MRv I A (gm (wI W)) (gn (wI W)) (ge (wI W)) (gt (wI W)) := w.2.2.1.2 hr
theorem o_ofR (w : MW I A W) {v v' : Int32} (hv : wR W = true → v' = v) : MEnd mo h (xrc (EM h mo I A) (some mo) 2 (xcI (f_X3_ofRecovery (some mo) v' (EM h mo I A)) (fun v3 h2 => rtI v3 h2))) (ofR W v) := by
  unfold f_X3_ofRecovery f_X3_ofRecovery_J13 ofR
  rw [m_rc, m_gI (by decide) (by decide)]
  cases hr : wR W with
  | false =>
    have e := w.2.2.1.1 hr
    rw [e, if_pos rfl, m_pI (by decide) (by decide), m_gI (by decide) (by decide), upd_n (by decide), e, if_pos rfl, cI_rt, if_neg (by decide)]
    exact MEnd.of rfl (w.th 1) upd_s (fun z => by cases z)
  | true =>
    have e := (w.rt hr).1
    rw [e, if_neg (by decide), m_pI (by decide) (by decide), m_gI (by decide) (by decide), upd_n (by decide), e, if_neg (by decide), cI_rt, if_pos rfl]
    exact MEnd.of rfl (w.th 0) upd_s (fun _ => hv hr)
theorem q_refu (w : MW I A W) (b : Bool) : f_X3_refusal (some mo) (bI b) (EM h mo I A) = if wR W = true then (if b = true then rtI 0 (EM h mo (upd I 0 0) A) else rtI 2 (EM h mo (upd I 0 2) A)) else rtI 1 (EM h mo (upd I 0 1) A) := by
  unfold f_X3_refusal
  rw [m_gI (by decide) (by decide)]
  cases hr : wR W with
  | false =>
    have e := w.2.2.1.1 hr
    rw [e, if_pos rfl, m_pI (by decide) (by decide), m_gI (by decide) (by decide), upd_s, if_neg (by decide)]
  | true =>
    have e := (w.rt hr).1
    rw [e, if_neg (by decide), if_pos rfl]
    cases b with
    | false => rw [b0f, m_pI (by decide) (by decide), m_gI (by decide) (by decide), upd_s, if_neg (by decide)]
    | true => rw [b0t, m_pI (by decide) (by decide), m_gI (by decide) (by decide), upd_s, if_pos rfl]
theorem o_refu (w : MW I A W) {b b' : Bool} {X : AH → RS} {Y : AH → RS} (hY : Y = rtI 0) {o : OR} (hb : wR W = true → b' = b) (hX : wR W = true → b = true → MEnd mo h (X (EM h mo (upd I 0 0) A)) o) : MEnd mo h (xrc (EM h mo I A) (some mo) 2 (xcI (f_X3_refusal (some mo) (bI b') (EM h mo I A)) (fun v5 h4 => if v5 ≤ 0 then X h4 else Y h4))) (rf W b o) := by
  rw [m_rc, q_refu w, hY]
  unfold rf
  cases hr : wR W with
  | false =>
    rw [if_neg (by decide), if_neg (by decide), cI_rt, if_neg (by decide)]
    exact MEnd.of rfl (w.th 1) upd_s (fun z => by cases z)
  | true =>
    rw [if_pos rfl, if_pos rfl, hb hr]
    cases hb2 : b with
    | false =>
      rw [if_neg (by decide), if_neg (by decide), cI_rt, if_neg (by decide)]
      exact MEnd.of rfl (w.th 2) upd_s (fun z => by cases z)
    | true =>
      rw [if_pos rfl, if_pos rfl, cI_rt, if_pos (by decide)]
      exact hX hr hb2
theorem o_acc (w : MW I A W) : MEnd mo h (f_X3_accepted (some mo) (EM h mo I A)) (w_acc W) := by
  unfold f_X3_accepted w_acc
  rw [m_gI (by decide) (by decide)]
  exact o_ofR w (fun hr => by obtain ⟨-, ⟨P, U, r1, r2, r3, r4, -⟩, -⟩ := w.rt hr; exact r4)
theorem o_cfN (w : MW I A W) : MEnd mo h (f_X3_conflictCount (some mo) (EM h mo I A)) (w_cfN W) := by
  unfold f_X3_conflictCount w_cfN
  rw [m_gI (by decide) (by decide)]
  exact o_ofR w (fun hr => by obtain ⟨-, ⟨P, U, r1, r2, r3, r4, r5, -⟩, -⟩ := w.rt hr; exact r5)
theorem o_bdN (w : MW I A W) : MEnd mo h (f_X3_badTargets (some mo) (EM h mo I A)) (w_bdN W) := by
  unfold f_X3_badTargets w_bdN
  rw [m_gI (by decide) (by decide)]
  exact o_ofR w (fun hr => by obtain ⟨-, ⟨P, U, r1, r2, r3, r4, r5, r6, r7, -⟩, -⟩ := w.rt hr; exact r7)
theorem o_tbN (w : MW I A W) : MEnd mo h (f_X3_tableCount (some mo) (EM h mo I A)) (w_tbN W) := by
  unfold f_X3_tableCount w_tbN
  rw [m_gI (by decide) (by decide)]
  exact o_ofR w (fun hr => by obtain ⟨-, ⟨P, U, r1, r2, r3, r4, r5, r6, r7, r8, -⟩, -⟩ := w.rt hr; exact r8)
theorem o_gpN (w : MW I A W) : MEnd mo h (f_X3_gapCount (some mo) (EM h mo I A)) (w_gpN W) := by
  unfold f_X3_gapCount w_gpN
  rw [m_gI (by decide) (by decide)]
  exact o_ofR w (fun hr => (w.rt hr).2.2.1.1)
theorem o_spc (w : MW I A W) : MEnd mo h (f_X3_speculative (some mo) (EM h mo I A)) (w_spc W) := by
  unfold f_X3_speculative w_spc
  rw [m_gI (by decide) (by decide)]
  exact o_ofR w (fun hr => (w.rt hr).2.2.2.2)
theorem q_aaL {u : Nat → Nat} {m : Nat → Nat} (U : MU A m u) {n : Nat} (hn : n ≤ 96) {K : Int32 → AH → RS} : ∀ (f a k F : Nat), a + f = n → f < F → cnt (fun x => decide (u x = 1)) a + k < cnt (fun x => decide (u x = 1)) n →
    f_X3_acceptedAt_L24 K F (some mo) (nI k) (nI a) (EM h mo I A) = K (nI (kth (fun x => decide (u x = 1)) f a k)) (EM h mo I A) := by
  intro f
  induction f with
  | zero => intro a k F h1 h2 h3; rw [show a = n by omega] at h3; omega
  | succ f ih =>
    intro a k F h1 h2 h3
    obtain ⟨F, rfl⟩ : ∃ F', F = F' + 1 := ⟨F - 1, by omega⟩
    have e := cnt_s1 (L := fun x => decide (u x = 1)) (a := a)
    have hz := zl_12 m a
    have hcn := cnt_le (fun x => decide (u x = 1)) n
    unfold f_X3_acceptedAt_L24 f_X3_acceptedAt_J37 f_X3_acceptedAt_J52
    rw [m_gA (by decide) (by decide), m_lI0 (by decide) (by decide) (by decide) (show a < 96 by omega), U.1 a (by omega), nI_1]
    unfold kth
    by_cases hu : u a = 1
    · rw [if_pos (show decide (u a = 1) = true from decide_eq_true hu)] at e
      rw [if_pos hu, if_neg (nI_ne0 (by omega) (by omega)), if_pos (show decide (u a = 1) = true from decide_eq_true hu)]
      by_cases hk : k = 0
      · rw [if_pos (by rw [hk]; decide), if_pos hk]
      · rw [if_neg (nI_nle (by omega) (by omega)), if_neg hk, m_gA (by decide) (by decide), m_lI0 (by decide) (by decide) (by decide) (show a < 96 by omega), U.1 a (by omega), if_pos hu, if_neg (nI_nle (by omega) (by omega)), nI_s1 (by omega)]
        exact ih (a + 1) (k - 1) F (by omega) (by omega) (by omega)
    · rw [if_neg (show ¬ decide (u a = 1) = true from by simpa using hu)] at e
      rw [if_neg hu, if_pos (show nI 0 = 0 from rfl), if_neg (show ¬ decide (u a = 1) = true from by simpa using hu), m_gA (by decide) (by decide), m_lI0 (by decide) (by decide) (by decide) (show a < 96 by omega), U.1 a (by omega), if_neg hu, if_pos (by decide), Int32.sub_zero]
      exact ih (a + 1) k F (by omega) (by omega) (by omega)
theorem o_accAt (w : MW I A W) (p : Int32) : MEnd mo h (f_X3_acceptedAt (some mo) p (EM h mo I A)) (w_accAt p W) := by
  unfold f_X3_acceptedAt w_accAt
  have hn := w.1.n96
  rw [m_gI (by decide) (by decide), q_in, cI_rt]
  have hN : rN (wI W) ≤ gn (wI W) := cnt_le _ _
  refine o_refu w rfl (fun hr => ?_) (fun hr hp => ?_)
  · obtain ⟨-, ⟨P, U, r1, r2, r3, r4, -⟩, -⟩ := w.rt hr
    have r4 : I 24 = nI (rN (wI W)) := r4
    rw [r4]
    exact ad_in (by omega)
  · obtain ⟨p1, p2⟩ := ad_x hp
    conv => arg 3; rw [p1]
    have V := ((w.th 0).rt hr).2
    have := q_aaL (h := h) (mo := mo) (I := upd I 0 0) V.mu hn (K := fun x26 h27 => rtI x26 h27) (gn (wI W)) 0 (adx p) FUEL (by omega) (by unfold FUEL; omega) (by show 0 + adx p < _; rw [Nat.zero_add]; exact p2)
    exact MEnd.cg (MEnd.of rfl (w.th 0) upd_s (fun _ => rfl)) this
theorem o_use (w : MW I A W) (p : Int32) : MEnd mo h (f_X3_use (some mo) p (EM h mo I A)) (w_use p W) := by
  unfold f_X3_use w_use
  have hn := w.1.n96
  rw [m_rc, q_adr w.1, cI_rt]
  refine o_refu w rfl (fun _ => rfl) (fun hr hp => ?_)
  obtain ⟨p1, p2⟩ := ad_x hp
  have p2 : adx p < gn (wI W) := p2
  conv => arg 3; rw [p1]
  have V := ((w.th 0).rt hr).2
  obtain ⟨u1, u2, u3⟩ := V.mu
  obtain ⟨s1, s2⟩ : MS A (gm (wI W)) (rC (wI W)) := V.2.2.1
  have ho := own_neg V.mu (a := adx p) (by omega)
  have hz := zl_12 (gm (wI W)) (adx p)
  have h3 := w.1.ug.2.1 (adx p)
  have fin : ∀ v : Nat, wU (gm (wI W)) (rU (wI W)) (rC (wI W)) (adx p) = v → MEnd mo h (rtI (nI v) (EM h mo (upd I 0 0) A)) (0, nI (wU (gm (wI W)) (rU (wI W)) (rC (wI W)) (adx p)), W) := fun v hv => by
    rw [hv]; exact MEnd.of rfl (w.th 0) upd_s (fun _ => rfl)
  rw [m_gA (by decide) (by decide), m_lI0 (by decide) (by decide) (by decide) (show adx p < 96 by omega), u1 _ (by omega)]
  by_cases e1 : rU (wI W) (adx p) = 1
  · rw [if_pos e1, if_neg (nI_nle (by omega) (by omega))]
    exact fin 1 (by unfold wU; rw [e1]; rfl)
  · rw [if_neg e1, if_pos (by decide), m_gA (by decide) (by decide), m_lI0 (by decide) (by decide) (by decide) (show adx p < 96 by omega)]
    by_cases e2 : rU (wI W) (adx p) = 2
    · rw [if_neg (by rw [ho]; exact fun z => z (Or.inr e2))]
      exact fin 2 (by unfold wU; rw [e2]; rfl)
    · rw [if_pos (by rw [ho]; omega), m_gA (by decide) (by decide), m_lI1 (by decide) (by decide) (by decide) (show adx p < 96 by omega), u3 _ (by omega)]
      by_cases e3 : rU (wI W) (adx p) = 3
      · rw [decide_eq_true e3, b0t]
        exact fin 3 (by unfold wU; rw [e3]; rfl)
      · have e0 : rU (wI W) (adx p) = 0 := by omega
        rw [decide_eq_false e3, b0f, m_gA (by decide) (by decide), m_lI0 (by decide) (by decide) (by decide) (show adx p < 96 by omega), s1 _ (by omega)]
        by_cases c1 : adx p ∈ rC (wI W)
        · rw [if_pos c1, if_neg (nI_nle (by omega) (by omega))]
          exact fin 4 (by unfold wU; rw [if_neg (by simp [e0]), if_pos c1])
        · rw [if_neg c1, if_pos (by decide), m_gA (by decide) (by decide), m_lI0 (by decide) (by decide) (by decide) (show adx p < 96 by omega), s2 _ (by omega), if_neg c1]
          by_cases c2 : 1 ≤ adx p ∧ adx p - 1 ∈ rC (wI W) ∧ zl (gm (wI W)) (adx p - 1) = 2
          · rw [if_pos c2, if_neg (nI_pos (by omega))]
            exact fin 5 (by unfold wU; rw [if_neg (by simp [e0]), if_neg c1, if_pos c2])
          · rw [if_neg c2, if_pos (by decide)]
            exact fin 0 (by unfold wU; rw [if_neg (by simp [e0]), if_neg c1, if_neg c2])
theorem o_cf (w : MW I A W) (p : Int32) : MEnd mo h (f_X3_conflict (some mo) p (EM h mo I A)) (w_cf p W) := by
  unfold f_X3_conflict w_cf
  have hn := w.1.n96
  obtain ⟨g1, g2, g3, g4, g5, g6, g7, g8, g9, g10, g11⟩ := w.1.sg.1
  have hl : (rCf (wI W)).length ≤ gn (wI W) := nodup_le g7 g6
  rw [m_gI (by decide) (by decide), q_in, cI_rt]
  refine o_refu w rfl (fun hr => ?_) (fun hr hp => ?_)
  · obtain ⟨-, ⟨P, U, r1, r2, r3, r4, r5, -⟩, -⟩ := w.rt hr
    have r5 : I 25 = nI (rCf (wI W)).length := r5
    rw [r5]
    exact ad_in (by omega)
  · obtain ⟨p1, p2⟩ := ad_x hp
    conv => arg 3; rw [p1]
    obtain ⟨-, ⟨P, U, r1, r2, r3, r4, r5, r6, -⟩, -⟩ := (w.th 0).rt hr
    rw [m_gA (by decide) (by decide), m_lI0 (by decide) (by decide) (by decide) (show adx p < 96 by omega), r6 _ p2]
    exact MEnd.of rfl (w.th 0) upd_s (fun _ => rfl)
theorem btw_i {q : Int32} {hi k : Nat} (hk : k ≤ 100000) (hb : btw q 0 hi = true) : (q = nI k) = (adx q = k) := by
  apply propext
  obtain ⟨q1, q2, q3⟩ := btw_x hb
  constructor
  · intro z; rw [z]; exact adx_nI hk
  · intro z; rw [q1, z]
theorem btw_n {q : Int32} {hi k : Nat} (hk : k ≤ hi) (h2 : hi ≤ 100000) (hb : btw q 0 hi = false) : ¬ q = nI k := fun z => by
  rw [z] at hb
  unfold btw at hb
  have := of_decide_eq_false hb
  rw [nI_toI (by omega)] at this
  omega
theorem o_tb (w : MW I A W) (p q : Int32) : MEnd mo h (f_X3_table (some mo) p q (EM h mo I A)) (w_tb p q W) := by
  unfold f_X3_table w_tb
  rw [m_gI (by decide) (by decide), q_in, cI_rt]
  refine o_refu w rfl (fun hr => ?_) (fun hr hp => ?_)
  · have T := MRv.mt w.1 (w.rt hr).2
    rw [T.1]
    exact ad_in (by have := T.2.1; omega)
  · obtain ⟨p1, p2⟩ := ad_x hp
    conv => arg 3; rw [p1]
    have w0 := w.th 0
    have T := MRv.mt w0.1 (w0.rt hr).2
    have h48 := T.2.1
    obtain ⟨e1, e2, e3, e4, e5⟩ := T.2.2.1 _ p2
    cases hb : btw q 0 3 with
    | false =>
      rw [if_neg (show ¬ q = 0 from btw_n (k := 0) (by decide) (by decide) hb), if_neg (show ¬ q = 1 from btw_n (k := 1) (by decide) (by decide) hb), if_neg (show ¬ q = 2 from btw_n (k := 2) (by decide) (by decide) hb), if_neg (show ¬ q = 3 from btw_n (k := 3) (by decide) (by decide) hb), if_neg (by decide)]
      exact q_failE w0 (c := 3) (by decide)
    | true =>
      obtain ⟨q1, q2, q3⟩ := btw_x hb
      rw [if_pos rfl]
      unfold tPart
      by_cases c0 : adx q = 0
      · rw [if_pos (show q = 0 from (btw_i (k := 0) (by decide) hb).mpr c0), if_pos c0, m_gA (by decide) (by decide), m_lI0 (by decide) (by decide) (by decide) (show adx p < 48 by omega), e1]
        exact MEnd.of rfl w0 upd_s (fun _ => rfl)
      · rw [if_neg (show ¬ q = 0 from fun z => c0 ((btw_i (k := 0) (by decide) hb).mp z)), if_neg c0]
        by_cases c1 : adx q = 1
        · rw [if_pos (show q = 1 from (btw_i (k := 1) (by decide) hb).mpr c1), if_pos c1, m_gA (by decide) (by decide), m_lI0 (by decide) (by decide) (by decide) (show adx p < 48 by omega), e2]
          exact MEnd.of rfl w0 upd_s (fun _ => rfl)
        · rw [if_neg (show ¬ q = 1 from fun z => c1 ((btw_i (k := 1) (by decide) hb).mp z)), if_neg c1]
          by_cases c2 : adx q = 2
          · rw [if_pos (show q = 2 from (btw_i (k := 2) (by decide) hb).mpr c2), if_pos c2, m_gA (by decide) (by decide), m_lI0 (by decide) (by decide) (by decide) (show adx p < 48 by omega), e3]
            exact MEnd.of rfl w0 upd_s (fun _ => rfl)
          · rw [if_neg (show ¬ q = 2 from fun z => c2 ((btw_i (k := 2) (by decide) hb).mp z)), if_neg c2, if_pos (show q = 3 from (btw_i (k := 3) (by decide) hb).mpr (by omega)), m_gA (by decide) (by decide), m_lI0 (by decide) (by decide) (by decide) (show adx p < 48 by omega), e4]
            exact MEnd.of rfl w0 upd_s (fun _ => rfl)
theorem o_gp (w : MW I A W) (p q : Int32) : MEnd mo h (f_X3_gap (some mo) p q (EM h mo I A)) (w_gp p q W) := by
  unfold f_X3_gap w_gp
  have hn := w.1.n96
  have hl : (rG (wI W)).length ≤ gn (wI W) := gaps_len _ _
  rw [m_gI (by decide) (by decide), q_in, cI_rt]
  refine o_refu w rfl (fun hr => ?_) (fun hr hp => ?_)
  · have G := (w.rt hr).2.2.1
    have G1 : I 28 = nI (rG (wI W)).length := G.1
    rw [G1]
    exact ad_in (by omega)
  · obtain ⟨p1, p2⟩ := ad_x hp
    conv => arg 3; rw [p1]
    have w0 := w.th 0
    obtain ⟨e1, e2, e3⟩ := (w0.rt hr).2.2.1.2 (adx p) p2
    cases hb : btw q 0 2 with
    | false =>
      rw [if_pos (show ¬ q = 0 from btw_n (k := 0) (by decide) (by decide) hb), if_pos (show ¬ q = 1 from btw_n (k := 1) (by decide) (by decide) hb), if_pos (show ¬ q = 2 from btw_n (k := 2) (by decide) (by decide) hb), if_neg (by decide)]
      exact q_failE w0 (c := 3) (by decide)
    | true =>
      obtain ⟨q1, q2, q3⟩ := btw_x hb
      rw [if_pos rfl]
      unfold gPart
      by_cases c0 : adx q = 0
      · rw [if_neg (fun z => z (show q = 0 from (btw_i (k := 0) (by decide) hb).mpr c0)), if_pos c0, m_gA (by decide) (by decide), m_lI0 (by decide) (by decide) (by decide) (show adx p < 96 by omega), e1]
        exact MEnd.of rfl w0 upd_s (fun _ => rfl)
      · rw [if_pos (show ¬ q = 0 from fun z => c0 ((btw_i (k := 0) (by decide) hb).mp z)), if_neg c0]
        by_cases c1 : adx q = 1
        · rw [if_neg (fun z => z (show q = 1 from (btw_i (k := 1) (by decide) hb).mpr c1)), if_pos c1, m_gA (by decide) (by decide), m_lI0 (by decide) (by decide) (by decide) (show adx p < 96 by omega), e2]
          exact MEnd.of rfl w0 upd_s (fun _ => rfl)
        · rw [if_pos (show ¬ q = 1 from fun z => c1 ((btw_i (k := 1) (by decide) hb).mp z)), if_neg c1, if_neg (fun z => z (show q = 2 from (btw_i (k := 2) (by decide) hb).mpr (by omega))), m_gA (by decide) (by decide), m_lI0 (by decide) (by decide) (by decide) (show adx p < 96 by omega), e3]
          exact MEnd.of rfl w0 upd_s (fun _ => rfl)
theorem o_tbE (w : MW I A W) (p q : Int32) : MEnd mo h (f_X3_tableEntry (some mo) p q (EM h mo I A)) (w_tbE p q W) := by
  unfold f_X3_tableEntry f_X3_tableEntry_J34 f_X3_tableEntry_J35 w_tbE
  have hn := w.1.n96
  obtain ⟨k, hk1, hk2⟩ := w.2.2.2.2.2.2
  rw [m_gI (by decide) (by decide), hk2, q_ad (by omega), cI_rt]
  have w0 := w.th 0
  -- the answer
  have ans : wR W = true → (ad (rTb (wI W)).length p && ad ((rTb (wI W)).getD (adx p) T0).2.2.2.length q) = true → MEnd mo h (xgA (EM h mo (upd I 0 0) A) (some mo) 2 1 (fun v15 => xgA (EM h mo (upd I 0 0) A) (some mo) 2 35 (fun v16 => xlI (EM h mo (upd I 0 0) A) v16 0 (16 * p + q) (fun v17 => xlI (EM h mo (upd I 0 0) A) v15 0 v17 (fun v18 => rtI v18 (EM h mo (upd I 0 0) A)))))) (0, nI (gm (wI W) (((rTb (wI W)).getD (adx p) T0).2.2.2.getD (adx q) 0)), W) := fun hr hpq => by
    rw [Bool.and_eq_true] at hpq
    obtain ⟨p1, p2⟩ := ad_x hpq.1
    obtain ⟨q1, q2⟩ := ad_x hpq.2
    have T := MRv.mt w0.1 (w0.rt hr).2
    have h48 := T.2.1
    obtain ⟨e1, e2, e3, e4, e5⟩ := T.2.2.1 _ p2
    obtain ⟨f1, f2, f3⟩ := T.2.2.2 _ (getT_mem p2)
    have hp := f3 _ (getD_mem q2)
    have eix : (16 : Int32) * p + q = nI (16 * adx p + adx q) := by
      conv => lhs; rw [p1, q1]
      rw [show (16 : Int32) = nI 16 from rfl, nI_mul, nI_add]
    rw [m_gA (by decide) (by decide), m_gA (by decide) (by decide), eix, m_lI0 (by decide) (by decide) (by decide) (show 16 * adx p + adx q < 768 by omega), e5 _ q2, m_lI0 (by decide) (by decide) (by decide) (show ((rTb (wI W)).getD (adx p) T0).2.2.2.getD (adx q) 0 < 96 by omega), w0.1.mem _ (by omega)]
    exact MEnd.of rfl w0 upd_s (fun _ => rfl)
  have hkT : wR W = true → k = (rTb (wI W)).length := fun hr => by
    have T := MRv.mt w.1 (w.rt hr).2
    have := T.1.symm.trans hk2
    have h48 := T.2.1
    exact ((nI_eq (by omega) (by omega)).mp this).symm
  cases hp : ad k p with
  | false =>
    rw [b0f, show (0 : Int32) = bI false from rfl]
    refine o_refu w rfl (fun hr => ?_) ans
    rw [← hkT hr, hp]; rfl
  | true =>
    obtain ⟨p1, p2⟩ := ad_x hp
    rw [b0t, m_gA (by decide) (by decide)]
    have e34 : xlI (EM h mo I A) (some (ma mo 34)) 0 p = xlI (EM h mo I A) (some (ma mo 34)) 0 (nI (adx p)) := by rw [← p1]
    rw [e34, m_lI0 (by decide) (by decide) (by decide) (show adx p < 48 by omega), q_in, cI_rt]
    have hb : wR W = true → decide (0 ≤ q ∧ q ≤ A 34 (adx p) - 1) = (ad (rTb (wI W)).length p && ad ((rTb (wI W)).getD (adx p) T0).2.2.2.length q) := fun hr => by
      have T := MRv.mt w.1 (w.rt hr).2
      rw [hkT hr] at p2
      obtain ⟨e1, e2, e3, e4, e5⟩ := T.2.2.1 _ p2
      obtain ⟨f1, f2, f3⟩ := T.2.2.2 _ (getT_mem p2)
      rw [e4, ad_in (by omega), ← hkT hr, hp]; rfl
    cases hd : decide (0 ≤ q ∧ q ≤ A 34 (adx p) - 1) with
    | false =>
      rw [b0f, show (0 : Int32) = bI false from rfl]
      refine o_refu w rfl (fun hr => ?_) ans
      rw [← hb hr, hd]
    | true =>
      rw [b0t, show (1 : Int32) = bI true from rfl]
      refine o_refu w rfl (fun hr => ?_) ans
      rw [← hb hr, hd]
end
