/-! PURE: the class answers, part 2 -/
set_option maxRecDepth 100000
section
variable {B : Nat} {h h' H H' : AH} {κ κ' : Nat → Nat} {xa na ta : Nat} {sa ra la : Option Nat} {W W' : WS} {c : Nat} {S : Nat → Prop} {g : IMG} {ex : Nat → String}
variable {r im ua d oc lc ob lb lt lg lk b : Nat} {m : Nat → Nat} {n t : Nat} {es : List Nat}
/-- the parts of what a list holds -/
theorem y_part (s : XS B κ h xa W) {l arr cap k : Nat} {ys : List Nat} (A : AL h l arr cap ys) (hl : ys.length ≤ 96) (hk : k ≤ 3) (he2 : ex 2 = sI) (he3 : ex 3 = sA) {f : Nat → Nat → Int32}
    (hf : ∀ i j, i < ys.length → j ≤ k → xck h (some (ys.getD i 0)) [6, 7, 8] (xoo (xoo (xoo (none) (xrc h (some (ys.getD i 0)) 8 (xcI (f_X9_part (some (ys.getD i 0)) (nI j) h) (fun v12 h11 => rtI v12 h11)))) (xrc h (some (ys.getD i 0)) 7 (xcI (f_X8_part (some (ys.getD i 0)) (nI j) h) (fun v14 h13 => rtI v14 h13)))) (xrc h (some (ys.getD i 0)) 6 (xcI (f_X7_part (some (ys.getD i 0)) (nI j) h) (fun v16 h15 => rtI v16 h15)))) = rtI (f i j) h) (p q : Int32) :
    XR B κ h xa ex (f_X1_partOf (some l) p q (nI k) h) (if ad ys.length p = true then (if btw q 0 k = true then (0, f (adx p) (adx q), W) else (3, 0, W)) else (2, 0, W)) := by
  unfold f_X1_partOf
  rw [A.rc, p_lsize A, cI_rt, x_ad hl, cI_rt]
  refine XR.idx s he2 (by decide) (fun hp => ?_)
  rw [x_btw0 (by omega), cI_rt]
  refine XR.arg s he3 (by decide) (fun hq => ?_)
  obtain ⟨x, hx, rfl⟩ := ad_t hp
  obtain ⟨q1, q2, q3⟩ := btw_x hq
  generalize adx q = y at q1 q3 ⊢
  subst q1
  rw [A.rc, p_lget A hx, cA_rt, hf x y hx q3, adx_nI (by omega)]
  exact XR.ok s
theorem n_y {y k : Nat} (hy : y ≤ 1000) (hk : k ≤ 1000) (h : y ≠ k) : ¬ nI y = nI k := fun z => h ((nI_eq (by omega) (by omega)).mp z)
theorem y_tb (s : XS B κ h xa W) (p q : Int32) : XR B κ h xa (e3 sS sI sA) (f_X1_table (some xa) p q h) (w_tb p q W) := by
  unfold f_X1_table w_tb rf
  refine XR.rec s rfl (fun z hb R => ?_)
  obtain ⟨im, ua, d, oc, lc, ob, lb, lt, lg, lk, b, R, _⟩ := R
  obtain ⟨ar, cp, yt, A, b1, b2⟩ := R.2.2.2.2.2.2.1
  have hn := R.2.1.n96
  have hc2 := c2_le (n := gn (wI W)) (u := (dS (gm (wI W)) (gn (wI W)) (ge (wI W))).1)
  obtain ⟨_, _, _, _, _, _, _, _, _, g10, g11⟩ := R.sg
  rw [gA_v (o := some lt) (rdo R.1) rfl]
  have := y_part (ex := e3 sS sI sA) s A (k := 3) (by omega) (by decide) rfl rfl (f := fun i j => tPart ((dS (gm (wI W)) (gn (wI W)) (ge (wI W))).2.2.2.2.getD i T0) j) (fun i j hi hj => by
    obtain ⟨on, le, ar2, cp2, ye, t1, t2, t3⟩ := b2 i (by omega)
    have h3 := t3.1
    rw [List.length_map] at h3
    rw [ck_v t1 (by decide), rc_no t1 (by decide), rc_no t1 (by decide), rc_v t1]
    show xcI (f_X7_part (some (yt.getD i 0)) (nI j) h) (fun v16 h15 => rtI v16 h15) = _
    unfold f_X7_part tPart
    by_cases j0 : j = 0
    · rw [if_neg (fun z => z (by rw [j0]; rfl)), if_pos j0, gI_v t1 rfl, cI_rt]
    rw [if_pos (show ¬ nI j = 0 from n_y (k := 0) (by omega) (by omega) j0), if_neg j0]
    by_cases j1 : j = 1
    · rw [if_neg (fun z => z (by rw [j1]; rfl)), if_pos j1, gI_v t1 rfl, cI_rt]
    rw [if_pos (show ¬ nI j = 1 from n_y (k := 1) (by omega) (by omega) j1), if_neg j1]
    by_cases j2 : j = 2
    · rw [if_neg (fun z => z (by rw [j2]; rfl)), if_pos j2, gI_v t1 rfl, cI_rt]
    rw [if_pos (show ¬ nI j = 2 from n_y (k := 2) (by omega) (by omega) j2), if_neg j2, gA_v (o := some le) t1 rfl, t2.rc, p_lsize t2, cI_rt, cI_rt, h3]) p q
  rw [b1] at this
  exact this.idw
theorem y_gp (s : XS B κ h xa W) (p q : Int32) : XR B κ h xa (e3 sS sI sA) (f_X1_gap (some xa) p q h) (w_gp p q W) := by
  unfold f_X1_gap w_gp rf
  refine XR.rec s rfl (fun z hb R => ?_)
  obtain ⟨im, ua, d, oc, lc, ob, lb, lt, lg, lk, b, R, _⟩ := R
  obtain ⟨ar, cp, yg, A, b1, b2⟩ := R.2.2.2.2.2.2.2
  have hn := R.2.1.n96
  have hgl := gaps_len (gn (wI W)) (dU (gm (wI W)) (gn (wI W)) (ge (wI W)))
  rw [gA_v (o := some lg) (rdo R.1) rfl]
  have := y_part (ex := e3 sS sI sA) s A (k := 2) (by omega) (by decide) rfl rfl (f := fun i j => gPart (wI W) ((gaps (gn (wI W)) (dU (gm (wI W)) (gn (wI W)) (ge (wI W)))).getD i (0, 0)) j) (fun i j hi hj => by
    have t1 := rdo (b2 i (by omega))
    rw [ck_v t1 (by decide), rc_no t1 (by decide), rc_v t1, rc_no t1 (by decide)]
    have e : xcI (f_X8_part (some (yg.getD i 0)) (nI j) h) (fun v14 h13 => rtI v14 h13) = rtI (gPart (wI W) ((gaps (gn (wI W)) (dU (gm (wI W)) (gn (wI W)) (ge (wI W)))).getD i (0, 0)) j) h := by
      unfold f_X8_part gPart
      by_cases j0 : j = 0
      · rw [if_neg (fun z => z (by rw [j0]; rfl)), if_pos j0, gI_v t1 rfl, cI_rt]
      rw [if_pos (show ¬ nI j = 0 from n_y (k := 0) (by omega) (by omega) j0), if_neg j0]
      by_cases j1 : j = 1
      · rw [if_neg (fun z => z (by rw [j1]; rfl)), if_pos j1, gI_v t1 rfl, cI_rt]
      rw [if_pos (show ¬ nI j = 1 from n_y (k := 1) (by omega) (by omega) j1), if_neg j1, gI_v t1 rfl, cI_rt]
      rfl
    rw [e]; rfl) p q
  rw [b1] at this
  exact this.idw
theorem y_bl (s : XS B κ h xa W) (p q : Int32) : XR B κ h xa (e3 sS sI sA) (f_X1_block (some xa) p q h) (w_bl p q W) := by
  unfold f_X1_block w_bl rf
  refine XR.rec s rfl (fun z hb R => ?_)
  obtain ⟨im, ua, d, oc, lc, ob, lb, lt, lg, lk, b, R, ar, cp, yk, ls, A, ⟨k1, k2, k3⟩, k4⟩ := R
  have hn := R.2.1.n96
  have hgl := cnt_le (isL (gm (wI W)) (dU (gm (wI W)) (gn (wI W)) (ge (wI W))) (gn (wI W)) (ge (wI W)) (dS (gm (wI W)) (gn (wI W)) (ge (wI W))).2.2.2.2) (gn (wI W))
  rw [gA_v (o := some lk) (rdo R.1) rfl]
  have := y_part (ex := e3 sS sI sA) s A (k := 2) (by omega) (by decide) rfl rfl (f := fun i j => bPart (wI W) (kth (rL (wI W)) (gn (wI W)) 0 i) j) (fun i j hi hj => by
    have t1 := rdo (k3 i (by omega))
    have hk : ls.getD i 0 = kth (rL (wI W)) (gn (wI W)) 0 i := (k2 i (by omega)).uq (kth_0 (L := rL (wI W)) (show i < cnt (rL (wI W)) (gn (wI W)) from (by rw [← show ls.length = cnt (rL (wI W)) (gn (wI W)) from k4]; omega))).1
    rw [hk] at t1
    rw [ck_v t1 (by decide), rc_v t1, rc_no t1 (by decide), rc_no t1 (by decide)]
    have e : xcI (f_X9_part (some (yk.getD i 0)) (nI j) h) (fun v14 h13 => rtI v14 h13) = rtI (bPart (wI W) (kth (rL (wI W)) (gn (wI W)) 0 i) j) h := by
      unfold f_X9_part bPart
      by_cases j0 : j = 0
      · rw [if_neg (fun z => z (by rw [j0]; rfl)), if_pos j0, gI_v t1 rfl, cI_rt]
      rw [if_pos (show ¬ nI j = 0 from n_y (k := 0) (by omega) (by omega) j0), if_neg j0]
      by_cases j1 : j = 1
      · rw [if_neg (fun z => z (by rw [j1]; rfl)), if_pos j1, gI_v t1 rfl, cI_rt]
        rfl
      rw [if_pos (show ¬ nI j = 1 from n_y (k := 1) (by omega) (by omega) j1), if_neg j1, gI_v t1 rfl, cI_rt]
      rfl
    rw [e]; rfl) p q
  rw [k1, k4] at this
  exact this.idw
/-- a table is required -/
theorem x_rtab (s : XS B κ h xa W) (p : Int32) {K : Option Nat → AH → RS} {o : OR} (he1 : ex 1 = sS) (he2 : ex 2 = sI) (ok : ∀ y z, wR W = true → ad (rTb (wI W)).length p = true → (∃ im ua d oc lc ob lb lt lg lk b, RX h z im ua d oc lc ob lb lt lg lk b (gm (wI W)) (gn (wI W)) (ge (wI W)) (gt (wI W))) → (∀ {X : Option Nat → RS}, xgA h (some xa) 0 2 X = X (some z)) → TB h (gm (wI W)) y ((rTb (wI W)).getD (adx p) T0) → XR B κ h xa ex (K (some y) h) o) : XR B κ h xa ex (xrc h (some xa) 0 (xcA (f_X1_requireTable (some xa) p h) K)) (if wR W = true then (if ad (rTb (wI W)).length p = true then o else (2, 0, W)) else (1, 0, W)) := by
  obtain ⟨na, sa, ra, la, ta, v⟩ := s.v
  have hc := s.2.2.2.1
  have hs := s.2.2.2.2
  unfold f_X1_requireTable
  rw [v.rc, v.rc, x_recd s.1 v (by omega) (by omega)]
  by_cases hb : wR W = true
  · obtain ⟨q, q1, q2⟩ := v.2.2.2.1.2 hb
    obtain ⟨im, ua, d, oc, lc, ob, lb, lt, lg, lk, b, R, _⟩ := q2.ext (fc_ext s.1)
    obtain ⟨ar, cp, yt, A, b1, b2⟩ := R.2.2.2.2.2.2.1
    have hn := R.2.1.n96
    have hc2 := c2_le (n := gn (wI W)) (u := (dS (gm (wI W)) (gn (wI W)) (ge (wI W))).1)
    obtain ⟨_, _, _, _, _, _, _, _, _, g10, g11⟩ := R.sg
    rw [if_pos hb, if_pos hb, q1, cA_rt, gA_v (o := some lt) (rdo R.1) rfl, A.rc, p_lsize A, cI_rt, x_ad (by omega), cI_rt, x_rI _ (by omega) (by omega), b1]
    show XR _ _ _ _ _ _ (if ad (dS (gm (wI W)) (gn (wI W)) (ge (wI W))).2.2.2.2.length p = true then _ else _)
    by_cases hp : ad (dS (gm (wI W)) (gn (wI W)) (ge (wI W))).2.2.2.2.length p = true
    · have hp' := hp
      obtain ⟨x, hx, rfl⟩ := ad_t hp
      have hT := b2 x hx
      have hT' := hT
      obtain ⟨on, le, ar2, cp2, ye, t1, t2, t3⟩ := hT'
      rw [if_pos hp, if_pos hp, cV_rt, A.rc, p_lget A (by omega), cA_rt, ck_v t1 (by decide), cA_rt]
      refine ok _ q hb hp' ⟨im, ua, d, oc, lc, ob, lb, lt, lg, lk, b, R⟩ ?_ ?_
      · have hx := v.hx
        rw [q1] at hx
        intro X; exact gA_v (k := 2) (o := some q) hx rfl
      · rw [adx_nI (by omega)]; exact hT
    · rw [if_neg hp, if_neg hp, cV_th, cA_th]
      exact XR.th s he2.symm (by decide)
  · rw [if_neg hb, if_neg hb, cA_th, cA_th]
    exact XR.th s he1.symm (by decide)
theorem y_tbE (s : XS B κ h xa W) (p q : Int32) : XR B κ h xa (e3 sS sI "") (f_X1_tableEntry (some xa) p q h) (w_tbE p q W) := by
  have e : w_tbE p q W = (if wR W = true then (if ad (rTb (wI W)).length p = true then (if ad ((rTb (wI W)).getD (adx p) T0).2.2.2.length q = true then (0, nI (gm (wI W) (((rTb (wI W)).getD (adx p) T0).2.2.2.getD (adx q) 0)), W) else (2, 0, W)) else (2, 0, W)) else (1, 0, W)) := by
    unfold w_tbE rf
    cases ad (rTb (wI W)).length p <;> cases ad ((rTb (wI W)).getD (adx p) T0).2.2.2.length q <;> simp
  rw [e]
  unfold f_X1_tableEntry
  refine x_rtab s p rfl rfl (fun y z hb hp hR hz T => ?_)
  obtain ⟨im, ua, d, oc, lc, ob, lb, lt, lg, lk, b, R⟩ := hR
  obtain ⟨on, le, ar2, cp2, ye, t1, t2, t3, t4⟩ := T
  have hn := R.2.1.n96
  obtain ⟨_, _, _, _, _, _, _, _, _, g10, g11⟩ := R.sg
  obtain ⟨x, hx, rfl⟩ := ad_t hp
  have hc2 := c2_le (n := gn (wI W)) (u := (dS (gm (wI W)) (gn (wI W)) (ge (wI W))).1)
  have hx' : x < (dS (gm (wI W)) (gn (wI W)) (ge (wI W))).2.2.2.2.length := hx
  rw [adx_nI (by omega)] at t3 t4 ⊢
  have hTg := g10 _ (List.mem_of_getElem? (l := (dS (gm (wI W)) (gn (wI W)) (ge (wI W))).2.2.2.2) (i := x) (a := (rTb (wI W)).getD x T0) (by show _ = some ((dS (gm (wI W)) (gn (wI W)) (ge (wI W))).2.2.2.2.getD x T0); rw [List.getD_eq_getElem?_getD, List.getElem?_eq_getElem hx']; rfl))
  generalize ((rTb (wI W)).getD x T0).2.2.2 = ps at t3 t4 hTg ⊢
  rw [List.length_map] at t3
  rw [gA_v (o := some le) t1 rfl, t2.rc, p_lsize t2, cI_rt, x_ad (by omega), cI_rt, t3]
  refine XR.idx s rfl (by decide) (fun hq => ?_)
  obtain ⟨k, hk, rfl⟩ := ad_t hq
  have bx := (t4 k (by rw [List.length_map]; exact hk)).1
  have em : (ps.map (gm (wI W))).getD k 0 = gm (wI W) (ps.getD k 0) := by
    rw [List.getD_eq_getElem?_getD, List.getElem?_map, List.getD_eq_getElem?_getD, List.getElem?_eq_getElem hk]; rfl
  rw [em] at bx
  rw [gA_v (o := some le) t1 rfl, t2.rc, p_lget t2 (by omega), cA_rt, ck_v bx (by decide), rc_v bx, p_intValue bx, cI_rt, adx_nI (by omega)]
  exact XR.ok s
theorem b_and (x y : Bool) : bI x &&& bI y = bI (x && y) := by cases x <;> cases y <;> decide
theorem y_cmpL (gh : GH B h) (R : RX h r im ua d oc lc ob lb lt lg lk b m n es t) (hz : ∀ {X : Option Nat → RS}, xgA h (some xa) 0 2 X = X (some r)) {y : Nat} {T : TT} (hT : TB h m y T) (hps : T.2.2.2.length ≤ 16) (hpn : ∀ p ∈ T.2.2.2, p < n) {K : Int32 → AH → RS} : ∀ (k f i : Nat) (bb : Bool), i + k = T.2.2.2.length → k < f → f_X1_isComplete_L11 K f (some xa) (some y) (bI bb) (nI i) h = K (bI (bb && (T.2.2.2.drop i).all (fun p => decide (dU m n es (m p) = 1)))) h := by
  obtain ⟨on, le, ar2, cp2, ye, t1, t2, t3, t4⟩ := hT
  generalize T.2.2.2 = ps at *
  rw [List.length_map] at t3
  obtain ⟨ar, cp, A⟩ := R.2.2.2.1
  intro k
  induction k with
  | zero =>
    intro f i bb h1 h2
    obtain ⟨f, rfl⟩ : ∃ f', f = f' + 1 := ⟨f - 1, by omega⟩
    unfold f_X1_isComplete_L11
    rw [gA_v (o := some le) t1 rfl, t2.rc, p_lsize t2, cI_rt, if_pos (nI_le (by omega) (by omega)), List.drop_of_length_le (by omega)]
    simp
  | succ k ih =>
    intro f i bb h1 h2
    obtain ⟨f, rfl⟩ : ∃ f', f = f' + 1 := ⟨f - 1, by omega⟩
    have hi : i < ps.length := by omega
    have bx := (t4 i (by rw [List.length_map]; exact hi)).1
    have em : (ps.map m).getD i 0 = m ps[i] := by
      rw [List.getD_eq_getElem?_getD, List.getElem?_map, List.getElem?_eq_getElem hi]; rfl
    rw [em] at bx
    have hm := R.2.1.byt _ (hpn ps[i] (List.getElem_mem hi))
    unfold f_X1_isComplete_L11
    rw [gA_v (o := some le) t1 rfl, t2.rc, p_lsize t2, cI_rt, if_neg (fun z => by have := (nI_leI (by omega) (by omega)).mp z; omega), hz, gA_v (o := some le) t1 rfl, t2.rc, p_lget t2 (by omega), cA_rt, ck_v bx (by decide), rc_v bx, p_intValue bx, cI_rt, rc_v (rdo R.1), c_acc gh (rdo R.1) A (by omega), cI_rt, b_and, nI_1, ih f (i + 1) _ (by omega) (by omega), List.drop_eq_getElem_cons hi, List.all_cons, Bool.and_assoc]
theorem y_cmp (s : XS B κ h xa W) (p : Int32) : XR B κ h xa (e3 sS sI "") (f_X1_isComplete (some xa) p h) (w_cmp p W) := by
  unfold f_X1_isComplete w_cmp rf
  refine x_rtab s p rfl rfl (fun y z hb hp hR hz T => ?_)
  obtain ⟨im, ua, d, oc, lc, ob, lb, lt, lg, lk, b, R⟩ := hR
  obtain ⟨_, _, _, _, _, _, _, _, _, g10, g11⟩ := R.sg
  obtain ⟨x, hx, rfl⟩ := ad_t hp
  have hc2 := c2_le (n := gn (wI W)) (u := (dS (gm (wI W)) (gn (wI W)) (ge (wI W))).1)
  have hx' : x < (dS (gm (wI W)) (gn (wI W)) (ge (wI W))).2.2.2.2.length := hx
  have hn := R.2.1.n96
  rw [adx_nI (by omega)] at T ⊢
  have hTg := g10 _ (List.mem_of_getElem? (l := (dS (gm (wI W)) (gn (wI W)) (ge (wI W))).2.2.2.2) (i := x) (a := (rTb (wI W)).getD x T0) (by show _ = some ((dS (gm (wI W)) (gn (wI W)) (ge (wI W))).2.2.2.2.getD x T0); rw [List.getD_eq_getElem?_getD, List.getElem?_eq_getElem hx']; rfl))
  have := y_cmpL s.1 R hz T hTg.2.2.2.1 hTg.2.2.2.2 (K := fun x20 h21 => rtZ x20 h21) ((rTb (wI W)).getD x T0).2.2.2.length FUEL 0 true (Nat.zero_add _) (by unfold FUEL; omega)
  rw [show f_X1_isComplete_L11 (fun x20 h21 => rtZ x20 h21) FUEL (some xa) (some y) 1 0 h = _ from this, rtZB, List.drop_zero, Bool.true_and]
  exact XR.ok s
theorem y_spcL (R : RX h r im ua d oc lc ob lb lt lg lk b m n es t) (htt : t ≤ 30) {K : Int32 → AH → RS} : ∀ (k f i : Nat), i + k = (gaps n (dU m n es)).length → k < f → f_X5_countSpeculative_L4 K f (some r) (nI (csp m n (dU m n es) t ((gaps n (dU m n es)).take i)).length) (nI i) h = K (nI (dC m n es t).length) h := by
  have hn := R.2.1.n96
  have hgl := gaps_len n (dU m n es)
  obtain ⟨ar, cp, yg, A, b1, b2⟩ := R.2.2.2.2.2.2.2
  intro k
  induction k with
  | zero =>
    intro f i h1 h2
    obtain ⟨f, rfl⟩ : ∃ f', f = f' + 1 := ⟨f - 1, by omega⟩
    unfold f_X5_countSpeculative_L4
    rw [gA_v (o := some lg) (rdo R.1) rfl, A.rc, p_lsize A, cI_rt, if_pos (nI_le (by omega) (by omega)), List.take_of_length_le (by omega)]
    rfl
  | succ k ih =>
    intro f i h1 h2
    obtain ⟨f, rfl⟩ : ∃ f', f = f' + 1 := ⟨f - 1, by omega⟩
    have hi : i < (gaps n (dU m n es)).length := by omega
    have t1 := rdo (b2 i hi)
    have he : (gaps n (dU m n es)).getD i (0, 0) = (gaps n (dU m n es))[i] := by rw [List.getD_eq_getElem?_getD, List.getElem?_eq_getElem hi]; rfl
    have hgp := gaps_p _ (List.getElem_mem hi)
    rw [he] at t1
    have hb := tst_b (m := m) (n := n) (u := dU m n es) (gaps n (dU m n es))[i] (by omega)
    have ih' := ih f (i + 1) (by omega) (by omega)
    rw [List.take_succ_eq_append_getElem hi, csp_ap, List.length_append] at ih'
    unfold f_X5_countSpeculative_L4
    rw [gA_v (o := some lg) (rdo R.1) rfl, A.rc, p_lsize A, cI_rt, if_neg (fun z => by have := (nI_leI (by omega) (by omega)).mp z; omega), gA_v (o := some lg) (rdo R.1) rfl, A.rc, p_lget A (by omega), cA_rt, ck_v t1 (by decide), gI_v t1 rfl, gA_v (o := some im) (rdo R.1) rfl, R.2.1.th]
    unfold f_X5_countSpeculative_J58
    by_cases hts : t ≤ (tst m n (dU m n es) (gaps n (dU m n es))[i]).1
    · rw [if_neg (nI_nlt hts (by omega)), gA_v (o := some lg) (rdo R.1) rfl, A.rc, p_lget A (by omega), cA_rt, ck_v t1 (by decide), gI_v t1 rfl, nI_add, nI_1]
      have e : chn m n (dU m n es) t (gaps n (dU m n es))[i] = (tst m n (dU m n es) (gaps n (dU m n es))[i]).2 := by unfold chn; rw [if_pos hts]
      rw [e] at ih'
      exact ih'
    · rw [if_pos (nI_lt (by omega) (by omega)), nI_1]
      have e : chn m n (dU m n es) t (gaps n (dU m n es))[i] = [] := by unfold chn; rw [if_neg hts]
      rw [e] at ih'
      rw [show (0 : Int32) = nI 0 from rfl, nI_add]
      exact ih'
theorem y_spc (s : XS B κ h xa W) : XR B κ h xa (e3 sS "" "") (f_X1_speculative (some xa) h) (w_spc W) := by
  obtain ⟨na, sa, ra, la, ta, v⟩ := s.v
  unfold f_X1_speculative w_spc ofR
  refine XR.rec s rfl (fun q hb R => ?_)
  obtain ⟨im, ua, d, oc, lc, ob, lb, lt, lg, lk, b, R, _⟩ := R
  have hn := R.2.1.n96
  have hgl := gaps_len (gn (wI W)) (dU (gm (wI W)) (gn (wI W)) (ge (wI W)))
  unfold f_X5_countSpeculative
  rw [rc_v (rdo R.1), show f_X5_countSpeculative_L4 (fun x25 h26 => rtI x25 h26) FUEL (some q) 0 0 h = _ from y_spcL R v.2.1.2.2 (K := fun x25 h26 => rtI x25 h26) (gaps (gn (wI W)) (dU (gm (wI W)) (gn (wI W)) (ge (wI W)))).length FUEL 0 (Nat.zero_add _) (by unfold FUEL; omega), cI_rt]
  exact XR.ok s
end
