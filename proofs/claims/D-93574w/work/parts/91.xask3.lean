/-! PURE: the class answers, part 3: runs, shares -/
set_option maxRecDepth 100000
section
variable {B : Nat} {h h' H H' : AH} {κ κ' : Nat → Nat} {xa na ta : Nat} {sa ra la : Option Nat} {W W' : WS} {c : Nat} {S : Nat → Prop} {g : IMG} {ex : Nat → String}
variable {r im ua d oc lc ob lb lt lg lk b : Nat} {m : Nat → Nat} {n t : Nat} {es : List Nat}
theorem x_lat (v : XV κ h xa na sa ra la ta W) (hc : 1 ≤ hcl h) (hs : 6 ≤ hsl h) : f_X1_latestRun (some xa) h = if (wN W).isSome = true then rtA la h else thr "java/lang/IllegalStateException" (hsz h) (hnew h (.inr (15, [])) 6) := by
  unfold f_X1_latestRun
  rw [gA_v (o := la) v.hx rfl]
  cases hb : wN W with
  | none =>
    rw [v.2.2.2.2.1.1 hb, if_pos rfl, if_neg (by decide)]
    unfold f_X1_latestRun_J12
    rw [show (0 : Int32) = bI false from rfl, x_rS false hc hs, if_neg (by decide), cV_th]
  | some x =>
    obtain ⟨q, q1, q2⟩ := v.2.2.2.2.1.2 x hb
    have hx := v.hx
    rw [q1, if_neg (by simp), if_pos (show (some x).isSome = true from rfl)]
    rw [q1] at hx
    unfold f_X1_latestRun_J12
    rw [show (1 : Int32) = bI true from rfl, x_rS true hc hs, if_pos rfl, cV_rt, gA_v (o := some q) hx rfl]
theorem XR.lat (s : XS B κ h xa W) (he : ex 1 = "java/lang/IllegalStateException") {K : Option Nat → AH → RS} {o : RUN → OR} (ok : ∀ q x, wN W = some x → RN h q (gn (wI W)) x → XR B κ h xa ex (K (some q) h) (o x)) : XR B κ h xa ex (xrc h (some xa) 0 (xcA (f_X1_latestRun (some xa) h) K)) (match wN W with | none => (1, 0, W) | some x => o x) := by
  obtain ⟨na, sa, ra, la, ta, v⟩ := s.v
  have hc := s.2.2.2.1
  have hs := s.2.2.2.2
  rw [v.rc, x_lat v (by omega) (by omega)]
  cases hb : wN W with
  | none =>
    rw [if_neg (by decide), cA_th]
    exact XR.th s he.symm (by decide)
  | some x =>
    obtain ⟨q, q1, q2⟩ := v.2.2.2.2.1.2 x hb
    rw [if_pos (show (some x).isSome = true from rfl), q1, cA_rt]
    exact ok q x hb (q2.ext (fc_ext s.1))
theorem y_exA (s : XS B κ h xa W) (p : Int32) : XR B κ h xa (e3 sS sI "") (f_X1_executedAt (some xa) p h) (w_exA p W) := by
  unfold f_X1_executedAt w_exA
  refine XR.lat s rfl (o := fun r => if ad (gn (wI W)) p = true then (0, nI (r.1 (adx p)), W) else (2, 0, W)) (fun q x hx R => ?_)
  obtain ⟨im, rg, exx, f1, f2, v3, v4, v5, r1, r2, r3, r4, r5, r6⟩ := R
  refine XR.adr s rfl (by decide) (fun hp => ?_)
  obtain ⟨na, sa, ra, la, ta, v⟩ := s.v
  have hn := (v.im s.1).n96
  obtain ⟨y, hy, rfl⟩ := ad_t hp
  rw [gA_v (o := some exx) (rdo r1) rfl, lI_v (rdo r4) hy (by omega), r5 y hy, adx_nI (by omega)]
  exact XR.ok s
theorem y_reg (s : XS B κ h xa W) (p : Int32) : XR B κ h xa (e3 sS sI "") (f_X1_register (some xa) p h) (w_reg p W) := by
  unfold f_X1_register w_reg
  refine XR.lat s rfl (o := fun r => if btw p 0 3 = true then (0, nI (r.2 (adx p)), W) else (2, 0, W)) (fun q x hx R => ?_)
  obtain ⟨im, rg, exx, f1, f2, v3, v4, v5, r1, r2, r3, r4, r5, r6⟩ := R
  rw [show f_X1_isBetween p 0 3 h = _ from x_btw0 (hi := 3) (by decide), cI_rt]
  refine XR.idx s rfl (by decide) (fun hp => ?_)
  obtain ⟨q1, q2, q3⟩ := btw_x hp
  generalize adx p = y at q1 q3 ⊢
  subst q1
  rw [gA_v (o := some rg) (rdo r1) rfl, lI_v (rdo r2) (by omega) (by decide), r3 y (by omega)]
  exact XR.ok s
theorem y_unrL (gh : GH B h) (R : RX h r im ua d oc lc ob lb lt lg lk b m n es t) {q : Nat} {x : RUN} (N : RN h q n x) {K : Int32 → AH → RS} : ∀ (k f i : Nat), i + k = n → k < f → f_X1_unrecovered_L15 K f (some r) (some q) (nI (cnt (fun a => decide (0 < x.1 a) && decide (dU m n es a ≠ 1)) i)) (nI i) h = K (nI (cnt (fun a => decide (0 < x.1 a) && decide (dU m n es a ≠ 1)) n)) h := by
  have hn := R.2.1.n96
  obtain ⟨ar, cp, A⟩ := R.2.2.2.1
  obtain ⟨im', rg, exx, f1, f2, v3, v4, v5, r1, r2, r3, r4, r5, r6⟩ := N
  intro k
  induction k with
  | zero =>
    intro f i h1 h2
    obtain ⟨f, rfl⟩ : ∃ f', f = f' + 1 := ⟨f - 1, by omega⟩
    unfold f_X1_unrecovered_L15
    rw [gA_v (o := some exx) (rdo r1) rfl, aL_v (rdo r4) (by decide), if_pos (nI_le (by simp only; omega) (by omega)), show i = n by omega]
  | succ k ih =>
    intro f i h1 h2
    obtain ⟨f, rfl⟩ : ∃ f', f = f' + 1 := ⟨f - 1, by omega⟩
    have hr6 := r6 i
    have hcl := cnt_le (fun a => decide (0 < x.1 a) && decide (dU m n es a ≠ 1)) i
    have ih' := ih f (i + 1) (by omega) (by omega)
    rw [cnt_s1] at ih'
    have Z0 : (decide (0 < x.1 i) && decide (dU m n es i ≠ 1)) = false → f_X1_unrecovered_J49 (f_X1_unrecovered_L15 K f) K (some r) (some q) (nI i) (nI (cnt (fun a => decide (0 < x.1 a) && decide (dU m n es a ≠ 1)) i)) h = K (nI (cnt (fun a => decide (0 < x.1 a) && decide (dU m n es a ≠ 1)) n)) h := fun z => by
      rw [z, if_neg (by decide)] at ih'
      unfold f_X1_unrecovered_J49 f_X1_unrecovered_J50
      rw [nI_1, show (0 : Int32) = nI 0 from rfl, nI_add]
      exact ih'
    unfold f_X1_unrecovered_L15
    rw [gA_v (o := some exx) (rdo r1) rfl, aL_v (rdo r4) (by decide), if_neg (fun z => by have := (nI_leI (by simp only; omega) (by omega)).mp z; simp only at this; omega), gA_v (o := some exx) (rdo r1) rfl, lI_v (rdo r4) (by omega) (by omega), r5 i (by omega)]
    by_cases h0 : x.1 i ≤ 0
    · rw [if_pos (show nI (x.1 i) ≤ 0 from nI_le (b := 0) h0 (by decide))]
      exact Z0 (by rw [decide_eq_false (by omega)]; rfl)
    · rw [if_neg (show ¬ nI (x.1 i) ≤ 0 from fun z => h0 ((nI_leI (b := 0) (by omega) (by decide)).mp z)), rc_v (rdo R.1), c_acc gh (rdo R.1) A (by omega), cI_rt]
      by_cases hu : dU m n es i = 1
      · rw [decide_eq_true hu, n0t]
        exact Z0 (by rw [decide_eq_false (p := dU m n es i ≠ 1) (fun z => z hu), Bool.and_false])
      · rw [decide_eq_false hu, n0f]
        rw [show (decide (0 < x.1 i) && decide (dU m n es i ≠ 1)) = true by rw [decide_eq_true (show 0 < x.1 i by omega), decide_eq_true (show dU m n es i ≠ 1 from hu)]; rfl, if_pos rfl] at ih'
        unfold f_X1_unrecovered_J50
        rw [nI_1, show (1 : Int32) = nI 1 from rfl, nI_add]
        exact ih'
theorem y_unr (s : XS B κ h xa W) : XR B κ h xa (e3 sS "" "") (f_X1_unrecovered (some xa) h) (w_unr W) := by
  unfold f_X1_unrecovered w_unr
  refine XR.rec s rfl (fun q hb R => ?_)
  refine XR.lat s rfl (o := fun r => (0, nI (unr (wI W) r), W)) (fun y x hx N => ?_)
  obtain ⟨im, ua, d, oc, lc, ob, lb, lt, lg, lk, b, R, _⟩ := R
  have hn := R.2.1.n96
  rw [show f_X1_unrecovered_L15 (fun x30 h31 => rtI x30 h31) FUEL (some q) (some y) 0 0 h = _ from y_unrL s.1 R N (K := fun x30 h31 => rtI x30 h31) (gn (wI W)) FUEL 0 (Nat.zero_add _) (by unfold FUEL; omega)]
  exact XR.ok s
/-- ends with other answers -/
def XG (B : Nat) (κ : Nat → Nat) (h : AH) (xa : Nat) (ex : Nat → String) (r : RS) (ret : AH → RS) (c : Nat) (W : WS) : Prop := ∃ h' κ', ((c = 0 ∧ r = ret h') ∨ (c ≠ 0 ∧ c ≤ 3 ∧ ∃ q, r = thr (ex c) q h')) ∧ XW κ' h' xa W ∧ KC (fun k => k = 1 ∨ k = 2) κ h κ' h' ∧ (∀ q, κ' q < 10) ∧ GH B h' ∧ hcl h ≤ hcl h' + 9000 ∧ hsl h ≤ hsl h' + 100000
theorem XG.ok {ret : AH → RS} (s : XS B κ h xa W) : XG B κ h xa ex (ret h) ret 0 W := ⟨h, κ, Or.inl ⟨rfl, rfl⟩, s.2.1, KC.rf, s.2.2.1, s.1, by omega, by omega⟩
theorem XG.th {ret : AH → RS} {c e : Nat} {E : String} (s : XS B κ h xa W) (hE : E = ex c) (hc : c ≠ 0 ∧ c ≤ 3) : XG B κ h xa ex (thr E (hsz h) (hnew h (.inr (e, [])) 6)) ret c W := by
  obtain ⟨h', κ', x1, x2⟩ := XR.th (e := e) s hE hc
  refine ⟨h', κ', ?_, x2⟩
  rcases x1 with ⟨z1, _⟩ | z
  · exact absurd z1 hc.1
  · exact Or.inr z
theorem x_rD {k : Nat} (hk : k ≤ 1000) (hc : 1 ≤ hcl h) (hs : 6 ≤ hsl h) : f_X1_requireDivisor (nI k) h = if k = 0 then thr "java/lang/ArithmeticException" (hsz h) (hnew h (.inr (19, [])) 6) else rtV h := by
  unfold f_X1_requireDivisor
  by_cases h0 : k = 0
  · subst h0
    rw [if_neg (fun z => z rfl), mk_v hc hs, at_v hnew_s, if_pos rfl]; rfl
  · rw [if_pos (show ¬ nI k = 0 from n_y (k := 0) hk (by decide) h0), if_neg h0]
theorem wU_5 {u : Nat → Nat} {C : List Nat} (h3 : ∀ a, u a ≤ 3) (q : Nat) : wU m u C q ≤ 5 := by
  unfold wU
  have := h3 q
  split
  · omega
  · split
    · decide
    · split <;> decide
theorem y_cbL (R : RX h r im ua d oc lc ob lb lt lg lk b m n es t) {K : Int32 → AH → RS} : ∀ (k f i : Nat), i + k = n → k < f → f_X5_countBytes_L4 K f (some r) (nI (cnt (fun a => tk (dU m n es a)) i)) (nI i) h = K (nI (cnt (fun a => tk (dU m n es a)) n)) h := by
  have hn := R.2.1.n96
  have h3 : ∀ a, dU m n es a ≤ 3 := R.sg.2.1
  obtain ⟨fu, u1, u2⟩ := R.2.2.1
  intro k
  induction k with
  | zero =>
    intro f i h1 h2
    obtain ⟨f, rfl⟩ : ∃ f', f = f' + 1 := ⟨f - 1, by omega⟩
    unfold f_X5_countBytes_L4
    rw [gA_v (o := some ua) (rdo R.1) rfl, aL_v (rdo u1) (by decide), if_pos (nI_le (by simp only; omega) (by omega)), show i = n by omega]
  | succ k ih =>
    intro f i h1 h2
    obtain ⟨f, rfl⟩ : ∃ f', f = f' + 1 := ⟨f - 1, by omega⟩
    have ih' := ih f (i + 1) (by omega) (by omega)
    rw [cnt_s1] at ih'
    unfold f_X5_countBytes_L4 f_X5_countBytes_J27
    rw [gA_v (o := some ua) (rdo R.1) rfl, aL_v (rdo u1) (by decide), if_neg (fun z => by have := (nI_leI (by simp only; omega) (by omega)).mp z; simp only at this; omega), rc_v (rdo R.1), c_tkn (rdo R.1) (rdo u1) u2 (wU_5 h3) hn (show i < n by omega), cI_rt, tk_wU h3, nI_1]
    cases hL : tk (dU m n es i) with
    | true =>
      rw [hL, if_pos rfl] at ih'
      rw [b0t, nI_1, ih']
    | false =>
      rw [hL, if_neg (by decide)] at ih'
      rw [b0f, show (0 : Int32) = nI 0 from rfl, nI_add]
      exact ih'
theorem y_cov (s : XS B κ h xa W) : XG B κ h xa (e3 sS sD "") (f_X1_coverage (some xa) h) (rtD (w_cov W).2) (w_cov W).1 W := by
  obtain ⟨na, sa, ra, la, ta, v⟩ := s.v
  have hc := s.2.2.2.1
  have hs := s.2.2.2.2
  have I := v.im s.1
  have hn := I.n96
  unfold f_X1_coverage w_cov
  rw [v.rc, x_recd s.1 v (by omega) (by omega)]
  by_cases hb : wR W = true
  · obtain ⟨q, q1, q2⟩ := v.2.2.2.1.2 hb
    obtain ⟨im, ua, d, oc, lc, ob, lb, lt, lg, lk, b, R, _⟩ := q2.ext (fc_ext s.1)
    rw [if_pos hb, if_pos hb, q1, cA_rt, v.now, I.rcv, i_size I, cI_rt, x_rD (by omega) (by omega) (by omega)]
    by_cases h0 : gn (wI W) = 0
    · rw [if_pos h0, if_pos h0, cV_th]
      exact XG.th s rfl (by decide)
    · unfold f_X5_countBytes
      rw [if_neg h0, if_neg h0, cV_rt, rc_v (rdo R.1), show f_X5_countBytes_L4 (fun x16 h17 => rtI x16 h17) FUEL (some q) 0 0 h = _ from y_cbL R (K := fun x16 h17 => rtI x16 h17) (gn (wI W)) FUEL 0 (Nat.zero_add _) (by unfold FUEL; omega), cI_rt, v.now, I.rcv, i_size I, cI_rt, dd_v _ (by omega) h0]
      exact XG.ok s
  · rw [if_neg hb, if_neg hb, cA_th]
    exact XG.th s rfl (by decide)
def sumN (f : Nat → Nat) : Nat → Nat
  | 0 => 0
  | k + 1 => sumN f k + f k
theorem sumL_N {L : Nat → Bool} {f : Nat → Nat} {ls : List Nat} (hls : ∀ i, i < ls.length → LK L i (ls.getD i 0)) : ∀ x, cnt L x ≤ ls.length → sumL L f x = sumN (fun i => f (ls.getD i 0)) (cnt L x)
  | 0, _ => rfl
  | x + 1, hx => by
    have e := cnt_s1 (L := L) (a := x)
    rw [e] at hx
    show sumL L f x + _ = _
    rw [sumL_N hls x (by omega), e]
    cases hL : L x with
    | true =>
      rw [hL, if_pos rfl] at hx
      rw [if_pos rfl, if_pos rfl]
      show _ = sumN _ (cnt L x) + f (ls.getD (cnt L x) 0)
      rw [(hls (cnt L x) (by omega)).uq ⟨hL, rfl⟩]
    | false => simp
theorem sumN_b {f : Nat → Nat} {c : Nat} (hf : ∀ i, f i ≤ c) : ∀ k, sumN f k ≤ c * k
  | 0 => Nat.zero_le _
  | k + 1 => by
    have := sumN_b hf k
    have := hf k
    show sumN f k + f k ≤ c * (k + 1)
    rw [Nat.mul_add]; omega
theorem y_cblL (R : RX h r im ua d oc lc ob lb lt lg lk b m n es t) {arr cap : Nat} {yk ls : List Nat} (A : AL h lk arr cap yk) (k1 : BK h m n es yk ls) (hl : ls.length ≤ 96) {K : Int32 → AH → RS} : ∀ (k f i : Nat), i + k = ls.length → k < f → f_X5_countInBlocks_L4 K f (some r) (nI (sumN (fun i => (bkl m (dU m n es) n es (dS m n es).2.2.2.2 (ls.getD i 0)).length) i)) (nI i) h = K (nI (sumN (fun i => (bkl m (dU m n es) n es (dS m n es).2.2.2.2 (ls.getD i 0)).length) ls.length)) h := by
  obtain ⟨k1, k2, k3⟩ := k1
  intro k
  induction k with
  | zero =>
    intro f i h1 h2
    obtain ⟨f, rfl⟩ : ∃ f', f = f' + 1 := ⟨f - 1, by omega⟩
    unfold f_X5_countInBlocks_L4
    rw [gA_v (o := some lk) (rdo R.1) rfl, A.rc, p_lsize A, cI_rt, if_pos (nI_le (by omega) (by omega)), show i = ls.length by omega]
  | succ k ih =>
    intro f i h1 h2
    obtain ⟨f, rfl⟩ : ∃ f', f = f' + 1 := ⟨f - 1, by omega⟩
    have t1 := rdo (k3 i (by omega))
    unfold f_X5_countInBlocks_L4
    rw [gA_v (o := some lk) (rdo R.1) rfl, A.rc, p_lsize A, cI_rt, if_neg (fun z => by have := (nI_leI (by omega) (by omega)).mp z; omega), gA_v (o := some lk) (rdo R.1) rfl, A.rc, p_lget A (by omega), cA_rt, ck_v t1 (by decide), gI_v t1 rfl, nI_add, nI_1]
    exact ih f (i + 1) (by omega) (by omega)
theorem y_avg (s : XS B κ h xa W) : XG B κ h xa (e3 sS sD "") (f_X1_averageBlock (some xa) h) (rtF (w_avg W).2) (w_avg W).1 W := by
  obtain ⟨na, sa, ra, la, ta, v⟩ := s.v
  have hc := s.2.2.2.1
  have hs := s.2.2.2.2
  unfold f_X1_averageBlock w_avg
  rw [v.rc, x_recd s.1 v (by omega) (by omega)]
  by_cases hb : wR W = true
  · obtain ⟨q, q1, q2⟩ := v.2.2.2.1.2 hb
    obtain ⟨im, ua, d, oc, lc, ob, lb, lt, lg, lk, b, R, ar, cp, yk, ls, A, k1, k4⟩ := q2.ext (fc_ext s.1)
    have hn := R.2.1.n96
    have k4 : ls.length = cnt (rL (wI W)) (gn (wI W)) := k4
    have hgl := cnt_le (rL (wI W)) (gn (wI W))
    rw [if_pos hb, if_pos hb, q1, cA_rt, gA_v (o := some lk) (rdo R.1) rfl, A.rc, p_lsize A, cI_rt, k1.1, k4, x_rD (by omega) (by omega) (by omega)]
    by_cases h0 : cnt (rL (wI W)) (gn (wI W)) = 0
    · rw [if_pos h0, if_pos h0, cV_th]
      exact XG.th s rfl (by decide)
    · unfold f_X5_countInBlocks
      rw [if_neg h0, if_neg h0, cV_rt, rc_v (rdo R.1), show f_X5_countInBlocks_L4 (fun x13 h14 => rtI x13 h14) FUEL (some q) 0 0 h = _ from y_cblL R A k1 (by omega) (K := fun x13 h14 => rtI x13 h14) ls.length FUEL 0 (Nat.zero_add _) (by unfold FUEL; omega), cI_rt, gA_v (o := some lk) (rdo R.1) rfl, A.rc, p_lsize A, cI_rt, k1.1, k4, fd_v _ (by omega) h0]
      have e : rSum (wI W) = sumN (fun i => (bkl (gm (wI W)) (dU (gm (wI W)) (gn (wI W)) (ge (wI W))) (gn (wI W)) (ge (wI W)) (dS (gm (wI W)) (gn (wI W)) (ge (wI W))).2.2.2.2 (ls.getD i 0)).length) (cnt (rL (wI W)) (gn (wI W))) := sumL_N (L := rL (wI W)) (f := fun a => (rB (wI W) a).length) k1.2.1 (gn (wI W)) (by omega)
      unfold rAvg
      rw [e]
      exact XG.ok s
  · rw [if_neg hb, if_neg hb, cA_th]
    exact XG.th s rfl (by decide)
end
