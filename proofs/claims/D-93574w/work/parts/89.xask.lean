/-! PURE: the class answers, part 1 -/
set_option maxRecDepth 100000
abbrev sA : String := "java/lang/IllegalArgumentException"
abbrev sS : String := "java/lang/IllegalStateException"
abbrev sI : String := "java/lang/IndexOutOfBoundsException"
abbrev sU : String := "java/lang/UnsupportedOperationException"
abbrev sN : String := "java/util/NoSuchElementException"
abbrev sD : String := "java/lang/ArithmeticException"
def e3 (a b c : String) : Nat → String := fun k => if k = 1 then a else if k = 2 then b else c
section
variable {B : Nat} {h h' H H' : AH} {κ κ' : Nat → Nat} {xa na ta : Nat} {sa ra la : Option Nat} {W W' : WS} {c : Nat} {S : Nat → Prop} {g : IMG} {ex : Nat → String}
variable {r im ua d oc lc ob lb lt lg lk b : Nat} {m : Nat → Nat} {n t : Nat} {es : List Nat}
theorem XR.idw {rs : RS} {o : OR} (x : XR B κ h xa ex rs o) : XR B κ h xa ex (xcI rs (fun v h => rtI v h)) o := by
  obtain ⟨h', κ', x1, x2⟩ := x
  refine ⟨h', κ', ?_, x2⟩
  rcases x1 with ⟨z1, z2⟩ | ⟨z1, z2, q, z3⟩
  · exact Or.inl ⟨z1, by rw [z2, cI_rt]⟩
  · exact Or.inr ⟨z1, z2, q, by rw [z3, cI_th]⟩
theorem XR.ok' {v v' : Int32} (s : XS B κ h xa W) (e : v' = v) : XR B κ h xa ex (rtI v' h) (0, v, W) := by rw [e]; exact XR.ok s
theorem rc_no {a c c' : Nat} {fs : List Value} (he : rd h a = some (.inr (c, fs))) (hc : c ≠ c') {X : RS} : xrc h (some a) c' X = none := by simp only [xrc, he, if_neg hc]
theorem RX.sg (R : RX h r im ua d oc lc ob lb lt lg lk b m n es t) : SG m n (dS m n es) := (dS_g R.2.1.byt R.2.1.n96 R.2.1.eln R.2.1.e4).1
theorem acc_cnt (sg : SG m n (dS m n es)) (hn : n ≤ 96) : cnt (fun a => decide (dU m n es a = 1)) 512 = cnt (fun a => decide (dU m n es a = 1)) n := cnt_eq (by omega) (fun i h1 _ => decide_eq_false (fun z => by rw [show dU m n es i = 0 from sg.1 i h1] at z; cases z))
theorem y_flt (s : XS B κ h xa W) : XR B κ h xa ex (f_X1_faultPosition (some xa) h) (w_flt W) := by
  obtain ⟨na, sa, ra, la, ta, v⟩ := s.v
  unfold f_X1_faultPosition
  rw [gI_v v.hx rfl]
  exact XR.ok s
theorem y_siz (s : XS B κ h xa W) : XR B κ h xa ex (f_X1_size (some xa) h) (w_siz W) := by
  obtain ⟨na, sa, ra, la, ta, v⟩ := s.v
  have I := v.im s.1
  unfold f_X1_size
  rw [v.now, I.rcv, i_size I, cI_rt]
  exact XR.ok s
theorem y_ent (s : XS B κ h xa W) : XR B κ h xa ex (f_X1_entryCount (some xa) h) (w_ent W) := by
  obtain ⟨na, sa, ra, la, ta, v⟩ := s.v
  have I := v.im s.1
  obtain ⟨ea, n1, n2, n3⟩ := I.en
  unfold f_X1_entryCount
  rw [v.now, n1, n2]
  exact XR.ok s
theorem y_byte (s : XS B κ h xa W) (p : Int32) : XR B κ h xa (e3 sI "" "") (f_X1_byteAt (some xa) p h) (w_byte p W) := by
  unfold f_X1_byteAt w_byte
  refine XR.adr s rfl (by decide) (fun hp => ?_)
  obtain ⟨na, sa, ra, la, ta, v⟩ := s.v
  have I := v.im s.1
  obtain ⟨ba, n1, n2⟩ := I.by
  obtain ⟨x, hx, rfl⟩ := ad_t hp
  have := I.n96
  rw [v.now, n1, n2 x hx, adx_nI (by omega)]
  exact XR.ok s
theorem y_val (s : XS B κ h xa W) (p : Int32) : XR B κ h xa (e3 sI "" "") (f_X1_isValid (some xa) p h) (w_val p W) := by
  unfold f_X1_isValid w_val
  refine XR.adr s rfl (by decide) (fun hp => ?_)
  obtain ⟨na, sa, ra, la, ta, v⟩ := s.v
  have I := v.im s.1
  obtain ⟨x, hx, rfl⟩ := ad_t hp
  have := I.n96
  rw [v.now, I.rcv, i_valid I (by omega), cI_rt, rtZB, adx_nI (by omega)]
  exact XR.ok s
theorem y_dec (s : XS B κ h xa W) (p q : Int32) : XR B κ h xa (e3 sI sA sU) (f_X1_decode (some xa) p q h) (w_dec p q W) := by
  unfold f_X1_decode w_dec
  refine XR.adr s rfl (by decide) (fun hp => ?_)
  obtain ⟨na, sa, ra, la, ta, v⟩ := s.v
  have I := v.im s.1
  obtain ⟨x, hx, rfl⟩ := ad_t hp
  have hn := I.n96
  rw [show f_X1_isBetween q 0 5 h = _ from x_btw0 (hi := 5) (by decide), cI_rt, adx_nI (by omega)]
  refine XR.arg s rfl (by decide) (fun hq => ?_)
  obtain ⟨q1, q2, q3⟩ := btw_x hq
  rw [v.now, I.rcv, i_valid I (by omega), cI_rt]
  refine XR.sup s rfl (by decide) (fun hv => ?_)
  obtain ⟨v1, v2, v3, v4⟩ := zv_f hv
  generalize adx q = y at q1 q3 ⊢
  subst q1
  by_cases h0 : y = 0
  · subst h0
    rw [if_pos (show nI 0 = 0 from rfl), if_pos rfl, v.now, I.rcv, i_kind I hx, cI_rt]; exact XR.ok s
  rw [if_neg (show ¬ nI y = 0 from fun z => h0 ((nI_eq (b := 0) (by omega) (by decide)).mp z)), if_neg h0]
  by_cases h1 : y = 1
  · subst h1
    rw [if_pos (show nI 1 = 1 from rfl), if_pos rfl, v.now, I.rcv, i_len I hx, cI_rt]; exact XR.ok s
  rw [if_neg (show ¬ nI y = 1 from fun z => h1 ((nI_eq (b := 1) (by omega) (by decide)).mp z)), if_neg h1]
  by_cases h2 : y = 2
  · subst h2
    rw [if_pos (show nI 2 = 2 from rfl), if_pos rfl, v.now, I.rcv, i_first I hx, cI_rt]; exact XR.ok s
  rw [if_neg (show ¬ nI y = 2 from fun z => h2 ((nI_eq (b := 2) (by omega) (by decide)).mp z)), if_neg h2]
  by_cases h3 : y = 3
  · subst h3
    rw [if_pos (show nI 3 = 3 from rfl), if_pos rfl, v.now, I.rcv, i_second I hx, cI_rt]; exact XR.ok s
  rw [if_neg (show ¬ nI y = 3 from fun z => h3 ((nI_eq (b := 3) (by omega) (by decide)).mp z)), if_neg h3]
  by_cases h4 : y = 4
  · subst h4
    rw [if_pos (show nI 4 = 4 from rfl), if_pos rfl, v.now, I.rcv, i_hasOp I hx, cI_rt]
    refine XR.sup s rfl (by decide) (fun hz => ?_)
    have hl : zl (gm (wI W)) x = 2 := by unfold zl; rw [hz]; rfl
    rw [v.now, I.rcv, i_opd I (by omega), cI_rt]; exact XR.ok s
  · rw [if_neg (show ¬ nI y = 4 from fun z => h4 ((nI_eq (b := 4) (by omega) (by decide)).mp z)), if_neg h4, v.now, I.rcv, i_hasT I hx, cI_rt]
    refine XR.sup s rfl (by decide) (fun hz => ?_)
    have hl := zt_l hz
    rw [v.now, I.rcv, i_tgt I (by omega), cI_rt]; exact XR.ok s
theorem y_acc (s : XS B κ h xa W) : XR B κ h xa (e3 sS "" "") (f_X1_accepted (some xa) h) (w_acc W) := by
  unfold f_X1_accepted w_acc ofR
  refine XR.rec s rfl (fun q hb R => ?_)
  obtain ⟨im, ua, d, oc, lc, ob, lb, lt, lg, lk, b, R, _⟩ := R
  obtain ⟨ar, cp, A⟩ := R.2.2.2.1
  rw [gA_v (o := some b) (rdo R.1) rfl, A.rc, p_bcard A, cI_rt, acc_cnt R.sg R.2.1.n96]
  exact XR.ok s
/-- the next one, from the i-th -/
theorem nx_lk {T : Nat → Bool} {i a n : Nat} {rr : Int32} (hk : LK T i a) (ha : a < n) (hi : i + 1 < cnt T n) (hx : NX T (a + 1) rr) : ∃ j, rr = nI j ∧ LK T (i + 1) j ∧ j < n := by
  have e := cnt_s1 (L := T) (a := a)
  rw [hk.1, if_pos rfl, hk.2] at e
  rcases hx with ⟨_, z⟩ | ⟨j, rfl, z1, z2, z3, z4⟩
  · rw [cnt_eq (L := T) (a := a + 1) (b := n) (by omega) (fun x h1 _ => z x h1), e] at hi
    omega
  · have e2 : cnt T j = i + 1 := by rw [cnt_eq (L := T) (a := a + 1) (b := j) z2 (fun x h1 h2 => z4 x h1 h2), e]
    refine ⟨j, rfl, ⟨z3, e2⟩, ?_⟩
    by_cases hj : j < n
    · exact hj
    · have := cnt_m (L := T) (a := n) (b := j) (by omega)
      omega
theorem nx_0 {T : Nat → Bool} {n : Nat} {rr : Int32} (hi : 0 < cnt T n) (hx : NX T 0 rr) : ∃ j, rr = nI j ∧ LK T 0 j ∧ j < n := by
  rcases hx with ⟨_, z⟩ | ⟨j, rfl, z1, z2, z3, z4⟩
  · rw [cnt_eq (L := T) (a := 0) (b := n) (by omega) (fun x h1 _ => z x h1)] at hi
    exact absurd hi (Nat.lt_irrefl _)
  · have e2 : cnt T j = 0 := by rw [cnt_eq (L := T) (a := 0) (b := j) z2 (fun x h1 h2 => z4 x h1 h2)]; rfl
    refine ⟨j, rfl, ⟨z3, e2⟩, ?_⟩
    by_cases hj : j < n
    · exact hj
    · have := cnt_m (L := T) (a := n) (b := j) (by omega)
      omega
theorem y_aL (gh : GH B h) {T : Nat → Bool} {b arr cap p n : Nat} (A : BS h b arr cap T) (hn : n ≤ 96) (hp : p < cnt T n) {K : Int32 → AH → RS} : ∀ (k f i a : Nat), i + k = p → k < f → LK T i a → a < n → f_X1_acceptedAt_L31 K f (nI p) (some b) (nI a) (nI i) h = K (nI (kth T n 0 p)) h := by
  have hpn : cnt T n ≤ n := cnt_le _ _
  intro k
  induction k with
  | zero =>
    intro f i a h1 h2 hk ha
    obtain ⟨f, rfl⟩ : ∃ f', f = f' + 1 := ⟨f - 1, by omega⟩
    have hip : i = p := by omega
    subst hip
    unfold f_X1_acceptedAt_L31
    rw [if_pos (nI_le (Nat.le_refl _) (by omega)), hk.uq (kth_0 hp).1]
  | succ k ih =>
    intro f i a h1 h2 hk ha
    obtain ⟨f, rfl⟩ : ∃ f', f = f' + 1 := ⟨f - 1, by omega⟩
    unfold f_X1_acceptedAt_L31
    obtain ⟨r2, e1, e2⟩ := p_bnext gh A (x := a + 1) (by omega)
    rw [if_neg (fun z => by have := (nI_leI (by omega) (by omega)).mp z; omega), A.rc, nI_1, e1, cI_rt, nI_1]
    obtain ⟨j, rfl, q1, q2⟩ := nx_lk hk ha (by omega) e2
    exact ih f (i + 1) j (by omega) (by omega) q1 q2
theorem y_accAt (s : XS B κ h xa W) (p : Int32) : XR B κ h xa (e3 sS sI "") (f_X1_acceptedAt (some xa) p h) (w_accAt p W) := by
  unfold f_X1_acceptedAt w_accAt rf
  refine XR.rec s rfl (fun q hb R => ?_)
  obtain ⟨im, ua, d, oc, lc, ob, lb, lt, lg, lk, b, R, _⟩ := R
  obtain ⟨ar, cp, A⟩ := R.2.2.2.1
  have hn := R.2.1.n96
  have hcn := cnt_le (fun a => decide (dU (gm (wI W)) (gn (wI W)) (ge (wI W)) a = 1)) (gn (wI W))
  rw [gA_v (o := some b) (rdo R.1) rfl, A.rc, p_bcard A, cI_rt, acc_cnt R.sg hn, x_ad (by omega), cI_rt]
  refine XR.idx s rfl (by decide) (fun hp => ?_)
  obtain ⟨x, hx, rfl⟩ := ad_t hp
  obtain ⟨r0, e1, e2⟩ := p_bnext s.1 A (x := 0) (by decide)
  obtain ⟨j, rfl, q1, q2⟩ := nx_0 (show 0 < cnt _ (gn (wI W)) by omega) e2
  rw [A.rc, show f_J20_nextSetBit (some b) 0 h = _ from e1, cI_rt, adx_nI (by omega)]
  rw [show f_X1_acceptedAt_L31 (fun x19 h20 => rtI x19 h20) FUEL (nI x) (some b) (nI j) 0 h = _ from y_aL s.1 A hn hx (K := fun x19 h20 => rtI x19 h20) x FUEL 0 j (by omega) (by unfold FUEL; omega) q1 q2]
  exact XR.ok s
theorem y_use (s : XS B κ h xa W) (p : Int32) : XR B κ h xa (e3 sS sI "") (f_X1_use (some xa) p h) (w_use p W) := by
  unfold f_X1_use w_use rf
  refine XR.rec s rfl (fun q hb R => ?_)
  obtain ⟨im, ua, d, oc, lc, ob, lb, lt, lg, lk, b, R, _⟩ := R
  have hn := R.2.1.n96
  obtain ⟨f, f1, f2⟩ := R.2.2.1
  refine XR.adr s rfl (by decide) (fun hp => ?_)
  obtain ⟨x, hx, rfl⟩ := ad_t hp
  rw [gA_v (o := some ua) (rdo R.1) rfl, lI_v (rdo f1) hx (by omega), f2 x hx, adx_nI (by omega)]
  exact XR.ok s
theorem y_cfN (s : XS B κ h xa W) : XR B κ h xa (e3 sS "" "") (f_X1_conflictCount (some xa) h) (w_cfN W) := by
  unfold f_X1_conflictCount w_cfN ofR
  refine XR.rec s rfl (fun q hb R => ?_)
  obtain ⟨im, ua, d, oc, lc, ob, lb, lt, lg, lk, b, R, _⟩ := R
  obtain ⟨o1, ar, cp, yc, A, b1⟩ := R.2.2.2.2.1
  unfold f_X6_size
  rw [gA_v (o := some oc) (rdo R.1) rfl, rc_v (rdo o1), gA_v (o := some lc) (rdo o1) rfl, A.rc, p_lsize A, cI_rt, cI_rt, b1.1]
  exact XR.ok s
theorem y_bdN (s : XS B κ h xa W) : XR B κ h xa (e3 sS "" "") (f_X1_badTargets (some xa) h) (w_bdN W) := by
  unfold f_X1_badTargets w_bdN ofR
  refine XR.rec s rfl (fun q hb R => ?_)
  obtain ⟨im, ua, d, oc, lc, ob, lb, lt, lg, lk, b, R, _⟩ := R
  obtain ⟨o1, ar, cp, yc, A, b1⟩ := R.2.2.2.2.2.1
  unfold f_X6_size
  rw [gA_v (o := some ob) (rdo R.1) rfl, rc_v (rdo o1), gA_v (o := some lb) (rdo o1) rfl, A.rc, p_lsize A, cI_rt, cI_rt, b1.1]
  exact XR.ok s
theorem y_tbN (s : XS B κ h xa W) : XR B κ h xa (e3 sS "" "") (f_X1_tableCount (some xa) h) (w_tbN W) := by
  unfold f_X1_tableCount w_tbN ofR
  refine XR.rec s rfl (fun q hb R => ?_)
  obtain ⟨im, ua, d, oc, lc, ob, lb, lt, lg, lk, b, R, _⟩ := R
  obtain ⟨ar, cp, yt, A, b1, b2⟩ := R.2.2.2.2.2.2.1
  rw [gA_v (o := some lt) (rdo R.1) rfl, A.rc, p_lsize A, cI_rt, b1]
  exact XR.ok s
theorem y_gpN (s : XS B κ h xa W) : XR B κ h xa (e3 sS "" "") (f_X1_gapCount (some xa) h) (w_gpN W) := by
  unfold f_X1_gapCount w_gpN ofR
  refine XR.rec s rfl (fun q hb R => ?_)
  obtain ⟨im, ua, d, oc, lc, ob, lb, lt, lg, lk, b, R, _⟩ := R
  obtain ⟨ar, cp, yg, A, b1, b2⟩ := R.2.2.2.2.2.2.2
  rw [gA_v (o := some lg) (rdo R.1) rfl, A.rc, p_lsize A, cI_rt, b1]
  exact XR.ok s
theorem y_blN (s : XS B κ h xa W) : XR B κ h xa (e3 sS "" "") (f_X1_blockCount (some xa) h) (w_blN W) := by
  unfold f_X1_blockCount w_blN ofR
  refine XR.rec s rfl (fun q hb R => ?_)
  obtain ⟨im, ua, d, oc, lc, ob, lb, lt, lg, lk, b, R, ar, cp, yk, ls, A, k1, k2⟩ := R
  rw [gA_v (o := some lk) (rdo R.1) rfl, A.rc, p_lsize A, cI_rt, k1.1, k2]
  exact XR.ok s
theorem y_cf (s : XS B κ h xa W) (p : Int32) : XR B κ h xa (e3 sS sI "") (f_X1_conflict (some xa) p h) (w_cf p W) := by
  unfold f_X1_conflict w_cf rf
  refine XR.rec s rfl (fun q hb R => ?_)
  obtain ⟨im, ua, d, oc, lc, ob, lb, lt, lg, lk, b, R, _⟩ := R
  obtain ⟨o1, ar, cp, yc, A, b1, b2⟩ := R.2.2.2.2.1
  have hn := R.2.1.n96
  obtain ⟨_, _, _, _, _, g6, g7, _⟩ := R.sg
  have hl := nodup_le g7 g6
  have hc' := s.2.2.2.1
  have hs := s.2.2.2.2
  unfold f_X6_get
  rw [gA_v (o := some oc) (rdo R.1) rfl, rc_v (rdo o1), gA_v (o := some lc) (rdo o1) rfl, A.rc, p_lsize A, cI_rt, x_ad (by omega), cI_rt, x_rI _ (by omega) (by omega), b1]
  show XR _ _ _ _ _ _ (if ad (dS (gm (wI W)) (gn (wI W)) (ge (wI W))).2.2.1.length p = true then _ else _)
  by_cases hp : ad (dS (gm (wI W)) (gn (wI W)) (ge (wI W))).2.2.1.length p = true
  · obtain ⟨x, hx, rfl⟩ := ad_t hp
    obtain ⟨bx, _⟩ := b2 x hx
    rw [if_pos hp, if_pos hp, cV_rt, gA_v (o := some lc) (rdo o1) rfl, A.rc, p_lget A (by omega), cA_rt, cA_rt, ck_v bx (by decide), rc_v bx, p_intValue bx, cI_rt, adx_nI (by omega)]
    exact XR.ok s
  · rw [if_neg hp, if_neg hp, cV_th, cA_th]
    exact XR.th s rfl (by decide)
end
