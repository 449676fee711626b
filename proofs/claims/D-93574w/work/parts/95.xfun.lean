/-! PURE: the class answers, part 4: functions -/
set_option maxRecDepth 100000
section
variable {B : Nat} {h h' h1 : AH} {κ κ' κ1 : Nat → Nat} {r im ua d oc lc ob lb lt lg lk b : Nat} {m : Nat → Nat} {n t : Nat} {es : List Nat} {c : Nat} {S : Nat → Prop} {xa : Nat} {W : WS} {ex : Nat → String}
theorem c_reach (g : GH B h) (R : RX (fc 0 κ h) r im ua d oc lc ob lb lt lg lk b m n es t) {hd : Nat} (hu : dU m n es hd = 1) (hc : 2500 ≤ hcl h) (hs : 30000 ≤ hsl h) :
    ∃ h' κ', f_X5_countReached (some r) (nI hd) h = rtI (nI (cnt (rchB m (dU m n es) (dS m n es).2.2.2.2 hd) n)) h' ∧ KC (fun k => k = 24 ∨ k = 27) κ h κ' h' ∧ GH B h' ∧ hcl h ≤ hcl h' + 2500 ∧ hsl h ≤ hsl h' + 30000 := by
  have hn := R.2.1.n96
  have sg := (dS_g R.2.1.byt R.2.1.n96 R.2.1.eln R.2.1.e4).1
  have hc2 := c2_le (n := n) (u := (dS m n es).1)
  have g11 := sg.2.2.2.2.2.2.2.2.2.2
  have hdn : hd < n := (zv_f (sg.2.2.1 hd hu).1).1
  have k1 : KC (fun k => k = 24 ∨ k = 27) κ h (nk 24 κ h) (hnew h (.inr (13, fsJ20)) 3) := KC.new (by omega) (by omega)
  have g1 : GH B (hnew h (.inr (13, fsJ20)) 3) := g.new
  obtain ⟨h2, e1, e2, e3, e4, e5, e6, e7⟩ := c_bnew2 (κ := nk 24 κ h) (c := 24) g1 (b := hsz h) hnew_s (nk_n (Nat.le_refl _)) (by show 1 ≤ hcl h - 1; omega) (by show 1 ≤ hsl h - 3; omega)
  have e6' : hcl h - 1 ≤ hcl h2 + 1 := e6
  have e7' : hsl h - 3 ≤ hsl h2 + 1 := e7
  have R2 := (R.ext (k1.ext g g1 (c := 0) (by decide))).ext (e3.ext g1 e4 (c := 0) (by decide))
  have kk2 : KC (fun k => k = 24 ∨ k = 27) κ h _ h2 := k1.tr (e3.w (fun k z => Or.inl z))
  unfold f_X5_countReached
  rw [nO_v (by omega) (by omega), nn_v, e1, cV_rt]
  generalize nk 24 (nk 24 κ h) (hnew h (.inr (13, fsJ20)) 3) = κ2 at *
  generalize hsz h = bs at *
  have k3 : KC (fun k => k = 24 ∨ k = 27) κ2 h2 (nk 27 κ2 h2) (hnew h2 (.inr (12, fsJ19)) 3) := KC.new (by omega) (by omega)
  have g3 : GH B (hnew h2 (.inr (12, fsJ19)) 3) := e4.new
  obtain ⟨h4, f1, f2, f3, f4, f5, f6, f7⟩ := c_qnew (κ := nk 27 κ2 h2) (c := 27) g3 (l := hsz h2) hnew_s (nk_n (Nat.le_refl _)) (by show 1 ≤ hcl h2 - 1; omega) (by show 17 ≤ hsl h2 - 3; omega)
  have f6' : hcl h2 - 1 ≤ hcl h4 + 1 := f6
  have f7' : hsl h2 - 3 ≤ hsl h4 + 17 := f7
  have x3 : KC (fun k => k = 27) κ2 h2 (nk 27 κ2 h2) (hnew h2 (.inr (12, fsJ19)) 3) := KC.new (by omega) (by omega)
  have x4 := x3.tr f3
  have y4 : ∀ c, c ≠ 27 → Ext (fc c κ2 h2) (fc c (nk 27 (nk 27 κ2 h2) (hnew h2 (.inr (12, fsJ19)) 3)) h4) := fun c hc => x4.ext e4 f4 (c := c) hc
  have R4 := R2.ext (y4 0 (by decide))
  have N4 := e2.ext (y4 24 (by decide))
  rw [nO_v (by omega) (by omega), nn_v, f1, cV_rt]
  generalize nk 27 (nk 27 κ2 h2) (hnew h2 (.inr (12, fsJ19)) 3) = κ4 at *
  generalize hsz h2 = dq at *
  obtain ⟨h5, κ5, cap5, ys5, p1, p2, p3, p4, p5, p6, p7, p8, p9, p10⟩ := c_push f4 R4 f2 BXS.nil (v := hd) (N := 1000) (by omega) (by decide) (by decide) (by decide) (by omega) (by omega) (X := fun h9 => f_X5_countReached_L24 (fun x33 h34 => xrc h34 x33 13 (xcI (f_J20_cardinality x33 h34) (fun v36 h35 => rtI v36 h35))) FUEL (some r) (some bs) (some dq) h9)
  rw [p1]
  have hp0 := pot_0 (tb := (dS m n es).2.2.2.2) (n := n) (fun T hT => (sg.2.2.2.2.2.2.2.2.2.1 T hT).2.2.2.1)
  have N5 := N4.ext (p6.ext f4 p7 (c := 24) (by decide))
  rw [List.nil_append] at p4
  obtain ⟨h6, κ6, cap6, T6, q1, q2, q3, q4, q5, q6, q7⟩ := c_rchL (B := B) (N := 1000) (bs := bs) (dq := dq) (hd := hd) (by decide) (K := fun x33 h34 => xrc h34 x33 13 (xcI (f_J20_cardinality x33 h34) (fun v36 h35 => rtI v36 h35))) 961 FUEL h5 κ5 1 _ cap5 ys5 [hd] (by rw [List.length_singleton]; omega) (by unfold FUEL; omega) (by decide) p7 p2 N5 p3 p4 p5 (by omega) (by omega) (fun x hx => by cases hx) (fun w hw => by rw [List.mem_singleton.mp hw]; exact ⟨by omega, fun _ => Rch.hd⟩) (fun a b ha => by cases ha) (Or.inr (List.mem_singleton.mpr rfl)) hu
  obtain ⟨ar6, N6⟩ := q2.bs q5
  have eT : T6 = rchB m (dU m n es) (dS m n es).2.2.2.2 hd := funext q3
  have ec : cnt (rchB m (dU m n es) (dS m n es).2.2.2.2 hd) 512 = cnt (rchB m (dU m n es) (dS m n es).2.2.2.2 hd) n := cnt_eq (by omega) (fun i hi _ => by
    cases hb : rchB m (dU m n es) (dS m n es).2.2.2.2 hd i with
    | false => rfl
    | true =>
      have := rchB_iff.mp hb (fun x => dU m n es x = 1) hu (fun a b _ _ hb => hb)
      rw [show dU m n es i = 0 from sg.1 i hi] at this
      cases this)
  rw [q1, N6.rc, p_bcard N6, cI_rt, eT, ec]
  exact ⟨h6, κ6, rfl, ((kk2.tr (x4.w (fun k z => Or.inr z))).tr (p6.w (fun k z => Or.inr z))).tr q4, q5, by omega, by omega⟩
/-- colours below 10 stay -/
theorem rz_s (g : GH B h) (hc : c < 10) : Ext (fc c κ h) (fc c (rz 0 κ) h) := ext_of (fc_gh g) (fun a x he => by
  obtain ⟨z1, z2⟩ := fc_e he
  refine fc_i ?_ z2
  unfold rz
  rw [z1, if_neg (by omega)]) rfl (fc_gh g)
theorem rz_10 (q : Nat) : rz 0 κ q < 10 := by rcases rz_lt (e := 0) (κ := κ) q with z | z <;> omega
theorem XW.ext (w : XW κ h xa W) (x0 : Ext (fc 0 κ h) (fc 0 κ' h')) (x1 : Ext (fc 1 κ h) (fc 1 κ' h')) (x2 : Ext (fc 2 κ h) (fc 2 κ' h')) : XW κ' h' xa W := by
  obtain ⟨na, sa, ra, la, ta, v1, v2, v3, v4, v5, v6⟩ := w
  exact ⟨na, sa, ra, la, ta, x1.1 _ _ v1, v2.ext x0, v3.ext x0, v4.ext x0, v5.ext x0, v6.ext x2⟩
theorem KC.fz (k : KC (fun k => 10 ≤ k) κ h κ' h') (hκ : ∀ q, κ q < 10) : KC (fun _ => False) κ h (rz 0 κ') h' := by
  refine KC.none (S := fun k => 10 ≤ k) ⟨k.1, k.2.1, k.2.2.1, fun a ha => ?_⟩ (fun q => by have := hκ q; omega)
  have := k.2.2.2 a ha
  have h9 := hκ a
  unfold rz
  rw [this, if_neg (by omega)]
/-- scratch is frozen when a call ends -/
theorem XR.cl {rs : RS} {o : OR} (s : XS B κ h xa W) (k : KC (fun k => 10 ≤ k) κ h κ' h') (g' : GH B h') (hc : hcl h ≤ hcl h' + 9000) (hs : hsl h ≤ hsl h' + 100000) (hW : o.2.2 = W) (h1 : (o.1 = 0 ∧ rs = rtI o.2.1 h') ∨ (o.1 ≠ 0 ∧ o.1 ≤ 3 ∧ ∃ q, rs = thr (ex o.1) q h')) : XR B κ h xa ex rs o := by
  refine ⟨h', rz 0 κ', h1, ?_, (k.fz s.2.2.1).w (fun k z => z.elim), rz_10, g', hc, hs⟩
  rw [hW]
  exact (s.2.1.kc s.1 g' k (by omega) (by omega) (by omega)).ext (rz_s g' (by decide)) (rz_s g' (by decide)) (rz_s g' (by decide))
theorem XR.rec0 (s : XS B κ h xa W) (he : ex 1 = "java/lang/IllegalStateException") {K : Option Nat → AH → RS} {o : OR} (ok : ∀ q, wR W = true → RV (fc 0 κ h) q (gm (wI W)) (gn (wI W)) (ge (wI W)) (gt (wI W)) → XR B κ h xa ex (K (some q) h) o) : XR B κ h xa ex (xrc h (some xa) 0 (xcA (f_X1_recovered (some xa) h) K)) (if wR W = true then o else (1, 0, W)) := by
  obtain ⟨na, sa, ra, la, ta, v⟩ := s.v
  have hc := s.2.2.2.1
  have hs := s.2.2.2.2
  rw [v.rc, x_recd s.1 v (by omega) (by omega)]
  by_cases hb : wR W = true
  · obtain ⟨q, q1, q2⟩ := v.2.2.2.1.2 hb
    rw [if_pos hb, if_pos hb, q1, cA_rt]
    exact ok q hb q2
  · rw [if_neg hb, if_neg hb, cA_th]
    exact XR.th s he.symm (by decide)
theorem y_fnN (s : XS B κ h xa W) : XR B κ h xa (e3 sS "" "") (f_X1_functionCount (some xa) h) (w_fnN W) := by
  have hc := s.2.2.2.1
  have hs := s.2.2.2.2
  unfold f_X1_functionCount w_fnN ofR
  refine XR.rec0 s rfl (fun q hb R => ?_)
  obtain ⟨im, ua, d, oc, lc, ob, lb, lt, lg, lk, b, R, _⟩ := R
  have hn := R.2.1.n96
  have sg := (dS_g R.2.1.byt R.2.1.n96 R.2.1.eln R.2.1.e4).1
  obtain ⟨h1, κ1, cap1, e1, e2, e3', e4⟩ := c_heads s.1 R (by omega) (by omega)
  obtain ⟨ar, N⟩ := e2.2.2.1.bs e2.1
  have h8 := e2.2.2.1.c8
  have q1 := e2.2.2.2.1
  have q2 := e2.2.2.2.2
  have ec : cnt (isH (gm (wI W)) (dU (gm (wI W)) (gn (wI W)) (ge (wI W))) (gn (wI W)) (ge (wI W))) 512 = cnt (rH (wI W)) (gn (wI W)) := cnt_eq (L := rH (wI W)) (by omega) (fun i hi _ => by
    cases hb : rH (wI W) i with
    | false => rfl
    | true =>
      have := ((isH_iff sg i).mp hb).1
      rw [show dU (gm (wI W)) (gn (wI W)) (ge (wI W)) i = 0 from sg.1 i hi] at this
      cases this)
  rw [rc_v (rdo (fc_e R.1).2), e1, cA_rt, N.rc, p_bcard N, cI_rt, ec]
  exact XR.cl s (e3'.w (fun k z => by omega)) e2.1 (by omega) (by omega) rfl (Or.inl ⟨rfl, rfl⟩)
theorem y_fn (s : XS B κ h xa W) (p : Int32) : XR B κ h xa (e3 sS sI sN) (f_X1_functionSize (some xa) p h) (w_fn p W) := by
  have hc := s.2.2.2.1
  have hs := s.2.2.2.2
  unfold f_X1_functionSize w_fn rf
  refine XR.rec0 s rfl (fun q hb R => ?_)
  refine XR.adr s rfl (by decide) (fun hp => ?_)
  obtain ⟨im, ua, d, oc, lc, ob, lb, lt, lg, lk, b, R, _⟩ := R
  have hn := R.2.1.n96
  have sg := (dS_g R.2.1.byt R.2.1.n96 R.2.1.eln R.2.1.e4).1
  obtain ⟨h1, κ1, cap1, e1, e2, e3', e4⟩ := c_heads s.1 R (by omega) (by omega)
  obtain ⟨ar, N⟩ := e2.2.2.1.bs e2.1
  have h8 := e2.2.2.1.c8
  have q1 := e2.2.2.2.1
  have q2 := e2.2.2.2.2
  obtain ⟨x, hx, rfl⟩ := ad_t hp
  rw [rc_v (rdo (fc_e R.1).2), e1, cA_rt, N.rc, p_bget e2.1 N (by omega), cI_rt, adx_nI (by omega)]
  have k1 : KC (fun k => 10 ≤ k) κ h κ1 h1 := e3'.w (fun k z => by omega)
  cases hH : isH (gm (wI W)) (dU (gm (wI W)) (gn (wI W)) (ge (wI W))) (gn (wI W)) (ge (wI W)) x with
  | true =>
    rw [n0t, if_pos (show rH (wI W) x = true from hH), rc_v e2.hr]
    obtain ⟨h2, κ2, f1, f2, f3, f4, f5⟩ := c_reach e2.1 e2.2.1 ((isH_iff sg x).mp hH).1 (by omega) (by omega)
    rw [f1, cI_rt]
    exact XR.cl s (k1.tr (f2.w (fun k z => by omega))) f3 (by omega) (by omega) rfl (Or.inl ⟨rfl, rfl⟩)
  | false =>
    rw [n0f, if_neg (show ¬ rH (wI W) x = true from fun z => by rw [show rH (wI W) x = false from hH] at z; cases z), mk_v (by omega) (by omega), at_v hnew_s]
    refine XR.cl (κ' := nk 0 κ1 h1) s (k1.tr (KC.new (by omega) (by omega))) e2.1.new ?_ ?_ rfl (Or.inr ⟨show (3 : Nat) ≠ 0 by decide, show (3 : Nat) ≤ 3 by decide, _, rfl⟩)
    · show hcl h ≤ hcl h1 - 1 + 9000; omega
    · show hsl h ≤ hsl h1 - 6 + 100000; omega
end
