/-! PURE: the class changes -/
set_option maxRecDepth 100000
section
variable {B : Nat} {h h' h0 : AH} {κ κ' κ0 : Nat → Nat} {xa na ta : Nat} {sa ra la : Option Nat} {W W' : WS} {c : Nat} {S : Nat → Prop} {g : IMG} {ex : Nat → String} {m : Nat → Nat} {n t : Nat} {es : List Nat}
theorem cpI_v {a0 a n0 n1 sp dp k : Nat} {f g : Nat → Int32} (e0 : rd h a0 = some (.inl (0, n0, .inl f))) (e1 : h.1 a = some (.inl (0, n1, .inl g))) (hs : sp + k ≤ n0) (hd : dp + k ≤ n1) (b0 : n0 ≤ 10000) (b1 : n1 ≤ 10000) {X : AH → RS} : xcpI h (some a0) (nI sp) (some a) (nI dp) (nI k) X = X (hset h a (.inl (0, n1, .inl (va_cpy f g sp dp k)))) := by
  unfold xcpI
  simp only [e0, e1]
  have c1 : (nI sp).toNatClampNeg = sp := nI_clamp (by omega)
  have c2 : (nI dp).toNatClampNeg = dp := nI_clamp (by omega)
  have c3 : (nI k).toNatClampNeg = k := nI_clamp (by omega)
  rw [if_pos ⟨rfl, rfl, by rw [nI_toInt (by omega)]; omega, by rw [nI_toInt (by omega)]; omega, by rw [nI_toInt (by omega)]; omega, by rw [c1, c3]; exact hs, by rw [c2, c3]; exact hd⟩, c1, c2, c3]
theorem clI_v {a n : Nat} {f : Nat → Int32} (e : rd h a = some (.inl (0, n, .inl f))) (hc : 1 ≤ hcl h) (hs : n ≤ hsl h) {X : Option Nat → AH → RS} : xclI h (some a) X = X (some (hsz h)) (hnew h (.inl (0, n, .inl f)) n) := by
  unfold xclI
  simp only [e]
  rw [if_pos ⟨trivial, hc, hs⟩]
theorem ckA_v {a t : Nat} {x : vp_A} (e : rd h a = some (.inl (t, x))) {X : RS} : xckA h (some a) t X = X := by
  unfold xckA
  simp only [e, if_true]
theorem kn_set {e0 e : AE} {k : Nat} (hc : 1 ≤ hcl h) (hs : k ≤ hsl h) : KC (fun _ => False) κ h (nk c κ h) (hset (hnew h e0 k) (hsz h) e) := KC.kn (F := fun _ => False) (c1 := 1) (n1 := k) (Kp.tr (F1 := fun _ => False) (F2 := fun q => q = hsz h) (Kp.nw hc hs) (Kp.st rfl) (fun _ z => z) (fun q hq z => by omega) (by omega) (by omega)) (fun _ _ z => z)
/-- a new image -/
theorem x_img {ba ea : Nat} {fb fe : Nat → Int32} (gh : GH B h) (hc : 1 ≤ hcl h) (hs : 3 ≤ hsl h) (hb : rd (fc 0 κ h) ba = some (.inl (0, n, .inl fb))) (he : rd (fc 0 κ h) ea = some (.inl (0, es.length, .inl fe))) (hf : ∀ i, i < n → fb i = nI (m i)) (hg : ∀ i, i < es.length → fe i = nI (es.getD i 0)) (hn : n ≤ 96) (hm : ∀ i, i < n → m i < 256) (hl : es.length ≤ 4) (hen : ∀ e ∈ es, e < n) (ht : 1 ≤ t ∧ t ≤ 30) :
    ∃ h3, f_X2_init (some (hsz h)) (some ba) (some ea) (nI t) (hnew h (.inr (1, fsX2)) 3) = rtV h3 ∧ KC (fun _ => False) κ h (nk 0 κ h) h3 ∧ GH B h3 ∧ IG (fc 0 (nk 0 κ h) h3) (hsz h) (m, n, es, t) ∧ hcl h ≤ hcl h3 + 1 ∧ hsl h ≤ hsl h3 + 3 := by
  have k1 : KC (fun _ => False) κ h (nk 0 κ h) (hset (hnew h (.inr (1, fsX2)) 3) (hsz h) (.inr (1, [.ref ba, .ref ea, .int (nI t)]))) := kn_set hc hs
  have g1 : GH B (hset (hnew h (.inr (1, fsX2)) 3) (hsz h) (.inr (1, [.ref ba, .ref ea, .int (nI t)]))) := gh.new.set hnew_s
  have x := k1.ext gh g1 (c := 0) (fun z => z)
  refine ⟨_, ?_, k1, g1, ⟨⟨ba, ea, fb, fe, rdo (fc_i (nk_n (Nat.le_refl _)) hset_s), x.2.1 _ _ hb, x.2.1 _ _ he, hf, hg, hn, hm, hl, hen⟩, ht⟩, by show hcl h ≤ hcl h - 1 + 1; omega, by show hsl h ≤ hsl h - 3 + 3; omega⟩
  unfold f_X2_init
  rw [nn_v, pF_w [.ref ba, .null, .int 0] hnew_s (Nat.le_of_ble_eq_true rfl) rfl, pF_w [.ref ba, .ref ea, .int 0] hset_s (Nat.le_of_ble_eq_true rfl) rfl, pF_w [.ref ba, .ref ea, .int (nI t)] hset_s (Nat.le_of_ble_eq_true rfl) rfl, hset_ss, hset_ss]
/-- the image is set -/
theorem x_set (gh : GH B h) (v : XV κ h xa na sa ra la ta W) {a : Nat} (i : IG (fc 0 κ h) a g) (mem : Bool) (hgn : mem = false → gn g = gn (wI W)) :
    ∃ h', f_X1_set (some xa) (some a) (bI mem) h = rtV h' ∧ XW κ h' xa (chg W g mem) ∧ KC (fun k => k = 1) κ h κ h' ∧ GH B h' ∧ hcl h' = hcl h ∧ hsl h' = hsl h := by
  obtain ⟨v1, v2, v3, v4, v5, v6⟩ := v
  obtain ⟨kx, hx⟩ := fc_e v1
  have k1 : KC (fun k => k = 1) κ h κ (hset h xa (.inr (0, XF a sa none (if mem = true then none else la) ta (wT W).length (wF W)))) := KC.set kx
  have g1 : GH B (hset h xa (.inr (0, XF a sa none (if mem = true then none else la) ta (wT W).length (wF W)))) := gh.set hx
  have x0 := k1.ext gh g1 (c := 0) (by decide)
  refine ⟨_, ?_, ⟨a, sa, none, (if mem = true then none else la), ta, fc_i kx hset_s, i.ext x0, v3.ext x0, ⟨fun _ => rfl, fun z => by cases z⟩, ?_, v6.ext (k1.ext gh g1 (c := 2) (by decide))⟩, k1, g1, rfl, rfl⟩
  · unfold f_X1_set
    rw [pF_w (XF a sa ra la ta (wT W).length (wF W)) hx (Nat.le_of_ble_eq_true rfl) rfl, pF_w (XF a sa none la ta (wT W).length (wF W)) hset_s (Nat.le_of_ble_eq_true rfl) rfl, hset_ss]
    cases mem with
    | false => rw [b0f, gA_v (o := la) (rdo hset_s) rfl, pF_w (XF a sa none la ta (wT W).length (wF W)) hset_s (Nat.le_of_ble_eq_true rfl) rfl, hset_ss]; rfl
    | true => rw [b0t, pF_w (XF a sa none none ta (wT W).length (wF W)) hset_s (Nat.le_of_ble_eq_true rfl) rfl, hset_ss]; rfl
  · cases mem with
    | false =>
      have := v5.ext x0
      rw [← hgn rfl] at this
      exact this
    | true => exact ⟨fun _ => rfl, fun x z => by cases z⟩
/-- the end of a change -/
theorem x_fin (k : KC (fun k => k = 1 ∨ k = 2) κ0 h0 κ h) (gh : GH B h) (v : XV κ h xa na sa ra la ta W) {a : Nat} (i : IG (fc 0 κ h) a g) (mem : Bool) (hgn : mem = false → gn g = gn (wI W)) (hκ : ∀ q, κ q < 10) (hc : hcl h0 ≤ hcl h + 9000) (hs : hsl h0 ≤ hsl h + 100000) {K : AH → RS} {v0 : Int32} (hK : ∀ h', Ext (fc 0 κ h) (fc 0 κ h') → GH B h' → K h' = rtI v0 h') :
    XR B κ0 h0 xa ex (xrc h (some xa) 0 (xcV (f_X1_set (some xa) (some a) (bI mem) h) K)) (0, v0, chg W g mem) := by
  obtain ⟨h1, e1, e2, e3, e4, e5, e6⟩ := x_set gh v i mem hgn
  rw [v.rc, e1, cV_rt, hK h1 (e3.ext gh e4 (c := 0) (by decide)) e4]
  exact ⟨h1, κ, Or.inl ⟨rfl, rfl⟩, e2, k.tr (e3.w (fun k z => Or.inl z)), hκ, e4, by omega, by omega⟩
theorem y_clear (s : XS B κ h xa W) : XR B κ h xa ex (f_X1_clear (some xa) h) (w_clear W) := by
  obtain ⟨na, sa, ra, la, ta, v⟩ := s.v
  obtain ⟨gh, _, hκ, hc, hs⟩ := id s
  have I := v.im gh
  unfold f_X1_clear w_clear
  rw [v.now, I.rcv, i_size I, cI_rt, nO_v (by omega) (by omega), show (0 : Int32) = nI 0 from rfl]
  have k1 : KC (fun _ => False) κ h (nk 0 κ h) (hnew h (.inr (1, fsX2)) 3) := KC.new (by omega) (by omega)
  have g1 : GH B (hnew h (.inr (1, fsX2)) 3) := gh.new
  have q1 : hcl (hnew h (.inr (1, fsX2)) 3) = hcl h - 1 ∧ hsl (hnew h (.inr (1, fsX2)) 3) = hsl h - 3 ∧ hsz (hnew h (.inr (1, fsX2)) 3) = hsz h + 1 := ⟨rfl, rfl, rfl⟩
  have p1 : (hnew h (.inr (1, fsX2)) 3).1 (hsz h) = some (.inr (1, fsX2)) := hnew_s
  have κ1 := nk_lt (h := h) (c := 0) hκ (by decide)
  generalize hnew h (.inr (1, fsX2)) 3 = h1 at *
  generalize hk1 : nk 0 κ h = κ1' at *
  rw [nA_v (by decide) (by omega) (by omega)]
  have k2 : KC (fun _ => False) κ1' h1 (nk 0 κ1' h1) (hnew h1 (.inl (0, zA 0 0)) 0) := KC.new (by omega) (by omega)
  have g2 : GH B (hnew h1 (.inl (0, zA 0 0)) 0) := g1.new
  have q2 : hcl (hnew h1 (.inl (0, zA 0 0)) 0) = hcl h1 - 1 ∧ hsl (hnew h1 (.inl (0, zA 0 0)) 0) = hsl h1 - 0 ∧ hsz (hnew h1 (.inl (0, zA 0 0)) 0) = hsz h1 + 1 := ⟨rfl, rfl, rfl⟩
  have p2 : (fc 0 (nk 0 κ1' h1) (hnew h1 (.inl (0, zA 0 0)) 0)).1 (hsz h1) = some (.inl (0, 0, .inl (fun _ => 0))) := fc_i (nk_n (Nat.le_refl _)) hnew_s
  have p2' : (hnew h1 (.inl (0, zA 0 0)) 0).1 (hsz h) = some (.inr (1, fsX2)) := by rw [hnew_o (by omega)]; exact p1
  have κ2 := nk_lt (h := h1) (c := 0) κ1 (by decide)
  generalize hnew h1 (.inl (0, zA 0 0)) 0 = h2 at *
  generalize nk 0 κ1' h1 = κ2' at *
  rw [nA_v (by decide) (by omega) (by omega)]
  have k3 : KC (fun _ => False) κ2' h2 (nk 0 κ2' h2) (hnew h2 (.inl (0, zA 0 0)) 0) := KC.new (by omega) (by omega)
  have g3 : GH B (hnew h2 (.inl (0, zA 0 0)) 0) := g2.new
  have q3 : hcl (hnew h2 (.inl (0, zA 0 0)) 0) = hcl h2 - 1 ∧ hsl (hnew h2 (.inl (0, zA 0 0)) 0) = hsl h2 - 0 ∧ hsz (hnew h2 (.inl (0, zA 0 0)) 0) = hsz h2 + 1 := ⟨rfl, rfl, rfl⟩
  have p3 : (fc 0 (nk 0 κ2' h2) (hnew h2 (.inl (0, zA 0 0)) 0)).1 (hsz h2) = some (.inl (0, 0, .inl (fun _ => 0))) := fc_i (nk_n (Nat.le_refl _)) hnew_s
  have p3' : (hnew h2 (.inl (0, zA 0 0)) 0).1 (hsz h) = some (.inr (1, fsX2)) := by rw [hnew_o (by omega)]; exact p2'
  have κ3 := nk_lt (h := h2) (c := 0) κ2 (by decide)
  generalize hnew h2 (.inl (0, zA 0 0)) 0 = h3 at *
  generalize nk 0 κ2' h2 = κ3' at *
  have kk := (k1.tr k2).tr k3
  have v3 := v.kc gh g3 kk (fun z => z) (fun z => z) (fun z => z)
  have I3 := v3.im g3
  rw [v3.now, I3.th, nn_v]
  have p2'' := (k3.ext g2 g3 (c := 0) (fun z => z)).1 _ _ p2
  have hz3 : κ3' (hsz h) = 0 := by
    rw [k3.2.2.2 _ (by omega), k2.2.2.2 _ (by omega), ← hk1]; exact nk_n (Nat.le_refl _)
  have e4 : f_X2_init (some (hsz h)) (some (hsz h1)) (some (hsz h2)) (nI (gt (wI W))) h3 = rtV (hset h3 (hsz h) (.inr (1, [.ref (hsz h1), .ref (hsz h2), .int (nI (gt (wI W)))]))) := by
    unfold f_X2_init
    rw [nn_v, pF_w [.ref (hsz h1), .null, .int 0] p3' (Nat.le_of_ble_eq_true rfl) rfl, pF_w [.ref (hsz h1), .ref (hsz h2), .int 0] hset_s (Nat.le_of_ble_eq_true rfl) rfl, pF_w [.ref (hsz h1), .ref (hsz h2), .int (nI (gt (wI W)))] hset_s (Nat.le_of_ble_eq_true rfl) rfl, hset_ss, hset_ss]
  have g4 : GH B (hset h3 (hsz h) (.inr (1, [.ref (hsz h1), .ref (hsz h2), .int (nI (gt (wI W)))]))) := g3.set p3'
  have k4 : KC (fun _ => False) κ h κ3' (hset h3 (hsz h) (.inr (1, [.ref (hsz h1), .ref (hsz h2), .int (nI (gt (wI W)))]))) := ⟨fun a ha hS => by rw [hset_o (by omega)]; exact kk.1 a ha hS, kk.2.1, kk.2.2.1, kk.2.2.2⟩
  have v4 := v.kc gh g4 k4 (fun z => z) (fun z => z) (fun z => z)
  have i4 : IG (fc 0 κ3' (hset h3 (hsz h) (.inr (1, [.ref (hsz h1), .ref (hsz h2), .int (nI (gt (wI W)))])))) (hsz h) (gm (wI W), 0, [], gt (wI W)) := by
    refine ⟨⟨hsz h1, hsz h2, fun _ => 0, fun _ => 0, rdo (fc_i hz3 hset_s), rdo (fc_i (fc_e p2'').1 ?_), rdo (fc_i (fc_e p3).1 ?_), fun i hi => absurd hi (Nat.not_lt_zero i), fun i hi => absurd hi (Nat.not_lt_zero i), Nat.zero_le _, fun i hi => absurd hi (Nat.not_lt_zero i), Nat.zero_le _, fun e he => by cases he⟩, v.2.1.2⟩
    · rw [hset_o (by omega)]; exact (fc_e p2'').2
    · rw [hset_o (by omega)]; exact (fc_e p3).2
  rw [e4, cV_rt]
  exact x_fin (k4.w (fun k z => z.elim)) g4 v4 i4 true (fun z => by cases z) κ3 (by show hcl h ≤ hcl h3 + 9000; omega) (by show hsl h ≤ hsl h3 + 100000; omega) (fun h' _ _ => rfl)
theorem y_thr (s : XS B κ h xa W) (p : Int32) : XR B κ h xa (e3 sA "" "") (f_X1_setThreshold (some xa) p h) (w_thr p W) := by
  obtain ⟨na, sa, ra, la, ta, v⟩ := s.v
  obtain ⟨gh, _, hκ, hc, hs⟩ := id s
  have I := v.im gh
  unfold f_X1_setThreshold w_thr
  rw [show f_X1_isBetween p 1 30 h = _ from x_btw (lo := 1) (hi := 30) (by decide) (by decide), cI_rt]
  refine XR.arg s rfl (by decide) (fun hp => ?_)
  obtain ⟨p1, p2, p3⟩ := btw_x hp
  generalize adx p = y at p1 p2 p3 ⊢
  subst p1
  obtain ⟨ba, ea, f, g, e1, e2, e3', hf, hg, hn, hm, hl, he⟩ := id v.2.1.1
  obtain ⟨h3, d1, d2, d3, d4, d5, d6⟩ := x_img (m := gm (wI W)) (t := y) gh (by omega) (by omega) e2 e3' hf hg hn hm hl he ⟨p2, p3⟩
  have k1 : KC (fun _ => False) κ h (nk 0 κ h) (hnew h (.inr (1, fsX2)) 3) := KC.new (by omega) (by omega)
  have g1 : GH B (hnew h (.inr (1, fsX2)) 3) := gh.new
  have v1 := v.kc gh g1 k1 (fun z => z) (fun z => z) (fun z => z)
  have e1' := (fc_ext g1).2.1 _ _ ((k1.ext gh g1 (c := 0) (fun z => z)).2.1 _ _ e1)
  rw [v.now, I.th, nO_v (by omega) (by omega), v1.now, gA_v (o := some ba) e1' rfl, v1.now, gA_v (o := some ea) e1' rfl, nn_v, d1, cV_rt]
  exact x_fin (d2.w (fun k z => z.elim)) d3 (v.kc gh d3 d2 (fun z => z) (fun z => z) (fun z => z)) d4 false (fun _ => rfl) (nk_lt hκ (by decide)) (by omega) (by omega) (fun h' _ _ => rfl)
theorem y_setB (s : XS B κ h xa W) (p q : Int32) : XR B κ h xa (e3 sI sA "") (f_X1_setByte (some xa) p q h) (w_setB p q W) := by
  obtain ⟨na, sa, ra, la, ta, v⟩ := s.v
  obtain ⟨gh, _, hκ, hc, hs⟩ := id s
  have I := v.im gh
  unfold f_X1_setByte w_setB
  refine XR.adr s rfl (by decide) (fun hp => ?_)
  rw [show f_X1_isBetween q 0 255 h = _ from x_btw0 (hi := 255) (by decide), cI_rt]
  refine XR.arg s rfl (by decide) (fun hq => ?_)
  obtain ⟨p1, p2, p3⟩ := btw_x hq
  generalize adx q = y at p1 p2 p3 ⊢
  subst p1
  obtain ⟨x, hx, rfl⟩ := ad_t hp
  obtain ⟨ba, ea, f, g, e1, e2, e3', hf, hg, hn, hm, hl, he⟩ := id v.2.1.1
  have e1' := (fc_ext gh).2.1 _ _ e1
  have e2' := (fc_ext gh).2.1 _ _ e2
  rw [adx_nI (by omega), v.now, gA_v (o := some ba) e1' rfl, clI_v e2' (by omega) (by omega), ckA_v (rdo hnew_s), lI_v (rdo hnew_s) hx (by omega), sI_v hnew_s hx (by omega), hf x hx]
  have k1 : KC (fun _ => False) κ h (nk 0 κ h) (hset (hnew h (.inl (0, gn (wI W), .inl f)) (gn (wI W))) (hsz h) (.inl (0, gn (wI W), .inl (upd f x (nrT 0 (nI y)))))) := kn_set (by omega) (by omega)
  have g1 : GH B (hset (hnew h (.inl (0, gn (wI W), .inl f)) (gn (wI W))) (hsz h) (.inl (0, gn (wI W), .inl (upd f x (nrT 0 (nI y)))))) := gh.new.set hnew_s
  have a1 : (fc 0 (nk 0 κ h) (hset (hnew h (.inl (0, gn (wI W), .inl f)) (gn (wI W))) (hsz h) (.inl (0, gn (wI W), .inl (upd f x (nrT 0 (nI y))))))).1 (hsz h) = some (.inl (0, gn (wI W), .inl (upd f x (nI y)))) := fc_i (nk_n (Nat.le_refl _)) hset_s
  have q1 : hcl (hset (hnew h (.inl (0, gn (wI W), .inl f)) (gn (wI W))) (hsz h) (.inl (0, gn (wI W), .inl (upd f x (nrT 0 (nI y)))))) = hcl h - 1 ∧ hsl (hset (hnew h (.inl (0, gn (wI W), .inl f)) (gn (wI W))) (hsz h) (.inl (0, gn (wI W), .inl (upd f x (nrT 0 (nI y)))))) = hsl h - gn (wI W) := ⟨rfl, rfl⟩
  have κ1 := nk_lt (h := h) (c := 0) hκ (by decide)
  generalize hset (hnew h (.inl (0, gn (wI W), .inl f)) (gn (wI W))) (hsz h) (.inl (0, gn (wI W), .inl (upd f x (nrT 0 (nI y))))) = h1 at *
  generalize nk 0 κ h = κ1' at *
  have v1 := v.kc gh g1 k1 (fun z => z) (fun z => z) (fun z => z)
  have x1 := k1.ext gh g1 (c := 0) (fun z => z)
  obtain ⟨h3, d1, d2, d3, d4, d5, d6⟩ := x_img (m := updN (gm (wI W)) x y) (t := gt (wI W)) (κ := κ1') g1 (by omega) (by omega) (rdo a1) (x1.2.1 _ _ e3') (fun i hi => by
    unfold updN
    by_cases hix : i = x
    · rw [hix, upd_s, if_pos rfl]
    · rw [upd_n hix, if_neg hix]; exact hf i hi) hg hn (fun i hi => by
    unfold updN
    split
    · omega
    · exact hm i hi) hl he v.2.1.2
  have k2 : KC (fun _ => False) κ1' h1 (nk 0 κ1' h1) (hnew h1 (.inr (1, fsX2)) 3) := KC.new (by omega) (by omega)
  have g2 : GH B (hnew h1 (.inr (1, fsX2)) 3) := g1.new
  have v2 := v1.kc g1 g2 k2 (fun z => z) (fun z => z) (fun z => z)
  have e1'' := (fc_ext g2).2.1 _ _ ((k2.ext g1 g2 (c := 0) (fun z => z)).2.1 _ _ (x1.2.1 _ _ e1))
  rw [nO_v (by omega) (by omega), v2.now, gA_v (o := some ea) e1'' rfl, v2.now, gI_v e1'' rfl, nn_v, d1, cV_rt]
  exact x_fin ((k1.tr d2).w (fun k z => z.elim)) d3 (v1.kc g1 d3 d2 (fun z => z) (fun z => z) (fun z => z)) d4 true (fun z => by cases z) (nk_lt κ1 (by decide)) (by omega) (by omega) (fun h' _ _ => rfl)
end
