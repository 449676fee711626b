/-! PURE: the class changes, part 2 -/
set_option maxRecDepth 100000
theorem chr_v : ∀ y, y < 127 → nrT 2 (((nI y).toUInt32 % 65536).toInt32) = nI y := by decide +kernel
section
variable {B : Nat} {h h' h0 : AH} {κ κ' κ0 : Nat → Nat} {xa na ta : Nat} {sa ra la : Option Nat} {W W' : WS} {c : Nat} {S : Nat → Prop} {g : IMG} {ex : Nat → String} {m : Nat → Nat} {n t : Nat} {es : List Nat}
theorem y_addE (s : XS B κ h xa W) (p : Int32) : XR B κ h xa (e3 sI sS "") (f_X1_addEntry (some xa) p h) (w_addE p W) := by
  obtain ⟨na, sa, ra, la, ta, v⟩ := s.v
  obtain ⟨gh, _, hκ, hc, hs⟩ := id s
  have I := v.im gh
  unfold f_X1_addEntry w_addE
  refine XR.adr s rfl (by decide) (fun hp => ?_)
  obtain ⟨x, hx, rfl⟩ := ad_t hp
  obtain ⟨ba, ea, f, g, e1, e2, e3', hf, hg, hn, hm, hl, he⟩ := id v.2.1.1
  have e1' := (fc_ext gh).2.1 _ _ e1
  have e3h := (fc_ext gh).2.1 _ _ e3'
  rw [adx_nI (by omega), v.now, gA_v (o := some ea) e1' rfl, aL_v e3h (by decide)]
  have bad : XR B κ h xa (e3 sI sS "") (f_X1_addEntry_J32 (some xa) (nI x) h) (2, 0, W) := by
    unfold f_X1_addEntry_J32 f_X1_addEntry_J33
    rw [show (0 : Int32) = bI false from rfl, x_rS false (by omega) (by omega), if_neg (by decide), cV_th]
    exact XR.th s rfl (by decide)
  show XR B κ h xa (e3 sI sS "") (if (4 : Int32) ≤ nI (ge (wI W)).length then _ else _) _
  by_cases h4 : (ge (wI W)).length = 4
  · rw [if_pos (show (4 : Int32) ≤ nI (ge (wI W)).length from nI_le (a := 4) (by omega) (by omega)), if_pos (Or.inl h4)]
    exact bad
  · rw [if_neg (show ¬ (4 : Int32) ≤ nI (ge (wI W)).length from fun z => by have := (nI_leI (a := 4) (by decide) (by omega)).mp z; omega), v.now, I.rcv, i_ent I (by omega), cI_rt]
    by_cases hin : x ∈ ge (wI W)
    · rw [decide_eq_true hin, n0t, if_pos (Or.inr hin)]
      exact bad
    · rw [decide_eq_false hin, n0f, if_neg (by simp [h4, hin])]
      unfold f_X1_addEntry_J33
      rw [show f_X1_requireState 1 h = _ from x_rS true (by omega) (by omega), if_pos rfl, cV_rt, v.now, gA_v (o := some ea) e1' rfl, aL_v e3h (by decide), show nI (((ge (wI W)).length, (Sum.inl g)) : vp_A).1 + 1 = nI ((ge (wI W)).length + 1) from nI_1 _, nA_v (by omega) (by omega) (by omega)]
      have k0 : KC (fun _ => False) κ h (nk 0 κ h) (hnew h (.inl (0, zA 0 ((ge (wI W)).length + 1))) ((ge (wI W)).length + 1)) := KC.new (by omega) (by omega)
      have g0 : GH B (hnew h (.inl (0, zA 0 ((ge (wI W)).length + 1))) ((ge (wI W)).length + 1)) := gh.new
      have v0 := v.kc gh g0 k0 (fun z => z) (fun z => z) (fun z => z)
      have x0 := k0.ext gh g0 (c := 0) (fun z => z)
      have e1a := (fc_ext g0).2.1 _ _ (x0.2.1 _ _ e1)
      have e3a := (fc_ext g0).2.1 _ _ (x0.2.1 _ _ e3')
      rw [v0.now, gA_v (o := some ea) e1a rfl, v0.now, gA_v (o := some ea) e1a rfl, aL_v e3a (by decide)]
      show XR _ _ _ _ _ (xcpI _ (some ea) (nI 0) (some (hsz h)) (nI 0) (nI (ge (wI W)).length) _) _
      rw [cpI_v e3a hnew_s (by omega) (by omega) (by omega) (by omega)]
      have k1 : KC (fun _ => False) κ h (nk 0 κ h) (hset (hnew h (.inl (0, zA 0 ((ge (wI W)).length + 1))) ((ge (wI W)).length + 1)) (hsz h) (.inl (0, (ge (wI W)).length + 1, .inl (va_cpy g (fun _ => 0) 0 0 (ge (wI W)).length)))) := kn_set (by omega) (by omega)
      have g1 : GH B (hset (hnew h (.inl (0, zA 0 ((ge (wI W)).length + 1))) ((ge (wI W)).length + 1)) (hsz h) (.inl (0, (ge (wI W)).length + 1, .inl (va_cpy g (fun _ => 0) 0 0 (ge (wI W)).length)))) := gh.new.set hnew_s
      have v1 := v.kc gh g1 k1 (fun z => z) (fun z => z) (fun z => z)
      have x1 := k1.ext gh g1 (c := 0) (fun z => z)
      have e1b := (fc_ext g1).2.1 _ _ (x1.2.1 _ _ e1)
      have e3b := (fc_ext g1).2.1 _ _ (x1.2.1 _ _ e3')
      rw [v1.now, gA_v (o := some ea) e1b rfl, aL_v e3b (by decide), sI_v (i := (ge (wI W)).length) hset_s (by omega) (by omega), hset_ss]
      have k2 : KC (fun _ => False) κ h (nk 0 κ h) (hset (hnew h (.inl (0, zA 0 ((ge (wI W)).length + 1))) ((ge (wI W)).length + 1)) (hsz h) (.inl (0, (ge (wI W)).length + 1, .inl (upd (va_cpy g (fun _ => 0) 0 0 (ge (wI W)).length) (ge (wI W)).length (nrT 0 (nI x)))))) := kn_set (by omega) (by omega)
      have g2 : GH B (hset (hnew h (.inl (0, zA 0 ((ge (wI W)).length + 1))) ((ge (wI W)).length + 1)) (hsz h) (.inl (0, (ge (wI W)).length + 1, .inl (upd (va_cpy g (fun _ => 0) 0 0 (ge (wI W)).length) (ge (wI W)).length (nrT 0 (nI x)))))) := gh.new.set hnew_s
      have a2 : (fc 0 (nk 0 κ h) (hset (hnew h (.inl (0, zA 0 ((ge (wI W)).length + 1))) ((ge (wI W)).length + 1)) (hsz h) (.inl (0, (ge (wI W)).length + 1, .inl (upd (va_cpy g (fun _ => 0) 0 0 (ge (wI W)).length) (ge (wI W)).length (nrT 0 (nI x))))))).1 (hsz h) = some (.inl (0, (ge (wI W)).length + 1, .inl (upd (va_cpy g (fun _ => 0) 0 0 (ge (wI W)).length) (ge (wI W)).length (nI x)))) := fc_i (nk_n (Nat.le_refl _)) hset_s
      have q2 : hcl (hset (hnew h (.inl (0, zA 0 ((ge (wI W)).length + 1))) ((ge (wI W)).length + 1)) (hsz h) (.inl (0, (ge (wI W)).length + 1, .inl (upd (va_cpy g (fun _ => 0) 0 0 (ge (wI W)).length) (ge (wI W)).length (nrT 0 (nI x)))))) = hcl h - 1 ∧ hsl (hset (hnew h (.inl (0, zA 0 ((ge (wI W)).length + 1))) ((ge (wI W)).length + 1)) (hsz h) (.inl (0, (ge (wI W)).length + 1, .inl (upd (va_cpy g (fun _ => 0) 0 0 (ge (wI W)).length) (ge (wI W)).length (nrT 0 (nI x)))))) = hsl h - ((ge (wI W)).length + 1) := ⟨rfl, rfl⟩
      have κ1 := nk_lt (h := h) (c := 0) hκ (by decide)
      generalize hset (hnew h (.inl (0, zA 0 ((ge (wI W)).length + 1))) ((ge (wI W)).length + 1)) (hsz h) (.inl (0, (ge (wI W)).length + 1, .inl (upd (va_cpy g (fun _ => 0) 0 0 (ge (wI W)).length) (ge (wI W)).length (nrT 0 (nI x))))) = h2 at *
      clear k0 g0 v0 x0 e1a e3a k1 g1 v1 x1 e1b e3b
      generalize nk 0 κ h = κ2 at *
      have v2 := v.kc gh g2 k2 (fun z => z) (fun z => z) (fun z => z)
      have x2 := k2.ext gh g2 (c := 0) (fun z => z)
      have hll : (ge (wI W) ++ [x]).length = (ge (wI W)).length + 1 := by rw [List.length_append]; rfl
      obtain ⟨h3, d1, d2, d3, d4, d5, d6⟩ := x_img (m := gm (wI W)) (es := ge (wI W) ++ [x]) (t := gt (wI W)) (κ := κ2) g2 (by omega) (by omega) (x2.2.1 _ _ e2) (by rw [hll]; exact rdo a2) hf (fun i hi => by
        rw [hll] at hi
        by_cases hie : i = (ge (wI W)).length
        · subst hie
          rw [upd_s, getD_ae]
        · rw [upd_n hie, getD_ap (by omega), pk_cpy_in (by omega) (by omega)]
          have := hg i (by omega)
          rw [← this]; congr 1; omega) hn hm (by omega) (fun e hee => by
        rcases List.mem_append.mp hee with z | z
        · exact he e z
        · rw [List.mem_singleton.mp z]; exact hx) v.2.1.2
      have k3 : KC (fun _ => False) κ2 h2 (nk 0 κ2 h2) (hnew h2 (.inr (1, fsX2)) 3) := KC.new (by omega) (by omega)
      have g3 : GH B (hnew h2 (.inr (1, fsX2)) 3) := g2.new
      have v3 := v2.kc g2 g3 k3 (fun z => z) (fun z => z) (fun z => z)
      have e1c := (fc_ext g3).2.1 _ _ ((k3.ext g2 g3 (c := 0) (fun z => z)).2.1 _ _ (x2.2.1 _ _ e1))
      rw [nO_v (by omega) (by omega), v3.now, gA_v (o := some ba) e1c rfl, v3.now, gI_v e1c rfl, nn_v, d1, cV_rt]
      exact x_fin ((k2.tr d2).w (fun k z => z.elim)) d3 (v2.kc g2 d3 d2 (fun z => z) (fun z => z) (fun z => z)) d4 false (fun _ => rfl) (nk_lt κ1 (by decide)) (by omega) (by omega) (fun h' xx g' => by
        have := (fc_ext g').2.1 _ _ (xx.2.1 _ _ ((d2.ext g2 d3 (c := 0) (fun z => z)).2.1 _ _ (rdo a2)))
        rw [aL_v this (by decide)]
        show rtI (nI ((ge (wI W)).length + 1) - 1) h' = _
        rw [nI_s1 (by omega)]; rfl)
theorem y_remE (s : XS B κ h xa W) (p : Int32) : XR B κ h xa (e3 sI "" "") (f_X1_removeEntry (some xa) p h) (w_remE p W) := by
  obtain ⟨na, sa, ra, la, ta, v⟩ := s.v
  obtain ⟨gh, _, hκ, hc, hs⟩ := id s
  have I := v.im gh
  unfold f_X1_removeEntry w_remE
  obtain ⟨ba, ea, f, g, e1, e2, e3', hf, hg, hn, hm, hl, he⟩ := id v.2.1.1
  have e1' := (fc_ext gh).2.1 _ _ e1
  have e3h := (fc_ext gh).2.1 _ _ e3'
  rw [v.now, gA_v (o := some ea) e1' rfl, aL_v e3h (by decide)]
  show XR B κ h xa _ (xcI (f_X1_isBetween p 0 (nI (ge (wI W)).length - 1) h) _) _
  rw [x_ad (by omega), cI_rt]
  refine XR.idx s rfl (by decide) (fun hp => ?_)
  obtain ⟨x, hx, rfl⟩ := ad_t hp
  have hz : (0 : Int32) = nI 0 := rfl
  rw [adx_nI (by omega), v.now, gA_v (o := some ea) e1' rfl, lI_v e3h hx (by omega), v.now, gA_v (o := some ea) e1' rfl, aL_v e3h (by decide), show nI (((ge (wI W)).length, (Sum.inl g)) : vp_A).1 - 1 = nI ((ge (wI W)).length - 1) from nI_s1 (by omega), nA_v (by omega) (by omega) (by omega)]
  have k0 : KC (fun _ => False) κ h (nk 0 κ h) (hnew h (.inl (0, zA 0 ((ge (wI W)).length - 1))) ((ge (wI W)).length - 1)) := KC.new (by omega) (by omega)
  have g0 : GH B (hnew h (.inl (0, zA 0 ((ge (wI W)).length - 1))) ((ge (wI W)).length - 1)) := gh.new
  have v0 := v.kc gh g0 k0 (fun z => z) (fun z => z) (fun z => z)
  have x0 := k0.ext gh g0 (c := 0) (fun z => z)
  have e1a := (fc_ext g0).2.1 _ _ (x0.2.1 _ _ e1)
  have e3a := (fc_ext g0).2.1 _ _ (x0.2.1 _ _ e3')
  rw [v0.now, gA_v (o := some ea) e1a rfl]
  show XR _ _ _ _ _ (xcpI _ (some ea) (nI 0) (some (hsz h)) (nI 0) (nI x) _) _
  rw [cpI_v e3a hnew_s (by omega) (by omega) (by omega) (by omega)]
  have k1 : KC (fun _ => False) κ h (nk 0 κ h) (hset (hnew h (.inl (0, zA 0 ((ge (wI W)).length - 1))) ((ge (wI W)).length - 1)) (hsz h) (.inl (0, (ge (wI W)).length - 1, .inl (va_cpy g (fun _ => 0) 0 0 x)))) := kn_set (by omega) (by omega)
  have g1 : GH B (hset (hnew h (.inl (0, zA 0 ((ge (wI W)).length - 1))) ((ge (wI W)).length - 1)) (hsz h) (.inl (0, (ge (wI W)).length - 1, .inl (va_cpy g (fun _ => 0) 0 0 x)))) := gh.new.set hnew_s
  have v1 := v.kc gh g1 k1 (fun z => z) (fun z => z) (fun z => z)
  have x1 := k1.ext gh g1 (c := 0) (fun z => z)
  have e1b := (fc_ext g1).2.1 _ _ (x1.2.1 _ _ e1)
  have e3b := (fc_ext g1).2.1 _ _ (x1.2.1 _ _ e3')
  rw [v1.now, gA_v (o := some ea) e1b rfl, aL_v (rdo hset_s) (by decide), nI_1]
  show XR _ _ _ _ _ (xcpI _ (some ea) (nI (x + 1)) (some (hsz h)) (nI x) (nI ((ge (wI W)).length - 1) - nI x) _) _
  rw [pk_sub (by omega), cpI_v e3b hset_s (by omega) (by omega) (by omega) (by omega), hset_ss]
  have k2 : KC (fun _ => False) κ h (nk 0 κ h) (hset (hnew h (.inl (0, zA 0 ((ge (wI W)).length - 1))) ((ge (wI W)).length - 1)) (hsz h) (.inl (0, (ge (wI W)).length - 1, .inl (va_cpy g (va_cpy g (fun _ => 0) 0 0 x) (x + 1) x ((ge (wI W)).length - 1 - x))))) := kn_set (by omega) (by omega)
  have g2 : GH B (hset (hnew h (.inl (0, zA 0 ((ge (wI W)).length - 1))) ((ge (wI W)).length - 1)) (hsz h) (.inl (0, (ge (wI W)).length - 1, .inl (va_cpy g (va_cpy g (fun _ => 0) 0 0 x) (x + 1) x ((ge (wI W)).length - 1 - x))))) := gh.new.set hnew_s
  have a2 : (fc 0 (nk 0 κ h) (hset (hnew h (.inl (0, zA 0 ((ge (wI W)).length - 1))) ((ge (wI W)).length - 1)) (hsz h) (.inl (0, (ge (wI W)).length - 1, .inl (va_cpy g (va_cpy g (fun _ => 0) 0 0 x) (x + 1) x ((ge (wI W)).length - 1 - x)))))).1 (hsz h) = some (.inl (0, (ge (wI W)).length - 1, .inl (va_cpy g (va_cpy g (fun _ => 0) 0 0 x) (x + 1) x ((ge (wI W)).length - 1 - x)))) := fc_i (nk_n (Nat.le_refl _)) hset_s
  have q2 : hcl (hset (hnew h (.inl (0, zA 0 ((ge (wI W)).length - 1))) ((ge (wI W)).length - 1)) (hsz h) (.inl (0, (ge (wI W)).length - 1, .inl (va_cpy g (va_cpy g (fun _ => 0) 0 0 x) (x + 1) x ((ge (wI W)).length - 1 - x))))) = hcl h - 1 ∧ hsl (hset (hnew h (.inl (0, zA 0 ((ge (wI W)).length - 1))) ((ge (wI W)).length - 1)) (hsz h) (.inl (0, (ge (wI W)).length - 1, .inl (va_cpy g (va_cpy g (fun _ => 0) 0 0 x) (x + 1) x ((ge (wI W)).length - 1 - x))))) = hsl h - ((ge (wI W)).length - 1) := ⟨rfl, rfl⟩
  have κ1 := nk_lt (h := h) (c := 0) hκ (by decide)
  generalize hset (hnew h (.inl (0, zA 0 ((ge (wI W)).length - 1))) ((ge (wI W)).length - 1)) (hsz h) (.inl (0, (ge (wI W)).length - 1, .inl (va_cpy g (va_cpy g (fun _ => 0) 0 0 x) (x + 1) x ((ge (wI W)).length - 1 - x)))) = h2 at *
  clear k0 g0 v0 x0 e1a e3a k1 g1 v1 x1 e1b e3b
  generalize nk 0 κ h = κ2 at *
  have v2 := v.kc gh g2 k2 (fun z => z) (fun z => z) (fun z => z)
  have x2 := k2.ext gh g2 (c := 0) (fun z => z)
  have hll : ((ge (wI W)).eraseIdx x).length = (ge (wI W)).length - 1 := List.length_eraseIdx_of_lt hx
  obtain ⟨h3, d1, d2, d3, d4, d5, d6⟩ := x_img (m := gm (wI W)) (es := (ge (wI W)).eraseIdx x) (t := gt (wI W)) (κ := κ2) g2 (by omega) (by omega) (x2.2.1 _ _ e2) (by rw [hll]; exact rdo a2) hf (fun i hi => by
    rw [hll] at hi
    rw [er_g]
    by_cases hix : i < x
    · rw [if_pos hix]
      have e : va_cpy g (va_cpy g (fun _ => 0) 0 0 x) (x + 1) x ((ge (wI W)).length - 1 - x) i = g i := by
        unfold va_cpy
        rw [if_neg (by omega), if_pos (by omega)]
        congr 1; omega
      rw [e]; exact hg i (by omega)
    · rw [if_neg hix]
      have e : va_cpy g (va_cpy g (fun _ => 0) 0 0 x) (x + 1) x ((ge (wI W)).length - 1 - x) i = g (i + 1) := by
        unfold va_cpy
        rw [if_pos (by omega)]
        congr 1; omega
      rw [e]; exact hg (i + 1) (by omega)) hn hm (by omega) (fun e hee => he e (List.mem_of_mem_eraseIdx hee)) v.2.1.2
  have k3 : KC (fun _ => False) κ2 h2 (nk 0 κ2 h2) (hnew h2 (.inr (1, fsX2)) 3) := KC.new (by omega) (by omega)
  have g3 : GH B (hnew h2 (.inr (1, fsX2)) 3) := g2.new
  have v3 := v2.kc g2 g3 k3 (fun z => z) (fun z => z) (fun z => z)
  have e1c := (fc_ext g3).2.1 _ _ ((k3.ext g2 g3 (c := 0) (fun z => z)).2.1 _ _ (x2.2.1 _ _ e1))
  rw [nO_v (by omega) (by omega), v3.now, gA_v (o := some ba) e1c rfl, v3.now, gI_v e1c rfl, nn_v, d1, cV_rt, hg x hx]
  exact x_fin ((k2.tr d2).w (fun k z => z.elim)) d3 (v2.kc g2 d3 d2 (fun z => z) (fun z => z) (fun z => z)) d4 false (fun _ => rfl) (nk_lt κ1 (by decide)) (by omega) (by omega) (fun h' _ _ => rfl)
theorem y_rec (s : XS B κ h xa W) : XR B κ h xa ex (f_X1_recover (some xa) h) (w_rec W) := by
  obtain ⟨na, sa, ra, la, ta, v⟩ := s.v
  obtain ⟨gh, _, hκ, hc, hs⟩ := id s
  unfold f_X1_recover w_rec
  have k1 : KC (fun _ => False) κ h (nk 0 κ h) (hnew h (.inr (4, fsX5)) 9) := KC.new (by omega) (by omega)
  have g1 : GH B (hnew h (.inr (4, fsX5)) 9) := gh.new
  have v1 := v.kc gh g1 k1 (fun z => z) (fun z => z) (fun z => z)
  obtain ⟨h2, κ2, e1, e2, e3', e4, e5, e6, e7⟩ := c_recover gh v.2.1.1 hκ v.2.1.2 (by omega) (by omega)
  obtain ⟨v1', v2', v3', v4', v5', v6'⟩ := v.kc gh e5 e4 (fun z => z) (fun z => z) (fun z => z)
  obtain ⟨kx, hx⟩ := fc_e v1'
  rw [nO_v (by omega) (by omega), v1.now, nn_v, e1, cV_rt, pF_w (XF na sa (some (hsz h)) la ta (wT W).length (wF W)) hx (Nat.le_of_ble_eq_true rfl) rfl]
  have k3 : KC (fun k => k = 1) κ2 h2 κ2 (hset h2 xa (.inr (0, XF na sa (some (hsz h)) la ta (wT W).length (wF W)))) := KC.set kx
  have g3 : GH B (hset h2 xa (.inr (0, XF na sa (some (hsz h)) la ta (wT W).length (wF W)))) := e5.set hx
  have x0 := k3.ext e5 g3 (c := 0) (by decide)
  have p3 : (fc 1 κ2 (hset h2 xa (.inr (0, XF na sa (some (hsz h)) la ta (wT W).length (wF W))))).1 xa = some (.inr (0, XF na sa (some (hsz h)) la ta (wT W).length (wF W))) := fc_i kx hset_s
  have R3 := e2.ext x0
  have q3 : hcl (hset h2 xa (.inr (0, XF na sa (some (hsz h)) la ta (wT W).length (wF W)))) = hcl h2 ∧ hsl (hset h2 xa (.inr (0, XF na sa (some (hsz h)) la ta (wT W).length (wF W)))) = hsl h2 := ⟨rfl, rfl⟩
  generalize hset h2 xa (.inr (0, XF na sa (some (hsz h)) la ta (wT W).length (wF W))) = h3 at *
  obtain ⟨im, ua, d, oc, lc, ob, lb, lt, lg, lk, b, R, _⟩ := R3.ext (fc_ext g3)
  obtain ⟨ar, cp, A⟩ := R.2.2.2.1
  rw [gA_v (o := some (hsz h)) (rdo (fc_e p3).2) rfl, gA_v (o := some b) (rdo R.1) rfl, A.rc, p_bcard A, cI_rt, acc_cnt R.sg R.2.1.n96]
  refine ⟨h3, κ2, Or.inl ⟨rfl, rfl⟩, ⟨na, sa, some (hsz h), la, ta, p3, v2'.ext x0, v3'.ext x0, ⟨fun z => (by cases z), fun _ => ⟨_, rfl, R3⟩⟩, v5'.ext x0, v6'.ext (k3.ext e5 g3 (c := 2) (by decide))⟩, (e4.w (fun k z => z.elim)).tr (k3.w (fun k z => Or.inl z)), e3', g3, by omega, by omega⟩
theorem y_save (s : XS B κ h xa W) : XG B κ h xa ex (f_X1_save (some xa) h) rtV 0 (w_save W).2.2 := by
  obtain ⟨na, sa, ra, la, ta, v⟩ := s.v
  obtain ⟨gh, _, hκ, hc, hs⟩ := id s
  obtain ⟨v1, v2, v3, v4, v5, v6⟩ := id v
  obtain ⟨kx, hx⟩ := fc_e v1
  unfold f_X1_save
  rw [v.now, pF_w (XF na (some na) ra la ta (wT W).length (wF W)) hx (Nat.le_of_ble_eq_true rfl) rfl]
  have k3 : KC (fun k => k = 1) κ h κ (hset h xa (.inr (0, XF na (some na) ra la ta (wT W).length (wF W)))) := KC.set kx
  have g3 : GH B (hset h xa (.inr (0, XF na (some na) ra la ta (wT W).length (wF W)))) := gh.set hx
  have x0 := k3.ext gh g3 (c := 0) (by decide)
  exact ⟨_, κ, Or.inl ⟨rfl, rfl⟩, ⟨na, some na, ra, la, ta, fc_i kx hset_s, v2.ext x0, ⟨fun z => (by cases z), fun g hg => (by cases hg; exact ⟨na, rfl, v2.ext x0⟩)⟩, v4.ext x0, v5.ext x0, v6.ext (k3.ext gh g3 (c := 2) (by decide))⟩, k3.w (fun k z => Or.inl z), hκ, g3, by show hcl h ≤ hcl h + 9000; omega, by show hsl h ≤ hsl h + 100000; omega⟩
theorem y_rest (s : XS B κ h xa W) : XG B κ h xa (e3 sS "" "") (f_X1_restore (some xa) h) rtV (w_rest W).1 (w_rest W).2.2 := by
  obtain ⟨na, sa, ra, la, ta, v⟩ := s.v
  obtain ⟨gh, _, hκ, hc, hs⟩ := id s
  unfold f_X1_restore w_rest
  rw [gA_v (o := sa) v.hx rfl]
  cases hS : wS W with
  | none =>
    rw [v.2.2.1.1 hS, if_pos rfl]
    unfold f_X1_restore_J12
    rw [show f_X1_requireState 0 h = _ from x_rS false (by omega) (by omega), if_neg (by decide), cV_th]
    exact XG.th (c := 1) s rfl (by decide)
  | some g =>
    obtain ⟨q, q1, q2⟩ := v.2.2.1.2 g hS
    subst q1
    rw [if_neg (by simp)]
    unfold f_X1_restore_J12
    rw [show f_X1_requireState 1 h = _ from x_rS true (by omega) (by omega), if_pos rfl, cV_rt, gA_v (o := some q) v.hx rfl, v.rc]
    obtain ⟨h1, e1, e2, e3', e4, e5, e6⟩ := x_set gh v q2 true (fun z => by cases z)
    rw [show f_X1_set (some xa) (some q) 1 h = _ from e1, cV_rt]
    exact ⟨h1, κ, Or.inl ⟨rfl, rfl⟩, e2, e3'.w (fun k z => Or.inl z), hκ, e4, by omega, by omega⟩
theorem y_app (s : XS B κ h xa W) (p : Int32) : XR B κ h xa (e3 sA sS "") (f_X1_appendCharacter (some xa) p h) (w_app p W) := by
  obtain ⟨na, sa, ra, la, ta, v⟩ := s.v
  obtain ⟨gh, _, hκ, hc, hs⟩ := id s
  unfold f_X1_appendCharacter w_app
  rw [show f_X1_isBetween p 33 126 h = _ from x_btw (lo := 33) (hi := 126) (by decide) (by decide), cI_rt]
  refine XR.arg s rfl (by decide) (fun hp => ?_)
  obtain ⟨p1, p2, p3⟩ := btw_x hp
  generalize adx p = y at p1 p2 p3 ⊢
  subst p1
  obtain ⟨v1, v2, v3, v4, v5, ft, t1, t2, t3, t4⟩ := id v
  rw [gI_v v.hx rfl]
  by_cases h60 : (wT W).length < 60
  · rw [if_neg (show ¬ (60 : Int32) ≤ nI (wT W).length from fun z => by have := (nI_leI (a := 60) (by decide) (by omega)).mp z; omega), if_pos h60]
    unfold f_X1_appendCharacter_J25
    obtain ⟨kt, ht⟩ := fc_e t1
    obtain ⟨kx, hx⟩ := fc_e v1
    rw [show f_X1_requireState 1 h = _ from x_rS true (by omega) (by omega), if_pos rfl, cV_rt, gA_v (o := some ta) v.hx rfl, gI_v v.hx rfl, sI_v ht h60 (by decide), chr_v y (by omega)]
    have k1 : KC (fun k => k = 1 ∨ k = 2) κ h κ (hset h ta (.inl (2, 60, .inl (upd ft (wT W).length (nI y))))) := KC.set (by rw [kt]; exact Or.inr rfl)
    have g1 : GH B (hset h ta (.inl (2, 60, .inl (upd ft (wT W).length (nI y))))) := gh.set ht
    have hxt : xa ≠ ta := fun z => by rw [z, kt] at kx; cases kx
    have hx1 : (hset h ta (.inl (2, 60, .inl (upd ft (wT W).length (nI y))))).1 xa = some (.inr (0, XF na sa ra la ta (wT W).length (wF W))) := by rw [hset_o hxt]; exact hx
    rw [gI_v (rdo hx1) rfl, nI_1, pF_w (XF na sa ra la ta ((wT W).length + 1) (wF W)) hx1 (Nat.le_of_ble_eq_true rfl) rfl, gI_v (rdo hset_s) rfl]
    have k2 : KC (fun k => k = 1 ∨ k = 2) κ (hset h ta (.inl (2, 60, .inl (upd ft (wT W).length (nI y))))) κ (hset (hset h ta (.inl (2, 60, .inl (upd ft (wT W).length (nI y))))) xa (.inr (0, XF na sa ra la ta ((wT W).length + 1) (wF W)))) := KC.set (by rw [kx]; exact Or.inl rfl)
    have g2 : GH B (hset (hset h ta (.inl (2, 60, .inl (upd ft (wT W).length (nI y))))) xa (.inr (0, XF na sa ra la ta ((wT W).length + 1) (wF W)))) := g1.set hx1
    have kk := k1.tr k2
    have x0 := kk.ext gh g2 (c := 0) (by decide)
    have hll : (wT W ++ [y]).length = (wT W).length + 1 := by rw [List.length_append]; rfl
    refine ⟨_, κ, Or.inl ⟨rfl, rfl⟩, ⟨na, sa, ra, la, ta, ?_, v2.ext x0, v3.ext x0, v4.ext x0, v5.ext x0, upd ft (wT W).length (nI y), fc_i kt ?_, fun i hi => ?_, ?_, fun x hx => ?_⟩, kk, hκ, g2, by show hcl h ≤ hcl h + 9000; omega, by show hsl h ≤ hsl h + 100000; omega⟩
    · show (fc 1 κ _).1 xa = some (.inr (0, XF na sa ra la ta (wT W ++ [y]).length (wF W)))
      rw [hll]
      exact fc_i kx hset_s
    · rw [hset_o (Ne.symm hxt)]; exact hset_s
    · have hi : i < (wT W ++ [y]).length := hi
      show _ = nI ((wT W ++ [y]).getD i 0)
      rw [hll] at hi
      by_cases hie : i = (wT W).length
      · subst hie; rw [upd_s, getD_ae]
      · rw [upd_n hie, getD_ap (by omega)]; exact t2 i (by omega)
    · show (wT W ++ [y]).length ≤ 60
      omega
    · have hx : x ∈ wT W ++ [y] := hx
      rcases List.mem_append.mp hx with z | z
      · exact t4 x z
      · rw [List.mem_singleton.mp z]; exact ⟨p2, p3⟩
  · rw [if_pos (show (60 : Int32) ≤ nI (wT W).length from nI_le (a := 60) (by omega) (by omega)), if_neg h60]
    unfold f_X1_appendCharacter_J25
    rw [show (0 : Int32) = bI false from rfl, x_rS false (by omega) (by omega), if_neg (by decide), cV_th]
    exact XR.th s rfl (by decide)
end
