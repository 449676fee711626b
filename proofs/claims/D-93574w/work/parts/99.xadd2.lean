/-! PURE: the class adds bytes, part 2 -/
set_option maxRecDepth 100000
section
variable {B : Nat} {h h' h0 : AH} {κ κ' κ0 : Nat → Nat} {xa na ta : Nat} {sa ra la : Option Nat} {W W' : WS} {c : Nat} {S : Nat → Prop} {g : IMG} {ex : Nat → String} {m : Nat → Nat} {n t : Nat} {es : List Nat}
theorem c_fill {a1 ar cap k0 : Nat} {ys vs : List Nat} (hk0 : k0 ≤ 1000) (hyv : vs.length = k0) {K : Option Nat → AH → RS} : ∀ (k f i : Nat) (h : AH) (F : Nat → Int32), i + k = k0 → k < f → GH B h → LA 28 κ h a1 cap ys → BXS (fc 0 κ h) ys vs → (fc 29 κ h).1 ar = some (.inl (0, k0, .inl F)) → (∀ j, j < i → F j = nI (vs.getD j 0)) →
    ∃ h' F', f_X1_readBytes_L61 K f (some a1) (some ar) (nI i) h = K (some ar) h' ∧ (fc 29 κ h').1 ar = some (.inl (0, k0, .inl F')) ∧ (∀ j, j < k0 → F' j = nI (vs.getD j 0)) ∧ KC (fun k => k = 29) κ h κ h' ∧ GH B h' ∧ hcl h' = hcl h ∧ hsl h' = hsl h := by
  intro k
  induction k with
  | zero =>
    intro f i h F h1 h2 gh L bs A hF
    obtain ⟨f, rfl⟩ : ∃ f', f = f' + 1 := ⟨f - 1, by omega⟩
    unfold f_X1_readBytes_L61
    rw [aL_v (rdo (fc_e A).2) (by decide), if_pos (nI_le (by simp only; omega) (by omega))]
    exact ⟨h, F, rfl, A, fun j hj => hF j (by omega), KC.rf, gh, rfl, rfl⟩
  | succ k ih =>
    intro f i h F h1 h2 gh L bs A hF
    obtain ⟨f, rfl⟩ : ∃ f', f = f' + 1 := ⟨f - 1, by omega⟩
    obtain ⟨ka, ha⟩ := fc_e A
    obtain ⟨al, A1⟩ := L.al gh
    have bl := bs.1
    obtain ⟨bx0, _⟩ := bs.2 i (by omega)
    have bx := bx0.ext (fc_ext gh)
    unfold f_X1_readBytes_L61
    rw [aL_v (rdo ha) (by decide), if_neg (fun z => by have := (nI_leI (by simp only; omega) (by omega)).mp z; simp only at this; omega), A1.rc, p_lget A1 (by omega), cA_rt, ck_v bx (by decide), rc_v bx, p_intValue bx, cI_rt, sI_v ha (by omega) (by omega), nI_1]
    have k1 : KC (fun k => k = 29) κ h κ (hset h ar (.inl (0, k0, .inl (upd F i (nrT 0 (nI (vs.getD i 0))))))) := KC.set ka
    have g1 : GH B (hset h ar (.inl (0, k0, .inl (upd F i (nrT 0 (nI (vs.getD i 0))))))) := gh.set ha
    obtain ⟨h2', F2, e1, e2, e3', e4, e5, e6, e7⟩ := ih f (i + 1) _ _ (by omega) (by omega) g1 (L.ext (k1.ext gh g1 (c := 28) (by decide))) (bs.ext (k1.ext gh g1 (c := 0) (by decide))) (fc_i ka hset_s) (fun j hj => by
      by_cases e : j = i
      · rw [e, upd_s]; rfl
      · rw [upd_n e]; exact hF j (by omega))
    exact ⟨h2', F2, e1, e2, e3', k1.tr e4, e5, e6, e7⟩
theorem x_read (s : XS B κ h xa W) : ∃ h' κ', ((badT (wT W) = false ∧ ∃ ar F, f_X1_readBytes (some xa) h = rtA (some ar) h' ∧ (fc 29 κ' h').1 ar = some (.inl (0, (wT W).length / 2, .inl F)) ∧ ∀ j, j < (wT W).length / 2 → F j = nI (rdB (wT W) j)) ∨ (badT (wT W) = true ∧ ∃ q, f_X1_readBytes (some xa) h = thr sF q h' ∧ h'.1 q = some (fltV (nI (gdn (wT W)))) ∧ q ≠ xa)) ∧ KC (fun k => 10 ≤ k) κ h κ' h' ∧ GH B h' ∧ hcl h ≤ hcl h' + 200 ∧ hsl h ≤ hsl h' + 5000 := by
  obtain ⟨na, sa, ra, la, ta, v⟩ := s.v
  obtain ⟨gh, _, hκ, hc, hs⟩ := id s
  have t3 : (wT W).length ≤ 60 := by obtain ⟨ft, t1, t2, t3, t4⟩ := v.2.2.2.2.2; exact t3
  have k1 : KC (fun k => 10 ≤ k) κ h (nk 28 κ h) (hnew h (.inr (10, fsJ7)) 3) := KC.new (by omega) (by omega)
  have g1 : GH B (hnew h (.inr (10, fsJ7)) 3) := gh.new
  have p1 : (hnew h (.inr (10, fsJ7)) 3).1 (hsz h) = some (.inr (10, fsJ7)) := hnew_s
  have z1 : nk 28 κ h (hsz h) = 28 := nk_n (Nat.le_refl _)
  have q1 : hcl (hnew h (.inr (10, fsJ7)) 3) = hcl h - 1 ∧ hsl (hnew h (.inr (10, fsJ7)) 3) = hsl h - 3 := ⟨rfl, rfl⟩
  unfold f_X1_readBytes
  rw [nO_v (by omega) (by omega), nn_v]
  generalize hnew h (.inr (10, fsJ7)) 3 = h1 at *
  generalize nk 28 κ h = κ1 at *
  generalize hsz h = a1 at *
  obtain ⟨h2, arl, e1, e2, e3', e4⟩ := p_lnew (fs := fsJ7) g1 p1
  have k2 : KC (fun k => 10 ≤ k) κ1 h1 κ1 h2 := KC.kp e3' (fun a ha z => by rw [z, z1]; decide) (fun _ _ => rfl)
  have L2 : LA 28 κ1 h2 a1 0 [] := ⟨arl, e2.col z1 (fun z => by omega), fun z => by
    obtain ⟨_, _, ⟨mc, e⟩, z4⟩ := e2
    rcases z4 with ⟨_, z5⟩ | ⟨z5, _⟩
    · obtain ⟨⟨tC, tD, mi, ad, w⟩, g2, _⟩ := e4
      have hD : hst h2 2 = .ref tD := w.2.2.2.2.1
      rw [hD] at z5
      cases z5
      have hlt := w.2.2.2.2.2.2.2.2.2.2 _ _ w.2.2.2.2.2.1
      have := (g2 _ _ e).1
      omega
    · omega, by decide⟩
  have q2 := e3'.2.2.2.1
  have q2' := e3'.2.2.2.2.1
  have v2 := v.kc gh e4 (k1.tr k2) (by decide) (by decide) (by decide)
  rw [e1, cV_rt]
  obtain ⟨h3, κ3, w1, w2, w3, w4, w5⟩ := c_rdL (B := B) (a1 := a1) (K := fun x23 h24 => xrc h24 x23 10 (xcI (f_J7_size x23 h24) (fun v26 h25 => xnA h25 0 v26 (fun a27 h28 => f_X1_readBytes_L61 (fun x40 h41 => rtA x40 h41) FUEL x23 a27 0 h28)))) 32 FUEL 0 h2 κ1 0 [] (by omega) (by unfold FUEL; omega) (by omega) (fun j hj => absurd hj (Nat.not_lt_zero j)) e4 v2 L2 BXS.nil (by omega) (by omega)
  rw [show nI (2 * 0) = 0 from rfl] at w1
  rcases w1 with ⟨b1, b2, cap3, ys3, b3, b4⟩ | ⟨b1, q, b2, b3, b4⟩
  · have hvl : (rdBs (wT W) ((wT W).length / 2)).length = (wT W).length / 2 := by unfold rdBs; rw [List.length_map, List.length_range]
    have hyl : ys3.length = (wT W).length / 2 := by rw [b4.1, hvl]
    obtain ⟨al, A3⟩ := b3.al w3
    rw [b2, A3.rc, p_lsize A3, cI_rt, hyl, nA_v (by omega) (by omega) (by omega)]
    have k4 : KC (fun k => 10 ≤ k) κ3 h3 (nk 29 κ3 h3) (hnew h3 (.inl (0, zA 0 ((wT W).length / 2))) ((wT W).length / 2)) := KC.new (by omega) (by omega)
    have g4 : GH B (hnew h3 (.inl (0, zA 0 ((wT W).length / 2))) ((wT W).length / 2)) := w3.new
    have p4 : (fc 29 (nk 29 κ3 h3) (hnew h3 (.inl (0, zA 0 ((wT W).length / 2))) ((wT W).length / 2))).1 (hsz h3) = some (.inl (0, (wT W).length / 2, .inl (fun _ => 0))) := fc_i (nk_n (Nat.le_refl _)) hnew_s
    have k4' : KC (fun _ => False) κ3 h3 (nk 29 κ3 h3) (hnew h3 (.inl (0, zA 0 ((wT W).length / 2))) ((wT W).length / 2)) := KC.new (by omega) (by omega)
    have q4 : hcl (hnew h3 (.inl (0, zA 0 ((wT W).length / 2))) ((wT W).length / 2)) = hcl h3 - 1 ∧ hsl (hnew h3 (.inl (0, zA 0 ((wT W).length / 2))) ((wT W).length / 2)) = hsl h3 - (wT W).length / 2 := ⟨rfl, rfl⟩
    obtain ⟨h5, F5, f1, f2, f3, f4, f5, f6, f7⟩ := c_fill (B := B) (ar := hsz h3) (k0 := (wT W).length / 2) (by omega) hvl (K := fun x40 h41 => rtA x40 h41) ((wT W).length / 2) FUEL 0 _ (fun _ => 0) (Nat.zero_add _) (by unfold FUEL; omega) g4 (b3.ext (k4'.ext w3 g4 (c := 28) (fun z => z))) (b4.ext (k4'.ext w3 g4 (c := 0) (fun z => z))) p4 (fun j hj => absurd hj (Nat.not_lt_zero j))
    rw [show f_X1_readBytes_L61 (fun x40 h41 => rtA x40 h41) FUEL (some a1) (some (hsz h3)) 0 _ = _ from f1]
    refine ⟨h5, nk 29 κ3 h3, Or.inl ⟨b1, hsz h3, F5, rfl, f2, fun j hj => ?_⟩, (((k1.tr k2).tr w2).tr k4).tr (f4.w (fun k z => by omega)), f5, by omega, by omega⟩
    rw [f3 j hj]
    unfold rdBs
    rw [List.getD_eq_getElem?_getD, List.getElem?_map, List.getElem?_range hj]; rfl
  · exact ⟨h3, κ3, Or.inr ⟨b1, q, b2, b3, b4⟩, (k1.tr k2).tr w2, w3, by omega, by omega⟩
/-- the text is emptied -/
theorem x_txt (gh : GH B h) (v : XV κ h xa na sa ra la ta W) (f : Int32) : XV κ (hset h xa (.inr (0, XF na sa ra la ta 0 f))) xa na sa ra la ta (wI W, wS W, wR W, wN W, [], f) ∧ KC (fun k => k = 1) κ h κ (hset h xa (.inr (0, XF na sa ra la ta 0 f))) ∧ GH B (hset h xa (.inr (0, XF na sa ra la ta 0 f))) := by
  obtain ⟨v1, v2, v3, v4, v5, ft, t1, t2, t3, t4⟩ := v
  obtain ⟨kx, hx⟩ := fc_e v1
  have k1 : KC (fun k => k = 1) κ h κ (hset h xa (.inr (0, XF na sa ra la ta 0 f))) := KC.set kx
  have g1 : GH B (hset h xa (.inr (0, XF na sa ra la ta 0 f))) := gh.set hx
  have x0 := k1.ext gh g1 (c := 0) (by decide)
  exact ⟨⟨fc_i kx hset_s, v2.ext x0, v3.ext x0, v4.ext x0, v5.ext x0, ft, (k1.ext gh g1 (c := 2) (by decide)).1 _ _ t1, fun i hi => absurd hi (Nat.not_lt_zero i), Nat.zero_le _, fun x hx => by cases hx⟩, k1, g1⟩
theorem y_addB (s : XS B κ h xa W) : XR B κ h xa (e3 sA sS "") (f_X1_addBytes (some xa) h) (w_addB W) := by
  obtain ⟨na, sa, ra, la, ta, v⟩ := s.v
  obtain ⟨gh, _, hκ, hc, hs⟩ := id s
  have t3 : (wT W).length ≤ 60 := by obtain ⟨ft, t1, t2, t3, t4⟩ := v.2.2.2.2.2; exact t3
  obtain ⟨h1, κ1, e1, e2, e3', e4, e5⟩ := x_read s
  unfold f_X1_addBytes w_addB
  rw [v.rc]
  have kk := e2.fz hκ
  have xz : ∀ c, c < 10 → Ext (fc c κ1 h1) (fc c (rz 0 κ1) h1) := fun c hc => rz_s e3' hc
  have v1 : XV (rz 0 κ1) h1 xa na sa ra la ta W := v.kc gh e3' kk (fun z => z) (fun z => z) (fun z => z)
  obtain ⟨kx, hx⟩ := fc_e v1.1
  rcases e1 with ⟨b1, ar, F, b2, b3, b4⟩ | ⟨b1, q, b2, b3, b4⟩
  · have a1 := (rz_0 (e := 0) e3' (c := 29) (by decide)).1 _ _ b3
    rw [b1, if_neg (by decide), b2, cAX_rt, pF_w (XF na sa ra la ta (wT W).length (-1)) hx (Nat.le_of_ble_eq_true rfl) rfl, pF_w (XF na sa ra la ta 0 (-1)) hset_s (Nat.le_of_ble_eq_true rfl) rfl, hset_ss]
    obtain ⟨v2, k2, g2⟩ := x_txt e3' v1 (-1)
    have a2 := (k2.ext e3' g2 (c := 0) (by decide)).1 _ _ a1
    have q2 : hcl (hset h1 xa (.inr (0, XF na sa ra la ta 0 (-1)))) = hcl h1 ∧ hsl (hset h1 xa (.inr (0, XF na sa ra la ta 0 (-1)))) = hsl h1 := ⟨rfl, rfl⟩
    have kk2 : KC (fun k => k = 1 ∨ k = 2) κ h (rz 0 κ1) (hset h1 xa (.inr (0, XF na sa ra la ta 0 (-1)))) := (kk.w (fun k z => z.elim)).tr (k2.w (fun k z => Or.inl z))
    have κ2 : ∀ q, rz 0 κ1 q < 10 := rz_10
    generalize hset h1 xa (.inr (0, XF na sa ra la ta 0 (-1))) = h2 at *
    generalize rz 0 κ1 = κ2' at *
    have I2 := v2.im g2
    have hn := I2.n96
    have s2 : XS B κ2' h2 xa (wI W, wS W, wR W, wN W, [], -1) ∨ True := Or.inr trivial
    rw [v2.now, I2.rcv, i_size I2, cI_rt, aL_v (rdo (fc_e a2).2) (by decide)]
    show XR B κ h xa _ (if (96 : Int32) < nI (gn (wI W)) + nI ((wT W).length / 2) then _ else _) _
    have hn : gn (wI W) ≤ 96 := hn
    rw [nI_add]
    by_cases h96 : 96 < gn (wI W) + (wT W).length / 2
    · rw [if_pos (show (96 : Int32) < nI (gn (wI W) + (wT W).length / 2) from nI_lt (a := 96) h96 (by omega)), if_pos h96]
      unfold f_X1_addBytes_J63
      rw [show f_X1_requireState 0 h2 = _ from x_rS false (by omega) (by omega), if_neg (by decide), cV_th]
      have k3 : KC (fun _ => False) κ2' h2 (nk 0 κ2' h2) (hnew h2 (.inr (15, [])) 6) := KC.new (by omega) (by omega)
      have g3 : GH B (hnew h2 (.inr (15, [])) 6) := g2.new
      exact ⟨_, _, Or.inr ⟨show (2 : Nat) ≠ 0 by decide, show (2 : Nat) ≤ 3 by decide, _, rfl⟩, ⟨na, sa, ra, la, ta, v2.kc g2 g3 k3 (fun z => z) (fun z => z) (fun z => z)⟩, kk2.tr (k3.w (fun k z => z.elim)), nk_lt κ2 (by decide), g3, by show hcl h ≤ hcl h2 - 1 + 9000; omega, by show hsl h ≤ hsl h2 - 6 + 100000; omega⟩
    · rw [if_neg (show ¬ (96 : Int32) < nI (gn (wI W) + (wT W).length / 2) from nI_nlt (a := 96) (by omega) (by omega)), if_neg h96]
      unfold f_X1_addBytes_J63
      obtain ⟨ba, ea, f, g, i1, i2, i3, hf, hg, hn', hm, hl, he⟩ := id v2.2.1.1
      have hf : ∀ i, i < gn (wI W) → f i = nI (gm (wI W) i) := hf
      have hm : ∀ i, i < gn (wI W) → gm (wI W) i < 256 := hm
      have i2 : rd (fc 0 κ2' h2) ba = some (.inl (0, gn (wI W), .inl f)) := i2
      rw [show f_X1_requireState 1 h2 = _ from x_rS true (by omega) (by omega), if_pos rfl, cV_rt, v2.now, I2.rcv, i_size I2, cI_rt, aL_v (rdo (fc_e a2).2) (by decide)]
      show XR B κ h xa _ (xnA h2 0 (nI (gn (wI W)) + nI ((wT W).length / 2)) _) _
      rw [nI_add, nA_v (by omega) (by omega) (by omega)]
      generalize hN : gn (wI W) + (wT W).length / 2 = N at *
      have k3 : KC (fun _ => False) κ2' h2 (nk 0 κ2' h2) (hnew h2 (.inl (0, zA 0 N)) N) := KC.new (by omega) (by omega)
      have g3 : GH B (hnew h2 (.inl (0, zA 0 N)) N) := g2.new
      have v3 := v2.kc g2 g3 k3 (fun z => z) (fun z => z) (fun z => z)
      have x3 := k3.ext g2 g3 (c := 0) (fun z => z)
      have i1a := (fc_ext g3).2.1 _ _ (x3.2.1 _ _ i1)
      have i2a := (fc_ext g3).2.1 _ _ (x3.2.1 _ _ i2)
      have I3 := v3.im g3
      rw [v3.now, gA_v (o := some ba) i1a rfl, v3.now, I3.rcv, i_size I3, cI_rt]
      show XR _ _ _ _ _ (xcpI _ (some ba) (nI 0) (some (hsz h2)) (nI 0) (nI (gn (wI W))) _) _
      rw [cpI_v i2a hnew_s (by omega) (by omega) (by omega) (by omega)]
      have k4 : KC (fun _ => False) κ2' h2 (nk 0 κ2' h2) (hset (hnew h2 (.inl (0, zA 0 N)) N) (hsz h2) (.inl (0, N, .inl (va_cpy f (fun _ => 0) 0 0 (gn (wI W)))))) := kn_set (by omega) (by omega)
      have g4 : GH B (hset (hnew h2 (.inl (0, zA 0 N)) N) (hsz h2) (.inl (0, N, .inl (va_cpy f (fun _ => 0) 0 0 (gn (wI W)))))) := g2.new.set hnew_s
      have v4 := v2.kc g2 g4 k4 (fun z => z) (fun z => z) (fun z => z)
      have x4 := k4.ext g2 g4 (c := 0) (fun z => z)
      have I4 := v4.im g4
      have a4 := (fc_e (x4.1 _ _ a2)).2
      rw [v4.now, I4.rcv, i_size I4, cI_rt, aL_v (rdo a4) (by decide)]
      show XR _ _ _ _ _ (xcpI _ (some ar) (nI 0) (some (hsz h2)) (nI (gn (wI W))) (nI ((wT W).length / 2)) _) _
      rw [cpI_v (rdo a4) hset_s (by omega) (by omega) (by omega) (by omega), hset_ss]
      have k5 : KC (fun _ => False) κ2' h2 (nk 0 κ2' h2) (hset (hnew h2 (.inl (0, zA 0 N)) N) (hsz h2) (.inl (0, N, .inl (va_cpy F (va_cpy f (fun _ => 0) 0 0 (gn (wI W))) 0 (gn (wI W)) ((wT W).length / 2))))) := kn_set (by omega) (by omega)
      have g5 : GH B (hset (hnew h2 (.inl (0, zA 0 N)) N) (hsz h2) (.inl (0, N, .inl (va_cpy F (va_cpy f (fun _ => 0) 0 0 (gn (wI W))) 0 (gn (wI W)) ((wT W).length / 2))))) := g2.new.set hnew_s
      have p5 : (fc 0 (nk 0 κ2' h2) (hset (hnew h2 (.inl (0, zA 0 N)) N) (hsz h2) (.inl (0, N, .inl (va_cpy F (va_cpy f (fun _ => 0) 0 0 (gn (wI W))) 0 (gn (wI W)) ((wT W).length / 2)))))).1 (hsz h2) = some (.inl (0, N, .inl (va_cpy F (va_cpy f (fun _ => 0) 0 0 (gn (wI W))) 0 (gn (wI W)) ((wT W).length / 2)))) := fc_i (nk_n (Nat.le_refl _)) hset_s
      have q5 : hcl (hset (hnew h2 (.inl (0, zA 0 N)) N) (hsz h2) (.inl (0, N, .inl (va_cpy F (va_cpy f (fun _ => 0) 0 0 (gn (wI W))) 0 (gn (wI W)) ((wT W).length / 2))))) = hcl h2 - 1 ∧ hsl (hset (hnew h2 (.inl (0, zA 0 N)) N) (hsz h2) (.inl (0, N, .inl (va_cpy F (va_cpy f (fun _ => 0) 0 0 (gn (wI W))) 0 (gn (wI W)) ((wT W).length / 2))))) = hsl h2 - N := ⟨rfl, rfl⟩
      have κ5 := nk_lt (h := h2) (c := 0) κ2 (by decide)
      generalize hset (hnew h2 (.inl (0, zA 0 N)) N) (hsz h2) (.inl (0, N, .inl (va_cpy F (va_cpy f (fun _ => 0) 0 0 (gn (wI W))) 0 (gn (wI W)) ((wT W).length / 2)))) = h5 at *
      clear k3 g3 v3 x3 i1a i2a I3 k4 g4 v4 x4 I4 a4
      generalize nk 0 κ2' h2 = κ5' at *
      have v5 := v2.kc g2 g5 k5 (fun z => z) (fun z => z) (fun z => z)
      have x5 := k5.ext g2 g5 (c := 0) (fun z => z)
      obtain ⟨h6, d1, d2, d3, d4, d5, d6⟩ := x_img (m := addM (gm (wI W)) (gn (wI W)) (wT W)) (n := N) (es := ge (wI W)) (t := gt (wI W)) (κ := κ5') g5 (by omega) (by omega) (rdo p5) (x5.2.1 _ _ i3) (fun i hi => by
        unfold addM
        by_cases hin : i < gn (wI W)
        · rw [if_neg (by omega)]
          have e : va_cpy F (va_cpy f (fun _ => 0) 0 0 (gn (wI W))) 0 (gn (wI W)) ((wT W).length / 2) i = f i := by
            unfold va_cpy
            rw [if_neg (by omega), if_pos (by omega)]
            congr 1; omega
          rw [e]; exact hf i hin
        · rw [if_pos (by omega)]
          have e : va_cpy F (va_cpy f (fun _ => 0) 0 0 (gn (wI W))) 0 (gn (wI W)) ((wT W).length / 2) i = F (i - gn (wI W)) := by
            unfold va_cpy
            rw [if_pos (by omega)]
            congr 1; omega
          rw [e]; exact b4 _ (by omega)) hg (by omega) (fun i hi => by
        unfold addM
        split
        · unfold rdB
          have := dgv_b ((wT W).getD (2 * (i - gn (wI W))) 0)
          have := dgv_b ((wT W).getD (2 * (i - gn (wI W)) + 1) 0)
          omega
        · exact hm i (by omega)) hl (fun e hee => by have : e < gn (wI W) := he e hee; omega) v2.2.1.2
      have k6 : KC (fun _ => False) κ5' h5 (nk 0 κ5' h5) (hnew h5 (.inr (1, fsX2)) 3) := KC.new (by omega) (by omega)
      have g6 : GH B (hnew h5 (.inr (1, fsX2)) 3) := g5.new
      have v6 := v5.kc g5 g6 k6 (fun z => z) (fun z => z) (fun z => z)
      have i1c := (fc_ext g6).2.1 _ _ ((k6.ext g5 g6 (c := 0) (fun z => z)).2.1 _ _ (x5.2.1 _ _ i1))
      rw [nO_v (by omega) (by omega), v6.now, gA_v (o := some ea) i1c rfl, v6.now, gI_v i1c rfl, nn_v]
      rw [show f_X2_init (some (hsz h5)) (some (hsz h2)) (some ea) (nI (gt (wI ((wI W, wS W, wR W, wN W, ([] : List Nat), (-1 : Int32)) : WS)))) (hnew h5 (.inr (1, fsX2)) 3) = _ from d1, cV_rt]
      exact x_fin (kk2.tr ((k5.tr d2).w (fun k z => z.elim))) d3 (v5.kc g5 d3 d2 (fun z => z) (fun z => z) (fun z => z)) d4 true (fun z => by cases z) (nk_lt κ5 (by decide)) (by omega) (by omega) (fun h' xx g' => by
        have := (fc_ext g').2.1 _ _ (xx.2.1 _ _ ((d2.ext g5 d3 (c := 0) (fun z => z)).2.1 _ _ (rdo p5)))
        rw [aL_v this (by decide)])
  · have hq : h1.1 q = some (.inr (3, [.null, .null, .null, .null, .null, .int 0, .int (nI (gdn (wT W)))])) := b3
    rw [b1, if_pos rfl, b2, cAX_th, if_pos rfl, gI_v (rdo hq) rfl, pF_w (XF na sa ra la ta (wT W).length (nI (gdn (wT W)))) hx (Nat.le_of_ble_eq_true rfl) rfl, mk_v (by show 1 ≤ hcl h1; omega) (by show 6 ≤ hsl h1; omega), at_v hnew_s]
    have hxs : xa < hsz h1 := (e3'.fresh hx).1
    have hx2 : (hnew (hset h1 xa (.inr (0, XF na sa ra la ta (wT W).length (nI (gdn (wT W)))))) (.inr (14, [])) 6).1 xa = some (.inr (0, XF na sa ra la ta (wT W).length (nI (gdn (wT W))))) := by
      rw [hnew_o (h := hset h1 xa (.inr (0, XF na sa ra la ta (wT W).length (nI (gdn (wT W)))))) (show xa ≠ hsz h1 by omega)]; exact hset_s
    have hq2 : (hset (hnew (hset h1 xa (.inr (0, XF na sa ra la ta (wT W).length (nI (gdn (wT W)))))) (.inr (14, [])) 6) xa (.inr (0, XF na sa ra la ta 0 (nI (gdn (wT W)))))).1 (hsz h1) = some (.inr (14, [])) := by
      rw [hset_o (show hsz h1 ≠ xa by omega)]; exact hnew_s
    rw [pF_w (XF na sa ra la ta 0 (nI (gdn (wT W)))) hx2 (Nat.le_of_ble_eq_true rfl) rfl]
    rw [show hsz (hset h1 xa (.inr (0, XF na sa ra la ta (wT W).length (nI (gdn (wT W)))))) = hsz h1 from rfl, at_v hq2]
    obtain ⟨v2, k2, g2⟩ := x_txt e3' v1 (nI (gdn (wT W)))
    have k3 : KC (fun k => k = 1 ∨ k = 2) (rz 0 κ1) h1 (nk 0 (rz 0 κ1) h1) (hset (hnew (hset h1 xa (.inr (0, XF na sa ra la ta (wT W).length (nI (gdn (wT W)))))) (.inr (14, [])) 6) xa (.inr (0, XF na sa ra la ta 0 (nI (gdn (wT W)))))) := by
      refine ⟨fun a ha hS => ?_, rfl, by show hsz h1 ≤ hsz h1 + 1; omega, fun a ha => nk_o ha⟩
      have hax : a ≠ xa := fun z => hS (by rw [z]; exact Or.inl kx)
      rw [hset_o hax, hnew_o (h := hset h1 xa (.inr (0, XF na sa ra la ta (wT W).length (nI (gdn (wT W)))))) (show a ≠ hsz h1 by omega), hset_o hax]
    have g3 : GH B (hset (hnew (hset h1 xa (.inr (0, XF na sa ra la ta (wT W).length (nI (gdn (wT W)))))) (.inr (14, [])) 6) xa (.inr (0, XF na sa ra la ta 0 (nI (gdn (wT W)))))) := ((e3'.set hx).new).set hx2
    obtain ⟨u1, u2, u3, u4, u5, ft, u6, u7, u8, u9⟩ := v1
    have x0 := k3.ext e3' g3 (c := 0) (by decide)
    refine ⟨_, _, Or.inr ⟨show (1 : Nat) ≠ 0 by decide, show (1 : Nat) ≤ 3 by decide, _, rfl⟩, ⟨na, sa, ra, la, ta, fc_i (by rw [nk_o hxs]; exact kx) hset_s, u2.ext x0, u3.ext x0, u4.ext x0, u5.ext x0, ft, ?_, fun i hi => absurd hi (Nat.not_lt_zero i), Nat.zero_le _, fun x hx => by cases hx⟩, (kk.w (fun k z => z.elim)).tr k3, nk_lt rz_10 (by decide), g3, by show hcl h ≤ hcl h1 - 1 + 9000; omega, by show hsl h ≤ hsl h1 - 6 + 100000; omega⟩
    obtain ⟨kt, ht⟩ := fc_e u6
    have hts : ta < hsz h1 := (e3'.fresh ht).1
    have htx : ta ≠ xa := fun z => by rw [z, kx] at kt; cases kt
    refine fc_i (by rw [nk_o hts]; exact kt) ?_
    rw [hset_o htx, hnew_o (h := hset h1 xa (.inr (0, XF na sa ra la ta (wT W).length (nI (gdn (wT W)))))) (show ta ≠ hsz h1 by omega), hset_o htx]; exact ht
end
