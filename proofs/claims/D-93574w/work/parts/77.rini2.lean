/-! PURE: a recovery begins, 2 -/
set_option maxRecDepth 100000
section
variable {B : Nat} {h h' : AH} {κ κ' : Nat → Nat} {r im ua d oc lc ob lb lt lg lk b : Nat} {m u : Nat → Nat} {n t : Nat} {es : List Nat} {c : Nat} {S : Nat → Prop}
theorem IM.en {H : AH} (I : IM H im m n es t) : ∃ ea, (∀ {X : Option Nat → RS}, xgA H (some im) 1 1 X = X (some ea)) ∧ (∀ {X : Int32 → RS}, xaL H (some ea) X = X (nI es.length)) ∧ ∀ k, k < es.length → ∀ {X : Int32 → RS}, xlI H (some ea) 0 (nI k) X = X (nI (es.getD k 0)) := by
  obtain ⟨ba, ea, f, g, e1, e2, e3, hf, hg, hn, hm, hl, he⟩ := I
  exact ⟨ea, gA_v (o := some ea) e1 rfl, aL_v e3 (by decide), fun k hk X => by rw [lI_v e3 hk (by omega), hg k hk]⟩
theorem IM.th {H : AH} (I : IM H im m n es t) {X : Int32 → RS} : xgI H (some im) 1 2 X = X (nI t) := by
  obtain ⟨ba, ea, f, g, e1, r⟩ := I
  exact gI_v e1 rfl
/-- the entries are listed -/
theorem c_ent {rr : Nat} {K : Option Nat → AH → RS} : ∀ (k f i : Nat) (h : AH) (κ : Nat → Nat) (cap : Nat) (ys : List Nat), i + k = es.length → k < f → GH B h → (fc 0 κ h).1 r = some (.inr (4, RF im ua d oc ob lt lg lk b)) → IM (fc 0 κ h) rr m n es t → QD 12 κ h d cap ys → BXS (fc 0 κ h) ys (es.take i) → cap ≤ 1817 → 2 * k ≤ hcl h → 12000 + k ≤ hsl h + 4 * cap →
    ∃ h' κ' cap' ys', f_X5_init_L98 K f (some r) (some rr) (nI i) h = K (some r) h' ∧ QD 12 κ' h' d cap' ys' ∧ BXS (fc 0 κ' h') ys' es ∧ cap' ≤ 1817 ∧ KC (fun k => k = 12) κ h κ' h' ∧ GH B h' ∧ hcl h ≤ hcl h' + 2 * k ∧ hsl h + 4 * cap ≤ hsl h' + 4 * cap' + k ∧ (∀ q, κ' q = κ q ∨ κ' q = 0 ∨ κ' q = 12) := by
  intro k
  induction k with
  | zero =>
    intro f i h κ cap ys h1 h2 g hr I Q bs hcap hc hs
    obtain ⟨f, rfl⟩ : ∃ f', f = f' + 1 := ⟨f - 1, by omega⟩
    have Ih := I.ext (fc_ext g)
    have h4 := Ih.e4
    obtain ⟨ea, E1, E2, E3⟩ := Ih.en
    unfold f_X5_init_L98
    rw [E1, E2, if_pos (nI_le (by omega) (by omega))]
    rw [List.take_of_length_le (by omega)] at bs
    exact ⟨h, κ, cap, ys, rfl, Q, bs, hcap, KC.rf, g, by omega, by omega, fun q => Or.inl rfl⟩
  | succ k ih =>
    intro f i h κ cap ys h1 h2 g hr I Q bs hcap hc hs
    obtain ⟨f, rfl⟩ : ∃ f', f = f' + 1 := ⟨f - 1, by omega⟩
    have Ih := I.ext (fc_ext g)
    have h4 := Ih.e4
    have hn := Ih.n96
    obtain ⟨ea, E1, E2, E3⟩ := Ih.en
    have hle := Ih.eln _ (getD_mem (ys := es) (i := i) (by omega))
    have hylen : ys.length ≤ 4 := by have := bs.1; rw [List.length_take] at this; omega
    unfold f_X5_init_L98
    rw [E1, E2, if_neg (fun z => by have := (nI_leI (by omega) (by omega)).mp z; omega), gA_v (o := some d) (rdo (fc_e hr).2) rfl, E1, E3 i (by omega)]
    obtain ⟨y, h2', κ2, c1, c2', c3, c4, c5, c6⟩ := c_box g (v := es.getD i 0) (by omega) (by omega) (by omega) κ
    rw [c1, cA_rt]
    have x0 := c3.ext g c4 (c := 0) (fun z => z)
    have Q2 := Q.ext (c3.ext g c4 (c := 12) (fun z => z))
    obtain ⟨arrq, hdq, q1⟩ := id Q2
    obtain ⟨h3, κ3, cap3, f1, f2, f2', f3, f4, f5, f6⟩ := c_qadd c4 (N := 900) Q2 (c2'.el.ext (fc_ext c4)) (fun z hz => ((bs.ext x0).el z hz).ext (fc_ext c4)) (by omega) hcap (by omega) (by omega) (by omega)
    rw [(q1.ext (fc_ext c4)).rc, f1, cV_rt, nI_1]
    have z0 := f3.ext c4 f4 (c := 0) (by omega)
    obtain ⟨h5, κ5, cap5, ys5, s1, s2, s3, s4, s5, s6, s7, s8, s9⟩ := ih f (i + 1) h3 κ3 cap3 (ys ++ [y]) (by omega) (by omega) f4 (z0.1 _ _ (x0.1 _ _ hr)) ((I.ext x0).ext z0) f2 (by rw [take_s (show i < es.length by omega)]; exact ((bs.ext x0).ext z0).ap (c2'.ext z0) (by omega)) f2' (by omega) (by omega)
    refine ⟨h5, κ5, cap5, ys5, s1, s2, s3, s4, ((c3.w (fun k z => z.elim)).tr f3).tr s5, s6, by omega, by omega, fun q => ?_⟩
    rcases s9 q with z | z
    · rw [z]
      rcases f6.2 q with z | z
      · rw [z]
        rcases c6.2 q with z | z
        · exact Or.inl z
        · exact Or.inr (Or.inl z)
      · exact Or.inr (Or.inr z)
    · exact Or.inr z
theorem KC.none (x : KC S κ h κ' h') (hf : ∀ q, ¬ S (κ q)) : KC (fun _ => False) κ h κ' h' := ⟨fun a ha _ => x.1 a ha (hf a), x.2.1, x.2.2.1, x.2.2.2⟩
/-- all fields are set, the entries listed -/
theorem c_ini {h0 : AH} {κ0 : Nat → Nat} (g0 : GH B h0) (I0 : IM (fc 0 κ0 h0) im m n es t) (hκ : ∀ q, κ0 q < 10) {Kc Ks : Nat} (hKc : Kc + 6900 ≤ hcl h0) (hKs : Ks + 15000 ≤ hsl h0) (hs0 : 30000 ≤ hsl h0) :
    ∃ h' κ' ua d oc lc ob lb lt lg lk b, f_X5_init (some (hsz h0)) (some im) (hnew h0 (.inr (4, fsX5)) 9) = f_X5_init_L129 (fun x69 h70 => xrc h70 x69 4 (xcV (f_X5_findGaps x69 h70) (fun h71 => f_X5_init_L175 (fun x87 h88 => xrc h88 x87 4 (xcV (f_X5_findBlocks x87 h88) (fun h89 => rtV h89))) FUEL x69 0 h71))) FUEL (some (hsz h0)) h' ∧
      RD κ' h' (hsz h0) im ua d oc lc ob lb lt lg lk b m n es t (S0 es) Kc Ks ∧ LA 16 κ' h' lg 0 [] ∧ LA 17 κ' h' lk 0 [] ∧ KC (fun _ => False) κ0 h0 κ' h' ∧ GH B h' := by
  have hn := I0.n96
  have h4 := I0.e4
  have k1 : KC (fun _ => False) κ0 h0 (nk 10 κ0 h0) (hnew h0 (.inr (4, fsX5)) 9) := KC.new (by omega) (by omega)
  have g1 : GH B (hnew h0 (.inr (4, fsX5)) 9) := g0.new
  have hr1 : (fc 10 (nk 10 κ0 h0) (hnew h0 (.inr (4, fsX5)) 9)).1 (hsz h0) = some (.inr (4, fsX5)) := fc_i (nk_n (Nat.le_refl _)) hnew_s
  have hq1 : hcl (hnew h0 (.inr (4, fsX5)) 9) = hcl h0 - 1 ∧ hsl (hnew h0 (.inr (4, fsX5)) 9) = hsl h0 - 9 := ⟨rfl, rfl⟩
  have o1 : ∀ q, nk 10 κ0 h0 q ≤ 10 := fun q => by
    rcases nk_or (c := 10) (κ := κ0) (h := h0) (q := q) with z | z
    · rw [z]; have := hκ q; omega
    · omega
  generalize hnew h0 (.inr (4, fsX5)) 9 = h1 at k1 g1 hr1 hq1 ⊢
  generalize nk 10 κ0 h0 = κ1 at k1 hr1 o1
  generalize hrr : hsz h0 = r at hr1 ⊢
  unfold f_X5_init
  rw [nn_v]
  obtain ⟨h2, κ2, d, e2, p2, r2, c2', g2, u2, v2, o2⟩ := c_sQ (c := 12) g1 hr1 (k := 2) (Nat.le_of_ble_eq_true rfl) (fun q => by have := o1 q; omega) (by decide) (by omega) (by omega)
  rw [e2]
  obtain ⟨h3, κ3, oc, lc, e3, p3, p3', r3, c3, g3, u3, v3, o3⟩ := c_sD (c := 13) g2 r2 (k := 3) (Nat.le_of_ble_eq_true rfl) (fun q => by have := o1 q; rcases o2 q with z | z <;> omega) (by decide) (by decide) (by omega) (by omega)
  rw [e3]
  obtain ⟨h4', κ4, ob, lb, e4, p4, p4', r4, c4, g4, u4, v4, o4⟩ := c_sD (c := 14) g3 r3 (k := 4) (Nat.le_of_ble_eq_true rfl) (fun q => by have := o1 q; rcases o3 q with z | z | z <;> rcases o2 q with y | y <;> omega) (by decide) (by decide) (by omega) (by omega)
  rw [e4]
  obtain ⟨h5, κ5, lt, e5, p5, r5, c5, g5, u5, v5, o5⟩ := c_sL (c := 15) g4 r4 (k := 5) (Nat.le_of_ble_eq_true rfl) (fun q => by have := o1 q; rcases o4 q with x | x | x <;> rcases o3 q with z | z | z <;> rcases o2 q with y | y <;> omega) (by decide) (by omega) (by omega)
  rw [e5]
  have o5' : ∀ q, κ5 q ≤ 15 := fun q => by have := o1 q; rcases o5 q with w | w <;> rcases o4 q with x | x | x <;> rcases o3 q with z | z | z <;> rcases o2 q with y | y <;> omega
  obtain ⟨h6, κ6, lg, e6, p6, r6, c6, g6, u6, v6, o6⟩ := c_sL (c := 16) g5 r5 (k := 6) (Nat.le_of_ble_eq_true rfl) (fun q => by have := o5' q; omega) (by decide) (by omega) (by omega)
  rw [e6]
  obtain ⟨h7, κ7, lk, e7, p7, r7, c7, g7, u7, v7, o7⟩ := c_sL (c := 17) g6 r6 (k := 7) (Nat.le_of_ble_eq_true rfl) (fun q => by have := o5' q; rcases o6 q with z | z <;> omega) (by decide) (by omega) (by omega)
  rw [e7]
  obtain ⟨h8, κ8, b, e8, p8, r8, c8, g8, u8, v8, o8⟩ := c_sB (c := 18) g7 r7 (k := 8) (Nat.le_of_ble_eq_true rfl) (fun q => by have := o5' q; rcases o7 q with y | y <;> rcases o6 q with z | z <;> omega) (by decide) (by omega) (by omega)
  rw [e8]
  have o8' : ∀ q, κ8 q ≤ 18 := fun q => by have := o5' q; rcases o8 q with x | x <;> rcases o7 q with y | y <;> rcases o6 q with z | z <;> omega
  obtain ⟨h9, s1, s2, s3, s4, s5, s6⟩ := c_put (l := im) g8 r8 (k := 0) (Nat.le_of_ble_eq_true rfl)
  rw [s1]
  have kk : KC (fun k => k = 10) κ1 h1 κ8 h9 := (((((((c2'.tr c3).tr c4).tr c5).tr c6).tr c7).tr c8).tr s3)
  have kk0 : KC (fun k => k = 10) κ0 h0 κ8 h9 := (k1.w (fun k z => z.elim)).tr kk
  have x9 : ∀ c, c ≠ 10 → Ext (fc c κ0 h0) (fc c κ8 h9) := fun c hc => kk0.ext g0 s4 (c := c) hc
  have I9 := (I0.ext (x9 0 (by decide))).ext (fc_ext s4)
  rw [I9.rcv, i_size I9, cI_rt, nA_v (by omega) (by omega) (by omega)]
  -- the marks' array
  have k10 : KC (fun _ => False) κ8 h9 (nk 11 κ8 h9) (hnew h9 (.inl (0, zA 0 n)) n) := KC.new (by omega) (by omega)
  have g10 : GH B (hnew h9 (.inl (0, zA 0 n)) n) := s4.new
  have hu10 : (fc 11 (nk 11 κ8 h9) (hnew h9 (.inl (0, zA 0 n)) n)).1 (hsz h9) = some (.inl (0, n, .inl (fun _ => 0))) := fc_i (nk_n (Nat.le_refl _)) hnew_s
  have hq10 : hcl (hnew h9 (.inl (0, zA 0 n)) n) = hcl h9 - 1 ∧ hsl (hnew h9 (.inl (0, zA 0 n)) n) = hsl h9 - n := ⟨rfl, rfl⟩
  have o10 : ∀ q, nk 11 κ8 h9 q ≤ 18 := fun q => by
    rcases nk_or (c := 11) (κ := κ8) (h := h9) (q := q) with z | z
    · rw [z]; exact o8' q
    · omega
  generalize hnew h9 (.inl (0, zA 0 n)) n = h10 at k10 g10 hu10 hq10 ⊢
  generalize nk 11 κ8 h9 = κ10 at k10 hu10 o10
  generalize hsz h9 = ua at hu10 ⊢
  have r10 := (k10.ext s4 g10 (c := 10) (fun z => z)).1 _ _ s2
  obtain ⟨h11, t1, t2, t3, t4, t5, t6⟩ := c_put (l := ua) g10 r10 (k := 1) (Nat.le_of_ble_eq_true rfl)
  rw [t1]
  have t2 : (fc 10 κ10 h11).1 r = some (.inr (4, RF im ua d oc ob lt lg lk b)) := t2
  -- all colours but 10 came along
  have y : ∀ c, c ≠ 10 → Ext (fc c κ8 h8) (fc c κ10 h11) := fun c hc => ((s3.ext g8 s4 (c := c) hc).tr (k10.ext s4 g10 (c := c) (fun z => z))).tr (t3.ext g10 t4 (c := c) hc)
  have y7 : ∀ c, c ≠ 10 → Ext (fc c κ7 h7) (fc c κ10 h11) := fun c hc => (c8.ext g7 g8 (c := c) hc).tr (y c hc)
  have y6 : ∀ c, c ≠ 10 → Ext (fc c κ6 h6) (fc c κ10 h11) := fun c hc => (c7.ext g6 g7 (c := c) hc).tr (y7 c hc)
  have y5 : ∀ c, c ≠ 10 → Ext (fc c κ5 h5) (fc c κ10 h11) := fun c hc => (c6.ext g5 g6 (c := c) hc).tr (y6 c hc)
  have y4 : ∀ c, c ≠ 10 → Ext (fc c κ4 h4') (fc c κ10 h11) := fun c hc => (c5.ext g4 g5 (c := c) hc).tr (y5 c hc)
  have y3 : ∀ c, c ≠ 10 → Ext (fc c κ3 h3) (fc c κ10 h11) := fun c hc => (c4.ext g3 g4 (c := c) hc).tr (y4 c hc)
  have y2 : ∀ c, c ≠ 10 → Ext (fc c κ2 h2) (fc c κ10 h11) := fun c hc => (c3.ext g2 g3 (c := c) hc).tr (y3 c hc)
  have y0 : ∀ c, c ≠ 10 → Ext (fc c κ0 h0) (fc c κ10 h11) := fun c hc => ((k1.ext g0 g1 (c := c) (fun z => z)).tr (c2'.ext g1 g2 (c := c) hc)).tr (y2 c hc)
  -- the object is frozen
  have z1 : Ext (fc 10 κ10 h11) (fc 0 (rk 10 0 κ10) h11) := rk_1 t4
  have z : ∀ c, c ≠ 10 → Ext (fc c κ10 h11) (fc c (rk 10 0 κ10) h11) := fun c hc => rk_2 t4 hc
  have hrf := z1.1 _ _ t2
  obtain ⟨h12, κ12, cap12, ys12, w1, w2, w3, w4, w5, w6, w7, w8, w9⟩ := c_ent (B := B) (es := es) (r := r) (im := im) (ua := ua) (d := d) (oc := oc) (ob := ob) (lt := lt) (lg := lg) (lk := lk) (b := b) (rr := im) (m := m) (n := n) (t := t) (K := fun x48 h49 => f_X5_init_L129 (fun x69 h70 => xrc h70 x69 4 (xcV (f_X5_findGaps x69 h70) (fun h71 => f_X5_init_L175 (fun x87 h88 => xrc h88 x87 4 (xcV (f_X5_findBlocks x87 h88) (fun h89 => rtV h89))) FUEL x69 0 h71))) FUEL x48 h49) es.length FUEL 0 h11 (rk 10 0 κ10) 17 [] (by omega) (by unfold FUEL; omega) t4 hrf ((I0.ext (y0 0 (by decide))).ext (z 0 (by decide))) ((p2.ext (y2 12 (by decide))).ext (z 12 (by decide))) BXS.nil (by omega) (by omega) (by omega)
  have v : ∀ c, c ≠ 12 → Ext (fc c (rk 10 0 κ10) h11) (fc c κ12 h12) := fun c hc => w5.ext t4 w6 (c := c) hc
  have q0 : ∀ c, c ≠ 10 → c ≠ 12 → Ext (fc c κ10 h11) (fc c κ12 h12) := fun c h1 h2 => (z c h1).tr (v c h2)
  refine ⟨h12, κ12, ua, d, oc, lc, ob, lb, lt, lg, lk, b, (show f_X5_init_L98 _ FUEL (some r) (some im) (nI 0) h11 = _ from w1), ⟨(v 0 (by decide)).1 _ _ hrf, ((y3 0 (by decide)).tr (q0 0 (by decide) (by decide))).1 _ _ p3', ((y4 0 (by decide)).tr (q0 0 (by decide) (by decide))).1 _ _ p4', I0.ext ((y0 0 (by decide)).tr (q0 0 (by decide) (by decide))), ⟨_, ((t3.ext g10 t4 (c := 11) (by decide)).tr (q0 11 (by decide) (by decide))).1 _ _ hu10, fun i hi => rfl⟩, ((p8.ext (y 18 (by decide))).ext (q0 18 (by decide) (by decide))).cg (fun q => rfl), fun q => ?_, cap12, 0, 0, 0, ys12, [], [], [], w2, w3, w4, (p3.ext (y3 13 (by decide))).ext (q0 13 (by decide) (by decide)), BXS.nil, (p4.ext (y4 14 (by decide))).ext (q0 14 (by decide) (by decide)), BXS.nil, (p5.ext (y5 15 (by decide))).ext (q0 15 (by decide) (by decide)), ⟨rfl, fun i hi => absurd hi (Nat.not_lt_zero i)⟩, ?_, ?_⟩, (p6.ext (y6 16 (by decide))).ext (q0 16 (by decide) (by decide)), (p7.ext (y7 17 (by decide))).ext (q0 17 (by decide) (by decide)), ?_, w6⟩
  · have h10 := o10 q
    rcases w9 q with x | x | x
    · rw [x]
      unfold rk
      split
      · decide
      · omega
    · rw [x]; decide
    · rw [x]; decide
  · have hc0 : c0 n (S0 es).1 ≤ n := cnt_le _ _
    show Kc + 2 * es.length + 70 * c0 n (S0 es).1 ≤ hcl h12
    omega
  · have hc0 : c0 n (S0 es).1 ≤ n := cnt_le _ _
    show Ks + es.length + 150 * c0 n (S0 es).1 ≤ hsl h12 + 4 * (cap12 + 0 + 0 + 0)
    omega
  · have k11 : KC (fun k => k = 10) κ0 h0 κ10 h11 := (kk0.tr (k10.w (fun k z => z.elim))).tr t3
    refine KC.none (S := fun k => k = 10 ∨ k = 12) ?_ (fun q => by have := hκ q; omega)
    refine ⟨fun a ha hS => ?_, ?_, ?_, fun a ha => ?_⟩
    · have ha' : a < hsz h11 := by have := k11.2.2.1; omega
      have e : rk 10 0 κ10 a = κ0 a := by
        unfold rk; rw [k11.2.2.2 a ha]; have := hκ a; rw [if_neg (by omega)]
      rw [w5.1 a ha' (by rw [e]; omega), k11.1 a ha (by omega)]
    · rw [w5.2.1, k11.2.1]
    · have := k11.2.2.1; have := w5.2.2.1; omega
    · have ha' : a < hsz h11 := by have := k11.2.2.1; omega
      rw [w5.2.2.2 a ha']
      unfold rk; rw [k11.2.2.2 a ha]; have := hκ a; rw [if_neg (by omega)]
end
