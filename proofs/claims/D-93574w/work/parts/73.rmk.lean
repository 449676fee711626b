/-! PURE: a recovery makes a table, 2 -/
set_option maxRecDepth 100000
section
variable {B : Nat} {h h' : AH} {κ κ' : Nat → Nat} {r im ua d oc ob lt lg lk b : Nat} {m u : Nat → Nat} {n t : Nat} {es : List Nat} {c : Nat}
theorem la0 (g : GH B h) {l arr : Nat} (A : AL h l arr 0 []) (hl : κ l = c) : LA c κ h l 0 [] := by
  refine ⟨arr, A.col hl (fun z => by omega), fun z => ?_, by decide⟩
  obtain ⟨_, _, ⟨mc, a3⟩, a4⟩ := A
  have hB := (g.2.1 _ _ a3).1
  rcases a4 with ⟨_, z2⟩ | ⟨z1, _⟩
  · obtain ⟨⟨tC, tD, mi, ad, w⟩, _, _⟩ := id g
    have e : (.ref tD : Value) = .ref arr := w.2.2.2.2.1.symm.trans z2
    have hD := w.2.2.2.2.2.2.2.2.2.2 tD _ w.2.2.2.2.2.1
    have e : tD = arr := by simpa using e
    omega
  · omega
/-- a new list -/
theorem c_lnew (g : GH B h) {l : Nat} (he : h.1 l = some (.inr (10, fsJ7))) (hl : κ l = c) : ∃ h', f_J7_init (some l) h = rtV h' ∧ LA c κ h' l 0 [] ∧ KC (fun k => k = c) κ h κ h' ∧ GH B h' ∧ hsz h' = hsz h ∧ hcl h ≤ hcl h' ∧ hsl h ≤ hsl h' ∧ ∀ q, q ≠ l → h'.1 q = h.1 q := by
  obtain ⟨h', arr, e1, e2, e3, e4⟩ := p_lnew g (fs := []) he
  have hz : hsz h' = hsz h ∧ ∀ q, q ≠ l → h'.1 q = h.1 q := by
    obtain ⟨⟨tC, tD, mi, ad, w⟩, g2, g3⟩ := id g
    have e : f_J7_init (some l) h = rtV (hset h l (.inr (10, [.int 0, .ref tD, .int 0]))) := by
      unfold f_J7_init f_J6_init f_J5_init
      simp only [nn_v, cV_rt]
      rw [pF_v he (by decide), cV_rt]
      unfold xtA
      rw [show hst (hset h l (.inr (10, List.set fsJ7 0 (.int 0)))) 2 = .ref tD from w.2.2.2.2.1]
      show xpF (hset h l (.inr (10, List.set fsJ7 0 (.int 0)))) (some l) 10 1 (va_rf (some tD)) _ = _
      rw [pF_v hset_s (by decide), hset_ss]
      rfl
    have : h' = hset h l (.inr (10, [.int 0, .ref tD, .int 0])) := by
      have := e1.symm.trans e
      simpa [rtV] using this
    rw [this]
    exact ⟨rfl, fun q hq => hset_o hq⟩
  exact ⟨h', e1, la0 e4 e2 hl, KC.kp e3 (fun a ha z => by rw [z]; exact hl) (fun _ _ => rfl), e4, hz.1, by have := e3.2.2.2.1; omega, by have := e3.2.2.2.2.1; omega, hz.2⟩
/-- a new table object -/
theorem c_tnew (g : GH B h) {tb : Nat} (he : h.1 tb = some (.inr (6, fsX7))) (hk : κ tb = 20) (j bg bd on : Int32) (hc : 1 ≤ hcl h) (hs : 3 ≤ hsl h) :
    ∃ h' κ', f_X7_init (some tb) j bg bd on h = rtV h' ∧ (fc 20 κ' h').1 tb = some (.inr (6, [.int j, .int bg, .int bd, .int on] ++ [.ref (hsz h)])) ∧ LA 19 κ' h' (hsz h) 0 [] ∧ KC (fun k => k = 20) κ h κ' h' ∧ GH B h' ∧ hcl h ≤ hcl h' + 1 ∧ hsl h ≤ hsl h' + 3 := by
  have hlt := (g.fresh he).1
  unfold f_X7_init
  rw [nn_v, nO_v hc hs, nn_v]
  have k1 : KC (fun k => k = 20) κ h (nk 19 κ h) (hnew h (.inr (10, fsJ7)) 3) := KC.new hc hs
  obtain ⟨h1, e1, e2, e3, e4, e5, e6, e7, e8⟩ := c_lnew (κ := nk 19 κ h) (c := 19) (g.new (e := .inr (10, fsJ7)) (n := 3)) hnew_s (nk_n (Nat.le_refl _))
  rw [e1, cV_rt]
  have ht1 : h1.1 tb = some (.inr (6, fsX7)) := by rw [e8 tb (by omega), hnew_o (by omega)]; exact he
  have hkt : nk 19 κ h tb = 20 := by rw [nk_o hlt]; exact hk
  rw [pF_w [.int 0, .int 0, .int 0, .int 0, .ref (hsz h)] ht1 (Nat.le_of_ble_eq_true rfl) rfl, pF_w [.int j, .int 0, .int 0, .int 0, .ref (hsz h)] hset_s (Nat.le_of_ble_eq_true rfl) rfl, pF_w [.int j, .int bg, .int 0, .int 0, .ref (hsz h)] hset_s (Nat.le_of_ble_eq_true rfl) rfl, pF_w [.int j, .int bg, .int bd, .int 0, .ref (hsz h)] hset_s (Nat.le_of_ble_eq_true rfl) rfl, pF_w [.int j, .int bg, .int bd, .int on, .ref (hsz h)] hset_s (Nat.le_of_ble_eq_true rfl) rfl, hset_ss, hset_ss, hset_ss, hset_ss]
  have k2 : KC (fun k => k = 20) (nk 19 κ h) h1 (nk 19 κ h) (hset h1 tb (.inr (6, [.int j, .int bg, .int bd, .int on, .ref (hsz h)]))) := KC.set hkt
  have g2 : GH B (hset h1 tb (.inr (6, [.int j, .int bg, .int bd, .int on, .ref (hsz h)]))) := e4.set ht1
  have k3 : KC (fun k => k = 20) κ h (nk 19 κ h) h1 := by
    refine ⟨fun a ha hS => ?_, ?_, ?_, fun a ha => nk_o ha⟩
    · rw [e8 a (by omega), hnew_o (by omega)]
    · rw [e3.2.1]; rfl
    · rw [e5]; show hsz h ≤ hsz h + 1; omega
  refine ⟨_, nk 19 κ h, rfl, fc_i hkt hset_s, e2.ext (k2.ext e4 g2 (c := 19) (by omega)), k3.tr k2, g2, ?_, ?_⟩
  · have : hcl h - 1 ≤ hcl h1 := e6
    show hcl h ≤ hcl h1 + 1
    omega
  · have : hsl h - 3 ≤ hsl h1 := e7
    show hsl h ≤ hsl h1 + 3
    omega
theorem TK.le {tb le cap : Nat} {fs : List Value} {ye ps : List Nat} (T : TK κ h m ua n u tb le cap fs ye ps) : cap ≤ 2 * ps.length + 10 := by
  obtain ⟨U, t1, t2, ⟨arr, _, _, l3⟩, t4, t5⟩ := T
  have := t4.1
  rw [List.length_map] at this
  omega
theorem c_takeB {bg bo tb le : Nat} {j on : Int32} (hbg : bg ≤ 300) (hbo : bo ≤ 16) (h3 : ∀ a, u a ≤ 3) {K : AH → RS} : ∀ (k f c : Nat) (h : AH) (κ : Nat → Nat) (cap : Nat) (ye ps : List Nat), c + k = bo → k < f → GH B h → (fc 0 κ h).1 r = some (.inr (4, RF im ua d oc ob lt lg lk b)) → IM (fc 0 κ h) im m n es t → TK κ h m ua n u tb le cap [.int j, .int (nI bg), .int (nI bo), .int on] ye ps → ps.length ≤ c → 2 * k + 2 ≤ hcl h → 300 + k ≤ hsl h + 4 * cap →
    ∃ h' κ' cap' ye', f_X5_takeEntries_L42 K f (some r) (some tb) (nI bo) (nI c) h = K h' ∧ TK κ' h' m ua n u tb le cap' [.int j, .int (nI bg), .int (nI bo), .int on] ye' (ps ++ plB n u k (bg + c)) ∧ KC (fun k => k = 11 ∨ k = 19) κ h κ' h' ∧ GH B h' ∧ hcl h ≤ hcl h' + 2 * k ∧ hsl h + 4 * cap ≤ hsl h' + 4 * cap' + k := by
  intro k
  induction k with
  | zero =>
    intro f c h κ cap ye ps h1 h2 g hr I T hps hc hs
    obtain ⟨f, rfl⟩ : ∃ f', f = f' + 1 := ⟨f - 1, by omega⟩
    unfold f_X5_takeEntries_L42
    rw [if_pos (nI_le (by omega) (by omega))]
    exact ⟨h, κ, cap, ye, rfl, by unfold plB; rw [List.append_nil]; exact T, KC.rf, g, by omega, by omega⟩
  | succ k ih =>
    intro f c h κ cap ye ps h1 h2 g hr I T hps hc hs
    obtain ⟨f, rfl⟩ : ∃ f', f = f' + 1 := ⟨f - 1, by omega⟩
    have hn := I.n96
    have hcap := T.le
    obtain ⟨U, t1, t2, t3, t4, t5⟩ := id T
    have hrh : rd h r = some (.inr (4, RF im ua d oc ob lt lg lk b)) := rdo (fc_e hr).2
    have Ih := I.ext (fc_ext g)
    have htb : rd h tb = some (.inr (6, [.int j, .int (nI bg), .int (nI bo), .int on] ++ [.ref le])) := rdo (fc_e t1).2
    obtain ⟨fu, a1, a2⟩ := id U
    have a1h := rdo (fc_e a1).2
    have J94 : ∀ y : Int32, f_X5_takeEntries_J94 (f_X5_takeEntries_L42 K f) K (some r) (some tb) (nI bo) (nI c) (nI (bg + c)) y h = xcV (f_X5_takeEntry (some r) (some tb) (nI (bg + c)) h) (fun h37 => f_X5_takeEntries_L42 K f (some r) (some tb) (nI bo) (nI (c + 1)) h37) := fun y => by
      unfold f_X5_takeEntries_J94 f_X5_takeEntries_J130
      rw [gI_v htb rfl, if_pos (fun z => by
        have := congrArg Int32.toInt z
        rw [nI_toI (by omega), show ((-1 : Int32)).toInt = -1 from rfl] at this
        omega), rc_v hrh, nI_1]
    have J93 : f_X5_takeEntries_J93 (f_X5_takeEntries_L42 K f) K (some r) (some tb) (nI bo) (nI c) (nI (bg + c)) h = xcV (f_X5_takeEntry (some r) (some tb) (nI (bg + c)) h) (fun h37 => f_X5_takeEntries_L42 K f (some r) (some tb) (nI bo) (nI (c + 1)) h37) := J94 0
    have st : f_X5_takeEntries_L42 K (f + 1) (some r) (some tb) (nI bo) (nI c) h = xcV (f_X5_takeEntry (some r) (some tb) (nI (bg + c)) h) (fun h37 => f_X5_takeEntries_L42 K f (some r) (some tb) (nI bo) (nI (c + 1)) h37) := by
      conv => lhs; unfold f_X5_takeEntries_L42
      rw [if_neg (fun z => by have := (nI_leI (by omega) (by omega)).mp z; omega), gI_v htb rfl, gA_v (o := some im) hrh rfl, Ih.rcv, nI_add, i_cont Ih, cI_rt, ad_nI (by omega), J93]
      by_cases hlt : bg + c < n
      · rw [decide_eq_true hlt, b0t, gA_v (o := some ua) hrh rfl, lI_v a1h hlt (by omega), gA_v (o := some ua) hrh rfl, lI_v a1h hlt (by omega), J94, ite_self, ite_self]
      · rw [decide_eq_false hlt, b0f]
    rw [st]
    obtain ⟨h1', κ1, cap1, ye1, e1, e2, e3, e4, e5, e6⟩ := c_take g hr I h3 T (a := bg + c) (by omega) (by omega) (by omega) (by omega)
    rw [e1, cV_rt]
    have x0 := e3.ext g e4 (c := 0) (by omega)
    obtain ⟨h2', κ2, cap2, ye2, f1, f2, f3, f4, f5, f6⟩ := ih f (c + 1) h1' κ1 cap1 ye1 _ (by omega) (by omega) e4 (x0.1 _ _ hr) (I.ext x0) e2 (by split <;> (try rw [List.length_append, List.length_singleton]) <;> omega) (by omega) (by omega)
    refine ⟨h2', κ2, cap2, ye2, f1, ?_, e3.tr f3, f4, by omega, by omega⟩
    unfold plB
    rw [← Nat.add_assoc] at f2
    by_cases hf : fit n u (bg + c) = true
    · rw [if_pos hf] at f2 ⊢
      rw [List.append_assoc] at f2
      exact f2
    · rw [if_neg hf] at f2 ⊢
      exact f2
theorem c_takeU {bg tb le : Nat} {j on : Int32} (hbg : bg ≤ 300) (h3 : ∀ a, u a ≤ 3) : ∀ (k f c : Nat) (h : AH) (κ : Nat → Nat) (cap : Nat) (ye ps : List Nat), c + k = 8 → k < f → GH B h → (fc 0 κ h).1 r = some (.inr (4, RF im ua d oc ob lt lg lk b)) → IM (fc 0 κ h) im m n es t → TK κ h m ua n u tb le cap [.int j, .int (nI bg), .int (-1), .int on] ye ps → ps.length ≤ c → 2 * k + 2 ≤ hcl h → 300 + k ≤ hsl h + 4 * cap →
    ∃ h' κ' cap' ye', f_X5_takeEntries_L42 (fun h55 => rtV h55) f (some r) (some tb) (nI 8) (nI c) h = rtV h' ∧ TK κ' h' m ua n u tb le cap' [.int j, .int (nI bg), .int (-1), .int on] ye' (ps ++ plU m n u k (bg + c)) ∧ KC (fun k => k = 11 ∨ k = 19) κ h κ' h' ∧ GH B h' ∧ hcl h ≤ hcl h' + 2 * k ∧ hsl h + 4 * cap ≤ hsl h' + 4 * cap' + k := by
  intro k
  induction k with
  | zero =>
    intro f c h κ cap ye ps h1 h2 g hr I T hps hc hs
    obtain ⟨f, rfl⟩ : ∃ f', f = f' + 1 := ⟨f - 1, by omega⟩
    unfold f_X5_takeEntries_L42
    rw [if_pos (nI_le (by omega) (by omega))]
    exact ⟨h, κ, cap, ye, rfl, by unfold plU; rw [List.append_nil]; exact T, KC.rf, g, by omega, by omega⟩
  | succ k ih =>
    intro f c h κ cap ye ps h1 h2 g hr I T hps hc hs
    obtain ⟨f, rfl⟩ : ∃ f', f = f' + 1 := ⟨f - 1, by omega⟩
    have hn := I.n96
    have hcap := T.le
    obtain ⟨U, t1, t2, t3, t4, t5⟩ := id T
    have hrh : rd h r = some (.inr (4, RF im ua d oc ob lt lg lk b)) := rdo (fc_e hr).2
    have Ih := I.ext (fc_ext g)
    have htb : rd h tb = some (.inr (6, [.int j, .int (nI bg), .int (-1), .int on] ++ [.ref le])) := rdo (fc_e t1).2
    obtain ⟨fu, a1, a2⟩ := id U
    have a1h := rdo (fc_e a1).2
    have hfm := fit_mkP t5 (bg + c)
    have stop : (fit n u (bg + c) && zv m n (m (bg + c))) = false → ∃ h' κ' cap' ye', rtV h = rtV h' ∧ TK κ' h' m ua n u tb le cap' [.int j, .int (nI bg), .int (-1), .int on] ye' (ps ++ plU m n u (k + 1) (bg + c)) ∧ KC (fun k => k = 11 ∨ k = 19) κ h κ' h' ∧ GH B h' ∧ hcl h ≤ hcl h' + 2 * (k + 1) ∧ hsl h + 4 * cap ≤ hsl h' + 4 * cap' + (k + 1) := fun z => by
      refine ⟨h, κ, cap, ye, rfl, ?_, KC.rf, g, by omega, by omega⟩
      unfold plU
      rw [if_neg (by rw [z]; decide), List.append_nil]
      exact T
    have J93 : f_X5_takeEntries_J93 (f_X5_takeEntries_L42 (fun h55 => rtV h55) f) (fun h55 => rtV h55) (some r) (some tb) (nI 8) (nI c) (nI (bg + c)) h = rtV h := by
      unfold f_X5_takeEntries_J93 f_X5_takeEntries_J94
      rw [gI_v htb rfl, if_neg (fun z => z rfl), if_pos rfl]
    unfold f_X5_takeEntries_L42
    rw [if_neg (fun z => by have := (nI_leI (by omega) (by omega)).mp z; omega), gI_v htb rfl, gA_v (o := some im) hrh rfl, Ih.rcv, nI_add, i_cont Ih, cI_rt, ad_nI (by omega), J93]
    by_cases hlt : bg + c < n
    · have hmk : mkP u ps (bg + c) ≤ 3 := by
        unfold mkP; split
        · omega
        · exact h3 _
      rw [decide_eq_true hlt, b0t, gA_v (o := some ua) hrh rfl, lI_v a1h hlt (by omega), a2 _ hlt]
      by_cases c1 : mkP u ps (bg + c) = 1
      · rw [if_pos (show nI (mkP u ps (bg + c)) = 1 by rw [c1]; rfl)]
        exact stop (by rw [← hfm, show fit n (mkP u ps) (bg + c) = false from decide_eq_false (by omega)]; rfl)
      · rw [if_neg (show ¬ nI (mkP u ps (bg + c)) = 1 from fun z => c1 ((nI_eq (b := 1) (by omega) (by decide)).mp z)), gA_v (o := some ua) hrh rfl, lI_v a1h hlt (by omega), a2 _ hlt]
        by_cases c2 : mkP u ps (bg + c) = 2
        · rw [if_pos (show nI (mkP u ps (bg + c)) = 2 by rw [c2]; rfl)]
          exact stop (by rw [← hfm, show fit n (mkP u ps) (bg + c) = false from decide_eq_false (by omega)]; rfl)
        · have hfit : fit n u (bg + c) = true := by rw [← hfm]; exact decide_eq_true ⟨hlt, c1, c2⟩
          obtain ⟨ba, B1, B2⟩ := Ih.by
          have hby := Ih.byt _ hlt
          rw [if_neg (show ¬ nI (mkP u ps (bg + c)) = 2 from fun z => c2 ((nI_eq (b := 2) (by omega) (by decide)).mp z))]
          unfold f_X5_takeEntries_J94 f_X5_takeEntries_J130
          rw [gI_v htb rfl, if_neg (fun z => z rfl), if_neg (by decide), gA_v (o := some im) hrh rfl, gA_v (o := some im) hrh rfl, B1, B2 _ hlt, Ih.rcv, i_valid Ih (by omega), cI_rt]
          cases hz : zv m n (m (bg + c)) with
          | false =>
            rw [n0f]
            exact stop (by rw [hz, Bool.and_false])
          | true =>
            rw [n0t, rc_v hrh]
            obtain ⟨h1', κ1, cap1, ye1, e1, e2, e3, e4, e5, e6⟩ := c_take g hr I h3 T (a := bg + c) (by omega) (by omega) (by omega) (by omega)
            rw [e1, cV_rt, nI_1]
            rw [if_pos hfit] at e2
            have x0 := e3.ext g e4 (c := 0) (by omega)
            obtain ⟨h2', κ2, cap2, ye2, f1, f2, f3, f4, f5, f6⟩ := ih f (c + 1) h1' κ1 cap1 ye1 _ (by omega) (by omega) e4 (x0.1 _ _ hr) (I.ext x0) e2 (by rw [List.length_append, List.length_singleton]; omega) (by omega) (by omega)
            refine ⟨h2', κ2, cap2, ye2, f1, ?_, e3.tr f3, f4, by omega, by omega⟩
            unfold plU
            rw [if_pos (by rw [hfit, hz]; rfl)]
            rw [← Nat.add_assoc, List.append_assoc] at f2
            exact f2
    · rw [decide_eq_false hlt, b0f]
      exact stop (by rw [show fit n u (bg + c) = false from decide_eq_false (fun z => hlt z.1)]; rfl)
theorem c_takes (g : GH B h) (hr : (fc 0 κ h).1 r = some (.inr (4, RF im ua d oc ob lt lg lk b))) (I : IM (fc 0 κ h) im m n es t) (h3 : ∀ a, u a ≤ 3) {bg tb le : Nat} {j : Int32} (hbg : bg < 256) {x : Option (Nat × Option Nat)} (hx : ∀ p, x = some p → p.1 ≤ 256 ∧ ∀ o, p.2 = some o → o ≤ 256)
    (T : TK κ h m ua n u tb le 0 [.int j, .int (nI bg), .int (bW (bM x)), .int (oV x)] [] []) (hc : 40 ≤ hcl h) (hs : 400 ≤ hsl h) :
    ∃ h' κ' cap' ye', f_X5_takeEntries (some r) (some tb) h = rtV h' ∧ TK κ' h' m ua n u tb le cap' [.int j, .int (nI bg), .int (bW (bM x)), .int (oV x)] ye' (plc m n u bg x) ∧ KC (fun k => k = 11 ∨ k = 19) κ h κ' h' ∧ GH B h' ∧ hcl h ≤ hcl h' + 32 ∧ hsl h ≤ hsl h' + 4 * cap' + 16 := by
  have hrh : rd h r = some (.inr (4, RF im ua d oc ob lt lg lk b)) := rdo (fc_e hr).2
  have htb : rd h tb = some (.inr (6, [.int j, .int (nI bg), .int (bW (bM x)), .int (oV x)] ++ [.ref le])) := rdo (fc_e T.2.1).2
  unfold f_X5_takeEntries f_X5_takeEntries_J39
  rw [gI_v htb rfl, gI_v htb rfl]
  cases x with
  | none =>
    rw [if_pos (show oV none < 0 by decide), if_neg (show ¬ ¬ bW (bM none) = -1 from fun z => z rfl)]
    obtain ⟨h2', κ2, cap2, ye2, f1, f2, f3, f4, f5, f6⟩ := c_takeU (im := im) (es := es) (t := t) (m := m) (u := u) (bg := bg) (tb := tb) (le := le) (j := j) (on := oV none) (by omega) h3 8 FUEL 0 h κ 0 [] [] (by omega) (by unfold FUEL; omega) g hr I T (by simp) (by omega) (by omega)
    exact ⟨h2', κ2, cap2, ye2, f1, by rw [List.nil_append, Nat.add_zero] at f2; exact f2, f3, f4, by omega, by omega⟩
  | some p =>
    obtain ⟨q, o⟩ := p
    obtain ⟨hx1, hx2⟩ := hx _ rfl
    simp only at hx1 hx2
    cases o with
    | none =>
      have hbw : bW (bM (some (q, none))) = nI (min q 16) := rfl
      rw [if_pos (show oV (some (q, none)) < 0 from show (-1 : Int32) < 0 by decide), hbw, if_pos (show ¬ nI (min q 16) = -1 from fun z => by
        have := congrArg Int32.toInt z
        rw [nI_toI (by omega), show ((-1 : Int32)).toInt = -1 from rfl] at this
        omega), gI_v htb rfl, hbw]
      obtain ⟨h2', κ2, cap2, ye2, f1, f2, f3, f4, f5, f6⟩ := c_takeB (im := im) (es := es) (t := t) (m := m) (u := u) (bg := bg) (bo := min q 16) (tb := tb) (le := le) (j := j) (on := oV (some (q, none))) (by omega) (by omega) h3 (K := fun h55 => rtV h55) (min q 16) FUEL 0 h κ 0 [] [] (by omega) (by unfold FUEL; omega) g hr I T (by simp) (by omega) (by omega)
      exact ⟨h2', κ2, cap2, ye2, f1, by rw [List.nil_append, Nat.add_zero] at f2; exact f2, f3, f4, by omega, by omega⟩
    | some o =>
      have ho := hx2 o rfl
      rw [if_neg (show ¬ oV (some (q, some o)) < 0 from nI_pos (n := o) (by omega)), gI_v htb rfl, gI_v htb rfl, rc_v hrh]
      show ∃ h' κ' cap' ye', xcV (f_X5_takeEntry (some r) (some tb) (nI bg + nI o) h) _ = _ ∧ _
      rw [nI_add]
      obtain ⟨h1', κ1, cap1, ye1, e1, e2, e3, e4, e5, e6⟩ := c_take g hr I h3 T (a := bg + o) (by omega) (by simp) (by omega) (by omega)
      rw [e1, cV_rt]
      refine ⟨h1', κ1, cap1, ye1, rfl, ?_, e3, e4, by omega, by omega⟩
      have : plc m n u bg (some (q, some o)) = if fit n u (bg + o) = true then [bg + o] else [] := by
        show plB n u 1 (bg + o) = _
        unfold plB
        split <;> rfl
      rw [this]
      exact e2
theorem bnd_n {u : Nat → Nat} {r : Nat} (hm : ∀ i, i < n → m i < 256) (hn : n ≤ 96) (g : UG m n u) : ∀ (k a : Nat) (p : Nat × Option Nat), bnd m u r k a = some p → p.1 ≤ 256 ∧ ∀ o, p.2 = some o → o ≤ 256
  | 0, a, p, e => by simp [bnd] at e
  | k + 1, a, p, e => by
    unfold bnd at e
    have hop : ∀ q, u q = 1 → (zk m q = 1 ∨ zk m q = 3 ∨ zk m q = 12) → zo m q < 256 := fun q hq hk => by
      have := (zv_f (g.2.2.1 q hq).1).2.2.1
      rw [zk_l2 hk] at this
      exact hm _ (by omega)
    cases hb : bef m u a with
    | none => rw [hb] at e; simp at e
    | some q =>
      obtain ⟨b1, b2, b3, b4⟩ := bef_v g hb
      simp only [hb] at e
      split at e
      · cases hb2 : bef m u q with
        | none => simp only [hb2] at e; exact bnd_n hm hn g k q p e
        | some c =>
          obtain ⟨c1, c2, c3, c4⟩ := bef_v g hb2
          simp only [hb2] at e
          split at e
          · rename_i hz
            cases e
            have := hop c c3 (Or.inr (Or.inl hz.1))
            exact ⟨by show zo m c ≤ 256; omega, fun o ho => by cases ho⟩
          · exact bnd_n hm hn g k q p e
      · split at e
        · split at e
          · rename_i hz
            cases e
            have := hop q b3 (Or.inl hz)
            exact ⟨by show zo m q + 1 ≤ 256; omega, fun o ho => by cases ho; omega⟩
          · split at e
            · rename_i hz
              cases e
              have := hop q b3 (Or.inr (Or.inr hz))
              exact ⟨by show zo m q + 1 ≤ 256; omega, fun o ho => by cases ho⟩
            · cases e
        · exact bnd_n hm hn g k q p e
theorem c_mkT (g : GH B h) (hr : (fc 0 κ h).1 r = some (.inr (4, RF im ua d oc ob lt lg lk b))) (I : IM (fc 0 κ h) im m n es t) (s : SB 18 κ h b (fun a => decide (u a = 1))) (G : UG m n u) (U : UA κ h ua n u) (hno : ∀ q, κ q ≠ 19 ∧ κ q ≠ 20) {a : Nat} (ha : a + 1 < n) (hc : 50 ≤ hcl h) (hs : 500 ≤ hsl h) :
    ∃ h' κ' y, f_X5_makeTable (some r) (nI a) h = rtA (some y) h' ∧ TB (fc 0 κ' h') m y (a, zo m a, bM (bnd m u (zf m a) 6 a), plc m n u (zo m a) (bnd m u (zf m a) 6 a)) ∧ UA κ' h' ua n (mkP u (plc m n u (zo m a) (bnd m u (zf m a) 6 a))) ∧ KC (fun k => k = 11) κ h κ' h' ∧ (∀ q, κ' q ≠ 19 ∧ κ' q ≠ 20) ∧ GH B h' ∧ hcl h ≤ hcl h' + 34 ∧ hsl h ≤ hsl h' + 200 := by
  have hn := I.n96
  have hm := I.byt
  have hrh : rd h r = some (.inr (4, RF im ua d oc ob lt lg lk b)) := rdo (fc_e hr).2
  have Ih := I.ext (fc_ext g)
  obtain ⟨arr, cap, sh⟩ := s.bs g
  have hzo : zo m a < 256 := hm _ ha
  have hf : zf m a < 4 := by unfold zf; omega
  have hbd := fun p (e : bnd m u (zf m a) 6 a = some p) => bnd_n hm hn G 6 a p e
  generalize hx : bnd m u (zf m a) 6 a = x at hbd ⊢
  have hps := (plc_p (m := m) (n := n) (u := u) (zo m a) x).1
  unfold f_X5_makeTable
  rw [gA_v (o := some im) hrh rfl, Ih.rcv, i_first Ih (by omega), cI_rt]
  have eL := c_bndL g hrh Ih sh G hf (j := a) (K := fun x170 x171 x172 x173 h174 => f_X5_makeTable_J269 x170 x171 x172 x173 h174) FUEL 0 a (by unfold FUEL; omega) (by omega) (by omega)
  rw [show 6 - 0 = 6 from rfl, hx] at eL
  show ∃ h' κ' y, f_X5_makeTable_L23 _ FUEL (some r) (nI a) (nI (zf m a)) (-1) (-1) (nI a) 1 (nI 0) h = _ ∧ _
  rw [eL]
  unfold f_X5_makeTable_J269
  rw [nO_v (by omega) (by omega)]
  have g1 : GH B (hnew h (.inr (6, fsX7)) 5) := g.new
  have k1 : KC (fun _ => False) κ h (nk 20 κ h) (hnew h (.inr (6, fsX7)) 5) := KC.new (by omega) (by omega)
  have hc1 : hcl (hnew h (.inr (6, fsX7)) 5) = hcl h - 1 ∧ hsl (hnew h (.inr (6, fsX7)) 5) = hsl h - 5 := ⟨rfl, rfl⟩
  have ht1 : (hnew h (.inr (6, fsX7)) 5).1 (hsz h) = some (.inr (6, fsX7)) := hnew_s
  generalize hnew h (.inr (6, fsX7)) 5 = h1 at g1 k1 hc1 ht1 ⊢
  have x0 := k1.ext g g1 (c := 0) (fun z => z)
  have hr1 := rdo (fc_e (x0.1 _ _ hr)).2
  have I1 := (I.ext x0).ext (fc_ext g1)
  rw [gA_v (o := some im) hr1 rfl, I1.rcv, i_opd I1 ha, cI_rt]
  have ebd : (if ¬ bV x = -1 then f_X5_makeTable_J297 (some r) (oV x) (mnI (bV x) 16) (nI (zo m a)) (nI a) (some (hsz h)) (some (hsz h)) h1 else f_X5_makeTable_J297 (some r) (oV x) (bV x) (nI (zo m a)) (nI a) (some (hsz h)) (some (hsz h)) h1) = f_X5_makeTable_J297 (some r) (oV x) (bW (bM x)) (nI (zo m a)) (nI a) (some (hsz h)) (some (hsz h)) h1 := by
    cases x with
    | none => rw [if_neg (fun z => z rfl)]; rfl
    | some p =>
      obtain ⟨q, o⟩ := p
      have hq := (hbd _ rfl).1
      simp only at hq
      have hb : bV (some (q, o)) = nI q := rfl
      rw [hb, if_pos (show ¬ nI q = -1 from fun z => by
        have := congrArg Int32.toInt z
        rw [nI_toI (by omega), show ((-1 : Int32)).toInt = -1 from rfl] at this
        omega)]
      have hmn : mnI (nI q) 16 = nI (min q 16) := by
        unfold mnI
        by_cases h16 : 16 < q
        · rw [if_pos (show (16 : Int32) < nI q from nI_lt (a := 16) h16 (by omega)), Nat.min_eq_right (by omega)]; rfl
        · rw [if_neg (show ¬ (16 : Int32) < nI q from nI_nlt (a := 16) (by omega) (by decide)), Nat.min_eq_left (by omega)]
      rw [hmn]; rfl
  rw [ebd]
  unfold f_X5_makeTable_J297
  obtain ⟨h2, κ2, e1, e2, e3, e4, e5, e6, e7⟩ := c_tnew g1 ht1 (nk_n (Nat.le_refl _)) (nI a) (nI (zo m a)) (bW (bM x)) (oV x) (by omega) (by omega)
  rw [nn_v, e1, cV_rt]
  have x0' := e4.ext g1 e5 (c := 0) (by omega)
  have hr2 := x0'.1 _ _ (x0.1 _ _ hr)
  have I2 := (I.ext x0).ext x0'
  have U2 : UA κ2 h2 ua n u := U.ext ((k1.ext g g1 (c := 11) (fun z => z)).tr (e4.ext g1 e5 (c := 11) (by omega)))
  have T2 : TK κ2 h2 m ua n u (hsz h) (hsz h1) 0 [.int (nI a), .int (nI (zo m a)), .int (bW (bM x)), .int (oV x)] [] [] := ⟨U2.cg (fun i _ => by simp [mkP]), e2, rfl, e3, BXS.nil, fun p hp => by cases hp⟩
  obtain ⟨h3, κ3, cap3, ye3, f1, f2, f3, f4, f5, f6⟩ := c_takes e5 hr2 I2 G.2.1 hzo (x := x) (fun p e => hbd p e) T2 (by omega) (by omega)
  rw [rc_v (rdo (fc_e hr2).2), f1, cV_rt]
  have hcap := f2.le
  obtain ⟨U3, t1, t2, t3, t4, t5⟩ := f2
  have kk : KC (fun k => k = 11 ∨ k = 19 ∨ k = 20) κ h κ3 h3 := ((k1.w (fun k z => z.elim)).tr (e4.w (fun k z => Or.inr (Or.inr z)))).tr (f3.w (fun k z => by rcases z with z | z; exact Or.inl z; exact Or.inr (Or.inl z)))
  obtain ⟨arr3, l1, l2, l3⟩ := t3
  have y1 : Ext (fc 0 κ3 h3) (fc 0 (rk 20 0 (rk 19 0 κ3)) h3) := (rk_2 f4 (by decide)).tr (rk_2 f4 (by decide))
  refine ⟨h3, rk 20 0 (rk 19 0 κ3), hsz h, rfl, ⟨oV x, hsz h1, arr3, cap3, ye3, ?_, (l1.ext (rk_1 f4 (d := 0))).ext (rk_2 f4 (by decide)), t4.ext y1⟩, U3.ext ((rk_2 f4 (by decide)).tr (rk_2 f4 (by decide))), ?_, ?_, f4, by omega, by omega⟩
  · have := (rk_2 (c := 19) (d := 0) f4 (e := 20) (by decide)).1 _ _ t1
    exact rdo ((rk_1 (d := 0) f4).1 _ _ this)
  · refine ⟨fun q hq hS => kk.1 q hq (fun z => ?_), kk.2.1, kk.2.2.1, fun q hq => ?_⟩
    · have := hno q
      omega
    · have h1 := hno q
      have h2 := kk.2.2.2 q hq
      unfold rk
      rw [h2]
      simp only [h1.1, h1.2, if_false]
  · intro q
    unfold rk
    by_cases z1 : κ3 q = 19
    · rw [if_pos z1, if_neg (by decide)]; decide
    · rw [if_neg z1]
      by_cases z2 : κ3 q = 20
      · rw [if_pos z2]; decide
      · rw [if_neg z2]; exact ⟨z1, z2⟩
end
