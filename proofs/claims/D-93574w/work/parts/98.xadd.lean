/-! PURE: the class adds bytes -/
set_option maxRecDepth 100000
theorem gdn_at : ∀ (l : List Nat) (p : Nat), (∀ j, j < p → dgt (l.getD j 0) ≠ none) → p ≤ l.length → (p = l.length ∨ dgt (l.getD p 0) = none) → gdn l = p
  | [], p, _, h2, _ => by
    have : p = 0 := by simp at h2; exact h2
    subst this; rfl
  | c :: l, 0, _, _, h3 => by
    rcases h3 with h3 | h3
    · simp at h3
    · unfold gdn; rw [if_pos (show dgt c = none from h3)]
  | c :: l, p + 1, h1, h2, h3 => by
    have h0 : dgt c ≠ none := h1 0 (by omega)
    unfold gdn
    rw [if_neg h0, gdn_at l p (fun j hj => h1 (j + 1) (by omega)) (by simp at h2; omega) (by
      rcases h3 with h3 | h3
      · exact Or.inl (by simp at h3; omega)
      · exact Or.inr h3)]
abbrev sF : String := "CodeRecovery$FaultException"
def fltV (x : Int32) : AE := .inr (3, [.null, .null, .null, .null, .null, .int 0, .int x])
section
variable {B : Nat} {h h' h0 : AH} {κ κ' κ0 : Nat → Nat} {xa na ta : Nat} {sa ra la : Option Nat} {W W' : WS} {c : Nat} {S : Nat → Prop} {g : IMG} {ex : Nat → String} {m : Nat → Nat} {n t : Nat} {es : List Nat}
theorem tA_4 (gh : GH B h) : ∃ o, ∀ {X : Option Nat → RS}, xtA h 4 X = X o := by
  obtain ⟨⟨tC, tD, mi, ad, w⟩, _⟩ := gh
  have : hst h 4 = .null ∨ ∃ t, hst h 4 = .ref t := w.2.2.2.2.2.2.2.1
  rcases this with z | ⟨t, z⟩
  · exact ⟨none, by intro X; unfold xtA; rw [z]⟩
  · exact ⟨some t, by intro X; unfold xtA; rw [z]⟩
theorem tA_5 (gh : GH B h) : ∃ o, ∀ {X : Option Nat → RS}, xtA h 5 X = X o := by
  obtain ⟨⟨tC, tD, mi, ad, w⟩, _⟩ := gh
  have : hst h 5 = .null ∨ ∃ t, hst h 5 = .ref t := w.2.2.2.2.2.2.2.2.1
  rcases this with z | ⟨t, z⟩
  · exact ⟨none, by intro X; unfold xtA; rw [z]⟩
  · exact ⟨some t, by intro X; unfold xtA; rw [z]⟩
theorem x_flt (gh : GH B h) {x : Int32} {a : Nat} (ha : h.1 a = some (.inr (3, fsX4))) : f_X4_init (some a) x h = rtV (hset h a (fltV x)) := by
  unfold f_X4_init f_J1_init_3 f_J0_init_3
  rw [nn_v, nn_v, nn_v, pF_w [.ref a, .null, .null, .null, .null, .int 0, .int 0] ha (Nat.le_of_ble_eq_true rfl) rfl]
  obtain ⟨o4, t4⟩ := tA_4 (h := hset h a (.inr (3, [.ref a, .null, .null, .null, .null, .int 0, .int 0]))) (gh.set ha)
  rw [t4, pF_w [.ref a, va_rf o4, .null, .null, .null, .int 0, .int 0] hset_s (Nat.le_of_ble_eq_true rfl) rfl, hset_ss]
  obtain ⟨o5, t5⟩ := tA_5 (h := hset h a (.inr (3, [.ref a, va_rf o4, .null, .null, .null, .int 0, .int 0]))) (gh.set ha)
  rw [t5, pF_w [.ref a, va_rf o4, va_rf o5, .null, .null, .int 0, .int 0] hset_s (Nat.le_of_ble_eq_true rfl) rfl, hset_ss, if_pos rfl,
    pF_w [.ref a, .null, va_rf o5, .null, .null, .int 0, .int 0] hset_s (Nat.le_of_ble_eq_true rfl) rfl, hset_ss, pF_w [.ref a, .null, va_rf o5, .null, .null, .int 0, .int 0] hset_s (Nat.le_of_ble_eq_true rfl) rfl, hset_ss, pF_w [.null, .null, va_rf o5, .null, .null, .int 0, .int 0] hset_s (Nat.le_of_ble_eq_true rfl) rfl, hset_ss, if_neg (fun z => z rfl), pF_w [.null, .null, .null, .null, .null, .int 0, .int 0] hset_s (Nat.le_of_ble_eq_true rfl) rfl, hset_ss, cV_rt, cV_rt, pF_w [.null, .null, .null, .null, .null, .int 0, .int x] hset_s (Nat.le_of_ble_eq_true rfl) rfl, hset_ss]
  rfl
theorem x_dig (gh : GH B h) {c : Nat} (hcc : c ≤ 1000) {x : Int32} (hc : 1 ≤ hcl h) (hs : 7 ≤ hsl h) : f_X1_digitAt_J19 x (nI c) h = match dgt c with | some d => rtI (nI d) h | none => thr sF (hsz h) (hset (hnew h (.inr (3, fsX4)) 7) (hsz h) (fltV x)) := by
  unfold f_X1_digitAt_J19 dgt
  rw [show (48 : Int32) = nI 48 from rfl, show (57 : Int32) = nI 57 from rfl, f_btwN (by omega) (by decide) (by decide), cI_rt]
  by_cases h1 : 48 ≤ c ∧ c ≤ 57
  · rw [decide_eq_true h1, b0t, if_pos h1, pk_sub h1.1]
  · rw [decide_eq_false h1, b0f, if_neg h1, show (97 : Int32) = nI 97 from rfl, show (102 : Int32) = nI 102 from rfl, f_btwN (by omega) (by decide) (by decide), cI_rt]
    by_cases h2 : 97 ≤ c ∧ c ≤ 102
    · rw [decide_eq_true h2, b0t, if_pos h2, pk_sub h2.1, show (10 : Int32) = nI 10 from rfl, nI_add]
    · have hq : (hset (hnew h (.inr (3, fsX4)) 7) (hsz h) (fltV x)).1 (hsz h) = some (.inr (3, [.null, .null, .null, .null, .null, .int 0, .int x])) := hset_s
      rw [decide_eq_false h2, b0f, if_neg h2, nO_v hc hs, nn_v, x_flt (gh.new) hnew_s, cV_rt, at_v hq]
      rfl
theorem x_digit (gh : GH B h) (v : XV κ h xa na sa ra la ta W) {p : Nat} (hp : p ≤ 1000) (hc : 1 ≤ hcl h) (hs : 7 ≤ hsl h) : f_X1_digitAt (some xa) (nI p) h = match (if p < (wT W).length then dgt ((wT W).getD p 0) else none) with | some d => rtI (nI d) h | none => thr sF (hsz h) (hset (hnew h (.inr (3, fsX4)) 7) (hsz h) (fltV (nI p))) := by
  obtain ⟨ft, t1, t2, t3, t4⟩ := v.2.2.2.2.2
  unfold f_X1_digitAt
  rw [gI_v v.hx rfl]
  by_cases hpl : p < (wT W).length
  · have h126 := t4 _ (getD_mem hpl)
    rw [if_neg (fun z => by have := (nI_leI (by omega) (by omega)).mp z; omega), gA_v (o := some ta) v.hx rfl, lI_v (rdo (fc_e t1).2) (by omega) (by decide), t2 p hpl, x_dig gh (by omega) hc hs, if_pos hpl]
  · rw [if_pos (nI_le (by omega) (by omega)), show (32 : Int32) = nI 32 from rfl, x_dig gh (by decide) hc hs, if_neg hpl]
    rfl
/-- the bytes of a good text -/
def rdBs (l : List Nat) (k : Nat) : List Nat := (List.range k).map (rdB l)
theorem rdBs_s {l : List Nat} {k : Nat} : rdBs l (k + 1) = rdBs l k ++ [rdB l k] := by unfold rdBs; rw [List.range_succ, List.map_append]; rfl
theorem dgv_b (c : Nat) : dgv c < 16 := by
  unfold dgv
  cases hd : dgt c with
  | none => decide
  | some d => exact dgt_b hd
theorem c_rdL {a1 : Nat} {K : Option Nat → AH → RS} : ∀ (k f i : Nat) (h : AH) (κ : Nat → Nat) (cap : Nat) (ys : List Nat), (wT W).length + 2 ≤ 2 * i + 2 * k → k < f → 2 * i ≤ (wT W).length → (∀ j, j < 2 * i → dgt ((wT W).getD j 0) ≠ none) → GH B h → XV κ h xa na sa ra la ta W → LA 28 κ h a1 cap ys → BXS (fc 0 κ h) ys (rdBs (wT W) i) → 2 * k + 10 ≤ hcl h → 3000 + 20 * k ≤ hsl h + 4 * cap →
    ∃ h' κ', ((badT (wT W) = false ∧ f_X1_readBytes_L10 K f (some xa) (some a1) (nI (2 * i)) h = K (some a1) h' ∧ ∃ cap' ys', LA 28 κ' h' a1 cap' ys' ∧ BXS (fc 0 κ' h') ys' (rdBs (wT W) ((wT W).length / 2))) ∨ (badT (wT W) = true ∧ ∃ q, f_X1_readBytes_L10 K f (some xa) (some a1) (nI (2 * i)) h = thr sF q h' ∧ h'.1 q = some (fltV (nI (gdn (wT W)))) ∧ q ≠ xa)) ∧ KC (fun k => 10 ≤ k) κ h κ' h' ∧ GH B h' ∧ hcl h ≤ hcl h' + 2 * k + 10 ∧ hsl h + 4 * cap ≤ hsl h' + 20 * k + 1000 := by
  intro k
  induction k with
  | zero =>
    intro f i h κ cap ys h1 h2 h3
    omega
  | succ k ih =>
    intro f i h κ cap ys h1 h2 h3 hd gh v L bs hc hs
    obtain ⟨f, rfl⟩ : ∃ f', f = f' + 1 := ⟨f - 1, by omega⟩
    have t3 : (wT W).length ≤ 60 := by obtain ⟨ft, t1, t2, t3, t4⟩ := v.2.2.2.2.2; exact t3
    have hyl : ys.length = i := by rw [bs.1]; unfold rdBs; rw [List.length_map, List.length_range]
    have hcap : cap ≤ 2 * ys.length + 10 := by obtain ⟨_, _, _, z⟩ := L; exact z
    have hxs : xa < hsz h := (gh.fresh (fc_e v.1).2).1
    unfold f_X1_readBytes_L10
    rw [gI_v v.hx rfl]
    -- the next byte
    have J22 : (2 * i < (wT W).length ∨ i = 0) → ∃ h' κ', ((badT (wT W) = false ∧ f_X1_readBytes_J22 (f_X1_readBytes_L10 K f) K (some xa) (some a1) (nI (2 * i)) h = K (some a1) h' ∧ ∃ cap' ys', LA 28 κ' h' a1 cap' ys' ∧ BXS (fc 0 κ' h') ys' (rdBs (wT W) ((wT W).length / 2))) ∨ (badT (wT W) = true ∧ ∃ q, f_X1_readBytes_J22 (f_X1_readBytes_L10 K f) K (some xa) (some a1) (nI (2 * i)) h = thr sF q h' ∧ h'.1 q = some (fltV (nI (gdn (wT W)))) ∧ q ≠ xa)) ∧ KC (fun k => 10 ≤ k) κ h κ' h' ∧ GH B h' ∧ hcl h ≤ hcl h' + 2 * (k + 1) + 10 ∧ hsl h + 4 * cap ≤ hsl h' + 20 * (k + 1) + 1000 := by
      intro hi
      unfold f_X1_readBytes_J22
      rw [v.rc]
      -- a bad character
      have bad : ∀ p, (∀ j, j < p → dgt ((wT W).getD j 0) ≠ none) → p ≤ (wT W).length → (p = (wT W).length ∨ dgt ((wT W).getD p 0) = none) → badT (wT W) = true → ∀ {X : RS}, X = thr sF (hsz h) (hset (hnew h (.inr (3, fsX4)) 7) (hsz h) (fltV (nI p))) → ∃ h' κ', ((badT (wT W) = false ∧ X = K (some a1) h' ∧ ∃ cap' ys', LA 28 κ' h' a1 cap' ys' ∧ BXS (fc 0 κ' h') ys' (rdBs (wT W) ((wT W).length / 2))) ∨ (badT (wT W) = true ∧ ∃ q, X = thr sF q h' ∧ h'.1 q = some (fltV (nI (gdn (wT W)))) ∧ q ≠ xa)) ∧ KC (fun k => 10 ≤ k) κ h κ' h' ∧ GH B h' ∧ hcl h ≤ hcl h' + 2 * (k + 1) + 10 ∧ hsl h + 4 * cap ≤ hsl h' + 20 * (k + 1) + 1000 := by
        intro p p1 p2 p3 hb X hX
        have hg := gdn_at (wT W) p p1 p2 p3
        refine ⟨_, nk 0 κ h, Or.inr ⟨hb, hsz h, hX, ?_, by omega⟩, (kn_set (by omega) (by omega)).w (fun k z => z.elim), gh.new.set hnew_s, by show hcl h ≤ hcl h - 1 + 2 * (k + 1) + 10; omega, by show hsl h + 4 * cap ≤ hsl h - 7 + 20 * (k + 1) + 1000; omega⟩
        rw [hg]; exact hset_s
      have hgl := gdn_le (wT W)
      rw [x_digit gh v (by omega) (by omega) (by omega)]
      by_cases hlt : 2 * i < (wT W).length
      · rw [if_pos hlt]
        cases hd1 : dgt ((wT W).getD (2 * i) 0) with
        | none =>
          refine bad (2 * i) hd (by omega) (Or.inr hd1) ?_ (by simp only; rw [cI_th])
          have := gdn_at (wT W) (2 * i) hd (by omega) (Or.inr hd1)
          exact decide_eq_true (Or.inl (by omega))
        | some d1 =>
          have hdd : ∀ j, j < 2 * i + 1 → dgt ((wT W).getD j 0) ≠ none := fun j hj => by
            by_cases e : j = 2 * i
            · rw [e, hd1]; simp
            · exact hd j (by omega)
          simp only
          rw [cI_rt, v.rc, nI_1, x_digit gh v (by omega) (by omega) (by omega)]
          by_cases hlt2 : 2 * i + 1 < (wT W).length
          · rw [if_pos hlt2]
            cases hd2 : dgt ((wT W).getD (2 * i + 1) 0) with
            | none =>
              refine bad (2 * i + 1) hdd (by omega) (Or.inr hd2) ?_ (by simp only; rw [cI_th])
              have := gdn_at (wT W) (2 * i + 1) hdd (by omega) (Or.inr hd2)
              exact decide_eq_true (Or.inl (by omega))
            | some d2 =>
              have b1 := dgt_b hd1
              have b2 := dgt_b hd2
              have er : rdB (wT W) i = 16 * d1 + d2 := by unfold rdB dgv; rw [hd1, hd2]; rfl
              simp only
              rw [cI_rt, show (16 : Int32) = nI 16 from rfl, nI_mul, nI_add]
              obtain ⟨y, h2', κ2, e1, e2, e3', e4, e5, e6, e7⟩ := c_box gh (v := 16 * d1 + d2) (by omega) (by omega) (by omega) κ
              have x0 := e3'.ext gh e4 (c := 0) (fun z => z)
              have L2 := L.ext (e3'.ext gh e4 (c := 28) (fun z => z))
              have bs2 := bs.ext x0
              obtain ⟨ar, A2⟩ := L2.al e4
              obtain ⟨h3', κ3, cap3, f1, f2, f3, f4, f5, f6, f7⟩ := c_ladd e4 L2 (y := y) (BX.el (e2.ext (fc_ext e4))) (bs2.ext (fc_ext e4)).el (by omega) (by omega) (by omega)
              rw [e1, cA_rt, A2.rc, f1, cI_rt, show (2 : Int32) = nI 2 from rfl, nI_add]
              have x3 := f3.ext e4 f4 (c := 0) (by decide)
              have v3 := (v.kc gh e4 e3' (fun z => z) (fun z => z) (fun z => z)).kc e4 f4 f3 (by decide) (by decide) (by decide)
              have bs3 : BXS (fc 0 κ3 h3') (ys ++ [y]) (rdBs (wT W) (i + 1)) := by
                rw [rdBs_s, er]
                exact (bs2.ext x3).ap (e2.ext x3) (by omega)
              obtain ⟨h4', κ4, w1, w2, w3, w4, w5⟩ := ih f (i + 1) h3' κ3 cap3 (ys ++ [y]) (by omega) (by omega) (by omega) (fun j hj => by
                by_cases e : j = 2 * i + 1
                · rw [e, hd2]; simp
                · exact hdd j (by omega)) f4 v3 f2 bs3 (by omega) (by omega)
              rw [show 2 * i + 2 = 2 * (i + 1) by omega]
              exact ⟨h4', κ4, w1, ((e3'.w (fun k z => z.elim)).tr (f3.w (fun k z => by omega))).tr w2, w3, by omega, by omega⟩
          · rw [if_neg hlt2]
            refine bad (2 * i + 1) hdd (by omega) (Or.inl (by omega)) ?_ (by simp only; rw [cI_th])
            exact decide_eq_true (Or.inr (Or.inl (by omega)))
      · rw [if_neg hlt]
        have hi0 : i = 0 := by omega
        refine bad (2 * i) hd (by omega) (Or.inl (by omega)) ?_ (by simp only; rw [cI_th])
        exact decide_eq_true (Or.inr (Or.inr (by omega)))
    by_cases hlt : 2 * i < (wT W).length
    · rw [if_pos (nI_lt hlt (by omega))]
      exact J22 (Or.inl hlt)
    · rw [if_neg (nI_nlt (by omega) (by omega))]
      by_cases hi0 : i = 0
      · rw [if_neg (fun z => z (by rw [hi0]; rfl))]
        exact J22 (Or.inr hi0)
      · rw [if_pos (show ¬ nI (2 * i) = 0 from n_y (k := 0) (by omega) (by decide) (by omega))]
        have hg := gdn_at (wT W) (2 * i) hd (by omega) (Or.inl (by omega))
        refine ⟨h, κ, Or.inl ⟨decide_eq_false (by omega), rfl, cap, ys, L, ?_⟩, KC.rf, gh, by omega, by omega⟩
        rw [show (wT W).length / 2 = i by omega]
        exact bs
end
