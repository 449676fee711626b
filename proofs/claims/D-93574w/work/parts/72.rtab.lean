/-! PURE: a recovery makes a table -/
set_option maxRecDepth 100000
/-- a finished table -/
def TB (H : AH) (m : Nat → Nat) (y : Nat) (T : TT) : Prop := ∃ (on : Int32) (le arr cap : Nat) (ye : List Nat), rd H y = some (.inr (6, [.int (nI T.1), .int (nI T.2.1), .int (bW T.2.2.1), .int on, .ref le])) ∧ AL H le arr cap ye ∧ BXS H ye (T.2.2.2.map m)
theorem TB.ext {H H' : AH} {m : Nat → Nat} {y : Nat} {T : TT} (x : Ext H H') (b : TB H m y T) : TB H' m y T := by
  obtain ⟨on, le, arr, cap, ye, b1, b2, b3⟩ := b
  exact ⟨on, le, arr, cap, ye, x.2.1 _ _ b1, b2.ext x, b3.ext x⟩
theorem TB.el {H : AH} {m : Nat → Nat} {y : Nat} {T : TT} (b : TB H m y T) : EL H y := by
  obtain ⟨on, le, arr, cap, ye, b1, _⟩ := b
  exact ⟨_, _, b1, by decide⟩
/-- the marks -/
def UA (κ : Nat → Nat) (h : AH) (ua n : Nat) (u : Nat → Nat) : Prop := ∃ f : Nat → Int32, (fc 11 κ h).1 ua = some (.inl (0, n, .inl f)) ∧ ∀ i, i < n → f i = nI (u i)
theorem UA.ext {κ κ' : Nat → Nat} {h h' : AH} {ua n : Nat} {u : Nat → Nat} (x : Ext (fc 11 κ h) (fc 11 κ' h')) (a : UA κ h ua n u) : UA κ' h' ua n u := by
  obtain ⟨f, a1, a2⟩ := a
  exact ⟨f, x.1 _ _ a1, a2⟩
theorem UA.cg {κ : Nat → Nat} {h : AH} {ua n : Nat} {u u' : Nat → Nat} (a : UA κ h ua n u) (e : ∀ i, i < n → u' i = u i) : UA κ h ua n u' := by
  obtain ⟨f, a1, a2⟩ := a
  exact ⟨f, a1, fun i hi => by rw [a2 i hi, e i hi]⟩
/-- a store into the marks -/
theorem c_mark {B : Nat} {κ : Nat → Nat} {h : AH} {ua n : Nat} {u : Nat → Nat} (g : GH B h) (U : UA κ h ua n u) {a v : Nat} (ha : a < n) (hn : n ≤ 96) {X : AH → RS} : ∃ h', xsI h (some ua) 0 (nI a) (nI v) X = X h' ∧ UA κ h' ua n (updN u a v) ∧ KC (fun k => k = 11) κ h κ h' ∧ GH B h' ∧ hcl h' = hcl h ∧ hsl h' = hsl h ∧ hsz h' = hsz h := by
  obtain ⟨f, a1, a2⟩ := U
  obtain ⟨k1, k2⟩ := fc_e a1
  refine ⟨_, sI_v k2 ha (by omega), ⟨_, fc_i k1 hset_s, fun i hi => ?_⟩, KC.set k1, g.set k2, rfl, rfl, rfl⟩
  show upd f a (nI v) i = nI (updN u a v i)
  unfold updN
  by_cases hia : i = a
  · rw [hia, upd_s, if_pos rfl]
  · rw [upd_n hia, if_neg hia]; exact a2 i hi
section
variable {B : Nat} {h h' : AH} {κ κ' : Nat → Nat} {r im ua d oc ob lt lg lk b : Nat} {m u : Nat → Nat} {n t : Nat} {es : List Nat}
/-- a table under construction -/
def TK (κ : Nat → Nat) (h : AH) (m : Nat → Nat) (ua n : Nat) (u : Nat → Nat) (tb le cap : Nat) (fs : List Value) (ye ps : List Nat) : Prop := UA κ h ua n (mkP u ps) ∧ (fc 20 κ h).1 tb = some (.inr (6, fs ++ [.ref le])) ∧ fs.length = 4 ∧ LA 19 κ h le cap ye ∧ BXS (fc 0 κ h) ye (ps.map m) ∧ ∀ p ∈ ps, fit n u p = true
theorem mkP_ap {ps : List Nat} {a i : Nat} : mkP u (ps ++ [a]) i = updN (mkP u ps) a 3 i := by
  unfold mkP updN
  by_cases hia : i = a
  · simp [hia]
  · simp [hia]
theorem IM.by {H : AH} (I : IM H im m n es t) : ∃ ba, (∀ {X : Option Nat → RS}, xgA H (some im) 1 0 X = X (some ba)) ∧ ∀ a, a < n → ∀ {X : Int32 → RS}, xlI H (some ba) 0 (nI a) X = X (nI (m a)) := by
  obtain ⟨ba, ea, f, g, e1, e2, e3, hf, hg, hn, hm, hl, he⟩ := I
  exact ⟨ba, gA_v (o := some ba) e1 rfl, fun a ha X => by rw [lI_v e2 ha (by omega), hf a ha]⟩
theorem IM.n96 {H : AH} (I : IM H im m n es t) : n ≤ 96 := by obtain ⟨_, _, _, _, _, _, _, _, _, hn, _⟩ := I; exact hn
theorem IM.byt {H : AH} (I : IM H im m n es t) : ∀ i, i < n → m i < 256 := by obtain ⟨_, _, _, _, _, _, _, _, _, _, hm, _⟩ := I; exact hm
theorem IM.e4 {H : AH} (I : IM H im m n es t) : es.length ≤ 4 := by obtain ⟨_, _, _, _, _, _, _, _, _, _, _, hl, _⟩ := I; exact hl
theorem IM.eln {H : AH} (I : IM H im m n es t) : ∀ e ∈ es, e < n := by obtain ⟨_, _, _, _, _, _, _, _, _, _, _, _, he⟩ := I; exact he
theorem c_take (g : GH B h) (hr : (fc 0 κ h).1 r = some (.inr (4, RF im ua d oc ob lt lg lk b))) (I : IM (fc 0 κ h) im m n es t) (h3 : ∀ a, u a ≤ 3) {tb le cap : Nat} {fs : List Value} {ye ps : List Nat} (T : TK κ h m ua n u tb le cap fs ye ps) {a : Nat} (ha : a ≤ 1000) (hps : ps.length ≤ 16) (hc : 2 ≤ hcl h) (hs : 100 ≤ hsl h) :
    ∃ h' κ' cap' ye', f_X5_takeEntry (some r) (some tb) (nI a) h = rtV h' ∧ TK κ' h' m ua n u tb le cap' fs ye' (if fit n u a = true then ps ++ [a] else ps) ∧ KC (fun k => k = 11 ∨ k = 19) κ h κ' h' ∧ GH B h' ∧ hcl h ≤ hcl h' + 2 ∧ hsl h + 4 * cap ≤ hsl h' + 4 * cap' + 1 := by
  have hn := I.n96
  obtain ⟨U, t1, t2, t3, t4, t5⟩ := id T
  have hrh : rd h r = some (.inr (4, RF im ua d oc ob lt lg lk b)) := rdo (fc_e hr).2
  have Ih := I.ext (fc_ext g)
  obtain ⟨f, a1, a2⟩ := id U
  have a1h := rdo (fc_e a1).2
  unfold f_X5_takeEntry
  rw [gA_v (o := some im) hrh rfl, Ih.rcv, i_cont Ih, cI_rt, ad_nI (by omega)]
  have no : fit n u a = false → ∃ h' κ' cap' ye', rtV h = rtV h' ∧ TK κ' h' m ua n u tb le cap' fs ye' (if fit n u a = true then ps ++ [a] else ps) ∧ KC (fun k => k = 11 ∨ k = 19) κ h κ' h' ∧ GH B h' ∧ hcl h ≤ hcl h' + 2 ∧ hsl h + 4 * cap ≤ hsl h' + 4 * cap' + 1 := fun hf => by
    refine ⟨h, κ, cap, ye, rfl, ?_, KC.rf, g, by omega, by omega⟩
    rw [hf, if_neg (by decide)]; exact T
  by_cases h1 : a < n
  · have hmk : mkP u ps a ≤ 3 := by
      unfold mkP; split
      · omega
      · exact h3 a
    have hfm := fit_mkP t5 a
    rw [decide_eq_true h1, b0t, gA_v (o := some ua) hrh rfl, lI_v a1h h1 (by omega), a2 a h1]
    by_cases c1 : mkP u ps a = 1
    · rw [if_pos (show nI (mkP u ps a) = 1 by rw [c1]; rfl)]
      exact no (by rw [← hfm]; exact decide_eq_false (by omega))
    · rw [if_neg (show ¬ nI (mkP u ps a) = 1 from fun z => c1 ((nI_eq (b := 1) (by omega) (by decide)).mp z)), gA_v (o := some ua) hrh rfl, lI_v a1h h1 (by omega), a2 a h1]
      by_cases c2 : mkP u ps a = 2
      · rw [if_pos (show nI (mkP u ps a) = 2 by rw [c2]; rfl)]
        exact no (by rw [← hfm]; exact decide_eq_false (by omega))
      · have hfit : fit n u a = true := by rw [← hfm]; exact decide_eq_true ⟨h1, c1, c2⟩
        obtain ⟨ba, B1, B2⟩ := Ih.by
        have hby := Ih.byt a h1
        have htb : rd h tb = some (.inr (6, fs ++ [.ref le])) := rdo (fc_e t1).2
        have hk4 : (fs ++ [Value.ref le])[4]? = some (va_rf (some le)) := by rw [List.getElem?_append_right (by omega), t2]; rfl
        rw [if_neg (show ¬ nI (mkP u ps a) = 2 from fun z => c2 ((nI_eq (b := 2) (by omega) (by decide)).mp z)), gA_v (o := some le) htb hk4, gA_v (o := some im) hrh rfl, B1, B2 a h1]
        obtain ⟨y, h1', κ1, e1, e2, e3, e4, e5, e6⟩ := c_box g (v := m a) (by omega) (by omega) (by omega) κ
        rw [e1, cA_rt]
        have x19 := e3.ext g e4 (c := 19) (fun z => z)
        have x0 := e3.ext g e4 (c := 0) (fun z => z)
        have L1 := t3.ext x19
        obtain ⟨arr1, AL1⟩ := L1.al e4
        have hylen : ye.length = ps.length := by have := t4.1; rw [List.length_map] at this; exact this
        obtain ⟨h2, κ2, cap2, f1, f2, f3, f4, f5, f6⟩ := c_ladd e4 L1 (y := y) (e2.el.ext (fc_ext e4)) (fun z hz => ((t4.ext x0).el z hz).ext (fc_ext e4)) (by omega) (by omega) (by omega)
        rw [AL1.rc, f1, cI_rt]
        have x0' := f3.ext e4 f4 (c := 0) (by omega)
        have x11 := (e3.ext g e4 (c := 11) (fun z => z)).tr (f3.ext e4 f4 (c := 11) (by omega))
        have hr2 := x0'.1 _ _ (x0.1 _ _ hr)
        rw [gA_v (o := some ua) (rdo (fc_e hr2).2) rfl]
        obtain ⟨h3', s1, s2, s3, s4, s5, s6, s7⟩ := c_mark f4 (U.ext x11) h1 hn (v := 3) (X := fun h17 => rtV h17)
        rw [show (3 : Int32) = nI 3 from rfl, s1]
        have x0'' := s3.ext f4 s4 (c := 0) (by omega)
        have x19' := s3.ext f4 s4 (c := 19) (by omega)
        have x20 := ((e3.ext g e4 (c := 20) (fun z => z)).tr (f3.ext e4 f4 (c := 20) (by omega))).tr (s3.ext f4 s4 (c := 20) (by omega))
        refine ⟨h3', κ2, cap2, ye ++ [y], rfl, ?_, ?_, s4, by omega, by omega⟩
        · rw [if_pos hfit]
          refine ⟨s2.cg (fun i _ => mkP_ap), x20.1 _ _ t1, t2, f2.ext x19', ?_, fun p hp => ?_⟩
          · rw [List.map_append]
            exact (((t4.ext x0).ap e2 (by omega)).ext x0').ext x0''
          · rcases List.mem_append.mp hp with hp | hp
            · exact t5 p hp
            · rw [List.mem_singleton.mp hp]; exact hfit
        · exact ((e3.w (fun k z => z.elim)).tr (f3.w (fun k z => Or.inr z))).tr (s3.w (fun k z => Or.inl z))
  · rw [decide_eq_false h1, b0f]
    exact no (decide_eq_false (fun z => h1 z.1))
end
