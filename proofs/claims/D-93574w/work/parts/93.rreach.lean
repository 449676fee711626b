/-! PURE: what a recovery's heads reach -/
set_option maxRecDepth 100000
/-- how many entries the tables at a have -/
def tl : List TT → Nat → Nat
  | [], _ => 0
  | T :: r, a => (if T.1 = a then T.2.2.2.length else 0) + tl r a
def nxT (m : Nat → Nat) : List TT → Nat → List Nat
  | [], _ => []
  | T :: r, a => (if T.1 = a then T.2.2.2.map m else []) ++ nxT m r a
def nxs (m : Nat → Nat) (tb : List TT) (a : Nat) : List Nat := (if ze m a = true then [] else [a + zl m a]) ++ ((if zt m a = true ∧ zk m a ≠ 7 then [zq m a] else []) ++ nxT m tb a)
theorem nxT_len {m : Nat → Nat} {a : Nat} : ∀ tb : List TT, (nxT m tb a).length = tl tb a
  | [] => rfl
  | T :: r => by
    unfold nxT tl
    rw [List.length_append, nxT_len r]
    split
    · rw [List.length_map]
    · rfl
theorem nxT_mem {m : Nat → Nat} {a b : Nat} : ∀ tb : List TT, b ∈ nxT m tb a ↔ ∃ T ∈ tb, T.1 = a ∧ ∃ p ∈ T.2.2.2, m p = b
  | [] => by simp [nxT]
  | T :: r => by
    unfold nxT
    rw [List.mem_append, nxT_mem r]
    constructor
    · rintro (q | ⟨T', q1, q2⟩)
      · split at q
        · rename_i hT
          obtain ⟨p, p1, p2⟩ := List.mem_map.mp q
          exact ⟨T, List.mem_cons_self .., hT, p, p1, p2⟩
        · simp at q
      · exact ⟨T', List.mem_cons_of_mem _ q1, q2⟩
    · rintro ⟨T', q1, q2, p, p1, p2⟩
      rcases List.mem_cons.mp q1 with rfl | q1
      · left
        rw [if_pos q2]
        exact List.mem_map.mpr ⟨p, p1, p2⟩
      · exact Or.inr ⟨T', q1, q2, p, p1, p2⟩
theorem nxs_mem {m : Nat → Nat} {tb : List TT} {a b : Nat} : b ∈ nxs m tb a ↔ sucR m tb a b := by
  unfold nxs sucR
  rw [List.mem_append, List.mem_append, nxT_mem]
  refine or_congr ?_ (or_congr ?_ Iff.rfl)
  · cases ze m a <;> simp
  · by_cases h : zt m a = true ∧ zk m a ≠ 7
    · rw [if_pos h]; simp [h]
    · rw [if_neg h]; simp [h]
theorem nxs_len {m : Nat → Nat} {tb : List TT} {a : Nat} : (nxs m tb a).length ≤ 2 + tl tb a := by
  unfold nxs
  rw [List.length_append, List.length_append, nxT_len]
  split <;> split <;> simp <;> omega
theorem sumN_add {f g : Nat → Nat} : ∀ n, sumN (fun i => f i + g i) n = sumN f n + sumN g n
  | 0 => rfl
  | n + 1 => by
    show sumN _ n + (f n + g n) = (sumN f n + f n) + (sumN g n + g n)
    rw [sumN_add n]; omega
theorem sumN_cg {f g : Nat → Nat} : ∀ n, (∀ i, i < n → f i = g i) → sumN f n = sumN g n
  | 0, _ => rfl
  | n + 1, h => by
    show sumN f n + f n = sumN g n + g n
    rw [sumN_cg n (fun i hi => h i (by omega)), h n (by omega)]
theorem sumN_one {c k : Nat} : ∀ n, sumN (fun a => if c = a then k else 0) n ≤ k ∧ (n ≤ c → sumN (fun a => if c = a then k else 0) n = 0)
  | 0 => ⟨Nat.zero_le _, fun _ => rfl⟩
  | n + 1 => by
    have ih := sumN_one (c := c) (k := k) n
    constructor
    · show sumN _ n + (if c = n then k else 0) ≤ k
      by_cases h : c = n
      · rw [ih.2 (by omega), if_pos h]; omega
      · rw [if_neg h]; exact ih.1
    · intro hn
      show sumN _ n + (if c = n then k else 0) = 0
      rw [ih.2 (by omega), if_neg (by omega)]
theorem tl_sum {n : Nat} : ∀ tb : List TT, (∀ T ∈ tb, T.2.2.2.length ≤ 16) → sumN (tl tb) n ≤ 16 * tb.length
  | [], _ => by
    have : sumN (tl []) n ≤ 0 * n := sumN_b (f := tl []) (c := 0) (fun i => Nat.le_refl _) n
    simp at this ⊢; exact this
  | T :: r, h => by
    have ih := tl_sum (n := n) r (fun T hT => h T (List.mem_cons_of_mem _ hT))
    have e : sumN (tl (T :: r)) n = sumN (fun a => if T.1 = a then T.2.2.2.length else 0) n + sumN (tl r) n := by rw [← sumN_add]; rfl
    have h1 := (sumN_one (c := T.1) (k := T.2.2.2.length) n).1
    have h2 := h T (List.mem_cons_self ..)
    rw [e, List.length_cons]
    omega
def pot (tb : List TT) (n : Nat) (T : Nat → Bool) : Nat := sumN (fun a => if T a = true then 0 else 2 + tl tb a) n
theorem pot_0 {tb : List TT} {n : Nat} (h : ∀ T ∈ tb, T.2.2.2.length ≤ 16) : pot tb n (fun _ => false) ≤ 2 * n + 16 * tb.length := by
  have e : pot tb n (fun _ => false) = sumN (fun _ => 2) n + sumN (tl tb) n := by
    rw [← sumN_add]
    exact sumN_cg n (fun i _ => by simp)
  have h1 : sumN (fun _ => 2) n ≤ 2 * n := sumN_b (f := fun _ => 2) (c := 2) (fun i => Nat.le_refl _) n
  have h2 := tl_sum (n := n) tb h
  omega
theorem sumN_up {f f' : Nat → Nat} {a c : Nat} (h1 : ∀ i, i ≠ a → f' i = f i) (h2 : f' a + c = f a) : ∀ n, a < n → sumN f' n + c = sumN f n
  | 0, h => absurd h (Nat.not_lt_zero _)
  | n + 1, h => by
    show sumN f' n + f' n + c = sumN f n + f n
    by_cases hn : n = a
    · subst hn
      rw [sumN_cg n (fun i hi => h1 i (by omega))]; omega
    · have := sumN_up h1 h2 n (by omega)
      rw [h1 n hn]; omega
theorem pot_s {tb : List TT} {n a : Nat} {T : Nat → Bool} (ha : a < n) (hT : T a = false) : pot tb n (fun j => T j || decide (j = a)) + (2 + tl tb a) = pot tb n T := by
  refine sumN_up (fun i hi => ?_) ?_ n ha
  · simp [hi]
  · simp [hT]
section
variable {B : Nat} {h h' : AH} {κ κ' : Nat → Nat} {r im ua d oc lc ob lb lt lg lk b : Nat} {m : Nat → Nat} {n t : Nat} {es : List Nat} {c : Nat} {S : Nat → Prop}
theorem c_an69 {N a dq : Nat} (hN : N ≤ 1900) (ha : a < 256) {K : AH → RS} : ∀ (k f i : Nat) (h : AH) (κ : Nat → Nat) (cap : Nat) (ys ws : List Nat), i + k = (dS m n es).2.2.2.2.length → k < f → GH B h → RX (fc 0 κ h) r im ua d oc lc ob lb lt lg lk b m n es t → QD 27 κ h dq cap ys → BXS (fc 0 κ h) ys ws → ys.length + (nxT m ((dS m n es).2.2.2.2.drop i) a).length ≤ N → cap ≤ 2 * N + 17 → (nxT m ((dS m n es).2.2.2.2.drop i) a).length ≤ hcl h → 16 * N + 148 ≤ hsl h + 4 * cap →
    ∃ h' κ' cap' ys', f_X5_addNext_L69 K f (some r) (nI a) (some dq) (nI i) h = K h' ∧ QD 27 κ' h' dq cap' ys' ∧ BXS (fc 0 κ' h') ys' (ws ++ nxT m ((dS m n es).2.2.2.2.drop i) a) ∧ cap' ≤ 2 * N + 17 ∧ KC (fun k => k = 27) κ h κ' h' ∧ GH B h' ∧ hcl h ≤ hcl h' + (nxT m ((dS m n es).2.2.2.2.drop i) a).length ∧ hsl h + 4 * cap ≤ hsl h' + 4 * cap' ∧ (∀ q, κ' q = κ q ∨ κ' q = 27) := by
  intro k
  induction k with
  | zero =>
    intro f i h κ cap ys ws h1 h2 g R Q bq hl hcap hc hs
    obtain ⟨f, rfl⟩ : ∃ f', f = f' + 1 := ⟨f - 1, by omega⟩
    obtain ⟨ar, cp, yt, A, b1, b2⟩ := R.2.2.2.2.2.2.1
    have Ah := A.ext (fc_ext g)
    have hn := R.2.1.n96
    have sg := (dS_g R.2.1.byt R.2.1.n96 R.2.1.eln R.2.1.e4).1
    have hc2 := c2_le (n := n) (u := (dS m n es).1)
    obtain ⟨_, _, _, _, _, _, _, _, _, g10, g11⟩ := sg
    unfold f_X5_addNext_L69
    rw [gA_v (o := some lt) (rdo (fc_e R.1).2) rfl, Ah.rc, p_lsize Ah, cI_rt, if_pos (nI_le (by omega) (by omega))]
    rw [List.drop_of_length_le (by omega)] at *
    exact ⟨h, κ, cap, ys, rfl, Q, by rw [show nxT m [] a = [] from rfl, List.append_nil]; exact bq, hcap, KC.rf, g, by omega, by omega, fun _ => Or.inl rfl⟩
  | succ k ih =>
    intro f i h κ cap ys ws h1 h2 g R Q bq hl hcap hc hs
    obtain ⟨f, rfl⟩ : ∃ f', f = f' + 1 := ⟨f - 1, by omega⟩
    obtain ⟨ar, cp, yt, A, b1, b2⟩ := R.2.2.2.2.2.2.1
    have Ah := A.ext (fc_ext g)
    have hn := R.2.1.n96
    have sg := (dS_g R.2.1.byt R.2.1.n96 R.2.1.eln R.2.1.e4).1
    have hc2 := c2_le (n := n) (u := (dS m n es).1)
    obtain ⟨_, _, _, _, _, _, _, _, _, g10, g11⟩ := sg
    have hi : i < (dS m n es).2.2.2.2.length := by omega
    have he : (dS m n es).2.2.2.2.getD i T0 = (dS m n es).2.2.2.2[i] := by rw [List.getD_eq_getElem?_getD, List.getElem?_eq_getElem hi]; rfl
    have hTg := g10 _ (List.getElem_mem hi)
    obtain ⟨on, le, ar2, cp2, ye, t1, t2, t3⟩ := b2 i hi
    rw [he] at t1 t3
    have t1h : rd h (yt.getD i 0) = _ := (fc_ext g).2.1 _ _ t1
    have hrh := rdo (fc_e R.1).2
    rw [List.drop_eq_getElem_cons hi] at hl hc ⊢
    have h3 := t3.1
    rw [List.length_map] at h3
    unfold f_X5_addNext_L69 f_X5_addNext_J116
    rw [gA_v (o := some lt) hrh rfl, Ah.rc, p_lsize Ah, cI_rt, if_neg (fun z => by have := (nI_leI (by omega) (by omega)).mp z; omega), gA_v (o := some lt) hrh rfl, Ah.rc, p_lget Ah (by omega), cA_rt, ck_v t1h (by decide), gI_v t1h rfl, nI_1]
    by_cases hTa : (dS m n es).2.2.2.2[i].1 = a
    · have hnx : nxT m ((dS m n es).2.2.2.2[i] :: (dS m n es).2.2.2.2.drop (i + 1)) a = (dS m n es).2.2.2.2[i].2.2.2.map m ++ nxT m ((dS m n es).2.2.2.2.drop (i + 1)) a := by
        conv => lhs; unfold nxT
        rw [if_pos hTa]
      rw [hnx] at hl hc ⊢
      rw [List.length_append, List.length_map] at hl hc ⊢
      rw [if_neg (fun z => z (by rw [hTa])), gA_v (o := some lt) hrh rfl, Ah.rc, p_lget Ah (by omega), cA_rt, ck_v t1h (by decide), gA_v (o := some le) t1h rfl]
      obtain ⟨h2', κ2, cap2, ys2, e1, e2, e3, e4, e5, e6, e7, e8, e9⟩ := c_addAll (B := B) (d := dq) (c := 27) (N := N) (by decide) hN (K := fun h11 => rtV h11) ye.length FUEL 0 h κ cap ys ws (Nat.zero_add _) (by unfold FUEL; omega) g t2 t3 Q bq (by omega) hcap (by omega) hs
      rw [show f_X1_addAll (some le) (some dq) h = _ from e1, cV_rt]
      rw [List.drop_zero] at e3
      have hl2 : ys2.length = ys.length + ye.length := by
        have := e3.1
        have := bq.1
        rw [e3.1, List.length_append, ← t3.1]; omega
      obtain ⟨h3', κ3, cap3, ys3, w1, w2, w3, w4, w5, w6, w7, w8, w9⟩ := ih f (i + 1) h2' κ2 cap2 ys2 (ws ++ (dS m n es).2.2.2.2[i].2.2.2.map m) (by omega) (by omega) e6 (R.ext (e5.ext g e6 (c := 0) (by decide))) e2 e3 (by omega) e4 (by omega) (by omega)
      rw [List.append_assoc] at w3
      exact ⟨h3', κ3, cap3, ys3, w1, w2, w3, w4, e5.tr w5, w6, by omega, by omega, fun q => by rcases w9 q with z | z <;> rcases e9 q with y | y <;> omega⟩
    · have hnx : nxT m ((dS m n es).2.2.2.2[i] :: (dS m n es).2.2.2.2.drop (i + 1)) a = nxT m ((dS m n es).2.2.2.2.drop (i + 1)) a := by
        conv => lhs; unfold nxT
        rw [if_neg hTa, List.nil_append]
      rw [hnx] at hl hc ⊢
      rw [if_pos (n_y (by omega) (by omega) hTa)]
      exact ih f (i + 1) h κ cap ys ws (by omega) (by omega) g R Q bq hl hcap hc hs
/-- one more in the queue -/
theorem c_push (g : GH B h) (R : RX (fc 0 κ h) r im ua d oc lc ob lb lt lg lk b m n es t) {dq cap N v : Nat} {ys ws : List Nat} (Q : QD 27 κ h dq cap ys) (bq : BXS (fc 0 κ h) ys ws) (hv : v ≤ 1000) (hl : ys.length + 1 ≤ N) (hN : N ≤ 1900) (hcap : cap ≤ 2 * N + 17) (hc : 2 ≤ hcl h) (hs : 16 * N + 149 ≤ hsl h + 4 * cap) {X : AH → RS} :
    ∃ h' κ' cap' ys', xcA (f_J9_valueOf (nI v) h) (fun v47 h46 => xrc h46 (some dq) 12 (xcV (f_J19_addLast (some dq) v47 h46) X)) = X h' ∧ RX (fc 0 κ' h') r im ua d oc lc ob lb lt lg lk b m n es t ∧ QD 27 κ' h' dq cap' ys' ∧ BXS (fc 0 κ' h') ys' (ws ++ [v]) ∧ cap' ≤ 2 * N + 17 ∧ KC (fun k => k = 27) κ h κ' h' ∧ GH B h' ∧ hcl h ≤ hcl h' + 2 ∧ hsl h + 4 * cap ≤ hsl h' + 4 * cap' + 1 ∧ (∀ q, κ' q = κ q ∨ κ' q = 27 ∨ κ' q = 0) := by
  obtain ⟨y, h1, κ1, e1, e2, e3, e4, e5, e6, e7⟩ := c_box g hv (by omega) (by omega) κ
  have x0 := e3.ext g e4 (c := 0) (fun z => z)
  have Q1 := Q.ext (e3.ext g e4 (c := 27) (fun z => z))
  have bq1 := bq.ext x0
  obtain ⟨h2, κ2, cap2, f1, f2, f3, f4, f5, f6, f7, f8⟩ := c_qadd e4 Q1 (y := y) (N := N) (BX.el (e2.ext (fc_ext e4))) (bq1.ext (fc_ext e4)).el (by omega) hcap hN (by omega) (by omega)
  obtain ⟨arq, hdq, q1⟩ := id Q1
  rw [e1, cA_rt, (q1.ext (fc_ext e4)).rc, f1, cV_rt]
  have x2 := f4.ext e4 f5 (c := 0) (by decide)
  exact ⟨h2, κ2, cap2, ys ++ [y], rfl, (R.ext x0).ext x2, f2, (bq1.ext x2).ap (e2.ext x2) hv, f3, (e3.w (fun k z => z.elim)).tr f4, f5, by omega, by omega, fun q => by rcases f8 q with z | z <;> rcases e7 q with y | y <;> omega⟩
end
