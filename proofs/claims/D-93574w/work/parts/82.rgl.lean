/-! PURE: a recovery looks at all its gaps -/
set_option maxRecDepth 100000
section
variable {B : Nat} {h h' : AH} {κ κ' : Nat → Nat} {r im ua d oc lc ob lb lt lg lk b : Nat} {m u w : Nat → Nat} {n t : Nat} {es : List Nat} {c : Nat} {S : Nat → Prop}
theorem nd_ne {ys : List Nat} (hn : ys.Nodup) {i j : Nat} (hi : i < ys.length) (hj : j < ys.length) (hij : i ≠ j) : ys.getD i 0 ≠ ys.getD j 0 := by
  rw [List.getD_eq_getElem?_getD, List.getD_eq_getElem?_getD, List.getElem?_eq_getElem hi, List.getElem?_eq_getElem hj]
  simp only [Option.getD_some]
  exact fun z => hij ((List.getElem_inj hn).mp z)
theorem c_gL {gl : List (Nat × Nat)} {cap : Nat} {yg : List Nat} (hgl : gl.length ≤ 96) (hgp : ∀ g ∈ gl, g.1 < g.2 ∧ g.2 ≤ n ∧ ∀ q, g.1 ≤ q → q < g.2 → u q = 0) (htt : 1 ≤ t ∧ t ≤ 30) {K : Option Nat → AH → RS} : ∀ (rs : List (Nat × Nat)) (f : Nat) (pre : List (Nat × Nat)) (h : AH) (κ : Nat → Nat), rs.length < f → pre ++ rs = gl → rs.Pairwise (fun g g' => g.2 < g'.1) → (∀ g ∈ rs, AB m (csp m n u t pre) g.1) → GH B h → RB κ h r im ua d oc ob lt lg lk b m n es t u (wU m u (csp m n u t pre)) → LA 16 κ h lg cap yg → GS κ h m n u pre.length yg gl → (∀ q, κ q ≠ 22) → 12 * rs.length ≤ hcl h → 40 * rs.length ≤ hsl h →
    ∃ h' κ', f_X5_init_L175 K f (some r) (nI pre.length) h = K (some r) h' ∧ RB κ' h' r im ua d oc ob lt lg lk b m n es t u (wU m u (csp m n u t gl)) ∧ GS κ' h' m n u gl.length yg gl ∧ KC (fun k => k = 11 ∨ k = 21) κ h κ' h' ∧ GH B h' ∧ hcl h ≤ hcl h' + 12 * rs.length ∧ hsl h ≤ hsl h' + 40 * rs.length ∧ (∀ q, κ' q ≠ 22) := by
  intro rs
  induction rs with
  | nil =>
    intro f pre h κ h1 h2 _ _ g R L G hno hc hs
    obtain ⟨f, rfl⟩ : ∃ f', f = f' + 1 := ⟨f - 1, by omega⟩
    rw [List.append_nil] at h2
    subst h2
    have hrh := rdo (fc_e R.1).2
    obtain ⟨arr, A⟩ := L.al g
    have hyl := G.1
    unfold f_X5_init_L175
    rw [gA_v (o := some lg) hrh rfl, A.rc, p_lsize A, cI_rt, if_pos (nI_le (by omega) (by omega))]
    exact ⟨h, κ, rfl, R, G, KC.rf, g, by omega, by omega, hno⟩
  | cons gg rs ih =>
    intro f pre h κ h1 h2 hpw hab g R L G hno hc hs
    rw [List.length_cons] at h1 hc hs
    have hn := R.2.1.n96
    obtain ⟨f, rfl⟩ : ∃ f', f = f' + 1 := ⟨f - 1, by omega⟩
    have hlen : pre.length + (rs.length + 1) = gl.length := by rw [← h2, List.length_append, List.length_cons]
    have hg : gl.getD pre.length (0, 0) = gg := by
      rw [← h2, List.getD_eq_getElem?_getD, List.getElem?_append_right (Nat.le_refl _)]; simp
    have hgm : gg ∈ gl := by rw [← h2]; simp
    obtain ⟨gp1, gp2, gp3⟩ := hgp gg hgm
    have hyl := G.1
    have hrh := rdo (fc_e R.1).2
    obtain ⟨arr, A⟩ := L.al g
    have P := G.2.2 pre.length (by omega)
    rw [if_neg (by omega), if_neg (by omega), hg] at P
    have hyh := rdo (fc_e P).2
    unfold f_X5_init_L175
    rw [gA_v (o := some lg) hrh rfl, A.rc, p_lsize A, cI_rt, if_neg (fun z => by have := (nI_leI (by omega) (by omega)).mp z; omega), gA_v (o := some lg) hrh rfl, A.rc, p_lget A (by omega), cA_rt, ck_v hyh (by decide), rc_v hrh]
    obtain ⟨h1', κ1, e1, e2, e3, e4, e5, e6, e7, e8, e9, e10⟩ := c_test g R gp1 gp2 P hno (by omega) (by omega)
    have ky := (fc_e P).1
    have k1 : KC (fun k => k = 11 ∨ k = 21) κ h κ1 h1' := ⟨fun a ha hS => e3 a ha (fun z => hS (Or.inr (by rw [z]; exact ky))), e4, e5, e6⟩
    have R1 : RB κ1 h1' r im ua d oc ob lt lg lk b m n es t u (wU m u (csp m n u t pre)) := by
      have k2 : KC (fun k => k = 21) κ h κ1 h1' := ⟨fun a ha hS => e3 a ha (fun z => hS (by rw [z]; exact ky)), e4, e5, e6⟩
      exact R.kc g e7 k2 (by omega) (by omega) (by omega)
    have hrh1 := rdo (fc_e R1.1).2
    have L1 := L.ext (k1.ext g e7 (c := 16) (by omega))
    obtain ⟨arr1, A1⟩ := L1.al e7
    have hyh1 := rdo (fc_e e2).2
    rw [e1, cV_rt, gA_v (o := some lg) hrh1 rfl, A1.rc, p_lget A1 (by omega), cA_rt, ck_v hyh1 (by decide), rc_v hrh1]
    obtain ⟨h2', f1, f2, f3, f4, f5, f6, f7⟩ := c_spc gp2 gp3 htt e7 R1 e2 (hab gg (List.mem_cons_self ..))
    rw [f1, cV_rt, nI_1]
    have R2 := R1.mk e7 f4 f3 f2
    rw [← csp_ap] at R2
    have L2 := L1.ext (f3.ext e7 f4 (c := 16) (by omega))
    have hl1 : pre.length + 1 = (pre ++ [gg]).length := by rw [List.length_append, List.length_singleton]
    have G2 : GS κ1 h2' m n u (pre ++ [gg]).length yg gl := by
      refine ⟨hyl, G.2.1, fun i hi => ?_⟩
      have x21 := f3.ext e7 f4 (c := 21) (by omega)
      refine x21.1 _ _ ?_
      rw [← hl1]
      by_cases hip : i = pre.length
      · subst hip
        rw [if_pos (by omega), if_pos (by omega), hg]
        exact e2
      · have hi' := G.2.2 i hi
        obtain ⟨w1, w2⟩ := fc_e hi'
        have hlt := (g.fresh w2).1
        have q : ∀ x : Nat, (if i < pre.length + 1 then x else 0) = if i < pre.length then x else 0 := fun x => by
          by_cases z : i < pre.length
          · rw [if_pos (by omega), if_pos z]
          · rw [if_neg (by omega), if_neg z]
        rw [q, q]
        exact fc_i (by rw [e6 _ hlt]; exact w1) (by rw [e3 _ hlt (nd_ne G.2.1 (by omega) (by omega) hip)]; exact w2)
    have hpw' := List.pairwise_cons.mp hpw
    have hab2 : AB m (csp m n u t (pre ++ [gg])) gg.2 := fun c hc => by
      rw [csp_ap] at hc
      rcases List.mem_append.mp hc with hc | hc
      · have := hab gg (List.mem_cons_self ..) c hc; omega
      · rcases chn_p (m := m) (n := n) (u := u) htt.1 gg with ⟨c1, c2⟩ | ⟨c1, c2, c3⟩
        · rw [c2] at hc; simp at hc
        · exact ((ch_p _ _ _ c2).2.1 c hc).2.2
    have h2' : (pre ++ [gg]) ++ rs = gl := by rw [List.append_assoc]; exact h2
    obtain ⟨h3, κ3, d1, d2, d3, d4, d5, d6, d7, d8⟩ := ih f (pre ++ [gg]) _ κ1 (by omega) h2' hpw'.2 (fun g' hg' => hab2.w (Nat.le_of_lt (hpw'.1 g' hg'))) f4 R2 L2 G2 e10 (by omega) (by omega)
    rw [hl1]
    refine ⟨h3, κ3, d1, d2, d3, (k1.tr (f3.w (fun k z => Or.inl z))).tr d4, d5, ?_, ?_, d8⟩
    · rw [List.length_cons]; omega
    · rw [List.length_cons]; omega
end
