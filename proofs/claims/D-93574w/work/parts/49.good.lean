/-! PURE: the state's law is kept -/
set_option maxRecDepth 100000
def UG (m : Nat → Nat) (n : Nat) (u : Nat → Nat) : Prop := (∀ a, n ≤ a → u a = 0) ∧ (∀ a, u a ≤ 3) ∧ (∀ a, u a = 1 → zv m n a = true ∧ (zl m a = 2 → u (a + 1) = 2)) ∧ (∀ a, u a = 2 → 1 ≤ a ∧ u (a - 1) = 1 ∧ zl m (a - 1) = 2)
theorem SG.ug {m : Nat → Nat} {n : Nat} {S : ST} (g : SG m n S) : UG m n S.1 := ⟨g.1, g.2.1, g.2.2.1, g.2.2.2.1⟩
theorem mk1_g {m u : Nat → Nat} {n a : Nat} (g : UG m n u) (hv : zv m n a = true) (h0 : u a = 0) (h1 : u (a + zl m a - 1) = 0) : UG m n (mk1 m u a) := by
  obtain ⟨g1, g2, g3, g4⟩ := g
  obtain ⟨v1, v2, v3, v4⟩ := zv_f hv
  have hl := zl_12 m a
  have h1' : zl m a = 2 → u (a + 1) = 0 := fun z => by rw [z] at h1; exact h1
  refine ⟨fun q hq => ?_, fun q => ?_, fun q hq => ?_, fun q hq => ?_⟩
  · unfold mk1
    rw [if_neg (by omega), if_neg (by omega)]
    exact g1 q hq
  · unfold mk1
    split
    · omega
    · split
      · omega
      · exact g2 q
  · unfold mk1 at hq ⊢
    by_cases hqa : q = a
    · subst hqa
      refine ⟨hv, fun z => ?_⟩
      rw [if_neg (by omega), if_pos ⟨rfl, z⟩]
    · rw [if_neg hqa] at hq
      by_cases hq2 : q = a + 1 ∧ zl m a = 2
      · rw [if_pos hq2] at hq; omega
      · rw [if_neg hq2] at hq
        obtain ⟨w1, w2⟩ := g3 q hq
        refine ⟨w1, fun z => ?_⟩
        have w3 := w2 z
        rw [if_neg (fun z2 => by rw [z2, h0] at w3; omega), if_neg (fun z2 => hqa (by omega))]
        exact w3
  · unfold mk1 at hq ⊢
    by_cases hqa : q = a
    · rw [if_pos hqa] at hq; omega
    · rw [if_neg hqa] at hq
      by_cases hq2 : q = a + 1 ∧ zl m a = 2
      · obtain ⟨rfl, z⟩ := hq2
        refine ⟨by omega, ?_, by simpa using z⟩
        rw [if_pos (by omega)]
      · rw [if_neg hq2] at hq
        obtain ⟨w1, w2, w3⟩ := g4 q hq
        refine ⟨w1, ?_, w3⟩
        by_cases hz : q - 1 = a
        · rw [if_pos hz]
        · rw [if_neg hz, if_neg (fun z2 => ?_)]
          · exact w2
          · have := h1' z2.2
            rw [z2.1, this] at w2
            omega
theorem mkP_g {m u : Nat → Nat} {n : Nat} {ps : List Nat} (g : UG m n u) (hp : ∀ p ∈ ps, fit n u p = true) : UG m n (mkP u ps) := by
  obtain ⟨g1, g2, g3, g4⟩ := g
  have hp' : ∀ p ∈ ps, p < n ∧ u p ≠ 1 ∧ u p ≠ 2 := fun p hq => of_decide_eq_true (hp p hq)
  refine ⟨fun q hq => ?_, fun q => ?_, fun q hq => ?_, fun q hq => ?_⟩
  · unfold mkP
    rw [if_neg (fun z => by have := hp' q z; omega)]
    exact g1 q hq
  · unfold mkP
    split
    · omega
    · exact g2 q
  · unfold mkP at hq ⊢
    split at hq
    · omega
    · obtain ⟨w1, w2⟩ := g3 q hq
      refine ⟨w1, fun z => ?_⟩
      have w3 := w2 z
      rw [if_neg (fun z2 => (hp' _ z2).2.2 w3)]
      exact w3
  · unfold mkP at hq ⊢
    split at hq
    · omega
    · obtain ⟨w1, w2, w3⟩ := g4 q hq
      refine ⟨w1, ?_, w3⟩
      rw [if_neg (fun z2 => (hp' _ z2).2.1 w2)]
      exact w2
theorem zq_lt {m : Nat → Nat} {n a : Nat} (hv : zv m n a = true) (ht : zt m a = true) : zq m a < n ∧ (zq m a : Int) = zg m a := by
  obtain ⟨v1, v2, v3, v4⟩ := zv_f hv
  have := v4 ht
  unfold zq
  omega
theorem bn_b {m u : Nat → Nat} {a b : Nat} (h : (bn m u a).map (fun p => min p.1 16) = some b) : b ≤ 16 := by
  cases hb : bn m u a with
  | none => rw [hb] at h; simp at h
  | some x => rw [hb] at h; simp at h; omega
theorem acc_g {m : Nat → Nat} {n a : Nat} {S : ST} (hm : ∀ i, i < n → m i < 256) (hn : n ≤ 96) (g : SG m n S) (hv : zv m n a = true) (h1 : tk (S.1 a) = false) (h2 : tk (S.1 (a + zl m a - 1)) = false) :
    SG m n (acc m n S a) ∧ c0 n (acc m n S a).1 + zl m a ≤ c0 n S.1 ∧ c2 n (acc m n S a).1 = c2 n S.1 + zl m a ∧ ∃ w, (acc m n S a).2.1 = S.2.1 ++ w ∧ w.length ≤ 16 * (zl m a - 1) := by
  have ug := g.ug
  obtain ⟨g1, g2, g3, g4, g5, g6, g7, g8, g9, g10, g11⟩ := g
  obtain ⟨v1, v2, v3, v4⟩ := zv_f hv
  have e0 := tk_f h1 (g2 _)
  have e1 := tk_f h2 (g2 _)
  have ug1 := mk1_g ug hv e0 e1
  obtain ⟨k1, k2⟩ := mk1_c hv e0 e1
  have hl := zl_12 m a
  by_cases h9 : zk m a = 9
  · obtain ⟨l2, t9, _⟩ := zk9 h9
    obtain ⟨p1, p2⟩ := plc_p (m := m) (n := n) (u := mk1 m S.1 a) (zo m a) (bn m S.1 a)
    have ug2 := mkP_g ug1 p2
    obtain ⟨q1, q2⟩ := mkP_c p2
    have hw : wl1 m S.2.1 a = S.2.1 := by unfold wl1; rw [t9]; rfl
    have ea : acc m n S a = (mkP (mk1 m S.1 a) (pl m n S.1 a), S.2.1 ++ (pl m n S.1 a).map m, S.2.2.1, S.2.2.2.1, S.2.2.2.2 ++ [(a, zo m a, (bn m S.1 a).map (fun p => min p.1 16), pl m n S.1 a)]) := by
      unfold acc; rw [if_pos h9, hw]
    rw [ea]
    have hpn : ∀ p ∈ pl m n S.1 a, p < n := fun p hp => (of_decide_eq_true (p2 p hp)).1
    refine ⟨⟨ug2.1, ug2.2.1, ug2.2.2.1, ug2.2.2.2, fun x hx => ?_, g6, g7, g8, g9, fun T hT => ?_, ?_⟩, ?_, ?_, (pl m n S.1 a).map m, rfl, ?_⟩
    · rcases List.mem_append.mp hx with hx | hx
      · exact g5 x hx
      · obtain ⟨p, hp, rfl⟩ := List.mem_map.mp hx
        exact hm p (hpn p hp)
    · rcases List.mem_append.mp hT with hT | hT
      · exact g10 T hT
      · rw [List.mem_singleton.mp hT]
        exact ⟨v1, hm (a + 1) (by omega), fun b hb => bn_b hb, p1, hpn⟩
    · show 2 * (S.2.2.2.2 ++ [_]).length ≤ c2 n (mkP (mk1 m S.1 a) (pl m n S.1 a))
      have : c2 n (mkP (mk1 m S.1 a) (pl m n S.1 a)) = c2 n (mk1 m S.1 a) := q2
      rw [this, k2, List.length_append, List.length_singleton]
      omega
    · have : c0 n (mkP (mk1 m S.1 a) (pl m n S.1 a)) ≤ c0 n (mk1 m S.1 a) := q1
      show c0 n (mkP (mk1 m S.1 a) (pl m n S.1 a)) + zl m a ≤ _
      omega
    · have : c2 n (mkP (mk1 m S.1 a) (pl m n S.1 a)) = c2 n (mk1 m S.1 a) := q2
      show c2 n (mkP (mk1 m S.1 a) (pl m n S.1 a)) = _
      omega
    · rw [List.length_map]
      have : (pl m n S.1 a).length ≤ 16 := p1
      omega
  · have ea : acc m n S a = (mk1 m S.1 a, wl1 m S.2.1 a, S.2.2) := by unfold acc; rw [if_neg h9]
    rw [ea]
    refine ⟨⟨ug1.1, ug1.2.1, ug1.2.2.1, ug1.2.2.2, fun x hx => ?_, g6, g7, g8, g9, g10, ?_⟩, ?_, k2, ?_⟩
    · have hx : x ∈ wl1 m S.2.1 a := hx
      unfold wl1 at hx
      split at hx
      · rename_i ht
        rcases List.mem_append.mp hx with hx | hx
        · exact g5 x hx
        · rw [List.mem_singleton.mp hx]
          have := (zq_lt hv ht).1
          omega
      · exact g5 x hx
    · show 2 * S.2.2.2.2.length ≤ c2 n (mk1 m S.1 a)
      omega
    · show c0 n (mk1 m S.1 a) + _ ≤ _
      omega
    · show ∃ w, wl1 m S.2.1 a = S.2.1 ++ w ∧ _
      unfold wl1
      by_cases ht : zt m a = true
      · rw [if_pos ht]
        have := zt_l ht
        exact ⟨[zq m a], rfl, by simp; omega⟩
      · rw [if_neg ht]
        exact ⟨[], by simp, by simp⟩
/-- what one step keeps -/
theorem fol_g {m : Nat → Nat} {n a : Nat} {S S' : ST} {r : Option Nat} (hm : ∀ i, i < n → m i < 256) (hn : n ≤ 96) (g : SG m n S) (ha : a < 256) (e : fol m n S a = (S', r)) :
    SG m n S' ∧ c0 n S'.1 ≤ c0 n S.1 ∧ c2 n S.1 ≤ c2 n S'.1 ∧ (∃ w, S'.2.1 = S.2.1 ++ w ∧ w.length + 8 * c2 n S.1 ≤ 8 * c2 n S'.1) ∧ ∀ b, r = some b → b < 256 ∧ c0 n S'.1 + 1 ≤ c0 n S.1 := by
  unfold fol at e
  by_cases e1 : S.1 a = 1
  · rw [if_pos e1] at e
    cases e
    exact ⟨g, Nat.le_refl _, Nat.le_refl _, ⟨[], by simp, by simp⟩, fun b hb => by cases hb⟩
  · rw [if_neg e1] at e
    by_cases e2 : zv m n a = false
    · rw [if_pos e2] at e
      cases e
      obtain ⟨g1, g2, g3, g4, g5, g6, g7, g8, g9, g10, g11⟩ := g
      refine ⟨⟨g1, g2, g3, g4, g5, g6, g7, fun x hx => ?_, ins_nd g9, g10, g11⟩, Nat.le_refl _, Nat.le_refl _, ⟨[], by simp, by simp⟩, fun b hb => by cases hb⟩
      rcases ins_mem.mp hx with hx | hx
      · exact g8 x hx
      · omega
    · rw [if_neg e2] at e
      have hv : zv m n a = true := by simpa using e2
      by_cases e3 : (tk (S.1 a) || tk (S.1 (a + zl m a - 1))) = true
      · rw [if_pos e3] at e
        cases e
        obtain ⟨g1, g2, g3, g4, g5, g6, g7, g8, g9, g10, g11⟩ := g
        refine ⟨⟨g1, g2, g3, g4, g5, fun x hx => ?_, ins_nd g7, g8, g9, g10, g11⟩, Nat.le_refl _, Nat.le_refl _, ⟨[], by simp, by simp⟩, fun b hb => by cases hb⟩
        rcases ins_mem.mp hx with hx | hx
        · exact g6 x hx
        · have := (zv_f hv).1; omega
      · rw [if_neg e3] at e
        have e3 : (tk (S.1 a) || tk (S.1 (a + zl m a - 1))) = false := by simpa using e3
        rw [Bool.or_eq_false_iff] at e3
        obtain ⟨q1, q2, q3, w, q4, q5⟩ := acc_g hm hn g hv e3.1 e3.2
        have hl := zl_12 m a
        cases e
        refine ⟨q1, by omega, by omega, ⟨w, q4, by omega⟩, fun b hb => ?_⟩
        split at hb
        · cases hb
        · cases hb
          have := (zv_f hv).2.2.1
          exact ⟨by omega, by omega⟩
theorem folL_g {m : Nat → Nat} {n : Nat} (hm : ∀ i, i < n → m i < 256) (hn : n ≤ 96) : ∀ (k : Nat) (S : ST) (a : Nat), SG m n S → a < 256 →
    SG m n (folL m n k S a) ∧ c0 n (folL m n k S a).1 ≤ c0 n S.1 ∧ c2 n S.1 ≤ c2 n (folL m n k S a).1 ∧ ∃ w, (folL m n k S a).2.1 = S.2.1 ++ w ∧ w.length + 8 * c2 n S.1 ≤ 8 * c2 n (folL m n k S a).1
  | 0, S, a, g, ha => ⟨g, Nat.le_refl _, Nat.le_refl _, [], by simp [folL], by simp [folL]⟩
  | k + 1, S, a, g, ha => by
    unfold folL
    cases e : fol m n S a with
    | mk S' r =>
      obtain ⟨q1, q2, q3, ⟨w, q4, q5⟩, q6⟩ := fol_g hm hn g ha e
      cases r with
      | none => exact ⟨q1, q2, q3, w, q4, q5⟩
      | some b =>
        obtain ⟨r1, r2, r3, w', r4, r5⟩ := folL_g hm hn k S' b q1 (q6 b rfl).1
        exact ⟨r1, by simp only; omega, by simp only; omega, w ++ w', by simp only; rw [r4, q4, List.append_assoc], by simp only [List.length_append]; omega⟩
