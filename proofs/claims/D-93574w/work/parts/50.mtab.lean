/-! PURE: the model's descent, 1: frames, ahead, bounds -/
set_option maxRecDepth 100000
/-- what is left alone -/
def Un (li la : List Nat) (I : Nat → Int32) (A : Nat → Nat → Int32) (I' : Nat → Int32) (A' : Nat → Nat → Int32) : Prop := (∀ k, k ∉ li → I' k = I k) ∧ (∀ k, k ∉ la → A' k = A k)
section
variable {li la : List Nat} {I I' I2 : Nat → Int32} {A A' A2 : Nat → Nat → Int32} {m : Nat → Nat} {n : Nat} {es : List Nat} {t : Nat} {h : AH} {mo : Nat}
theorem Un.rf : Un li la I A I A := ⟨fun _ _ => rfl, fun _ _ => rfl⟩
theorem Un.tr (u1 : Un li la I A I' A') (u2 : Un li la I' A' I2 A2) : Un li la I A I2 A2 := ⟨fun k hk => by rw [u2.1 k hk, u1.1 k hk], fun k hk => by rw [u2.2 k hk, u1.2 k hk]⟩
theorem Un.uI {k : Nat} {v : Int32} (hk : k ∈ li) : Un li la I A (upd I k v) A := ⟨fun j hj => by unfold upd; rw [if_neg (fun z : j = k => hj (z ▸ hk))], fun _ _ => rfl⟩
theorem Un.uA {k : Nat} {f : Nat → Int32} (hk : k ∈ la) : Un li la I A I (upA A k f) := ⟨fun _ _ => rfl, fun j hj => by unfold upA; rw [if_neg (fun z : j = k => hj (z ▸ hk))]⟩
theorem Un.w {li' la' : List Nat} (u : Un li la I A I' A') (h1 : ∀ k ∈ li, k ∈ li') (h2 : ∀ k ∈ la, k ∈ la') : Un li' la' I A I' A' := ⟨fun k hk => u.1 k (fun z => hk (h1 k z)), fun k hk => u.2 k (fun z => hk (h2 k z))⟩
theorem MI.un (M : MI I A m n es t) (u : Un li la I A I' A') (h5 : 5 ∉ li) (h6 : 6 ∉ li) (h7 : 7 ∉ li) (h1 : 1 ∉ la) (h3 : 3 ∉ la) : MI I' A' m n es t := M.cg (u.1 5 h5) (u.1 6 h6) (u.1 7 h7) (u.2 1 h1) (u.2 3 h3)
theorem upd_s {f : Nat → Int32} {k : Nat} {v : Int32} : upd f k v k = v := by simp [upd]
theorem upd_n {f : Nat → Int32} {k j : Nat} {v : Int32} (h : j ≠ k) : upd f k v j = f j := by simp [upd, h]
theorem upA_s {k : Nat} {f : Nat → Int32} : upA A k f k = f := by simp [upA]
theorem upA_n {k j : Nat} {f : Nat → Int32} (h : j ≠ k) : upA A k f j = A j := by simp [upA, h]
/-- the model's picture of the marks -/
def MU (A : Nat → Nat → Int32) (m u : Nat → Nat) : Prop :=
  (∀ a, a < 96 → A 16 a = nI (if u a = 1 then zl m a else 0)) ∧ (∀ a, a < 96 → A 17 a = if u a = 1 then nI a else if u a = 2 then nI (a - 1) else -1) ∧ (∀ a, a < 96 → A 20 a = bI (decide (u a = 3)))
theorem MU.cg {u : Nat → Nat} (M : MU A m u) (h1 : A' 16 = A 16) (h2 : A' 17 = A 17) (h3 : A' 20 = A 20) : MU A' m u := by
  unfold MU; rw [h1, h2, h3]; exact M
def oI : Option Nat → Int32
  | none => -1
  | some p => nI p
theorem bef_v {u : Nat → Nat} {a p : Nat} (g : UG m n u) (e : bef m u a = some p) : p < a ∧ a ≤ p + 2 ∧ u p = 1 ∧ zv m n p = true := by
  unfold bef at e
  split at e
  · rename_i h1
    cases e
    exact ⟨by omega, by omega, h1.2.1, (g.2.2.1 _ h1.2.1).1⟩
  · split at e
    · rename_i h1
      cases e
      exact ⟨by omega, by omega, h1.2.1, (g.2.2.1 _ h1.2.1).1⟩
    · cases e
theorem m1_lt : ((-1 : Int32) < 0) = True := by decide
theorem q_ahead {u : Nat → Nat} (M : MI I A m n es t) (U : MU A m u) (g : UG m n u) {a : Nat} (ha : a ≤ 96) : f_X3_ahead (some mo) (nI a) (EM h mo I A) = rtI (oI (bef m u a)) (EM h mo I A) := by
  obtain ⟨u1, u2, u3⟩ := U
  obtain ⟨g1, g2, g3, g4⟩ := id g
  unfold f_X3_ahead
  by_cases h0 : a = 0
  · subst h0
    rw [if_pos (show nI 0 ≤ 0 by decide)]
    unfold f_X3_ahead_J16
    rw [if_pos (by decide)]
    rfl
  · rw [if_neg (nI_nle (by omega) (by omega)), m_gA (by decide) (by decide), nI_s1 (by omega), m_lI0 (by decide) (by decide) (by decide) (show a - 1 < 96 by omega), u2 (a - 1) (by omega)]
    unfold f_X3_ahead_J16
    by_cases e1 : u (a - 1) = 1
    · have hn2 : ¬ (2 ≤ a ∧ u (a - 2) = 1 ∧ zl m (a - 2) = 2 ∧ ze m (a - 2) = false) := by
        rintro ⟨x1, x2, x3, x4⟩
        have := (g3 _ x2).2 x3
        rw [show a - 2 + 1 = a - 1 by omega, e1] at this
        omega
      rw [if_pos e1, if_neg (show ¬ nI (a - 1) < 0 from nI_pos (by omega)), m_gA (by decide) (by decide), m_lI0 (by decide) (by decide) (by decide) (show a - 1 < 96 by omega), u1 _ (by omega), if_pos e1, nI_add]
      have hl := zl_12 m (a - 1)
      by_cases e2 : zl m (a - 1) = 1
      · rw [e2, show a - 1 + 1 = a by omega, if_neg (fun z => z rfl), m_rc, q_ends M (by omega), cI_rt]
        unfold bef
        cases hz : ze m (a - 1) with
        | true => rw [n0t, if_neg (by simp), if_neg hn2]; rfl
        | false => rw [n0f, if_pos ⟨by omega, e1, e2, rfl⟩]; rfl
      · rw [if_pos (fun z => by have := (nI_eq (by omega) (by omega)).mp z; omega)]
        unfold bef
        rw [if_neg (fun z => e2 z.2.2.1), if_neg hn2]; rfl
    · rw [if_neg e1]
      by_cases e2 : u (a - 1) = 2
      · obtain ⟨x1, x2, x3⟩ := g4 _ e2
        rw [show a - 1 - 1 = a - 2 by omega] at x2 x3
        rw [if_pos e2, show a - 1 - 1 = a - 2 by omega, if_neg (show ¬ nI (a - 2) < 0 from nI_pos (by omega)), m_gA (by decide) (by decide), m_lI0 (by decide) (by decide) (by decide) (show a - 2 < 96 by omega), u1 _ (by omega), if_pos x2, x3, nI_add, show a - 2 + 2 = a by omega, if_neg (fun z => z rfl), m_rc, q_ends M (by omega), cI_rt]
        have hb : bef m u a = if 2 ≤ a ∧ u (a - 2) = 1 ∧ zl m (a - 2) = 2 ∧ ze m (a - 2) = false then some (a - 2) else none := by
          unfold bef
          rw [if_neg (fun z : 1 ≤ a ∧ u (a - 1) = 1 ∧ zl m (a - 1) = 1 ∧ ze m (a - 1) = false => e1 z.2.1)]
        rw [hb]
        cases hz : ze m (a - 2) with
        | true => rw [n0t, if_neg (by simp)]; rfl
        | false => rw [n0f, if_pos ⟨by omega, x2, x3, rfl⟩]; rfl
      · rw [if_neg e2, if_pos (by decide)]
        unfold bef
        rw [if_neg (fun z => e1 z.2.1), if_neg]
        · rfl
        · rintro ⟨x1, x2, x3, x4⟩
          have := (g3 _ x2).2 x3
          rw [show a - 2 + 1 = a - 1 by omega] at this
          exact e2 this
/-- a bound as the model gives it; what it leaves in only -/
def bV : Option (Nat × Option Nat) → Int32
  | none => -1
  | some (b, _) => nI b
def oV : Option (Nat × Option Nat) → Int32
  | some (_, some o) => nI o
  | _ => -1
theorem upd_id {f : Nat → Int32} {k : Nat} (v : Int32) (h : f k = v) : upd f k v = f := by
  funext j
  unfold upd
  split
  · rename_i z; rw [z, h]
  · rfl
theorem zk_l2 {a : Nat} (h : zk m a = 1 ∨ zk m a = 3 ∨ zk m a = 12) : zl m a = 2 := by
  unfold zl zh
  rcases h with h | h | h <;> simp [h]
theorem q_boundL {u : Nat → Nat} (M : MI I A m n es t) (U : MU A m u) (g : UG m n u) (h43 : I 43 = -1) {r : Nat} (hr : r < 4) :
    ∀ (k c a : Nat), 6 - c < k → c ≤ 6 → a ≤ 96 → f_X3_boundOf_L16 (fun h63 => rtI (-1) h63) k (some mo) (nI r) (nI a) (nI c) (EM h mo I A) = rtI (bV (bnd m u r (6 - c) a)) (EM h mo (upd I 43 (oV (bnd m u r (6 - c) a))) A) := by
  intro k
  have hn := M.n96
  induction k with
  | zero => intro c a h1; omega
  | succ k ih =>
    intro c a h1 h2 h3
    unfold f_X3_boundOf_L16
    by_cases hc : c = 6
    · subst hc
      rw [if_pos (show (6 : Int32) ≤ nI 6 by decide)]
      show _ = rtI (-1) (EM h mo (upd I 43 (-1)) A)
      rw [upd_id _ h43]
    · rw [if_neg (show ¬ (6 : Int32) ≤ nI c from fun z => by have := (nI_leI (a := 6) (by decide) (by omega)).mp z; omega), m_rc, q_ahead M U g h3, cI_rt]
      obtain ⟨j, hj⟩ : ∃ j, 6 - c = j + 1 := ⟨6 - c - 1, by omega⟩
      have hj' : 6 - (c + 1) = j := by omega
      rw [hj]
      unfold bnd
      cases hb : bef m u a with
      | none =>
        rw [show oI none = (-1 : Int32) from rfl]
        rw [if_neg (by decide)]
        show _ = rtI (-1) (EM h mo (upd I 43 (-1)) A)
        rw [upd_id _ h43]
      | some p =>
        obtain ⟨b1, b2, b3, b4⟩ := bef_v g hb
        obtain ⟨v1, v2, v3, v4⟩ := zv_f b4
        have hk := M.k16 (a := p) (by omega)
        have hf : zf m p < 4 := by unfold zf; omega
        have iH := ih (c + 1) p (by omega) (by omega) (by omega)
        rw [hj'] at iH
        have J145 : zk m p ≠ 1 ∨ zf m p ≠ r → zk m p ≠ 12 ∨ zf m p ≠ r → f_X3_boundOf_J145 (f_X3_boundOf_L16 (fun h63 => rtI (-1) h63) k) (fun h63 => rtI (-1) h63) (some mo) (nI r) (nI p) (nI c) (EM h mo I A) = (if zc m p r then rtI (-1) (EM h mo I A) else rtI (bV (bnd m u r j p)) (EM h mo (upd I 43 (oV (bnd m u r j p))) A)) := by
          intro _ _
          unfold f_X3_boundOf_J145
          rw [m_rc, q_sets M (by omega) (by omega), cI_rt, nI_1, iH]
          cases zc m p r with
          | true => rw [b0t]; rfl
          | false => rw [b0f]; rfl
        rw [show oI (some p) = nI p from rfl]
        rw [if_pos (show (0 : Int32) ≤ nI p from nI_le (a := 0) (by omega) (by omega)), m_rc, q_sort M (by omega), cI_rt, q_first M (by omega), cI_rt]
        have hzc : zc m p r = decide ((zk m p = 1 ∨ zk m p = 2 ∨ zk m p = 10 ∨ zk m p = 11 ∨ zk m p = 12) ∧ zf m p = r) := rfl
        have J96 : zk m p ≠ 1 ∨ zf m p ≠ r → zk m p ≠ 12 ∨ zf m p ≠ r → f_X3_boundOf_J96 (f_X3_boundOf_L16 (fun h63 => rtI (-1) h63) k) (fun h63 => rtI (-1) h63) (some mo) (nI r) (nI p) (nI c) (EM h mo I A) = rtI (bV (bnd m u r (j + 1) a)) (EM h mo (upd I 43 (oV (bnd m u r (j + 1) a))) A) := by
          intro n1 n12
          have hbnd : bnd m u r (j + 1) a = (if zk m p = 6 then (match bef m u p with
            | some c => if zk m c = 3 ∧ zf m c = r then some (zo m c, none) else bnd m u r j p
            | none => bnd m u r j p) else if zc m p r then (if zk m p = 1 then some (zo m p + 1, some (zo m p)) else if zk m p = 12 then some (zo m p + 1, none) else none) else bnd m u r j p) := by
            conv => lhs; unfold bnd
            simp only [hb]
            cases bef m u p <;> rfl
          unfold f_X3_boundOf_J96
          rw [m_rc, q_sort M (by omega), cI_rt]
          by_cases h6 : zk m p = 6
          · have hzc0 : zc m p r = false := by rw [hzc, h6]; simp
            rw [if_neg (fun z => z (by rw [h6]; rfl)), m_rc, q_ahead M U g (by omega), cI_rt, J145 n1 n12, hzc0]
            cases hb2 : bef m u p with
            | none =>
              have hx : bnd m u r (j + 1) a = bnd m u r j p := by rw [hbnd, if_pos h6, hb2]
              rw [show oI none = (-1 : Int32) from rfl]
              rw [if_pos (by decide), hx]
              rfl
            | some q =>
              have hx : bnd m u r (j + 1) a = if zk m q = 3 ∧ zf m q = r then some (zo m q, none) else bnd m u r j p := by rw [hbnd, if_pos h6, hb2]
              obtain ⟨c1, c2, c3, c4⟩ := bef_v g hb2
              obtain ⟨w1, w2, w3, w4⟩ := zv_f c4
              have hk2 := M.k16 (a := q) (by omega)
              have hf2 : zf m q < 4 := by unfold zf; omega
              rw [show oI (some q) = nI q from rfl]
              rw [if_neg (show ¬ nI q < 0 from nI_pos (by omega)), m_rc, q_sort M (by omega), cI_rt, hx]
              by_cases k3 : zk m q = 3
              · have hl2 := zk_l2 (m := m) (a := q) (Or.inr (Or.inl k3))
                rw [if_neg (fun z => z (by rw [k3]; rfl)), m_rc, q_first M (by omega), cI_rt]
                by_cases k4 : zf m q = r
                · rw [if_neg (fun z => z (by rw [k4])), m_rc, q_opd M (by omega), cI_rt, if_pos ⟨k3, k4⟩]
                  show _ = rtI (nI (zo m q)) (EM h mo (upd I 43 (-1)) A)
                  rw [upd_id _ h43]
                · rw [if_pos (fun z => k4 ((nI_eq (by omega) (by omega)).mp z)), if_neg (fun z : zk m q = 3 ∧ zf m q = r => k4 z.2), J145 n1 n12, hzc0]
                  rfl
              · rw [if_pos (show ¬ nI (zk m q) = 3 from fun z => k3 ((nI_eq (b := 3) (by omega) (by decide)).mp z)), if_neg (fun z : zk m q = 3 ∧ zf m q = r => k3 z.1), J145 n1 n12, hzc0]
                rfl
          · rw [hbnd, if_neg h6, if_pos (show ¬ nI (zk m p) = 6 from fun z => h6 ((nI_eq (b := 6) (by omega) (by decide)).mp z)), J145 n1 n12]
            cases hzc1 : zc m p r with
            | false => rfl
            | true =>
              rw [hzc] at hzc1
              have hzc2 := of_decide_eq_true hzc1
              rw [if_neg (show ¬ zk m p = 1 by omega), if_neg (show ¬ zk m p = 12 by omega)]
              show rtI (-1) (EM h mo I A) = rtI (-1) (EM h mo (upd I 43 (-1)) A)
              rw [upd_id _ h43]
        have J62 : zk m p ≠ 12 ∨ zf m p ≠ r → f_X3_boundOf_J62 (f_X3_boundOf_L16 (fun h63 => rtI (-1) h63) k) (fun h63 => rtI (-1) h63) (some mo) (nI r) (nI p) (nI c) (EM h mo I A) = rtI (bV (bnd m u r (j + 1) a)) (EM h mo (upd I 43 (oV (bnd m u r (j + 1) a))) A) := by
          intro n12
          unfold f_X3_boundOf_J62
          rw [m_rc, q_sort M (by omega), cI_rt]
          by_cases k1 : zk m p = 1
          · rw [if_neg (fun z => z (by rw [k1]; rfl)), m_rc, q_first M (by omega), cI_rt]
            by_cases k4 : zf m p = r
            · have hl2 := zk_l2 (m := m) (a := p) (Or.inl k1)
              have hzc1 : zc m p r = true := by rw [hzc]; simp [k1, k4]
              have hbnd : bnd m u r (j + 1) a = some (zo m p + 1, some (zo m p)) := by
                unfold bnd
                rw [hb]
                simp [k1, hzc1]
              rw [if_neg (fun z => z (by rw [k4])), m_rc, q_opd M (by omega), cI_rt, m_pI (by decide) (by decide), m_gI (by decide) (by decide), upd_s, nI_1, hbnd]
              rfl
            · rw [if_pos (fun z => k4 ((nI_eq (by omega) (by omega)).mp z))]
              exact J96 (Or.inr k4) n12
          · rw [if_pos (show ¬ nI (zk m p) = 1 from fun z => k1 ((nI_eq (b := 1) (by omega) (by decide)).mp z))]
            exact J96 (Or.inl k1) n12
        have goal : (if ¬ nI (zk m p) = 12 then f_X3_boundOf_J62 (f_X3_boundOf_L16 (fun h63 => rtI (-1) h63) k) (fun h63 => rtI (-1) h63) (some mo) (nI r) (nI p) (nI c) (EM h mo I A) else xrc (EM h mo I A) (some mo) 2 (if ¬ nI (zf m p) = nI r then f_X3_boundOf_J62 (f_X3_boundOf_L16 (fun h63 => rtI (-1) h63) k) (fun h63 => rtI (-1) h63) (some mo) (nI r) (nI p) (nI c) (EM h mo I A) else xrc (EM h mo I A) (some mo) 2 (xcI (f_X3_operand (some mo) (nI p) (EM h mo I A)) (fun v58 h57 => rtI (v58 + 1) h57)))) = rtI (bV (bnd m u r (j + 1) a)) (EM h mo (upd I 43 (oV (bnd m u r (j + 1) a))) A) := by
          by_cases k12 : zk m p = 12
          · rw [if_neg (fun z => z (by rw [k12]; rfl)), m_rc]
            by_cases k4 : zf m p = r
            · have hl2 := zk_l2 (m := m) (a := p) (Or.inr (Or.inr k12))
              have hzc1 : zc m p r = true := by rw [hzc]; simp [k12, k4]
              have hbnd : bnd m u r (j + 1) a = some (zo m p + 1, none) := by
                unfold bnd
                rw [hb]
                simp [k12, hzc1]
              rw [if_neg (fun z => z (by rw [k4])), m_rc, q_opd M (by omega), cI_rt, nI_1, hbnd]
              show _ = rtI (nI (zo m p + 1)) (EM h mo (upd I 43 (-1)) A)
              rw [upd_id _ h43]
            · rw [if_pos (fun z => k4 ((nI_eq (by omega) (by omega)).mp z))]
              exact J62 (Or.inr k4)
          · rw [if_pos (show ¬ nI (zk m p) = 12 from fun z => k12 ((nI_eq (b := 12) (by omega) (by decide)).mp z))]
            exact J62 (Or.inl k12)
        refine goal.trans ?_
        conv => lhs; unfold bnd
        rw [hb]
end
