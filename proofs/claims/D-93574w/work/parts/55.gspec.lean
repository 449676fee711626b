/-! PURE: gaps, their tests, speculation: what they are -/
set_option maxRecDepth 100000
def gs (u : Nat → Nat) : Nat → Nat → Nat → List (Nat × Nat)
  | 0, a, b => if b < a then [(b, a)] else []
  | k + 1, a, b => if tk (u a) = true then (if b < a then [(b, a)] else []) ++ gs u k (a + 1) (a + 1) else gs u k (a + 1) b
def gaps (n : Nat) (u : Nat → Nat) : List (Nat × Nat) := gs u n 0 0
theorem gs_len {u : Nat → Nat} : ∀ (k a b : Nat), b ≤ a → (gs u k a b).length ≤ k + (if b < a then 1 else 0)
  | 0, a, b, h => by unfold gs; split <;> simp
  | k + 1, a, b, h => by
    unfold gs
    split
    · have := gs_len (u := u) k (a + 1) (a + 1) (Nat.le_refl _)
      rw [if_neg (by omega)] at this
      rw [List.length_append]
      split <;> simp <;> omega
    · have := gs_len (u := u) k (a + 1) b (by omega)
      rw [if_pos (by omega)] at this
      split <;> omega
theorem gaps_len (n : Nat) (u : Nat → Nat) : (gaps n u).length ≤ n := by
  have := gs_len (u := u) n 0 0 (Nat.le_refl _)
  rw [if_neg (by omega)] at this
  exact this
theorem gs_p {u : Nat → Nat} : ∀ (k a b : Nat), b ≤ a → (∀ q, b ≤ q → q < a → tk (u q) = false) → ∀ g ∈ gs u k a b, b ≤ g.1 ∧ g.1 < g.2 ∧ g.2 ≤ a + k ∧ ∀ q, g.1 ≤ q → q < g.2 → tk (u q) = false
  | 0, a, b, h, hq => by
    intro g hg
    unfold gs at hg
    split at hg
    · rw [List.mem_singleton.mp hg]
      exact ⟨Nat.le_refl _, by assumption, Nat.le_refl _, hq⟩
    · simp at hg
  | k + 1, a, b, h, hq => by
    intro g hg
    unfold gs at hg
    split at hg
    · rcases List.mem_append.mp hg with hg | hg
      · split at hg
        · rw [List.mem_singleton.mp hg]
          exact ⟨Nat.le_refl _, by assumption, by show a ≤ _; omega, hq⟩
        · simp at hg
      · obtain ⟨g1, g2, g3, g4⟩ := gs_p k (a + 1) (a + 1) (Nat.le_refl _) (fun q h1 h2 => by omega) g hg
        exact ⟨by omega, g2, by omega, g4⟩
    · rename_i hta
      obtain ⟨g1, g2, g3, g4⟩ := gs_p k (a + 1) b (by omega) (fun q h1 h2 => by
        by_cases hqa : q = a
        · rw [hqa]; simpa using hta
        · exact hq q h1 (by omega)) g hg
      exact ⟨by omega, g2, by omega, g4⟩
theorem gs_srt {u : Nat → Nat} : ∀ (k a b : Nat), b ≤ a → (∀ q, b ≤ q → q < a → tk (u q) = false) → (gs u k a b).Pairwise (fun g g' => g.2 < g'.1)
  | 0, a, b, h, hq => by unfold gs; split <;> simp
  | k + 1, a, b, h, hq => by
    unfold gs
    split
    · have h1 := gs_srt (u := u) k (a + 1) (a + 1) (Nat.le_refl _) (fun q h1 h2 => by omega)
      have h2 := gs_p (u := u) k (a + 1) (a + 1) (Nat.le_refl _) (fun q h1 h2 => by omega)
      split
      · rw [List.singleton_append, List.pairwise_cons]
        refine ⟨fun g hg => ?_, h1⟩
        have := (h2 g hg).1
        show a < g.1
        omega
      · rw [List.nil_append]; exact h1
    · rename_i hta
      exact gs_srt k (a + 1) b (by omega) (fun q h1 h2 => by
        by_cases hqa : q = a
        · rw [hqa]; simpa using hta
        · exact hq q h1 (by omega))
theorem gaps_p {n : Nat} {u : Nat → Nat} : ∀ g ∈ gaps n u, g.1 < g.2 ∧ g.2 ≤ n ∧ ∀ q, g.1 ≤ q → q < g.2 → tk (u q) = false := fun g hg => by
  obtain ⟨g1, g2, g3, g4⟩ := gs_p (u := u) n 0 0 (Nat.le_refl _) (fun q h1 h2 => by omega) g hg
  exact ⟨g2, by omega, g4⟩
/-! the instructions of a test -/
def ch (m : Nat → Nat) (n e : Nat) : Nat → Nat → Option (List Nat)
  | 0, _ => none
  | k + 1, a => if zv m n a = true ∧ a + zl m a ≤ e then (if ze m a = true then some [a] else (ch m n e k (a + zl m a)).map (fun s => a :: s)) else none
def sc1 (m : Nat → Nat) (a : Nat) : Nat := 1 + (if zk m a = 7 then 3 else if zt m a = true then 2 else 0)
def scr (m : Nat → Nat) (s : List Nat) : Nat := (s.map (sc1 m)).sum
def tok (m u : Nat → Nat) (c s : List Nat) : Bool := s.all (fun a => !(zt m a) || decide (u (zq m a) = 1) || decide (zq m a ∈ c))
/-- a gap's score and the instructions that its test has -/
def tst (m : Nat → Nat) (n : Nat) (u : Nat → Nat) (g : Nat × Nat) : Nat × List Nat := match ch m n g.2 (n + 1) g.1 with
  | none => (0, [])
  | some c => if tok m u c c = true then (scr m c, c) else (0, [])
/-- what is speculated of a gap -/
def chn (m : Nat → Nat) (n : Nat) (u : Nat → Nat) (t : Nat) (g : Nat × Nat) : List Nat := if t ≤ (tst m n u g).1 then (tst m n u g).2 else []
section
variable {m u : Nat → Nat} {n e t : Nat}
theorem ch_cs {k a : Nat} {s : List Nat} (h : ch m n e (k + 1) a = some s) : (zv m n a = true ∧ a + zl m a ≤ e) ∧ ((ze m a = true ∧ s = [a]) ∨ (ze m a = false ∧ ∃ s', ch m n e k (a + zl m a) = some s' ∧ s = a :: s')) := by
  unfold ch at h
  split at h
  · rename_i h1
    refine ⟨h1, ?_⟩
    split at h
    · rename_i h2
      cases h
      exact Or.inl ⟨h2, rfl⟩
    · rename_i h2
      cases hc : ch m n e k (a + zl m a) with
      | none => rw [hc] at h; cases h
      | some s' =>
        rw [hc] at h
        cases h
        exact Or.inr ⟨by simpa using h2, s', rfl, rfl⟩
  · cases h
theorem ch_p : ∀ (k a : Nat) (s : List Nat), ch m n e k a = some s → s ≠ [] ∧ (∀ x ∈ s, a ≤ x ∧ zv m n x = true ∧ x + zl m x ≤ e) ∧ s.length + a ≤ e ∧ s.Pairwise (fun x y => x + zl m x ≤ y)
  | 0, a, s, h => by unfold ch at h; cases h
  | k + 1, a, s, h => by
    obtain ⟨h1, h2⟩ := ch_cs h
    have hl := zl_12 m a
    rcases h2 with ⟨h2, rfl⟩ | ⟨h2, s', h3, rfl⟩
    · refine ⟨by simp, fun x hx => ?_, by simp; omega, by simp⟩
      rw [List.mem_singleton.mp hx]
      exact ⟨Nat.le_refl _, h1.1, h1.2⟩
    · obtain ⟨p1, p2, p3, p4⟩ := ch_p k _ s' h3
      refine ⟨by simp, fun x hx => ?_, by simp; omega, ?_⟩
      · rcases List.mem_cons.mp hx with rfl | hx
        · exact ⟨Nat.le_refl _, h1.1, h1.2⟩
        · obtain ⟨q1, q2, q3⟩ := p2 x hx
          exact ⟨by omega, q2, q3⟩
      · rw [List.pairwise_cons]
        exact ⟨fun x hx => (p2 x hx).1, p4⟩
theorem scr_b : ∀ (s : List Nat), s.length ≤ scr m s ∧ scr m s ≤ 4 * s.length
  | [] => by simp [scr]
  | a :: s => by
    have ih := scr_b s
    unfold scr at ih ⊢
    rw [List.map_cons, List.sum_cons, List.length_cons]
    have : 1 ≤ sc1 m a ∧ sc1 m a ≤ 4 := by
      unfold sc1
      split
      · omega
      · split <;> omega
    omega
theorem tst_p (g : Nat × Nat) : (tst m n u g = (0, []) ∨ ∃ c, ch m n g.2 (n + 1) g.1 = some c ∧ tok m u c c = true ∧ tst m n u g = (scr m c, c)) := by
  unfold tst
  cases h : ch m n g.2 (n + 1) g.1 with
  | none => exact Or.inl rfl
  | some c =>
    simp only
    by_cases h2 : tok m u c c = true
    · rw [if_pos h2]; exact Or.inr ⟨c, rfl, h2, rfl⟩
    · rw [if_neg h2]; exact Or.inl rfl
theorem tst_b (g : Nat × Nat) (hg : g.2 ≤ 96) : (tst m n u g).1 ≤ 400 ∧ (tst m n u g).2.length ≤ 96 := by
  rcases tst_p (m := m) (n := n) (u := u) g with h | ⟨c, h1, h2, h3⟩
  · rw [h]; exact ⟨by decide, by decide⟩
  · obtain ⟨p1, p2, p3, p4⟩ := ch_p _ _ _ h1
    have := scr_b (m := m) c
    rw [h3]
    exact ⟨by show scr m c ≤ 400; omega, by show c.length ≤ 96; omega⟩
/-- a speculated gap has a chain -/
theorem chn_p (ht : 1 ≤ t) (g : Nat × Nat) : ((tst m n u g).1 < t ∧ chn m n u t g = []) ∨ (t ≤ (tst m n u g).1 ∧ ch m n g.2 (n + 1) g.1 = some (chn m n u t g) ∧ (tst m n u g).2 = chn m n u t g) := by
  unfold chn
  rcases tst_p (m := m) (n := n) (u := u) g with h | ⟨c, h1, h2, h3⟩
  · rw [h]
    exact Or.inl ⟨by show 0 < t; omega, by rw [if_neg (show ¬ t ≤ 0 by omega)]⟩
  · rw [h3]
    by_cases h4 : t ≤ scr m c
    · exact Or.inr ⟨h4, by rw [if_pos (show t ≤ (scr m c, c).1 from h4)]; exact h1, by rw [if_pos (show t ≤ (scr m c, c).1 from h4)]⟩
    · exact Or.inl ⟨by show scr m c < t; omega, by rw [if_neg (show ¬ t ≤ (scr m c, c).1 from h4)]⟩
end
/-- the marks with what is speculated -/
def wU (m u : Nat → Nat) (C : List Nat) (q : Nat) : Nat := if u q ≠ 0 then u q else if q ∈ C then 4 else if 1 ≤ q ∧ q - 1 ∈ C ∧ zl m (q - 1) = 2 then 5 else 0
/-- all that is speculated -/
def csp (m : Nat → Nat) (n : Nat) (u : Nat → Nat) (t : Nat) (l : List (Nat × Nat)) : List Nat := l.flatMap (chn m n u t)
theorem csp_ap {m u : Nat → Nat} {n t : Nat} {l : List (Nat × Nat)} {g : Nat × Nat} : csp m n u t (l ++ [g]) = csp m n u t l ++ chn m n u t g := by simp [csp, List.flatMap_append]
/-- what is speculated lies ahead of what comes -/
def AB (m : Nat → Nat) (C : List Nat) (a : Nat) : Prop := ∀ c ∈ C, c + zl m c ≤ a
theorem AB.w {m : Nat → Nat} {C : List Nat} {a b : Nat} (h : AB m C a) (hab : a ≤ b) : AB m C b := fun c hc => Nat.le_trans (h c hc) hab
theorem AB.ap {m : Nat → Nat} {C : List Nat} {a : Nat} (h : AB m C a) : AB m (C ++ [a]) (a + zl m a) := fun c hc => by
  rcases List.mem_append.mp hc with hc | hc
  · have := h c hc; omega
  · rw [List.mem_singleton.mp hc]; exact Nat.le_refl _
theorem AB.nm {m : Nat → Nat} {C : List Nat} {a q : Nat} (h : AB m C a) (hq : a ≤ q) : q ∉ C := fun hc => by
  have := h q hc
  have hl := zl_12 m q
  omega
/-- one instruction is speculated -/
theorem wU_ap {m u : Nat → Nat} {C : List Nat} {a : Nat} (h : AB m C a) (h0 : u a = 0) (h1 : zl m a = 2 → u (a + 1) = 0) (q : Nat) : wU m u (C ++ [a]) q = if q = a then 4 else if q = a + 1 ∧ zl m a = 2 then 5 else wU m u C q := by
  unfold wU
  by_cases hqa : q = a
  · subst hqa
    rw [if_neg (by simp [h0]), if_pos (by simp), if_pos rfl]
  · rw [if_neg hqa]
    by_cases hq1 : q = a + 1 ∧ zl m a = 2
    · obtain ⟨rfl, hz⟩ := hq1
      rw [if_neg (by simp [h1 hz]), if_neg, if_pos, if_pos ⟨rfl, hz⟩]
      · exact ⟨by omega, by simp, by simpa using hz⟩
      · intro hm
        rcases List.mem_append.mp hm with hm | hm
        · exact h.nm (by omega) hm
        · have := List.mem_singleton.mp hm; omega
    · rw [if_neg hq1]
      have e1 : (q ∈ C ++ [a]) = (q ∈ C) := by simp [hqa]
      have e2 : (1 ≤ q ∧ q - 1 ∈ C ++ [a] ∧ zl m (q - 1) = 2) = (1 ≤ q ∧ q - 1 ∈ C ∧ zl m (q - 1) = 2) := by
        apply propext
        constructor
        · rintro ⟨z1, z2, z3⟩
          refine ⟨z1, ?_, z3⟩
          rcases List.mem_append.mp z2 with z2 | z2
          · exact z2
          · have z4 := List.mem_singleton.mp z2
            exact absurd ⟨by omega, by rw [← z4]; exact z3⟩ hq1
        · rintro ⟨z1, z2, z3⟩
          exact ⟨z1, List.mem_append_left _ z2, z3⟩
      simp only [e1, e2]
theorem wU_nil {m u : Nat → Nat} (q : Nat) : wU m u [] q = u q := by
  unfold wU
  by_cases h : u q = 0 <;> simp [h]
theorem tk_wU {m u : Nat → Nat} {C : List Nat} (h3 : ∀ a, u a ≤ 3) (q : Nat) : tk (wU m u C q) = tk (u q) := by
  unfold wU
  by_cases h : u q = 0
  · rw [if_neg (by simp [h]), h]
    split
    · rfl
    · split <;> rfl
  · rw [if_pos h]
