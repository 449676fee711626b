/-! PURE: what a recovery computes (the descent) -/
set_option maxRecDepth 100000
abbrev TT : Type := Nat × Nat × Option Nat × List Nat
/-- marks, work list, conflicts, bad targets, tables -/
abbrev ST : Type := (Nat → Nat) × List Nat × List Nat × List Nat × List TT
def tk (v : Nat) : Bool := decide (v = 1 ∨ v = 2 ∨ v = 3)
def bef (m u : Nat → Nat) (a : Nat) : Option Nat :=
  if 1 ≤ a ∧ u (a - 1) = 1 ∧ zl m (a - 1) = 1 ∧ ze m (a - 1) = false then some (a - 1)
  else if 2 ≤ a ∧ u (a - 2) = 1 ∧ zl m (a - 2) = 2 ∧ ze m (a - 2) = false then some (a - 2) else none
def bnd (m u : Nat → Nat) (r : Nat) : Nat → Nat → Option (Nat × Option Nat)
  | 0, _ => none
  | k + 1, a => match bef m u a with
    | none => none
    | some p =>
      if zk m p = 6 then (match bef m u p with
        | some c => if zk m c = 3 ∧ zf m c = r then some (zo m c, none) else bnd m u r k p
        | none => bnd m u r k p)
      else if zc m p r then (if zk m p = 1 then some (zo m p + 1, some (zo m p)) else if zk m p = 12 then some (zo m p + 1, none) else none)
      else bnd m u r k p
def fit (n : Nat) (u : Nat → Nat) (a : Nat) : Bool := decide (a < n ∧ u a ≠ 1 ∧ u a ≠ 2)
def plU (m : Nat → Nat) (n : Nat) (u : Nat → Nat) : Nat → Nat → List Nat
  | 0, _ => []
  | k + 1, a => if fit n u a && zv m n (m a) then a :: plU m n u k (a + 1) else []
def plB (n : Nat) (u : Nat → Nat) : Nat → Nat → List Nat
  | 0, _ => []
  | k + 1, a => if fit n u a then a :: plB n u k (a + 1) else plB n u k (a + 1)
def plc (m : Nat → Nat) (n : Nat) (u : Nat → Nat) (b : Nat) (x : Option (Nat × Option Nat)) : List Nat := match x with
  | none => plU m n u 8 b
  | some (_, some o) => plB n u 1 (b + o)
  | some (k, none) => plB n u (min k 16) b
def mk1 (m u : Nat → Nat) (a : Nat) : Nat → Nat := fun q => if q = a then 1 else if q = a + 1 ∧ zl m a = 2 then 2 else u q
def mkP (u : Nat → Nat) (ps : List Nat) : Nat → Nat := fun q => if q ∈ ps then 3 else u q
def ins (l : List Nat) (a : Nat) : List Nat := if a ∈ l then l else l ++ [a]
def wl1 (m : Nat → Nat) (w : List Nat) (a : Nat) : List Nat := if zt m a then w ++ [zq m a] else w
def bn (m u : Nat → Nat) (a : Nat) : Option (Nat × Option Nat) := bnd m (mk1 m u a) (zf m a) 6 a
def pl (m : Nat → Nat) (n : Nat) (u : Nat → Nat) (a : Nat) : List Nat := plc m n (mk1 m u a) (zo m a) (bn m u a)
/-- an instruction is accepted -/
def acc (m : Nat → Nat) (n : Nat) (S : ST) (a : Nat) : ST :=
  if zk m a = 9 then (mkP (mk1 m S.1 a) (pl m n S.1 a), wl1 m S.2.1 a ++ (pl m n S.1 a).map m, S.2.2.1, S.2.2.2.1, S.2.2.2.2 ++ [(a, zo m a, (bn m S.1 a).map (fun p => min p.1 16), pl m n S.1 a)])
  else (mk1 m S.1 a, wl1 m S.2.1 a, S.2.2)
def fol (m : Nat → Nat) (n : Nat) (S : ST) (a : Nat) : ST × Option Nat :=
  if S.1 a = 1 then (S, none)
  else if zv m n a = false then ((S.1, S.2.1, S.2.2.1, ins S.2.2.2.1 a, S.2.2.2.2), none)
  else if tk (S.1 a) || tk (S.1 (a + zl m a - 1)) then ((S.1, S.2.1, ins S.2.2.1 a, S.2.2.2), none)
  else (acc m n S a, if ze m a then none else some (a + zl m a))
def folL (m : Nat → Nat) (n : Nat) : Nat → ST → Nat → ST
  | 0, S, _ => S
  | k + 1, S, a => match fol m n S a with
    | (S', none) => S'
    | (S', some b) => folL m n k S' b
def drn (m : Nat → Nat) (n : Nat) : Nat → ST → ST
  | 0, S => S
  | k + 1, S => match S.2.1 with
    | [] => S
    | a :: r => drn m n k (folL m n (n + 1) (S.1, r, S.2.2) a)
def c0 (n : Nat) (u : Nat → Nat) : Nat := cnt (fun a => decide (u a = 0)) n
def c2 (n : Nat) (u : Nat → Nat) : Nat := cnt (fun a => decide (u a = 1 ∨ u a = 2)) n
/-! counting -/
theorem cnt_mono {p q : Nat → Bool} : ∀ {n : Nat}, (∀ k, k < n → p k = true → q k = true) → cnt p n ≤ cnt q n
  | 0, _ => Nat.le_refl _
  | n + 1, h => by
    have ih := cnt_mono (n := n) (fun k hk => h k (by omega))
    have h1 := h n (by omega)
    show cnt p n + _ ≤ cnt q n + _
    cases hp : p n with
    | false => simp; omega
    | true => rw [h1 hp]; simp; omega
theorem cnt_up {p q : Nat → Bool} {a : Nat} : ∀ {n : Nat}, a < n → p a = false → q a = true → (∀ k, k < n → k ≠ a → q k = p k) → cnt q n = cnt p n + 1
  | 0, h, _, _, _ => absurd h (Nat.not_lt_zero a)
  | n + 1, h, hp, hq, hx => by
    show cnt q n + _ = cnt p n + _ + 1
    by_cases ha : a = n
    · subst ha
      rw [hp, hq, cnt_congr (n := a) (fun k hk => hx k (by omega) (by omega))]
      simp
    · rw [cnt_up (n := n) (by omega) hp hq (fun k hk => hx k (by omega)), hx n (by omega) (Ne.symm ha)]
      omega
theorem cnt_mem {N : Nat} : ∀ (l : List Nat), l.Nodup → (∀ x ∈ l, x < N) → cnt (fun a => decide (a ∈ l)) N = l.length
  | [], _, _ => by
    have : ∀ n, cnt (fun a => decide (a ∈ ([] : List Nat))) n = 0 := by
      intro n
      induction n with
      | zero => rfl
      | succ n ih => show cnt _ n + _ = 0; rw [ih]; simp
    exact this N
  | x :: l, hn, hl => by
    have hn' := List.nodup_cons.mp hn
    rw [cnt_up (a := x) (p := fun a => decide (a ∈ l)) (hl x (List.mem_cons_self ..)) (decide_eq_false hn'.1) (by simp) (fun k _ hk => by simp [hk]), cnt_mem l hn'.2 (fun y hy => hl y (List.mem_cons_of_mem _ hy))]
    simp
theorem nodup_le {l : List Nat} {N : Nat} (h1 : l.Nodup) (h2 : ∀ x ∈ l, x < N) : l.length ≤ N := by
  rw [← cnt_mem l h1 h2]; exact cnt_le _ _
theorem ins_nd {l : List Nat} {a : Nat} (h : l.Nodup) : (ins l a).Nodup := by
  unfold ins
  split
  · exact h
  · rename_i h1
    rw [List.nodup_append]
    refine ⟨h, by simp, fun x hx y hy => ?_⟩
    rw [List.mem_singleton.mp hy]
    rintro rfl
    exact h1 hx
theorem ins_mem {l : List Nat} {a x : Nat} : x ∈ ins l a ↔ x ∈ l ∨ x = a := by
  unfold ins
  split
  · rename_i h1
    constructor
    · exact Or.inl
    · rintro (h | rfl)
      · exact h
      · exact h1
  · simp
/-! places -/
theorem plU_p {m : Nat → Nat} {n : Nat} {u : Nat → Nat} : ∀ (k a : Nat), (plU m n u k a).length ≤ k ∧ ∀ p ∈ plU m n u k a, fit n u p = true
  | 0, a => by simp [plU]
  | k + 1, a => by
    have ih := plU_p (m := m) (n := n) (u := u) k (a + 1)
    unfold plU
    split
    · rename_i h
      simp only [Bool.and_eq_true] at h
      refine ⟨by simp; omega, fun p hp => ?_⟩
      rcases List.mem_cons.mp hp with rfl | hp
      · exact h.1
      · exact ih.2 p hp
    · simp
theorem plB_p {n : Nat} {u : Nat → Nat} : ∀ (k a : Nat), (plB n u k a).length ≤ k ∧ ∀ p ∈ plB n u k a, fit n u p = true
  | 0, a => by simp [plB]
  | k + 1, a => by
    have ih := plB_p (n := n) (u := u) k (a + 1)
    unfold plB
    split
    · rename_i h
      refine ⟨by simp; omega, fun p hp => ?_⟩
      rcases List.mem_cons.mp hp with rfl | hp
      · exact h
      · exact ih.2 p hp
    · exact ⟨by omega, ih.2⟩
theorem plc_p {m : Nat → Nat} {n : Nat} {u : Nat → Nat} (b : Nat) (x : Option (Nat × Option Nat)) : (plc m n u b x).length ≤ 16 ∧ ∀ p ∈ plc m n u b x, fit n u p = true := by
  unfold plc
  split
  · have := plU_p (m := m) (n := n) (u := u) 8 b; exact ⟨by omega, this.2⟩
  · rename_i k o
    have := plB_p (n := n) (u := u) 1 (b + o); exact ⟨by omega, this.2⟩
  · rename_i k
    have := plB_p (n := n) (u := u) (min k 16) b; exact ⟨by omega, this.2⟩
/-- fit doesn't see the tables' marks -/
theorem fit_mkP {n : Nat} {u : Nat → Nat} {ps : List Nat} (h : ∀ p ∈ ps, fit n u p = true) (a : Nat) : fit n (mkP u ps) a = fit n u a := by
  unfold mkP
  by_cases ha : a ∈ ps
  · have := h a ha
    unfold fit at this ⊢
    have := of_decide_eq_true this
    simp [ha, this]
  · unfold fit
    simp [ha]
/-! the state's law -/
def SG (m : Nat → Nat) (n : Nat) (S : ST) : Prop :=
  (∀ a, n ≤ a → S.1 a = 0) ∧ (∀ a, S.1 a ≤ 3) ∧ (∀ a, S.1 a = 1 → zv m n a = true ∧ (zl m a = 2 → S.1 (a + 1) = 2)) ∧ (∀ a, S.1 a = 2 → 1 ≤ a ∧ S.1 (a - 1) = 1 ∧ zl m (a - 1) = 2) ∧
  (∀ x ∈ S.2.1, x < 256) ∧ (∀ x ∈ S.2.2.1, x < n) ∧ S.2.2.1.Nodup ∧ (∀ x ∈ S.2.2.2.1, x < 256) ∧ S.2.2.2.1.Nodup ∧
  (∀ T ∈ S.2.2.2.2, T.1 < n ∧ T.2.1 < 256 ∧ (∀ b, T.2.2.1 = some b → b ≤ 16) ∧ T.2.2.2.length ≤ 16 ∧ ∀ p ∈ T.2.2.2, p < n) ∧ 2 * S.2.2.2.2.length ≤ c2 n S.1
theorem zv_f {m : Nat → Nat} {n a : Nat} (h : zv m n a = true) : a < n ∧ zk m a ≤ 13 ∧ a + zl m a ≤ n ∧ (zt m a = true → 0 ≤ zg m a ∧ zg m a < n) := of_decide_eq_true h
theorem zk9 {m : Nat → Nat} {a : Nat} (h : zk m a = 9) : zl m a = 2 ∧ zt m a = false ∧ ze m a = true := by
  simp [zl, zh, zt, ze, h]
theorem tk_f {v : Nat} (h : tk v = false) (h3 : v ≤ 3) : v = 0 := by
  have := of_decide_eq_false h; omega
theorem mk1_c {m u : Nat → Nat} {n a : Nat} (hv : zv m n a = true) (h0 : u a = 0) (h1 : u (a + zl m a - 1) = 0) : c0 n (mk1 m u a) + zl m a = c0 n u ∧ c2 n (mk1 m u a) = c2 n u + zl m a := by
  obtain ⟨v1, v2, v3, v4⟩ := zv_f hv
  rcases zl_12 m a with hl | hl
  · refine ⟨?_, ?_⟩
    · rw [hl]
      symm
      apply cnt_up (a := a) v1
      · simp [mk1]
      · simp [h0]
      · intro k hk hka
        simp [mk1, hka, hl]
    · rw [hl]
      apply cnt_up (a := a) v1
      · simp [h0]
      · simp [mk1]
      · intro k hk hka
        simp [mk1, hka, hl]
  · rw [hl] at h1 v3
    have h1 : u (a + 1) = 0 := h1
    have e : ∀ p : Nat → Bool, True := fun _ => trivial
    refine ⟨?_, ?_⟩
    · have s1 : c0 n u = cnt (fun k => decide (k ≠ a ∧ u k = 0)) n + 1 := by
        apply cnt_up (a := a) v1
        · simp
        · simp [h0]
        · intro k hk hka; simp [hka]
      have s2 : cnt (fun k => decide (k ≠ a ∧ u k = 0)) n = c0 n (mk1 m u a) + 1 := by
        apply cnt_up (a := a + 1) (by omega)
        · simp [mk1, hl]
        · simp [h1]
        · intro k hk hka
          by_cases hk2 : k = a
          · simp [hk2, mk1]
          · simp [hk2, hka, mk1]
      omega
    · have s1 : cnt (fun k => decide (k = a ∨ u k = 1 ∨ u k = 2)) n = c2 n u + 1 := by
        apply cnt_up (a := a) v1
        · simp [h0]
        · simp
        · intro k hk hka; simp [hka]
      have s2 : c2 n (mk1 m u a) = cnt (fun k => decide (k = a ∨ u k = 1 ∨ u k = 2)) n + 1 := by
        apply cnt_up (a := a + 1) (by omega)
        · simp [h1]
        · simp [mk1, hl]
        · intro k hk hka
          by_cases hk2 : k = a
          · simp [hk2, mk1]
          · simp [hk2, hka, mk1]
      omega
theorem mkP_c {u : Nat → Nat} {n : Nat} {ps : List Nat} (h : ∀ p ∈ ps, fit n u p = true) : c0 n (mkP u ps) ≤ c0 n u ∧ c2 n (mkP u ps) = c2 n u := by
  refine ⟨cnt_mono (fun k hk hp => ?_), cnt_congr (fun k hk => ?_)⟩
  · unfold mkP at hp
    by_cases hkp : k ∈ ps
    · simp [hkp] at hp
    · simpa [hkp] using hp
  · unfold mkP
    by_cases hkp : k ∈ ps
    · have := of_decide_eq_true (h k hkp)
      simp [hkp, this]
    · simp [hkp]
