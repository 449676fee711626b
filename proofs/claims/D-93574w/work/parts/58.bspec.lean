/-! PURE: leaders, blocks, heads, reach: what they are -/
set_option maxRecDepth 100000
def anF (p : Nat → Bool) : Nat → Nat → Bool
  | 0, _ => false
  | k + 1, c => p c || anF p k (c + 1)
theorem anF_iff {p : Nat → Bool} : ∀ (k c : Nat), anF p k c = true ↔ ∃ j, c ≤ j ∧ j < c + k ∧ p j = true
  | 0, c => by
    unfold anF
    constructor
    · intro h; cases h
    · rintro ⟨j, h1, h2, _⟩; omega
  | k + 1, c => by
    unfold anF
    rw [Bool.or_eq_true, anF_iff k (c + 1)]
    constructor
    · rintro (h | ⟨j, h1, h2, h3⟩)
      · exact ⟨c, Nat.le_refl _, by omega, h⟩
      · exact ⟨j, by omega, by omega, h3⟩
    · rintro ⟨j, h1, h2, h3⟩
      by_cases hj : j = c
      · subst hj; exact Or.inl h3
      · exact Or.inr ⟨j, by omega, by omega, h3⟩
/-- p is accepted, has a target (is a call), which is x -/
def pG (m u : Nat → Nat) (cl : Bool) (x p : Nat) : Bool := decide (u p = 1) && (if cl = true then decide (zk m p = 7) else zt m p) && decide (zg m p = (x : Int))
def isG (m u : Nat → Nat) (n : Nat) (cl : Bool) (x : Nat) : Bool := anF (pG m u cl x) n 0
def isT (m : Nat → Nat) (tb : List TT) (x : Nat) : Bool := tb.any (fun T => T.2.2.2.any (fun p => decide (m p = x)))
/-- an accepted instruction that ends a block lies directly ahead -/
def isE (m u : Nat → Nat) (x : Nat) : Bool := decide ((1 ≤ x ∧ u (x - 1) = 1 ∧ zl m (x - 1) = 1 ∧ zb m (x - 1) = true) ∨ (2 ≤ x ∧ u (x - 2) = 1 ∧ zl m (x - 2) = 2 ∧ zb m (x - 2) = true))
def isL (m u : Nat → Nat) (n : Nat) (es : List Nat) (tb : List TT) (x : Nat) : Bool := decide (u x = 1) && (decide (x ∈ es) || isG m u n false x || isT m tb x || isE m u x)
def isH (m u : Nat → Nat) (n : Nat) (es : List Nat) (x : Nat) : Bool := decide (u x = 1) && (decide (x ∈ es) || isG m u n true x)
/-- the instructions of a block -/
def blc (m u : Nat → Nat) (L : Nat → Bool) : Nat → Nat → List Nat
  | 0, a => [a]
  | k + 1, a => a :: (if zb m a = false ∧ u (a + zl m a) = 1 ∧ L (a + zl m a) = false then blc m u L k (a + zl m a) else [])
theorem blc_ne {m u : Nat → Nat} {L : Nat → Bool} (k a : Nat) : blc m u L k a ≠ [] := by cases k <;> simp [blc]
/-- the k-th -/
def LK (L : Nat → Bool) (k a : Nat) : Prop := L a = true ∧ cnt L a = k
theorem cnt_m {L : Nat → Bool} {a b : Nat} (h : a ≤ b) : cnt L a ≤ cnt L b := by
  obtain ⟨d, rfl⟩ : ∃ d, b = a + d := ⟨b - a, by omega⟩
  rw [cnt_add]; omega
theorem cnt_s1 {L : Nat → Bool} {a : Nat} : cnt L (a + 1) = cnt L a + (if L a = true then 1 else 0) := by
  show cnt L a + _ = _
  cases L a <;> simp
theorem LK.uq {L : Nat → Bool} {k a b : Nat} (h1 : LK L k a) (h2 : LK L k b) : a = b := by
  have key : ∀ x y, LK L k x → LK L k y → ¬ x < y := fun x y hx hy hxy => by
    have e1 := cnt_s1 (L := L) (a := x)
    rw [hx.1, if_pos rfl] at e1
    have e2 := cnt_m (L := L) (a := x + 1) (b := y) (by omega)
    have := hx.2
    have := hy.2
    omega
  have := key a b h1 h2
  have := key b a h2 h1
  omega
theorem LK.lt {L : Nat → Bool} {k a n : Nat} (h : LK L k a) (ha : a < n) : k < cnt L n := by
  have e1 := cnt_s1 (L := L) (a := a)
  rw [h.1, if_pos rfl] at e1
  have e2 := cnt_m (L := L) (a := a + 1) (b := n) (by omega)
  have := h.2
  omega
/-- where the flow goes within a function -/
def sucR (m : Nat → Nat) (tb : List TT) (a b : Nat) : Prop := (ze m a = false ∧ b = a + zl m a) ∨ ((zt m a = true ∧ zk m a ≠ 7) ∧ b = zq m a) ∨ ∃ T ∈ tb, T.1 = a ∧ ∃ p ∈ T.2.2.2, m p = b
def Rch (m u : Nat → Nat) (tb : List TT) (hd x : Nat) : Prop := ∀ P : Nat → Prop, P hd → (∀ a b, P a → sucR m tb a b → u b = 1 → P b) → P x
theorem Rch.hd {m u : Nat → Nat} {tb : List TT} {hd : Nat} : Rch m u tb hd hd := fun _ h _ => h
theorem Rch.st {m u : Nat → Nat} {tb : List TT} {hd a b : Nat} (h : Rch m u tb hd a) (s : sucR m tb a b) (hb : u b = 1) : Rch m u tb hd b := fun P h1 h2 => h2 a b (h P h1 h2) s hb
/-- a closed set of reached ones is all that is reached -/
theorem Rch.all {m u : Nat → Nat} {tb : List TT} {hd : Nat} {r : Nat → Bool} (h1 : r hd = true) (h2 : ∀ a b, r a = true → sucR m tb a b → u b = 1 → r b = true) (h3 : ∀ x, r x = true → Rch m u tb hd x) (x : Nat) : r x = true ↔ Rch m u tb hd x := ⟨h3 x, fun h => h (fun y => r y = true) h1 h2⟩
/-! runs -/
abbrev RSt : Type := (Nat → Nat) × Bool × List Nat
def updN (f : Nat → Nat) (k v : Nat) : Nat → Nat := fun j => if j = k then v else f j
def stp (m : Nat → Nat) (n : Nat) (R : RSt) (a : Nat) : RSt × Option Nat :=
  match zk m a with
  | 1 => ((updN R.1 (zf m a) (zo m a), R.2), some (a + zl m a))
  | 2 => ((updN R.1 (zf m a) ((R.1 (zf m a) + R.1 (zs m a)) % 256), R.2), some (a + zl m a))
  | 3 => ((R.1, decide (R.1 (zf m a) < zo m a), R.2.2), some (a + zl m a))
  | 4 => (R, some (zq m a))
  | 5 => (R, if R.2.1 = true then some (zq m a) else some (a + zl m a))
  | 6 => (R, if R.2.1 = true then some (a + zl m a) else some (zq m a))
  | 7 => if R.2.2.length = 8 then (R, none) else ((R.1, R.2.1, R.2.2 ++ [a + zl m a]), some (zq m a))
  | 8 => if R.2.2.length = 0 then (R, none) else ((R.1, R.2.1, R.2.2.take (R.2.2.length - 1)), some (R.2.2.getD (R.2.2.length - 1) 0))
  | 9 => (R, if zo m a + R.1 (zf m a) < n then some (m (zo m a + R.1 (zf m a))) else none)
  | 10 => if zo m a < n then ((updN R.1 (zf m a) (m (zo m a)), R.2), some (a + zl m a)) else (R, none)
  | 11 => ((updN R.1 (zf m a) (R.1 (zs m a)), R.2), some (a + zl m a))
  | 12 => ((updN R.1 (zf m a) (R.1 (zf m a) &&& zo m a), R.2), some (a + zl m a))
  | 13 => (R, none)
  | _ => (R, some (a + zl m a))
/-- the run: executions, registers, steps -/
def rnn (m : Nat → Nat) (n : Nat) : Nat → (Nat → Nat) → RSt → Option Nat → (Nat → Nat) × (Nat → Nat) × Nat
  | 0, ex, R, _ => (ex, R.1, 0)
  | k + 1, ex, R, a => match a with
    | none => (ex, R.1, 0)
    | some x => if zv m n x = true then ((rnn m n k (updN ex x (ex x + 1)) (stp m n R x).1 (stp m n R x).2).1, (rnn m n k (updN ex x (ex x + 1)) (stp m n R x).1 (stp m n R x).2).2.1, (rnn m n k (updN ex x (ex x + 1)) (stp m n R x).1 (stp m n R x).2).2.2 + 1) else (ex, R.1, 0)
def RG (n : Nat) (R : RSt) : Prop := (∀ k, R.1 k < 256) ∧ R.2.2.length ≤ 8 ∧ ∀ x ∈ R.2.2, x ≤ 96
def run0 : RSt := ((fun _ => 0), false, [])
theorem stp_g {m : Nat → Nat} {n a : Nat} {R : RSt} (hm : ∀ i, i < n → m i < 256) (hn : n ≤ 96) (g : RG n R) (hv : zv m n a = true) : RG n (stp m n R a).1 ∧ ∀ x, (stp m n R a).2 = some x → x < 256 := by
  obtain ⟨g1, g2, g3⟩ := g
  obtain ⟨v1, v2, v3, v4⟩ := zv_f hv
  have hz := zl_12 m a
  have up : ∀ v, v < 256 → ∀ k, updN R.1 (zf m a) v k < 256 := fun v hv k => by
    unfold updN; split
    · exact hv
    · exact g1 k
  have lo : zl m a = 2 → zo m a < 256 := fun z => hm _ (by omega)
  have tg : zt m a = true → zq m a < 256 := fun z => by have := (zq_lt hv z).1; omega
  have hk : ∀ j, zk m a = j → (j = 1 ∨ (3 ≤ j ∧ j ≤ 7) ∨ j = 9 ∨ j = 10 ∨ j = 12) → zl m a = 2 := fun j e z => by
    unfold zl zh
    rw [e, if_pos (decide_eq_true z)]
  have ht : ∀ j, zk m a = j → 4 ≤ j ∧ j ≤ 7 → zt m a = true := fun j e z => by
    unfold zt; rw [e]; exact decide_eq_true z
  unfold stp
  split
  · rename_i e
    have l2 := hk _ e (by decide)
    exact ⟨⟨up _ (lo l2), g2, g3⟩, fun x hx => by cases hx; omega⟩
  · exact ⟨⟨up _ (Nat.mod_lt _ (by decide)), g2, g3⟩, fun x hx => by cases hx; omega⟩
  · exact ⟨⟨g1, g2, g3⟩, fun x hx => by cases hx; omega⟩
  · rename_i e
    exact ⟨⟨g1, g2, g3⟩, fun x hx => by cases hx; exact tg (ht _ e (by decide))⟩
  · rename_i e
    refine ⟨⟨g1, g2, g3⟩, fun x hx => ?_⟩
    simp only at hx
    split at hx
    · cases hx; exact tg (ht _ e (by decide))
    · cases hx; omega
  · rename_i e
    refine ⟨⟨g1, g2, g3⟩, fun x hx => ?_⟩
    simp only at hx
    split at hx
    · cases hx; omega
    · cases hx; exact tg (ht _ e (by decide))
  · rename_i e
    split
    · exact ⟨⟨g1, g2, g3⟩, fun x hx => by cases hx⟩
    · refine ⟨⟨g1, ?_, fun x hx => ?_⟩, fun x hx => by cases hx; exact tg (ht _ e (by decide))⟩
      · show (R.2.2 ++ [a + zl m a]).length ≤ 8
        rw [List.length_append, List.length_singleton]; omega
      · rcases List.mem_append.mp hx with hx | hx
        · exact g3 x hx
        · rw [List.mem_singleton.mp hx]; omega
  · split
    · exact ⟨⟨g1, g2, g3⟩, fun x hx => by cases hx⟩
    · refine ⟨⟨g1, ?_, fun x hx => g3 x (List.mem_of_mem_take hx)⟩, fun x hx => ?_⟩
      · show (R.2.2.take (R.2.2.length - 1)).length ≤ 8
        rw [List.length_take]; omega
      · cases hx
        have := g3 _ (getD_mem (ys := R.2.2) (i := R.2.2.length - 1) (by omega))
        omega
  · refine ⟨⟨g1, g2, g3⟩, fun x hx => ?_⟩
    simp only at hx
    split at hx
    · cases hx; exact hm _ (by assumption)
    · cases hx
  · split
    · exact ⟨⟨up _ (hm _ (by assumption)), g2, g3⟩, fun x hx => by cases hx; omega⟩
    · exact ⟨⟨g1, g2, g3⟩, fun x hx => by cases hx⟩
  · exact ⟨⟨up _ (g1 _), g2, g3⟩, fun x hx => by cases hx; omega⟩
  · refine ⟨⟨up _ (Nat.lt_of_le_of_lt Nat.and_le_left (g1 _)), g2, g3⟩, fun x hx => by cases hx; omega⟩
  · exact ⟨⟨g1, g2, g3⟩, fun x hx => by cases hx⟩
  · exact ⟨⟨g1, g2, g3⟩, fun x hx => by cases hx; omega⟩
