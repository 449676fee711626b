/-! PURE: bits of words -/
set_option maxRecDepth 100000
def cnt (p : Nat → Bool) : Nat → Nat
  | 0 => 0
  | n + 1 => cnt p n + (if p n then 1 else 0)
theorem cnt_add (p : Nat → Bool) (m : Nat) : ∀ n, cnt p (m + n) = cnt p m + cnt (fun k => p (m + k)) n
  | 0 => rfl
  | n + 1 => by
    show cnt p (m + n) + (if p (m + n) then 1 else 0) = cnt p m + (cnt (fun k => p (m + k)) n + (if p (m + n) then 1 else 0))
    rw [cnt_add p m n, Nat.add_assoc]
theorem cnt_congr {p q : Nat → Bool} : ∀ {n : Nat}, (∀ k, k < n → p k = q k) → cnt p n = cnt q n
  | 0, _ => rfl
  | n + 1, h => by
    show cnt p n + _ = cnt q n + _
    rw [cnt_congr (n := n) (fun k hk => h k (by omega)), h n (by omega)]
theorem cnt_le (p : Nat → Bool) : ∀ n, cnt p n ≤ n
  | 0 => Nat.le_refl _
  | n + 1 => by have := cnt_le p n; show cnt p n + _ ≤ _; split <;> omega
theorem tb8 {a b : Nat} (hb : b < 256) (j : Nat) : (a * 256 + b).testBit j = if j < 8 then b.testBit j else a.testBit (j - 8) := by
  rw [Nat.mul_comm]; exact Nat.testBit_two_pow_mul_add a (i := 8) hb j
theorem land8 {a b c d : Nat} (hb : b < 256) (hd : d < 256) : (a * 256 + b) &&& (c * 256 + d) = (a &&& c) * 256 + (b &&& d) := by
  apply Nat.eq_of_testBit_eq
  intro j
  rw [Nat.testBit_and, tb8 hb, tb8 hd, tb8 (Nat.lt_of_le_of_lt Nat.and_le_left hb)]
  split <;> simp
theorem step1 {a b M : Nat} (hb : b < 256) : (a * 256 + b) - (((a * 256 + b) / 2) &&& (M * 256 + 85)) = (a - (a / 2 &&& M)) * 256 + (b - (b / 2 &&& 85)) := by
  have e : (a * 256 + b) / 2 = (a / 2) * 256 + (a % 2 * 128 + b / 2) := by omega
  have f : ∀ b, b < 256 → ∀ c, c < 2 → (c * 128 + b / 2) &&& 85 = b / 2 &&& 85 := by decide +kernel
  rw [e, land8 (by omega) (by decide), f b hb _ (by omega)]
  have h1 : a / 2 &&& M ≤ a / 2 := Nat.and_le_left
  have h2 : b / 2 &&& 85 ≤ b / 2 := Nat.and_le_left
  generalize a / 2 &&& M = x at *
  generalize b / 2 &&& 85 = y at *
  rw [Nat.sub_mul]
  omega
theorem step2 {a b M : Nat} (hb : b < 256) : ((a * 256 + b) &&& (M * 256 + 51)) + (((a * 256 + b) / 4) &&& (M * 256 + 51)) = ((a &&& M) + (a / 4 &&& M)) * 256 + ((b &&& 51) + (b / 4 &&& 51)) := by
  have e : (a * 256 + b) / 4 = (a / 4) * 256 + (a % 4 * 64 + b / 4) := by omega
  have f : ∀ b, b < 256 → ∀ c, c < 4 → (c * 64 + b / 4) &&& 51 = b / 4 &&& 51 := by decide +kernel
  rw [e, land8 (by omega) (by decide), land8 (by omega) (by decide), f b hb _ (by omega), Nat.add_mul]
  omega
theorem step3 {a b M : Nat} (hb : b < 69) (hn : a % 16 ≤ 4) : ((a * 256 + b) + (a * 256 + b) / 16) &&& (M * 256 + 15) = ((a + a / 16) &&& M) * 256 + ((b + b / 16) &&& 15) := by
  have e : (a * 256 + b) + (a * 256 + b) / 16 = (a + a / 16) * 256 + (a % 16 * 16 + (b + b / 16)) := by omega
  have f : ∀ b, b < 69 → ∀ c, c < 5 → (c * 16 + (b + b / 16)) &&& 15 = (b + b / 16) &&& 15 := by decide +kernel
  rw [e, land8 (by omega) (by decide), f b hb _ (by omega)]
/-- masks of k bytes -/
def mk5 : Nat → Nat
  | 0 => 0
  | k + 1 => mk5 k * 256 + 85
def mk3 : Nat → Nat
  | 0 => 0
  | k + 1 => mk3 k * 256 + 51
def mkF : Nat → Nat
  | 0 => 0
  | k + 1 => mkF k * 256 + 15
def w1 (k x : Nat) : Nat := x - (x / 2 &&& mk5 k)
def w2 (k x : Nat) : Nat := (x &&& mk3 k) + (x / 4 &&& mk3 k)
def w3 (k x : Nat) : Nat := (x + x / 16) &&& mkF k
def ww (k x : Nat) : Nat := w3 k (w2 k (w1 k x))
/-- the bytes' counts -/
def pcs : Nat → Nat → Nat
  | 0, _ => 0
  | k + 1, x => pcs k (x / 256) * 256 + cnt (fun j => x.testBit j) 8
theorem b8 : ∀ b, b < 256 → (b - (b / 2 &&& 85) < 256 ∧ (((b - (b / 2 &&& 85)) &&& 51) + ((b - (b / 2 &&& 85)) / 4 &&& 51)) < 69 ∧ (((b - (b / 2 &&& 85)) &&& 51) + ((b - (b / 2 &&& 85)) / 4 &&& 51)) % 16 ≤ 4 ∧ (((((b - (b / 2 &&& 85)) &&& 51) + ((b - (b / 2 &&& 85)) / 4 &&& 51)) + (((b - (b / 2 &&& 85)) &&& 51) + ((b - (b / 2 &&& 85)) / 4 &&& 51)) / 16) &&& 15) = cnt (fun j => b.testBit j) 8) := by decide +kernel
theorem ww_pcs : ∀ (k x : Nat), x < 256 ^ k → ww k x = pcs k x ∧ (w2 k (w1 k x)) % 16 ≤ 4
  | 0, x, hx => by
    have : x = 0 := by simpa using hx
    subst this
    decide
  | k + 1, x, hx => by
    have hx2 : x / 256 < 256 ^ k := by rw [Nat.pow_succ] at hx; omega
    have ih := ww_pcs k (x / 256) hx2
    have hb : x % 256 < 256 := Nat.mod_lt _ (by decide)
    have hxe : x = x / 256 * 256 + x % 256 := by omega
    obtain ⟨c1, c2, c3, c4⟩ := b8 _ hb
    have e1 : w1 (k + 1) x = w1 k (x / 256) * 256 + (x % 256 - (x % 256 / 2 &&& 85)) := by
      have := step1 (a := x / 256) (M := mk5 k) hb
      rw [← hxe] at this
      exact this
    have e2 : w2 (k + 1) (w1 (k + 1) x) = w2 k (w1 k (x / 256)) * 256 + ((x % 256 - (x % 256 / 2 &&& 85) &&& 51) + ((x % 256 - (x % 256 / 2 &&& 85)) / 4 &&& 51)) := by
      rw [e1]
      exact step2 c1
    have e3 : ww (k + 1) x = ww k (x / 256) * 256 + cnt (fun j => (x % 256).testBit j) 8 := by
      unfold ww
      rw [e2, ← c4]
      exact step3 c2 ih.2
    refine ⟨?_, ?_⟩
    · rw [e3, ih.1]
      show _ = pcs k (x / 256) * 256 + cnt (fun j => x.testBit j) 8
      congr 1
      apply cnt_congr
      intro j hj
      conv => rhs; rw [hxe, tb8 hb, if_pos hj]
    · rw [e2]
      omega
theorem cnt8 {x : Nat} {k : Nat} : cnt (fun j => x.testBit j) (8 + k) = cnt (fun j => x.testBit j) 8 + cnt (fun j => (x / 256).testBit j) k := by
  rw [cnt_add]
  congr 1
  apply cnt_congr
  intro j _
  have hb : x % 256 < 256 := Nat.mod_lt _ (by decide)
  have hxe : x = x / 256 * 256 + x % 256 := by omega
  conv => lhs; rw [hxe, tb8 hb, if_neg (by omega)]
  congr 1
  omega
def fold (y : Nat) : Nat := (y + y / 2 ^ 8 + (y + y / 2 ^ 8) / 2 ^ 16 + (y + y / 2 ^ 8 + (y + y / 2 ^ 8) / 2 ^ 16) / 2 ^ 32) % 128
theorem fold_pcs (x : Nat) : fold (pcs 8 x) = cnt (fun j => x.testBit j) 64 ∧ pcs 8 x < 2 ^ 60 := by
  have hc : ∀ z : Nat, cnt (fun j => z.testBit j) 8 ≤ 8 := fun z => cnt_le _ 8
  have e : cnt (fun j => x.testBit j) 64 = cnt (fun j => x.testBit j) 8 + (cnt (fun j => (x / 256).testBit j) 8 + (cnt (fun j => (x / 256 / 256).testBit j) 8 + (cnt (fun j => (x / 256 / 256 / 256).testBit j) 8 + (cnt (fun j => (x / 256 / 256 / 256 / 256).testBit j) 8 + (cnt (fun j => (x / 256 / 256 / 256 / 256 / 256).testBit j) 8 + (cnt (fun j => (x / 256 / 256 / 256 / 256 / 256 / 256).testBit j) 8 + (cnt (fun j => (x / 256 / 256 / 256 / 256 / 256 / 256 / 256).testBit j) 8 + 0))))))) := by
    rw [show 64 = 8 + 56 from rfl, cnt8, show 56 = 8 + 48 from rfl, cnt8, show 48 = 8 + 40 from rfl, cnt8, show 40 = 8 + 32 from rfl, cnt8, show 32 = 8 + 24 from rfl, cnt8, show 24 = 8 + 16 from rfl, cnt8, show 16 = 8 + 8 from rfl, cnt8, show cnt (fun j => (x / 256 / 256 / 256 / 256 / 256 / 256 / 256).testBit j) 8 = cnt (fun j => (x / 256 / 256 / 256 / 256 / 256 / 256 / 256).testBit j) (8 + 0) from rfl, cnt8]
    rfl
  rw [e]
  simp only [pcs]
  have h0 := hc x
  have h1 := hc (x / 256)
  have h2 := hc (x / 256 / 256)
  have h3 := hc (x / 256 / 256 / 256)
  have h4 := hc (x / 256 / 256 / 256 / 256)
  have h5 := hc (x / 256 / 256 / 256 / 256 / 256)
  have h6 := hc (x / 256 / 256 / 256 / 256 / 256 / 256)
  have h7 := hc (x / 256 / 256 / 256 / 256 / 256 / 256 / 256)
  generalize cnt (fun j => x.testBit j) 8 = t0 at *
  generalize cnt (fun j => (x / 256).testBit j) 8 = t1 at *
  generalize cnt (fun j => (x / 256 / 256).testBit j) 8 = t2 at *
  generalize cnt (fun j => (x / 256 / 256 / 256).testBit j) 8 = t3 at *
  generalize cnt (fun j => (x / 256 / 256 / 256 / 256).testBit j) 8 = t4 at *
  generalize cnt (fun j => (x / 256 / 256 / 256 / 256 / 256).testBit j) 8 = t5 at *
  generalize cnt (fun j => (x / 256 / 256 / 256 / 256 / 256 / 256).testBit j) 8 = t6 at *
  generalize cnt (fun j => (x / 256 / 256 / 256 / 256 / 256 / 256 / 256).testBit j) 8 = t7 at *
  clear hc e
  unfold fold
  obtain ⟨y0, hy0⟩ : ∃ y, y = 0 * 256 + t7 := ⟨_, rfl⟩
  rw [← hy0]
  obtain ⟨y1, hy1⟩ : ∃ y, y = y0 * 256 + t6 := ⟨_, rfl⟩
  rw [← hy1]
  obtain ⟨y2, hy2⟩ : ∃ y, y = y1 * 256 + t5 := ⟨_, rfl⟩
  rw [← hy2]
  obtain ⟨y3, hy3⟩ : ∃ y, y = y2 * 256 + t4 := ⟨_, rfl⟩
  rw [← hy3]
  obtain ⟨y4, hy4⟩ : ∃ y, y = y3 * 256 + t3 := ⟨_, rfl⟩
  rw [← hy4]
  obtain ⟨y5, hy5⟩ : ∃ y, y = y4 * 256 + t2 := ⟨_, rfl⟩
  rw [← hy5]
  obtain ⟨y6, hy6⟩ : ∃ y, y = y5 * 256 + t1 := ⟨_, rfl⟩
  rw [← hy6]
  obtain ⟨y7, hy7⟩ : ∃ y, y = y6 * 256 + t0 := ⟨_, rfl⟩
  rw [← hy7]
  have g1 : y7 / 2 ^ 8 = y6 := by clear hy0 hy1 hy2 hy3 hy4 hy5 hy6; omega
  rw [g1]
  have z7 : y7 + y6 = (y6 + y5) * 256 + (t0 + t1) := by omega
  have z6 : y6 + y5 = (y5 + y4) * 256 + (t1 + t2) := by omega
  have z5 : y5 + y4 = (y4 + y3) * 256 + (t2 + t3) := by omega
  have z4 : y4 + y3 = (y3 + y2) * 256 + (t3 + t4) := by omega
  have z3 : y3 + y2 = (y2 + y1) * 256 + (t4 + t5) := by omega
  have z2 : y2 + y1 = (y1 + y0) * 256 + (t5 + t6) := by omega
  have z1 : y1 + y0 = y0 * 256 + (t6 + t7) := by omega
  have b0 : y0 ≤ 8 := by omega
  have b1 : y1 ≤ 2056 := by omega
  have b2 : y2 ≤ 526344 := by omega
  have b3 : y3 < 2 ^ 28 := by omega
  have b4 : y4 < 2 ^ 36 := by omega
  have b5 : y5 < 2 ^ 44 := by omega
  have b6 : y6 < 2 ^ 52 := by omega
  have b7 : y7 < 2 ^ 60 := by omega
  refine ⟨?_, b7⟩
  clear b0 b1 b2 b3 b4 b5 b6 b7 hy0 hy1 hy2 hy3 hy4 hy5 hy6 hy7
  generalize y7 + y6 = u7 at *
  generalize y6 + y5 = u6 at *
  generalize y5 + y4 = u5 at *
  generalize y4 + y3 = u4 at *
  generalize y3 + y2 = u3 at *
  generalize y2 + y1 = u2 at *
  generalize y1 + y0 = u1 at *
  have g2 : u7 / 2 ^ 16 = u5 := by clear z5 z4 z3 z2 z1 g1; omega
  rw [g2]
  have v7 : u7 + u5 = (u6 + u4) * 256 + (t0 + t1 + t2 + t3) := by clear g2 g1; omega
  have v6 : u6 + u4 = (u5 + u3) * 256 + (t1 + t2 + t3 + t4) := by clear g2 g1 v7; omega
  have v5 : u5 + u3 = (u4 + u2) * 256 + (t2 + t3 + t4 + t5) := by clear g2 g1 v7 v6; omega
  have v4 : u4 + u2 = (u3 + u1) * 256 + (t3 + t4 + t5 + t6) := by clear g2 g1 v7 v6 v5; omega
  have v3 : u3 + u1 = (u2 + y0) * 256 + (t4 + t5 + t6 + t7) := by clear g2 g1 v7 v6 v5 v4; omega
  clear g1 g2 z1 z2 z3 z4 z5 z6 z7
  generalize u7 + u5 = v7' at *
  generalize u6 + u4 = v6' at *
  generalize u5 + u3 = v5' at *
  generalize u4 + u2 = v4' at *
  generalize u3 + u1 = v3' at *
  generalize u2 + y0 = v2' at *
  have g3 : v7' / 2 ^ 32 = v3' := by clear v3; omega
  rw [g3]
  clear g3
  have e1 : (v7' + v3') % 128 = (t0 + t1 + t2 + t3 + (t4 + t5 + t6 + t7)) % 128 := by clear v4 v5 v6; omega
  rw [e1]
  omega

/-- a bit of a word -/
def gb (w : Int64) (k : Nat) : Bool := w.toBitVec.getLsbD k
theorem gb_and (v w : Int64) (k : Nat) : gb (v &&& w) k = (gb v k && gb w k) := by unfold gb; rw [Int64.toBitVec_and, BitVec.getLsbD_and]
theorem gb_or (v w : Int64) (k : Nat) : gb (v ||| w) k = (gb v k || gb w k) := by unfold gb; rw [Int64.toBitVec_or, BitVec.getLsbD_or]
theorem gb_0 (k : Nat) : gb 0 k = false := by unfold gb; simp
theorem gb_ext {v w : Int64} (h : ∀ k, k < 64 → gb v k = gb w k) : v = w := by
  apply Int64.toBitVec_inj.mp
  apply BitVec.eq_of_getLsbD_eq
  intro i hi
  exact h i hi
theorem gb_z {w : Int64} : w = 0 ↔ ∀ k, k < 64 → gb w k = false := ⟨fun h k _ => by rw [h, gb_0], fun h => gb_ext (fun k hk => by rw [h k hk, gb_0])⟩
theorem gb_tb (w : Int64) (k : Nat) : gb w k = w.toBitVec.toNat.testBit k := rfl
theorem bc_fold (p0 : BitVec 64) : (p0.toNat < 2 ^ 64) := p0.isLt
def bs1 (x : BitVec 64) : BitVec 64 := x - ((x >>> 1) &&& 6148914691236517205#64)
def bs2 (x : BitVec 64) : BitVec 64 := (x &&& 3689348814741910323#64) + ((x >>> 2) &&& 3689348814741910323#64)
def bs3 (x : BitVec 64) : BitVec 64 := (x + (x >>> 4)) &&& 1085102592571150095#64
theorem bs_n (x : BitVec 64) : (bs3 (bs2 (bs1 x))).toNat = ww 8 x.toNat := by
  have hx := x.isLt
  have e1 : (bs1 x).toNat = w1 8 x.toNat := by
    unfold bs1 w1
    rw [BitVec.toNat_sub_of_le]
    · rw [BitVec.toNat_and, BitVec.toNat_ushiftRight, Nat.shiftRight_eq_div_pow]; rfl
    · rw [BitVec.le_def, BitVec.toNat_and, BitVec.toNat_ushiftRight, Nat.shiftRight_eq_div_pow]
      exact Nat.le_trans Nat.and_le_left (Nat.div_le_self _ _)
  have e2 : (bs2 (bs1 x)).toNat = w2 8 (w1 8 x.toNat) := by
    unfold bs2 w2
    rw [BitVec.toNat_add, BitVec.toNat_and, BitVec.toNat_and, BitVec.toNat_ushiftRight, Nat.shiftRight_eq_div_pow, e1]
    have h1 : w1 8 x.toNat &&& mk3 8 ≤ mk3 8 := Nat.and_le_right
    have h2 : w1 8 x.toNat / 4 &&& mk3 8 ≤ mk3 8 := Nat.and_le_right
    have h3 : mk3 8 = 3689348814741910323 := by decide
    show ((w1 8 x.toNat &&& mk3 8) + (w1 8 x.toNat / 4 &&& mk3 8)) % 2 ^ 64 = _
    rw [Nat.mod_eq_of_lt (by omega)]
  have h1 : w1 8 x.toNat &&& mk3 8 ≤ mk3 8 := Nat.and_le_right
  have h2 : w1 8 x.toNat / 4 &&& mk3 8 ≤ mk3 8 := Nat.and_le_right
  have h3 : mk3 8 = 3689348814741910323 := by decide
  have h4 : w2 8 (w1 8 x.toNat) ≤ 2 * 3689348814741910323 := by unfold w2; omega
  unfold bs3 ww w3
  rw [BitVec.toNat_and, BitVec.toNat_add, BitVec.toNat_ushiftRight, Nat.shiftRight_eq_div_pow, e2]
  show (w2 8 (w1 8 x.toNat) + w2 8 (w1 8 x.toNat) / 16) % 2 ^ 64 &&& mkF 8 = _
  rw [Nat.mod_eq_of_lt (by omega)]
def bs6 (y : BitVec 64) : BitVec 64 := y + y >>> 8 + (y + y >>> 8) >>> 16 + (y + y >>> 8 + (y + y >>> 8) >>> 16) >>> 32
theorem bs6_n (y : BitVec 64) (hy : y.toNat < 2 ^ 60) : (bs6 y).toNat % 128 = fold y.toNat := by
  unfold bs6 fold
  simp only [BitVec.toNat_add, BitVec.toNat_ushiftRight, Nat.shiftRight_eq_div_pow]
  generalize y.toNat = x at *
  rw [Nat.mod_eq_of_lt (show x + x / 2 ^ 8 < 2 ^ 64 by omega), Nat.mod_eq_of_lt (show x + x / 2 ^ 8 + (x + x / 2 ^ 8) / 2 ^ 16 < 2 ^ 64 by omega)]
  rw [Nat.mod_eq_of_lt (show x + x / 2 ^ 8 + (x + x / 2 ^ 8) / 2 ^ 16 + (x + x / 2 ^ 8 + (x + x / 2 ^ 8) / 2 ^ 16) / 2 ^ 32 < 2 ^ 64 by omega)]
theorem lo7 (z : BitVec 64) : ((Int64.ofBitVec z).toInt32 &&& 127).toBitVec.toNat = z.toNat % 128 := by
  rw [Int32.toBitVec_and, BitVec.toNat_and]
  have : (Int64.ofBitVec z).toInt32.toBitVec.toNat = z.toNat % 2 ^ 32 := by
    show (BitVec.signExtend 32 z).toNat = _
    rw [BitVec.signExtend_eq_setWidth_of_le _ (by decide), BitVec.toNat_setWidth]
  rw [this]
  show z.toNat % 2 ^ 32 &&& (2 ^ 7 - 1) = _
  rw [Nat.and_two_pow_sub_one_eq_mod]
  omega
theorem bc_all (x : BitVec 64) : ((Int64.ofBitVec (bs6 (bs3 (bs2 (bs1 x))))).toInt32 &&& 127) = Int32.ofNat (cnt (fun j => x.getLsbD j) 64) := by
  apply Int32.toBitVec_inj.mp
  apply BitVec.eq_of_toNat_eq
  have h0 := bs_n x
  rw [(ww_pcs 8 x.toNat (by have := x.isLt; simpa using this)).1] at h0
  obtain ⟨f1, f2⟩ := fold_pcs x.toNat
  rw [lo7, bs6_n _ (by rw [h0]; exact f2), h0, f1]
  have : cnt (fun j => x.toNat.testBit j) 64 ≤ 64 := cnt_le _ _
  show _ = (BitVec.ofNat 32 _).toNat
  rw [BitVec.toNat_ofNat, Nat.mod_eq_of_lt]
  · rfl
  · show cnt (fun j => x.toNat.testBit j) 64 < _
    omega
/-! trailing zeros -/
theorem tz_and {k q n : Nat} (hk : k < n) (hq : q < 2 ^ (n - k - 1)) : (2 ^ n - 1 - (2 ^ (k + 1) * q + 2 ^ k)) &&& (2 ^ (k + 1) * q + 2 ^ k - 1) = 2 ^ k - 1 := by
  have h2 : 2 ^ n = 2 ^ (k + 1) * 2 ^ (n - k - 1) := by rw [← Nat.pow_add]; congr 1; omega
  have hlt : 2 ^ (k + 1) * q + 2 ^ k < 2 ^ n := by
    have : 2 ^ (k + 1) * (q + 1) ≤ 2 ^ (k + 1) * 2 ^ (n - k - 1) := Nat.mul_le_mul_left _ hq
    rw [Nat.mul_add, ← h2, Nat.pow_succ] at this
    have hp : 0 < 2 ^ k := Nat.two_pow_pos k
    rw [Nat.pow_succ]
    omega
  have hp : 0 < 2 ^ k := Nat.two_pow_pos k
  apply Nat.eq_of_testBit_eq
  intro j
  rw [Nat.testBit_and, show 2 ^ n - 1 - (2 ^ (k + 1) * q + 2 ^ k) = 2 ^ n - (2 ^ (k + 1) * q + 2 ^ k + 1) by omega, Nat.testBit_two_pow_sub_succ hlt, Nat.testBit_two_pow_mul_add _ (by rw [Nat.pow_succ]; omega), show 2 ^ (k + 1) * q + 2 ^ k - 1 = 2 ^ (k + 1) * q + (2 ^ k - 1) by omega, Nat.testBit_two_pow_mul_add _ (by rw [Nat.pow_succ]; omega), Nat.testBit_two_pow_sub_one, Nat.testBit_two_pow]
  by_cases hj : j < k + 1
  · rw [if_pos hj, if_pos hj]
    by_cases hjk : j = k
    · subst hjk; simp
    · have : j < k := by omega
      have h3 : j < n := by omega
      simp [this, h3, Ne.symm hjk]
  · rw [if_neg hj, if_neg hj]
    have : ¬ j < k := by omega
    simp [this]

theorem low_q {x k : Nat} (h1 : ∀ j, j < k → x.testBit j = false) (h2 : x.testBit k = true) : x = 2 ^ (k + 1) * (x / 2 ^ (k + 1)) + 2 ^ k := by
  have e1 : x % 2 ^ k = 0 := by
    apply Nat.eq_of_testBit_eq
    intro j
    rw [Nat.testBit_mod_two_pow, Nat.zero_testBit]
    by_cases hj : j < k
    · rw [h1 j hj]; simp
    · simp [hj]
  have e2 : x / 2 ^ k % 2 = 1 := by
    have := h2
    rw [Nat.testBit_eq_decide_div_mod_eq] at this
    exact of_decide_eq_true this
  have e3 : x = 2 ^ k * (x / 2 ^ k) := by have := Nat.div_add_mod x (2 ^ k); omega
  have e4 : x / 2 ^ (k + 1) = x / 2 ^ k / 2 := by rw [Nat.pow_succ, Nat.div_div_eq_div_mul]
  rw [e4, Nat.pow_succ, Nat.mul_assoc]
  have e5 : 2 * (x / 2 ^ k / 2) + 1 = x / 2 ^ k := by omega
  have : 2 ^ k * (2 * (x / 2 ^ k / 2)) + 2 ^ k = 2 ^ k * (2 * (x / 2 ^ k / 2) + 1) := by rw [Nat.mul_add]; omega
  rw [this, e5]
  exact e3
def sr (x : Int32) (k : Nat) : Int32 := Int32.ofBitVec (x.toBitVec >>> k)
def tv4 (x n : Int32) : Int32 := n + sr x 1
def tv3 (x n : Int32) : Int32 := if x ≤ 4 then tv4 x n else tv4 (sr x 2) (n + 2)
def tv2 (x n : Int32) : Int32 := if x ≤ 16 then tv3 x n else tv3 (sr x 4) (n + 4)
def tv1 (x n : Int32) : Int32 := if x ≤ 256 then tv2 x n else tv2 (sr x 8) (n + 8)
def tv0 (i : Int32) : Int32 := if 0 < i then (if i ≤ 65536 then tv1 i 1 else tv1 (sr i 16) (1 + 16)) else i &&& 32
theorem tv_ok : ∀ k, k < 32 → tv0 (Int32.ofNat (2 ^ k - 1)) = Int32.ofNat k := by decide +kernel
theorem tz32 {p : Int32} {k : Nat} (hk : k < 32) (h1 : ∀ j, j < k → p.toBitVec.toNat.testBit j = false) (h2 : p.toBitVec.toNat.testBit k = true) : tv0 ((p ^^^ (-1)) &&& (p - 1)) = Int32.ofNat k := by
  rw [← tv_ok k hk]
  congr 1
  apply Int32.toBitVec_inj.mp
  apply BitVec.eq_of_toNat_eq
  have hx := low_q h1 h2
  have hlt := p.toBitVec.isLt
  have hp : 0 < 2 ^ k := Nat.two_pow_pos k
  have hp2 : 2 ^ k < 2 ^ 32 := Nat.pow_lt_pow_right (by decide) hk
  have e1 : (p ^^^ (-1)).toBitVec.toNat = 2 ^ 32 - 1 - p.toBitVec.toNat := by
    rw [Int32.toBitVec_xor]
    show (p.toBitVec ^^^ BitVec.allOnes 32).toNat = _
    rw [BitVec.xor_allOnes, BitVec.toNat_not]
  have e2 : (p - 1).toBitVec.toNat = p.toBitVec.toNat - 1 := by
    rw [Int32.toBitVec_sub]
    show (p.toBitVec - 1#32).toNat = _
    rw [BitVec.toNat_sub_of_le]
    · rfl
    · rw [BitVec.le_def]
      show 1 ≤ p.toBitVec.toNat
      omega
  rw [Int32.toBitVec_and, BitVec.toNat_and, e1, e2]
  show _ = (BitVec.ofNat 32 _).toNat
  rw [BitVec.toNat_ofNat, Nat.mod_eq_of_lt (by omega)]
  have hq : p.toBitVec.toNat / 2 ^ (k + 1) < 2 ^ (32 - k - 1) := by
    rw [Nat.div_lt_iff_lt_mul (Nat.two_pow_pos _), ← Nat.pow_add, show 32 - k - 1 + (k + 1) = 32 by omega]
    exact hlt
  have := tz_and hk hq
  rw [← hx] at this
  exact this
theorem t32_n (z : BitVec 64) : (Int64.ofBitVec z).toInt32.toBitVec.toNat = z.toNat % 2 ^ 32 := by
  show (BitVec.signExtend 32 z).toNat = _
  rw [BitVec.signExtend_eq_setWidth_of_le _ (by decide), BitVec.toNat_setWidth]
/-- 64 bits -/
def tv64 (w : Int64) : Int32 := if ¬ w.toInt32 = 0 then tv0 ((w.toInt32 ^^^ (-1)) &&& (w.toInt32 - 1)) else (32 : Int32) + tv0 (((Int64.ofBitVec (w.toBitVec >>> 32)).toInt32 ^^^ (-1 : Int32)) &&& ((Int64.ofBitVec (w.toBitVec >>> 32)).toInt32 - (1 : Int32)))
theorem tz64 {w : Int64} {k : Nat} (hk : k < 64) (h1 : ∀ j, j < k → gb w j = false) (h2 : gb w k = true) : tv64 w = Int32.ofNat k := by
  unfold tv64
  have e : w.toInt32.toBitVec.toNat = w.toBitVec.toNat % 2 ^ 32 := t32_n w.toBitVec
  by_cases hk2 : k < 32
  · rw [if_pos, tz32 hk2]
    · intro j hj
      rw [e, Nat.testBit_mod_two_pow, show w.toBitVec.toNat.testBit j = gb w j from rfl, h1 j hj]; simp
    · rw [e, Nat.testBit_mod_two_pow, show w.toBitVec.toNat.testBit k = gb w k from rfl, h2]; simp [hk2]
    · intro z
      rw [z] at e
      have : (w.toBitVec.toNat % 2 ^ 32).testBit k = false := by rw [← e]; simp
      rw [Nat.testBit_mod_two_pow, show w.toBitVec.toNat.testBit k = gb w k from rfl, h2] at this
      simp [hk2] at this
  · have e2 : (Int64.ofBitVec (w.toBitVec >>> 32)).toInt32.toBitVec.toNat = w.toBitVec.toNat / 2 ^ 32 := by
      rw [t32_n, BitVec.toNat_ushiftRight, Nat.shiftRight_eq_div_pow]
      have := w.toBitVec.isLt
      omega
    rw [if_neg, tz32 (k := k - 32) (by omega)]
    · show Int32.ofNat 32 + Int32.ofNat (k - 32) = _
      rw [← Int32.ofNat_add]; congr 1; omega
    · intro j hj
      rw [e2, Nat.testBit_div_two_pow, show w.toBitVec.toNat.testBit (j + 32) = gb w (j + 32) from rfl]
      exact h1 _ (by omega)
    · rw [e2, Nat.testBit_div_two_pow, show w.toBitVec.toNat.testBit (k - 32 + 32) = gb w (k - 32 + 32) from rfl, show k - 32 + 32 = k by omega]
      exact h2
    · intro z
      apply z
      apply Int32.toBitVec_inj.mp
      apply BitVec.eq_of_toNat_eq
      rw [e]
      show _ = 0
      apply Nat.eq_of_testBit_eq
      intro j
      rw [Nat.testBit_mod_two_pow, Nat.zero_testBit]
      by_cases hj : j < 32
      · rw [show w.toBitVec.toNat.testBit j = gb w j from rfl, h1 j (by omega)]; simp
      · simp [hj]
/-! masks -/
theorem sh_amt : ∀ x, x < 256 → ((Int32.ofNat x).toInt64 &&& 63) = Int64.ofNat (x % 64) := by decide +kernel
theorem sh_1 : ∀ y, y < 64 → ((1 : Int64) <<< Int64.ofNat y).toBitVec = 1#64 <<< y := by decide +kernel
theorem sh_m : ∀ y, y < 64 → ((-1 : Int64) <<< Int64.ofNat y).toBitVec = BitVec.allOnes 64 <<< y := by decide +kernel
theorem gb_one {x k : Nat} (hx : x < 256) (hk : k < 64) : gb ((1 : Int64) <<< ((Int32.ofNat x).toInt64 &&& 63)) k = decide (k = x % 64) := by
  unfold gb
  rw [sh_amt x hx, sh_1 _ (Nat.mod_lt _ (by decide)), BitVec.getLsbD_shiftLeft]
  have h1 := Nat.mod_lt x (show 0 < 64 by decide)
  by_cases h : k = x % 64
  · simp [h, h1]
  · by_cases h3 : k < x % 64
    · simp [h3, h]
    · simp only [h3, h, hk, decide_true, decide_false, Bool.not_false, Bool.true_and]
      rw [BitVec.getLsbD_one]
      simp
      omega
theorem gb_mon {x k : Nat} (hx : x < 256) (hk : k < 64) : gb ((-1 : Int64) <<< ((Int32.ofNat x).toInt64 &&& 63)) k = decide (x % 64 ≤ k) := by
  unfold gb
  rw [sh_amt x hx, sh_m _ (Nat.mod_lt _ (by decide)), BitVec.getLsbD_shiftLeft]
  by_cases h3 : k < x % 64
  · simp [h3]
  · have h4 : k - x % 64 < 64 := by omega
    have h5 : x % 64 ≤ k := by omega
    rw [BitVec.getLsbD_allOnes]
    simp only [h3, hk, h4, h5, decide_true, decide_false, Bool.not_false, Bool.true_and]
