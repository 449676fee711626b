/-! PURE: BitSet -/
set_option maxRecDepth 100000
section
variable {B : Nat} {h h' : AH}
theorem p_ntz (w : Int64) : f_J26_numberOfTrailingZeros w h = rtI (tv64 w) h := by
  have e : ∀ p : Int32, f_J9_numberOfTrailingZeros p h = rtI (tv0 ((p ^^^ (-1)) &&& (p - 1))) h := by
    intro p
    have s : ∀ (x : Int32), (x.toUInt32 >>> ((1 : Int32).toUInt32 &&& Int32.toUInt32 31)).toInt32 = sr x 1 := fun _ => rfl
    have s2 : ∀ (x : Int32), (x.toUInt32 >>> ((2 : Int32).toUInt32 &&& Int32.toUInt32 31)).toInt32 = sr x 2 := fun _ => rfl
    have s4 : ∀ (x : Int32), (x.toUInt32 >>> ((4 : Int32).toUInt32 &&& Int32.toUInt32 31)).toInt32 = sr x 4 := fun _ => rfl
    have s8 : ∀ (x : Int32), (x.toUInt32 >>> ((8 : Int32).toUInt32 &&& Int32.toUInt32 31)).toInt32 = sr x 8 := fun _ => rfl
    have s16 : ∀ (x : Int32), (x.toUInt32 >>> ((16 : Int32).toUInt32 &&& Int32.toUInt32 31)).toInt32 = sr x 16 := fun _ => rfl
    have e4 : ∀ x n, f_J9_numberOfTrailingZeros_J74 x n h = rtI (tv4 x n) h := fun _ _ => rfl
    have e3 : ∀ x n, f_J9_numberOfTrailingZeros_J62 x n h = rtI (tv3 x n) h := fun x n => by
      unfold f_J9_numberOfTrailingZeros_J62 tv3; rw [s2, e4, e4]; split <;> rfl
    have e2 : ∀ x n, f_J9_numberOfTrailingZeros_J49 x n h = rtI (tv2 x n) h := fun x n => by
      unfold f_J9_numberOfTrailingZeros_J49 tv2; rw [s4, e3, e3]; split <;> rfl
    have e1 : ∀ x n, f_J9_numberOfTrailingZeros_J34 x n h = rtI (tv1 x n) h := fun x n => by
      unfold f_J9_numberOfTrailingZeros_J34 tv1; rw [s8, e2, e2]; split <;> rfl
    unfold f_J9_numberOfTrailingZeros tv0
    rw [s16, e1, e1]
    split
    · split <;> rfl
    · rfl
  unfold f_J26_numberOfTrailingZeros tv64
  have s : (w.toUInt64 >>> ((32 : Int32).toInt64.toUInt64 &&& Int64.toUInt64 63)).toInt64 = Int64.ofBitVec (w.toBitVec >>> 32) := rfl
  rw [s, e, e, cI_rt, cI_rt]
  split <;> rfl
theorem p_bc (w : Int64) : f_J26_bitCount w h = rtI (nI (cnt (gb w) 64)) h := by
  have : rtI ((Int64.ofBitVec (bs6 (bs3 (bs2 (bs1 w.toBitVec))))).toInt32 &&& 127) h = rtI (nI (cnt (gb w) 64)) h := by rw [bc_all]; rfl
  rw [← this]
  rfl
theorem lgc (x : Int64) : (lg_cmp x 0 = 0) ↔ x = 0 := by
  unfold lg_cmp
  by_cases h1 : x > 0
  · rw [if_pos h1]
    refine ⟨fun z => absurd z (by decide), fun z => ?_⟩
    subst z
    exact absurd h1 (by decide)
  · rw [if_neg h1]
    by_cases h2 : x = 0
    · rw [if_pos h2]; exact ⟨fun _ => h2, fun _ => rfl⟩
    · rw [if_neg h2]; exact ⟨fun z => absurd z (by decide), fun z => absurd z h2⟩
theorem p_inv (g : GH B h) {b : Option Nat} : f_J20_checkInvariants b h = rtV h := by
  obtain ⟨⟨tC, tD, mi, ad, w⟩, g2, g3⟩ := g
  have e : hst h 3 = .int 1 := w.2.2.2.2.2.2.1
  unfold f_J20_checkInvariants f_J20_checkInvariants_J37 f_J20_checkInvariants_J70 xtI
  simp only [e]
  rfl
theorem p_wi {x : Nat} (hx : x ≤ 100000) : f_J20_wordIndex (nI x) h = rtI (nI (x / 64)) h := by
  unfold f_J20_wordIndex
  rw [pk_shrN (by omega) _ 6 (by decide)]
/-- a BitSet at b: its words w in arr (cap places, u in use) -/
def BW (h : AH) (b arr cap u : Nat) (w : Nat → Int64) : Prop := (∃ st : Int32, h.1 b = some (.inr (13, [.ref arr, .int (nI u), .int st]))) ∧ h.1 arr = some (.inl (3, cap, .inr (.inl w))) ∧ 1 ≤ cap ∧ cap ≤ 8 ∧ u ≤ cap ∧ ∀ i, u ≤ i → i < cap → w i = 0
/-- its bits -/
def bitsOf (u : Nat) (w : Nat → Int64) (j : Nat) : Bool := decide (j / 64 < u) && gb (w (j / 64)) (j % 64)
def BS (h : AH) (b arr cap : Nat) (S : Nat → Bool) : Prop := ∃ u w, BW h b arr cap u w ∧ ∀ j, S j = bitsOf u w j
theorem BS.cg {b arr cap : Nat} {S S' : Nat → Bool} (s : BS h b arr cap S) (e : ∀ j, S' j = S j) : BS h b arr cap S' := by
  obtain ⟨u, w, b1, b2⟩ := s
  exact ⟨u, w, b1, fun j => by rw [e, b2]⟩
theorem BS.rc {b arr cap : Nat} {S : Nat → Bool} (s : BS h b arr cap S) {X : RS} : xrc h (some b) 13 X = X := by
  obtain ⟨u, w, ⟨⟨st, b1⟩, b2⟩, b3⟩ := s
  exact rc_v (rdo b1)
theorem BS.ne {b arr cap : Nat} {S : Nat → Bool} (s : BS h b arr cap S) : NE h (fun a => a = b ∨ a = arr) := by
  obtain ⟨u, w, ⟨⟨st, b1⟩, b2, b3⟩, b4⟩ := s
  rintro a (rfl | rfl)
  · exact ⟨_, b1, fun c fs z => by cases z; decide⟩
  · exact ⟨_, b2, fun c fs z => by cases z⟩
theorem BS.fin {b arr cap : Nat} {S : Nat → Bool} (s : BS h b arr cap S) {j : Nat} (hj : S j = true) : j < 512 := by
  obtain ⟨u, w, ⟨_, _, _, b3, b4, _⟩, b5⟩ := s
  rw [b5] at hj
  unfold bitsOf at hj
  simp only [Bool.and_eq_true, decide_eq_true_eq] at hj
  omega
theorem p_bnew (g : GH B h) {b : Nat} (he : h.1 b = some (.inr (13, fsJ20))) (hc : 1 ≤ hcl h) (hs : 1 ≤ hsl h) : ∃ h', f_J20_init (some b) h = rtV h' ∧ BS h' b (hsz h) 1 (fun _ => false) ∧ Kp (fun a => a = b) 1 1 h h' ∧ GH B h' ∧ hsz h' = hsz h + 1 := by
  have hd := (g.fresh he).2
  refine ⟨hset (hnew h (.inl (3, zA 3 1)) 1) b (.inr (13, [.ref (hsz h), .int 0, .int 0])), ?_, ⟨0, fun _ => 0, ⟨⟨0, hset_s⟩, by rw [hset_o (Ne.symm hd)]; exact hnew_s, by decide, by decide, by decide, fun _ _ _ => rfl⟩, fun j => by simp [bitsOf]⟩, ?_, ?_, rfl⟩
  · unfold f_J20_init f_J20_initWords
    rw [nn_v, pF_w [.null, .int 0, .int 0] he (Nat.le_of_ble_eq_true rfl) rfl, pZ_v (Or.inl rfl) hset_s (by decide), hset_ss, rc_v (rdo hset_s), show (64 : Int32) - 1 = nI 63 from rfl, p_wi (by decide), cI_rt, show nI (63 / 64) + 1 = nI 1 from rfl]
    have e0 : hset h b (.inr (13, fsJ20)) = h := hset_eq he
    have e1 : hset h b (.inr (13, [Value.null, .int 0, .int 0].set 2 (.int 0))) = h := e0
    rw [e1, nA_v (by decide) hc hs, pF_w [.ref (hsz h), .int 0, .int 0] (by rw [hnew_o hd]; exact he) (Nat.le_of_ble_eq_true rfl) rfl, cV_rt, pZ_v (Or.inl rfl) hset_s (Nat.le_of_ble_eq_true rfl), hset_ss]
    rfl
  · exact Kp.tr (F1 := fun _ => False) (F2 := fun a => a = b) (Kp.nw hc hs) (Kp.st rfl) (fun _ z => z.elim) (fun _ _ z => z) (by omega) (by omega)
  · exact g.new.set (by rw [hnew_o hd]; exact he)
theorem p_bget (g : GH B h) {b arr cap x : Nat} {S : Nat → Bool} (s : BS h b arr cap S) (hx : x < 256) : f_J20_get (some b) (nI x) h = rtI (bI (S x)) h := by
  obtain ⟨u, w, ⟨⟨st, b1⟩, b2, b3, b4, b5, b6⟩, b7⟩ := id s
  unfold f_J20_get
  rw [if_pos (show (0 : Int32) ≤ nI x from nI_le (a := 0) (by omega) (by omega)), s.rc, p_inv g, cV_rt, p_wi (by omega), cI_rt, gI_v (rdo b1) rfl, b7]
  unfold bitsOf
  by_cases hu : x / 64 < u
  · rw [if_neg (fun z => by have := (nI_leI (by omega) (by omega)).mp z; omega), gA_v (o := some arr) (rdo b1) rfl, lL_v (rdo b2) (by omega) (by omega), decide_eq_true hu, Bool.true_and]
    by_cases hb : gb (w (x / 64)) (x % 64) = true
    · rw [if_neg, rtZ1, hb]; rfl
      rw [lgc, gb_z]
      intro z
      have := z (x % 64) (by omega)
      rw [gb_and, hb, show nI x = Int32.ofNat x from rfl, gb_one hx (by omega)] at this
      simp at this
    · have hb : gb (w (x / 64)) (x % 64) = false := by simpa using hb
      rw [if_pos, rtZ0, hb]; rfl
      rw [lgc, gb_z]
      intro k hk
      rw [gb_and, show nI x = Int32.ofNat x from rfl, gb_one hx hk]
      by_cases hkx : k = x % 64
      · rw [hkx, hb]; rfl
      · simp [hkx]
  · rw [if_pos (nI_le (by omega) (by omega)), rtZ0, decide_eq_false hu]; rfl
/-- the card -/
theorem p_bcL {b arr cap u : Nat} {w : Nat → Int64} (s : BW h b arr cap u w) {K : Int32 → AH → RS} : ∀ (k n i : Nat), i + k = u → k < n → f_J20_cardinality_L4 K n (some b) (nI (cnt (bitsOf u w) (64 * i))) (nI i) h = K (nI (cnt (bitsOf u w) (64 * u))) h := by
  obtain ⟨⟨st, b1⟩, b2, b3, b4, b5, b6⟩ := s
  intro k
  induction k with
  | zero =>
    intro n i hi hn
    obtain ⟨n, rfl⟩ : ∃ n', n = n' + 1 := ⟨n - 1, by omega⟩
    unfold f_J20_cardinality_L4
    rw [gI_v (rdo b1) rfl, if_pos (nI_le (by omega) (by omega)), show i = u by omega]
  | succ k ih =>
    intro n i hi hn
    obtain ⟨n, rfl⟩ : ∃ n', n = n' + 1 := ⟨n - 1, by omega⟩
    unfold f_J20_cardinality_L4
    rw [gI_v (rdo b1) rfl, if_neg (fun z => by have := (nI_leI (by omega) (by omega)).mp z; omega), gA_v (o := some arr) (rdo b1) rfl, lL_v (rdo b2) (by omega) (by omega), p_bc, cI_rt, nI_add, nI_1]
    have : cnt (bitsOf u w) (64 * i) + cnt (gb (w i)) 64 = cnt (bitsOf u w) (64 * (i + 1)) := by
      rw [show 64 * (i + 1) = 64 * i + 64 by omega, cnt_add]
      congr 1
      apply cnt_congr
      intro j hj
      unfold bitsOf
      rw [show (64 * i + j) / 64 = i by omega, show (64 * i + j) % 64 = j by omega, decide_eq_true (show i < u by omega), Bool.true_and]
    rw [this]
    exact ih n (i + 1) (by omega) (by omega)
theorem cnt_ext {p : Nat → Bool} {m : Nat} : ∀ {n : Nat}, m ≤ n → (∀ k, m ≤ k → k < n → p k = false) → cnt p n = cnt p m
  | 0, h, _ => by rw [show m = 0 by omega]
  | n + 1, h, hp => by
    by_cases hm : m = n + 1
    · rw [hm]
    · show cnt p n + _ = _
      rw [hp n (by omega) (by omega), cnt_ext (n := n) (by omega) (fun k h1 h2 => hp k h1 (by omega))]
      rfl
theorem p_bcard {b arr cap : Nat} {S : Nat → Bool} (s : BS h b arr cap S) : f_J20_cardinality (some b) h = rtI (nI (cnt S 512)) h := by
  obtain ⟨u, w, W, b7⟩ := s
  unfold f_J20_cardinality
  have hu : u ≤ 8 := by obtain ⟨_, _, _, b4, b5, _⟩ := W; omega
  have := p_bcL W (K := fun x11 h12 => rtI x11 h12) u FUEL 0 (by omega) (by unfold FUEL; omega)
  rw [show cnt S 512 = cnt (bitsOf u w) (64 * u) from ?_]
  · exact this
  · rw [cnt_congr (q := bitsOf u w) (fun k _ => b7 k)]
    apply cnt_ext (by omega)
    intro k h1 h2
    unfold bitsOf
    rw [decide_eq_false (by omega)]
    rfl
/-- what the next bit is -/
def NX (S : Nat → Bool) (x : Nat) (r : Int32) : Prop := (r = -1 ∧ ∀ j, x ≤ j → S j = false) ∨ ∃ j, r = nI j ∧ j < 512 ∧ x ≤ j ∧ S j = true ∧ ∀ i, x ≤ i → i < j → S i = false
theorem least {p : Nat → Bool} : ∀ {n : Nat}, (∃ k, k < n ∧ p k = true) → ∃ k, k < n ∧ p k = true ∧ ∀ j, j < k → p j = false
  | 0, ⟨k, h, _⟩ => absurd h (Nat.not_lt_zero k)
  | n + 1, ⟨k, h, hp⟩ => by
    by_cases h1 : ∃ k, k < n ∧ p k = true
    · obtain ⟨k, a, b, c⟩ := least h1
      exact ⟨k, by omega, b, c⟩
    · have hk : k = n := Classical.byContradiction (fun z => h1 ⟨k, by omega, hp⟩)
      subst hk
      refine ⟨k, h, hp, fun j hj => ?_⟩
      cases hz : p j with
      | false => rfl
      | true => exact absurd ⟨j, hj, hz⟩ h1
theorem p_bnL {b arr cap u x : Nat} {w : Nat → Int64} {S : Nat → Bool} (s : BW h b arr cap u w) (hS : ∀ j, S j = bitsOf u w j) : ∀ (k n q : Nat) (wd : Int64), q + k + 1 = u → k < n → x < 64 * (q + 1) → (∀ j, j < 64 → gb wd j = (S (64 * q + j) && decide (x ≤ 64 * q + j))) → (∀ j, x ≤ j → j < 64 * q → S j = false) → ∃ r, f_J20_nextSetBit_L63 (fun h18 => rtI (-1) h18) n (some b) (nI q) wd h = rtI r h ∧ NX S x r := by
  obtain ⟨⟨st, b1⟩, b2, b3, b4, b5, b6⟩ := s
  intro k
  have hit : ∀ (n q : Nat) (wd : Int64), q < u → 0 < n → ¬ wd = 0 → (∀ j, j < 64 → gb wd j = (S (64 * q + j) && decide (x ≤ 64 * q + j))) → (∀ j, x ≤ j → j < 64 * q → S j = false) → ∃ r, f_J20_nextSetBit_L63 (fun h18 => rtI (-1) h18) n (some b) (nI q) wd h = rtI r h ∧ NX S x r := by
    intro n q wd hq hn hw hg hlo
    obtain ⟨n, rfl⟩ : ∃ n', n = n' + 1 := ⟨n - 1, by omega⟩
    have hex : ∃ j, j < 64 ∧ gb wd j = true := by
      refine Classical.byContradiction (fun z => hw (gb_z.mpr (fun j hj => ?_)))
      cases hz : gb wd j with
      | false => rfl
      | true => exact absurd ⟨j, hj, hz⟩ z
    obtain ⟨j, j1, j2, j3⟩ := least hex
    unfold f_J20_nextSetBit_L63
    rw [if_neg (fun z => hw ((lgc wd).mp z)), p_ntz, cI_rt, tz64 j1 j3 j2]
    refine ⟨_, rfl, Or.inr ⟨64 * q + j, ?_, by omega, ?_, ?_, fun i h1 h2 => ?_⟩⟩
    · show nI q * nI 64 + nI j = _
      rw [show nI q * nI 64 = nI (q * 64) from (Int32.ofNat_mul q 64).symm, nI_add, Nat.mul_comm]
    · have := hg j j1
      rw [j2] at this
      simp only [Eq.comm (a := true), Bool.and_eq_true, decide_eq_true_eq] at this
      exact this.2
    · have := hg j j1
      rw [j2] at this
      simp only [Eq.comm (a := true), Bool.and_eq_true, decide_eq_true_eq] at this
      exact this.1
    · by_cases hi : i < 64 * q
      · exact hlo i h1 hi
      · have e := hg (i - 64 * q) (by omega)
        rw [j3 _ (by omega), show 64 * q + (i - 64 * q) = i by omega, decide_eq_true h1, Bool.and_true] at e
        exact e.symm
  have zro : ∀ (q : Nat) (wd : Int64), wd = 0 → (∀ j, j < 64 → gb wd j = (S (64 * q + j) && decide (x ≤ 64 * q + j))) → (∀ j, x ≤ j → j < 64 * q → S j = false) → ∀ j, x ≤ j → j < 64 * (q + 1) → S j = false := by
    intro q wd hw hg hlo j h1 h2
    by_cases hi : j < 64 * q
    · exact hlo j h1 hi
    · have e := hg (j - 64 * q) (by omega)
      rw [hw, gb_0, show 64 * q + (j - 64 * q) = j by omega, decide_eq_true h1, Bool.and_true] at e
      exact e.symm
  induction k with
  | zero =>
    intro n q wd hq hn hx hg hlo
    by_cases hw : wd = 0
    · obtain ⟨n, rfl⟩ : ∃ n', n = n' + 1 := ⟨n - 1, by omega⟩
      unfold f_J20_nextSetBit_L63
      rw [if_pos ((lgc wd).mpr hw), gI_v (rdo b1) rfl, nI_1, if_neg (fun z => z (by rw [show q + 1 = u by omega]))]
      refine ⟨_, rfl, Or.inl ⟨rfl, fun j hj => ?_⟩⟩
      by_cases h2 : j < 64 * (q + 1)
      · exact zro q wd hw hg hlo j hj h2
      · rw [hS]
        unfold bitsOf
        rw [decide_eq_false (by omega)]
        rfl
    · exact hit n q wd (by omega) hn hw hg hlo
  | succ k ih =>
    intro n q wd hq hn hx hg hlo
    by_cases hw : wd = 0
    · obtain ⟨n, rfl⟩ : ∃ n', n = n' + 1 := ⟨n - 1, by omega⟩
      unfold f_J20_nextSetBit_L63
      rw [if_pos ((lgc wd).mpr hw), gI_v (rdo b1) rfl, nI_1, if_pos (fun z => by have := (nI_eq (by omega) (by omega)).mp z; omega), gA_v (o := some arr) (rdo b1) rfl, lL_v (rdo b2) (by omega) (by omega)]
      have lo' := zro q wd hw hg hlo
      refine ih n (q + 1) _ (by omega) (by omega) (by omega) (fun j hj => ?_) lo'
      rw [hS, decide_eq_true (by omega), Bool.and_true]
      unfold bitsOf
      rw [show (64 * (q + 1) + j) / 64 = q + 1 by omega, show (64 * (q + 1) + j) % 64 = j by omega, decide_eq_true (by omega), Bool.true_and]
    · exact hit n q wd (by omega) (by omega) hw hg hlo
theorem p_bnext (g : GH B h) {b arr cap x : Nat} {S : Nat → Bool} (s : BS h b arr cap S) (hx : x < 256) : ∃ r, f_J20_nextSetBit (some b) (nI x) h = rtI r h ∧ NX S x r := by
  obtain ⟨u, w, W, b7⟩ := id s
  obtain ⟨⟨st, b1⟩, b2, b3, b4, b5, b6⟩ := id W
  unfold f_J20_nextSetBit
  rw [if_pos (show (0 : Int32) ≤ nI x from nI_le (a := 0) (by omega) (by omega)), s.rc, p_inv g, cV_rt, p_wi (by omega), cI_rt, gI_v (rdo b1) rfl]
  by_cases hu : x / 64 < u
  · rw [if_pos (nI_lt hu (by omega)), gA_v (o := some arr) (rdo b1) rfl, lL_v (rdo b2) (by omega) (by omega)]
    refine p_bnL W b7 (u - x / 64 - 1) FUEL (x / 64) _ (by omega) (by unfold FUEL; omega) (by omega) (fun j hj => ?_) (fun j h1 h2 => by omega)
    rw [gb_and, show nI x = Int32.ofNat x from rfl, gb_mon hx hj, b7]
    unfold bitsOf
    rw [show (64 * (x / 64) + j) / 64 = x / 64 by omega, show (64 * (x / 64) + j) % 64 = j by omega, decide_eq_true hu, Bool.true_and]
    congr 1
    apply decide_eq_decide.mpr
    omega
  · rw [if_neg (nI_nlt (by omega) (by omega))]
    refine ⟨_, rfl, Or.inl ⟨rfl, fun j hj => ?_⟩⟩
    rw [b7]
    unfold bitsOf
    rw [decide_eq_false (by omega)]
    rfl
theorem p_copyL (g : GH B h) {arr cap : Nat} {f : Nat → Int64} (he : h.1 arr = some (.inl (3, cap, .inr (.inl f)))) {n : Nat} (hcn : cap < n) (hn : n ≤ 100000) (hc : 1 ≤ hcl h) (hs : n ≤ hsl h) :
    ∃ h', f_J12_copyOf_4 (some arr) (nI n) h = rtA (some (hsz h)) h' ∧ h' = hset (hnew h (.inl (3, zA 3 n)) n) (hsz h) (.inl (3, n, .inr (.inl (va_cpy f (fun _ => 0) 0 0 cap)))) := by
  refine ⟨_, ?_, rfl⟩
  have hne := (g.fresh he).2
  unfold f_J12_copyOf_4
  have h1 : (hnew h (.inl (3, zA 3 n)) n).1 arr = some (.inl (3, cap, .inr (.inl f))) := by rw [hnew_o hne]; exact he
  rw [aL_v (t := 3) (x := (cap, .inr (.inl f))) (rdo he) (by decide), if_pos (fun z => by have := (nI_eq (by omega) (by show cap < _; omega)).mp z; simp only at this; omega), nA_v hn hc hs, aL_v (t := 3) (x := (cap, .inr (.inl f))) (rdo h1) (by decide)]
  have hmn : mnI (nI cap) (nI n) = nI cap := by
    unfold mnI
    rw [if_neg (nI_nlt (by omega) (by omega))]
  simp only [hmn]
  unfold xcpL
  have h1 := rdo h1
  have h2 : (hnew h (.inl (3, zA 3 n)) n).1 (hsz h) = some (.inl (3, n, .inr (.inl (fun _ => 0)))) := hnew_s
  simp only [h1, h2]
  have hk : (nI cap).toNatClampNeg = cap := nI_clamp (by omega)
  have hz : (0 : Int32).toNatClampNeg = 0 := rfl
  rw [hk, hz, if_pos ⟨rfl, rfl, ⟨by decide, by decide, by rw [nI_toInt (by omega)]; omega, by rw [hk, hz]; omega, by rw [hk, hz]; omega⟩⟩]
theorem p_bset (g : GH B h) {b arr cap x : Nat} {S : Nat → Bool} (s : BS h b arr cap S) (hx : x < 256) (hc : 1 ≤ hcl h) (hs : 6 ≤ hsl h) :
    ∃ h' arr' cap', f_J20_set (some b) (nI x) h = rtV h' ∧ BS h' b arr' cap' (fun j => S j || decide (j = x)) ∧ ((arr' = arr ∧ cap' = cap) ∨ (arr' = hsz h ∧ cap < cap')) ∧ Kp (fun a => a = b ∨ a = arr) (cap' - cap) (2 * (cap' - cap)) h h' ∧ GH B h' := by
  obtain ⟨u, w, W, b7⟩ := id s
  obtain ⟨⟨st, b1⟩, b2, b3, b4, b5, b6⟩ := id W
  have hne : b ≠ arr := by rintro rfl; rw [b1] at b2; cases b2
  -- behind the growth
  have fin : ∀ (h1 : AH) (arr1 cap1 u1 : Nat) (w1 : Nat → Int64), GH B h1 → BW h1 b arr1 cap1 u1 w1 → x / 64 < u1 → (∀ j, S j = bitsOf u1 w1 j) →
      ∃ h2, xgA h1 (some b) 13 0 (fun v4 => xlL h1 v4 (nI (x / 64)) (fun v5 => xsL h1 v4 (nI (x / 64)) (v5 ||| ((1 : Int64) <<< ((nI x).toInt64 &&& 63))) (fun h6 => xrc h6 (some b) 13 (xcV (f_J20_checkInvariants (some b) h6) (fun h7 => rtV h7))))) = rtV h2 ∧ BS h2 b arr1 cap1 (fun j => S j || decide (j = x)) ∧ Kp (fun a => a = arr1) 0 0 h1 h2 ∧ GH B h2 := by
    intro h1 arr1 cap1 u1 w1 g1 ⟨⟨st1, c1⟩, c2, c3, c4, c5, c6⟩ hu hS
    have hne1 : b ≠ arr1 := by rintro rfl; rw [c1] at c2; cases c2
    refine ⟨hset h1 arr1 (.inl (3, cap1, .inr (.inl (vp_updL w1 (x / 64) (w1 (x / 64) ||| ((1 : Int64) <<< ((nI x).toInt64 &&& 63))))))), ?_, ⟨u1, vp_updL w1 (x / 64) (w1 (x / 64) ||| ((1 : Int64) <<< ((nI x).toInt64 &&& 63))), ⟨⟨st1, by rw [hset_o hne1]; exact c1⟩, hset_s, c3, c4, c5, fun i i1 i2 => ?_⟩, fun j => ?_⟩, Kp.st rfl, g1.set c2⟩
    · rw [gA_v (o := some arr1) (rdo c1) rfl, lL_v (rdo c2) (by omega) (by omega), sL_v c2 (by omega) (by omega), rc_v (rdo (show (hset h1 arr1 _).1 b = _ by rw [hset_o hne1]; exact c1)), p_inv (g1.set c2), cV_rt]
    · unfold vp_updL
      rw [if_neg (by omega)]
      exact c6 i i1 i2
    · show (S j || decide (j = x)) = _
      rw [hS]
      unfold bitsOf vp_updL
      by_cases hj : j / 64 = x / 64
      · rw [if_pos hj, hj, decide_eq_true hu, Bool.true_and, Bool.true_and, gb_or, show nI x = Int32.ofNat x from rfl, gb_one hx (by omega)]
        congr 1
        apply decide_eq_decide.mpr
        omega
      · rw [if_neg hj, decide_eq_false (show ¬ j = x by rintro rfl; exact hj rfl), Bool.or_false]
  unfold f_J20_set
  rw [if_pos (show (0 : Int32) ≤ nI x from nI_le (a := 0) (by omega) (by omega)), p_wi (by omega), cI_rt, s.rc]
  unfold f_J20_expandTo
  rw [gI_v (rdo b1) rfl, nI_1]
  by_cases hu : x / 64 < u
  · rw [if_pos (nI_le hu (by omega)), cV_rt]
    obtain ⟨h2, q1, q2, q3, q4⟩ := fin h arr cap u w g W hu b7
    exact ⟨h2, arr, cap, q1, q2, Or.inl ⟨rfl, rfl⟩, q3.w (fun _ _ z => Or.inr z) (by omega) (by omega), q4⟩
  · rw [if_neg (fun z => by have := (nI_leI (by omega) (by omega)).mp z; omega), s.rc]
    unfold f_J20_ensureCapacity
    rw [gA_v (o := some arr) (rdo b1) rfl, aL_v (t := 3) (x := (cap, .inr (.inl w))) (rdo b2) (by decide)]
    simp only
    have hbits : ∀ (w' : Nat → Int64), (∀ i, i < u → w' i = w i) → (∀ i, u ≤ i → i < x / 64 + 1 → w' i = 0) → ∀ j, S j = bitsOf (x / 64 + 1) w' j := by
      intro w' e1 e2 j
      rw [b7]
      unfold bitsOf
      by_cases h1 : j / 64 < u
      · rw [decide_eq_true h1, decide_eq_true (by omega), e1 _ h1]
      · rw [decide_eq_false h1, Bool.false_and]
        by_cases h2 : j / 64 < x / 64 + 1
        · rw [e2 _ (by omega) h2, gb_0, Bool.and_false]
        · rw [decide_eq_false h2, Bool.false_and]
    by_cases hcp : x / 64 + 1 ≤ cap
    · rw [if_pos (nI_le hcp (by omega)), cV_rt, pF_w [.ref arr, .int (nI (x / 64 + 1)), .int st] b1 (Nat.le_of_ble_eq_true rfl) rfl, cV_rt]
      obtain ⟨h2, q1, q2, q3, q4⟩ := fin (hset h b (.inr (13, [.ref arr, .int (nI (x / 64 + 1)), .int st]))) arr cap (x / 64 + 1) w (g.set b1) ⟨⟨st, hset_s⟩, by rw [hset_o (Ne.symm hne)]; exact b2, b3, b4, hcp, fun i i1 i2 => b6 i (by omega) i2⟩ (by omega) (hbits w (fun _ _ => rfl) (fun i i1 i2 => b6 i i1 (by omega)))
      exact ⟨h2, arr, cap, q1, q2, Or.inl ⟨rfl, rfl⟩, Kp.tr (F1 := fun a => a = b) (F2 := fun a => a = arr) (Kp.st rfl) q3 (fun _ z => Or.inl z) (fun _ _ z => Or.inr z) (by omega) (by omega), q4⟩
    · rw [if_neg (fun z => by have := (nI_leI (by omega) (by omega)).mp z; omega), gA_v (o := some arr) (rdo b1) rfl, aL_v (t := 3) (x := (cap, .inr (.inl w))) (rdo b2) (by decide), gA_v (o := some arr) (rdo b1) rfl]
      have hmx : mxI (2 * nI cap) (nI (x / 64 + 1)) = nI (max (2 * cap) (x / 64 + 1)) := by
        have e2 : (2 : Int32) * nI cap = nI (2 * cap) := (Int32.ofNat_mul 2 cap).symm
        unfold mxI
        rw [e2]
        by_cases hm : 2 * cap < x / 64 + 1
        · rw [if_pos (nI_lt hm (by omega)), Nat.max_eq_right (by omega)]
        · rw [if_neg (nI_nlt (by omega) (by omega)), Nat.max_eq_left (by omega)]
      simp only [hmx]
      obtain ⟨nc, hnc⟩ : ∃ nc, nc = max (2 * cap) (x / 64 + 1) := ⟨_, rfl⟩
      rw [← hnc]
      have hx4 : x / 64 < 4 := by omega
      have hn1 : 2 * cap ≤ nc ∧ x / 64 + 1 ≤ nc ∧ nc ≤ 6 := by rw [hnc]; omega
      obtain ⟨h1, c1, c2⟩ := p_copyL g b2 (n := nc) (by omega) (by omega) hc (by omega)
      have hb0 := (g.fresh b1).2
      have k1 : Kp (fun _ => False) 1 nc h h1 := by
        rw [c2]
        exact Kp.tr (F1 := fun _ => False) (F2 := fun a => a = hsz h) (Kp.nw hc (by omega)) (Kp.st rfl) (fun _ z => z) (fun a ha z => by omega) (by omega) (by omega)
      have g1 : GH B h1 := by rw [c2]; exact g.new.set hnew_s
      have e1 := k1.ow g b1 (fun z => z)
      have e2 : h1.1 (hsz h) = some (.inl (3, nc, .inr (.inl (va_cpy w (fun _ => 0) 0 0 cap)))) := by rw [c2]; exact hset_s
      rw [c1, cA_rt, pF_w [.ref (hsz h), .int (nI u), .int st] e1 (Nat.le_of_ble_eq_true rfl) rfl, pZ_v (Or.inl rfl) hset_s (Nat.le_of_ble_eq_true rfl), hset_ss, cV_rt, pF_w [.ref (hsz h), .int (nI (x / 64 + 1)), .int 0] hset_s (Nat.le_of_ble_eq_true rfl) rfl, hset_ss, cV_rt]
      have cw : ∀ i, va_cpy w (fun _ => 0) 0 0 cap i = if i < cap then w i else 0 := fun i => by
        by_cases hi : i < cap
        · rw [pk_cpy_in (by omega) (by omega), if_pos hi]; congr 1; omega
        · rw [pk_cpy_out (by omega), if_neg hi]
      obtain ⟨h2, q1, q2, q3, q4⟩ := fin (hset h1 b (.inr (13, [.ref (hsz h), .int (nI (x / 64 + 1)), .int 0]))) (hsz h) nc (x / 64 + 1) (va_cpy w (fun _ => 0) 0 0 cap) (g1.set e1) ⟨⟨0, hset_s⟩, by rw [hset_o (Ne.symm hb0)]; exact e2, by omega, by omega, by omega, fun i i1 i2 => by rw [cw, if_neg (by omega)]⟩ (by omega) (hbits _ (fun i hi => by rw [cw, if_pos (by omega)]) (fun i i1 i2 => by
          rw [cw]
          split
          · exact b6 i i1 (by assumption)
          · rfl))
      refine ⟨h2, hsz h, nc, q1, q2, Or.inr ⟨rfl, by omega⟩, ?_, q4⟩
      exact Kp.tr (F1 := fun a => a = b) (F2 := fun a => a = hsz h) (Kp.tr (F1 := fun _ => False) (F2 := fun a => a = b) (F := fun a => a = b) (c := 1) (n := nc) k1 (Kp.st rfl) (fun _ z => z.elim) (fun _ _ z => z) (by omega) (by omega)) q3 (fun _ z => Or.inl z) (fun a ha z => by omega) (by omega) (by omega)
theorem BW.keep {F : Nat → Prop} {c n b arr cap u : Nat} {w : Nat → Int64} (g : GH B h) (k : Kp F c n h h') (W : BW h b arr cap u w) (f1 : ¬ F b) (f2 : ¬ F arr) : BW h' b arr cap u w := by
  obtain ⟨⟨st, b1⟩, b2, b3⟩ := W
  exact ⟨⟨st, k.ow g b1 f1⟩, k.ow g b2 f2, b3⟩
theorem p_and6 {b bb arr arr2 cap cap2 u2 : Nat} {w2 : Nat → Int64} (hbb : b ≠ bb) (haa : arr ≠ arr2) {K : Option Nat → Option Nat → AH → RS} : ∀ (k n u : Nat) (h : AH) (w : Nat → Int64), GH B h → BW h b arr cap u w → BW h bb arr2 cap2 u2 w2 → u ≤ u2 + k → k < n →
    ∃ h' u' w', f_J20_and_L6 K n (some b) (some bb) h = K (some b) (some bb) h' ∧ BW h' b arr cap u' w' ∧ u' = min u u2 ∧ (∀ i, i < u' → w' i = w i) ∧ Kp (fun a => a = b ∨ a = arr) 0 0 h h' ∧ GH B h' := by
  intro k
  induction k with
  | zero =>
    intro n u h w g W W2 hu hn
    obtain ⟨n, rfl⟩ : ∃ n', n = n' + 1 := ⟨n - 1, by omega⟩
    obtain ⟨⟨st, b1⟩, b2, b3, b4, b5, b6⟩ := id W
    obtain ⟨⟨st', c1⟩, c2, c3, c4, c5, c6⟩ := id W2
    refine ⟨h, u, w, ?_, W, by omega, fun _ _ => rfl, Kp.rf, g⟩
    unfold f_J20_and_L6
    rw [gI_v (rdo b1) rfl, gI_v (rdo c1) rfl, if_pos (nI_le (by omega) (by omega))]
  | succ k ih =>
    intro n u h w g W W2 hu hn
    obtain ⟨n, rfl⟩ : ∃ n', n = n' + 1 := ⟨n - 1, by omega⟩
    obtain ⟨⟨st, b1⟩, b2, b3, b4, b5, b6⟩ := id W
    obtain ⟨⟨st', c1⟩, c2, c3, c4, c5, c6⟩ := id W2
    have n1 : b ≠ arr := by rintro rfl; rw [b1] at b2; cases b2
    have n2 : bb ≠ arr := by rintro rfl; rw [c1] at b2; cases b2
    have n3 : arr2 ≠ b := by rintro rfl; rw [c2] at b1; cases b1
    by_cases hle : u ≤ u2
    · refine ⟨h, u, w, ?_, W, by omega, fun _ _ => rfl, Kp.rf, g⟩
      unfold f_J20_and_L6
      rw [gI_v (rdo b1) rfl, gI_v (rdo c1) rfl, if_pos (nI_le (by omega) (by omega))]
    · have k1 : Kp (fun a => a = b ∨ a = arr) 0 0 h (hset (hset h b (.inr (13, [.ref arr, .int (nI (u - 1)), .int st]))) arr (.inl (3, cap, .inr (.inl (vp_updL w (u - 1) 0))))) := Kp.tr (F1 := fun a => a = b) (F2 := fun a => a = arr) (Kp.st rfl) (Kp.st rfl) (fun _ z => Or.inl z) (fun _ _ z => Or.inr z) (by omega) (by omega)
      have e2 : (hset h b (.inr (13, [.ref arr, .int (nI (u - 1)), .int st]))).1 arr = some (.inl (3, cap, .inr (.inl w))) := by rw [hset_o (Ne.symm n1)]; exact b2
      obtain ⟨h', u', w', i1, i2, i3, i4, i5, i6⟩ := ih n (u - 1) (hset (hset h b (.inr (13, [.ref arr, .int (nI (u - 1)), .int st]))) arr (.inl (3, cap, .inr (.inl (vp_updL w (u - 1) 0))))) (vp_updL w (u - 1) 0) ((g.set b1).set e2) ⟨⟨st, by rw [hset_o n1]; exact hset_s⟩, hset_s, b3, b4, by omega, fun i q1 q2 => by
        unfold vp_updL
        split
        · rfl
        · exact b6 i (by omega) q2⟩ (W2.keep g k1 (fun z => z.elim (fun z => hbb z.symm) n2) (fun z => z.elim n3 (fun z => haa z.symm))) (by omega) (by omega)
      refine ⟨h', u', w', ?_, i2, by omega, fun i hi => ?_, Kp.tr k1 i5 (fun _ z => z) (fun _ _ z => z) (by omega) (by omega), i6⟩
      · unfold f_J20_and_L6
        rw [gI_v (rdo b1) rfl, gI_v (rdo c1) rfl, if_neg (fun z => by have := (nI_leI (by omega) (by omega)).mp z; omega), gA_v (o := some arr) (rdo b1) rfl, gI_v (rdo b1) rfl, nI_s1 (by omega), pF_w [.ref arr, .int (nI (u - 1)), .int st] b1 (Nat.le_of_ble_eq_true rfl) rfl, sL_v e2 (by omega) (by omega)]
        exact i1
      · rw [i4 i hi]
        unfold vp_updL
        rw [if_neg (by omega)]
theorem p_and39 {b bb arr arr2 cap cap2 u u2 : Nat} {w2 : Nat → Int64} (hbb : b ≠ bb) (haa : arr ≠ arr2) (hu : u ≤ u2) {K : Option Nat → AH → RS} : ∀ (k n i : Nat) (h : AH) (w : Nat → Int64), GH B h → BW h b arr cap u w → BW h bb arr2 cap2 u2 w2 → i + k = u → k < n →
    ∃ h' w', f_J20_and_L39 K n (some b) (some bb) (nI i) h = K (some b) h' ∧ BW h' b arr cap u w' ∧ (∀ j, j < i → w' j = w j) ∧ (∀ j, i ≤ j → j < u → w' j = (w j &&& w2 j)) ∧ Kp (fun a => a = b ∨ a = arr) 0 0 h h' ∧ GH B h' := by
  intro k
  induction k with
  | zero =>
    intro n i h w g W W2 hi hn
    obtain ⟨n, rfl⟩ : ∃ n', n = n' + 1 := ⟨n - 1, by omega⟩
    obtain ⟨⟨st, b1⟩, b2, b3, b4, b5, b6⟩ := id W
    refine ⟨h, w, ?_, W, fun _ _ => rfl, fun j _ _ => by omega, Kp.rf, g⟩
    unfold f_J20_and_L39
    rw [gI_v (rdo b1) rfl, if_pos (nI_le (by omega) (by omega))]
  | succ k ih =>
    intro n i h w g W W2 hi hn
    obtain ⟨n, rfl⟩ : ∃ n', n = n' + 1 := ⟨n - 1, by omega⟩
    obtain ⟨⟨st, b1⟩, b2, b3, b4, b5, b6⟩ := id W
    obtain ⟨⟨st', c1⟩, c2, c3, c4, c5, c6⟩ := id W2
    have n1 : b ≠ arr := by rintro rfl; rw [b1] at b2; cases b2
    have n2 : bb ≠ arr := by rintro rfl; rw [c1] at b2; cases b2
    have n3 : arr2 ≠ b := by rintro rfl; rw [c2] at b1; cases b1
    have k1 : Kp (fun a => a = b ∨ a = arr) 0 0 h (hset h arr (.inl (3, cap, .inr (.inl (vp_updL w i (w i &&& w2 i)))))) := Kp.st (Or.inr rfl)
    obtain ⟨h', w', i1, i2, i3, i4, i5, i6⟩ := ih n (i + 1) (hset h arr (.inl (3, cap, .inr (.inl (vp_updL w i (w i &&& w2 i)))))) (vp_updL w i (w i &&& w2 i)) (g.set b2) ⟨⟨st, by rw [hset_o n1]; exact b1⟩, hset_s, b3, b4, by omega, fun j q1 q2 => by
        unfold vp_updL
        rw [if_neg (by omega)]
        exact b6 j q1 q2⟩ (W2.keep g k1 (fun z => z.elim (fun z => hbb z.symm) n2) (fun z => z.elim n3 (fun z => haa z.symm))) (by omega) (by omega)
    refine ⟨h', w', ?_, i2, fun j hj => ?_, fun j j1 j2 => ?_, Kp.tr k1 i5 (fun _ z => z) (fun _ _ z => z) (by omega) (by omega), i6⟩
    · unfold f_J20_and_L39
      rw [gI_v (rdo b1) rfl, if_neg (fun z => by have := (nI_leI (by omega) (by omega)).mp z; omega), gA_v (o := some arr) (rdo b1) rfl, lL_v (rdo b2) (by omega) (by omega), gA_v (o := some arr2) (rdo c1) rfl, lL_v (rdo c2) (by omega) (by omega), sL_v b2 (by omega) (by omega), nI_1]
      exact i1
    · rw [i3 j (by omega)]
      unfold vp_updL
      rw [if_neg (by omega)]
    · by_cases hji : j = i
      · subst hji
        rw [i3 j (by omega)]
        unfold vp_updL
        rw [if_pos rfl]
      · rw [i4 j (by omega) j2]
        unfold vp_updL
        rw [if_neg (by omega)]
theorem p_recL {b arr cap : Nat} {w : Nat → Int64} {st : Int32} {u : Nat} (b1 : h.1 b = some (.inr (13, [.ref arr, .int (nI u), .int st]))) (b2 : h.1 arr = some (.inl (3, cap, .inr (.inl w)))) (hcap : cap ≤ 8) (hu : u ≤ cap) {K : Option Nat → Int32 → AH → RS} :
    ∀ (i n : Nat), i ≤ u → i < n → ∃ u', u' ≤ i ∧ f_J20_recalculateWordsInUse_L7 K n (some b) (nI i - 1) h = K (some b) (nI u' - 1) h ∧ ∀ j, u' ≤ j → j < i → w j = 0 := by
  intro i
  induction i with
  | zero =>
    intro n hi hn
    obtain ⟨n, rfl⟩ : ∃ n', n = n' + 1 := ⟨n - 1, by omega⟩
    refine ⟨0, by omega, ?_, fun j _ _ => by omega⟩
    unfold f_J20_recalculateWordsInUse_L7
    rw [if_pos (by decide)]
  | succ i ih =>
    intro n hi hn
    obtain ⟨n, rfl⟩ : ∃ n', n = n' + 1 := ⟨n - 1, by omega⟩
    have e : nI (i + 1) - 1 = nI i := nI_s1 (n := i + 1) (by omega)
    unfold f_J20_recalculateWordsInUse_L7
    rw [e, if_neg (show ¬ nI i < 0 from nI_pos (by omega)), gA_v (o := some arr) (rdo b1) rfl, lL_v (rdo b2) (by omega) (by omega)]
    by_cases hw : w i = 0
    · rw [if_pos ((lgc _).mpr hw), show nI i + (-1) = nI i - 1 from (Int32.sub_eq_add_neg (nI i) 1).symm]
      obtain ⟨u', q1, q2, q3⟩ := ih n (by omega) (by omega)
      refine ⟨u', by omega, q2, fun j j1 j2 => ?_⟩
      by_cases hj : j = i
      · rw [hj]; exact hw
      · exact q3 j j1 (by omega)
    · rw [if_neg (fun z => hw ((lgc _).mp z))]
      exact ⟨i + 1, by omega, by rw [e], fun j _ _ => by omega⟩
theorem p_band (g : GH B h) {b bb arr arr2 cap cap2 : Nat} {S S2 : Nat → Bool} (s : BS h b arr cap S) (s2 : BS h bb arr2 cap2 S2) (hbb : b ≠ bb) (haa : arr ≠ arr2) :
    ∃ h', f_J20_and (some b) (some bb) h = rtV h' ∧ BS h' b arr cap (fun j => S j && S2 j) ∧ Kp (fun a => a = b ∨ a = arr) 0 0 h h' ∧ GH B h' := by
  obtain ⟨u, w, W, b7⟩ := id s
  obtain ⟨u2, w2, W2, c7⟩ := id s2
  have hu8 : u ≤ 8 := by obtain ⟨_, _, _, b4, b5, _⟩ := W; omega
  obtain ⟨h1, u1, w1, i1, i2, i3, i4, i5, i6⟩ := p_and6 (K := fun x11 x12 h13 => f_J20_and_L39 (fun x25 h26 => xrc h26 x25 13 (xcV (f_J20_recalculateWordsInUse x25 h26) (fun h27 => xrc h27 x25 13 (xcV (f_J20_checkInvariants x25 h27) (fun h28 => rtV h28))))) FUEL x11 x12 0 h13) hbb haa u FUEL u h w g W W2 (by omega) (by unfold FUEL; omega)
  have n2 : bb ≠ arr := by rintro rfl; obtain ⟨_, z, _⟩ := W; obtain ⟨⟨_, z2⟩, _⟩ := W2; rw [z] at z2; cases z2
  have n3 : arr2 ≠ b := by rintro rfl; obtain ⟨⟨_, z⟩, _⟩ := W; obtain ⟨_, z2, _⟩ := W2; rw [z] at z2; cases z2
  have W2' := W2.keep g i5 (fun z => z.elim (fun z => hbb z.symm) n2) (fun z => z.elim n3 (fun z => haa z.symm))
  obtain ⟨h2, w3, j1, j2, j3, j4, j5, j6⟩ := p_and39 (K := fun x25 h26 => xrc h26 x25 13 (xcV (f_J20_recalculateWordsInUse x25 h26) (fun h27 => xrc h27 x25 13 (xcV (f_J20_checkInvariants x25 h27) (fun h28 => rtV h28))))) hbb haa (show u1 ≤ u2 by omega) u1 FUEL 0 h1 w1 i6 i2 W2' (by omega) (by unfold FUEL; omega)
  obtain ⟨⟨st, d1⟩, d2, d3, d4, d5, d6⟩ := id j2
  obtain ⟨u', r1, r2, r3⟩ := p_recL (K := fun x9 x10 h11 => f_J20_recalculateWordsInUse_J31 x9 x10 h11) d1 d2 d4 d5 u1 FUEL (Nat.le_refl _) (by unfold FUEL; omega)
  have hu1 : nI u' - 1 + 1 = nI u' := by rw [Int32.sub_eq_add_neg, Int32.add_assoc]; rw [show (-1 : Int32) + 1 = 0 by decide, Int32.add_zero]
  have n1 : b ≠ arr := by rintro rfl; rw [d1] at d2; cases d2
  have g3 : GH B (hset h2 b (.inr (13, [.ref arr, .int (nI u'), .int st]))) := j6.set d1
  refine ⟨hset h2 b (.inr (13, [.ref arr, .int (nI u'), .int st])), ?_, ⟨u', w3, ⟨⟨st, hset_s⟩, by rw [hset_o (Ne.symm n1)]; exact d2, d3, d4, by omega, fun i q1 q2 => ?_⟩, fun j => ?_⟩, ?_, g3⟩
  · unfold f_J20_and
    rw [if_pos (by simpa using hbb), i1, show (0 : Int32) = nI 0 from rfl, j1]
    rw [rc_v (rdo d1)]
    unfold f_J20_recalculateWordsInUse
    rw [gI_v (rdo d1) rfl, r2]
    unfold f_J20_recalculateWordsInUse_J31
    rw [hu1, pF_w [.ref arr, .int (nI u'), .int st] d1 (Nat.le_of_ble_eq_true rfl) rfl, cV_rt, rc_v (rdo hset_s), p_inv g3, cV_rt]
  · by_cases hi : i < u1
    · exact r3 i q1 hi
    · exact d6 i (by omega) q2
  · show (S j && S2 j) = _
    rw [b7, c7]
    unfold bitsOf
    by_cases h1 : j / 64 < u1
    · have e : w3 (j / 64) = (w (j / 64) &&& w2 (j / 64)) := by rw [j4 _ (by omega) h1, i4 _ h1]
      rw [decide_eq_true (show j / 64 < u by omega), decide_eq_true (show j / 64 < u2 by omega), Bool.true_and, Bool.true_and, ← gb_and, ← e]
      by_cases h2 : j / 64 < u'
      · rw [decide_eq_true h2, Bool.true_and]
      · rw [r3 _ (by omega) h1, gb_0, decide_eq_false h2]; rfl
    · rw [decide_eq_false (show ¬ j / 64 < u' by omega), Bool.false_and]
      by_cases h2 : j / 64 < u
      · rw [decide_eq_false (show ¬ j / 64 < u2 by omega), Bool.false_and, Bool.and_false]
      · rw [decide_eq_false h2, Bool.false_and, Bool.false_and]
  · exact Kp.tr i5 (Kp.tr (F := fun a => a = b ∨ a = arr) (c := 0) (n := 0) j5 (Kp.st (F := fun a => a = b ∨ a = arr) (Or.inl rfl)) (fun _ z => z) (fun _ _ z => z) (by omega) (by omega)) (fun _ z => z) (fun _ _ z => z) (by omega) (by omega)
end
