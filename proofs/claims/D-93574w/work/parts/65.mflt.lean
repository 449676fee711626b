/-! PURE: quotients; the model's coverage and average -/
set_option maxRecDepth 100000
def finNZ : FP.Core.Datum → Bool
  | .fin _ d _ => d != 0
  | _ => false
def v64 (x : UInt64) : FP.Core.Datum := FP.Core.decode FP.Core.b64 x.toNat
def ok64 (d : FP.Core.Datum) : Prop := (∃ s, d = .inf s) ∨ ∃ (s : Bool) (c : Nat) (q : Int), d = .fin s c q ∧ c < 9007199254740992 ∧ q ≤ 971
theorem rr64 {s : Bool} {a b : Nat} {e : Int} : ok64 (FP.Core.roundRatio FP.Core.b64 s a b e) := by
  unfold FP.Core.roundRatio FP.Core.roundAt FP.Core.settle FP.Core.bound
  have hq : FP.Core.b64.qmax = 971 := by decide
  have hp : 2 ^ FP.Core.b64.p = 9007199254740992 := by decide
  have ht : FP.Core.b64.tails = 4503599627370496 := by decide
  have hm : FP.Core.b64.qmin = -1074 := by decide
  split
  · exact Or.inr ⟨s, 0, _, rfl, by decide, by rw [hm]; decide⟩
  · split
    · rename_i h1
      split
      · rename_i h2
        exact Or.inr ⟨s, _, _, rfl, by rw [← hp]; exact h1, by rw [← hq]; exact h2⟩
      · exact Or.inl ⟨s, rfl⟩
    · split
      · rename_i h2
        exact Or.inr ⟨s, _, _, rfl, by rw [ht]; decide, by rw [← hq]; exact h2⟩
      · exact Or.inl ⟨s, rfl⟩
theorem en64 {d : FP.Core.Datum} (h : ok64 d) : FP.Core.encode FP.Core.b64 d % 9223372036854775808 ≤ 9218868437227405312 := by
  have ht : FP.Core.b64.tails = 4503599627370496 := by decide
  have hx : FP.Core.b64.exps = 2048 := by decide
  have hm : FP.Core.b64.qmin = -1074 := by decide
  rcases h with ⟨s, rfl⟩ | ⟨s, c, q, rfl, h1, h2⟩
  · cases s <;> decide
  · unfold FP.Core.encode FP.Core.assemble
    simp only
    rw [ht, hx, hm]
    cases s
    · simp only [Bool.toNat_false]
      split <;> omega
    · simp only [Bool.toNat_true]
      split <;> omega
theorem nn64 {x : UInt64} (h : x.toNat % 9223372036854775808 ≤ 9218868437227405312) : x &&& 0x7fffffffffffffff ≤ 0x7ff0000000000000 := by
  rw [UInt64.le_iff_toNat_le, UInt64.toNat_and]
  show x.toNat &&& (2 ^ 63 - 1) ≤ 9218868437227405312
  rw [Nat.and_two_pow_sub_one_eq_mod]
  exact h
theorem vn64 {x : UInt64} (h : x.toNat % 9223372036854775808 ≤ 9218868437227405312) : v64 x ≠ .nan := by
  unfold v64 FP.Core.decode
  have ht : FP.Core.b64.tails = 4503599627370496 := by decide
  have hx : FP.Core.b64.exps = 2048 := by decide
  unfold FP.Core.fieldE FP.Core.fieldT
  rw [ht, hx]
  split
  · split
    · exact fun z => by cases z
    · omega
  · split <;> exact fun z => by cases z
theorem of64 {d : FP.Core.Datum} (h : ok64 d) : (UInt64.ofNat (FP.Core.encode FP.Core.b64 d)).toNat % 9223372036854775808 ≤ 9218868437227405312 := by
  have := en64 h
  rw [UInt64.toNat_ofNat']
  have e : (2 : Nat) ^ 64 = 18446744073709551616 := by decide
  rw [e]
  omega
theorem qt64 {x : FP.Core.Datum} {t : Bool} {d : Nat} {r : Int} (hx : x ≠ .nan) (hd : d ≠ 0) : ok64 (FP.Core.quotient FP.Core.b64 x (.fin t d r)) := by
  cases x with
  | nan => exact absurd rfl hx
  | inf s => exact Or.inl ⟨_, rfl⟩
  | fin s c q =>
    unfold FP.Core.quotient
    simp only
    rw [if_neg hd]
    exact rr64
theorem fin64 : ∀ k, k < 97 → k ≠ 0 → finNZ (v64 (FP.i2d (Int32.ofNat k))) = true := by decide +kernel
theorem i2d_ok (x : Int32) : (FP.i2d x).toNat % 9223372036854775808 ≤ 9218868437227405312 := of64 rr64
theorem dd_ok (x : Int32) {k : Nat} (hk : k < 97) (h0 : k ≠ 0) : (FP.ddiv (FP.i2d x) (FP.i2d (nI k))).toNat % 9223372036854775808 ≤ 9218868437227405312 := by
  refine of64 (d := FP.Core.quotient FP.Core.b64 (v64 (FP.i2d x)) (v64 (FP.i2d (nI k)))) ?_
  have h1 : finNZ (v64 (FP.i2d (nI k))) = true := fin64 k hk h0
  cases h2 : v64 (FP.i2d (nI k)) with
  | nan => rw [h2] at h1; cases h1
  | inf s => rw [h2] at h1; cases h1
  | fin t d r =>
    rw [h2] at h1
    exact qt64 (vn64 (i2d_ok x)) (by simpa [finNZ] using h1)
def v32 (x : UInt32) : FP.Core.Datum := FP.Core.decode FP.Core.b32 x.toNat
def ok32 (d : FP.Core.Datum) : Prop := (∃ s, d = .inf s) ∨ ∃ (s : Bool) (c : Nat) (q : Int), d = .fin s c q ∧ c < 16777216 ∧ q ≤ 104
theorem rr32 {s : Bool} {a b : Nat} {e : Int} : ok32 (FP.Core.roundRatio FP.Core.b32 s a b e) := by
  unfold FP.Core.roundRatio FP.Core.roundAt FP.Core.settle FP.Core.bound
  have hq : FP.Core.b32.qmax = 104 := by decide
  have hp : 2 ^ FP.Core.b32.p = 16777216 := by decide
  have ht : FP.Core.b32.tails = 8388608 := by decide
  have hm : FP.Core.b32.qmin = -149 := by decide
  split
  · exact Or.inr ⟨s, 0, _, rfl, by decide, by rw [hm]; decide⟩
  · split
    · rename_i h1
      split
      · rename_i h2
        exact Or.inr ⟨s, _, _, rfl, by rw [← hp]; exact h1, by rw [← hq]; exact h2⟩
      · exact Or.inl ⟨s, rfl⟩
    · split
      · rename_i h2
        exact Or.inr ⟨s, _, _, rfl, by rw [ht]; decide, by rw [← hq]; exact h2⟩
      · exact Or.inl ⟨s, rfl⟩
theorem en32 {d : FP.Core.Datum} (h : ok32 d) : FP.Core.encode FP.Core.b32 d % 2147483648 ≤ 2139095040 := by
  have ht : FP.Core.b32.tails = 8388608 := by decide
  have hx : FP.Core.b32.exps = 256 := by decide
  have hm : FP.Core.b32.qmin = -149 := by decide
  rcases h with ⟨s, rfl⟩ | ⟨s, c, q, rfl, h1, h2⟩
  · cases s <;> decide
  · unfold FP.Core.encode FP.Core.assemble
    simp only
    rw [ht, hx, hm]
    cases s
    · simp only [Bool.toNat_false]
      split <;> omega
    · simp only [Bool.toNat_true]
      split <;> omega
theorem nn32 {x : UInt32} (h : x.toNat % 2147483648 ≤ 2139095040) : x &&& 0x7fffffff ≤ 0x7f800000 := by
  rw [UInt32.le_iff_toNat_le, UInt32.toNat_and]
  show x.toNat &&& (2 ^ 31 - 1) ≤ 2139095040
  rw [Nat.and_two_pow_sub_one_eq_mod]
  exact h
theorem vn32 {x : UInt32} (h : x.toNat % 2147483648 ≤ 2139095040) : v32 x ≠ .nan := by
  unfold v32 FP.Core.decode
  have ht : FP.Core.b32.tails = 8388608 := by decide
  have hx : FP.Core.b32.exps = 256 := by decide
  unfold FP.Core.fieldE FP.Core.fieldT
  rw [ht, hx]
  split
  · split
    · exact fun z => by cases z
    · omega
  · split <;> exact fun z => by cases z
theorem of32 {d : FP.Core.Datum} (h : ok32 d) : (UInt32.ofNat (FP.Core.encode FP.Core.b32 d)).toNat % 2147483648 ≤ 2139095040 := by
  have := en32 h
  rw [UInt32.toNat_ofNat']
  have e : (2 : Nat) ^ 32 = 4294967296 := by decide
  rw [e]
  omega
theorem qt32 {x : FP.Core.Datum} {t : Bool} {d : Nat} {r : Int} (hx : x ≠ .nan) (hd : d ≠ 0) : ok32 (FP.Core.quotient FP.Core.b32 x (.fin t d r)) := by
  cases x with
  | nan => exact absurd rfl hx
  | inf s => exact Or.inl ⟨_, rfl⟩
  | fin s c q =>
    unfold FP.Core.quotient
    simp only
    rw [if_neg hd]
    exact rr32
theorem fin32 : ∀ k, k < 97 → k ≠ 0 → finNZ (v32 (FP.i2f (Int32.ofNat k))) = true := by decide +kernel
theorem i2f_ok (x : Int32) : (FP.i2f x).toNat % 2147483648 ≤ 2139095040 := of32 rr32
theorem fd_ok (x : Int32) {k : Nat} (hk : k < 97) (h0 : k ≠ 0) : (FP.fdiv (FP.i2f x) (FP.i2f (nI k))).toNat % 2147483648 ≤ 2139095040 := by
  refine of32 (d := FP.Core.quotient FP.Core.b32 (v32 (FP.i2f x)) (v32 (FP.i2f (nI k)))) ?_
  have h1 : finNZ (v32 (FP.i2f (nI k))) = true := fin32 k hk h0
  cases h2 : v32 (FP.i2f (nI k)) with
  | nan => rw [h2] at h1; cases h1
  | inf s => rw [h2] at h1; cases h1
  | fin t d r =>
    rw [h2] at h1
    exact qt32 (vn32 (i2f_ok x)) (by simpa [finNZ] using h1)
theorem f2d_ok {x : UInt32} (h : v32 x ≠ .nan) : (FP.f2d x).toNat % 9223372036854775808 ≤ 9218868437227405312 := by
  have hn : FP.Core.fIsNaN x = false := decide_eq_false h
  unfold FP.f2d
  rw [hn]
  refine of64 (d := FP.Core.round FP.Core.b64 (v32 x)) ?_
  unfold FP.Core.round
  cases h2 : v32 x with
  | nan => exact absurd h2 h
  | inf s => exact Or.inl ⟨s, rfl⟩
  | fin s c q => exact rr64
theorem dc_eq {x : UInt64} (h : v64 x ≠ .nan) : FP.dcmp x x = some .eq := by
  show FP.Core.order (v64 x) (v64 x) = some .eq
  cases h2 : v64 x with
  | nan => exact absurd h2 h
  | inf s => simp [FP.Core.order]
  | fin s c q => simp [FP.Core.order]
theorem dd_v (x : Int32) {k : Nat} (hk : k < 97) (h0 : k ≠ 0) {X : UInt64 → RS} : xdd (FP.i2d x) (FP.i2d (nI k)) X = X (FP.ddiv (FP.i2d x) (FP.i2d (nI k))) := by
  unfold xdd; rw [if_pos (nn64 (dd_ok x hk h0))]
theorem fd_v (x : Int32) {k : Nat} (hk : k < 97) (h0 : k ≠ 0) {X : UInt32 → RS} : xfd (FP.i2f x) (FP.i2f (nI k)) X = X (FP.fdiv (FP.i2f x) (FP.i2f (nI k))) := by
  unfold xfd; rw [if_pos (nn32 (fd_ok x hk h0))]
theorem f2d_v {x : UInt32} (h : v32 x ≠ .nan) {X : UInt64 → RS} : xf2d x X = X (FP.f2d x) := by
  unfold xf2d; rw [if_pos (nn64 (f2d_ok h))]
def sumL (L : Nat → Bool) (f : Nat → Nat) : Nat → Nat
  | 0 => 0
  | n + 1 => sumL L f n + (if L n = true then f n else 0)
def rCov (g : IMG) : UInt64 := FP.ddiv (FP.i2d (nI (cnt (fun a => tk (rU g a)) (gn g)))) (FP.i2d (nI (gn g)))
def rSum (g : IMG) : Nat := sumL (rL g) (fun a => (rB g a).length) (gn g)
def rAvg (g : IMG) : UInt32 := FP.fdiv (FP.i2f (nI (rSum g))) (FP.i2f (nI (cnt (rL g) (gn g))))
/-- code, answer -/
def w_cov (W : WS) : Nat × UInt64 := if wR W = true then (if gn (wI W) = 0 then (2, 0) else (0, rCov (wI W))) else (1, 0)
def w_avg (W : WS) : Nat × UInt32 := if wR W = true then (if cnt (rL (wI W)) (gn (wI W)) = 0 then (2, 0) else (0, rAvg (wI W))) else (1, 0)
section
variable {I I' I2 : Nat → Int32} {A A' A2 : Nat → Nat → Int32} {h : AH} {mo : Nat} {W : WS}
def MEndD (mo : Nat) (h : AH) (r : RS) (W : WS) (o : Nat × UInt64) : Prop := ∃ (b : UInt64) (I' : Nat → Int32) (A' : Nat → Nat → Int32), r = rtD b (EM h mo I' A') ∧ MW I' A' W ∧ I' 0 = nI o.1 ∧ (o.1 = 0 → b = o.2)
def MEndF (mo : Nat) (h : AH) (r : RS) (W : WS) (o : Nat × UInt32) : Prop := ∃ (b : UInt32) (I' : Nat → Int32) (A' : Nat → Nat → Int32), r = rtF b (EM h mo I' A') ∧ MW I' A' W ∧ I' 0 = nI o.1 ∧ (o.1 = 0 → b = o.2)
theorem q_covL {m u : Nat → Nat} {n t : Nat} {es : List Nat} (M : MI I A m n es t) (U : MU A m u) (h0 : I 0 = 0) {K : Option Nat → Int32 → AH → RS} : ∀ (k f c : Nat), c + k = n → k < f →
    f_X3_coverage_L31 K f (some mo) (nI (cnt (fun a => tk (u a)) c)) (nI c) (EM h mo I A) = K (some mo) (nI (cnt (fun a => tk (u a)) n)) (EM h mo I A) := by
  have hn := M.n96
  intro k
  induction k with
  | zero =>
    intro f c h1 h2
    obtain ⟨f, rfl⟩ : ∃ f', f = f' + 1 := ⟨f - 1, by omega⟩
    unfold f_X3_coverage_L31
    rw [m_gI (by decide) (by decide), M.siz, if_pos (nI_le (by omega) (by omega)), show c = n by omega]
  | succ k ih =>
    intro f c h1 h2
    obtain ⟨f, rfl⟩ : ∃ f', f = f' + 1 := ⟨f - 1, by omega⟩
    unfold f_X3_coverage_L31 f_X3_coverage_J60
    rw [m_gI (by decide) (by decide), M.siz, if_neg (fun z => by have := (nI_leI (by omega) (by omega)).mp z; omega), m_gI (by decide) (by decide), h0, if_neg (fun z => z rfl), m_rc, q_used U (by omega), cI_rt, nI_1]
    have ih' := ih f (c + 1) (by omega) (by omega)
    rw [cnt_s1] at ih'
    cases hL : tk (u c) with
    | true =>
      rw [hL, if_pos rfl] at ih'
      rw [b0t, nI_1, ih']
    | false =>
      rw [hL, if_neg (by decide)] at ih'
      rw [b0f, Int32.add_zero]
      exact ih'
theorem o_cov (w : MW I A W) : MEndD mo h (f_X3_coverage (some mo) (EM h mo I A)) W (w_cov W) := by
  unfold f_X3_coverage f_X3_coverage_J24 w_cov
  have hn := w.1.n96
  have bad : ∀ c : Int32, c ≠ 0 → xpF (EM h mo I A) (some mo) 2 0 (.int c) (fun h6 => f_X3_coverage_L31 (fun x23 x24 h25 => f_X3_coverage_J68 x23 x24 h25) FUEL (some mo) 0 0 h6) = rtD FP.dconst0 (EM h mo (upd I 0 c) A) := fun c hc => by
    obtain ⟨F, hF⟩ : ∃ F, FUEL = F + 1 := ⟨99999, rfl⟩
    rw [m_pI (by decide) (by decide), hF]
    unfold f_X3_coverage_L31 f_X3_coverage_J68
    rw [m_gI (by decide) (by decide), m_gI (by decide) (by decide), upd_s, if_pos hc, m_gI (by decide) (by decide), upd_s, if_pos hc, ite_self]
  rw [m_gI (by decide) (by decide)]
  cases hr : wR W with
  | false =>
    rw [w.2.2.1.1 hr, if_pos rfl, if_neg (by decide), bad 1 (by decide)]
    exact ⟨_, _, _, rfl, w.th 1, upd_s, fun z => by cases z⟩
  | true =>
    have w0 := w.th 0
    have V := (w0.rt hr).2
    rw [(w.rt hr).1, if_neg (by decide), m_gI (by decide) (by decide), if_pos rfl, w.1.siz]
    by_cases hn0 : gn (wI W) = 0
    · rw [hn0, if_pos (show nI 0 ≤ 0 by decide), if_pos rfl, bad 2 (by decide)]
      exact ⟨_, _, _, rfl, w.th 2, upd_s, fun z => by cases z⟩
    · rw [if_neg (nI_nle (by omega) (by omega)), if_neg hn0, m_pI (by decide) (by decide)]
      have e := q_covL (h := h) (mo := mo) w0.1 V.mu upd_s (K := fun x23 x24 h25 => f_X3_coverage_J68 x23 x24 h25) (gn (wI W)) FUEL 0 (by omega) (by unfold FUEL; omega)
      refine ⟨_, _, _, (show f_X3_coverage_L31 _ FUEL (some mo) (nI (cnt (fun a => tk (rU (wI W) a)) 0)) (nI 0) (EM h mo (upd I 0 0) A) = _ from e).trans ?_, w0, upd_s, fun _ => rfl⟩
      unfold f_X3_coverage_J68
      rw [m_gI (by decide) (by decide), upd_s, if_neg (fun z => z rfl), m_gI (by decide) (by decide), w0.1.siz, dd_v _ (by omega) hn0]
      rfl
theorem q_avgL {m u : Nat → Nat} {n t : Nat} {es : List Nat} {tb : List TT} (g : UG m n u) {b : Int32} {K : Option Nat → Int32 → Int32 → AH → RS} : ∀ (k f c : Nat) (I : Nat → Int32), c + k = n → k < f → MI I A m n es t → MU A m u → MT I A n tb → I 0 = 0 →
    ∃ I', f_X3_averageBlock_L44 K f (some mo) b (nI (sumL (isL m u n es tb) (fun a => (bkl m u n es tb a).length) c)) (nI c) (EM h mo I A) = K (some mo) b (nI (sumL (isL m u n es tb) (fun a => (bkl m u n es tb a).length) n)) (EM h mo I' A) ∧ Un [44] [] I A I' A := by
  intro k
  induction k with
  | zero =>
    intro f c I h1 h2 M U T h0
    have hn := M.n96
    obtain ⟨f, rfl⟩ : ∃ f', f = f' + 1 := ⟨f - 1, by omega⟩
    unfold f_X3_averageBlock_L44
    rw [m_gI (by decide) (by decide), M.siz, if_pos (nI_le (by omega) (by omega)), show c = n by omega]
    exact ⟨I, rfl, Un.rf⟩
  | succ k ih =>
    intro f c I h1 h2 M U T h0
    have hn := M.n96
    obtain ⟨f, rfl⟩ : ∃ f', f = f' + 1 := ⟨f - 1, by omega⟩
    unfold f_X3_averageBlock_L44 f_X3_averageBlock_J77
    rw [m_gI (by decide) (by decide), M.siz, if_neg (fun z => by have := (nI_leI (by omega) (by omega)).mp z; omega), m_gI (by decide) (by decide), h0, if_neg (fun z => z rfl), m_rc, q_isL M U g T (by omega), cI_rt, nI_1]
    have hs : sumL (isL m u n es tb) (fun a => (bkl m u n es tb a).length) (c + 1) = sumL (isL m u n es tb) (fun a => (bkl m u n es tb a).length) c + (if isL m u n es tb c = true then (bkl m u n es tb c).length else 0) := rfl
    cases hL : isL m u n es tb c with
    | true =>
      have hu : u c = 1 := by
        unfold isL at hL
        rw [Bool.and_eq_true] at hL
        exact of_decide_eq_true hL.1
      obtain ⟨l, l1, l2⟩ := q_bsz (h := h) (mo := mo) M U g T hu
      rw [b0t, m_rc, l2, cI_rt, nI_add]
      rw [hL, if_pos rfl] at hs
      rw [← hs]
      have x : Un [44] [] I A (upd I 44 (nI l)) A := Un.uI (by decide)
      obtain ⟨I', e1, e2⟩ := ih f (c + 1) (upd I 44 (nI l)) (by omega) (by omega) (M.un x (by decide) (by decide) (by decide) (by decide) (by decide)) U (T.un x (by decide) (by decide) (by decide) (by decide) (by decide) (by decide)) (by rw [upd_n (by decide)]; exact h0)
      exact ⟨I', e1, x.tr e2⟩
    | false =>
      rw [hL, if_neg (by decide)] at hs
      have hs := hs.trans (Nat.add_zero _)
      rw [b0f, Int32.add_zero, ← hs]
      exact ih f (c + 1) I (by omega) (by omega) M U T h0
theorem o_avg (w : MW I A W) : MEndF mo h (f_X3_averageBlock (some mo) (EM h mo I A)) W (w_avg W) := by
  unfold f_X3_averageBlock f_X3_averageBlock_J15 f_X3_averageBlock_J37 w_avg
  have hn := w.1.n96
  have hcn := cnt_le (rL (wI W)) (gn (wI W))
  have bad : ∀ c b : Int32, c ≠ 0 → xpF (EM h mo I A) (some mo) 2 0 (.int c) (fun h11 => f_X3_averageBlock_L44 (fun x32 x33 x34 h35 => f_X3_averageBlock_J85 x32 x33 x34 h35) FUEL (some mo) b 0 0 h11) = rtF FP.fconst0 (EM h mo (upd I 0 c) A) := fun c b hc => by
    obtain ⟨F, hF⟩ : ∃ F, FUEL = F + 1 := ⟨99999, rfl⟩
    rw [m_pI (by decide) (by decide), hF]
    unfold f_X3_averageBlock_L44 f_X3_averageBlock_J85
    rw [m_gI (by decide) (by decide), m_gI (by decide) (by decide), upd_s, if_pos hc, m_gI (by decide) (by decide), upd_s, if_pos hc, ite_self]
  rw [m_gI (by decide) (by decide)]
  cases hr : wR W with
  | false =>
    have e := w.2.2.1.1 hr
    rw [e, if_pos rfl, m_gI (by decide) (by decide), e, if_pos rfl, bad 1 0 (by decide), if_neg (by decide)]
    exact ⟨_, _, _, rfl, w.th 1, upd_s, fun z => by cases z⟩
  | true =>
    have e := (w.rt hr).1
    have V := (w.rt hr).2
    rw [e, if_neg (by decide), m_rc, q_blocks w.1 V.mu w.1.ug (MRv.mt w.1 V), cI_rt, m_gI (by decide) (by decide), e, if_neg (by decide), if_pos rfl]
    show MEndF mo h (if nI (cnt (rL (wI W)) (gn (wI W))) ≤ 0 then xpF (EM h mo I A) (some mo) 2 0 (.int 2) (fun h11 => f_X3_averageBlock_L44 (fun x32 x33 x34 h35 => f_X3_averageBlock_J85 x32 x33 x34 h35) FUEL (some mo) (nI (cnt (rL (wI W)) (gn (wI W)))) 0 0 h11) else xpF (EM h mo I A) (some mo) 2 0 (.int 0) (fun h11 => f_X3_averageBlock_L44 (fun x32 x33 x34 h35 => f_X3_averageBlock_J85 x32 x33 x34 h35) FUEL (some mo) (nI (cnt (rL (wI W)) (gn (wI W)))) 0 0 h11)) _ _
    by_cases h0 : cnt (rL (wI W)) (gn (wI W)) = 0
    · rw [if_pos (show nI (cnt (rL (wI W)) (gn (wI W))) ≤ 0 by rw [h0]; decide), if_pos h0, bad 2 _ (by decide)]
      exact ⟨_, _, _, rfl, w.th 2, upd_s, fun z => by cases z⟩
    · rw [if_neg (nI_nle (by omega) (by omega)), if_neg h0, m_pI (by decide) (by decide)]
      have w0 := w.th 0
      have V0 := (w0.rt hr).2
      obtain ⟨I1, e1, e2⟩ := q_avgL (h := h) (mo := mo) (A := A) w0.1.ug (b := nI (cnt (rL (wI W)) (gn (wI W)))) (K := fun x32 x33 x34 h35 => f_X3_averageBlock_J85 x32 x33 x34 h35) (gn (wI W)) FUEL 0 (upd I 0 0) (by omega) (by unfold FUEL; omega) w0.1 V0.mu (MRv.mt w0.1 V0) upd_s
      have z1 : I1 0 = 0 := by rw [e2.1 0 (by decide)]; exact upd_s
      refine ⟨_, I1, A, (show f_X3_averageBlock_L44 _ FUEL (some mo) _ (nI 0) (nI 0) (EM h mo (upd I 0 0) A) = _ from e1).trans ?_, w0.un (e2.w (by decide) (by decide)), z1, fun _ => rfl⟩
      unfold f_X3_averageBlock_J85
      rw [m_gI (by decide) (by decide), z1, if_neg (fun z => z rfl), fd_v _ (by omega) h0]
      rfl
end
