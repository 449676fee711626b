/-! PURE: the model's descent, 3 -/
set_option maxRecDepth 100000
section
variable {li la : List Nat} {I I' I2 : Nat → Int32} {A A' A2 : Nat → Nat → Int32} {m : Nat → Nat} {n : Nat} {es : List Nat} {t : Nat} {h : AH} {mo : Nat}
def bW : Option Nat → Int32
  | none => -1
  | some b => nI b
/-- a table -/
def TE (A : Nat → Nat → Int32) (k : Nat) (T : TT) : Prop := A 31 k = nI T.1 ∧ A 32 k = nI T.2.1 ∧ A 33 k = bW T.2.2.1 ∧ TP A k T.2.2.2
def T0 : TT := (0, 0, none, [])
/-- lists behind a count -/
def LSq (f : Nat → Int32) (l : List Nat) : Prop := ∀ i, i < l.length → f i = nI (l.getD i 0)
theorem LSq.add {f : Nat → Int32} {l : List Nat} {v : Nat} (L : LSq f l) : LSq (upd f l.length (nI v)) (l ++ [v]) := fun i hi => by
  rw [List.length_append, List.length_singleton] at hi
  by_cases hi2 : i = l.length
  · subst hi2; rw [upd_s, getD_ae]
  · rw [upd_n hi2, L i (by omega), getD_ap (by omega)]
/-- the rest of the picture: bad targets, work list (all that was listed), accepted, conflicts, tables -/
def MR (I : Nat → Int32) (A : Nat → Nat → Int32) (n : Nat) (u : Nat → Nat) (D cf bd : List Nat) (tb : List TT) : Prop :=
  (∀ a, a < 256 → A 21 a = bI (decide (a ∈ bd))) ∧ LSq (A 22) D ∧ I 23 = nI D.length ∧ I 24 = nI (cnt (fun a => decide (u a = 1)) n) ∧ I 25 = nI cf.length ∧ LSq (A 30) cf ∧ I 26 = nI bd.length ∧ I 27 = nI tb.length ∧ ∀ k, k < tb.length → TE A k (tb.getD k T0)
abbrev liD : List Nat := [23, 24, 25, 26, 27, 43]
abbrev laD : List Nat := [16, 17, 20, 21, 22, 30, 31, 32, 33, 34, 35]
theorem TE.cg {k : Nat} {T : TT} (e : TE A k T) (h1 : A' 31 = A 31) (h2 : A' 32 = A 32) (h3 : A' 33 = A 33) (h4 : A' 34 = A 34) (h5 : A' 35 = A 35) : TE A' k T := by
  unfold TE TP; rw [h1, h2, h3, h4, h5]; exact e
theorem TE.tf {k T' : Nat} {T : TT} (e : TE A k T) (f : TF T' A A') (hk : k < T') (hl : T.2.2.2.length ≤ 16) : TE A' k T := by
  obtain ⟨e1, e2, e3, e4, e5⟩ := e
  refine ⟨by rw [f.2.1 31 (by decide) k (by omega)]; exact e1, by rw [f.2.1 32 (by decide) k (by omega)]; exact e2, by rw [f.2.1 33 (by decide) k (by omega)]; exact e3, by rw [f.2.1 34 (by decide) k (by omega)]; exact e4, fun i hi => by rw [f.2.2 _ (by omega)]; exact e5 i hi⟩
theorem q_adds {u : Nat → Nat} {D cf bd : List Nat} {tb : List TT} (R : MR I A n u D cf bd tb) (hD : D.length < 1024) {v : Nat} :
    ∃ I' A', f_X3_adds (some mo) (nI v) (EM h mo I A) = rtV (EM h mo I' A') ∧ MR I' A' n u (D ++ [v]) cf bd tb ∧ Un [23] [22] I A I' A' := by
  obtain ⟨r1, r2, r3, r4, r5, r6, r7, r8, r9⟩ := R
  unfold f_X3_adds
  rw [m_gA (by decide) (by decide), m_gI (by decide) (by decide), r3, m_sI0 (by decide) (by decide) (by decide) (show D.length < 1024 from hD), m_gI (by decide) (by decide), r3, nI_1, m_pI (by decide) (by decide)]
  refine ⟨_, _, rfl, ⟨?_, ?_, ?_, ?_, ?_, ?_, ?_, ?_, fun k hk => ?_⟩, (Un.uA (by decide)).tr (Un.uI (by decide))⟩
  · rw [upA_n (by decide)]; exact r1
  · rw [upA_s]; exact r2.add
  · rw [upd_s, List.length_append, List.length_singleton]
  · rw [upd_n (by decide)]; exact r4
  · rw [upd_n (by decide)]; exact r5
  · rw [upA_n (by decide)]; exact r6
  · rw [upd_n (by decide)]; exact r7
  · rw [upd_n (by decide)]; exact r8
  · exact (r9 k hk).cg (upA_n (by decide)) (upA_n (by decide)) (upA_n (by decide)) (upA_n (by decide)) (upA_n (by decide))
theorem TP.cg {T : Nat} {ps : List Nat} (e : TP A T ps) (h4 : A' 34 = A 34) (h5 : A' 35 = A 35) : TP A' T ps := by
  unfold TP; rw [h4, h5]; exact e
theorem MU.mkP1 {u : Nat → Nat} {p : Nat} {ps : List Nat} {k : Nat} (U : MU A m (mkP u (ps.take k))) (hp : ps.getD k 0 = p) (hk : k < ps.length) (hf : ∀ p ∈ ps, fit n u p = true) : MU (upA A 20 (upd (A 20) p 1)) m (mkP u (ps.take (k + 1))) := by
  obtain ⟨u1, u2, u3⟩ := U
  have ht : ps.take (k + 1) = ps.take k ++ [p] := by
    rw [List.take_succ, List.getElem?_eq_getElem hk]
    rw [List.getD_eq_getElem?_getD, List.getElem?_eq_getElem hk] at hp
    simp at hp
    simp [hp]
  have hpm : p ∈ ps := by rw [← hp]; exact getD_mem hk
  have hfp := of_decide_eq_true (hf p hpm)
  have e1 : ∀ a, a ≠ p → mkP u (ps.take (k + 1)) a = mkP u (ps.take k) a := fun a ha => by
    unfold mkP; rw [ht]; simp [ha]
  have e2 : mkP u (ps.take (k + 1)) p = 3 := by unfold mkP; rw [ht]; simp
  have e3 : mkP u (ps.take k) p ≠ 1 ∧ mkP u (ps.take k) p ≠ 2 := by
    unfold mkP
    split
    · omega
    · exact hfp.2
  refine ⟨fun a ha => ?_, fun a ha => ?_, fun a ha => ?_⟩
  · rw [upA_n (by decide), u1 a ha]
    by_cases hap : a = p
    · subst hap; rw [e2, if_neg e3.1, if_neg (by decide)]
    · rw [e1 a hap]
  · rw [upA_n (by decide), u2 a ha]
    by_cases hap : a = p
    · subst hap; rw [e2, if_neg e3.1, if_neg e3.2, if_neg (by decide), if_neg (by decide)]
    · rw [e1 a hap]
  · rw [upA_s]
    by_cases hap : a = p
    · subst hap; rw [upd_s, e2]; rfl
    · rw [upd_n hap, u3 a ha, e1 a hap]
theorem take_s {ps : List Nat} {k : Nat} (hk : k < ps.length) : ps.take (k + 1) = ps.take k ++ [ps.getD k 0] := by
  rw [List.take_succ, List.getElem?_eq_getElem hk, List.getD_eq_getElem?_getD, List.getElem?_eq_getElem hk]; simp
theorem cnt_mkP {u : Nat → Nat} {ps : List Nat} (hf : ∀ p ∈ ps, fit n u p = true) : cnt (fun a => decide (mkP u ps a = 1)) n = cnt (fun a => decide (u a = 1)) n := by
  apply cnt_congr
  intro k _
  unfold mkP
  by_cases hk : k ∈ ps
  · have := of_decide_eq_true (hf k hk)
    simp [hk, this]
  · simp [hk]
theorem q_187 {u : Nat → Nat} {T : Nat} {ps D cf bd : List Nat} {tb : List TT} (hT2 : T < 48) (htl : tb.length = T) (hps : ps.length ≤ 16) (hf : ∀ p ∈ ps, fit n u p = true) {K : Option Nat → AH → RS} (hD : D.length + ps.length ≤ 1024) :
    ∀ (k c : Nat) (I : Nat → Int32) (A : Nat → Nat → Int32), ps.length - c < k → c ≤ ps.length → MI I A m n es t → MU A m (mkP u (ps.take c)) → MR I A n (mkP u (ps.take c)) (D ++ (ps.take c).map m) cf bd tb → TP A T ps →
    ∃ I' A', f_X3_tabulates_L187 K k (some mo) (nI c) (EM h mo I A) = K (some mo) (EM h mo I' A') ∧ MU A' m (mkP u ps) ∧ MR I' A' n (mkP u ps) (D ++ ps.map m) cf bd tb ∧ TP A' T ps ∧ Un [23] [20, 22] I A I' A' := by
  intro k
  induction k with
  | zero => intro c I A h1; omega
  | succ k ih =>
    intro c I A h1 h2 M U R P
    have hn := M.n96
    have h27 : I 27 = nI T := by rw [← htl]; exact R.2.2.2.2.2.2.2.1
    unfold f_X3_tabulates_L187
    rw [m_gA (by decide) (by decide), m_gI (by decide) (by decide), h27, m_lI0 (by decide) (by decide) (by decide) (show T < 48 from hT2), P.1]
    by_cases hc : ps.length ≤ c
    · rw [if_pos (nI_le hc (by omega))]
      have e : ps.take c = ps := List.take_of_length_le hc
      rw [e] at U R
      exact ⟨I, A, rfl, U, R, P, Un.rf⟩
    · have hpm : ps.getD c 0 ∈ ps := getD_mem (by omega)
      have hfp := of_decide_eq_true (hf _ hpm)
      rw [if_neg (fun z => hc ((nI_leI (by omega) (by omega)).mp z)), m_gA (by decide) (by decide), m_gI (by decide) (by decide), h27, lit 16, nI_mul, nI_add, m_lI0 (by decide) (by decide) (by decide) (show 16 * T + c < 768 by omega), P.2 c (by omega), m_gA (by decide) (by decide), m_sI1 (by decide) (by decide) (by decide) (show ps.getD c 0 < 96 by omega) (Or.inr rfl), m_gA (by decide) (by decide), m_lI0 (by decide) (by decide) (by decide) (show ps.getD c 0 < 96 by omega), upA_n (show 1 ≠ 20 by decide), M.mem _ (by omega), m_rc]
      have U1 := U.mkP1 (n := n) rfl (by omega) hf
      have R1 : MR I (upA A 20 (upd (A 20) (ps.getD c 0) 1)) n (mkP u (ps.take (c + 1))) (D ++ (ps.take c).map m) cf bd tb := by
        obtain ⟨r1, r2, r3, r4, r5, r6, r7, r8, r9⟩ := R
        refine ⟨by rw [upA_n (by decide)]; exact r1, by rw [upA_n (by decide)]; exact r2, r3, ?_, r5, by rw [upA_n (by decide)]; exact r6, r7, r8, fun j hj => (r9 j hj).cg (upA_n (by decide)) (upA_n (by decide)) (upA_n (by decide)) (upA_n (by decide)) (upA_n (by decide))⟩
        rw [r4, cnt_mkP (fun p hp => hf p (List.mem_of_mem_take hp)), cnt_mkP (fun p hp => hf p (List.mem_of_mem_take hp))]
      obtain ⟨I1, A1, e1, e2, e3⟩ := q_adds (h := h) (mo := mo) R1 (by rw [List.length_append, List.length_map, List.length_take]; omega) (v := m (ps.getD c 0))
      rw [e1, cV_rt, nI_1]
      have u1 : Un [23] [20, 22] I A I1 A1 := (Un.uA (k := 20) (by decide)).tr (e3.w (by decide) (by decide))
      obtain ⟨I2, A2, f1, f2, f3, f4, f5⟩ := ih (c + 1) I1 A1 (by omega) (by omega) (M.un u1 (by decide) (by decide) (by decide) (by decide) (by decide)) (U1.cg (e3.2 16 (by decide)) (e3.2 17 (by decide)) (e3.2 20 (by decide))) (by
        rw [take_s (show c < ps.length by omega), List.map_append, ← List.append_assoc]
        rw [take_s (show c < ps.length by omega)] at e2
        exact e2) ((P.cg (upA_n (by decide)) (upA_n (by decide))).cg (e3.2 34 (by decide)) (e3.2 35 (by decide)))
      exact ⟨I2, A2, f1, f2, f3, f4, u1.tr f5⟩
end
