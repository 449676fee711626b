/-! PURE: the world, and the model's picture of it -/
set_option maxRecDepth 100000
/-- memory, size, entries, threshold -/
abbrev IMG : Type := (Nat → Nat) × Nat × List Nat × Nat
abbrev RUN : Type := (Nat → Nat) × (Nat → Nat)
/-- image, saved image, recovered, run, text, fault -/
abbrev WS : Type := IMG × Option IMG × Bool × Option RUN × List Nat × Int32
def gm (g : IMG) : Nat → Nat := g.1
def gn (g : IMG) : Nat := g.2.1
def ge (g : IMG) : List Nat := g.2.2.1
def gt (g : IMG) : Nat := g.2.2.2
def wI (W : WS) : IMG := W.1
def wS (W : WS) : Option IMG := W.2.1
def wR (W : WS) : Bool := W.2.2.1
def wN (W : WS) : Option RUN := W.2.2.2.1
def wT (W : WS) : List Nat := W.2.2.2.2.1
def wF (W : WS) : Int32 := W.2.2.2.2.2
def MIg (I : Nat → Int32) (A : Nat → Nat → Int32) (g : IMG) : Prop := MI I A (gm g) (gn g) (ge g) (gt g)
def MIs (I : Nat → Int32) (A : Nat → Nat → Int32) (g : IMG) : Prop := MIg (fun k => I (k + 3)) (fun k => A (k + 1)) g
def MSv (I : Nat → Int32) (A : Nat → Nat → Int32) (s : Option IMG) : Prop := (s = none → I 11 = 0) ∧ ∀ g, s = some g → I 11 = 1 ∧ MIs I A g
def MRc (I : Nat → Int32) (A : Nat → Nat → Int32) (g : IMG) (b : Bool) : Prop := (b = false → I 15 = 0) ∧ (b = true → I 15 = 1 ∧ MRv I A (gm g) (gn g) (ge g) (gt g))
def MNr (I : Nat → Int32) (A : Nat → Nat → Int32) (r : Option RUN) : Prop := (r = none → I 39 = 0) ∧ ∀ x, r = some x → I 39 = 1 ∧ (∀ a, a < 96 → A 40 a = nI (x.1 a)) ∧ (∀ j, j < 4 → A 41 j = nI (x.2 j)) ∧ ∀ a, x.1 a ≤ 200
def MTx (I : Nat → Int32) (A : Nat → Nat → Int32) (l : List Nat) : Prop := I 13 = nI l.length ∧ l.length ≤ 60 ∧ LSq (A 12) l ∧ ∀ x ∈ l, 33 ≤ x ∧ x ≤ 126
def MW (I : Nat → Int32) (A : Nat → Nat → Int32) (W : WS) : Prop := MIg I A (wI W) ∧ MSv I A (wS W) ∧ MRc I A (wI W) (wR W) ∧ MNr I A (wN W) ∧ MTx I A (wT W) ∧ I 14 = wF W ∧ ∃ k, k ≤ 48 ∧ I 27 = nI k
section
variable {li la : List Nat} {I I' I2 : Nat → Int32} {A A' A2 : Nat → Nat → Int32} {h : AH} {mo : Nat} {W : WS}
theorem MIs.un {g : IMG} (M : MIs I A g) (x : Un li la I A I' A') (h8 : 8 ∉ li) (h9 : 9 ∉ li) (h10 : 10 ∉ li) (h2 : 2 ∉ la) (h4 : 4 ∉ la) : MIs I' A' g := by
  unfold MIs MIg at *
  exact M.cg (x.1 8 h8) (x.1 9 h9) (x.1 10 h10) (x.2 2 h2) (x.2 4 h4)
theorem MSv.un {s : Option IMG} (M : MSv I A s) (x : Un li la I A I' A') (h8 : 8 ∉ li) (h9 : 9 ∉ li) (h10 : 10 ∉ li) (h11 : 11 ∉ li) (h2 : 2 ∉ la) (h4 : 4 ∉ la) : MSv I' A' s :=
  ⟨fun z => by rw [x.1 11 h11]; exact M.1 z, fun g z => ⟨by rw [x.1 11 h11]; exact (M.2 g z).1, (M.2 g z).2.un x h8 h9 h10 h2 h4⟩⟩
theorem MRv.un {m : Nat → Nat} {n t : Nat} {es : List Nat} (M : MRv I A m n es t) (x : Un li la I A I' A') (hi : ∀ k ∈ [23, 24, 25, 26, 27, 28, 29], k ∉ li) (ha : ∀ k ∈ [16, 17, 18, 19, 20, 21, 22, 30, 31, 32, 33, 34, 35, 36, 37, 38], k ∉ la) : MRv I' A' m n es t := by
  obtain ⟨⟨P, U, r1, r2, r3, r4, r5, r6, r7, r8, r9⟩, ⟨g1, g2⟩, ⟨s1, s2⟩, s3⟩ := M
  refine ⟨⟨P, U.cg (x.2 16 (ha _ (by decide))) (x.2 17 (ha _ (by decide))) (x.2 20 (ha _ (by decide))), by rw [x.2 21 (ha _ (by decide))]; exact r1, by rw [x.2 22 (ha _ (by decide))]; exact r2, by rw [x.1 23 (hi _ (by decide))]; exact r3, by rw [x.1 24 (hi _ (by decide))]; exact r4, by rw [x.1 25 (hi _ (by decide))]; exact r5, by rw [x.2 30 (ha _ (by decide))]; exact r6, by rw [x.1 26 (hi _ (by decide))]; exact r7, by rw [x.1 27 (hi _ (by decide))]; exact r8, fun k hk => (r9 k hk).cg (x.2 31 (ha _ (by decide))) (x.2 32 (ha _ (by decide))) (x.2 33 (ha _ (by decide))) (x.2 34 (ha _ (by decide))) (x.2 35 (ha _ (by decide)))⟩, ⟨by rw [x.1 28 (hi _ (by decide))]; exact g1, fun k hk => by rw [x.2 36 (ha _ (by decide)), x.2 37 (ha _ (by decide)), x.2 38 (ha _ (by decide))]; exact g2 k hk⟩, ⟨by rw [x.2 18 (ha _ (by decide))]; exact s1, by rw [x.2 19 (ha _ (by decide))]; exact s2⟩, by rw [x.1 29 (hi _ (by decide))]; exact s3⟩
theorem MRc.un {g : IMG} {b : Bool} (M : MRc I A g b) (x : Un li la I A I' A') (h15 : 15 ∉ li) (hi : ∀ k ∈ [23, 24, 25, 26, 27, 28, 29], k ∉ li) (ha : ∀ k ∈ [16, 17, 18, 19, 20, 21, 22, 30, 31, 32, 33, 34, 35, 36, 37, 38], k ∉ la) : MRc I' A' g b :=
  ⟨fun z => by rw [x.1 15 h15]; exact M.1 z, fun z => ⟨by rw [x.1 15 h15]; exact (M.2 z).1, (M.2 z).2.un x hi ha⟩⟩
theorem MNr.un {r : Option RUN} (M : MNr I A r) (x : Un li la I A I' A') (h39 : 39 ∉ li) (h40 : 40 ∉ la) (h41 : 41 ∉ la) : MNr I' A' r :=
  ⟨fun z => by rw [x.1 39 h39]; exact M.1 z, fun y z => by rw [x.1 39 h39, x.2 40 h40, x.2 41 h41]; exact M.2 y z⟩
theorem MTx.un {l : List Nat} (M : MTx I A l) (x : Un li la I A I' A') (h13 : 13 ∉ li) (h12 : 12 ∉ la) : MTx I' A' l := by
  unfold MTx
  rw [x.1 13 h13, x.2 12 h12]
  exact M
abbrev liS : List Nat := [0, 43, 44, 47, 48, 49]
abbrev laS : List Nat := [42, 45, 46]
theorem MIg.un {g : IMG} (M : MIg I A g) (u : Un li la I A I' A') (h5 : 5 ∉ li) (h6 : 6 ∉ li) (h7 : 7 ∉ li) (h1 : 1 ∉ la) (h3 : 3 ∉ la) : MIg I' A' g := MI.un M u h5 h6 h7 h1 h3
theorem MW.un (w : MW I A W) (x : Un liS laS I A I' A') : MW I' A' W := by
  obtain ⟨w1, w2, w3, w4, w5, w6, w7⟩ := w
  exact ⟨w1.un x (by decide) (by decide) (by decide) (by decide) (by decide), w2.un x (by decide) (by decide) (by decide) (by decide) (by decide) (by decide), w3.un x (by decide) (by decide) (by decide), w4.un x (by decide) (by decide) (by decide), w5.un x (by decide) (by decide), by rw [x.1 14 (by decide)]; exact w6, by rw [x.1 27 (by decide)]; exact w7⟩
/-- an int as an address -/
def adx (p : Int32) : Nat := p.toInt.toNat
theorem ad_x {n : Nat} {p : Int32} (hp : ad n p = true) : p = nI (adx p) ∧ adx p < n := by
  unfold ad at hp
  have hp := of_decide_eq_true hp
  refine ⟨?_, by unfold adx; omega⟩
  apply Int32.toInt_inj.mp
  have h3 := Int32.toInt_lt p
  unfold adx
  rw [nI_toInt (by omega)]
  omega
theorem adx_nI {x : Nat} (hx : x ≤ 100000) : adx (nI x) = x := by unfold adx; rw [nI_toI hx]; omega
/-- an int within bounds -/
def btw (p : Int32) (lo hi : Nat) : Bool := decide ((lo : Int) ≤ p.toInt ∧ p.toInt ≤ hi)
theorem btw_in {p : Int32} {lo hi : Nat} (h1 : lo ≤ 100000) (h2 : hi ≤ 100000) : decide (nI lo ≤ p ∧ p ≤ nI hi) = btw p lo hi := by
  unfold btw
  apply decide_eq_decide.mpr
  rw [Int32.le_iff_toInt_le, Int32.le_iff_toInt_le, nI_toI h1, nI_toI h2]
theorem btw_x {p : Int32} {lo hi : Nat} (hp : btw p lo hi = true) : p = nI (adx p) ∧ lo ≤ adx p ∧ adx p ≤ hi := by
  unfold btw at hp
  have hp := of_decide_eq_true hp
  refine ⟨?_, by unfold adx; omega, by unfold adx; omega⟩
  apply Int32.toInt_inj.mp
  have h3 := Int32.toInt_lt p
  unfold adx
  rw [nI_toInt (by omega)]
  omega
theorem q_btw {p : Int32} {lo hi : Nat} (h1 : lo ≤ 100000) (h2 : hi ≤ 100000) : f_X3_in p (nI lo) (nI hi) h = rtI (bI (btw p lo hi)) h := by
  rw [q_in, btw_in h1 h2]
theorem x_btw {p : Int32} {lo hi : Nat} (h1 : lo ≤ 100000) (h2 : hi ≤ 100000) : f_X1_isBetween p (nI lo) (nI hi) h = rtI (bI (btw p lo hi)) h := by
  rw [f_btw, btw_in h1 h2]
theorem q_btw0 {p : Int32} {hi : Nat} (h2 : hi ≤ 100000) : f_X3_in p 0 (nI hi) h = rtI (bI (btw p 0 hi)) h := q_btw (lo := 0) (by decide) h2
theorem x_btw0 {p : Int32} {hi : Nat} (h2 : hi ≤ 100000) : f_X1_isBetween p 0 (nI hi) h = rtI (bI (btw p 0 hi)) h := x_btw (lo := 0) (by decide) h2
theorem q_ad {p : Int32} {k : Nat} (hk : k ≤ 96) : f_X3_in p 0 (nI k - 1) h = rtI (bI (ad k p)) h := by rw [q_in, ad_in hk]
theorem x_ad {p : Int32} {k : Nat} (hk : k ≤ 96) : f_X1_isBetween p 0 (nI k - 1) h = rtI (bI (ad k p)) h := by rw [f_btw, ad_in hk]
/-! what the calls do to the world: the code of the exception (0: none), the answer, the world behind it -/
abbrev OR : Type := Nat × Int32 × WS
def chg (W : WS) (g : IMG) (mem : Bool) : WS := (g, wS W, false, if mem = true then none else wN W, wT W, wF W)
def dgt (c : Nat) : Option Nat := if 48 ≤ c ∧ c ≤ 57 then some (c - 48) else if 97 ≤ c ∧ c ≤ 102 then some (c - 97 + 10) else none
def dgv (c : Nat) : Nat := (dgt c).getD 0
/-- how many digits are ahead -/
def gdn : List Nat → Nat
  | [] => 0
  | c :: l => if dgt c = none then 0 else gdn l + 1
def rdB (l : List Nat) (k : Nat) : Nat := 16 * dgv (l.getD (2 * k) 0) + dgv (l.getD (2 * k + 1) 0)
def addM (m : Nat → Nat) (n : Nat) (l : List Nat) : Nat → Nat := fun i => if n ≤ i ∧ i < n + l.length / 2 then rdB l (i - n) else m i
def badT (l : List Nat) : Bool := decide (gdn l < l.length ∨ l.length % 2 = 1 ∨ l.length = 0)
def w_app (p : Int32) (W : WS) : OR := if btw p 33 126 = true then (if (wT W).length < 60 then (0, nI ((wT W).length + 1), (wI W, wS W, wR W, wN W, wT W ++ [adx p], wF W)) else (2, 0, W)) else (1, 0, W)
def w_addB (W : WS) : OR :=
  if badT (wT W) = true then (1, 0, (wI W, wS W, wR W, wN W, [], nI (gdn (wT W))))
  else if 96 < gn (wI W) + (wT W).length / 2 then (2, 0, (wI W, wS W, wR W, wN W, [], -1))
  else (0, nI (gn (wI W) + (wT W).length / 2), ((addM (gm (wI W)) (gn (wI W)) (wT W), gn (wI W) + (wT W).length / 2, ge (wI W), gt (wI W)), wS W, false, none, [], -1))
def w_setB (p q : Int32) (W : WS) : OR := if ad (gn (wI W)) p = true then (if btw q 0 255 = true then (0, nI (gm (wI W) (adx p)), chg W (updN (gm (wI W)) (adx p) (adx q), gn (wI W), ge (wI W), gt (wI W)) true) else (2, 0, W)) else (1, 0, W)
def w_byte (p : Int32) (W : WS) : OR := if ad (gn (wI W)) p = true then (0, nI (gm (wI W) (adx p)), W) else (1, 0, W)
def w_clear (W : WS) : OR := (0, nI (gn (wI W)), chg W (gm (wI W), 0, [], gt (wI W)) true)
def w_addE (p : Int32) (W : WS) : OR := if ad (gn (wI W)) p = true then (if (ge (wI W)).length = 4 ∨ adx p ∈ ge (wI W) then (2, 0, W) else (0, nI (ge (wI W)).length, chg W (gm (wI W), gn (wI W), ge (wI W) ++ [adx p], gt (wI W)) false)) else (1, 0, W)
def w_remE (p : Int32) (W : WS) : OR := if ad (ge (wI W)).length p = true then (0, nI ((ge (wI W)).getD (adx p) 0), chg W (gm (wI W), gn (wI W), (ge (wI W)).eraseIdx (adx p), gt (wI W)) false) else (1, 0, W)
def w_thr (p : Int32) (W : WS) : OR := if btw p 1 30 = true then (0, nI (gt (wI W)), chg W (gm (wI W), gn (wI W), ge (wI W), adx p) false) else (1, 0, W)
def w_val (p : Int32) (W : WS) : OR := if ad (gn (wI W)) p = true then (0, bI (zv (gm (wI W)) (gn (wI W)) (adx p)), W) else (1, 0, W)
def w_dec (p q : Int32) (W : WS) : OR :=
  if ad (gn (wI W)) p = true then (if btw q 0 5 = true then (if zv (gm (wI W)) (gn (wI W)) (adx p) = true then (
    if adx q = 0 then (0, nI (zk (gm (wI W)) (adx p)), W) else if adx q = 1 then (0, nI (zl (gm (wI W)) (adx p)), W) else if adx q = 2 then (0, nI (zf (gm (wI W)) (adx p)), W) else if adx q = 3 then (0, nI (zs (gm (wI W)) (adx p)), W)
    else if adx q = 4 then (if zh (gm (wI W)) (adx p) = true then (0, nI (zo (gm (wI W)) (adx p)), W) else (3, 0, W)) else (if zt (gm (wI W)) (adx p) = true then (0, iI (zg (gm (wI W)) (adx p)), W) else (3, 0, W)))
    else (3, 0, W)) else (2, 0, W)) else (1, 0, W)
def w_rec (W : WS) : OR := (0, nI (nA (gm (wI W)) (gn (wI W)) (ge (wI W))), (wI W, wS W, true, wN W, wT W, wF W))
def w_save (W : WS) : OR := (0, 0, (wI W, some (wI W), wR W, wN W, wT W, wF W))
def w_rest (W : WS) : OR := match wS W with
  | none => (1, 0, W)
  | some g => (0, 0, chg W g true)
def w_run (p : Int32) (W : WS) : OR := if ad (gn (wI W)) p = true then (0, nI (rn (gm (wI W)) (gn (wI W)) (adx p)).2.2, (wI W, wS W, wR W, some ((rn (gm (wI W)) (gn (wI W)) (adx p)).1, (rn (gm (wI W)) (gn (wI W)) (adx p)).2.1), wT W, wF W)) else (1, 0, W)
/-- a call's end in the model -/
def MEnd (mo : Nat) (h : AH) (r : RS) (o : OR) : Prop := ∃ (b : Int32) (I' : Nat → Int32) (A' : Nat → Nat → Int32), r = rtI b (EM h mo I' A') ∧ MW I' A' o.2.2 ∧ I' 0 = nI o.1 ∧ (o.1 = 0 → b = o.2.1)
theorem MEnd.of {r : RS} {c : Nat} {v b : Int32} {W' : WS} (e : r = rtI b (EM h mo I' A')) (w : MW I' A' W') (z : I' 0 = nI c) (hb : c = 0 → b = v) : MEnd mo h r (c, v, W') := ⟨b, I', A', e, w, z, hb⟩
/-- a refusal -/
theorem q_fail (w : MW I A W) {c : Nat} (hc : c ≠ 0) {v : Int32} : xrc (EM h mo I A) (some mo) 2 (xcI (f_X3_fails (some mo) (nI c) (EM h mo I A)) (fun v12 h11 => rtI v12 h11)) = rtI 0 (EM h mo (upd I 0 (nI c)) A) ∧ MEnd mo h (rtI 0 (EM h mo (upd I 0 (nI c)) A)) (c, v, W) := by
  refine ⟨?_, MEnd.of rfl (w.un (Un.uI (by decide))) upd_s (fun z => absurd z hc)⟩
  unfold f_X3_fails
  rw [m_rc, m_pI (by decide) (by decide), cI_rt]
theorem MEnd.cg {r r' : RS} {o : OR} (m : MEnd mo h r o) (e : r' = r) : MEnd mo h r' o := by rw [e]; exact m
theorem q_failE (w : MW I A W) {c : Nat} (hc : c ≠ 0) {v : Int32} : MEnd mo h (xrc (EM h mo I A) (some mo) 2 (xcI (f_X3_fails (some mo) (nI c) (EM h mo I A)) (fun v12 h11 => rtI v12 h11))) (c, v, W) := (q_fail w hc).2.cg (q_fail w hc (v := v)).1
/-- changes -/
theorem q_chg (b : Bool) (h39 : I 39 = 0 ∨ I 39 = 1) : ∃ I', f_X3_changes (some mo) (bI b) (EM h mo I A) = rtV (EM h mo I' A) ∧ I' 15 = 0 ∧ (b = true → I' 39 = 0) ∧ (b = false → I' 39 = I 39) ∧ Un [15, 39] [] I A I' A := by
  unfold f_X3_changes
  rw [m_pZ (by decide) (by decide) (Or.inl rfl), m_gI (by decide) (by decide), upd_n (by decide)]
  rcases h39 with e | e
  · rw [e, if_pos rfl, m_pZ (by decide) (by decide) (Or.inl rfl)]
    exact ⟨_, rfl, by rw [upd_n (by decide), upd_s], fun _ => upd_s, fun _ => upd_s, (Un.uI (by decide)).tr (Un.uI (by decide))⟩
  · rw [e, if_neg (by decide)]
    cases b with
    | true =>
      rw [n0t, m_pZ (by decide) (by decide) (Or.inl rfl)]
      exact ⟨_, rfl, by rw [upd_n (by decide), upd_s], fun _ => upd_s, fun z => (by cases z), (Un.uI (by decide)).tr (Un.uI (by decide))⟩
    | false =>
      rw [n0f, m_pZ (by decide) (by decide) (Or.inr rfl)]
      exact ⟨_, rfl, by rw [upd_n (by decide), upd_s], fun z => by (cases z), fun _ => upd_s, (Un.uI (by decide)).tr (Un.uI (by decide))⟩
theorem MNr.z {r : Option RUN} (M : MNr I A r) : I 39 = 0 ∨ I 39 = 1 := by
  cases r with
  | none => exact Or.inl (M.1 rfl)
  | some x => exact Or.inr (M.2 x rfl).1
/-- the world behind a change of the image -/
theorem MW.chg (w : MW I A W) {g : IMG} {b : Bool} {I1 I3 : Nat → Int32} {A1 : Nat → Nat → Int32} (x : Un [0, 5, 6, 7] [1, 3] I A I1 A1) (m : MIg I1 A1 g) (z1 : I3 15 = 0) (z2 : b = true → I3 39 = 0) (z3 : b = false → I3 39 = I1 39) (y : Un [15, 39] [] I1 A1 I3 A1) : MW I3 A1 (chg W g b) := by
  obtain ⟨w1, w2, w3, w4, w5, w6, w7⟩ := w
  refine ⟨m.un y (by decide) (by decide) (by decide) (by decide) (by decide), (w2.un x (by decide) (by decide) (by decide) (by decide) (by decide) (by decide)).un y (by decide) (by decide) (by decide) (by decide) (by decide) (by decide), ⟨fun _ => z1, fun z => by cases z⟩, ?_, (w5.un x (by decide) (by decide)).un y (by decide) (by decide), ?_, by rw [y.1 27 (by decide), x.1 27 (by decide)]; exact w7⟩
  · cases b with
    | true => exact ⟨fun _ => z2 rfl, fun r z => by cases z⟩
    | false =>
      have w4' := w4.un x (by decide) (by decide) (by decide)
      have e := z3 rfl
      exact ⟨fun z => by rw [e]; exact w4'.1 z, fun r z => by rw [e]; exact w4'.2 r z⟩
  · show I3 14 = wF W
    rw [y.1 14 (by decide), x.1 14 (by decide)]; exact w6
end
