/-! PURE: the class's picture of the world -/
set_option maxRecDepth 100000
def IG (H : AH) (a : Nat) (g : IMG) : Prop := IM H a (gm g) (gn g) (ge g) (gt g) ∧ 1 ≤ gt g ∧ gt g ≤ 30
def OI (H : AH) (o : Option Nat) (s : Option IMG) : Prop := (s = none → o = none) ∧ ∀ g, s = some g → ∃ q, o = some q ∧ IG H q g
def OV (H : AH) (o : Option Nat) (g : IMG) (b : Bool) : Prop := (b = false → o = none) ∧ (b = true → ∃ q, o = some q ∧ RV H q (gm g) (gn g) (ge g) (gt g))
def RN (H : AH) (q n : Nat) (x : RUN) : Prop := ∃ (im rg ex : Nat) (f1 f2 : Nat → Int32) (v3 v4 v5 : Value), H.1 q = some (.inr (9, [.ref im, .ref rg, .ref ex, v3, v4, v5])) ∧ H.1 rg = some (.inl (0, 4, .inl f1)) ∧ (∀ j, j < 4 → f1 j = nI (x.2 j)) ∧ H.1 ex = some (.inl (0, n, .inl f2)) ∧ (∀ i, i < n → f2 i = nI (x.1 i)) ∧ ∀ i, x.1 i ≤ 200
def ON (H : AH) (o : Option Nat) (n : Nat) (r : Option RUN) : Prop := (r = none → o = none) ∧ ∀ x, r = some x → ∃ q, o = some q ∧ RN H q n x
def TX (κ : Nat → Nat) (h : AH) (ta : Nat) (l : List Nat) : Prop := ∃ ft : Nat → Int32, (fc 2 κ h).1 ta = some (.inl (2, 60, .inl ft)) ∧ (∀ i, i < l.length → ft i = nI (l.getD i 0)) ∧ l.length ≤ 60 ∧ ∀ x ∈ l, 33 ≤ x ∧ x ≤ 126
def XF (na : Nat) (sa ra la : Option Nat) (ta : Nat) (len : Nat) (ft : Int32) : List Value := [.ref na, va_rf sa, va_rf ra, va_rf la, .ref ta, .int (nI len), .int ft]
def XV (κ : Nat → Nat) (h : AH) (xa na : Nat) (sa ra la : Option Nat) (ta : Nat) (W : WS) : Prop := (fc 1 κ h).1 xa = some (.inr (0, XF na sa ra la ta (wT W).length (wF W))) ∧ IG (fc 0 κ h) na (wI W) ∧ OI (fc 0 κ h) sa (wS W) ∧ OV (fc 0 κ h) ra (wI W) (wR W) ∧ ON (fc 0 κ h) la (gn (wI W)) (wN W) ∧ TX κ h ta (wT W)
def XW (κ : Nat → Nat) (h : AH) (xa : Nat) (W : WS) : Prop := ∃ na sa ra la ta, XV κ h xa na sa ra la ta W
/-- ready for a call -/
def XS (B : Nat) (κ : Nat → Nat) (h : AH) (xa : Nat) (W : WS) : Prop := GH B h ∧ XW κ h xa W ∧ (∀ q, κ q < 10) ∧ 9000 ≤ hcl h ∧ 100000 ≤ hsl h
section
variable {B : Nat} {h h' H H' : AH} {κ κ' : Nat → Nat} {xa na ta : Nat} {sa ra la : Option Nat} {W W' : WS} {c : Nat} {S : Nat → Prop} {g : IMG}
theorem IG.ext {a : Nat} (i : IG H a g) (x : Ext H H') : IG H' a g := ⟨i.1.ext x, i.2⟩
theorem OI.ext {o : Option Nat} {s : Option IMG} (i : OI H o s) (x : Ext H H') : OI H' o s := ⟨i.1, fun g hg => by obtain ⟨q, q1, q2⟩ := i.2 g hg; exact ⟨q, q1, q2.ext x⟩⟩
theorem OV.ext {o : Option Nat} {b : Bool} (i : OV H o g b) (x : Ext H H') : OV H' o g b := ⟨i.1, fun hb => by obtain ⟨q, q1, q2⟩ := i.2 hb; exact ⟨q, q1, q2.ext x⟩⟩
theorem RN.ext {q n : Nat} {r : RUN} (i : RN H q n r) (x : Ext H H') : RN H' q n r := by
  obtain ⟨im, rg, ex, f1, f2, v3, v4, v5, i1, i2, i3, i4, i5⟩ := i
  exact ⟨im, rg, ex, f1, f2, v3, v4, v5, x.1 _ _ i1, x.1 _ _ i2, i3, x.1 _ _ i4, i5⟩
theorem ON.ext {o : Option Nat} {n : Nat} {r : Option RUN} (i : ON H o n r) (x : Ext H H') : ON H' o n r := ⟨i.1, fun y hy => by obtain ⟨q, q1, q2⟩ := i.2 y hy; exact ⟨q, q1, q2.ext x⟩⟩
theorem TX.ext {l : List Nat} (i : TX κ h ta l) (x : Ext (fc 2 κ h) (fc 2 κ' h')) : TX κ' h' ta l := by
  obtain ⟨ft, i1, i2⟩ := i
  exact ⟨ft, x.1 _ _ i1, i2⟩
theorem XV.kc (v : XV κ h xa na sa ra la ta W) (g : GH B h) (g' : GH B h') (k : KC S κ h κ' h') (h0 : ¬ S 0) (h1 : ¬ S 1) (h2 : ¬ S 2) : XV κ' h' xa na sa ra la ta W := by
  obtain ⟨v1, v2, v3, v4, v5, v6⟩ := v
  have x0 := k.ext g g' h0
  exact ⟨(k.ext g g' h1).1 _ _ v1, v2.ext x0, v3.ext x0, v4.ext x0, v5.ext x0, v6.ext (k.ext g g' h2)⟩
theorem XW.kc (w : XW κ h xa W) (g : GH B h) (g' : GH B h') (k : KC S κ h κ' h') (h0 : ¬ S 0) (h1 : ¬ S 1) (h2 : ¬ S 2) : XW κ' h' xa W := by
  obtain ⟨na, sa, ra, la, ta, v⟩ := w
  exact ⟨na, sa, ra, la, ta, v.kc g g' k h0 h1 h2⟩
/-- a call's end: what it answers or throws, and the world behind it -/
def XR (B : Nat) (κ : Nat → Nat) (h : AH) (xa : Nat) (ex : Nat → String) (r : RS) (o : OR) : Prop := ∃ h' κ', ((o.1 = 0 ∧ r = rtI o.2.1 h') ∨ (o.1 ≠ 0 ∧ o.1 ≤ 3 ∧ ∃ q, r = thr (ex o.1) q h')) ∧ XW κ' h' xa o.2.2 ∧ KC (fun k => k = 1 ∨ k = 2) κ h κ' h' ∧ (∀ q, κ' q < 10) ∧ GH B h' ∧ hcl h ≤ hcl h' + 9000 ∧ hsl h ≤ hsl h' + 100000
theorem XR.ok {ex : Nat → String} {v : Int32} (s : XS B κ h xa W) : XR B κ h xa ex (rtI v h) (0, v, W) := ⟨h, κ, Or.inl ⟨rfl, rfl⟩, s.2.1, KC.rf, s.2.2.1, s.1, by omega, by omega⟩
theorem nk_lt (hκ : ∀ q, κ q < 10) (hc : c < 10) : ∀ q, nk c κ h q < 10 := fun q => by
  rcases nk_or (c := c) (κ := κ) (h := h) (q := q) with z | z
  · rw [z]; exact hκ q
  · omega
/-- an exception is thrown -/
theorem XR.th {ex : Nat → String} {c e : Nat} {E : String} (s : XS B κ h xa W) (hE : E = ex c) (hc : c ≠ 0 ∧ c ≤ 3) : XR B κ h xa ex (thr E (hsz h) (hnew h (.inr (e, [])) 6)) (c, 0, W) := by
  have k1 : KC (fun _ => False) κ h (nk 0 κ h) (hnew h (.inr (e, [])) 6) := KC.new (by have := s.2.2.2.1; omega) (by have := s.2.2.2.2; omega)
  have g1 : GH B (hnew h (.inr (e, [])) 6) := s.1.new
  subst hE
  exact ⟨_, _, Or.inr ⟨hc.1, hc.2, _, rfl⟩, s.2.1.kc s.1 g1 k1 (fun z => z) (fun z => z) (fun z => z), k1.w (fun k z => z.elim), nk_lt s.2.2.1 (by decide), g1, by show hcl h ≤ hcl h - 1 + 9000; omega, by show hsl h ≤ hsl h - 6 + 100000; omega⟩
theorem x_rA (b : Bool) (hc : 1 ≤ hcl h) (hs : 6 ≤ hsl h) : f_X1_requireArgument (bI b) h = if b = true then rtV h else thr "java/lang/IllegalArgumentException" (hsz h) (hnew h (.inr (14, [])) 6) := by
  unfold f_X1_requireArgument
  cases b
  · rw [n0f, mk_v hc hs, at_v hnew_s, if_neg (by decide)]; rfl
  · rw [n0t, if_pos rfl]
theorem x_rS (b : Bool) (hc : 1 ≤ hcl h) (hs : 6 ≤ hsl h) : f_X1_requireState (bI b) h = if b = true then rtV h else thr "java/lang/IllegalStateException" (hsz h) (hnew h (.inr (15, [])) 6) := by
  unfold f_X1_requireState
  cases b
  · rw [n0f, mk_v hc hs, at_v hnew_s, if_neg (by decide)]; rfl
  · rw [n0t, if_pos rfl]
theorem x_rI (b : Bool) (hc : 1 ≤ hcl h) (hs : 6 ≤ hsl h) : f_X1_requireIndex (bI b) h = if b = true then rtV h else thr "java/lang/IndexOutOfBoundsException" (hsz h) (hnew h (.inr (16, [])) 6) := by
  unfold f_X1_requireIndex
  cases b
  · rw [n0f, mk_v hc hs, at_v hnew_s, if_neg (by decide)]; rfl
  · rw [n0t, if_pos rfl]
theorem x_rP (b : Bool) (hc : 1 ≤ hcl h) (hs : 6 ≤ hsl h) : f_X1_requireSupport (bI b) h = if b = true then rtV h else thr "java/lang/UnsupportedOperationException" (hsz h) (hnew h (.inr (17, [])) 6) := by
  unfold f_X1_requireSupport
  cases b
  · rw [n0f, mk_v hc hs, at_v hnew_s, if_neg (by decide)]; rfl
  · rw [n0t, if_pos rfl]
/-- the parts of a ready world -/
theorem XS.v (s : XS B κ h xa W) : ∃ na sa ra la ta, XV κ h xa na sa ra la ta W := s.2.1
theorem XV.hx (v : XV κ h xa na sa ra la ta W) : rd h xa = some (.inr (0, XF na sa ra la ta (wT W).length (wF W))) := rdo (fc_e v.1).2
theorem XV.rc (v : XV κ h xa na sa ra la ta W) {X : RS} : xrc h (some xa) 0 X = X := rc_v v.hx
theorem XV.now (v : XV κ h xa na sa ra la ta W) {X : Option Nat → RS} : xgA h (some xa) 0 0 X = X (some na) := gA_v (o := some na) v.hx rfl
theorem XV.im (g : GH B h) (v : XV κ h xa na sa ra la ta W) : IM h na (gm (wI W)) (gn (wI W)) (ge (wI W)) (gt (wI W)) := v.2.1.1.ext (fc_ext g)
theorem x_radr (g : GH B h) (v : XV κ h xa na sa ra la ta W) (p : Int32) (hc : 1 ≤ hcl h) (hs : 6 ≤ hsl h) : f_X1_requireAddress (some xa) p h = if ad (gn (wI W)) p = true then rtV h else thr "java/lang/IndexOutOfBoundsException" (hsz h) (hnew h (.inr (16, [])) 6) := by
  have I := v.im g
  unfold f_X1_requireAddress
  rw [v.now, I.rcv, i_cont I, cI_rt, x_rI _ hc hs]
  cases ad (gn (wI W)) p
  · rw [if_neg (by decide), cV_th]
  · rw [if_pos rfl, cV_rt]
theorem x_recd (g : GH B h) (v : XV κ h xa na sa ra la ta W) (hc : 1 ≤ hcl h) (hs : 6 ≤ hsl h) : f_X1_recovered (some xa) h = if wR W = true then rtA ra h else thr "java/lang/IllegalStateException" (hsz h) (hnew h (.inr (15, [])) 6) := by
  unfold f_X1_recovered
  rw [gA_v (o := ra) v.hx rfl]
  cases hb : wR W with
  | false =>
    rw [v.2.2.2.1.1 hb, if_pos rfl, if_neg (by decide)]
    unfold f_X1_recovered_J12
    rw [show (0 : Int32) = bI false from rfl, x_rS false hc hs, if_neg (by decide), cV_th]
  | true =>
    obtain ⟨q, q1, q2⟩ := v.2.2.2.1.2 hb
    have hx := v.hx
    rw [q1, if_neg (by simp), if_pos rfl]
    rw [q1] at hx
    unfold f_X1_recovered_J12
    rw [show (1 : Int32) = bI true from rfl, x_rS true hc hs, if_pos rfl, cV_rt, gA_v (o := some q) hx rfl]
/-- a question about the recovery -/
theorem XR.rec {ex : Nat → String} (s : XS B κ h xa W) (he : ex 1 = "java/lang/IllegalStateException") {K : Option Nat → AH → RS} {o : OR} (ok : ∀ q, wR W = true → RV h q (gm (wI W)) (gn (wI W)) (ge (wI W)) (gt (wI W)) → XR B κ h xa ex (K (some q) h) o) : XR B κ h xa ex (xrc h (some xa) 0 (xcA (f_X1_recovered (some xa) h) K)) (if wR W = true then o else (1, 0, W)) := by
  obtain ⟨na, sa, ra, la, ta, v⟩ := s.v
  have hc := s.2.2.2.1
  have hs := s.2.2.2.2
  rw [v.rc, x_recd s.1 v (by omega) (by omega)]
  by_cases hb : wR W = true
  · obtain ⟨q, q1, q2⟩ := v.2.2.2.1.2 hb
    rw [if_pos hb, if_pos hb, q1, cA_rt]
    exact ok q hb (q2.ext (fc_ext s.1))
  · rw [if_neg hb, if_neg hb, cA_th]
    exact XR.th s he.symm (by decide)
/-- an index is required -/
theorem XR.idx {ex : Nat → String} (s : XS B κ h xa W) {c : Nat} {b : Bool} (he : ex c = "java/lang/IndexOutOfBoundsException") (hc : c ≠ 0 ∧ c ≤ 3) {K : AH → RS} {o : OR} (ok : b = true → XR B κ h xa ex (K h) o) : XR B κ h xa ex (xcV (f_X1_requireIndex (bI b) h) K) (if b = true then o else (c, 0, W)) := by
  have hc' := s.2.2.2.1
  have hs := s.2.2.2.2
  rw [x_rI _ (by omega) (by omega)]
  cases b with
  | false => rw [if_neg (by decide), if_neg (by decide), cV_th]; exact XR.th s he.symm hc
  | true => rw [if_pos rfl, if_pos rfl, cV_rt]; exact ok rfl
theorem XR.arg {ex : Nat → String} (s : XS B κ h xa W) {c : Nat} {b : Bool} (he : ex c = "java/lang/IllegalArgumentException") (hc : c ≠ 0 ∧ c ≤ 3) {K : AH → RS} {o : OR} (ok : b = true → XR B κ h xa ex (K h) o) : XR B κ h xa ex (xcV (f_X1_requireArgument (bI b) h) K) (if b = true then o else (c, 0, W)) := by
  have hc' := s.2.2.2.1
  have hs := s.2.2.2.2
  rw [x_rA _ (by omega) (by omega)]
  cases b with
  | false => rw [if_neg (by decide), if_neg (by decide), cV_th]; exact XR.th s he.symm hc
  | true => rw [if_pos rfl, if_pos rfl, cV_rt]; exact ok rfl
theorem XR.sup {ex : Nat → String} (s : XS B κ h xa W) {c : Nat} {b : Bool} (he : ex c = "java/lang/UnsupportedOperationException") (hc : c ≠ 0 ∧ c ≤ 3) {K : AH → RS} {o : OR} (ok : b = true → XR B κ h xa ex (K h) o) : XR B κ h xa ex (xcV (f_X1_requireSupport (bI b) h) K) (if b = true then o else (c, 0, W)) := by
  have hc' := s.2.2.2.1
  have hs := s.2.2.2.2
  rw [x_rP _ (by omega) (by omega)]
  cases b with
  | false => rw [if_neg (by decide), if_neg (by decide), cV_th]; exact XR.th s he.symm hc
  | true => rw [if_pos rfl, if_pos rfl, cV_rt]; exact ok rfl
theorem XR.sta {ex : Nat → String} (s : XS B κ h xa W) {c : Nat} {b : Bool} (he : ex c = "java/lang/IllegalStateException") (hc : c ≠ 0 ∧ c ≤ 3) {K : AH → RS} {o : OR} (ok : b = true → XR B κ h xa ex (K h) o) : XR B κ h xa ex (xcV (f_X1_requireState (bI b) h) K) (if b = true then o else (c, 0, W)) := by
  have hc' := s.2.2.2.1
  have hs := s.2.2.2.2
  rw [x_rS _ (by omega) (by omega)]
  cases b with
  | false => rw [if_neg (by decide), if_neg (by decide), cV_th]; exact XR.th s he.symm hc
  | true => rw [if_pos rfl, if_pos rfl, cV_rt]; exact ok rfl
/-- an address is required -/
theorem XR.adr {ex : Nat → String} (s : XS B κ h xa W) {c : Nat} {p : Int32} (he : ex c = "java/lang/IndexOutOfBoundsException") (hc : c ≠ 0 ∧ c ≤ 3) {K : AH → RS} {o : OR} (ok : ad (gn (wI W)) p = true → XR B κ h xa ex (K h) o) : XR B κ h xa ex (xrc h (some xa) 0 (xcV (f_X1_requireAddress (some xa) p h) K)) (if ad (gn (wI W)) p = true then o else (c, 0, W)) := by
  obtain ⟨na, sa, ra, la, ta, v⟩ := s.v
  have hc' := s.2.2.2.1
  have hs := s.2.2.2.2
  rw [v.rc, x_radr s.1 v p (by omega) (by omega)]
  cases hb : ad (gn (wI W)) p with
  | false => rw [if_neg (by decide), if_neg (by decide), cV_th]; exact XR.th s he.symm hc
  | true => rw [if_pos rfl, if_pos rfl, cV_rt]; exact ok hb
end
