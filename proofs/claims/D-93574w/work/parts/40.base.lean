/-! PURE, base: values of the combinators -/
set_option maxRecDepth 100000
theorem lit (n : Nat) : (OfNat.ofNat n : Int32) = nI n := rfl
def b2i (p : Prop) [Decidable p] : Int32 := if p then 1 else 0
theorem b2i_t {p : Prop} [Decidable p] (h : p) : b2i p = 1 := if_pos h
theorem b2i_f {p : Prop} [Decidable p] (h : ¬ p) : b2i p = 0 := if_neg h
theorem b2i_01 (p : Prop) [Decidable p] : b2i p = 0 ∨ b2i p = 1 := by by_cases h : p <;> simp [b2i, h]
theorem b2i_e0 (p : Prop) [Decidable p] : (b2i p = 0) = ¬ p := by by_cases h : p <;> simp [b2i, h]
theorem b2i_e1 (p : Prop) [Decidable p] : (b2i p = 1) = p := by by_cases h : p <;> simp [b2i, h]
theorem b2i_c {p q : Prop} [Decidable p] [Decidable q] (h : p ↔ q) : b2i p = b2i q := by by_cases hp : p <;> simp [b2i, hp, h.symm, h.mp, h] <;> simp_all
theorem rdo {h : AH} {a : Nat} {e : AE} (he : h.1 a = some e) : rd h a = some e := by unfold rd; rw [he]
theorem rdr {h : AH} {a : Nat} {e : AE} (h0 : h.1 a = none) (he : hro h a = some e) : rd h a = some e := by unfold rd; rw [h0]; exact he
/-! returns -/
theorem rtZ0 (h : AH) : rtZ 0 h = rtI 0 h := by simp [rtZ, rtI]
theorem rtZ1 (h : AH) : rtZ 1 h = rtI 1 h := by simp [rtZ, rtI]
theorem rtZb (p : Prop) [Decidable p] (h : AH) : rtZ (b2i p) h = rtI (b2i p) h := by unfold rtZ; rw [if_pos (b2i_01 p)]; rfl
theorem cI_rt {v : Int32} {h : AH} {X : Int32 → AH → RS} : xcI (rtI v h) X = X v h := rfl
theorem cA_rt {o : Option Nat} {h : AH} {X : Option Nat → AH → RS} : xcA (rtA o h) X = X o h := by cases o <;> rfl
theorem cV_rt {h : AH} {X : AH → RS} : xcV (rtV h) X = X h := rfl
theorem cL_rt {v : Int64} {h : AH} {X : Int64 → AH → RS} : xcL (rtL v h) X = X v h := rfl
theorem cD_rt {v : UInt64} {h : AH} {X : UInt64 → AH → RS} : xcD (rtD v h) X = X v h := rfl
theorem cF_rt {v : UInt32} {h : AH} {X : UInt32 → AH → RS} : xcF (rtF v h) X = X v h := rfl
theorem cIX_rt {v : Int32} {h : AH} {X : Int32 → AH → RS} {Y : String → Nat → AH → RS} : xcIX (rtI v h) X Y = X v h := rfl
theorem cVX_rt {h : AH} {X : AH → RS} {Y : String → Nat → AH → RS} : xcVX (rtV h) X Y = X h := rfl
theorem cDX_rt {v : UInt64} {h : AH} {X : UInt64 → AH → RS} {Y : String → Nat → AH → RS} : xcDX (rtD v h) X Y = X v h := rfl
theorem cFX_rt {v : UInt32} {h : AH} {X : UInt32 → AH → RS} {Y : String → Nat → AH → RS} : xcFX (rtF v h) X Y = X v h := rfl
theorem cAX_rt {o : Option Nat} {h : AH} {X : Option Nat → AH → RS} {Y : String → Nat → AH → RS} : xcAX (rtA o h) X Y = X o h := by cases o <;> rfl
/-- thrown -/
def thr (E : String) (q : Nat) (h : AH) : RS := some (.inr (E, q), h)
theorem thr_eq (E : String) (q : Nat) (h : AH) : (some (.inr (E, q), h) : RS) = thr E q h := rfl
theorem cI_th {E : String} {q : Nat} {h : AH} {X : Int32 → AH → RS} : xcI (thr E q h) X = thr E q h := rfl
theorem cA_th {E : String} {q : Nat} {h : AH} {X : Option Nat → AH → RS} : xcA (thr E q h) X = thr E q h := rfl
theorem cV_th {E : String} {q : Nat} {h : AH} {X : AH → RS} : xcV (thr E q h) X = thr E q h := rfl
theorem cIX_th {E : String} {q : Nat} {h : AH} {X : Int32 → AH → RS} {Y : String → Nat → AH → RS} : xcIX (thr E q h) X Y = Y E q h := rfl
theorem cAX_th {E : String} {q : Nat} {h : AH} {X : Option Nat → AH → RS} {Y : String → Nat → AH → RS} : xcAX (thr E q h) X Y = Y E q h := rfl
theorem cVX_th {E : String} {q : Nat} {h : AH} {X : AH → RS} {Y : String → Nat → AH → RS} : xcVX (thr E q h) X Y = Y E q h := rfl
theorem cDX_th {E : String} {q : Nat} {h : AH} {X : UInt64 → AH → RS} {Y : String → Nat → AH → RS} : xcDX (thr E q h) X Y = Y E q h := rfl
theorem cFX_th {E : String} {q : Nat} {h : AH} {X : UInt32 → AH → RS} {Y : String → Nat → AH → RS} : xcFX (thr E q h) X Y = Y E q h := rfl
/-! fields -/
section
variable {h : AH} {a c k : Nat} {fs : List Value}
theorem gI_v {v : Int32} (he : rd h a = some (.inr (c, fs))) (hk : fs[k]? = some (.int v)) {X : Int32 → RS} : xgI h (some a) c k X = X v := by
  simp only [xgI, he, if_pos, hk]
theorem gA_v {o : Option Nat} (he : rd h a = some (.inr (c, fs))) (hk : fs[k]? = some (va_rf o)) {X : Option Nat → RS} : xgA h (some a) c k X = X o := by
  cases o <;> simp only [xgA, he, if_pos, hk, va_rf]
theorem pF_v {v : Value} (he : h.1 a = some (.inr (c, fs))) (hk : k < fs.length) {X : AH → RS} : xpF h (some a) c k v X = X (hset h a (.inr (c, fs.set k v))) := by
  simp only [xpF, he, hk, and_self, if_true]
theorem pZ_v {v : Int32} (hv : v = 0 ∨ v = 1) (he : h.1 a = some (.inr (c, fs))) (hk : k < fs.length) {X : AH → RS} : xpZ h (some a) c k v X = X (hset h a (.inr (c, fs.set k (.int v)))) := by
  simp only [xpZ, if_pos hv, pF_v he hk]
theorem rc_v (he : rd h a = some (.inr (c, fs))) {X : RS} : xrc h (some a) c X = X := by simp only [xrc, he, if_true]
theorem nn_v {X : RS} : xnn (some a) X = X := rfl
theorem ck_v {cs : List Nat} (he : rd h a = some (.inr (c, fs))) (hc : c ∈ cs) {X : RS} : xck h (some a) cs X = X := by simp only [xck, he, if_pos hc]
theorem in_v (he : rd h a = some (.inr (c, fs))) {X : Int32 → RS} : xin h (some a) c X = X 1 := by simp only [xin, he, if_true]
/-! arrays -/
theorem idx {i n : Nat} (hi : i < n) (hn : n < 2 ^ 31) : 0 ≤ (nI i).toInt ∧ (nI i).toInt < n := by rw [nI_toInt (by omega)]; omega
theorem lI_v {t n i : Nat} {f : Nat → Int32} (he : rd h a = some (.inl (t, n, .inl f))) (hi : i < n) (hn : n < 2 ^ 31) {X : Int32 → RS} : xlI h (some a) t (nI i) X = X (f i) := by
  simp only [xlI, he]
  rw [if_pos ⟨trivial, idx hi hn⟩, nI_clamp (by omega)]
theorem lL_v {n i : Nat} {f : Nat → Int64} (he : rd h a = some (.inl (3, n, .inr (.inl f)))) (hi : i < n) (hn : n < 2 ^ 31) {X : Int64 → RS} : xlL h (some a) (nI i) X = X (f i) := by
  simp only [xlL, he]
  rw [if_pos ⟨trivial, idx hi hn⟩, nI_clamp (by omega)]
theorem lD_v {n i : Nat} {f : Nat → UInt64} (he : rd h a = some (.inl (4, n, .inr (.inr (.inr (.inl f)))))) (hi : i < n) (hn : n < 2 ^ 31) {X : UInt64 → RS} : xlD h (some a) (nI i) X = X (f i) := by
  simp only [xlD, he]
  rw [if_pos ⟨trivial, idx hi hn⟩, nI_clamp (by omega)]
theorem lA_v {t n i : Nat} {f : Nat → Option Nat} (he : rd h a = some (.inl (t, n, .inr (.inr (.inr (.inr f)))))) (ht : t = 5 ∨ t = 8) (hi : i < n) (hn : n < 2 ^ 31) {X : Option Nat → RS} : xlA h (some a) (nI i) X = X (f i) := by
  simp only [xlA, he]
  rw [if_pos ⟨ht, idx hi hn⟩, nI_clamp (by omega)]
theorem aL_v {t : Nat} {x : vp_A} (he : rd h a = some (.inl (t, x))) (ht : t < 6 ∨ t = 9) {X : Int32 → RS} : xaL h (some a) X = X (nI x.1) := by
  simp only [xaL, he, if_pos ht]; rfl
theorem aS_v {n : Nat} {f : Nat → Int32} (he : rd h a = some (.inl (7, n, .inl f))) {X : Int32 → RS} : xaS h (some a) X = X (nI n) := by
  simp only [xaS, he, if_true]; rfl
theorem sI_v {t n i : Nat} {x : Int32} {f : Nat → Int32} (he : h.1 a = some (.inl (t, n, .inl f))) (hi : i < n) (hn : n < 2 ^ 31) {X : AH → RS} : xsI h (some a) t (nI i) x X = X (hset h a (.inl (t, n, .inl (upd f i (nrT t x))))) := by
  simp only [xsI, he]
  rw [if_pos ⟨trivial, idx hi hn⟩, nI_clamp (by omega)]
theorem sL_v {n i : Nat} {x : Int64} {f : Nat → Int64} (he : h.1 a = some (.inl (3, n, .inr (.inl f)))) (hi : i < n) (hn : n < 2 ^ 31) {X : AH → RS} : xsL h (some a) (nI i) x X = X (hset h a (.inl (3, n, .inr (.inl (vp_updL f i x))))) := by
  simp only [xsL, he]
  rw [if_pos ⟨trivial, idx hi hn⟩, nI_clamp (by omega)]
theorem sD_v {n i : Nat} {x : UInt64} {f : Nat → UInt64} (he : h.1 a = some (.inl (4, n, .inr (.inr (.inr (.inl f)))))) (hi : i < n) (hn : n < 2 ^ 31) {X : AH → RS} : xsD h (some a) (nI i) x X = X (hset h a (.inl (4, n, .inr (.inr (.inr (.inl (updD f i x))))))) := by
  simp only [xsD, he]
  rw [if_pos ⟨trivial, idx hi hn⟩, nI_clamp (by omega)]
theorem sAn_v {n i : Nat} {f : Nat → Option Nat} (he : h.1 a = some (.inl (5, n, .inr (.inr (.inr (.inr f)))))) (hi : i < n) (hn : n < 2 ^ 31) {X : AH → RS} : xsA h (some a) (nI i) none X = X (hset h a (.inl (5, n, .inr (.inr (.inr (.inr (va_up f i none))))))) := by
  simp only [xsA, he]
  rw [if_pos ⟨trivial, idx hi hn⟩, nI_clamp (by omega)]
theorem sA_v {n i b cb : Nat} {fb : List Value} {f : Nat → Option Nat} (he : h.1 a = some (.inl (5, n, .inr (.inr (.inr (.inr f)))))) (hi : i < n) (hn : n < 2 ^ 31) (hb : rd h b = some (.inr (cb, fb))) (hcb : cb = 6 ∨ cb = 7 ∨ cb = 8 ∨ cb = 11) {X : AH → RS} : xsA h (some a) (nI i) (some b) X = X (hset h a (.inl (5, n, .inr (.inr (.inr (.inr (va_up f i (some b)))))))) := by
  simp only [xsA, he, hb]
  rw [if_pos ⟨trivial, idx hi hn⟩, if_pos hcb, nI_clamp (by omega)]
theorem nO_v {n : Nat} (hc : 1 ≤ hcl h) (hs : n ≤ hsl h) {X : Option Nat → AH → RS} : xnO h c n fs X = X (some (hsz h)) (hnew h (.inr (c, fs)) n) := by
  unfold xnO; rw [if_pos ⟨hc, hs⟩]
theorem nA_v {t n : Nat} (hn : n ≤ 100000) (hc : 1 ≤ hcl h) (hs : n ≤ hsl h) {X : Option Nat → AH → RS} : xnA h t (nI n) X = X (some (hsz h)) (hnew h (.inl (t, zA t n)) n) := by
  unfold xnA
  rw [nI_clamp (by omega), if_pos ⟨by rw [nI_toInt (by omega)]; omega, by rw [nI_toInt (by omega)]; omega, hc, hs⟩]
theorem mk_v (hc : 1 ≤ hcl h) (hs : 6 ≤ hsl h) {X : Option Nat → AH → RS} : xmk h c X = X (some (hsz h)) (hnew h (.inr (c, [])) 6) := by
  unfold xmk; rw [if_pos ⟨hc, hs⟩]
theorem at_v (he : h.1 a = some (.inr (c, fs))) {Y : Nat → RS} : xat h (some a) c Y = Y a := by simp only [xat, he, if_true]
end
/-! heaps -/
theorem hset_s {h : AH} {a : Nat} {e : AE} : (hset h a e).1 a = some e := by simp [hset]
theorem hset_o {h : AH} {a b : Nat} {e : AE} (hb : b ≠ a) : (hset h a e).1 b = h.1 b := by simp [hset, hb]
theorem hnew_s {h : AH} {e : AE} {n : Nat} : (hnew h e n).1 (hsz h) = some e := by simp [hnew]
theorem hnew_o {h : AH} {b n : Nat} {e : AE} (hb : b ≠ hsz h) : (hnew h e n).1 b = h.1 b := by simp [hnew, hb]
theorem hset_2 {h : AH} {a : Nat} {e : AE} : (hset h a e).2 = h.2 := rfl
theorem hset_ss {h : AH} {a : Nat} {e e' : AE} : hset (hset h a e) a e' = hset h a e' := by
  unfold hset
  ext1
  · funext q
    by_cases hq : q = a <;> simp [hq]
  · rfl
theorem hset_eq {h : AH} {a : Nat} {e : AE} (he : h.1 a = some e) : hset h a e = h := by
  unfold hset
  ext1
  · funext q
    by_cases hq : q = a
    · subst hq; simp [he]
    · simp [hq]
  · rfl
/-- what a call keeps: the cells that were there, but those of F; the read-only part; it makes at most c cells of n slots -/
def Kp (F : Nat → Prop) (c n : Nat) (h h' : AH) : Prop := (∀ a, a < hsz h → ¬ F a → h'.1 a = h.1 a) ∧ h'.2.1 = h.2.1 ∧ hsz h ≤ hsz h' ∧ hcl h ≤ hcl h' + c ∧ hsl h ≤ hsl h' + n ∧ hsz h' + hcl h' = hsz h + hcl h
theorem Kp.rf {F : Nat → Prop} {h : AH} : Kp F 0 0 h h := ⟨fun _ _ _ => rfl, rfl, Nat.le_refl _, by omega, by omega, rfl⟩
theorem Kp.tr {F1 F2 F : Nat → Prop} {c1 n1 c2 n2 c n : Nat} {h h1 h2 : AH} (k1 : Kp F1 c1 n1 h h1) (k2 : Kp F2 c2 n2 h1 h2) (f1 : ∀ a, F1 a → F a) (f2 : ∀ a, a < hsz h → F2 a → F a) (hc : c1 + c2 ≤ c) (hn : n1 + n2 ≤ n) : Kp F c n h h2 := by
  obtain ⟨a1, a2, a3, a4, a5, a6⟩ := k1
  obtain ⟨b1, b2, b3, b4, b5, b6⟩ := k2
  refine ⟨fun a ha hF => ?_, b2.trans a2, by omega, by omega, by omega, by omega⟩
  rw [b1 a (by omega) (fun z => hF (f2 a ha z)), a1 a ha (fun z => hF (f1 a z))]
theorem Kp.w {F F' : Nat → Prop} {c n c' n' : Nat} {h h1 : AH} (k : Kp F c n h h1) (f : ∀ a, a < hsz h → F a → F' a) (hc : c ≤ c') (hn : n ≤ n') : Kp F' c' n' h h1 := by
  obtain ⟨a1, a2, a3, a4, a5, a6⟩ := k
  exact ⟨fun a ha hF => a1 a ha (fun z => hF (f a ha z)), a2, a3, by omega, by omega, a6⟩
theorem Kp.st {h : AH} {a : Nat} {e : AE} {F : Nat → Prop} (hF : F a) : Kp F 0 0 h (hset h a e) := ⟨fun q _ hq => hset_o (fun z => hq (z ▸ hF)), rfl, Nat.le_refl _, by show hcl h ≤ hcl h + 0; omega, by show hsl h ≤ hsl h + 0; omega, rfl⟩
theorem Kp.nw {h : AH} {e : AE} {n : Nat} {F : Nat → Prop} (hc : 1 ≤ hcl h) (hs : n ≤ hsl h) : Kp F 1 n h (hnew h e n) := ⟨fun q hq _ => hnew_o (by omega), rfl, by show hsz h ≤ hsz h + 1; omega, by show hcl h ≤ hcl h - 1 + 1; omega, by show hsl h ≤ hsl h - n + n; omega, by show hsz h + 1 + (hcl h - 1) = hsz h + hcl h; omega⟩
