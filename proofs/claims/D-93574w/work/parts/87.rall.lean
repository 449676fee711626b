/-! PURE: a recovery is made -/
set_option maxRecDepth 100000
/-- a recovery's objects -/
def RV (H : AH) (r : Nat) (m : Nat → Nat) (n : Nat) (es : List Nat) (t : Nat) : Prop := ∃ im ua d oc lc ob lb lt lg lk b, RX H r im ua d oc lc ob lb lt lg lk b m n es t ∧ ∃ arr cap yk ls, AL H lk arr cap yk ∧ BK H m n es yk ls ∧ ls.length = cnt (isL m (dU m n es) n es (dS m n es).2.2.2.2) n
section
variable {B : Nat} {h h' H H' : AH} {κ κ' : Nat → Nat} {r im ua d oc lc ob lb lt lg lk b : Nat} {m : Nat → Nat} {n t : Nat} {es : List Nat} {c : Nat} {S : Nat → Prop}
theorem RV.ext (R : RV H r m n es t) (x : Ext H H') : RV H' r m n es t := by
  obtain ⟨im, ua, d, oc, lc, ob, lb, lt, lg, lk, b, r1, arr, cap, yk, ls, r2, r3, r4⟩ := R
  exact ⟨im, ua, d, oc, lc, ob, lb, lt, lg, lk, b, r1.ext x, arr, cap, yk, ls, r2.ext x, r3.ext x, r4⟩
theorem c_recover {h0 : AH} {κ0 : Nat → Nat} (g0 : GH B h0) (I0 : IM (fc 0 κ0 h0) im m n es t) (hκ : ∀ q, κ0 q < 10) (htt : 1 ≤ t ∧ t ≤ 30) (hc : 8800 ≤ hcl h0) (hs : 42000 ≤ hsl h0) :
    ∃ h κ, f_X5_init (some (hsz h0)) (some im) (hnew h0 (.inr (4, fsX5)) 9) = rtV h ∧ RV (fc 0 κ h) (hsz h0) m n es t ∧ (∀ q, κ q < 10) ∧ KC (fun _ => False) κ0 h0 κ h ∧ GH B h ∧ hcl h0 ≤ hcl h + 8800 ∧ hsl h0 ≤ hsl h + 34000 := by
  have hn := I0.n96
  obtain ⟨h1, κ1, ua, d, oc, lc, ob, lb, lt, lg, lk, b, a1, a2, a3, a4, a5, a6, a7, a8⟩ := c_rec1 (Kc := hcl h0 - 8400) (Ks := hsl h0 - 32000) g0 I0 hκ htt (by omega) (by omega) (by omega)
  obtain ⟨h2, κ2, cap2, b1, b2, b3, b4⟩ := c_lead a6 a2 (by omega) (by omega)
  have x2 : ∀ c, c ≠ 24 → Ext (fc c κ1 h1) (fc c κ2 h2) := fun c hc => b3.ext a6 b2.1 (c := c) hc
  have o2 : ∀ q, κ2 q < 10 ∨ κ2 q = 17 ∨ κ2 q = 24 := fun q => by rcases b4 q with z | z <;> rcases a4 q with y | y <;> omega
  have L2 := a3.ext (x2 17 (by decide))
  obtain ⟨ar2, N2⟩ := b2.2.2.1.bs b2.1
  obtain ⟨r0, n1, n2⟩ := p_bnext b2.1 N2 (x := 0) (by decide)
  have h8 := b2.2.2.1.c8
  have q1 := b2.2.2.2.1
  have q2 := b2.2.2.2.2
  obtain ⟨h3, κ3, capk, yk, ls, c1, c2', c3, c4, c5, c6, c7, c8, c9⟩ := c_bkL (B := B) (bs := hsz h1) (K := fun h60 => rtV h60) n FUEL 0 r0 h2 κ2 0 [] [] (by omega) (by omega) (by unfold FUEL; omega) n2 b2.1 b2.2.1 b2.2.2.1 L2 ⟨rfl, fun i hi => absurd hi (Nat.not_lt_zero i), fun i hi => absurd hi (Nat.not_lt_zero i)⟩ rfl (fun q => by have := o2 q; omega) (by omega) (by omega)
  have e : f_X5_findBlocks (some (hsz h0)) h1 = rtV h3 := by
    unfold f_X5_findBlocks
    rw [rc_v (rdo (fc_e a2.1).2), b1, cA_rt, N2.rc, show f_J20_nextSetBit (some (hsz h1)) 0 h2 = _ from n1, cI_rt, c1]
  rw [a1, e, cV_rt]
  have hlen : ls.length ≤ n := by rw [c5]; exact cnt_le _ _
  have hcap : capk ≤ 2 * yk.length + 10 := by obtain ⟨_, _, _, z⟩ := c3; exact z
  have hyl := c4.1
  obtain ⟨ark, l1, l2, l3⟩ := c3
  have xz : ∀ c, c = 0 ∨ (10 ≤ c ∧ c ≠ 0) → Ext (fc c κ3 h3) (fc 0 (rz 0 κ3) h3) := fun c hc => rz_0 c7 hc
  have kk : KC (fun k => 10 ≤ k) κ0 h0 κ3 h3 := ((a5.w (fun k z => z.elim)).tr (b3.w (fun k z => by omega))).tr (c6.w (fun k z => by omega))
  refine ⟨h3, rz 0 κ3, rfl, ⟨im, ua, d, oc, lc, ob, lb, lt, lg, lk, b, c2'.ext (xz 0 (by decide)), ark, capk, yk, ls, l1.ext (xz 17 (by decide)), c4.ext (xz 26 (by decide)), c5⟩, fun q => ?_, ?_, c7, by omega, by omega⟩
  · rcases rz_lt (e := 0) (κ := κ3) q with z | z <;> omega
  · refine KC.none (S := fun k => 10 ≤ k) ⟨kk.1, kk.2.1, kk.2.2.1, fun a ha => ?_⟩ (fun q => by have := hκ q; omega)
    have := kk.2.2.2 a ha
    have h9 := hκ a
    unfold rz
    rw [this, if_neg (by omega)]
end
