/-! PURE: a recovery up to its blocks, frozen -/
set_option maxRecDepth 100000
/-- colours from 10 on, but for one, become 0 -/
def rz (e : Nat) (κ : Nat → Nat) : Nat → Nat := fun a => if 10 ≤ κ a ∧ κ a ≠ e then 0 else κ a
/-- a recovery's objects but for the blocks -/
def RX (H : AH) (r im ua d oc lc ob lb lt lg lk b : Nat) (m : Nat → Nat) (n : Nat) (es : List Nat) (t : Nat) : Prop :=
  H.1 r = some (.inr (4, RF im ua d oc ob lt lg lk b)) ∧ IM H im m n es t ∧
  (∃ f : Nat → Int32, H.1 ua = some (.inl (0, n, .inl f)) ∧ ∀ i, i < n → f i = nI (wU m (dU m n es) (dC m n es t) i)) ∧
  (∃ arr cap, BS H b arr cap (fun a => decide (dU m n es a = 1))) ∧
  (H.1 oc = some (.inr (5, [.ref lc])) ∧ ∃ arr cap yc, AL H lc arr cap yc ∧ BXS H yc (dS m n es).2.2.1) ∧
  (H.1 ob = some (.inr (5, [.ref lb])) ∧ ∃ arr cap yb, AL H lb arr cap yb ∧ BXS H yb (dS m n es).2.2.2.1) ∧
  (∃ arr cap yt, AL H lt arr cap yt ∧ (yt.length = (dS m n es).2.2.2.2.length ∧ ∀ i, i < (dS m n es).2.2.2.2.length → TB H m (yt.getD i 0) ((dS m n es).2.2.2.2.getD i T0))) ∧
  (∃ arr cap yg, AL H lg arr cap yg ∧ (yg.length = (gaps n (dU m n es)).length ∧ ∀ i, i < (gaps n (dU m n es)).length → H.1 (yg.getD i 0) = some (.inr (7, [.int (nI ((gaps n (dU m n es)).getD i (0, 0)).1), .int (nI (((gaps n (dU m n es)).getD i (0, 0)).2 - ((gaps n (dU m n es)).getD i (0, 0)).1)), .int (nI (tst m n (dU m n es) ((gaps n (dU m n es)).getD i (0, 0))).1), .int (nI (tst m n (dU m n es) ((gaps n (dU m n es)).getD i (0, 0))).2.length)]))))
section
variable {B : Nat} {h h' H H' : AH} {κ κ' : Nat → Nat} {r im ua d oc lc ob lb lt lg lk b : Nat} {m u w : Nat → Nat} {n t : Nat} {es : List Nat} {c e : Nat} {S : Nat → Prop}
theorem RX.ext (R : RX H r im ua d oc lc ob lb lt lg lk b m n es t) (x : Ext H H') : RX H' r im ua d oc lc ob lb lt lg lk b m n es t := by
  obtain ⟨r1, r2, ⟨f, r3, r3'⟩, ⟨ar, cr, r4⟩, ⟨r5, ac, cc, yc, r5', r5''⟩, ⟨r6, ab, cb, yb, r6', r6''⟩, ⟨at', ct', yt, r7, r7'⟩, ⟨ag, cg, yg, r8, r8', r8''⟩⟩ := R
  exact ⟨x.1 _ _ r1, r2.ext x, ⟨f, x.1 _ _ r3, r3'⟩, ⟨ar, cr, r4.ext x⟩, ⟨x.1 _ _ r5, ac, cc, yc, r5'.ext x, r5''.ext x⟩, ⟨x.1 _ _ r6, ab, cb, yb, r6'.ext x, r6''.ext x⟩, ⟨at', ct', yt, r7.ext x, tbs_ext x r7'⟩, ⟨ag, cg, yg, r8.ext x, r8', fun i hi => x.1 _ _ (r8'' i hi)⟩⟩
theorem rz_0 (g : GH B h) (hc : c = 0 ∨ (10 ≤ c ∧ c ≠ e)) : Ext (fc c κ h) (fc 0 (rz e κ) h) := ext_of (fc_gh g) (fun a x he => by
  obtain ⟨z1, z2⟩ := fc_e he
  refine fc_i ?_ z2
  unfold rz
  rw [z1]
  rcases hc with z | z
  · rw [if_neg (by omega)]; exact z
  · rw [if_pos z]) rfl (fc_gh g)
theorem rz_e (g : GH B h) : Ext (fc e κ h) (fc e (rz e κ) h) := ext_of (fc_gh g) (fun a x he => by
  obtain ⟨z1, z2⟩ := fc_e he
  refine fc_i ?_ z2
  unfold rz
  rw [z1, if_neg (by omega)]) rfl (fc_gh g)
theorem rz_lt (a : Nat) : rz e κ a < 10 ∨ rz e κ a = e := by
  unfold rz
  split
  · exact Or.inl (by decide)
  · omega
/-- all up to the blocks -/
theorem c_rec1 {h0 : AH} {κ0 : Nat → Nat} (g0 : GH B h0) (I0 : IM (fc 0 κ0 h0) im m n es t) (hκ : ∀ q, κ0 q < 10) (htt : 1 ≤ t ∧ t ≤ 30) {Kc Ks : Nat} (hKc : Kc + 8400 ≤ hcl h0) (hKs : Ks + 32000 ≤ hsl h0) (hK8 : 8000 ≤ Ks) :
    ∃ h κ ua d oc lc ob lb lt lg lk b, f_X5_init (some (hsz h0)) (some im) (hnew h0 (.inr (4, fsX5)) 9) = xcV (f_X5_findBlocks (some (hsz h0)) h) (fun h89 => rtV h89) ∧ RX (fc 0 κ h) (hsz h0) im ua d oc lc ob lb lt lg lk b m n es t ∧ LA 17 κ h lk 0 [] ∧ (∀ q, κ q < 10 ∨ κ q = 17) ∧ KC (fun _ => False) κ0 h0 κ h ∧ GH B h ∧ Kc ≤ hcl h ∧ Ks ≤ hsl h := by
  have hn := I0.n96
  have hm := I0.byt
  obtain ⟨h1, κ1, ua, d, oc, lc, ob, lb, lt, lg, lk, b, a1, a2, a3, a4, a5, a6⟩ := c_ini (Kc := Kc + 1400) (Ks := Ks + 17000) g0 I0 hκ (by omega) (by omega) (by omega)
  obtain ⟨h2, κ2, b1, b2, b3, b4⟩ := c_drn (B := B) (r := hsz h0) (Kc := Kc + 1400) (Ks := Ks + 17000) (by omega) (K := fun x69 h70 => xrc h70 x69 4 (xcV (f_X5_findGaps x69 h70) (fun h71 => f_X5_init_L175 (fun x87 h88 => xrc h88 x87 4 (xcV (f_X5_findBlocks x87 h88) (fun h89 => rtV h89))) FUEL x69 0 h71))) 2000 FUEL 0 (S0 es) h1 κ1 a6 (S0_g I0.eln hn) (by show 0 + es.length ≤ _; have := I0.e4; omega) (by omega) (by unfold FUEL; omega) a2
  rw [a1, b1]
  have b2 : RD κ2 h2 (hsz h0) im ua d oc lc ob lb lt lg lk b m n es t (dS m n es) (Kc + 1400) (Ks + 17000) := b2
  obtain ⟨sg, se⟩ := dS_g hm hn I0.eln I0.e4
  obtain ⟨sg1, sg2, sg3, sg4, sg5, sg6, sg7, sg8, sg9, sg10, sg11⟩ := id sg
  obtain ⟨r1, r2, r3, r4, r5, r6, r7, capd, capc, capb, capt, yd, yc, yb, yt, q1, q2, q3, q4, q5, q6, q7, q8, q9, q10, q11⟩ := id b2
  have L16 := a3.ext (b3.ext a6 b4 (c := 16) (by decide))
  have L17 := a4.ext (b3.ext a6 b4 (c := 17) (by decide))
  have hc2 := c2_le (n := n) (u := (dS m n es).1)
  have hcc := nodup_le sg7 sg6
  have hcb := nodup_le sg9 sg8
  have hs2 : Ks + 6400 ≤ hsl h2 := by
    have z1 : capc ≤ 2 * yc.length + 10 := by obtain ⟨_, _, _, z⟩ := q4; exact z
    have z2 : capb ≤ 2 * yb.length + 10 := by obtain ⟨_, _, _, z⟩ := q6; exact z
    have z3 : capt ≤ 2 * yt.length + 10 := by obtain ⟨_, _, _, z⟩ := q8; exact z
    have y1 := q5.1
    have y2 := q7.1
    have y3 := q9.1
    omega
  have hu : dU m n es = (dS m n es).1 := rfl
  rw [← hu] at r5 r6
  have kk2 : KC (fun _ => False) κ0 h0 (rk 22 23 κ2) h2 := by
    have kk : KC (fun k => 10 ≤ k) κ0 h0 κ2 h2 := (a5.w (fun k z => z.elim)).tr (b3.w (fun k z => by rcases z with z | z | z | z | z | z <;> omega))
    refine KC.none (S := fun k => 10 ≤ k) ⟨kk.1, kk.2.1, kk.2.2.1, fun a ha => ?_⟩ (fun q => by have := hκ q; omega)
    have := kk.2.2.2 a ha
    have h9 := hκ a
    unfold rk
    rw [this, if_neg (by omega)]
  have v : ∀ c, c ≠ 22 → Ext (fc c κ2 h2) (fc c (rk 22 23 κ2) h2) := fun c hc => rk_2 b4 hc
  have v0 := v 0 (by decide)
  replace r1 := v0.1 _ _ r1
  replace r2 := v0.1 _ _ r2
  replace r3 := v0.1 _ _ r3
  replace r4 := r4.ext v0
  replace r5 := r5.ext (v 11 (by decide))
  replace r6 := r6.ext (v 18 (by decide))
  replace q4 := q4.ext (v 13 (by decide))
  replace q5 := q5.ext v0
  replace q6 := q6.ext (v 14 (by decide))
  replace q7 := q7.ext v0
  replace q8 := q8.ext (v 15 (by decide))
  replace q9 := tbs_ext v0 q9
  replace L16 := L16.ext (v 16 (by decide))
  replace L17 := L17.ext (v 17 (by decide))
  have hno : ∀ q, rk 22 23 κ2 q ≠ 22 := fun q => by
    unfold rk
    split
    · decide
    · assumption
  clear v v0 b2 r7
  generalize rk 22 23 κ2 = κ2 at *
  have R0 : RB κ2 h2 (hsz h0) im ua d oc ob lt lg lk b m n es t (dU m n es) (dU m n es) := ⟨r1, r4, r5, r6⟩
  have hrh := rdo (fc_e r1).2
  rw [rc_v hrh]
  obtain ⟨h3, κ3, cap3, yg, c1, c2', c3, c4, c5, c6, c7, c8⟩ := c_gapsL (B := B) (t := t) (es := es) (fun a => rfl) (fun a => Nat.le_trans (sg2 a) (by decide)) (K := fun h34 => rtV h34) (n + 1) FUEL 0 0 h2 κ2 0 [] [] (by omega) (by unfold FUEL; omega) ⟨Nat.le_refl _, Or.inr rfl⟩ b4 R0 L16 ⟨rfl, List.nodup_nil, fun i hi => absurd hi (Nat.not_lt_zero i)⟩ rfl (by omega) (by omega) hno
  rw [show f_X5_findGaps (some (hsz h0)) h2 = _ from c1, cV_rt]
  have hgl := gaps_len n (dU m n es)
  have z3 : cap3 ≤ 2 * yg.length + 10 := by obtain ⟨_, _, _, z⟩ := c2'; exact z
  have hyl : yg.length = (gaps n (dU m n es)).length := c3.1
  have R1 := R0.kc b4 c5 c4 (by decide) (by decide) (by decide)
  have hw0 : RB κ3 h3 (hsz h0) im ua d oc ob lt lg lk b m n es t (dU m n es) (wU m (dU m n es) (csp m n (dU m n es) t [])) := ⟨R1.1, R1.2.1, R1.2.2.1.cg (fun i _ => wU_nil i), R1.2.2.2⟩
  obtain ⟨h4, κ4, d1, d2, d3, d4, d5, d6, d7, d8⟩ := c_gL (B := B) (gl := gaps n (dU m n es)) (by omega) (fun g hg => ⟨(gaps_p g hg).1, (gaps_p g hg).2.1, fun q h1 h2 => tk_f ((gaps_p g hg).2.2 q h1 h2) (sg2 q)⟩) htt (K := fun x87 h88 => xrc h88 x87 4 (xcV (f_X5_findBlocks x87 h88) (fun h89 => rtV h89))) (gaps n (dU m n es)) FUEL [] h3 κ3 (by unfold FUEL; omega) rfl (gs_srt n 0 0 (Nat.le_refl _) (fun q h1 h2 => by omega)) (fun g _ c hc => by simp [csp] at hc) c5 hw0 c2' c3 c8 (by omega) (by omega)
  rw [show f_X5_init_L175 _ FUEL (some (hsz h0)) 0 h3 = _ from d1]
  have y : ∀ c, c ≠ 16 → c ≠ 11 → c ≠ 21 → Ext (fc c κ2 h2) (fc c κ4 h4) := fun c e1 e2 e3 => (c4.ext b4 c5 (c := c) e1).tr (d4.ext c5 d5 (c := c) (by omega))
  have o : ∀ c, c = 0 ∨ (10 ≤ c ∧ c ≠ 17) → Ext (fc c κ4 h4) (fc 0 (rz 17 κ4) h4) := fun c hc => rz_0 d5 hc
  have yo : ∀ c, c ≠ 16 → c ≠ 11 → c ≠ 21 → (c = 0 ∨ (10 ≤ c ∧ c ≠ 17)) → Ext (fc c κ2 h2) (fc 0 (rz 17 κ4) h4) := fun c e1 e2 e3 e4 => (y c e1 e2 e3).tr (o c e4)
  have x0 := yo 0 (by decide) (by decide) (by decide) (by decide)
  have hx4 := rdo (fc_e d2.1).2
  rw [rc_v hx4]
  refine ⟨h4, rz 17 κ4, ua, d, oc, lc, ob, lb, lt, lg, lk, b, rfl, ⟨x0.1 _ _ r1, r4.ext x0, ?_, ?_, ⟨x0.1 _ _ r2, ?_⟩, ⟨x0.1 _ _ r3, ?_⟩, ?_, ?_⟩, ?_, rz_lt, ?_, d5, by omega, by omega⟩
  · obtain ⟨f, f1, f2⟩ := d2.2.2.1
    exact ⟨f, (o 11 (by decide)).1 _ _ f1, f2⟩
  · obtain ⟨arr, cap, s⟩ := d2.2.2.2
    exact ⟨arr, cap, s.ext (o 18 (by decide))⟩
  · obtain ⟨arr, l1, l2, l3⟩ := q4
    exact ⟨arr, capc, yc, l1.ext (yo 13 (by decide) (by decide) (by decide) (by decide)), q5.ext x0⟩
  · obtain ⟨arr, l1, l2, l3⟩ := q6
    exact ⟨arr, capb, yb, l1.ext (yo 14 (by decide) (by decide) (by decide) (by decide)), q7.ext x0⟩
  · obtain ⟨arr, l1, l2, l3⟩ := q8
    exact ⟨arr, capt, yt, l1.ext (yo 15 (by decide) (by decide) (by decide) (by decide)), tbs_ext x0 q9⟩
  · obtain ⟨arr, l1, l2, l3⟩ := c2'
    refine ⟨arr, cap3, yg, l1.ext ((d4.ext c5 d5 (c := 16) (by decide)).tr (o 16 (by decide))), hyl, fun i hi => ?_⟩
    have := (o 21 (by decide)).1 _ _ (d3.2.2 i hi)
    rw [if_pos hi, if_pos hi] at this
    exact this
  · exact (L17.ext (y 17 (by decide) (by decide) (by decide))).ext (rz_e d5)
  · have kk : KC (fun k => 10 ≤ k) κ0 h0 κ4 h4 := ((kk2.w (fun k z => z.elim)).tr (c4.w (fun k z => by omega))).tr (d4.w (fun k z => by omega))
    refine KC.none (S := fun k => 10 ≤ k) ⟨kk.1, kk.2.1, kk.2.2.1, fun a ha => ?_⟩ (fun q => by have := hκ q; omega)
    have := kk.2.2.2 a ha
    have h9 := hκ a
    unfold rz
    rw [this, if_neg (by omega)]
end
