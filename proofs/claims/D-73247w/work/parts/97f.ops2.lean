/-! PURE PROOFS: public acts of the system: puts, ring, weighs, depth -/
set_option maxRecDepth 100000
section
variable {G : Wd} {x : Nat} {d : DS} {un : List DS} {pg : Nat → Option DS} {tx rw' hw ha cs : List Int} {B : Int}
variable {A : Nat → Nat} {rf : Nat → Nat → Nat → Nat} {E : Nat → Bool} {dr : Nat → DS} {u : Nat → Int} {ru : Option Nat} {ai : Nat → Int → Int} {ar : Nat → Int → Option Nat} {ah : Nat → Nat}
theorem Sy.mono {B' : Int} (h : Sy G x d un pg tx rw' hw ha cs B) (hB : B ≤ B') (hB' : B' ≤ 70000000) : Sy G x d un pg tx rw' hw ha cs B' := by
  obtain ⟨A, rf, E, dr, u, ru, ai, ar, ah, h1, h2, h3, h4, h5, h6⟩ := h
  refine ⟨A, rf, E, dr, u, ru, ai, ar, ah, h1, ?_, h3, h4, h5, h6⟩
  obtain ⟨k1, k2, k3, k4, k5, k6, k7, k8, k9, k10, k11⟩ := h2
  refine ⟨k1, k2, k3, k4, ⟨k5.1.mono hB, by omega, hB'⟩, k6, k7, k8, fun k e hk => ⟨(k9 k e hk).1, (k9 k e hk).2.1.mono hB, (k9 k e hk).2.2⟩, k10, fun i hi => ?_⟩
  rcases k11 i hi with z | ⟨e, e1, e2, e3, e4, e5, e6, e7⟩
  · exact Or.inl z
  · exact Or.inr ⟨e, e1, e2, e3, e4, e5, e6.mono hB, e7⟩
theorem AbD.d0 {r3 r20 : Int → Option Nat} {a21 : Int → Int} {u4 u5 : Int} (h2 : AbD rf E dr ah r3 r20 a21 u4 u5 d un pg B) (h1 : Wo G x A rf E dr u ru ai ar) : DrA G 10 (rf 0 8 0) (rf 0) d := by
  have := h1.drv (i := 0) (by omega) (h2.1 0 (by omega))
  rw [h2.2.1] at this
  exact this
/-- now has changed -/
theorem Sy.step {G' : Wd} {d' : DS} {B' : Int} (h1 : Wo G x A rf E dr u ru ai ar) (h2 : AbD rf E dr ah (ar 3) (ar 20) (ai 21) (u 4) (u 5) d un pg B) (h3 : AbT (u 7) (ai 6) tx) (h4 : AbR (u 9) (ai 8) rw') (h5 : AbH (u 16) (ai 14) (ai 15) hw ha) (h6 : RuleT G ru (tmC cs)) (f : FrX 10 110 G G') (hd : DrA G' 10 (rf 0 8 0) (rf 0) d') (hw' : WF d' B') (h9 : d'.s 900 = d.s 900) (hB : B ≤ B') (hB' : B' ≤ 70000000) : Sy G' x d' un pg tx rw' hw ha cs B' :=
  ⟨A, rf, E, _, u, ru, ai, ar, ah, h1.upd (i := 0) f (by omega) hd, h2.now hw' h9 hB hB', h3, h4, h5, h6.x f⟩
/-- it is remembered -/
theorem q_remember {K : Wd → Prop} {k n : Nat} (h1 : Wo G x A rf E dr u ru ai ar) (h2 : AbD rf E dr ah (ar 3) (ar 20) (ai 21) (u 4) (u 5) d un pg B) (h3 : AbT (u 7) (ai 6) tx) (h4 : AbR (u 9) (ai 8) rw') (h5 : AbH (u 16) (ai 14) (ai 15) hw ha) (h6 : RuleT G ru (tmC cs)) (hk : 96 ≤ k) (hn : 768 ≤ n)
    (hK : ∀ G' dr' u' ar' ah', Wo G' x A rf E dr' u' ru ai ar' → AbD rf E dr' ah' (ar' 3) (ar' 20) (ai 21) (u' 4) (u' 5) d (remU un d) pg B → AbT (u' 7) (ai 6) tx → AbR (u' 9) (ai 8) rw' → AbH (u' 16) (ai 14) (ai 15) hw ha → RuleT G' ru (tmC cs) → FQ G G' → K G') : f_X1_remember k n x (some (rf 0 8 0)) G K := by
  have e0 := h2.2.1
  refine w_remember (i := 0) h1 h2 (Or.inl rfl) (by rw [e0]; exact h2.2.2.2.2.1.1) (by rw [e0]) hk hn (fun G' dr' u' ar' ah' g1 g2 g3 g4 g5 f => ?_)
  rw [e0] at g2
  exact hK G' dr' u' ar' ah' g1 g2 (by rw [g3 7 (by decide)]; exact h3) (by rw [g3 9 (by decide)]; exact h4) (by rw [g3 16 (by decide)]; exact h5) (h6.x f) f
theorem S_puts {Q : Int → Wd → Prop} {k n : Nat} {q op b v : Int} (h : Sy G x d un pg tx rw' hw ha cs B) (hB : B + 10 ≤ 70000000) (h1' : R32 q) (h2' : R32 op) (h3' : R32 b) (h4' : R32 v) (hk : 9400 ≤ k) (hn : 75200 ≤ n) (hQ : ∀ G', Sy G' x (putM d q op b v) (if putA d q op b v < 0 then un else remU un d) pg tx rw' hw ha cs (B + 10) → FQ G G' → Q (putA d q op b v) G') : f_X1_puts k n x q op b v G Q := by
  have h0 := h
  obtain ⟨A, rf, E, dr, u, ru, ai, ar, ah, h1, h2, h3, h4, h5, h6⟩ := h
  have hd := h2.d0 h1
  have hwf := h2.2.2.2.2.1
  unfold f_X1_puts
  refine gQ_0 h1 (p_refusesPut hd hwf.1 (by omega) h1' h2' h3' h4' ?_)
  have hA := putA_r hwf.1 (q := q) (op := op) (b := b) (v := v)
  by_cases c : putR d q op b v < 0
  · have eA : putA d q op b v = putR d q op b v := by unfold putA; rw [if_pos c]
    have eM : putM d q op b v = d := by unfold putM; rw [if_pos c]
    rw [eA, eM, if_pos c] at hQ
    rw [eA] at hA
    exact br0_F hA.1 (by omega) (hQ G (h0.mono (by omega) hB) FrX.refl)
  · have eA : putA d q op b v = (ones 32 (d.us q.toNat) : Nat) := by unfold putA; rw [if_neg c]
    have eM : putM d q op b v = putD d q.toNat op b v := by unfold putM; rw [if_neg c]
    rw [eA, eM, if_neg (by omega)] at hQ
    have hin : (0 ≤ q ∧ q < d.s 900) ∧ (0 ≤ op ∧ op ≤ 4) ∧ (0 ≤ b ∧ b ≤ 9) ∧ (0 ≤ v ∧ v ≤ 99) := by
      by_cases z : (0 ≤ q ∧ q < d.s 900) ∧ (0 ≤ op ∧ op ≤ 4) ∧ (0 ≤ b ∧ b ≤ 9) ∧ (0 ≤ v ∧ v ≤ 99)
      · exact z
      · unfold putR at c; rw [if_neg z] at c; omega
    obtain ⟨m, rfl⟩ : ∃ m : Nat, q = m := ⟨q.toNat, by omega⟩
    rw [Int.toNat_natCast] at hQ eM
    have hR : putR d m op b v = if d.s (89 * m + 20) - 1 - d.s (89 * m + 0) + d.s (89 * m + 4) = 0 then -2 else if ones 32 (d.us m) < 16 then 0 else -3 := by unfold putR; rw [if_pos hin, Int.toNat_natCast]
    have hsl : ¬ d.s (89 * m + 20) - 1 - d.s (89 * m + 0) + d.s (89 * m + 4) = 0 := fun z => by rw [hR, if_pos z] at c; omega
    have hid : ones 32 (d.us m) < 16 := by
      by_cases z : ones 32 (d.us m) < 16
      · exact z
      · rw [hR, if_neg hsl, if_neg z] at c; omega
    have h5' : m < 5 := hwf.1.hq hin.1.2
    have hl8 := hwf.1.l8 hin.1.2
    refine br0_T ⟨by have := hA.1; rw [hR, if_neg hsl, if_pos hid]; decide, by rw [hR, if_neg hsl, if_pos hid]; decide⟩ (by omega) (gQ_0 h1 ⟨96, 768, ⟨by omega, by omega⟩, cQ h1, q_remember h1 h2 h3 h4 h5 h6 (by omega) (by omega) (fun G1 dr1 u1 ar1 ah1 g1 g2 g3 g4 g5 g6 f1 => ?_)⟩)
    refine gQ_0 g1 ⟨1, 8, ⟨by omega, by omega⟩, p_goPut (g2.d0 g1) (by omega) hwf.1 h5' hid (by omega) (by omega) (fun G2 d2 f2 => ?_)⟩
    refine hQ G2 (Sy.step g1 g2 g3 g4 g5 g6 f2.x d2 ((hwf.1.put hin.1.2 hin.2.1 hin.2.2.1 hin.2.2.2 (by omega) hid).mono (by omega)) ?_ (by omega) hB) (f1.trans (f2.x.wide (by omega) (by omega)))
    have := putM_9 hwf.1 (q := (m : Int)) (op := op) (b := b) (v := v)
    rw [eM] at this
    exact this
theorem S_ring {Q : Int → Wd → Prop} {k n : Nat} {q : Int} (h : Sy G x d un pg tx rw' hw ha cs B) (hB : B + 10 ≤ 70000000) (h1' : R32 q) (hk : 9400 ≤ k) (hn : 75200 ≤ n) (hQ : ∀ G', Sy G' x (ringM d q) (if ringA d q < 0 then un else remU un d) pg tx rw' hw ha cs (B + 10) → FQ G G' → Q (ringA d q) G') : f_X1_ring k n x q G Q := by
  have h0 := h
  unfold f_X1_ring
  have hc : isC G x 0 := by obtain ⟨A, rf, E, dr, u, ru, ai, ar, ah, h1, -⟩ := h; exact cQ h1
  refine ⟨hc, q_isQueue h h1' ?_⟩
  obtain ⟨A, rf, E, dr, u, ru, ai, ar, ah, h1, h2, h3, h4, h5, h6⟩ := h
  have hd := h2.d0 h1
  have hwf := h2.2.2.2.2.1
  by_cases c : 0 ≤ q ∧ q < d.s 900
  · rw [decide_eq_true c]
    obtain ⟨m, rfl⟩ : ∃ m : Nat, q = m := ⟨q.toNat, by omega⟩
    have h5' : m < 5 := hwf.1.hq c.2
    have eA : ringA d m = bellOf d.s m := by unfold ringA; rw [if_pos c, Int.toNat_natCast]
    have eM : ringM d m = ringD d m := by unfold ringM; rw [if_pos c, Int.toNat_natCast]
    rw [eA, eM] at hQ
    refine brB_T (gQ_0 h1 (nn_of (gD_0 hd (nn_of (xldL hd h5' (nn_of ⟨cL hd h5', p_X3_bell hd h5' hwf.1 (by omega) ?_⟩))))))
    have hbr := bellOf_r (s := d.s) (q := m)
    have rb : R32 (bellOf d.s m) := by rcases hbr with e | e | e <;> rw [e] <;> exact ⟨by decide, by decide⟩
    by_cases c2 : bellOf d.s m = -2
    · have e2 : ringD d m = d := by unfold ringD ringS; rw [if_pos c2]; rfl
      rw [c2, e2, if_pos (by decide)] at hQ
      exact br_F rb ⟨by decide, by decide⟩ (by omega) (hQ G (h0.mono (by omega) hB) FrX.refl)
    · rw [if_neg (by omega)] at hQ
      refine br_T rb ⟨by decide, by decide⟩ c2 (gQ_0 h1 ⟨96, 768, ⟨by omega, by omega⟩, cQ h1, q_remember h1 h2 h3 h4 h5 h6 (by omega) (by omega) (fun G1 dr1 u1 ar1 ah1 g1 g2 g3 g4 g5 g6 f1 => ?_)⟩)
      have d1 := g2.d0 g1
      refine gQ_0 g1 (gQ_0 g1 (nn_of (gD_0 d1 (nn_of (xldL d1 h5' (nn_of ⟨cD d1, p_X2_ringUp d1 h5' (by omega) hwf.1 (by omega) (fun G2 d2 f2 => ?_)⟩))))))
      refine hQ G2 (Sy.step g1 g2 g3 g4 g5 g6 f2.x d2 ((hwf.1.ring c.2).mono (by omega)) ?_ (by omega) hB) (f1.trans (f2.x.wide (by omega) (by omega)))
      have := ringM_9 hwf.1 (q := (m : Int))
      rw [eM] at this
      exact this
  · rw [decide_eq_false c]
    have eA : ringA d q = -1 := by unfold ringA; rw [if_neg c]
    have eM : ringM d q = d := by unfold ringM; rw [if_neg c]
    rw [eA, eM, if_pos (by decide)] at hQ
    exact brB_F (hQ G (h0.mono (by omega) hB) FrX.refl)
theorem S_weighs {Q : Int → Wd → Prop} {k n : Nat} {c v : Int} (h : Sy G x d un pg tx rw' hw ha cs B) (hB : B + 10 ≤ 70000000) (h1' : R32 c) (h2' : R32 v) (hk : 9400 ≤ k) (hn : 75200 ≤ n) (hQ : ∀ G', Sy G' x (weiM d c v) (if weiA d c v < 0 then un else remU un d) pg tx rw' hw ha cs (B + 10) → FQ G G' → Q (weiA d c v) G') : f_X1_weighs k n x c v G Q := by
  have h0 := h
  obtain ⟨A, rf, E, dr, u, ru, ai, ar, ah, h1, h2, h3, h4, h5, h6⟩ := h
  have hd := h2.d0 h1
  have hwf := h2.2.2.2.2.1
  have neg : ∀ y : Int, weiA d c v = y → y < 0 → Q y G := by
    intro y e hy
    have := hQ G (by unfold weiM; rw [e, if_pos hy, if_pos hy]; exact h0.mono (by omega) hB) FrX.refl
    rw [e] at this; exact this
  unfold f_X1_weighs
  refine ⟨h1', p_in h1' r1 ⟨by decide, by decide⟩ ?_⟩
  by_cases c1 : 1 ≤ c ∧ c ≤ 3
  · rw [decide_eq_true c1]
    refine brB_T ⟨h2', p_in h2' r1 ⟨by decide, by decide⟩ ?_⟩
    by_cases c2 : 1 ≤ v ∧ v ≤ 9
    · rw [decide_eq_true c2]
      have hb := hwf.1.1.2.2.2.2.2.2.1 (814 + c) (by omega) (by omega)
      refine brB_T (gQ_0 h1 (nn_of (gD_4 hd (nn_of (xldW hd (by omega) (by omega) ?_)))))
      by_cases c3 : d.s (814 + c) = v
      · exact br_F ⟨by omega, by omega⟩ h2' (by omega) (neg (-2) (by unfold weiA; rw [if_pos ⟨c1, c2⟩, if_pos c3]) (by decide))
      · have eA : weiA d c v = 10 + d.s (814 + c) := by unfold weiA; rw [if_pos ⟨c1, c2⟩, if_neg c3]
        have eM : weiM d c v = setS d (iup (iup d.s (814 + c) v) (818 + c) v) := by unfold weiM; rw [eA, if_neg (by omega)]
        rw [eA, eM, if_neg (by omega)] at hQ
        refine br_T ⟨by omega, by omega⟩ h2' c3 (gQ_0 h1 ⟨96, 768, ⟨by omega, by omega⟩, cQ h1, q_remember h1 h2 h3 h4 h5 h6 (by omega) (by omega) (fun G1 dr1 u1 ar1 ah1 g1 g2 g3 g4 g5 g6 f1 => ?_)⟩)
        have d1 := g2.d0 g1
        refine gQ_0 g1 (nn_of (gD_4 d1 (nn_of (xstW d1 (by omega) (by omega) (by omega) (fun G2 d2 f2 => ?_)))))
        have w2 := g1.upd (i := 0) f2.x (by omega) d2
        refine gQ_0 w2 (nn_of (gD_5 d2 (nn_of (xstC d2 (by omega) (by omega) (by omega) (fun G3 d3 f3 => ?_)))))
        refine hQ G3 (Sy.step g1 g2 g3 g4 g5 g6 (f2.x.trans f3.x) d3 ((hwf.1.weigh c1 c2 (by omega)).mono (by omega)) ?_ (by omega) hB) (f1.trans ((f2.x.wide (by omega) (by omega)).trans (f3.x.wide (by omega) (by omega))))
        show iup (iup d.s (814 + c) v) (818 + c) v 900 = _
        rw [iup_ne (by omega), iup_ne (by omega)]
    · rw [decide_eq_false c2]
      exact brB_F (neg (-1) (by unfold weiA; rw [if_neg (fun z => c2 z.2)]) (by decide))
  · rw [decide_eq_false c1]
    exact brB_F (neg (-1) (by unfold weiA; rw [if_neg (fun z => c1 z.1)]) (by decide))
theorem S_depth {Q : Int → Wd → Prop} {k n : Nat} {v : Int} (h : Sy G x d un pg tx rw' hw ha cs B) (hB : B + 10 ≤ 70000000) (h1' : R32 v) (hk : 9400 ≤ k) (hn : 75200 ≤ n) (hQ : ∀ G', Sy G' x (depM d v) (if depA d v < 0 then un else remU un d) pg tx rw' hw ha cs (B + 10) → FQ G G' → Q (depA d v) G') : f_X1_depth k n x v G Q := by
  have h0 := h
  obtain ⟨A, rf, E, dr, u, ru, ai, ar, ah, h1, h2, h3, h4, h5, h6⟩ := h
  have hd := h2.d0 h1
  have hwf := h2.2.2.2.2.1
  have neg : ∀ y : Int, depA d v = y → y < 0 → Q y G := by
    intro y e hy
    have := hQ G (by unfold depM; rw [e, if_pos hy, if_pos hy]; exact h0.mono (by omega) hB) FrX.refl
    rw [e] at this; exact this
  have hb := hwf.1.1.2.2.1
  unfold f_X1_depth
  refine ⟨h1', p_in h1' r1 ⟨by decide, by decide⟩ ?_⟩
  by_cases c1 : 1 ≤ v ∧ v ≤ 4
  · rw [decide_eq_true c1]
    refine brB_T (gQ_0 h1 (nn_of (gD_9 hd ?_)))
    by_cases c3 : d.s 826 = v
    · exact br_F ⟨by omega, by omega⟩ h1' (by omega) (neg (-2) (by unfold depA; rw [if_pos c1, if_pos c3]) (by decide))
    · have eA : depA d v = 10 + d.s 826 := by unfold depA; rw [if_pos c1, if_neg c3]
      have eM : depM d v = setS d (iup d.s 826 v) := by unfold depM; rw [eA, if_neg (by omega)]
      rw [eA, eM, if_neg (by omega)] at hQ
      refine br_T ⟨by omega, by omega⟩ h1' c3 (gQ_0 h1 ⟨96, 768, ⟨by omega, by omega⟩, cQ h1, q_remember h1 h2 h3 h4 h5 h6 (by omega) (by omega) (fun G1 dr1 u1 ar1 ah1 g1 g2 g3 g4 g5 g6 f1 => ?_)⟩)
      have d1 := g2.d0 g1
      refine gQ_0 g1 (nn_of (pD_9 d1 (by omega) (fun G2 d2 f2 => ?_)))
      refine hQ G2 (Sy.step g1 g2 g3 g4 g5 g6 f2.x d2 ((hwf.1.dep c1 (by omega)).mono (by omega)) ?_ (by omega) hB) (f1.trans (f2.x.wide (by omega) (by omega)))
      show iup d.s 826 v 900 = _
      rw [iup_ne (by omega)]
  · rw [decide_eq_false c1]
    exact brB_F (neg (-1) (by unfold depA; rw [if_neg c1]) (by decide))
end
