/-! PURE PROOFS: commands are fetched; a tick -/
set_option maxRecDepth 100000
/-- a rule tells times: none, or an object of region 5 -/
def dflT : Tmf := fun o _ _ _ _ _ _ => 1 + (if 0 < o then 1 else 0)
def RuleT (G : Wd) (by' : Option Nat) (t : Tmf) : Prop := (∀ o b v q c n m, R32 (t o b v q c n m)) ∧ ((by' = none ∧ t = dflT) ∨ ∃ b, by' = some b ∧ (∃ v0 v1 v2 v3 v4 v5 v6, G 5 b = some (oB 6 [v0, v1, v2, v3, v4, v5, v6])) ∧
  ∀ G', ExS (G 1) (G' 1) → Ex5 (G 5) (G' 5) → ∀ (D a : Nat) (rf : Nat → Nat → Nat) (d : DS) (q x : Nat) (c : Rec) (Q : Int → Wd → Prop), 9 < D → DrA G' D a rf d → q < 5 → CmdAt (G' 1) q x c → CmdOK c → (0 ≤ d.s (89 * q + 22) ∧ d.s (89 * q + 22) ≤ 3) → d.run.length ≤ 4 → (0 ≤ d.s 827 ∧ d.s 827 ≤ 1000000000) →
    (∀ G'', (∀ r, r ≠ 5 → G'' r = G' r) → Ex5 (G' 5) (G'' 5) → Q (t (c 1) (c 2) (c 3) q (d.s (89 * q + 22)) (d.run.length : Nat) (d.s 827 % 7)) G'') → f_X7_of 0 0 b (some a) (some x) (some (rf q 0)) G' Q)
theorem RuleT.on {G G1 : Wd} {o : Option Nat} {t : Tmf} (h : RuleT G o t) (h1 : ExS (G 1) (G1 1)) (h5 : Ex5 (G 5) (G1 5)) : RuleT G1 o t := by
  refine ⟨h.1, ?_⟩
  rcases h.2 with h | ⟨b, e, ⟨v0, v1, v2, v3, v4, v5, v6, k1⟩, k2⟩
  · exact Or.inl h
  · obtain ⟨w3, w4, w5, w6, k3⟩ := h5 _ _ _ _ _ _ _ _ k1
    refine Or.inr ⟨b, e, ⟨v0, v1, v2, w3, w4, w5, w6, k3⟩, fun G' e1 e5 => k2 G' (fun b e x => e1 b e (h1 b e x)) ?_⟩
    intro b v0 v1 v2 v3 v4 v5 v6 x
    obtain ⟨u3, u4, u5, u6, y⟩ := h5 _ _ _ _ _ _ _ _ x
    exact e5 _ _ _ _ _ _ _ _ y
theorem RuleT.fr {G G1 : Wd} {o : Option Nat} {t : Tmf} {lo hi : Nat} (h : RuleT G o t) (f : FrR lo hi G G1) : RuleT G1 o t := h.on f.2.1 f.2.2
theorem FrR.by5 {lo hi : Nat} {G G' : Wd} (h : ∀ r, r ≠ 5 → G' r = G r) (h5 : Ex5 (G 5) (G' 5)) : FrR lo hi G G' := ⟨fun r _ _ h5 _ => h r h5, fun b e hb => by rw [h 1 (by decide)]; exact hb, h5⟩
section
variable {G : Wd} {D a q : Nat} {rf : Nat → Nat → Nat} {d : DS} {B : Int}
theorem DrA.by5 {G' : Wd} (h : DrA G D a rf d) (hD : 9 < D) (h2 : ∀ r, r ≠ 5 → G' r = G r) : DrA G' D a rf d :=
  h.congr (fun r r1 r2 => h2 r (by omega)) (by rw [h2 1 (by decide)]; exact Ext.refl)
theorem p_X2_timeOf {Q : Int → Wd → Prop} {k n x : Nat} {o : Option Nat} {t : Tmf} {c : Rec} (h : DrA G D a rf d) (hD : 9 < D) (hq : q < 5) (hr : RuleT G o t) (hx : CmdAt (G 1) q x c) (hc : CmdOK c) (hk : 0 ≤ d.s (89 * q + 22) ∧ d.s (89 * q + 22) ≤ 3) (hl : d.run.length ≤ 4) (ht : 0 ≤ d.s 827 ∧ d.s 827 ≤ 1000000000)
    (hQ : ∀ G', (∀ r, r ≠ 5 → G' r = G r) → Ex5 (G 5) (G' 5) → Q (timeD t d q c) G') : f_X2_timeOf k n a o (some x) (some (rf q 0)) G Q := by
  have r9 : R32 9 := ⟨by decide, by decide⟩
  have fin : ∀ v G', R32 v → Q (max 1 (min 9 v)) G' → ∀ k n, f_X2_timeOf_28 a k n v G' Q := fun v G' hv hq k n => ⟨⟨r9, hv⟩, ⟨r1, ⟨by have := hv.1; omega, by omega⟩⟩, hq⟩
  unfold f_X2_timeOf
  have hrr := hr.1 (c 1) (c 2) (c 3) q (d.s (89 * q + 22)) (d.run.length : Nat) (d.s 827 % 7)
  rcases hr.2 with ⟨rfl, rfl⟩ | ⟨b, rfl, ⟨v0, v1, v2, v3, v4, v5, v6, k1⟩, k2⟩
  · refine brN_N (nn_of (gI_of hx (by decide) rfl ⟨⟨by have := hc.2.1; omega, by have := hc.2.1; omega⟩, fun c0 => ?_, fun c0 => ?_⟩))
    · unfold f_X2_timeOf_17
      refine fin _ _ ⟨by decide, by decide⟩ ?_ _ _
      have := hQ G (fun _ _ => rfl) Ex5.refl
      unfold timeD dflT at this
      rw [if_neg (by omega)] at this
      exact this
    · unfold f_X2_timeOf_17
      refine fin _ _ ⟨by decide, by decide⟩ ?_ _ _
      have := hQ G (fun _ _ => rfl) Ex5.refl
      unfold timeD dflT at this
      rw [if_pos (by omega)] at this
      exact this
  · refine brN_S ⟨0, 0, ⟨by omega, by omega⟩, isC_of k1, ?_⟩
    refine k2 G (fun _ _ z => z) Ex5.refl D a rf d q x c _ hD h hq hx hc hk hl ht (fun G'' e1 e2 => ?_)
    exact fin _ _ hrr (hQ G'' e1 e2) _ _
theorem CmdAt.s {R R' : Nat → Option QE} (e : ExS R R') {q : Int} {x : Nat} {c : Rec} (h : CmdAt R q x c) : CmdAt R' q x c := e _ _ h
/-- the last act of a fetch: a work is made and runs -/
theorem x_newRun {Q : Wd → Prop} {k n y x : Nat} {w : Rec} {z : Option Nat} {v1 v2 : Value} {G0 : Wd} (h : DrA G D a rf d) (hD : 9 < D) (hf : FrR D (D + 100) G0 G) (hy : fr G0 y) (hy1 : G 1 y = some (oB 8 [vR none, v1, v2]))
    (hw : ∀ R : Nat → Option QE, Ext (G 1) R → R y = some (oB 8 [vR (some x), vR z, vI (w 11)]) → WorkAt R y w) (hl : d.run.length < 900000) (hk : 1 ≤ k) (hn : 3 ≤ n) (hQ : ∀ G', DrA G' D a rf (setRun d (d.run ++ [w])) → FrR D (D + 100) G0 G' → Q G') :
    f_X9_init y (some x) z (w 11) G (fun G83 => nn (some (rf 9 1)) (fun a84 => (∃ k86 n87, (k86 ≤ k ∧ n87 ≤ n) ∧ (isC G83 a84 12 ∧ f_J3_addLast k86 n87 a84 (some y) G83 (fun G85 => Q G85))))) := by
  refine p_X9_init hy1 ?_
  have h1 : DrA (wset G 1 y (oB 8 [vR (some x), vR z, vI (w 11)])) D a rf d := h.raw hD hy1
  refine nn_of ⟨1, 3, ⟨hk, hn⟩, cRun h1, x_runAdd (w := w) h1 hD hl (hw _ ?_ wset_at) (by omega) (by omega) (fun G1 g1 f1 => hQ G1 g1 ((FrR.renew hy hf).trans f1))⟩
  intro b e hb hnr
  by_cases e9 : b = y
  · subst e9
    rw [hy1] at hb
    injection hb with hb
    exact absurd ⟨v1, v2, hb.symm⟩ hnr
  · rw [wset_ne e9]; exact hb
theorem p_X2_fetchQ {Q : Wd → Prop} {k n x : Nat} {o : Option Nat} {t : Tmf} {c : Rec} {cs : List Rec} (h : DrA G D a rf (nextD d q)) (hD : 9 < D) (hw : WF d B) (hB : B ≤ 900000000) (hq9 : (q : Int) < d.s 900) (hr : RuleT G o t) (hx : CmdAt (G 1) q x c) (hc : d.ring q = c :: cs) (hk : 2 ≤ k) (hn : 16 ≤ n)
    (hQ : ∀ G', DrA G' D a rf (fetchQ t (nextD d q) q c) → FrR D (D + 100) G G' → Q G') :
    gZ G x [7] 5 (fun x102 => brB x102 (gR G a [1] 2 (fun x117 => nO G k n 9 4 zX10 (fun a118 G119 => f_X10_init a118 (some x) 1 0 G119 (fun G120 => nn x117 (fun a121 => (∃ k123 n124, (k123 ≤ (k - 1) ∧ n124 ≤ (n - 4)) ∧ (isC G120 a121 12 ∧ f_J3_addLast k123 n124 a121 (some a118) G120 (fun G122 => Q G122)))))))) (gI G x [7] 2 (fun x103 => br x103 2 (x103 = (2 : Int)) (f_X2_fetch_52 a k n o (some (rf q 0)) (some x) G Q) (gI G x [7] 2 (fun x104 => br x104 3 (¬ x104 = (3 : Int)) (gR G a [1] 1 (fun x105 => nO G k n 8 3 zX9 (fun a106 G107 => (∃ k109 n110, (k109 ≤ (k - 1) ∧ n110 ≤ (n - 3)) ∧ (isC G107 a 1 ∧ f_X2_timeOf k109 n110 a o (some x) (some (rf q 0)) G107 (fun x111 G108 => f_X9_init a106 (some x) none x111 G108 (fun G112 => nn x105 (fun a113 => (∃ k115 n116, (k115 ≤ ((k - 1) - k109) ∧ n116 ≤ ((n - 3) - n110)) ∧ (isC G112 a113 12 ∧ f_J3_addLast k115 n116 a113 (some a106) G112 (fun G114 => Q G114))))))))))) (f_X2_fetch_52 a k n o (some (rf q 0)) (some x) G Q))))))  := by
  have h5 := hw.hq hq9
  have hkd := (hw.l8 hq9).2.2.1
  have e22 : (nextD d q).s (89 * q + 22) = d.s (89 * q + 22) := nextS_i hkd (by omega) (by omega) (by omega)
  have e827 : (nextD d q).s 827 = d.s 827 := nextS_i hkd (by omega) (by omega) (by omega)
  have hkd' : 0 ≤ (nextD d q).s (89 * q + 22) ∧ (nextD d q).s (89 * q + 22) ≤ 3 := by rw [e22]; exact hkd
  have ht : 0 ≤ (nextD d q).s 827 ∧ (nextD d q).s 827 ≤ 1000000000 := by
    rw [e827]
    have := hw.1.2.2.2.1
    have := hw.1.1 827
    omega
  have hl : (nextD d q).run.length ≤ 4 := hw.2.2.1.1
  have ho : (nextD d q).out.length < 900000 := by have := hw.outlen; show d.out.length < _; omega
  have hcok : CmdOK c := (hw.wl h5).2.2.2.1 c (by rw [hc]; exact List.mem_cons_self)
  obtain ⟨c0, c1, c2, c3, c4⟩ := hcok
  unfold fetchQ at hQ
  refine gZ_of hx (by decide) rfl ?_
  by_cases h4 : c 4 = 1
  · rw [decide_eq_true h4]
    rw [if_pos h4] at hQ
    refine brB_T (gD_2 h (x_newOut h hD hx ho hk (by omega) hQ))
  · rw [decide_eq_false h4]
    rw [if_neg h4] at hQ
    have uw : (isPair (pairs (nextD d q) q c) = none → ∀ s0 : Option Nat, (s0 = none ∨ ∃ y oo, s0 = some y ∧ CmdAt (G 1) q y oo ∧ CmdOK oo ∧ ¬ (oo 1 = 3 ∧ ¬ oo 4 = 1)) → (c 1 = 2 ∨ c 1 = 3) → f_X2_fetch_81 a k n o (some (rf q 0)) (some x) s0 G Q) := by
      intro hp s0 hs0 h23
      rw [if_pos h23, hp] at hQ
      have z105 : f_X2_fetch_105 a k n (some x) G Q := by
        unfold f_X2_fetch_105
        exact gD_2 h (x_newOut h hD hx ho hk (by omega) hQ)
      unfold f_X2_fetch_81
      rcases hs0 with rfl | ⟨y, oo, rfl, y1, y2, y3⟩
      · exact brN_N z105
      · obtain ⟨o0, o1, o2, o3, o4⟩ := y2
        refine brN_S (gI_of y1 (by decide) rfl ⟨⟨⟨by omega, by omega⟩, ⟨by omega, by omega⟩⟩, fun _ => z105, fun n3 => gZ_of y1 (by decide) rfl ?_⟩)
        rw [decide_eq_true (show oo 4 = 1 by omega)]
        exact brB_T z105
    have r2 : R32 2 := ⟨by decide, by decide⟩
    have r3 : R32 3 := ⟨by decide, by decide⟩
    have rc1 : R32 (c 1) := ⟨by omega, by omega⟩
    have pr : (c 1 = 2 ∨ c 1 = 3) → f_X2_fetch_52 a k n o (some (rf q 0)) (some x) G Q := by
      intro h23
      unfold f_X2_fetch_52 f_X2_fetch_80
      refine nn_of (gI_of hx (by decide) rfl ?_)
      by_cases h2 : c 1 = 2
      · refine br_F rc1 r2 (by omega) (nn_of ⟨cL h h5, ?_⟩)
        -- does the line have more work
        have hws : f_X3_hasWork (rf q 0) G (fun x92 G91 => brB x92 (gR G91 (rf q 0) [2] 1 (fun x93 => nn x93 (fun a94 => (isC G91 a94 13 ∧ f_J4_peekFirst a94  G91 (fun x96 G95 => cst G95 x96 [7] (f_X2_fetch_81 a k n o (some (rf q 0)) (some x) x96 G95 Q)))))) (f_X2_fetch_81 a k n o (some (rf q 0)) (some x) none G91 Q)) := by
          unfold f_X3_hasWork
          have b2 := hw.1.1 (89 * q + 2)
          have b3 := hw.1.1 (89 * q + 3)
          have e3 : (nextD d q).s (89 * q + 3) = d.s (89 * q + 3) + 1 := nextS_3 h5 hkd
          have e2 : (nextD d q).s (89 * q + 2) = d.s (89 * q + 2) := nextS_i hkd (by omega) (by omega) (by omega)
          refine gL_9 h h5 (gL_10 h h5 ⟨⟨by rw [e2]; exact ⟨by omega, by omega⟩, by rw [e3]; exact ⟨by omega, by omega⟩⟩, fun cc => ?_, fun cc => ?_⟩)
          · refine brB_F (uw ?_ none (Or.inl rfl) h23)
            unfold pairs
            rw [if_neg]
            · rfl
            · rintro ⟨z1, z2⟩
              have := of_decide_eq_true z2
              omega
          · have hw2 : hasW (nextD d q).s q = true := decide_eq_true (by omega)
            refine brB_T (gL_1 h h5 (nn_of ⟨cRing h h5, x_ringPeek h h5 (fun hn0 => ?_) (fun y oo os ho1 ho2 => ?_)⟩))
            · refine ⟨fun b hb => (by cases hb), uw ?_ none (Or.inl rfl) h23⟩
              unfold pairs
              rw [if_pos ⟨h2, hw2⟩, hn0]
              rfl
            · refine cst_of rfl ho2 (by decide) ?_
              have eo : (nextD d q).ring q = cs := by
                show nup d.ring q (d.ring q).tail q = cs
                rw [nup_at, hc]; rfl
              rw [eo] at ho1
              have ook : CmdOK oo := (hw.wl h5).2.2.2.1 oo (by rw [hc, ho1]; exact List.mem_cons_of_mem _ List.mem_cons_self)
              have epr : pairs (nextD d q) q c = some oo := by
                unfold pairs
                rw [if_pos ⟨h2, hw2⟩, eo, ho1]
                rfl
              by_cases hp : oo 1 = 3 ∧ ¬ oo 4 = 1
              · have eip : isPair (pairs (nextD d q) q c) = some oo := by
                  rw [epr]
                  unfold isPair
                  simp only
                  rw [if_pos hp]
                rw [if_pos h23, eip] at hQ
                simp only at hQ
                unfold f_X2_fetch_81
                refine brN_S (gI_of ho2 (by decide) rfl (br_F ⟨by have := ook.2.1; omega, by have := ook.2.1; omega⟩ r3 (by omega) (gZ_of ho2 (by decide) rfl ?_)))
                rw [decide_eq_false hp.2]
                refine brB_F ⟨0, 0, ⟨by omega, by omega⟩, cD h, p_X2_timeOf h hD h5 hr hx ⟨c0, c1, c2, c3, c4⟩ hkd' hl ht (fun G1 f1 f1' => ?_)⟩
                have g1 : DrA G1 D a rf (nextD d q) := h.by5 hD f1
                have fr1 : FrR D (D + 100) G G1 := FrR.by5 f1 f1'
                refine gD_1 g1 (nO_of 1 (by omega) (by omega) (by decide) (fun y' hy' => ?_))
                have g2 : DrA (wset G1 1 y' (oB 8 zX9)) D a rf (nextD d q) := g1.new hy' hD
                have hyG1 : wset G1 1 y' (oB 8 zX9) 1 y' = some (oB 8 [vR none, vR none, vI 0]) := wset_at
                have fr2 : FrR D (D + 100) G1 (wset G1 1 y' (oB 8 zX9)) := FrR.new hy'
                generalize hG2 : wset G1 1 y' (oB 8 zX9) = G2 at g2 hyG1 fr2 ⊢
                refine ⟨cD g2, p_X2_nextOf g2 hD h5 hkd' (by rw [eo]; exact ho1) (fun z G3 z1 g3 f3 => ?_)⟩
                have hyG3 := f3.2.1 _ _ hyG1
                have hx3 : CmdAt (G3 1) q x c := (hx.s fr1.2.1).s fr2.2.1 |>.s f3.2.1
                have e11 : timeD t (nextD d q) q c = wk2 q c oo (timeD t (nextD d q) q c) 11 := rfl
                rw [e11]
                refine x_newRun (x := x) (w := wk2 q c oo (timeD t (nextD d q) q c)) (G0 := G1) g3 hD (fr2.trans f3) hy' hyG3 ?_ (by show d.run.length < _; have := hw.2.2.1.1; omega) (by omega) (by omega) (fun G4 g4 f4 => hQ G4 ?_ (fr1.trans f4))
                · intro R hR hy0
                  refine ⟨x, some z, hy0, hx3.ext hR, Or.inr ⟨?_, z, rfl, z1.ext hR⟩⟩
                  show 0 ≤ oo 1
                  omega
                · exact g4
              · have eip : isPair (pairs (nextD d q) q c) = none := by
                  rw [epr]
                  unfold isPair
                  simp only
                  rw [if_neg hp]
                exact uw eip (some y) (Or.inr ⟨y, oo, rfl, ho2, ook, hp⟩) h23
        exact hws
      · refine br_T rc1 r2 h2 (uw ?_ none (Or.inl rfl) h23)
        unfold pairs
        rw [if_neg (fun z => h2 z.1)]
        rfl
    refine brB_F (gI_of hx (by decide) rfl ?_)
    by_cases h2 : c 1 = 2
    · exact br_T rc1 r2 h2 (pr (Or.inl h2))
    · refine br_F rc1 r2 h2 (gI_of hx (by decide) rfl ?_)
      by_cases h3 : c 1 = 3
      · exact br_F rc1 r3 (by omega) (pr (Or.inr h3))
      · rw [if_neg (by omega)] at hQ
        refine br_T rc1 r3 h3 (gD_1 h (nO_of 1 (by omega) (by omega) (by decide) (fun y' hy' => ?_)))
        have g2 : DrA (wset G 1 y' (oB 8 zX9)) D a rf (nextD d q) := h.new hy' hD
        have hyG1 : wset G 1 y' (oB 8 zX9) 1 y' = some (oB 8 [vR none, vR none, vI 0]) := wset_at
        have fr2 : FrR D (D + 100) G (wset G 1 y' (oB 8 zX9)) := FrR.new hy'
        have hr2 := hr.fr fr2
        have hx2 : CmdAt (wset G 1 y' (oB 8 zX9) 1) q x c := hx.s fr2.2.1
        generalize wset G 1 y' (oB 8 zX9) = G2 at g2 hyG1 fr2 hr2 hx2 ⊢
        refine ⟨0, 0, ⟨by omega, by omega⟩, cD g2, p_X2_timeOf g2 hD h5 hr2 hx2 ⟨c0, c1, c2, c3, c4⟩ hkd' hl ht (fun G3 f3 f3' => ?_)⟩
        have g3 : DrA G3 D a rf (nextD d q) := g2.by5 hD f3
        have fr3 : FrR D (D + 100) G2 G3 := FrR.by5 f3 f3'
        have hx3 : CmdAt (G3 1) q x c := hx2.s fr3.2.1
        have e11 : timeD t (nextD d q) q c = wk1 q c (timeD t (nextD d q) q c) 11 := rfl
        rw [e11]
        refine x_newRun (x := x) (w := wk1 q c (timeD t (nextD d q) q c)) (G0 := G) g3 hD (fr2.trans fr3) hy' (fr3.2.1 _ _ hyG1) ?_ (by show d.run.length < _; have := hw.2.2.1.1; omega) (by omega) (by omega) (fun G4 g4 f4 => hQ G4 ?_ f4)
        · intro R hR hy0
          exact ⟨x, none, hy0, hx3.ext hR, Or.inl ⟨by show (-1 : Int) < 0; decide, rfl⟩⟩
        · exact g4
theorem p_X2_fetch {Q : Wd → Prop} {k n : Nat} {o : Option Nat} {t : Tmf} (h : DrA G D a rf d) (hD : 9 < D) (hw : WF d B) (hB : B ≤ 900000000) (hB9 : 9 ≤ B) (hr : RuleT G o t) (hl : (d.run.length : Int) < d.s 826) (ha : anyW d.s (d.s 900).toNat = true) (hk : 2 ≤ k) (hn : 16 ≤ n)
    (hQ : ∀ G', DrA G' D a rf (fetchD t d) → FrR D (D + 100) G G' → Q G') : f_X2_fetch k n a o G Q := by
  obtain ⟨q, s', c, cs, k1, k2, k3, k4, k5, k6, k7, -⟩ := fetchD_ok (t := t) hw hB9 hl ha
  rw [k7] at hQ
  have h5 := hw.hq k2
  unfold f_X2_fetch
  refine ⟨cD h, p_X2_chosen h hD hw (by omega) hB9 k1 (fun G1 g1 f1 => ⟨cD g1, ?_⟩)⟩
  have hkd : 0 ≤ (setS d s').s (89 * q + 22) ∧ (setS d s').s (89 * q + 22) ≤ 3 := by
    show 0 ≤ s' (89 * q + 22) ∧ s' (89 * q + 22) ≤ 3
    rw [k3.1 _ (by omega)]
    exact (hw.l8 k2).2.2.1
  refine p_X2_nextOf g1 hD h5 hkd k6 (fun x G2 x2 g2 f2 => nn_of ?_)
  exact p_X2_fetchQ g2 hD k5 hB (by show (q : Int) < s' 900; rw [k3.1 _ (by omega)]; exact k2) ((hr.fr f1).fr f2) x2 k6 hk hn (fun G3 g3 f3 => hQ G3 g3 (f1.trans (f2.trans f3)))
/-- what is still to be paid for -/
def cmds : List Rec → Nat
  | [] => 0
  | w :: l => (if w 7 < 0 then 1 else 2) + cmds l
def Phi (d : DS) : Nat := 3 * tot d + cmds d.run + d.out.length
theorem cmds_app {l m : List Rec} : cmds (l ++ m) = cmds l + cmds m := by
  induction l with
  | nil => simp [cmds]
  | cons w l ih => simp only [List.cons_append, cmds, ih]; omega
theorem tot_eq {s : Rec} {rg ps : Nat → List Rec} {us : Nat → Nat} {rn ou : List Rec} (h : rg = d.ring) : tot (s, rg, ps, us, rn, ou) = tot d := by unfold tot; rw [h]; rfl
theorem phi_run : ∀ (l : List Rec) (e : DS), tot (l.foldl runStep e) = tot e ∧ cmds (l.foldl runStep e).run + (l.foldl runStep e).out.length = cmds e.run + e.out.length + cmds l
  | [], e => ⟨rfl, by simp [cmds]⟩
  | w :: l, e => by
    rw [List.foldl_cons]
    obtain ⟨k1, k2⟩ := phi_run l (runStep e w)
    have d7 : dec w 7 = w 7 := dec_ne (by decide)
    have : tot (runStep e w) = tot e ∧ cmds (runStep e w).run + (runStep e w).out.length = cmds e.run + e.out.length + (if w 7 < 0 then 1 else 2) := by
      unfold runStep
      split
      · refine ⟨rfl, ?_⟩
        show cmds (e.run ++ [dec w]) + e.out.length = _
        rw [cmds_app]
        simp only [cmds]
        rw [d7]
        omega
      · unfold finD
        rw [d7]
        split
        · refine ⟨rfl, ?_⟩
          show cmds e.run + (e.out ++ [_]).length = _
          rw [List.length_append, List.length_singleton]; omega
        · refine ⟨rfl, ?_⟩
          show cmds e.run + ((e.out ++ [_]) ++ [_]).length = _
          rw [List.length_append, List.length_append, List.length_singleton, List.length_singleton]; omega
    refine ⟨by omega, ?_⟩
    simp only [cmds]
    omega
theorem Phi_run : Phi (runAll d) = Phi d := by
  unfold Phi runAll
  obtain ⟨k1, k2⟩ := phi_run d.run (setRun d [])
  have e1 : tot (setRun d []) = tot d := rfl
  have e2 : (setRun d []).out.length = d.out.length := rfl
  have e3 : cmds (setRun d []).run = 0 := rfl
  omega
theorem phi_post : ∀ (l : List Rec) (e : DS), tot (l.foldl postStep e) = tot e ∧ (l.foldl postStep e).run = e.run
  | [], e => ⟨rfl, rfl⟩
  | w :: l, e => by
    rw [List.foldl_cons]
    obtain ⟨k1, k2⟩ := phi_post l (postStep e w)
    have : tot (postStep e w) = tot e ∧ (postStep e w).run = e.run := by
      unfold postStep
      split
      · exact ⟨rfl, rfl⟩
      · exact ⟨rfl, rfl⟩
    exact ⟨k1.trans this.1, k2.trans this.2⟩
theorem Phi_post : Phi (postAll d) + d.out.length = Phi d + (postAll d).out.length := by
  obtain ⟨k1, k2⟩ := phi_post d.out (setOut d [])
  have e1 : tot (postAll d) = tot d := k1
  have e2 : (postAll d).run = d.run := k2
  unfold Phi
  rw [e1, e2]; omega
theorem post_le : (postAll d).out.length ≤ d.out.length := by
  have mono : ∀ (l : List Rec) (e : DS), (l.foldl postStep e).out.length ≤ e.out.length + l.length := by
    intro l
    induction l with
    | nil => intro e; simp
    | cons w l ih =>
      intro e
      rw [List.foldl_cons, List.length_cons]
      have := ih (postStep e w)
      have h2 : (postStep e w).out.length ≤ e.out.length + 1 := by
        unfold postStep
        split
        · show e.out.length ≤ _; omega
        · show (e.out ++ [w]).length ≤ _; rw [List.length_append, List.length_singleton]; omega
      omega
  have := mono d.out (setOut d [])
  have e0 : (setOut d []).out.length = 0 := rfl
  unfold postAll
  omega
theorem fetchQ_phi {t : Tmf} {c : Rec} {cs : List Rec} (h5 : q < 5) (hc : d.ring q = c :: cs) : Phi (fetchQ t (nextD d q) q c) + 2 ≤ Phi d := by
  have et : (d.ring q).tail = cs := by rw [hc]; rfl
  have tn : ∀ (s : Rec) (r : (Nat → List Rec) × (Nat → Nat) × List Rec × List Rec), tot (s, nup d.ring q (d.ring q).tail, r) + 1 = tot d := by
    intro s r
    have := tot_nup (d := d) (q := q) (l := cs) h5 (sc := s) (r := r)
    rw [hc, List.length_cons] at this
    rw [et]; omega
  have one : ∀ w, Phi (outD (nextD d q) w) + 2 ≤ Phi d := by
    intro w
    have := tn (nextS d.s q) (d.posts, d.us, d.run, d.out ++ [w])
    unfold Phi
    have e1 : tot (outD (nextD d q) w) + 1 = tot d := this
    have e2 : (outD (nextD d q) w).run = d.run := rfl
    have e3 : (outD (nextD d q) w).out.length = d.out.length + 1 := by show (d.out ++ [w]).length = _; rw [List.length_append, List.length_singleton]
    rw [e2, e3]; omega
  unfold fetchQ
  split
  · exact one _
  · split
    · cases hp : isPair (pairs (nextD d q) q c) with
      | none => exact one _
      | some o =>
        have hp2 : ∃ cs', cs = o :: cs' := by
          unfold pairs at hp
          by_cases z : c 1 = 2 ∧ hasW (nextD d q).s q = true
          · rw [if_pos z] at hp
            have : (nextD d q).ring q = cs := by
              show nup d.ring q (d.ring q).tail q = cs
              rw [nup_at, et]
            rw [this] at hp
            cases cs with
            | nil => cases hp
            | cons o' cs' =>
              simp only [List.head?_cons, isPair] at hp
              by_cases y : o' 1 = 3 ∧ ¬ o' 4 = 1
              · rw [if_pos y] at hp
                injection hp with hp
                exact ⟨cs', by rw [hp]⟩
              · rw [if_neg y] at hp; cases hp
          · rw [if_neg z] at hp; cases hp
        obtain ⟨cs', rfl⟩ := hp2
        have er : (nup d.ring q (o :: cs') q).tail = cs' := by rw [nup_at]; rfl
        have := tot_nup (d := d) (q := q) (l := cs') h5 (sc := nextS (nextS d.s q) q) (r := (d.posts, d.us, d.run ++ [wk2 q c o (timeD t (nextD d q) q c)], d.out))
        rw [hc, List.length_cons, List.length_cons] at this
        have e1 : tot (setRun (nextD (nextD d q) q) ((nextD d q).run ++ [wk2 q c o (timeD t (nextD d q) q c)])) + 2 = tot d := by
          have e0 : setRun (nextD (nextD d q) q) ((nextD d q).run ++ [wk2 q c o (timeD t (nextD d q) q c)]) = (nextS (nextS d.s q) q, nup (nup d.ring q (d.ring q).tail) q (nup d.ring q (d.ring q).tail q).tail, (d.posts, d.us, d.run ++ [wk2 q c o (timeD t (nextD d q) q c)], d.out)) := rfl
          rw [e0, et, er, nup_nup]; omega
        show Phi (setRun (nextD (nextD d q) q) ((nextD d q).run ++ [wk2 q c o (timeD t (nextD d q) q c)])) + 2 ≤ Phi d
        unfold Phi
        have e2 : cmds (setRun (nextD (nextD d q) q) ((nextD d q).run ++ [wk2 q c o (timeD t (nextD d q) q c)])).run ≤ cmds d.run + 2 := by
          show cmds (d.run ++ [_]) ≤ _
          rw [cmds_app]
          simp only [cmds]
          split <;> omega
        have e3 : (setRun (nextD (nextD d q) q) ((nextD d q).run ++ [wk2 q c o (timeD t (nextD d q) q c)])).out = d.out := rfl
        rw [e3]; omega
    · have := tn (nextS d.s q) (d.posts, d.us, d.run ++ [wk1 q c (timeD t (nextD d q) q c)], d.out)
      unfold Phi
      have e1 : tot (setRun (nextD d q) ((nextD d q).run ++ [wk1 q c (timeD t (nextD d q) q c)])) + 1 = tot d := this
      have e2 : cmds (setRun (nextD d q) ((nextD d q).run ++ [wk1 q c (timeD t (nextD d q) q c)])).run = cmds d.run + 1 := by
        show cmds (d.run ++ [_]) = _
        rw [cmds_app]
        rfl
      have e3 : (setRun (nextD d q) ((nextD d q).run ++ [wk1 q c (timeD t (nextD d q) q c)])).out = d.out := rfl
      rw [e2, e3]; omega
theorem fetchD_phi {t : Tmf} (hw : WF d B) (hB9 : 9 ≤ B) (hl : (d.run.length : Int) < d.s 826) (ha : anyW d.s (d.s 900).toNat = true) : Phi (fetchD t d) + 2 ≤ Phi d := by
  obtain ⟨q, s', c, cs, k1, k2, k3, k4, k5, k6, k7, -⟩ := fetchD_ok (t := t) hw hB9 hl ha
  rw [k7]
  exact fetchQ_phi (d := setS d s') (hw.hq k2) k6
theorem fetchL_phi {t : Tmf} : ∀ (f : Nat) (d : DS) (B : Int), WF d B → 9 ≤ B → Phi (fetchL t f d) ≤ Phi d
  | 0, d, B, h, _ => Nat.le_refl _
  | f + 1, d, B, h, hB => by
    unfold fetchL
    split
    · rename_i c
      obtain ⟨q, s', c', cs, -, -, -, -, -, -, -, k1, k2, k3⟩ := fetchD_ok (t := t) h hB c.1 c.2
      have k4 := fetchL_phi (t := t) f (fetchD t d) (B + 2) k1 (by omega)
      have k5 := fetchD_phi (t := t) h hB c.1 c.2
      omega
    · exact Nat.le_refl _
theorem tot_le (h : WF d B) : tot d ≤ 35 := by
  have := sumN_le (f := fun q => (d.ring q).length) (b := 7) 5 (fun i hi => h.ringlen hi)
  exact this
theorem p_X2_goTick_12 {Q : Wd → Prop} {o : Option Nat} {t : Tmf} (hD : 9 < D) : ∀ (f : Nat) (d : DS) (B : Int) (G : Wd) (k n : Nat), tot d < f → DrA G D a rf d → WF d B → 9 ≤ B → B + 2 * f ≤ 900000000 → RuleT G o t → Phi d ≤ k + Phi (fetchL t f d) → 8 * Phi d ≤ n + 8 * Phi (fetchL t f d) →
    (∀ G', DrA G' D a rf (setS (fetchL t f d) (iup (fetchL t f d).s 827 ((fetchL t f d).s 827 + 1))) → FrR D (D + 100) G G' → Q G') → f_X2_goTick_12 a Q f k n o G := by
  intro f
  induction f with
  | zero => intro d B G k n ht; omega
  | succ f ih =>
    intro d B G k n ht h hw hB9 hB hr hk hn hQ
    unfold f_X2_goTick_12 f_X2_goTick_12_b
    refine gD_1 h (nn_of ⟨cRun h, x_runSize h (gD_9 h ?_)⟩)
    have hl4 := hw.2.2.1.1
    have fin : (¬ ((d.run.length : Int) < d.s 826 ∧ anyW d.s (d.s 900).toNat = true)) → f_X2_goTick_41 a k n G Q := by
      intro hc
      have e : fetchL t (f + 1) d = d := by unfold fetchL; rw [if_neg hc]
      rw [e] at hQ
      unfold f_X2_goTick_41
      exact gD_10 h (pD_10 h hD hQ)
    refine ⟨⟨⟨by omega, by omega⟩, hw.r (by omega) _⟩, fun c1 => fin (fun z => by omega), fun c1 => ⟨cD h, p_X2_hasWork h hw (by omega) ?_⟩⟩
    cases hany : anyW d.s (d.s 900).toNat with
    | false => exact brB_F (fin (fun z => by rw [hany] at z; cases z.2))
    | true =>
      have hc : (d.run.length : Int) < d.s 826 ∧ anyW d.s (d.s 900).toNat = true := ⟨by omega, hany⟩
      have e : fetchL t (f + 1) d = fetchL t f (fetchD t d) := by
        show (if (d.run.length : Int) < d.s 826 ∧ anyW d.s (d.s 900).toNat = true then fetchL t f (fetchD t d) else d) = _
        rw [if_pos hc]
      rw [e] at hQ hk hn
      obtain ⟨q, s', c', cs, -, -, -, -, -, -, -, k1, k2, k3⟩ := fetchD_ok (t := t) hw hB9 hc.1 hc.2
      have k4 := fetchL_phi (t := t) f (fetchD t d) (B + 2) k1 (by omega)
      have k5 := fetchD_phi (t := t) hw hB9 hc.1 hc.2
      refine brB_T ⟨2, 16, ⟨by omega, by omega⟩, cD h, p_X2_fetch h hD hw (by omega) hB9 hr hc.1 hc.2 (by omega) (by omega) (fun G1 g1 f1 => ?_)⟩
      exact ih (fetchD t d) (B + 2) G1 _ _ (by omega) g1 k1 (by omega) (by omega) (hr.fr f1) (by omega) (by omega) (fun G2 g2 f2 => hQ G2 g2 (f1.trans f2))
theorem Phi_look : Phi (lookD d) = Phi d := rfl
theorem tick_phi {t : Tmf} (hw : WF d B) (hB9 : 99 ≤ B) : Phi (tickD t d) ≤ Phi d := by
  have k1 := (hw.runs hB9).posts.look
  have k2 := fetchL_phi (t := t) 40 _ _ k1 (by omega)
  have e1 := Phi_run (d := d)
  have e2 := Phi_post (d := runAll d)
  have e3 := Phi_look (d := postAll (runAll d))
  have e4 := post_le (d := runAll d)
  have e5 : Phi (tickD t d) = Phi (fetchL t 40 (lookD (postAll (runAll d)))) := rfl
  omega
theorem p_X2_goTick {Q : Wd → Prop} {k n : Nat} {o : Option Nat} {t : Tmf} (h : DrA G D a rf d) (hD : 9 < D) (hw : WF d B) (hB : B ≤ 800000000) (hB9 : 99 ≤ B) (hr : RuleT G o t) (hk : 21 + Phi d ≤ k + Phi (tickD t d)) (hn : 8 * (21 + Phi d) ≤ n + 8 * Phi (tickD t d))
    (hQ : ∀ G', DrA G' D a rf (tickD t d) → FrR D (D + 100) G G' → Q G') : f_X2_goTick k n a o G Q := by
  have w1 := hw.runs hB9
  have w2 := w1.posts
  have w3 := w2.look
  have e1 := Phi_run (d := d)
  have e2 := Phi_post (d := runAll d)
  have e3 := Phi_look (d := postAll (runAll d))
  have e4 := post_le (d := runAll d)
  have e5 : Phi (tickD t d) = Phi (fetchL t 40 (lookD (postAll (runAll d)))) := rfl
  have e6 := fetchL_phi (t := t) 40 _ _ w3 (by omega)
  have ht := tot_le w3
  unfold f_X2_goTick
  refine ⟨20, 160, ⟨by omega, by omega⟩, cD h, p_X2_run h hD hw (by omega) hB9 (by omega) (by omega) (fun G1 g1 f1 => ?_)⟩
  refine ⟨1 + (runAll d).out.length - (postAll (runAll d)).out.length, 8 * (1 + (runAll d).out.length - (postAll (runAll d)).out.length), ⟨by omega, by omega⟩, cD g1, p_X2_postAll g1 hD w1 (by omega) (by omega) (by omega) (fun G2 g2 f2 => ⟨cD g2, p_X2_look g2 hD w2 (by omega) (fun G3 g3 f3 => ⟨40, ?_⟩)⟩)⟩
  exact p_X2_goTick_12 hD 40 _ _ G3 _ _ (by omega) g3 w3 (by omega) (by omega) (((hr.fr f1).fr f2).fr f3) (by omega) (by omega) (fun G4 g4 f4 => hQ G4 g4 (f1.trans (f2.trans (f3.trans f4))))
end
