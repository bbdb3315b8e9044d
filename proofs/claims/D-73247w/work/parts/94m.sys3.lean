/-! PURE PROOFS: a drive chooses, looks, counts -/
set_option maxRecDepth 100000
section
variable {G : Wd} {D a q : Nat} {rf : Nat → Nat → Nat} {d : DS} {B : Int}
theorem p_X2_chosen_80 {Q : Option Nat → Wd → Prop} (h : DrA G D a rf d) (hD : 9 < D) (hq : q < 5) (hk : 0 ≤ d.s (89 * q + 22) ∧ d.s (89 * q + 22) ≤ 3) (hQ : ∀ G', DrA G' D a rf (setS d (iup d.s (822 + d.s (89 * q + 22)) q)) → FrR D (D + 100) G G' → Q (some (rf q 0)) G') : f_X2_chosen_80 a (some (rf q 0)) G Q := by
  unfold f_X2_chosen_80
  refine brN_S (gD_6 h (gL_6 h hq (gL_0 h hq (nn_of (xstT h hD (by omega) (by omega) hQ)))))
theorem p_X2_chosen_s {Q : Option Nat → Wd → Prop} {l2 : Int} (fl : Nat) (h : DrA G D a rf d) (hD : 9 < D) (hq : q < 5) (hl : 0 ≤ l2 ∧ l2 ≤ 10) (hk : 0 ≤ d.s (89 * q + 22) ∧ d.s (89 * q + 22) ≤ 3) (hQ : ∀ G', DrA G' D a rf (setS d (iup d.s (822 + d.s (89 * q + 22)) q)) → FrR D (D + 100) G G' → Q (some (rf q 0)) G') : f_X2_chosen_33 a Q (fl + 1) (some (rf q 0)) l2 G := by
  unfold f_X2_chosen_33 f_X2_chosen_33_b
  exact ⟨⟨⟨by omega, by omega⟩, ⟨by omega, by omega⟩⟩, fun _ => p_X2_chosen_80 h hD hq hk hQ, fun _ => brN_S (p_X2_chosen_80 h hD hq hk hQ)⟩
theorem p_X2_chosen_33 {Q : Option Nat → Wd → Prop} (h : DrA G D a rf d) (hD : 9 < D) (hw : WF d B) (hB : B ≤ 1000000000) {c : Nat} (ht : turn d.s c = some q) (hQ : ∀ G', DrA G' D a rf (setS d (choose1 d.s c q)) → FrR D (D + 100) G G' → Q (some (rf q 0)) G') : ∀ (m : Nat), m ≤ 3 → crN d.s m = some c → f_X2_chosen_33 a Q (m + 2) none (4 - (m : Int)) G := by
  intro m
  induction m with
  | zero => intro _ hc; cases hc
  | succ m ih =>
    intro hm hc
    unfold f_X2_chosen_33 f_X2_chosen_33_b
    have e6 : (4 : Int) - ((m + 1 : Nat) : Int) + 1 = 4 - (m : Int) := by omega
    have e7 : (4 : Int) - ((m + 1 : Nat) : Int) = 3 - (m : Int) := by omega
    refine br_F ⟨by omega, by omega⟩ ⟨by omega, by omega⟩ (by omega) (brN_N (gD_5 h (nn_of (xldC h (by omega) (by omega) ?_))))
    have hcr := hw.1.2.2.2.2.2.2.2.1 (818 + (3 - (m : Int))) (by omega) (by omega)
    unfold f_X2_chosen_74
    rw [e6, e7]
    unfold crN at hc
    by_cases c1 : d.s (818 + (3 - (m : Int))) = 0
    · rw [if_neg (fun z => by omega)] at hc
      exact br0_F (hw.r hB _) (by omega) (ih (by omega) hc)
    · refine br0_T (hw.r hB _) c1 ⟨cD h, p_X2_turn h hw hB (by omega) ?_⟩
      cases ht2 : turn d.s (3 - (m : Int)) with
      | none =>
        rw [ht2, if_neg (by simp)] at hc
        exact brN_N (ih (by omega) hc)
      | some p =>
        rw [ht2, if_pos ⟨by omega, rfl⟩] at hc
        injection hc with hc
        have ec : (3 : Int) - (m : Int) = (c : Int) := by omega
        rw [ec] at ht2 ⊢
        rw [ht] at ht2
        injection ht2 with ht2
        subst ht2
        obtain ⟨k1, k2⟩ := turnN_is ht
        obtain ⟨k3, k4, k5⟩ := isT_of k1
        refine brN_S (gD_5 h (nn_of (xldC h (by omega) (by omega) (xstC h hD (by omega) (by omega) (fun G1 g1 g2 => ?_)))))
        rw [show (4 : Int) - (m : Int) = (c : Int) + 1 by omega]
        have e22 : (setS d (iup d.s (818 + (c : Int)) (d.s (818 + (c : Int)) - 1))).s (89 * q + 22) = c := by
          show iup d.s (818 + (c : Int)) (d.s (818 + (c : Int)) - 1) (89 * q + 22) = c
          (simp (disch := omega) only [iup_at, iup_ne]; try rfl); exact k4
        refine p_X2_chosen_s (m + 1) g1 hD k2 (by omega) (by rw [e22]; omega) (fun G2 g3 g4 => ?_)
        rw [e22] at g3
        exact hQ G2 g3 (g2.trans g4)
theorem p_X2_chosen {Q : Option Nat → Wd → Prop} {s' : Rec} (h : DrA G D a rf d) (hD : 9 < D) (hw : WF d B) (hB : B ≤ 1000000000) (hB9 : 9 ≤ B) (hc : chosen d.s = (some q, s')) (hQ : ∀ G', DrA G' D a rf (setS d s') → FrR D (D + 100) G G' → Q (some (rf q 0)) G') : f_X2_chosen a G Q := by
  unfold f_X2_chosen f_X2_chosen_31
  refine ⟨cD h, p_X2_turn h hw hB (by omega) ?_⟩
  unfold chosen at hc
  cases h0 : turn d.s 0 with
  | some p =>
    rw [h0] at hc
    simp only [Prod.mk.injEq, Option.some.injEq] at hc
    obtain ⟨rfl, rfl⟩ := hc
    obtain ⟨k1, k2⟩ := turnN_is h0
    obtain ⟨k3, k4, k5⟩ := isT_of k1
    refine brN_S ⟨1, p_X2_chosen_s 0 h hD k2 (by omega) (by rw [k4]; omega) (fun G' g1 g2 => hQ G' ?_ g2)⟩
    rw [k4] at g1
    exact g1
  | none =>
    rw [h0] at hc
    refine brN_N ⟨cD h, p_X2_hasCredit h hw hB ?_⟩
    have main : ∀ G1, DrA G1 D a rf (setS d (refl1 d.s)) → FrR D (D + 100) G G1 → ∃ fl, f_X2_chosen_33 a Q fl none 1 G1 := by
      intro G1 g1 g2
      have hcs : ChS d.s (refl1 d.s) := ⟨fun i hi => refl1_lo (by omega), fun i i0 i1 => refl1_cr hw.1 i0 i1, fun i i0 i1 => by rw [refl1_lo (by omega)]; exact hw.1.2.2.2.2.2.2.2.2.1 i i0 i1⟩
      have hw1 := hw.chose hB9 hcs
      cases hcn : crN (refl1 d.s) 3 with
      | none => rw [hcn] at hc; simp at hc
      | some c =>
        rw [hcn] at hc
        cases ht : turn (refl1 d.s) c with
        | none => simp only [ht] at hc; simp at hc
        | some p =>
          simp only [ht, Prod.mk.injEq, Option.some.injEq] at hc
          obtain ⟨rfl, rfl⟩ := hc
          exact ⟨5, p_X2_chosen_33 g1 hD hw1 hB (c := c) ht (fun G2 g3 g4 => hQ G2 g3 (g2.trans g4)) 3 (by omega) hcn⟩
    cases hcr : (crN d.s 3).isSome with
    | true =>
      refine brB_T (main G ?_ FrR.refl)
      have : refl1 d.s = d.s := by unfold refl1; rw [if_pos hcr]
      rw [this]; exact h
    | false =>
      refine brB_F (gD_4 h (gD_5 h (nn_of (nn_of ?_))))
      have h0 := h
      obtain ⟨-, -, -, -, -, ⟨f, k1, k2⟩, ⟨g, k3, k4⟩, -⟩ := h
      refine ⟨D + 7, 4, f, D + 8, 4, g, ⟨by omega, by omega⟩, k1, k3, ⟨⟨by omega, by omega, by omega⟩, ⟨by omega, by omega⟩, by omega, by omega, by omega⟩, main _ ?_ ?_⟩
      · refine h0.arr hD (j := 8) (b := 818) (n := 4) (by decide) (FrR.ws (by omega) (by omega) (by omega)) ⟨_, wset_at, fun i i0 i1 => ?_⟩ (fun i hi => refl1_lo (by omega))
        unfold icp
        rw [if_pos ⟨by omega, by omega⟩]
        unfold refl1
        rw [hcr, if_neg (by simp)]
        unfold refill
        rw [if_pos ⟨by omega, by omega⟩, k2 _ (by omega) (by omega)]
        congr 1
        omega
      · exact (FrR.ws (by omega) (by omega) (by omega)).wide (lo := D + 8) (hi := D + 9) (by omega) (by omega)
theorem p_X2_nextOf {Q : Option Nat → Wd → Prop} {c : Rec} {cs : List Rec} (h : DrA G D a rf d) (hD : 9 < D) (hq : q < 5) (hk : 0 ≤ d.s (89 * q + 22) ∧ d.s (89 * q + 22) ≤ 3) (hc : d.ring q = c :: cs) (hQ : ∀ x G', CmdAt (G' 1) q x c → DrA G' D a rf (nextD d q) → FrR D (D + 100) G G' → Q (some x) G') : f_X2_nextOf a (some (rf q 0)) G Q := by
  unfold f_X2_nextOf
  refine nn_of (gL_10 h hq (pL_10 h hq hD (fun G1 g1 f1 => gD_13 g1 (pD_13 g1 hD (fun G2 g2 f2 => gD_7 g2 (gL_6 g2 hq (nn_of ?_)))))))
  simp (disch := omega) only [setS, setRun, setOut, outD, s_mk, ring_mk, posts_mk, us_mk, run_mk, out_mk, ring_2, posts_2, us_2, run_2, out_2, iup_at, iup_ne, nup_at, nup_ne] at g2 ⊢
  refine xldS g2 (by omega) (by omega) (xstS g2 hD (by omega) (by omega) (fun G3 g3 f3 => gL_1 g3 hq (nn_of ⟨cRing g3 hq, x_ringPoll g3 hD hq hc (fun x G4 x4 g4 f4 => ?_)⟩)))
  refine cst_of rfl x4 (by decide) (hQ x G4 x4 ?_ (f1.trans (f2.trans (f3.trans f4))))
  unfold nextD nextS
  rw [hc]
  simp (disch := omega) only [setS, setRun, setOut, outD, s_mk, ring_mk, posts_mk, us_mk, run_mk, out_mk, ring_2, posts_2, us_2, run_2, out_2, iup_at, iup_ne, nup_at, nup_ne] at g4
  exact g4
end
