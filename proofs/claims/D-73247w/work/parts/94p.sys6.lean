/-! PURE PROOFS: works go on, are finished -/
set_option maxRecDepth 100000
section
variable {G : Wd} {D a q : Nat} {rf : Nat → Nat → Nat} {d : DS} {B : Int}
theorem p_X10_init {a x : Nat} {v0 v1 v2 v3 : Value} {lq id c2 c3 c4 st rs : Int} {c5 : Bool} {Q : Wd → Prop} (h : G 1 a = some (oB 9 [v0, v1, v2, v3])) (hx : G 1 x = some (oB 7 [vI lq, vI id, vI c2, vI c3, vI c4, vB c5])) (hQ : Q (wset G 1 a (oB 9 [vI lq, vI id, vI st, vI rs]))) : f_X10_init a (some x) st rs G Q := by
  have hne : x ≠ a := by
    rintro rfl
    rw [h] at hx
    injection hx with hx; injection hx with hx; injection hx with hx; injection hx with hx; injection hx with hx hx2
    cases hx
  unfold f_X10_init
  (repeat first | ((with_reducible apply gI_of); (focus ((repeat first | exact wset_at | assumption | apply wset_skip | (left; decide) | (left; omega) | (right; assumption) | (right; apply Ne.symm; assumption) | (right; exact fr_ne (by assumption) (by assumption)) | (right; exact (fr_ne (by assumption) (by assumption)).symm)))); (focus (decide)); (focus (rfl))) | ((with_reducible apply gR_of); (focus ((repeat first | exact wset_at | assumption | apply wset_skip | (left; decide) | (left; omega) | (right; assumption) | (right; apply Ne.symm; assumption) | (right; exact fr_ne (by assumption) (by assumption)) | (right; exact (fr_ne (by assumption) (by assumption)).symm)))); (focus (decide)); (focus (rfl))) | ((with_reducible apply gZ_of); (focus ((repeat first | exact wset_at | assumption | apply wset_skip | (left; decide) | (left; omega) | (right; assumption) | (right; apply Ne.symm; assumption) | (right; exact fr_ne (by assumption) (by assumption)) | (right; exact (fr_ne (by assumption) (by assumption)).symm)))); (focus (decide)); (focus (rfl))) | ((with_reducible apply pF_of); (focus ((repeat first | exact wset_at | assumption | apply wset_skip | (left; decide) | (left; omega) | (right; assumption) | (right; apply Ne.symm; assumption) | (right; exact fr_ne (by assumption) (by assumption)) | (right; exact (fr_ne (by assumption) (by assumption)).symm)))); (focus (first | assumption | decide | omega)); (focus (decide)); (focus ((exact Nat.le_of_ble_eq_true rfl))); simp only [List.set_cons_zero, List.set_cons_succ, wset_wset]) | ((with_reducible apply nn_of)) | ((with_reducible apply isC_and); (focus ((repeat first | exact wset_at | assumption | apply wset_skip | (left; decide) | (left; omega) | (right; assumption) | (right; apply Ne.symm; assumption) | (right; exact fr_ne (by assumption) (by assumption)) | (right; exact (fr_ne (by assumption) (by assumption)).symm))))) | ((with_reducible apply brB_T)) | ((with_reducible apply brB_F)) | ((with_reducible apply brN_N)) | ((with_reducible apply brN_S)) | ((with_reducible apply lnR_of); (focus ((repeat first | exact wset_at | assumption | apply wset_skip | (left; decide) | (left; omega) | (right; assumption) | (right; apply Ne.symm; assumption) | (right; exact fr_ne (by assumption) (by assumption)) | (right; exact (fr_ne (by assumption) (by assumption)).symm))))) | ((with_reducible apply lnI_of); (focus ((repeat first | exact wset_at | assumption | apply wset_skip | (left; decide) | (left; omega) | (right; assumption) | (right; apply Ne.symm; assumption) | (right; exact fr_ne (by assumption) (by assumption)) | (right; exact (fr_ne (by assumption) (by assumption)).symm))))) | ((with_reducible apply lnJ_of); (focus ((repeat first | exact wset_at | assumption | apply wset_skip | (left; decide) | (left; omega) | (right; assumption) | (right; apply Ne.symm; assumption) | (right; exact fr_ne (by assumption) (by assumption)) | (right; exact (fr_ne (by assumption) (by assumption)).symm))))) | ((with_reducible apply ldR_of); (focus ((repeat first | exact wset_at | assumption | apply wset_skip | (left; decide) | (left; omega) | (right; assumption) | (right; apply Ne.symm; assumption) | (right; exact fr_ne (by assumption) (by assumption)) | (right; exact (fr_ne (by assumption) (by assumption)).symm)))); (focus ((first | assumption | (refine ⟨?_, ?_, ?_⟩ <;> omega))))) | ((with_reducible apply ldI_of); (focus ((repeat first | exact wset_at | assumption | apply wset_skip | (left; decide) | (left; omega) | (right; assumption) | (right; apply Ne.symm; assumption) | (right; exact fr_ne (by assumption) (by assumption)) | (right; exact (fr_ne (by assumption) (by assumption)).symm)))); (focus ((first | assumption | (refine ⟨?_, ?_, ?_⟩ <;> omega))))) | ((with_reducible apply ldJ_of); (focus ((repeat first | exact wset_at | assumption | apply wset_skip | (left; decide) | (left; omega) | (right; assumption) | (right; apply Ne.symm; assumption) | (right; exact fr_ne (by assumption) (by assumption)) | (right; exact (fr_ne (by assumption) (by assumption)).symm)))); (focus ((first | assumption | (refine ⟨?_, ?_, ?_⟩ <;> omega))))))
  exact hQ
theorem p_X9_init {a : Nat} {v0 v1 v2 : Value} {y z : Option Nat} {l : Int} {Q : Wd → Prop} (h : G 1 a = some (oB 8 [v0, v1, v2])) (hQ : Q (wset G 1 a (oB 8 [vR y, vR z, vI l]))) : f_X9_init a y z l G Q := by
  unfold f_X9_init
  (repeat first | ((with_reducible apply gI_of); (focus ((repeat first | exact wset_at | assumption | apply wset_skip | (left; decide) | (left; omega) | (right; assumption) | (right; apply Ne.symm; assumption) | (right; exact fr_ne (by assumption) (by assumption)) | (right; exact (fr_ne (by assumption) (by assumption)).symm)))); (focus (decide)); (focus (rfl))) | ((with_reducible apply gR_of); (focus ((repeat first | exact wset_at | assumption | apply wset_skip | (left; decide) | (left; omega) | (right; assumption) | (right; apply Ne.symm; assumption) | (right; exact fr_ne (by assumption) (by assumption)) | (right; exact (fr_ne (by assumption) (by assumption)).symm)))); (focus (decide)); (focus (rfl))) | ((with_reducible apply gZ_of); (focus ((repeat first | exact wset_at | assumption | apply wset_skip | (left; decide) | (left; omega) | (right; assumption) | (right; apply Ne.symm; assumption) | (right; exact fr_ne (by assumption) (by assumption)) | (right; exact (fr_ne (by assumption) (by assumption)).symm)))); (focus (decide)); (focus (rfl))) | ((with_reducible apply pF_of); (focus ((repeat first | exact wset_at | assumption | apply wset_skip | (left; decide) | (left; omega) | (right; assumption) | (right; apply Ne.symm; assumption) | (right; exact fr_ne (by assumption) (by assumption)) | (right; exact (fr_ne (by assumption) (by assumption)).symm)))); (focus (first | assumption | decide | omega)); (focus (decide)); (focus ((exact Nat.le_of_ble_eq_true rfl))); simp only [List.set_cons_zero, List.set_cons_succ, wset_wset]) | ((with_reducible apply nn_of)) | ((with_reducible apply isC_and); (focus ((repeat first | exact wset_at | assumption | apply wset_skip | (left; decide) | (left; omega) | (right; assumption) | (right; apply Ne.symm; assumption) | (right; exact fr_ne (by assumption) (by assumption)) | (right; exact (fr_ne (by assumption) (by assumption)).symm))))) | ((with_reducible apply brB_T)) | ((with_reducible apply brB_F)) | ((with_reducible apply brN_N)) | ((with_reducible apply brN_S)) | ((with_reducible apply lnR_of); (focus ((repeat first | exact wset_at | assumption | apply wset_skip | (left; decide) | (left; omega) | (right; assumption) | (right; apply Ne.symm; assumption) | (right; exact fr_ne (by assumption) (by assumption)) | (right; exact (fr_ne (by assumption) (by assumption)).symm))))) | ((with_reducible apply lnI_of); (focus ((repeat first | exact wset_at | assumption | apply wset_skip | (left; decide) | (left; omega) | (right; assumption) | (right; apply Ne.symm; assumption) | (right; exact fr_ne (by assumption) (by assumption)) | (right; exact (fr_ne (by assumption) (by assumption)).symm))))) | ((with_reducible apply lnJ_of); (focus ((repeat first | exact wset_at | assumption | apply wset_skip | (left; decide) | (left; omega) | (right; assumption) | (right; apply Ne.symm; assumption) | (right; exact fr_ne (by assumption) (by assumption)) | (right; exact (fr_ne (by assumption) (by assumption)).symm))))) | ((with_reducible apply ldR_of); (focus ((repeat first | exact wset_at | assumption | apply wset_skip | (left; decide) | (left; omega) | (right; assumption) | (right; apply Ne.symm; assumption) | (right; exact fr_ne (by assumption) (by assumption)) | (right; exact (fr_ne (by assumption) (by assumption)).symm)))); (focus ((first | assumption | (refine ⟨?_, ?_, ?_⟩ <;> omega))))) | ((with_reducible apply ldI_of); (focus ((repeat first | exact wset_at | assumption | apply wset_skip | (left; decide) | (left; omega) | (right; assumption) | (right; apply Ne.symm; assumption) | (right; exact fr_ne (by assumption) (by assumption)) | (right; exact (fr_ne (by assumption) (by assumption)).symm)))); (focus ((first | assumption | (refine ⟨?_, ?_, ?_⟩ <;> omega))))) | ((with_reducible apply ldJ_of); (focus ((repeat first | exact wset_at | assumption | apply wset_skip | (left; decide) | (left; omega) | (right; assumption) | (right; apply Ne.symm; assumption) | (right; exact fr_ne (by assumption) (by assumption)) | (right; exact (fr_ne (by assumption) (by assumption)).symm)))); (focus ((first | assumption | (refine ⟨?_, ?_, ?_⟩ <;> omega))))))
  exact hQ
theorem p_X11_init {a : Nat} {v0 v1 v2 : Value} {y : Option Nat} {l m : Int} {Q : Wd → Prop} (h : G 1 a = some (oB 10 [v0, v1, v2])) (hQ : Q (wset G 1 a (oB 10 [vR y, vI l, vI m]))) : f_X11_init a y l m G Q := by
  unfold f_X11_init
  (repeat first | ((with_reducible apply gI_of); (focus ((repeat first | exact wset_at | assumption | apply wset_skip | (left; decide) | (left; omega) | (right; assumption) | (right; apply Ne.symm; assumption) | (right; exact fr_ne (by assumption) (by assumption)) | (right; exact (fr_ne (by assumption) (by assumption)).symm)))); (focus (decide)); (focus (rfl))) | ((with_reducible apply gR_of); (focus ((repeat first | exact wset_at | assumption | apply wset_skip | (left; decide) | (left; omega) | (right; assumption) | (right; apply Ne.symm; assumption) | (right; exact fr_ne (by assumption) (by assumption)) | (right; exact (fr_ne (by assumption) (by assumption)).symm)))); (focus (decide)); (focus (rfl))) | ((with_reducible apply gZ_of); (focus ((repeat first | exact wset_at | assumption | apply wset_skip | (left; decide) | (left; omega) | (right; assumption) | (right; apply Ne.symm; assumption) | (right; exact fr_ne (by assumption) (by assumption)) | (right; exact (fr_ne (by assumption) (by assumption)).symm)))); (focus (decide)); (focus (rfl))) | ((with_reducible apply pF_of); (focus ((repeat first | exact wset_at | assumption | apply wset_skip | (left; decide) | (left; omega) | (right; assumption) | (right; apply Ne.symm; assumption) | (right; exact fr_ne (by assumption) (by assumption)) | (right; exact (fr_ne (by assumption) (by assumption)).symm)))); (focus (first | assumption | decide | omega)); (focus (decide)); (focus ((exact Nat.le_of_ble_eq_true rfl))); simp only [List.set_cons_zero, List.set_cons_succ, wset_wset]) | ((with_reducible apply nn_of)) | ((with_reducible apply isC_and); (focus ((repeat first | exact wset_at | assumption | apply wset_skip | (left; decide) | (left; omega) | (right; assumption) | (right; apply Ne.symm; assumption) | (right; exact fr_ne (by assumption) (by assumption)) | (right; exact (fr_ne (by assumption) (by assumption)).symm))))) | ((with_reducible apply brB_T)) | ((with_reducible apply brB_F)) | ((with_reducible apply brN_N)) | ((with_reducible apply brN_S)) | ((with_reducible apply lnR_of); (focus ((repeat first | exact wset_at | assumption | apply wset_skip | (left; decide) | (left; omega) | (right; assumption) | (right; apply Ne.symm; assumption) | (right; exact fr_ne (by assumption) (by assumption)) | (right; exact (fr_ne (by assumption) (by assumption)).symm))))) | ((with_reducible apply lnI_of); (focus ((repeat first | exact wset_at | assumption | apply wset_skip | (left; decide) | (left; omega) | (right; assumption) | (right; apply Ne.symm; assumption) | (right; exact fr_ne (by assumption) (by assumption)) | (right; exact (fr_ne (by assumption) (by assumption)).symm))))) | ((with_reducible apply lnJ_of); (focus ((repeat first | exact wset_at | assumption | apply wset_skip | (left; decide) | (left; omega) | (right; assumption) | (right; apply Ne.symm; assumption) | (right; exact fr_ne (by assumption) (by assumption)) | (right; exact (fr_ne (by assumption) (by assumption)).symm))))) | ((with_reducible apply ldR_of); (focus ((repeat first | exact wset_at | assumption | apply wset_skip | (left; decide) | (left; omega) | (right; assumption) | (right; apply Ne.symm; assumption) | (right; exact fr_ne (by assumption) (by assumption)) | (right; exact (fr_ne (by assumption) (by assumption)).symm)))); (focus ((first | assumption | (refine ⟨?_, ?_, ?_⟩ <;> omega))))) | ((with_reducible apply ldI_of); (focus ((repeat first | exact wset_at | assumption | apply wset_skip | (left; decide) | (left; omega) | (right; assumption) | (right; apply Ne.symm; assumption) | (right; exact fr_ne (by assumption) (by assumption)) | (right; exact (fr_ne (by assumption) (by assumption)).symm)))); (focus ((first | assumption | (refine ⟨?_, ?_, ?_⟩ <;> omega))))) | ((with_reducible apply ldJ_of); (focus ((repeat first | exact wset_at | assumption | apply wset_skip | (left; decide) | (left; omega) | (right; assumption) | (right; apply Ne.symm; assumption) | (right; exact fr_ne (by assumption) (by assumption)) | (right; exact (fr_ne (by assumption) (by assumption)).symm)))); (focus ((first | assumption | (refine ⟨?_, ?_, ?_⟩ <;> omega))))))
  exact hQ
theorem mkWord {k n x : Nat} {lq id c2 c3 c4 st rs : Int} {c5 : Bool} {K : Nat → Wd → Prop} (hx : G 1 x = some (oB 7 [vI lq, vI id, vI c2, vI c3, vI c4, vB c5])) (hk : 1 ≤ k) (hn : 4 ≤ n) (hK : ∀ a, fr G a → K a (wset G 1 a (oB 9 [vI lq, vI id, vI st, vI rs]))) : nO G k n 9 4 zX10 (fun a G' => f_X10_init a (some x) st rs G' (K a)) := by
  refine nO_of 1 hk hn (by decide) (fun a ha => ?_)
  refine p_X10_init wset_at (by rw [wset_ne (fr_ne ha hx)]; exact hx) ?_
  rw [wset_wset]
  exact hK a ha
/-- a new word goes into the outbox -/
theorem x_newOut {Q : Wd → Prop} {k n x : Nat} {lq id c2 c3 c4 st rs : Int} {c5 : Bool} (h : DrA G D a rf d) (hD : 9 < D) (hx : G 1 x = some (oB 7 [vI lq, vI id, vI c2, vI c3, vI c4, vB c5])) (hl : d.out.length < 900000) (hk : 2 ≤ k) (hn : 7 ≤ n) (hQ : ∀ G', DrA G' D a rf (outD d (rec4 lq id st rs)) → FrR D (D + 100) G G' → Q G') :
    nO G k n 9 4 zX10 (fun a64 G65 => f_X10_init a64 (some x) st rs G65 (fun G66 => nn (some (rf 9 2)) (fun a67 => (∃ k69 n70, (k69 ≤ (k - 1) ∧ n70 ≤ (n - 4)) ∧ (isC G66 a67 12 ∧ f_J3_addLast k69 n70 a67 (some a64) G66 (fun G68 => Q G68)))))) := by
  refine mkWord (K := fun a64 G66 => nn (some (rf 9 2)) (fun a67 => (∃ k69 n70, (k69 ≤ (k - 1) ∧ n70 ≤ (n - 4)) ∧ (isC G66 a67 12 ∧ f_J3_addLast k69 n70 a67 (some a64) G66 (fun G68 => Q G68))))) hx (by omega) (by omega) (fun y hy => ?_)
  have h1 : DrA (wset G 1 y (oB 9 [vI lq, vI id, vI st, vI rs])) D a rf d := h.new hy hD
  refine nn_of ⟨1, 3, ⟨by omega, by omega⟩, cOut h1, x_outAdd (w := rec4 lq id st rs) h1 hD hl wset_at (by omega) (by omega) (fun G1 g1 f1 => hQ G1 g1 ((FrR.new hy).trans f1))⟩
theorem p_X2_finish_91 {Q : Wd → Prop} {k n x y : Nat} {w0 w1 c2 c3 c4 rs : Int} {c5 : Bool} {v0 v1 v2 v3 : Value} {G0 : Wd} (h : DrA G D a rf d) (hD : 9 < D) (hy : fr G0 y) (hf : FrR D (D + 100) G0 G) (hy1 : G = wset G0 1 y (oB 9 [v0, v1, v2, v3])) (h0 : DrA G0 D a rf d) (hx : G0 1 x = some (oB 7 [vI w0, vI w1, vI c2, vI c3, vI c4, vB c5])) (hl : d.out.length < 900000) (hk : 1 ≤ k) (hn : 3 ≤ n)
    (hQ : ∀ G', DrA G' D a rf (outD d (rec4 w0 w1 0 rs)) → FrR D (D + 100) G0 G' → Q G') : f_X2_finish_91 a k n (some (rf 9 2)) (some y) (some y) (some x) false rs G Q := by
  unfold f_X2_finish_91
  refine nn_of (p_X10_init (by rw [hy1]; exact wset_at) (by rw [hy1, wset_ne (fr_ne hy hx)]; exact hx) ?_)
  rw [hy1, wset_wset]
  have h1 : DrA (wset G0 1 y (oB 9 [vI w0, vI w1, vI (b2i false), vI rs])) D a rf d := h0.new hy hD
  exact nn_of ⟨1, 3, ⟨by omega, by omega⟩, cOut h1, x_outAdd (w := rec4 w0 w1 0 rs) h1 hD hl wset_at (by omega) (by omega) (fun G1 g1 f1 => hQ G1 g1 ((FrR.new hy).trans f1))⟩
theorem p_X2_finish_54 {Q : Wd → Prop} {k n x : Nat} {w0 w1 c2 c3 c4 now : Int} {c5 : Bool} (h : DrA G D a rf d) (hD : 9 < D) (hx : G 1 x = some (oB 7 [vI w0, vI w1, vI c2, vI c3, vI c4, vB c5])) (h2 : 0 ≤ c2 ∧ c2 ≤ 4) (hl : d.out.length < 900000) (hk : 2 ≤ k) (hn : 7 ≤ n)
    (hQ : ∀ G', DrA G' D a rf (outD d (rec4 w0 w1 0 (if c2 = 0 then now else if c2 = 1 then c4 else 0))) → FrR D (D + 100) G G' → Q G') : f_X2_finish_54 a k n (some x) now G Q := by
  unfold f_X2_finish_54
  refine gD_2 h (nO_of 1 (by omega) (by omega) (by decide) (fun y hy => nn_of ?_))
  have hx1 : wset G 1 y (oB 9 zX10) 1 x = some (oB 7 [vI w0, vI w1, vI c2, vI c3, vI c4, vB c5]) := by rw [wset_ne (fr_ne hy hx)]; exact hx
  have h1 : DrA (wset G 1 y (oB 9 zX10)) D a rf d := h.new hy hD
  refine gI_of hx1 (by decide) rfl ⟨⟨by omega, by omega⟩, fun c0 => ?_, fun c0 => ?_⟩
  · refine gI_of hx1 (by decide) rfl ⟨⟨⟨by omega, by omega⟩, ⟨by omega, by omega⟩⟩, fun c1 => ?_, fun c1 => ?_⟩
    · rw [if_neg c0, if_neg c1] at hQ
      exact p_X2_finish_91 h1 hD hy (FrR.new hy) rfl h hx hl (by omega) (by omega) hQ
    · refine gI_of hx1 (by decide) rfl ?_
      rw [if_neg c0, if_pos (by omega)] at hQ
      exact p_X2_finish_91 h1 hD hy (FrR.new hy) rfl h hx hl (by omega) (by omega) hQ
  · rw [if_pos (by omega)] at hQ
    exact p_X2_finish_91 h1 hD hy (FrR.new hy) rfl h hx hl (by omega) (by omega) hQ
theorem p_X2_finishPair_33 {Q : Wd → Prop} {k n x z : Nat} {w0 w1 c2 c3 c4 w6 o2 o3 o4 now : Int} {c5 o5 b : Bool} (h : DrA G D a rf d) (hD : 9 < D) (hx : G 1 x = some (oB 7 [vI w0, vI w1, vI c2, vI c3, vI c4, vB c5])) (hz : G 1 z = some (oB 7 [vI w0, vI w6, vI o2, vI o3, vI o4, vB o5])) (hl : d.out.length < 800000) (hk : 4 ≤ k) (hn : 14 ≤ n)
    (hQ : ∀ G', DrA G' D a rf (outD (outD d (rec4 w0 w1 (if b = true then 0 else 2) now)) (rec4 w0 w6 (if b = true then 0 else 3) (if b = true then o4 else 0))) → FrR D (D + 100) G G' → Q G') : f_X2_finishPair_33 a k n (some x) (some z) now b G Q := by
  -- the second word
  have sec : ∀ (G1 : Wd) (e : DS) (k' n' : Nat) (st rs : Int), DrA G1 D a rf e → FrR D (D + 100) G G1 → e.out.length < 900000 → 2 ≤ k' → 7 ≤ n' → (∀ G', DrA G' D a rf (outD e (rec4 w0 w6 st rs)) → FrR D (D + 100) G G' → Q G') →
      nO G1 k' n' 9 4 zX10 (fun a50 G51 => f_X2_finishPair_91 a (k' - 1) (n' - 4) (some (rf 9 2)) (some a50) (some a50) (some z) st rs G51 Q) := by
    intro G1 e k' n' st rs g1 f1 el hk' hn' hQ'
    have hz1 := f1.2.1 _ _ hz
    refine nO_of 1 (by omega) (by omega) (by decide) (fun y hy => ?_)
    unfold f_X2_finishPair_91
    refine nn_of (p_X10_init wset_at (by rw [wset_ne (fr_ne hy hz1)]; exact hz1) ?_)
    rw [wset_wset]
    have h1 : DrA (wset G1 1 y (oB 9 [vI w0, vI w6, vI st, vI rs])) D a rf e := g1.new hy hD
    exact nn_of ⟨1, 3, ⟨by omega, by omega⟩, cOut h1, x_outAdd (w := rec4 w0 w6 st rs) h1 hD el wset_at (by omega) (by omega) (fun G2 g2 f2 => hQ' G2 g2 (f1.trans ((FrR.new hy).trans f2)))⟩
  unfold f_X2_finishPair_33
  refine gD_2 h (nO_of 1 (by omega) (by omega) (by decide) (fun y hy => ?_))
  have fst : ∀ st : Int, (∀ G1, DrA G1 D a rf (outD d (rec4 w0 w1 st now)) → FrR D (D + 100) G G1 → gR G1 a [1] 2 (fun x49 => nO G1 (k - 1 - 1) (n - 4 - 3) 9 4 zX10 (fun a50 G51 => brB b (f_X2_finishPair_78 a ((k - 1 - 1) - 1) ((n - 4 - 3) - 4) (some z) b x49 (some a50) (some a50) (some z) 0 G51 Q) (f_X2_finishPair_78 a ((k - 1 - 1) - 1) ((n - 4 - 3) - 4) (some z) b x49 (some a50) (some a50) (some z) 3 G51 Q)))) →
      f_X2_finishPair_52 a (k - 1) (n - 4) (some z) now b (some (rf 9 2)) (some y) (some y) (some x) st (wset G 1 y (oB 9 zX10)) Q := by
    intro st hst
    unfold f_X2_finishPair_52
    refine nn_of (p_X10_init wset_at (by rw [wset_ne (fr_ne hy hx)]; exact hx) ?_)
    rw [wset_wset]
    have h1 : DrA (wset G 1 y (oB 9 [vI w0, vI w1, vI st, vI now])) D a rf d := h.new hy hD
    exact nn_of ⟨1, 3, ⟨by omega, by omega⟩, cOut h1, x_outAdd (w := rec4 w0 w1 st now) h1 hD (by omega) wset_at (by omega) (by omega) (fun G1 g1 f1 => hst G1 g1 ((FrR.new hy).trans f1))⟩
  cases b with
  | true =>
    refine brB_T (fst 0 (fun G1 g1 f1 => gD_2 g1 ?_))
    have k1 := sec G1 _ (k - 1 - 1) (n - 4 - 3) 0 o4 g1 f1 (by show (d.out ++ [_]).length < _; rw [List.length_append, List.length_singleton]; omega) (by omega) (by omega) (by simpa using hQ)
    refine ⟨k1.1, fun y' hy' => ?_⟩
    obtain ⟨r, r1, r2⟩ := k1.2 y' hy'
    have hz2 := f1.2.1 _ _ hz
    refine ⟨r, r1, brB_T ?_⟩
    unfold f_X2_finishPair_78
    refine brB_T (nn_of (gI_of (r := 1) (show wset G1 r y' (oB 9 zX10) 1 z = _ from wset_skip hz2 (Or.inr (fr_ne hy' hz2))) (by decide) rfl r2))
  | false =>
    refine brB_F (fst 2 (fun G1 g1 f1 => gD_2 g1 ?_))
    have k1 := sec G1 _ (k - 1 - 1) (n - 4 - 3) 3 0 g1 f1 (by show (d.out ++ [_]).length < _; rw [List.length_append, List.length_singleton]; omega) (by omega) (by omega) (by simpa using hQ)
    refine ⟨k1.1, fun y' hy' => ?_⟩
    obtain ⟨r, r1, r2⟩ := k1.2 y' hy'
    refine ⟨r, r1, brB_F ?_⟩
    unfold f_X2_finishPair_78
    exact brB_F r2
theorem p_X2_finish {Q : Wd → Prop} {k n x : Nat} {w : Rec} {m B : Int} (h : DrA G D a rf d) (hD : 9 < D) (hx : WorkAt (G 1) x w) (hb : ∀ i, 828 ≤ i → i < 838 → 0 ≤ d.s i ∧ d.s i ≤ 99) (h3 : 0 ≤ w 3 ∧ w 3 ≤ 9) (h4 : 0 ≤ w 4 ∧ w 4 ≤ 99) (h7 : ((w 7 = -1 ∧ (w 2 = 0 ∨ w 2 = 1 ∨ w 2 = 4)) ∨ (w 7 = 3 ∧ w 2 = 2 ∧ (0 ≤ w 6 ∧ w 6 < 16) ∧ (0 ≤ w 8 ∧ w 8 ≤ 9) ∧ (0 ≤ w 9 ∧ w 9 ≤ 99) ∧ w 10 = 0)))
    (hl : d.out.length < 800000) (hk : 4 ≤ k) (hn : 14 ≤ n) (hQ : ∀ G', DrA G' D a rf (finD d w) → FrR D (D + 100) G G' → Q G') : f_X2_finish k n a (some x) G Q := by
  obtain ⟨y, z, x1, x2, x3⟩ := hx
  unfold f_X2_finish
  have hb3 := hb (828 + w 3) (by omega) (by omega)
  refine nn_of (gR_of x1 (by decide) rfl (gD_3 h (nn_of (gI_of x2 (by decide) rfl (nn_of (xldB h (by omega) (by omega) (gR_of x1 (by decide) rfl ?_)))))))
  rcases x3 with ⟨n7, rfl⟩ | ⟨n7, b, rfl, x4⟩
  · have h72 : w 7 = -1 ∧ (w 2 = 0 ∨ w 2 = 1 ∨ w 2 = 4) := by
      rcases h7 with h7 | h7
      · exact h7
      · omega
    have e : finD d w = fin1 d w := by unfold finD; rw [if_pos n7]
    rw [e] at hQ
    unfold fin1 at hQ
    refine brN_N (gI_of x2 (by decide) rfl ⟨⟨⟨by omega, by omega⟩, ⟨by omega, by omega⟩⟩, fun c1 => ?_, fun c1 => ?_⟩)
    · rw [if_neg c1] at hQ
      exact p_X2_finish_54 h hD x2 (by omega) (by omega) (by omega) (by omega) hQ
    · have c1 : w 2 = 1 := by omega
      rw [if_pos c1] at hQ
      refine gD_3 h (gI_of x2 (by decide) rfl (gI_of x2 (by decide) rfl (nn_of (xstB h hD (by omega) (by omega) (fun G1 g1 f1 => ?_)))))
      refine p_X2_finish_54 g1 hD (f1.2.1 _ _ x2) (by omega) (by show d.out.length < _; omega) (by omega) (by omega) (fun G2 g2 f2 => hQ G2 g2 (f1.trans f2))
  · have h72 : w 7 = 3 ∧ w 2 = 2 ∧ (0 ≤ w 6 ∧ w 6 < 16) ∧ (0 ≤ w 8 ∧ w 8 ≤ 9) ∧ (0 ≤ w 9 ∧ w 9 ≤ 99) ∧ w 10 = 0 := by
      rcases h7 with h7 | h7
      · omega
      · exact h7
    have e : finD d w = fin2 d w := by unfold finD; rw [if_neg (by omega)]
    rw [e] at hQ
    unfold fin2 at hQ
    refine brN_S (gR_of x1 (by decide) rfl ⟨k, n, ⟨Nat.le_refl _, Nat.le_refl _⟩, cD h, ?_⟩)
    unfold f_X2_finishPair f_X2_finishPair_13
    refine nn_of (gI_of x2 (by decide) rfl ⟨⟨⟨by omega, by omega⟩, ⟨by omega, by omega⟩⟩, fun c1 => ?_, fun c1 => ?_⟩)
    · rw [if_neg c1, if_neg c1, if_neg c1, if_neg c1] at hQ
      exact brB_F (p_X2_finishPair_33 (b := false) h hD x2 x4 hl hk hn hQ)
    · have c1 : d.s (828 + w 3) = w 4 := Decidable.of_not_not c1
      rw [if_pos c1, if_pos c1, if_pos c1, if_pos c1] at hQ
      refine brB_T (gD_3 h (nn_of (gI_of x4 (by decide) rfl (gI_of x4 (by decide) rfl (nn_of (xstB h hD (by omega) (by omega) (fun G1 g1 f1 => ?_)))))))
      exact p_X2_finishPair_33 (b := true) g1 hD (f1.2.1 _ _ x2) (f1.2.1 _ _ x4) (by show d.out.length < _; omega) hk hn (fun G2 g2 f2 => hQ G2 g2 (f1.trans f2))
theorem mkShorter {k n x : Nat} {w : Rec} {Q : Option Nat → Wd → Prop} (hx : WorkAt (G 1) x w) (hk : 1 ≤ k) (hn : 3 ≤ n) (hQ : ∀ y G', fr G y → (∃ e, G' = wset G 1 y e) → WorkAt (G' 1) y (dec w) → Q (some y) G') : f_X9_shorter k n x G Q := by
  obtain ⟨y, z, x1, x2, x3⟩ := hx
  unfold f_X9_shorter
  refine nO_of 1 hk hn (by decide) (fun b hb => ?_)
  have x1' : wset G 1 b (oB 8 zX9) 1 x = some (oB 8 [vR (some y), vR z, vI (w 11)]) := by rw [wset_ne (fr_ne hb x1)]; exact x1
  refine gR_of x1' (by decide) rfl (gR_of x1' (by decide) rfl (gI_of x1' (by decide) rfl (p_X9_init wset_at ?_)))
  rw [wset_wset]
  refine hQ b _ hb ⟨_, rfl⟩ ⟨y, z, ?_, ?_, ?_⟩
  · rw [wset_at, dec_at]
  · rw [wset_ne (fr_ne hb x2), dec_ne (by decide), dec_ne (by decide), dec_ne (by decide), dec_ne (by decide), dec_ne (by decide), dec_ne (by decide)]; exact x2
  · rw [dec_ne (i := 7) (by decide)]
    rcases x3 with x3 | ⟨n7, b', e', x4⟩
    · exact Or.inl x3
    · refine Or.inr ⟨n7, b', e', ?_⟩
      rw [wset_ne (fr_ne hb x4), dec_ne (by decide), dec_ne (by decide), dec_ne (by decide), dec_ne (by decide), dec_ne (by decide)]; exact x4
theorem finD_run {e : DS} {w : Rec} {l : List Rec} : finD (setRun e l) w = setRun (finD e w) l := by
  unfold finD
  split
  · rfl
  · rfl
theorem fin_run {e : DS} {w : Rec} : (finD e w).run = e.run := by
  unfold finD
  split
  · rfl
  · rfl
theorem fin_out {e : DS} {w : Rec} : (finD e w).out.length ≤ e.out.length + 2 := by
  unfold finD
  split
  · show (e.out ++ [_]).length ≤ _; rw [List.length_append, List.length_singleton]; omega
  · show ((e.out ++ [_]) ++ [_]).length ≤ _; rw [List.length_append, List.length_append, List.length_singleton, List.length_singleton]; omega
theorem p_X2_run_10 {Q : Wd → Prop} {N : Nat} (hN : N ≤ 4) (hD : 9 < D) (hB : B ≤ 1000000000) (hB9 : 99 ≤ B) : ∀ (l : List Rec) (e : DS) (G : Wd) (k n : Nat), l.length ≤ N → WF (setRun e (e.run ++ l)) B → e.out.length + 2 * l.length < 800000 → DrA G D a rf (setRun e (l ++ e.run)) → 5 * l.length ≤ k → 40 * l.length ≤ n →
    (∀ G', DrA G' D a rf (l.foldl runStep e) → FrR D (D + 100) G G' → Q G') → f_X2_run_10 a Q (l.length + 1) k n N ((N : Int) - (l.length : Nat)) G := by
  intro l
  induction l with
  | nil =>
    intro e G k n hl hw ho h hk hn hQ
    unfold f_X2_run_10 f_X2_run_10_b
    refine br_T ⟨by simp only [List.length_nil]; omega, by simp only [List.length_nil]; omega⟩ ⟨by omega, by omega⟩ (by simp) (hQ G h FrR.refl)
  | cons w l ih =>
    intro e G k n hl hw ho h hk hn hQ
    rw [List.length_cons] at hl ho hk hn
    unfold f_X2_run_10 f_X2_run_10_b
    refine br_F ⟨by simp only [List.length_cons]; omega, by simp only [List.length_cons]; omega⟩ ⟨by omega, by omega⟩ (by simp only [List.length_cons]; omega) ?_
    refine gD_1 h (nn_of ⟨cRun h, x_runPoll h hD (w := w) (ws := l ++ e.run) rfl (fun x G1 x1 g1 f1 => ?_)⟩)
    have x1' := x1
    obtain ⟨y, z, x2, x3⟩ := x1'
    refine cst_of rfl x2 (by decide) (nn_of ⟨1, 3, ⟨by omega, by omega⟩, isC_of x2, mkShorter x1 (by omega) (by omega) (fun b G2 hb eG2 x4 => ?_)⟩)
    obtain ⟨ce, eG2⟩ := eG2
    have g2 : DrA G2 D a rf (setRun e (l ++ e.run)) := by rw [eG2]; exact g1.new hb hD
    have f2 : FrR D (D + 100) G1 G2 := by rw [eG2]; exact FrR.new hb
    have x4' := x4
    obtain ⟨y', z', x5, x6⟩ := x4'
    have hwk := hw.2.2.1.2 w (List.mem_append_right _ List.mem_cons_self)
    obtain ⟨w0, w1, w3, w4, w5, w11, w7⟩ := hwk
    have hst := (runStep_wf hB9 hw).1
    have nx : ∀ G3 k' n', DrA G3 D a rf (setRun (runStep e w) (l ++ (runStep e w).run)) → FrR D (D + 100) G G3 → (runStep e w).out.length ≤ e.out.length + 2 → 5 * l.length ≤ k' → 40 * l.length ≤ n' → f_X2_run_10 a Q (l.length + 1) k' n' N ((N : Int) - ((w :: l).length : Nat) + 1) G3 := by
      intro G3 k' n' g3 f3 e3 hk' hn'
      rw [show (N : Int) - ((w :: l).length : Nat) + 1 = (N : Int) - (l.length : Nat) by rw [List.length_cons]; omega]
      exact ih (runStep e w) G3 k' n' (by omega) hst (by omega) g3 hk' hn' (fun G' g' f' => hQ G' g' (f3.trans f'))
    refine nn_of (gI_of x5 (by decide) rfl ?_)
    unfold f_X2_run_52
    have d11 : R32 (dec w 11) := by rw [dec_at]; exact ⟨by omega, by omega⟩
    by_cases c : dec w 11 ≤ 0
    · have er : runStep e w = finD e (dec w) := by unfold runStep; rw [if_neg (by omega)]
      refine br0_T d11 c ⟨4, 32, ⟨by omega, by omega⟩, cD g2, p_X2_finish (w := dec w) (m := 0) (B := 0) g2 hD x4 hw.1.2.2.2.2.1 ?_ ?_ ?_ (by show e.out.length < _; omega) (by omega) (by omega) (fun G3 g3 f3 => ?_)⟩
      · rw [dec_ne (by decide)]; exact w3
      · rw [dec_ne (by decide)]; exact w4
      · rw [dec_ne (by decide), dec_ne (by decide), dec_ne (by decide), dec_ne (by decide), dec_ne (by decide), dec_ne (by decide)]; exact w7
      · refine nx G3 _ _ ?_ (f1.trans (f2.trans f3)) ?_ (by omega) (by omega)
        · rw [er, fin_run, ← finD_run]; exact g3
        · rw [er]; exact fin_out
    · have er : runStep e w = setRun e (e.run ++ [dec w]) := by unfold runStep; rw [if_pos (by omega)]
      have hlen : (e.run ++ w :: l).length ≤ 4 := hw.2.2.1.1
      rw [List.length_append, List.length_cons] at hlen
      refine br0_F d11 c (gD_1 g2 (nn_of ⟨1, 3, ⟨by omega, by omega⟩, cRun g2, x_runAdd (w := dec w) g2 hD (by show (l ++ e.run).length < _; rw [List.length_append]; omega) x4 (by omega) (by omega) (fun G3 g3 f3 => ?_)⟩))
      refine nx G3 _ _ ?_ (f1.trans (f2.trans f3)) (by rw [er]; show e.out.length ≤ _; omega) (by omega) (by omega)
      rw [er]
      have : l ++ (e.run ++ [dec w]) = (l ++ e.run) ++ [dec w] := by simp
      show DrA G3 D a rf (setRun e (l ++ (e.run ++ [dec w])))
      rw [this]; exact g3
theorem p_X2_run {Q : Wd → Prop} {k n : Nat} (h : DrA G D a rf d) (hD : 9 < D) (hw : WF d B) (hB : B ≤ 1000000000) (hB9 : 99 ≤ B) (hk : 20 ≤ k) (hn : 160 ≤ n) (hQ : ∀ G', DrA G' D a rf (runAll d) → FrR D (D + 100) G G' → Q G') : f_X2_run k n a G Q := by
  unfold f_X2_run
  have hl := hw.2.2.1.1
  have ho := hw.outlen
  refine gD_1 h (nn_of ⟨cRun h, x_runSize h ⟨d.run.length + 1, ?_⟩⟩)
  have k1 := p_X2_run_10 (Q := Q) (N := d.run.length) hl hD hB hB9 d.run (setRun d []) G k n (Nat.le_refl _) hw (by show d.out.length + _ < _; omega) (by show DrA G D a rf (setRun d (d.run ++ [])); rw [List.append_nil]; exact h) (by omega) (by omega) hQ
  rw [show ((d.run.length : Nat) : Int) - (d.run.length : Nat) = 0 by omega] at k1
  exact k1
end
