/-! PURE PROOFS: the twin's row is changed: words come out, works and words go -/
set_option maxRecDepth 100000
theorem ofi_none : ofi none = -1 := rfl
theorem ofi_some {k : Nat} : ofi (some k) = k := rfl
section
variable {w : Tw} {r : Nat} {d : DS} {B : Int} {q : Nat}
theorem RowR.out {ρ ρ' : Rec} {v : Rec} (h : RowR ρ d) (hl : Lens d) (hn : d.out.length < 80) (e1 : ∀ f : Int, 0 ≤ f → f < 4 → ρ' (494 + 4 * (d.out.length : Nat) + f) = v f) (e2 : ρ' 814 = (d.out.length : Nat) + 1) (e3 : ∀ i : Int, i ≠ 814 → (i < 494 + 4 * (d.out.length : Nat) ∨ 494 + 4 * (d.out.length : Nat) + 4 ≤ i) → ρ' i = ρ i) : RowR ρ' (outD d v) := by
  obtain ⟨h1, h2, h4, h5, h6, h7, h8⟩ := h
  refine ⟨fun j hj => ?_, ?_, ?_, fun q hq => ?_, fun q hq => ?_, ?_, ?_⟩
  · have hj' := hj
    unfold isSc at hj'
    rw [e3 j (by omega) (by omega)]; exact h1 j hj
  · rw [e3 493 (by omega) (by omega)]; exact h2
  · rw [e2]; show _ = (((d.out ++ [v]).length : Nat) : Int); rw [List.length_append, List.length_singleton]; omega
  · exact (h5 q hq).congr (fun j j0 j1 => e3 j (by omega) (by omega))
  · exact (h6 q hq).congr (fun j j0 j1 => e3 j (by omega) (by omega))
  · exact h7.congr hl.1 (fun j j0 j1 => e3 j (by omega) (by omega))
  · exact h8.snoc e1 (fun j j0 j1 => e3 j (by omega) (by omega))
theorem t_comesOut {Q : Tw → Prop} {x id st rs : Int} (h : TwA w r d) (hr : r = 20 ∨ r = 21) (hl : Lens d) (hn : d.out.length < 80) (hQ : ∀ w', TwA w' r (outD d (rec4 x id st rs)) → TFr r w w' → Q w') : f_X4_comesOut r x id st rs w Q := by
  unfold f_X4_comesOut f_X4_outAt
  have h814 := h.1.2.2.1
  refine ⟨⟨by omega, by omega⟩, ?_⟩
  rw [h814]
  refine ⟨⟨by omega, by omega⟩, ⟨by omega, by omega⟩, ⟨by omega, by omega⟩, ⟨by omega, by omega⟩, ⟨by omega, by omega⟩, ⟨by omega, by omega⟩, ?_⟩
  have tf : TFr r w (tup (tup (tup (tup (tup w r (494 + 4 * (d.out.length : Nat) + 0) x) r (494 + 4 * (d.out.length : Nat) + 1) id) r (494 + 4 * (d.out.length : Nat) + 2) st) r (494 + 4 * (d.out.length : Nat) + 3) rs) r 814 (tup (tup (tup (tup w r (494 + 4 * (d.out.length : Nat) + 0) x) r (494 + 4 * (d.out.length : Nat) + 1) id) r (494 + 4 * (d.out.length : Nat) + 2) st) r (494 + 4 * (d.out.length : Nat) + 3) rs r 814 + 1)) :=
    ((((TFr.tp).trans TFr.tp).trans TFr.tp).trans TFr.tp).trans TFr.tp
  refine hQ _ (h.row hr tf ?_ rfl (fun _ _ _ _ _ => rfl)) tf
  simp only [tw_at]
  refine h.1.out hl hn ?_ ?_ ?_
  · intro f f0 f1
    obtain rfl | rfl | rfl | rfl : f = 0 ∨ f = 1 ∨ f = 2 ∨ f = 3 := by omega
    all_goals (simp (disch := omega) only [iup_at, iup_ne])
    all_goals rfl
  · simp (disch := omega) only [iup_at, iup_ne]; rw [h814]
  · intro i i0 i1
    simp (disch := omega) only [iup_ne]
theorem t_shiftR {Q : Tw → Prop} {E : Int} (hE : E ≤ 481) : ∀ (m : Nat) (j : Int) (w : Tw), w r 493 * 12 + 445 = E → E - j = m → 445 ≤ j → (∀ w', TFr r w w' → (∀ i, w' r i = if j ≤ i ∧ i < E then w r (i + 12) else w r i) → Q w') → f_X4_runGoes_14 r Q (m + 1) j w := by
  intro m
  induction m with
  | zero =>
    intro j w hw hm hj hQ
    unfold f_X4_runGoes_14 f_X4_runGoes_14_b f_X4_runAt
    exact ⟨⟨by omega, by omega⟩, br_T ⟨by omega, by omega⟩ ⟨by omega, by omega⟩ (by omega) (hQ w TFr.refl (fun i => by rw [if_neg (by omega)]))⟩
  | succ m ih =>
    intro j w hw hm hj hQ
    unfold f_X4_runGoes_14 f_X4_runGoes_14_b f_X4_runAt
    refine ⟨⟨by omega, by omega⟩, br_F ⟨by omega, by omega⟩ ⟨by omega, by omega⟩ (by omega) ⟨⟨by omega, by omega⟩, ⟨by omega, by omega⟩, ?_⟩⟩
    refine ih (j + 1) _ ?_ (by omega) (by omega) (fun w' f' e' => hQ w' (TFr.tp.trans f') (fun i => ?_))
    · rw [tw_at, iup_ne (by omega)]; exact hw
    · rw [e' i, tw_at]
      by_cases c : j + 1 ≤ i ∧ i < E
      · rw [if_pos c, if_pos ⟨by omega, by omega⟩, iup_ne (by omega)]
      · rw [if_neg c]
        by_cases c2 : i = j
        · subst c2; rw [iup_at, if_pos ⟨by omega, by omega⟩]
        · rw [iup_ne c2, if_neg (by omega)]
theorem t_shiftO {Q : Tw → Prop} {E : Int} (hE : E ≤ 810) : ∀ (m : Nat) (j : Int) (w : Tw), w r 814 * 4 + 494 = E → E - j = m → 494 ≤ j → (∀ w', TFr r w w' → (∀ i, w' r i = if j ≤ i ∧ i < E then w r (i + 4) else w r i) → Q w') → f_X4_outGoes_14 r Q (m + 1) j w := by
  intro m
  induction m with
  | zero =>
    intro j w hw hm hj hQ
    unfold f_X4_outGoes_14 f_X4_outGoes_14_b f_X4_outAt
    exact ⟨⟨by omega, by omega⟩, br_T ⟨by omega, by omega⟩ ⟨by omega, by omega⟩ (by omega) (hQ w TFr.refl (fun i => by rw [if_neg (by omega)]))⟩
  | succ m ih =>
    intro j w hw hm hj hQ
    unfold f_X4_outGoes_14 f_X4_outGoes_14_b f_X4_outAt
    refine ⟨⟨by omega, by omega⟩, br_F ⟨by omega, by omega⟩ ⟨by omega, by omega⟩ (by omega) ⟨⟨by omega, by omega⟩, ⟨by omega, by omega⟩, ?_⟩⟩
    refine ih (j + 1) _ ?_ (by omega) (by omega) (fun w' f' e' => hQ w' (TFr.tp.trans f') (fun i => ?_))
    · rw [tw_at, iup_ne (by omega)]; exact hw
    · rw [e' i, tw_at]
      by_cases c : j + 1 ≤ i ∧ i < E
      · rw [if_pos c, if_pos ⟨by omega, by omega⟩, iup_ne (by omega)]
      · rw [if_neg c]
        by_cases c2 : i = j
        · subst c2; rw [iup_at, if_pos ⟨by omega, by omega⟩]
        · rw [iup_ne c2, if_neg (by omega)]
theorem t_runGoes {Q : Tw → Prop} {l m : List Rec} {c : Rec} (h : TwA w r d) (hr : r = 20 ∨ r = 21) (hl : Lens d) (hc : d.run = l ++ c :: m) (hQ : ∀ w', TwA w' r (setRun d (l ++ m)) → TFr r w w' → Q w') : f_X4_runGoes r (l.length : Nat) w Q := by
  have hlen : l.length + m.length + 1 ≤ 4 := by have := hl.1; rw [hc, List.length_append, List.length_cons] at this; omega
  have h493 := h.1.2.1
  rw [hc, List.length_append, List.length_cons] at h493
  unfold f_X4_runGoes f_X4_runAt
  refine ⟨⟨by omega, by omega⟩, ⟨by omega, by omega⟩, ?_⟩
  have e1 : tup w r 493 (w r 493 - 1) r 493 = w r 493 - 1 := by rw [tw_at, iup_at]
  refine ⟨12 * m.length + 1, t_shiftR (E := 445 + 12 * ((l.length + m.length : Nat) : Int)) (by omega) (12 * m.length) _ _ (by rw [e1]; omega) (by omega) (by omega) (fun w' f' e' => ?_)⟩
  have tf : TFr r w w' := TFr.tp.trans f'
  refine hQ w' (h.row hr tf ?_ rfl (fun _ _ _ _ _ => rfl)) tf
  obtain ⟨h1, h2, h4, h5, h6, h7, h8⟩ := h.1
  have es : ∀ i : Int, (i < 445 ∨ 493 < i) → w' r i = w r i := fun i hi => by rw [e' i, if_neg (by omega), tw_at, iup_ne (by omega)]
  refine ⟨fun j hj => ?_, ?_, ?_, fun q hq => ?_, fun q hq => ?_, ?_, ?_⟩
  · have hj' := hj
    unfold isSc at hj'
    rw [es j (by omega)]; exact h1 j hj
  · rw [e' 493, if_neg (by omega), e1]
    show _ = (((l ++ m).length : Nat) : Int)
    rw [List.length_append]; omega
  · rw [es 814 (by omega)]; exact h4
  · exact (h5 q hq).congr (fun j j0 j1 => es j (by omega))
  · exact (h6 q hq).congr (fun j j0 j1 => es j (by omega))
  · rw [hc] at h7
    refine h7.erase (fun i i0 i1 => ?_) (fun i i0 i1 => ?_)
    · rw [e' i, if_neg (by omega), tw_at, iup_ne (by omega)]
    · rw [e' i, if_pos ⟨by omega, by omega⟩, tw_at, iup_ne (by omega)]
  · exact h8.congr hl.2 (fun j j0 j1 => es j (by omega))
theorem t_outGoes {Q : Tw → Prop} {l m : List Rec} {c : Rec} (h : TwA w r d) (hr : r = 20 ∨ r = 21) (hl : Lens d) (hc : d.out = l ++ c :: m) (hQ : ∀ w', TwA w' r (setOut d (l ++ m)) → TFr r w w' → Q w') : f_X4_outGoes r (l.length : Nat) w Q := by
  have hlen : l.length + m.length + 1 ≤ 80 := by have := hl.2; rw [hc, List.length_append, List.length_cons] at this; omega
  have h814 := h.1.2.2.1
  rw [hc, List.length_append, List.length_cons] at h814
  unfold f_X4_outGoes f_X4_outAt
  refine ⟨⟨by omega, by omega⟩, ⟨by omega, by omega⟩, ?_⟩
  have e1 : tup w r 814 (w r 814 - 1) r 814 = w r 814 - 1 := by rw [tw_at, iup_at]
  refine ⟨4 * m.length + 1, t_shiftO (E := 494 + 4 * ((l.length + m.length : Nat) : Int)) (by omega) (4 * m.length) _ _ (by rw [e1]; omega) (by omega) (by omega) (fun w' f' e' => ?_)⟩
  have tf : TFr r w w' := TFr.tp.trans f'
  refine hQ w' (h.row hr tf ?_ rfl (fun _ _ _ _ _ => rfl)) tf
  obtain ⟨h1, h2, h4, h5, h6, h7, h8⟩ := h.1
  have es : ∀ i : Int, (i < 494 ∨ 814 < i) → w' r i = w r i := fun i hi => by rw [e' i, if_neg (by omega), tw_at, iup_ne (by omega)]
  refine ⟨fun j hj => ?_, ?_, ?_, fun q hq => ?_, fun q hq => ?_, ?_, ?_⟩
  · have hj' := hj
    unfold isSc at hj'
    rw [es j (by omega)]; exact h1 j hj
  · rw [es 493 (by omega)]; exact h2
  · rw [e' 814, if_neg (by omega), e1]
    show _ = (((l ++ m).length : Nat) : Int)
    rw [List.length_append]; omega
  · exact (h5 q hq).congr (fun j j0 j1 => es j (by omega))
  · exact (h6 q hq).congr (fun j j0 j1 => es j (by omega))
  · exact h7.congr hl.1 (fun j j0 j1 => es j (by omega))
  · rw [hc] at h8
    refine h8.erase (fun i i0 i1 => ?_) (fun i i0 i1 => ?_)
    · rw [e' i, if_neg (by omega), tw_at, iup_ne (by omega)]
    · rw [e' i, if_pos ⟨by omega, by omega⟩, tw_at, iup_ne (by omega)]
theorem t_fetchedAll {Q : Int → Tw → Prop} (h : TwA w r d) (hQ : Q (d.s 840 + d.s 841 + d.s 842 + d.s 843) w) : f_X4_fetchedAll r w Q := by
  refine ⟨5, ?_⟩
  have e : ∀ i : Int, 840 ≤ i → i < 844 → w r i = d.s i := fun i i0 i1 => h.1.1 i (Or.inr ⟨by omega, by omega, by omega⟩)
  unfold f_X4_fetchedAll_4 f_X4_fetchedAll_4_b
  refine br_F ⟨by omega, by omega⟩ ⟨by omega, by omega⟩ (by omega) ⟨⟨by omega, by omega⟩, ?_⟩
  unfold f_X4_fetchedAll_4 f_X4_fetchedAll_4_b
  refine br_F ⟨by omega, by omega⟩ ⟨by omega, by omega⟩ (by omega) ⟨⟨by omega, by omega⟩, ?_⟩
  unfold f_X4_fetchedAll_4 f_X4_fetchedAll_4_b
  refine br_F ⟨by omega, by omega⟩ ⟨by omega, by omega⟩ (by omega) ⟨⟨by omega, by omega⟩, ?_⟩
  unfold f_X4_fetchedAll_4 f_X4_fetchedAll_4_b
  refine br_F ⟨by omega, by omega⟩ ⟨by omega, by omega⟩ (by omega) ⟨⟨by omega, by omega⟩, ?_⟩
  unfold f_X4_fetchedAll_4 f_X4_fetchedAll_4_b
  refine br_T ⟨by omega, by omega⟩ ⟨by omega, by omega⟩ (by omega) ?_
  rw [show (840 + 0 : Int) = 840 by decide, show (840 + (0 + 1) : Int) = 841 by decide, show (840 + (0 + 1 + 1) : Int) = 842 by decide, show (840 + (0 + 1 + 1 + 1) : Int) = 843 by decide, e 840 (by omega) (by omega), e 841 (by omega) (by omega), e 842 (by omega) (by omega), e 843 (by omega) (by omega)]
  rw [show (0 + d.s 840 + d.s 841 + d.s 842 + d.s 843 : Int) = d.s 840 + d.s 841 + d.s 842 + d.s 843 by omega]
  exact hQ
theorem t_blocksOf_4 {Q : Int → Tw → Prop} (h : TwA w r d) (hQ : Q (sumI (fun q => d.s (828 + q)) 10) w) : ∀ (m k : Nat), k + m = 10 → f_X4_blocksOf_4 r Q (m + 1) (sumI (fun q => d.s (828 + q)) k) k w := by
  intro m
  induction m with
  | zero =>
    intro k hk
    unfold f_X4_blocksOf_4 f_X4_blocksOf_4_b
    refine br_T ⟨by omega, by omega⟩ ⟨by omega, by omega⟩ (by omega) ?_
    rw [show k = 10 by omega]; exact hQ
  | succ m ih =>
    intro k hk
    unfold f_X4_blocksOf_4 f_X4_blocksOf_4_b
    refine br_F ⟨by omega, by omega⟩ ⟨by omega, by omega⟩ (by omega) ⟨⟨by omega, by omega⟩, ?_⟩
    rw [h.1.1 _ (Or.inr ⟨by omega, by omega, by omega⟩), show (k : Int) + 1 = ((k + 1 : Nat) : Int) by omega]
    exact ih (k + 1) (by omega)
theorem t_blocksOf {Q : Int → Tw → Prop} (h : TwA w r d) (hQ : Q (sumI (fun q => d.s (828 + q)) 10) w) : f_X4_blocksOf r w Q :=
  ⟨11, t_blocksOf_4 h hQ 10 0 (by omega)⟩
theorem t_kind (h : TwA w r d) (hq : (q : Int) < d.s 900) : w 18 q = d.s (89 * q + 22) := (h.2.2 q hq).2.2.1
theorem t_behindLast_2 {Q : Int → Tw → Prop} {c : Int} (h : TwA w r d) (hw : WF d B) (hB : B ≤ 1000000000) (hc : 0 ≤ c ∧ c ≤ 3) : ∀ (m : Nat), m ≤ 5 → Q (ofi (turnN d.s c m)) w → f_X4_behindLast_2 r Q (m + 1) c (6 - (m : Int)) w := by
  have hm := hw.many
  have hlast := hw.1.2.2.2.2.2.2.2.2.1 (822 + c) (by omega) (by omega)
  have el : w r (822 + c) = d.s (822 + c) := h.1.1 _ (Or.inr ⟨by omega, by omega, by omega⟩)
  intro m
  induction m with
  | zero =>
    intro _ hQ
    unfold f_X4_behindLast_2 f_X4_behindLast_2_b
    exact br_T ⟨by omega, by omega⟩ ⟨by omega, by omega⟩ (by omega) hQ
  | succ m ih =>
    intro hm5 hQ
    unfold f_X4_behindLast_2 f_X4_behindLast_2_b f_X4_behindLast_52
    have e6 : (6 : Int) - ((m + 1 : Nat) : Int) + 1 = 6 - (m : Int) := by omega
    have eq5 := turnQ_lt (s := d.s) (c := c) (m := m)
    have eq : (d.s (822 + c) + (6 - ((m + 1 : Nat) : Int))) % 5 = ((turnQ d.s c m : Nat) : Int) := by unfold turnQ; omega
    refine br_F ⟨by omega, by omega⟩ ⟨by omega, by omega⟩ (by omega) ⟨⟨by omega, by omega⟩, ?_⟩
    rw [el, e6]
    refine ⟨⟨by omega, by omega, by omega, by omega⟩, ?_⟩
    rw [eq]
    have nx : isT d.s c (turnQ d.s c m) = false → f_X4_behindLast_2 r Q (m + 1) c (6 - (m : Int)) w := by
      intro hf
      refine ih (by omega) ?_
      unfold turnN at hQ
      rw [hf, if_neg (by simp)] at hQ
      exact hQ
    generalize hg : turnQ d.s c m = p at *
    refine t_isQueue h hm ⟨by omega, by omega⟩ ?_
    by_cases c1 : (p : Int) < d.s 900
    · rw [decide_eq_true ⟨by omega, c1⟩]
      refine brB_T ⟨⟨by omega, by omega⟩, ?_⟩
      rw [t_kind h c1]
      by_cases c2 : d.s (89 * p + 22) = c
      · refine br_F (hw.r hB _) ⟨by omega, by omega⟩ (by omega) (t_hasWork h eq5 hw hB ?_)
        cases hb : hasW d.s p with
        | true =>
          unfold turnN at hQ
          rw [hg, if_pos (by unfold isT; simp [c2, hb]; omega)] at hQ
          exact brB_T hQ
        | false =>
          refine brB_F (nx ?_)
          unfold isT
          rw [hb, Bool.and_false]
      · refine br_T (hw.r hB _) ⟨by omega, by omega⟩ c2 (nx ?_)
        unfold isT
        rw [decide_eq_false c2]; simp
    · rw [decide_eq_false (fun z => c1 z.2)]
      refine brB_F (nx ?_)
      unfold isT
      rw [decide_eq_false c1]; rfl
theorem t_behindLast {Q : Int → Tw → Prop} {c : Int} (h : TwA w r d) (hw : WF d B) (hB : B ≤ 1000000000) (hc : 0 ≤ c ∧ c ≤ 3) (hQ : Q (ofi (turn d.s c)) w) : f_X4_behindLast r c w Q :=
  ⟨6, t_behindLast_2 h hw hB hc 5 (by omega) hQ⟩
theorem t_creditClass_2 {Q : Int → Tw → Prop} (h : TwA w r d) (hw : WF d B) (hB : B ≤ 1000000000) : ∀ (m : Nat), m ≤ 3 → Q (ofi (crN d.s m)) w → f_X4_creditClass_2 r Q (m + 1) (4 - (m : Int)) w := by
  intro m
  induction m with
  | zero =>
    intro _ hQ
    unfold f_X4_creditClass_2 f_X4_creditClass_2_b
    exact br_T ⟨by omega, by omega⟩ ⟨by omega, by omega⟩ (by omega) hQ
  | succ m ih =>
    intro hm3 hQ
    unfold f_X4_creditClass_2 f_X4_creditClass_2_b f_X4_creditClass_28
    have e6 : (4 : Int) - ((m + 1 : Nat) : Int) + 1 = 4 - (m : Int) := by omega
    have e7 : (4 : Int) - ((m + 1 : Nat) : Int) = 3 - (m : Int) := by omega
    refine br_F ⟨by omega, by omega⟩ ⟨by omega, by omega⟩ (by omega) ⟨⟨by omega, by omega⟩, ?_⟩
    rw [e6, e7, h.1.1 _ (Or.inr ⟨by omega, by omega, by omega⟩)]
    unfold crN at hQ
    by_cases c1 : d.s (818 + (3 - (m : Int))) ≤ 0
    · rw [if_neg (fun z => by omega)] at hQ
      exact br0_T (hw.r hB _) c1 (ih (by omega) hQ)
    · refine br0_F (hw.r hB _) c1 (t_behindLast h hw hB (by omega) ?_)
      cases ht : turn d.s (3 - (m : Int)) with
      | none =>
        rw [ht, if_neg (by simp)] at hQ
        rw [ofi_none]
        exact br0_T ⟨by omega, by omega⟩ (by omega) (ih (by omega) hQ)
      | some q =>
        have h5 := (turnN_is ht).2
        rw [ht, if_pos ⟨by omega, rfl⟩] at hQ
        rw [ofi_some]
        refine br0_F ⟨by omega, by omega⟩ (by omega) ?_
        have : ofi (some (3 - m)) = 3 - (m : Int) := by rw [ofi_some]; omega
        rw [this] at hQ
        exact hQ
theorem t_creditClass {Q : Int → Tw → Prop} (h : TwA w r d) (hw : WF d B) (hB : B ≤ 1000000000) (hQ : Q (ofi (crN d.s 3)) w) : f_X4_creditClass r w Q :=
  ⟨4, t_creditClass_2 h hw hB 3 (by omega) hQ⟩
theorem t_isAnyWork_4 {Q : Bool → Tw → Prop} (h : TwA w r d) (hw : WF d B) (hB : B ≤ 1000000000) (hQ : Q (anyW d.s (d.s 900).toNat) w) : ∀ (m k : Nat), k + m = (d.s 900).toNat → f_X4_isAnyWork_4 r Q (m + 1) (anyW d.s k) k w := by
  have hm := hw.many
  have e14 : w 14 0 = d.s 900 := h.2.1
  intro m
  induction m with
  | zero =>
    intro k hk
    unfold f_X4_isAnyWork_4 f_X4_isAnyWork_4_b
    rw [e14]
    refine br_T ⟨by omega, by omega⟩ ⟨by omega, by omega⟩ (by omega) ?_
    rw [show k = (d.s 900).toNat by omega]; exact hQ
  | succ m ih =>
    intro k hk
    have hk5 : k < 5 := by omega
    unfold f_X4_isAnyWork_4 f_X4_isAnyWork_4_b f_X4_isAnyWork_24 f_X4_isAnyWork_29
    rw [e14]
    have nx := ih (k + 1) (by omega)
    have ek : (k : Int) + 1 = ((k + 1 : Nat) : Int) := by omega
    rw [ek]
    refine br_F ⟨by omega, by omega⟩ ⟨by omega, by omega⟩ (by omega) ?_
    have ea : anyW d.s (k + 1) = (anyW d.s k || hasW d.s k) := rfl
    rw [ea] at nx
    cases hb : anyW d.s k with
    | true => rw [hb, Bool.true_or] at nx; exact brB_T nx
    | false =>
      rw [hb, Bool.false_or] at nx
      refine brB_F (t_hasWork h hk5 hw hB ?_)
      cases hb2 : hasW d.s k with
      | true => rw [hb2] at nx; exact brB_T nx
      | false => rw [hb2] at nx; exact brB_F nx
theorem t_isAnyWork {Q : Bool → Tw → Prop} (h : TwA w r d) (hw : WF d B) (hB : B ≤ 1000000000) (hQ : Q (anyW d.s (d.s 900).toNat) w) : f_X4_isAnyWork r w Q :=
  ⟨(d.s 900).toNat + 1, t_isAnyWork_4 h hw hB hQ (d.s 900).toNat 0 (by omega)⟩
end
