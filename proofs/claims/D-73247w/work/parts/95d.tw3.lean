/-! PURE PROOFS: the twin chooses, fetches -/
set_option maxRecDepth 100000
def TFt (r : Nat) (w w' : Tw) : Prop := ∀ j, j ≠ r → j ≠ 12 → j ≠ 13 → w' j = w j
theorem TFr.t {r : Nat} {w w' : Tw} (h : TFr r w w') : TFt r w w' := fun j hj _ _ => h j hj
theorem TFt.refl {r : Nat} {w : Tw} : TFt r w w := fun _ _ _ _ => rfl
theorem TFt.trans {r : Nat} {w w1 w2 : Tw} (h : TFt r w w1) (k : TFt r w1 w2) : TFt r w w2 := fun j h1 h2 h3 => by rw [k j h1 h2 h3, h j h1 h2 h3]
/-- the twin's codes tell times -/
def RuleW (w : Tw) (t : Tmf) : Prop := (∀ o b v q c n m, R32 (t o b v q c n m)) ∧ ∀ w' : Tw, w' 8 = w 8 → w' 10 = w 10 → (∀ i : Int, 0 ≤ i → i < 7 → R32 (w' 13 i)) → ∀ Q : Int → Tw → Prop, (∀ w'', (∀ j, j ≠ 12 → w'' j = w' j) → Q (t (w' 13 0) (w' 13 1) (w' 13 2) (w' 13 3) (w' 13 4) (w' 13 5) (w' 13 6)) w'') → f_X4_ruled w' Q
theorem RuleW.on {w w1 : Tw} {t : Tmf} (h : RuleW w t) (e8 : w1 8 = w 8) (e10 : w1 10 = w 10) : RuleW w1 t := ⟨h.1, fun w' h8 h10 => h.2 w' (h8.trans e8) (h10.trans e10)⟩
section
variable {w : Tw} {r : Nat} {d : DS} {B : Int} {q : Nat}
theorem RuleW.fr {w' : Tw} {t : Tmf} (h : RuleW w t) (f : TFt r w w') (hr : r = 20 ∨ r = 21) : RuleW w' t := h.on (f 8 (by omega) (by omega) (by omega)) (f 10 (by omega) (by omega) (by omega))
theorem TwA.rowt {w' : Tw} {d' : DS} (h : TwA w r d) (hr : r = 20 ∨ r = 21) (hf : TFt r w w') (h1 : RowR (w' r) d') (e : d'.s 900 = d.s 900) (e2 : ∀ q : Nat, (q : Int) < d.s 900 → ∀ f : Int, 20 ≤ f → f < 24 → d'.s (89 * q + f) = d.s (89 * q + f)) : TwA w' r d' := by
  obtain ⟨h2, h3, h4⟩ := h
  have ff : ∀ j, j = 14 ∨ j = 16 ∨ j = 17 ∨ j = 18 ∨ j = 19 → w' j = w j := fun j hj => hf j (by omega) (by omega) (by omega)
  refine ⟨h1, by rw [ff 14 (by omega), e]; exact h3, fun q hq => ?_⟩
  rw [e] at hq
  obtain ⟨k1, k2, k3, k4⟩ := h4 q hq
  rw [ff 16 (by omega), ff 17 (by omega), ff 18 (by omega), ff 19 (by omega), e2 q hq 20 (by omega) (by omega), e2 q hq 21 (by omega) (by omega), e2 q hq 22 (by omega) (by omega), e2 q hq 23 (by omega) (by omega)]
  exact ⟨k1, k2, k3, k4⟩
theorem RowR.scal {ρ ρ' s' : Rec} (h : RowR ρ d) (hl : Lens d) (e1 : ∀ i, isSc i → ρ' i = s' i) (e2 : ∀ i : Int, ¬ isSc i → i ≠ 818 → ρ' i = ρ i) (e3 : ∀ q : Nat, q < 5 → s' (89 * q + 3) = d.s (89 * q + 3) ∧ s' (89 * q + 6) = d.s (89 * q + 6)) : RowR ρ' (setS d s') := by
  obtain ⟨h1, h2, h4, h5, h6, h7, h8⟩ := h
  have nsc : ∀ i : Int, (∃ q : Nat, q < 5 ∧ 89 * (q : Int) + 9 ≤ i ∧ i < 89 * (q : Int) + 89) ∨ (445 ≤ i ∧ i < 815) → ρ' i = ρ i := by
    rintro i (⟨q, q1, q2, q3⟩ | hi)
    · exact e2 i (by unfold isSc; omega) (by omega)
    · exact e2 i (by unfold isSc; omega) (by omega)
  refine ⟨e1, ?_, ?_, fun q hq => ?_, fun q hq => ?_, ?_, ?_⟩
  · rw [nsc _ (Or.inr ⟨by omega, by omega⟩)]; exact h2
  · rw [nsc _ (Or.inr ⟨by omega, by omega⟩)]; exact h4
  · show RingL _ _ (s' (89 * q + 3)) _
    rw [(e3 q hq).1]
    exact (h5 q hq).congr (fun j j0 j1 => nsc j (Or.inl ⟨q, hq, by omega, by omega⟩))
  · show RingL _ _ (s' (89 * q + 6)) _
    rw [(e3 q hq).2]
    exact (h6 q hq).congr (fun j j0 j1 => nsc j (Or.inl ⟨q, hq, by omega, by omega⟩))
  · exact h7.congr hl.1 (fun j j0 j1 => nsc j (Or.inr ⟨by omega, by omega⟩))
  · exact h8.congr hl.2 (fun j j0 j1 => nsc j (Or.inr ⟨by omega, by omega⟩))
theorem t_chosen_52 {Q : Int → Tw → Prop} {c : Nat} (h : TwA w r d) (hr : r = 20 ∨ r = 21) (hw : WF d B) (hB : B ≤ 1000000000) (hc : crN d.s 3 = some c) (ht : turn d.s c = some q) (hQ : ∀ w', TwA w' r (setS d (choose1 d.s c q)) → TFr r w w' → Q q w') : f_X4_chosen_52 r w Q := by
  obtain ⟨c1, c2, c3⟩ := crN_some (by omega) hc
  obtain ⟨k1, k2⟩ := turnN_is ht
  have hm := hw.many
  unfold f_X4_chosen_52 f_X4_chosen_76
  refine t_creditClass h hw hB ?_
  rw [hc, ofi_some]
  refine t_behindLast h hw hB (by omega) ?_
  rw [ht, ofi_some]
  have e1 : w r (818 + (c : Int)) = d.s (818 + (c : Int)) := h.1.1 _ (Or.inr ⟨by omega, by omega, by omega⟩)
  refine ⟨⟨by omega, by omega⟩, ⟨by omega, by omega⟩, ⟨by omega, by omega⟩, ?_⟩
  rw [e1]
  have a1 := h.sc (i := 818 + (c : Int)) (x := d.s (818 + (c : Int)) - 1) hr hm.2 hw.lens (Or.inr ⟨by omega, by omega, by omega⟩) (by omega)
  have a2 := a1.sc (i := 822 + (c : Int)) (x := q) hr (by show iup d.s _ _ 900 ≤ 5; rw [iup_ne (by omega)]; exact hm.2) hw.lens (Or.inr ⟨by omega, by omega, by omega⟩) (by omega)
  exact hQ _ a2 (TFr.tp.trans TFr.tp)
theorem t_chosen {Q : Int → Tw → Prop} {s' : Rec} (h : TwA w r d) (hr : r = 20 ∨ r = 21) (hw : WF d B) (hB : B ≤ 1000000000) (hB9 : 9 ≤ B) (hc : chosen d.s = (some q, s')) (hQ : ∀ w', TwA w' r (setS d s') → TFr r w w' → Q q w') : f_X4_chosen r w Q := by
  have hm := hw.many
  unfold f_X4_chosen
  refine t_behindLast h hw hB (by omega) ?_
  unfold chosen at hc
  cases h0 : turn d.s 0 with
  | some p =>
    rw [h0] at hc
    simp only [Prod.mk.injEq, Option.some.injEq] at hc
    obtain ⟨rfl, rfl⟩ := hc
    obtain ⟨k1, k2⟩ := turnN_is h0
    rw [ofi_some]
    unfold f_X4_chosen_76
    refine br0_T ⟨by omega, by omega⟩ (by omega) ⟨⟨by omega, by omega⟩, ?_⟩
    exact hQ _ (h.sc (i := 822 + 0) (x := p) hr hm.2 hw.lens (Or.inr ⟨by omega, by omega, by omega⟩) (by omega)) TFr.tp
  | none =>
    rw [h0] at hc
    rw [ofi_none]
    refine br0_F ⟨by omega, by omega⟩ (by omega) (t_creditClass h hw hB ?_)
    have hcs : ChS d.s (refl1 d.s) := ⟨fun i hi => refl1_lo (by omega), fun i i0 i1 => refl1_cr hw.1 i0 i1, fun i i0 i1 => by rw [refl1_lo (by omega)]; exact hw.1.2.2.2.2.2.2.2.2.1 i i0 i1⟩
    have hw1 := hw.chose hB9 hcs
    have main : ∀ w1, TwA w1 r (setS d (refl1 d.s)) → TFr r w w1 → f_X4_chosen_52 r w1 Q := by
      intro w1 g1 f1
      cases hcn : crN (refl1 d.s) 3 with
      | none => rw [hcn] at hc; simp at hc
      | some c =>
        rw [hcn] at hc
        cases ht : turn (refl1 d.s) c with
        | none => simp only [ht] at hc; simp at hc
        | some p =>
          simp only [ht, Prod.mk.injEq, Option.some.injEq] at hc
          obtain ⟨rfl, rfl⟩ := hc
          exact t_chosen_52 g1 hr hw1 hB (c := c) hcn ht (fun w2 g2 f2 => hQ w2 g2 (f1.trans f2))
    cases hcr : crN d.s 3 with
    | some c =>
      rw [ofi_some]
      have := crN_some (by omega) hcr
      refine br0_T ⟨by omega, by omega⟩ (by omega) (main w ?_ TFr.refl)
      have e : refl1 d.s = d.s := by unfold refl1; rw [hcr, if_pos (show (some c).isSome = true from rfl)]
      rw [e]; exact h
    | none =>
      rw [ofi_none]
      refine br0_F ⟨by omega, by omega⟩ (by omega) ⟨4, ?_⟩
      have er : refl1 d.s = refill d.s := by unfold refl1; rw [hcr, if_neg (by simp)]
      unfold f_X4_chosen_24 f_X4_chosen_24_b
      refine br_F ⟨by omega, by omega⟩ ⟨by omega, by omega⟩ (by omega) ⟨⟨by omega, by omega⟩, ⟨by omega, by omega⟩, ?_⟩
      unfold f_X4_chosen_24 f_X4_chosen_24_b
      refine br_F ⟨by omega, by omega⟩ ⟨by omega, by omega⟩ (by omega) ⟨⟨by omega, by omega⟩, ⟨by omega, by omega⟩, ?_⟩
      unfold f_X4_chosen_24 f_X4_chosen_24_b
      refine br_F ⟨by omega, by omega⟩ ⟨by omega, by omega⟩ (by omega) ⟨⟨by omega, by omega⟩, ⟨by omega, by omega⟩, ?_⟩
      unfold f_X4_chosen_24 f_X4_chosen_24_b
      have tf : TFr r w (tup (tup (tup w r (818 + 1) (w r (814 + 1))) r (818 + (1 + 1)) (tup w r (818 + 1) (w r (814 + 1)) r (814 + (1 + 1)))) r (818 + (1 + 1 + 1)) (tup (tup w r (818 + 1) (w r (814 + 1))) r (818 + (1 + 1)) (tup w r (818 + 1) (w r (814 + 1)) r (814 + (1 + 1))) r (814 + (1 + 1 + 1)))) := (TFr.tp.trans TFr.tp).trans TFr.tp
      refine br_T ⟨by omega, by omega⟩ ⟨by omega, by omega⟩ (by omega) (main _ (h.row hr tf ?_ (refl1_lo (by omega)) (fun q hq f f0 f1 => refl1_lo (by omega))) tf)
      simp only [tw_at]
      rw [er]
      have ew : ∀ i : Int, 815 ≤ i → i < 818 → w r i = d.s i := fun i i0 i1 => h.1.1 i (Or.inr ⟨by omega, by omega, by omega⟩)
      refine h.1.scal hw.lens (fun i hi => ?_) (fun i hi hi8 => ?_) (fun q hq => ⟨refill_lo (by omega), refill_lo (by omega)⟩)
      · have hi' := hi
        unfold isSc at hi'
        by_cases c1 : i = 819
        · subst c1; simp (disch := omega) only [iup_at, iup_ne]; unfold refill; rw [if_pos ⟨by omega, by omega⟩]; exact ew _ (by omega) (by omega)
        · by_cases c2 : i = 820
          · subst c2; simp (disch := omega) only [iup_at, iup_ne]; unfold refill; rw [if_pos ⟨by omega, by omega⟩]; exact ew _ (by omega) (by omega)
          · by_cases c3 : i = 821
            · subst c3; simp (disch := omega) only [iup_at, iup_ne]; unfold refill; rw [if_pos ⟨by omega, by omega⟩]; exact ew _ (by omega) (by omega)
            · rw [iup_ne (by omega), iup_ne (by omega), iup_ne (by omega), refill_lo (by omega)]
              exact h.1.1 i hi
      · unfold isSc at hi
        rw [iup_ne (by omega), iup_ne (by omega), iup_ne (by omega)]
/-- the first of a ring has gone -/
theorem RowR.next {ρ ρ' : Rec} {c : Rec} {cs : List Rec} (h : RowR ρ d) (hl : Lens d) (hq : q < 5) (hk : 0 ≤ d.s (89 * q + 22) ∧ d.s (89 * q + 22) ≤ 3) (hc : d.ring q = c :: cs) (e : ρ' = iup (iup ρ (89 * q + 3) (d.s (89 * q + 3) + 1)) (840 + d.s (89 * q + 22)) (d.s (840 + d.s (89 * q + 22)) + 1)) : RowR ρ' (nextD d q) := by
  obtain ⟨h1, h2, h4, h5, h6, h7, h8⟩ := h
  have es : ∀ i : Int, i ≠ 89 * q + 3 → i ≠ 840 + d.s (89 * q + 22) → ρ' i = ρ i := fun i i0 i1 => by rw [e, iup_ne i1, iup_ne i0]
  refine ⟨fun j hj => ?_, ?_, ?_, fun p hp => ?_, fun p hp => ?_, ?_, ?_⟩
  · show ρ' j = nextS d.s q j
    have hj' := hj
    unfold isSc at hj'
    unfold nextS
    rw [e]
    by_cases c1 : j = 840 + d.s (89 * q + 22)
    · rw [c1, iup_at, iup_at]
    · rw [iup_ne c1, iup_ne c1, iup_ne (j := j) (i := 901) (by omega)]
      by_cases c2 : j = 89 * q + 3
      · rw [c2, iup_at, iup_at]
      · rw [iup_ne c2, iup_ne c2]; exact h1 j hj
  · rw [es _ (by omega) (by omega)]; exact h2
  · rw [es _ (by omega) (by omega)]; exact h4
  · show RingL ρ' _ (nextS d.s q (89 * p + 3)) (nup d.ring q (d.ring q).tail p)
    by_cases ep : p = q
    · subst ep
      rw [nextS_3 hp hk, nup_at, hc, List.tail_cons]
      have := h5 p hp
      rw [hc] at this
      exact this.tail.congr (fun j j0 j1 => es j (by omega) (by omega))
    · rw [nextS_i hk (by omega) (by omega) (by omega), nup_ne ep]
      exact (h5 p hp).congr (fun j j0 j1 => es j (by omega) (by omega))
  · show RingL ρ' _ (nextS d.s q (89 * p + 6)) (d.posts p)
    rw [nextS_i hk (by omega) (by omega) (by omega)]
    exact (h6 p hp).congr (fun j j0 j1 => es j (by omega) (by omega))
  · exact h7.congr hl.1 (fun j j0 j1 => es j (by omega) (by omega))
  · exact h8.congr hl.2 (fun j j0 j1 => es j (by omega) (by omega))
theorem t_fetchedOf {Q : Int → Tw → Prop} {c : Rec} {cs : List Rec} (h : TwA w r d) (hr : r = 20 ∨ r = 21) (hl : Lens d) (hm : d.s 900 ≤ 5) (hq : q < 5) (hq9 : (q : Int) < d.s 900) (h3 : 0 ≤ d.s (89 * q + 3) ∧ d.s (89 * q + 3) ≤ 1000000000) (hk : 0 ≤ d.s (89 * q + 22) ∧ d.s (89 * q + 22) ≤ 3) (hc : d.ring q = c :: cs)
    (hQ : ∀ w', TwA w' r (nextD d q) → TFr r w w' → (∀ f : Int, 0 ≤ f → f < 5 → w' r (89 * q + 9 + 5 * (d.s (89 * q + 3) % 8) + f) = c f) → (∀ i : Int, i ≠ 89 * q + 3 → (i < 840 ∨ 844 ≤ i) → w' r i = w r i) → Q (89 * q + 9 + 5 * (d.s (89 * q + 3) % 8)) w') : f_X4_fetchedOf r q w Q := by
  unfold f_X4_fetchedOf f_X4_ringAt f_X4_sets
  have e3 : w r (89 * q + 3) = d.s (89 * q + 3) := h.1.1 _ (Or.inl ⟨by omega, by omega, by omega⟩)
  refine t_of h hq (by omega) (by omega) ⟨⟨by omega, by omega, by omega, by omega⟩, t_of h hq (by omega) (by omega) ⟨⟨by omega, by omega⟩, ⟨⟨by omega, by omega⟩, ?_⟩⟩⟩
  have ek : tup w r (89 * q + 3) (d.s (89 * q + 3) + 1) 18 q = d.s (89 * q + 22) := by rw [tw_ne (by omega)]; exact t_kind h hq9
  rw [ek]
  have e84 : tup w r (89 * q + 3) (d.s (89 * q + 3) + 1) r (840 + d.s (89 * q + 22)) = d.s (840 + d.s (89 * q + 22)) := by rw [tw_at, iup_ne (by omega)]; exact h.1.1 _ (Or.inr ⟨by omega, by omega, by omega⟩)
  rw [e84]
  refine ⟨⟨by omega, by omega⟩, ⟨by omega, by omega⟩, ?_⟩
  have tf : TFr r w (tup (tup w r (89 * q + 3) (d.s (89 * q + 3) + 1)) r (840 + d.s (89 * q + 22)) (d.s (840 + d.s (89 * q + 22)) + 1)) := TFr.tp.trans TFr.tp
  refine hQ _ (h.row hr tf ?_ (nextS_i hk (by omega) (by omega) (by omega)) (fun p hp f f0 f1 => nextS_i hk (by omega) (by omega) (by omega))) tf (fun f f0 f1 => ?_) (fun i i0 i1 => by simp only [tw_at]; rw [iup_ne (by omega), iup_ne i0])
  · simp only [tw_at]
    exact h.1.next hl hq hk hc rfl
  · simp only [tw_at]
    rw [iup_ne (by omega), iup_ne (by omega)]
    have := h.1.2.2.2.1 q hq 0 c (by rw [hc]; rfl) f f0 f1
    rw [← this]
    congr 3
    simp
theorem tw_lays {Q : Tw → Prop} {to fm : Int} (h1 : 445 ≤ to ∧ to ≤ 488) (h2 : 0 ≤ fm ∧ fm ≤ 440) (hQ : ∀ w', TFr r w w' → (∀ i, w' r i = if to ≤ i ∧ i < to + 5 then w r (fm + (i - to)) else w r i) → Q w') : f_X4_lays r to fm w Q := by
  refine ⟨6, ?_⟩
  have lp : ∀ (m k : Nat) (w1 : Tw), k + m = 5 → TFr r w w1 → (∀ i, w1 r i = if to ≤ i ∧ i < to + k then w r (fm + (i - to)) else w r i) → f_X4_lays_2 r Q (m + 1) to fm k w1 := by
    intro m
    induction m with
    | zero =>
      intro k w1 hk f1 e1
      unfold f_X4_lays_2 f_X4_lays_2_b
      refine br_T ⟨by omega, by omega⟩ ⟨by omega, by omega⟩ (by omega) (hQ w1 f1 (fun i => ?_))
      rw [e1 i, show (to + (k : Int)) = to + 5 by omega]
    | succ m ih =>
      intro k w1 hk f1 e1
      unfold f_X4_lays_2 f_X4_lays_2_b
      refine br_F ⟨by omega, by omega⟩ ⟨by omega, by omega⟩ (by omega) ⟨⟨by omega, by omega⟩, ⟨by omega, by omega⟩, ?_⟩
      rw [show (k : Int) + 1 = ((k + 1 : Nat) : Int) by omega]
      refine ih (k + 1) _ (by omega) (f1.trans TFr.tp) (fun i => ?_)
      rw [tw_at]
      by_cases c : i = to + k
      · subst c
        rw [iup_at, e1, if_neg (by omega), if_pos ⟨by omega, by omega⟩]
        congr 1
        omega
      · rw [iup_ne c, e1 i]
        by_cases c2 : to ≤ i ∧ i < to + k
        · rw [if_pos c2, if_pos ⟨by omega, by omega⟩]
        · rw [if_neg c2, if_neg (by omega)]
  exact lp 5 0 w (by omega) TFr.refl (fun i => by rw [if_neg (by omega)])
theorem t_timeOf {Q : Int → Tw → Prop} {t : Tmf} {c : Rec} {at' : Int} (h : TwA w r d) (hr : r = 20 ∨ r = 21) (h5 : q < 5) (hq9 : (q : Int) < d.s 900) (hkk : 0 ≤ d.s (89 * q + 22) ∧ d.s (89 * q + 22) ≤ 3) (hrl : d.run.length ≤ 4) (ht : 0 ≤ d.s 827 ∧ d.s 827 ≤ 1000000000) (hR : RuleW w t) (hc : CmdOK c) (ha : 0 ≤ at' ∧ at' < 440) (hat : ∀ f : Int, 0 ≤ f → f < 5 → w r (at' + f) = c f)
    (hQ : ∀ w', TwA w' r d → TFt r w w' → w' r = w r → Q (timeD t d q c) w') : f_X4_timeOf r q at' w Q := by
  obtain ⟨c0, c1, c2, c3, c4⟩ := hc
  unfold f_X4_timeOf
  have n13 : ∀ {w1 : Tw} {i x : Int}, tup w1 13 i x r = w1 r := fun {w1 i x} => tw_ne (by omega)
  have n13k : ∀ {w1 : Tw} {i x : Int}, tup w1 13 i x 18 = w1 18 := fun {w1 i x} => tw_ne (by omega)
  refine ⟨⟨by omega, by omega⟩, ⟨by omega, by omega⟩, ⟨by omega, by omega⟩, ⟨by omega, by omega⟩, ⟨by omega, by omega⟩, ⟨by omega, by omega⟩, ⟨by omega, by omega⟩, ⟨by omega, by omega⟩, ⟨by omega, by omega⟩, ⟨by omega, by omega⟩, ⟨by omega, by omega⟩, ⟨by omega, by omega⟩, ?_⟩
  simp only [n13, n13k]
  have e1 : w r (at' + 1) = c 1 := hat 1 (by omega) (by omega)
  have e2 : w r (at' + 2) = c 2 := hat 2 (by omega) (by omega)
  have e3 : w r (at' + 3) = c 3 := hat 3 (by omega) (by omega)
  have e4 : w r 493 = (d.run.length : Nat) := h.1.2.1
  have e5 : w r 827 = d.s 827 := h.1.1 _ (Or.inr ⟨by omega, by omega, by omega⟩)
  have e6 : w 18 q = d.s (89 * q + 22) := t_kind h hq9
  rw [e1, e2, e3, e4, e5, e6]
  refine ⟨⟨by omega, by omega, by omega, by omega⟩, ⟨by omega, by omega⟩, ?_⟩
  have ea : ∀ i : Int, tup (tup (tup (tup (tup (tup (tup w 13 0 (c 1)) 13 1 (c 2)) 13 2 (c 3)) 13 3 q) 13 4 (d.s (89 * q + 22))) 13 5 (d.run.length : Nat)) 13 6 (d.s 827 % 7) 13 i = iup (iup (iup (iup (iup (iup (iup (w 13) 0 (c 1)) 1 (c 2)) 2 (c 3)) 3 q) 4 (d.s (89 * q + 22))) 5 (d.run.length : Nat)) 6 (d.s 827 % 7) i := fun i => by simp only [tw_at]
  have eo : ∀ j, j ≠ 13 → tup (tup (tup (tup (tup (tup (tup w 13 0 (c 1)) 13 1 (c 2)) 13 2 (c 3)) 13 3 q) 13 4 (d.s (89 * q + 22))) 13 5 (d.run.length : Nat)) 13 6 (d.s 827 % 7) j = w j := fun j hj => by simp only [tw_ne hj]
  generalize tup (tup (tup (tup (tup (tup (tup w 13 0 (c 1)) 13 1 (c 2)) 13 2 (c 3)) 13 3 q) 13 4 (d.s (89 * q + 22))) 13 5 (d.run.length : Nat)) 13 6 (d.s 827 % 7) = w1 at ea eo ⊢
  have b0 : w1 13 0 = c 1 := by rw [ea]; simp (disch := omega) only [iup_at, iup_ne]
  have b1 : w1 13 1 = c 2 := by rw [ea]; simp (disch := omega) only [iup_at, iup_ne]
  have b2 : w1 13 2 = c 3 := by rw [ea]; simp (disch := omega) only [iup_at, iup_ne]
  have b3 : w1 13 3 = q := by rw [ea]; simp (disch := omega) only [iup_at, iup_ne]
  have b4 : w1 13 4 = d.s (89 * q + 22) := by rw [ea]; simp (disch := omega) only [iup_at, iup_ne]
  have b5 : w1 13 5 = (d.run.length : Nat) := by rw [ea]; simp (disch := omega) only [iup_at, iup_ne]
  have b6 : w1 13 6 = d.s 827 % 7 := by rw [ea, iup_at]
  refine hR.2 w1 (eo 8 (by omega)) (eo 10 (by omega)) (fun i i0 i1 => ?_) _ (fun w2 f2 => ?_)
  · obtain rfl | rfl | rfl | rfl | rfl | rfl | rfl : i = 0 ∨ i = 1 ∨ i = 2 ∨ i = 3 ∨ i = 4 ∨ i = 5 ∨ i = 6 := by omega
    · rw [b0]; exact ⟨by omega, by omega⟩
    · rw [b1]; exact ⟨by omega, by omega⟩
    · rw [b2]; exact ⟨by omega, by omega⟩
    · rw [b3]; exact ⟨by omega, by omega⟩
    · rw [b4]; exact ⟨by omega, by omega⟩
    · rw [b5]; exact ⟨by omega, by omega⟩
    · rw [b6]; exact ⟨by omega, by omega⟩
  · rw [b0, b1, b2, b3, b4, b5, b6]
    have hrr := hR.1 (c 1) (c 2) (c 3) q (d.s (89 * q + 22)) (d.run.length : Nat) (d.s 827 % 7)
    have tf : TFt r w w2 := fun j j1 j2 j3 => by rw [f2 j j2, eo j j3]
    have er : w2 r = w r := by rw [f2 r (by omega), eo r (by omega)]
    refine ⟨⟨⟨by decide, by decide⟩, hrr⟩, ⟨⟨r1, ⟨by have := hrr.1; omega, by omega⟩⟩, hQ w2 (h.rowt hr tf (by rw [er]; exact h.1) rfl (fun _ _ _ _ _ => rfl)) tf er⟩⟩
end
