/-! PURE PROOFS: the twin's tick: looks, fetches, all of it -/
set_option maxRecDepth 100000
def sv (d : DS) : Int := d.s 840 + d.s 841 + d.s 842 + d.s 843
section
variable {w : Tw} {r : Nat} {d : DS} {B : Int} {q : Nat}
/-! numbers that a step leaves -/
theorem runL_hi (hB : 99 ≤ B) {i : Int} (hi : 838 ≤ i) : ∀ (l : List Rec) (e : DS), WF (setRun e (e.run ++ l)) B → (l.foldl runStep e).s i = e.s i
  | [], e, _ => rfl
  | c :: l, e, h => by
    rw [List.foldl_cons, runL_hi hB hi l (runStep e c) (runStep_wf hB h).1]
    obtain ⟨w0, w1, w3, w4, w5, w11, w7⟩ := h.2.2.1.2 c (List.mem_append_right _ List.mem_cons_self)
    unfold runStep finD fin1 fin2
    rw [dec_ne (w := c) (i := 7) (by decide), dec_ne (w := c) (i := 2) (by decide), dec_ne (w := c) (i := 3) (by decide), dec_ne (w := c) (i := 4) (by decide), dec_ne (w := c) (i := 8) (by decide), dec_ne (w := c) (i := 9) (by decide)]
    split
    · rfl
    · split
      · show (if c 2 = 1 then iup e.s (828 + c 3) (c 4) else e.s) i = _
        split
        · rw [iup_ne (by omega)]
        · rfl
      · show (if e.s (828 + c 3) = c 4 then iup e.s (828 + c 8) (c 9) else e.s) i = _
        have : 0 ≤ c 8 ∧ c 8 ≤ 9 := by
          rcases w7 with w7 | w7
          · omega
          · exact w7.2.2.2.1
        split
        · rw [iup_ne (by omega)]
        · rfl
theorem runAll_hi (h : WF d B) (hB : 99 ≤ B) {i : Int} (hi : 838 ≤ i) : (runAll d).s i = d.s i := runL_hi hB hi d.run (setRun d []) h
theorem postL_hi {i : Int} (hi : 445 ≤ i) (hi2 : i ≠ 902) : ∀ (l : List Rec) (e : DS) (B : Int), WF (setOut e (e.out ++ l)) B → (l.foldl postStep e).s i = e.s i
  | [], e, _, _ => rfl
  | c :: l, e, B, h => by
    rw [List.foldl_cons, postL_hi hi hi2 l (postStep e c) (B + 1) (postStep_wf h).1]
    obtain ⟨⟨w0, w0'⟩, w1, w2, w3⟩ := h.2.2.2.1 c (List.mem_append_right _ List.mem_cons_self)
    have hm : e.s 900 ≤ 5 := h.many.2
    have w0' : c 0 < e.s 900 := w0'
    unfold postStep
    split
    · show iup (iup e.s (89 * (c 0).toNat + 5) (e.s (89 * (c 0).toNat + 5) + 1)) 902 (e.s 902 + 1) i = _
      rw [iup_ne hi2, iup_ne (by omega)]
    · rfl
theorem postAll_hi (h : WF d B) {i : Int} (hi : 445 ≤ i) (hi2 : i ≠ 902) : (postAll d).s i = d.s i := postL_hi hi hi2 d.out (setOut d []) B h
theorem lookTo_hi {s : Rec} {i : Int} (hi : 445 ≤ i) : ∀ n : Nat, n ≤ 5 → lookTo s n i = s i
  | 0, _ => rfl
  | n + 1, hn => by
    show look1 (lookTo s n) n i = s i
    rw [← lookTo_hi (s := s) hi n (by omega)]
    unfold look1
    split
    · split
      · rw [iup_ne (by omega)]
      · rw [iup_ne (by omega), iup_ne (by omega), iup_ne (by omega)]
    · rfl
theorem lookD_hi (h : WF d B) {i : Int} (hi : 445 ≤ i) : (lookD d).s i = d.s i := lookTo_hi hi _ (by have := h.many; omega)
theorem fetchD_hi {t : Tmf} (h : WF d B) (hB : 9 ≤ B) (hr : (d.run.length : Int) < d.s 826) (ha : anyW d.s (d.s 900).toNat = true) : (∀ i : Int, i = 827 ∨ i = 902 → (fetchD t d).s i = d.s i) ∧ (fetchD t d).s 901 - d.s 901 = sv (fetchD t d) - sv d := by
  obtain ⟨q, s', c, cs, k1, k2, k3, k4, k5, k6, k7, -⟩ := fetchD_ok (t := t) h hB hr ha
  rw [k7]
  have h5 := h.hq k2
  have hk : 0 ≤ s' (89 * q + 22) ∧ s' (89 * q + 22) ≤ 3 := by rw [k3.1 _ (by omega)]; exact (h.l8 k2).2.2.1
  have hk2 : 0 ≤ nextS s' q (89 * q + 22) ∧ nextS s' q (89 * q + 22) ≤ 3 := by rw [nextS_i hk (by omega) (by omega) (by omega)]; exact hk
  have n1 : ∀ (s : Rec), (0 ≤ s (89 * q + 22) ∧ s (89 * q + 22) ≤ 3) → nextS s q 827 = s 827 ∧ nextS s q 902 = s 902 ∧ nextS s q 901 = s 901 + 1 := by
    intro s hk
    refine ⟨nextS_i hk (by omega) (by omega) (by omega), ?_, ?_⟩
    · unfold nextS; (simp (disch := omega) only [iup_at, iup_ne]; try rfl)
    · unfold nextS; (simp (disch := omega) only [iup_at, iup_ne]; try rfl)
  obtain ⟨a1, a2, a3⟩ := n1 s' hk
  obtain ⟨b1, b2, b3⟩ := n1 (nextS s' q) hk2
  have v1 := nextS_sv (s := s') h5 hk
  have v2 := nextS_sv (s := nextS s' q) h5 hk2
  have es : ∀ i : Int, 826 ≤ i → s' i = d.s i := fun i hi => k3.1 i (by omega)
  have e1 := es 827 (by omega)
  have e2 := es 902 (by omega)
  have e3 := es 901 (by omega)
  have e4 := es 840 (by omega)
  have e5 := es 841 (by omega)
  have e6 := es 842 (by omega)
  have e7 := es 843 (by omega)
  have one : ∀ e : DS, e.s = nextS s' q → (∀ i : Int, i = 827 ∨ i = 902 → e.s i = d.s i) ∧ e.s 901 - d.s 901 = sv e - sv d := by
    intro e he
    unfold sv
    rw [he]
    refine ⟨?_, by omega⟩
    rintro i (rfl | rfl) <;> omega
  have two : ∀ e : DS, e.s = nextS (nextS s' q) q → (∀ i : Int, i = 827 ∨ i = 902 → e.s i = d.s i) ∧ e.s 901 - d.s 901 = sv e - sv d := by
    intro e he
    unfold sv
    rw [he]
    refine ⟨?_, by omega⟩
    rintro i (rfl | rfl) <;> omega
  unfold fetchQ
  split
  · exact one _ rfl
  · split
    · cases isPair (pairs (nextD (setS d s') q) q c) with
      | none => exact one _ rfl
      | some o => exact two _ rfl
    · exact one _ rfl
theorem fetchL_hi {t : Tmf} : ∀ (f : Nat) (d : DS) (B : Int), WF d B → 9 ≤ B → (∀ i : Int, i = 827 ∨ i = 902 → (fetchL t f d).s i = d.s i) ∧ (fetchL t f d).s 901 - d.s 901 = sv (fetchL t f d) - sv d
  | 0, d, B, h, _ => ⟨fun _ _ => rfl, by unfold fetchL; omega⟩
  | f + 1, d, B, h, hB => by
    unfold fetchL
    split
    · rename_i c
      obtain ⟨q, s', c', cs, -, -, -, -, -, -, -, k1, k2, k3⟩ := fetchD_ok (t := t) h hB c.1 c.2
      obtain ⟨m1, m2⟩ := fetchL_hi (t := t) f (fetchD t d) (B + 2) k1 (by omega)
      obtain ⟨m3, m4⟩ := fetchD_hi (t := t) h hB c.1 c.2
      exact ⟨fun i hi => (m1 i hi).trans (m3 i hi), by omega⟩
    · exact ⟨fun _ _ => rfl, by omega⟩
theorem t_tick_75 {Q : Tw → Prop} (hr : r = 20 ∨ r = 21) (hw : WF d B) (hB : B ≤ 1000000000) : ∀ (m k : Nat) (w : Tw), k + m = (d.s 900).toNat → TwA w r (setS d (lookTo d.s k)) →
    (∀ w', TwA w' r (lookD d) → TFr r w w' → ∃ fl, f_X4_tickGoes_163 r Q fl (sv (lookD d)) w') → f_X4_tickGoes_75 r Q (m + 1) k w := by
  have hm := hw.many
  intro m
  induction m with
  | zero =>
    intro k w hk h hQ
    have e14 : w 14 0 = d.s 900 := h.2.1.trans (lookTo_hi (by omega) k (by omega))
    unfold f_X4_tickGoes_75 f_X4_tickGoes_75_b
    rw [e14]
    have h' : TwA w r (lookD d) := by unfold lookD; rw [show (d.s 900).toNat = k by omega]; exact h
    exact br_T ⟨by omega, by omega⟩ ⟨by omega, by omega⟩ (by omega) (t_fetchedAll h' (hQ w h' TFr.refl))
  | succ m ih =>
    intro k w hk h hQ
    obtain ⟨hw1, e9⟩ := lookTo_wf hw k (by omega)
    have hk5 : k < 5 := by omega
    have e14 : w 14 0 = d.s 900 := h.2.1.trans (lookTo_hi (by omega) k (by omega))
    have nx : ∀ w', TwA w' r (setS d (look1 (lookTo d.s k) k)) → TFr r w w' → f_X4_tickGoes_75 r Q (m + 1) ((k : Int) + 1) w' := by
      intro w' g1 g2
      rw [show (k : Int) + 1 = ((k + 1 : Nat) : Int) by omega]
      exact ih (k + 1) w' (by omega) g1 (fun w2 g3 g4 => hQ w2 g3 (g2.trans g4))
    have h9 : (k : Int) < lookTo d.s k 900 := by omega
    have e19 : w 19 k = lookTo d.s k (89 * k + 23) := (h.2.2 k h9).2.2.2
    have hm1 : lookTo d.s k 900 ≤ 5 := by omega
    generalize lookTo d.s k = s at h nx hw1 e9 h9 e19 hm1
    have hl : Lens (setS d s) := hw1.lens
    have hwl : WLs s k := (hw1.wl hk5).1
    unfold WLs at hwl
    unfold look1 at nx
    unfold f_X4_tickGoes_75 f_X4_tickGoes_75_b f_X4_tickGoes_152 f_X4_sets
    rw [e14]
    refine br_F ⟨by omega, by omega⟩ ⟨by omega, by omega⟩ (by omega) ⟨⟨by omega, by omega⟩, ?_⟩
    rw [e19]
    by_cases c1 : s (89 * k + 23) = 1
    · refine br_F ⟨by omega, by omega⟩ r1 (by omega) (t_of h hk5 (by omega) (by omega) ?_)
      show br (s (89 * k + 8)) 1 (¬ s (89 * k + 8) = 1) _ _
      by_cases c2 : s (89 * k + 8) = 1
      · rw [if_pos ⟨c1, c2⟩] at nx
        refine br_F ⟨by omega, by omega⟩ r1 (by omega) (t_of h hk5 (by omega) (by omega) ⟨⟨by omega, by omega⟩, ?_⟩)
        have a1 := h.sc (i := 89 * k + 2) (x := s (89 * k + 1)) hr hm1 hl (Or.inl ⟨by omega, by omega, by omega⟩) (by omega)
        show f_X4_of r k 2 (tup w r (89 * k + 2) (s (89 * k + 1))) _
        have b1 := hw1.1.1 (89 * k + 1)
        have b3 := hw1.1.1 (89 * k + 3)
        have b1' : -B ≤ s (89 * k + 1) ∧ s (89 * k + 1) ≤ B := b1
        have b3' : -B ≤ s (89 * k + 3) ∧ s (89 * k + 3) ≤ B := b3
        refine t_of a1 hk5 (by omega) (by omega) (t_of a1 hk5 (by omega) (by omega) ?_)
        show br (iup s (89 * k + 2) (s (89 * k + 1)) (89 * k + 2)) (iup s (89 * k + 2) (s (89 * k + 1)) (89 * k + 3)) (¬ iup s (89 * k + 2) (s (89 * k + 1)) (89 * k + 2) = iup s (89 * k + 2) (s (89 * k + 1)) (89 * k + 3)) _ _
        rw [iup_at, iup_ne (by omega)]
        by_cases c3 : s (89 * k + 3) < s (89 * k + 1)
        · rw [if_pos c3] at nx
          exact br_T ⟨by omega, by omega⟩ ⟨by omega, by omega⟩ (by omega) (nx _ a1 TFr.tp)
        · rw [if_neg c3] at nx
          refine br_F ⟨by omega, by omega⟩ ⟨by omega, by omega⟩ (by omega) (t_of a1 hk5 (by omega) (by omega) ⟨⟨by omega, by omega⟩, ⟨by omega, by omega⟩, ?_⟩)
          have a2 := a1.sc (i := 89 * k + 7) (x := s (89 * k + 1)) hr (by show iup s _ _ 900 ≤ 5; rw [iup_ne (by omega)]; exact hm1) hl (Or.inl ⟨by omega, by omega, by omega⟩) (by omega)
          have a3 := a2.sc (i := 89 * k + 8) (x := 0) hr (by show iup (iup s _ _) _ _ 900 ≤ 5; rw [iup_ne (by omega), iup_ne (by omega)]; exact hm1) hl (Or.inl ⟨by omega, by omega, by omega⟩) (by omega)
          show f_X4_tickGoes_75 r Q (m + 1) ((k : Int) + 1) (tup (tup (tup w r (89 * k + 2) (s (89 * k + 1))) r (89 * k + 7) (iup s (89 * k + 2) (s (89 * k + 1)) (89 * k + 2))) r (89 * k + 8) 0)
          rw [iup_at]
          exact nx _ a3 ((TFr.tp.trans TFr.tp).trans TFr.tp)
      · rw [if_neg (fun z => c2 z.2)] at nx
        exact br_T ⟨by omega, by omega⟩ r1 c2 (nx w h TFr.refl)
    · rw [if_neg (fun z => c1 z.1)] at nx
      exact br_T ⟨by omega, by omega⟩ r1 c1 (nx w h TFr.refl)
theorem t_tick_163 {Q : Tw → Prop} {t : Tmf} (hr : r = 20 ∨ r = 21) (S : Int) : ∀ (f : Nat) (d : DS) (B : Int) (w : Tw), tot d < f → TwA w r d → WF d B → 9 ≤ B → B + 2 * f ≤ 900000000 → RuleW w t →
    (∀ w', TwA w' r (setS (fetchL t f d) (iup (fetchL t f d).s 827 ((fetchL t f d).s 827 + 1))) → (∀ j, j ≠ r → j ≠ 12 → j ≠ 13 → j ≠ 25 → w' j = w j) → w' 25 0 = w 25 0 + (sv (fetchL t f d) - S) → Q w') → f_X4_tickGoes_163 r Q f S w := by
  intro f
  induction f with
  | zero => intro d B w ht; omega
  | succ f ih =>
    intro d B w ht h hw hB9 hB hR hQ
    have e493 : w r 493 = (d.run.length : Nat) := h.1.2.1
    have e826 : w r 826 = d.s 826 := h.1.1 _ (Or.inr ⟨by omega, by omega, by omega⟩)
    have hd := hw.1.2.2.1
    have hl4 := hw.2.2.1.1
    have htb := hw.1.1 827
    unfold f_X4_tickGoes_163 f_X4_tickGoes_163_b
    refine ⟨⟨by omega, by omega⟩, ⟨by omega, by omega⟩, ?_⟩
    rw [e493, e826]
    have fin : (¬ ((d.run.length : Int) < d.s 826 ∧ anyW d.s (d.s 900).toNat = true)) → f_X4_tickGoes_192 r S w Q := by
      intro hc
      have e : fetchL t (f + 1) d = d := by unfold fetchL; rw [if_neg hc]
      rw [e] at hQ
      unfold f_X4_tickGoes_192
      refine t_fetchedAll h ?_
      unfold tS
      have a1 := h.fld (j := 25) (i := 0) (x := w 25 0 + (sv d - S)) hr (by omega)
      refine ⟨⟨by omega, by omega⟩, ⟨by omega, by omega⟩, ?_⟩
      have e827 : tup w 25 0 (w 25 0 + (d.s 840 + d.s 841 + d.s 842 + d.s 843 - S)) r 827 = d.s 827 := by rw [tw_ne (by omega)]; exact h.1.1 _ (Or.inr ⟨by omega, by omega, by omega⟩)
      rw [e827]
      refine hQ _ (a1.sc hr hw.many.2 hw.lens (Or.inr ⟨by omega, by omega, by omega⟩) (by omega)) (fun j j1 j2 j3 j4 => ?_) ?_
      · rw [tw_ne j1, tw_ne j4]
      · rw [tw_ne (by omega), tw_at, iup_at]; rfl
    refine ⟨⟨⟨by omega, by omega⟩, ⟨by omega, by omega⟩⟩, fun c1 => fin (fun z => by omega), fun c1 => t_isAnyWork h hw (by omega) ?_⟩
    cases hany : anyW d.s (d.s 900).toNat with
    | false => exact brB_F (fin (fun z => by rw [hany] at z; cases z.2))
    | true =>
      have hc : (d.run.length : Int) < d.s 826 ∧ anyW d.s (d.s 900).toNat = true := ⟨by omega, hany⟩
      have e : fetchL t (f + 1) d = fetchL t f (fetchD t d) := by
        show (if (d.run.length : Int) < d.s 826 ∧ anyW d.s (d.s 900).toNat = true then fetchL t f (fetchD t d) else d) = _
        rw [if_pos hc]
      rw [e] at hQ
      obtain ⟨q, s', c', cs, -, -, -, -, -, -, -, k1, k2, k3⟩ := fetchD_ok (t := t) hw hB9 hc.1 hc.2
      refine brB_T (t_fetches h hr hw (by omega) hB9 hR hc.1 hc.2 (fun w1 g1 f1 => ?_))
      refine ih (fetchD t d) (B + 2) w1 (by omega) g1 k1 (by omega) (by omega) (hR.fr f1 hr) (fun w' g' f' c' => hQ w' g' (fun j j1 j2 j3 j4 => (f' j j1 j2 j3 j4).trans (f1 j j1 j2 j3)) ?_)
      rw [c', f1 25 (by omega) (by omega) (by omega)]
theorem t_tick {Q : Tw → Prop} {t : Tmf} (h : TwA w r d) (hr : r = 20 ∨ r = 21) (hw : WF d B) (hB : B ≤ 800000000 - 100) (hB9 : 99 ≤ B) (hR : RuleW w t)
    (hQ : ∀ w', TwA w' r (tickD t d) → TFk r w w' → w' 24 0 = w 24 0 + ((tickD t d).s 902 - d.s 902) → w' 25 0 = w 25 0 + ((tickD t d).s 901 - d.s 901) → Q w') : f_X4_tickGoes r w Q := by
  have w1 := hw.runs hB9
  have w2 := w1.posts
  have w3 := w2.look
  have ht := tot_le w3
  have hm2 := w2.many
  refine t_tick_2 h hr hw.lens (fun wa ga fa => ⟨d.run.length + 1, ?_⟩)
  refine t_tick_32 hr hB9 d.run (setRun d []) wa hw ga (fun wb gb fb => ?_)
  have gb' : TwA wb r (runAll d) := gb
  refine t_posts gb' hr w1 (by omega) (fun wc gc fc cc => ⟨((postAll (runAll d)).s 900).toNat + 1, ?_⟩)
  refine t_tick_75 hr w2 (by omega) ((postAll (runAll d)).s 900).toNat 0 wc (by omega) gc (fun wd gd fd => ⟨40, ?_⟩)
  have f1 : TFk r w wd := (fa.trans fb).k.trans (TFk.trans (fun j j1 j2 j3 j4 j5 => fc j j1 j4) fd.k)
  refine t_tick_163 hr _ 40 _ _ wd (by omega) gd w3 (by omega) (by omega) (hR.fk f1 hr) (fun we ge fe ce => ?_)
  obtain ⟨m1, m2⟩ := fetchL_hi (t := t) 40 (lookD (postAll (runAll d))) _ w3 (by omega)
  have e902 : (tickD t d).s 902 = (fetchL t 40 (lookD (postAll (runAll d)))).s 902 := by
    show iup (fetchL t 40 (lookD (postAll (runAll d)))).s 827 ((fetchL t 40 (lookD (postAll (runAll d)))).s 827 + 1) 902 = _
    rw [iup_ne (by decide)]
  have e901 : (tickD t d).s 901 = (fetchL t 40 (lookD (postAll (runAll d)))).s 901 := by
    show iup (fetchL t 40 (lookD (postAll (runAll d)))).s 827 ((fetchL t 40 (lookD (postAll (runAll d)))).s 827 + 1) 901 = _
    rw [iup_ne (by decide)]
  refine hQ we ge (f1.trans (fun j j1 j2 j3 j4 j5 => fe j j1 j2 j3 j5)) ?_ ?_
  · rw [fe 24 (by omega) (by omega) (by omega) (by omega), fd 24 (by omega), cc, fb 24 (by omega), fa 24 (by omega), e902, m1 902 (Or.inr rfl), lookD_hi w2 (by omega), runAll_hi hw hB9 (by omega)]
  · rw [ce, fd 25 (by omega), fc 25 (by omega) (by omega), fb 25 (by omega), fa 25 (by omega), e901]
    have l1 := lookD_hi w2 (i := 901) (by omega)
    have l2 := postAll_hi w1 (i := 901) (by omega) (by omega)
    have l3 := runAll_hi hw hB9 (i := 901) (by omega)
    omega
end
