/-! PURE PROOFS: the twin fetches -/
set_option maxRecDepth 100000
section
variable {w : Tw} {r : Nat} {d : DS} {B : Int} {q : Nat}
theorem RowR.junk {ρ ρ' : Rec} (h : RowR ρ d) (hl : Lens d) (hn : d.run.length < 4) (e : ∀ i : Int, (i < 445 + 12 * (d.run.length : Nat) ∨ 445 + 12 * (d.run.length : Nat) + 12 ≤ i) → ρ' i = ρ i) : RowR ρ' d := by
  obtain ⟨h1, h2, h4, h5, h6, h7, h8⟩ := h
  refine ⟨fun j hj => ?_, ?_, ?_, fun q hq => ?_, fun q hq => ?_, ?_, ?_⟩
  · have hj' := hj
    unfold isSc at hj'
    rw [e j (by omega)]; exact h1 j hj
  · rw [e 493 (by omega)]; exact h2
  · rw [e 814 (by omega)]; exact h4
  · exact (h5 q hq).congr (fun j j0 j1 => e j (by omega))
  · exact (h6 q hq).congr (fun j j0 j1 => e j (by omega))
  · intro k c hc f f0 f1 f2
    have := get_lt hc
    rw [e _ (by omega)]
    exact h7 k c hc f f0 f1 f2
  · exact h8.congr hl.2 (fun j j0 j1 => e j (by omega))
theorem RowR.runs {ρ ρ' : Rec} {v : Rec} (h : RowR ρ d) (hl : Lens d) (hn : d.run.length < 4) (e1 : ∀ f : Int, 0 ≤ f → f < 12 → (f ≤ 5 ∨ f = 7 ∨ f = 11 ∨ 0 ≤ v 7) → ρ' (445 + 12 * (d.run.length : Nat) + f) = v f) (e2 : ρ' 493 = (d.run.length : Nat) + 1) (e3 : ∀ i : Int, i ≠ 493 → (i < 445 + 12 * (d.run.length : Nat) ∨ 445 + 12 * (d.run.length : Nat) + 12 ≤ i) → ρ' i = ρ i) : RowR ρ' (setRun d (d.run ++ [v])) := by
  obtain ⟨h1, h2, h4, h5, h6, h7, h8⟩ := h
  refine ⟨fun j hj => ?_, ?_, ?_, fun q hq => ?_, fun q hq => ?_, ?_, ?_⟩
  · have hj' := hj
    unfold isSc at hj'
    rw [e3 j (by omega) (by omega)]; exact h1 j hj
  · rw [e2]; show _ = (((d.run ++ [v]).length : Nat) : Int); rw [List.length_append, List.length_singleton]; omega
  · rw [e3 814 (by omega) (by omega)]; exact h4
  · exact (h5 q hq).congr (fun j j0 j1 => e3 j (by omega) (by omega))
  · exact (h6 q hq).congr (fun j j0 j1 => e3 j (by omega) (by omega))
  · exact h7.snoc e1 (fun j j0 j1 => e3 j (by omega) (by omega))
  · exact h8.congr hl.2 (fun j j0 j1 => e3 j (by omega) (by omega))
theorem wk1_at {c : Rec} {x t f : Int} (f0 : 1 ≤ f) (f1 : f ≤ 5) : wk1 x c t f = c (f - 1) := by
  unfold wk1; rw [if_neg (by omega), if_neg (by omega), if_neg (by omega), if_pos (by omega)]
theorem wk2_at {c o : Rec} {x t f : Int} (f0 : 1 ≤ f) (f1 : f ≤ 5) : wk2 x c o t f = c (f - 1) := by
  unfold wk2; rw [if_neg (by omega), if_neg (by omega), if_pos (by omega)]
theorem wk2_at2 {c o : Rec} {x t f : Int} (f0 : 6 ≤ f) (f1 : f ≤ 10) : wk2 x c o t f = o (f - 6) := by
  unfold wk2; rw [if_neg (by omega), if_neg (by omega), if_neg (by omega)]
theorem t_fetchQ {Q : Tw → Prop} {t : Tmf} {c : Rec} {cs : List Rec} (hr : r = 20 ∨ r = 21) (hw : WF d B) (hB : B ≤ 900000000) (hq9 : (q : Int) < d.s 900) (hrun : (d.run.length : Int) < d.s 826) (hwk : hasW d.s q = true) (hc : d.ring q = c :: cs) (h : TwA w r (nextD d q)) (hR : RuleW w t)
    (hat : ∀ f : Int, 0 ≤ f → f < 5 → w r (89 * q + 9 + 5 * (d.s (89 * q + 3) % 8) + f) = c f) (hQ : ∀ w', TwA w' r (fetchQ t (nextD d q) q c) → TFt r w w' → Q w') :
    rdA w r 844 (89 * q + 9 + 5 * (d.s (89 * q + 3) % 8) + 0) (fun _ => rdA w r 844 (89 * q + 9 + 5 * (d.s (89 * q + 3) % 8) + 1) (fun _ => rdA w r 844 (89 * q + 9 + 5 * (d.s (89 * q + 3) % 8) + 4) (fun _ => br (w r (89 * q + 9 + 5 * (d.s (89 * q + 3) % 8) + 4)) 1 (¬ (w r (89 * q + 9 + 5 * (d.s (89 * q + 3) % 8) + 4)) = (1 : Int)) (f_X4_of r q 3 w (fun x43 w42 => f_X4_ringAt q x43 w42 (fun x45 w44 => br (w r (89 * q + 9 + 5 * (d.s (89 * q + 3) % 8) + 1)) 2 (¬ (w r (89 * q + 9 + 5 * (d.s (89 * q + 3) % 8) + 1)) = (2 : Int)) (f_X4_fetches_95 r q (89 * q + 9 + 5 * (d.s (89 * q + 3) % 8)) (w r (89 * q + 9 + 5 * (d.s (89 * q + 3) % 8) + 0)) (w r (89 * q + 9 + 5 * (d.s (89 * q + 3) % 8) + 1)) w44 Q) (f_X4_hasWork r q w44 (fun x47 w46 => brB x47 (rdA w46 r 844 (x45 + 1) (fun _ => br (w46 r (x45 + 1)) 3 (¬ (w46 r (x45 + 1)) = (3 : Int)) (f_X4_fetches_95 r q (89 * q + 9 + 5 * (d.s (89 * q + 3) % 8)) (w r (89 * q + 9 + 5 * (d.s (89 * q + 3) % 8) + 0)) (w r (89 * q + 9 + 5 * (d.s (89 * q + 3) % 8) + 1)) w46 Q) (rdA w46 r 844 (x45 + 4) (fun _ => br0 (w46 r (x45 + 4)) (¬ (w46 r (x45 + 4)) = 0) (f_X4_fetches_95 r q (89 * q + 9 + 5 * (d.s (89 * q + 3) % 8)) (w r (89 * q + 9 + 5 * (d.s (89 * q + 3) % 8) + 0)) (w r (89 * q + 9 + 5 * (d.s (89 * q + 3) % 8) + 1)) w46 Q) (f_X4_fetches_96 r q (89 * q + 9 + 5 * (d.s (89 * q + 3) % 8)) (w r (89 * q + 9 + 5 * (d.s (89 * q + 3) % 8) + 0)) (w r (89 * q + 9 + 5 * (d.s (89 * q + 3) % 8) + 1)) true w46 Q))))) (f_X4_fetches_95 r q (89 * q + 9 + 5 * (d.s (89 * q + 3) % 8)) (w r (89 * q + 9 + 5 * (d.s (89 * q + 3) % 8) + 0)) (w r (89 * q + 9 + 5 * (d.s (89 * q + 3) % 8) + 1)) w46 Q)))))) (f_X4_comesOut r q (w r (89 * q + 9 + 5 * (d.s (89 * q + 3) % 8) + 0)) 1 0 w (fun w48 => Q w48))))) := by
  have h5 := hw.hq hq9
  have hm := hw.many
  have hkd := (hw.l8 hq9).2.2.1
  have hd := hw.1.2.2.1
  have hnn := hw.nn h5
  have hb3 := hw.1.1 (89 * q + 3)
  have hb2 := hw.1.1 (89 * q + 2)
  have hl0 := hw.lens
  have hl : Lens (nextD d q) := hl0
  have hrl : d.run.length < 4 := by omega
  have hok := fetchQ_ok (t := t) hw hq9 hrun hwk hc
  have e900 : (nextD d q).s 900 = d.s 900 := nextS_i hkd (by omega) (by omega) (by omega)
  have e3 : (nextD d q).s (89 * q + 3) = d.s (89 * q + 3) + 1 := nextS_3 h5 hkd
  have e2 : (nextD d q).s (89 * q + 2) = d.s (89 * q + 2) := nextS_i hkd (by omega) (by omega) (by omega)
  have e22 : (nextD d q).s (89 * q + 22) = d.s (89 * q + 22) := nextS_i hkd (by omega) (by omega) (by omega)
  have hcok : CmdOK c := (hw.wl h5).2.2.2.1 c (by rw [hc]; exact List.mem_cons_self)
  obtain ⟨c0, c1, c2, c3, c4⟩ := hcok
  have a0 := hat 0 (by omega) (by omega)
  have a1 := hat 1 (by omega) (by omega)
  have a4 := hat 4 (by omega) (by omega)
  generalize hA : 89 * (q : Int) + 9 + 5 * (d.s (89 * q + 3) % 8) = A at hat a0 a1 a4 ⊢
  have hAr : 0 ≤ A ∧ A + 5 ≤ 89 * (q : Int) + 49 := by omega
  rw [a0, a1, a4]
  have rc1 : R32 (c 1) := ⟨by omega, by omega⟩
  have rc4 : R32 (c 4) := ⟨by omega, by omega⟩
  have r2 : R32 2 := ⟨by decide, by decide⟩
  have r3 : R32 3 := ⟨by decide, by decide⟩
  refine ⟨⟨by omega, by omega⟩, ⟨by omega, by omega⟩, ⟨by omega, by omega⟩, ?_⟩
  -- out of the ring
  have out : ∀ st : Int, fetchQ t (nextD d q) q c = outD (nextD d q) (rec4 q (c 0) st 0) → f_X4_comesOut r q (c 0) st 0 w (fun w48 => Q w48) := by
    intro st he
    rw [he] at hok hQ
    have hol : (outD (nextD d q) (rec4 q (c 0) st 0)).out.length ≤ 80 := hok.1.outlen
    have hol2 : (d.out ++ [rec4 q (c 0) st 0]).length ≤ 80 := hol
    rw [List.length_append, List.length_singleton] at hol2
    exact t_comesOut h hr hl (by show d.out.length < 80; omega) (fun w' g' f' => hQ w' g' f'.t)
  unfold fetchQ at hQ hok out
  by_cases h4 : c 4 = 1
  · refine br_F rc4 r1 (by omega) (out 1 ?_)
    rw [if_pos h4]
  · refine br_T rc4 r1 h4 ?_
    rw [if_neg h4] at hQ hok out
    refine t_of h h5 (by omega) (by omega) ?_
    rw [e3]
    unfold f_X4_ringAt
    refine ⟨⟨by omega, by omega, by omega, by omega⟩, ?_⟩
    have hkd' : 0 ≤ (nextD d q).s (89 * q + 22) ∧ (nextD d q).s (89 * q + 22) ≤ 3 := by rw [e22]; exact hkd
    have ht : 0 ≤ (nextD d q).s 827 ∧ (nextD d q).s 827 ≤ 1000000000 := by
      rw [show (nextD d q).s 827 = d.s 827 from nextS_i hkd (by omega) (by omega) (by omega)]
      have := hw.1.2.2.2.1
      have := hw.1.1 827
      omega
    have hq9' : (q : Int) < (nextD d q).s 900 := by rw [e900]; exact hq9
    -- the work is laid
    have wk : ∀ (K : Int → Int → Tw → Prop), (∀ w4, TwA w4 r (nextD d q) → TFt r w w4 → w4 r 493 = (d.run.length : Nat) → (∀ i : Int, (i < 445 + 12 * (d.run.length : Nat) ∨ 445 + 12 * (d.run.length : Nat) + 12 ≤ i) → w4 r i = w r i) → w4 r (445 + 12 * (d.run.length : Nat) + 0) = q → (∀ f : Int, 1 ≤ f → f ≤ 5 → w4 r (445 + 12 * (d.run.length : Nat) + f) = c (f - 1)) → w4 r (445 + 12 * (d.run.length : Nat) + 7) = -1 → K (timeD t (nextD d q) q c) (445 + 12 * (d.run.length : Nat)) w4) →
        f_X4_timeOf r q A w (fun x29 w28 => rdA w28 r 844 493 (fun _ => f_X4_runAt (w28 r 493) w28 (fun x31 w30 => wrA w30 r 844 (x31 + 0) q (fun w32 => f_X4_lays r (x31 + 1) A w32 (fun w33 => wrA w33 r 844 ((x31 + 6) + 1) (-1) (fun w34 => K x29 x31 w34)))))) := by
      intro K hK
      refine t_timeOf (c := c) h hr h5 hq9' hkd' hl.1 ht hR ⟨c0, c1, c2, c3, c4⟩ (by omega) hat (fun w1 g1 f1 er => ?_)
      have e493 : w1 r 493 = (d.run.length : Nat) := g1.1.2.1
      unfold f_X4_runAt
      refine ⟨⟨by omega, by omega⟩, ?_⟩
      rw [e493]
      refine ⟨⟨by omega, by omega⟩, tw_lays (by omega) (by omega) (fun w3 f3 e3' => ⟨⟨by omega, by omega⟩, ?_⟩)⟩
      have tf : TFt r w (tup w3 r (445 + 12 * (d.run.length : Nat) + 6 + 1) (-1)) := f1.trans (TFr.tp.trans (f3.trans TFr.tp)).t
      have row : ∀ i : Int, tup w3 r (445 + 12 * (d.run.length : Nat) + 6 + 1) (-1) r i = if i = 445 + 12 * (d.run.length : Nat) + 7 then -1 else if 445 + 12 * (d.run.length : Nat) + 1 ≤ i ∧ i < 445 + 12 * (d.run.length : Nat) + 1 + 5 then w r (A + (i - (445 + 12 * (d.run.length : Nat) + 1))) else if i = 445 + 12 * (d.run.length : Nat) then q else w r i := by
        intro i
        rw [tw_at]
        by_cases i7 : i = 445 + 12 * (d.run.length : Nat) + 7
        · rw [if_pos i7, i7, show (445 + 12 * ((d.run.length : Nat) : Int) + 6 + 1) = 445 + 12 * (d.run.length : Nat) + 7 by omega, iup_at]
        · rw [if_neg i7, iup_ne (by omega), e3' i]
          by_cases c5 : 445 + 12 * (d.run.length : Nat) + 1 ≤ i ∧ i < 445 + 12 * (d.run.length : Nat) + 1 + 5
          · rw [if_pos c5, if_pos c5, tw_at, iup_ne (by omega), er]
          · rw [if_neg c5, if_neg c5, tw_at]
            by_cases c6 : i = 445 + 12 * (d.run.length : Nat)
            · rw [if_pos c6, c6, show (445 + 12 * ((d.run.length : Nat) : Int) + 0) = 445 + 12 * (d.run.length : Nat) by omega, iup_at]
            · rw [if_neg c6, iup_ne (by omega), er]
      have e4 : ∀ i : Int, (i < 445 + 12 * (d.run.length : Nat) ∨ 445 + 12 * (d.run.length : Nat) + 12 ≤ i) → tup w3 r (445 + 12 * (d.run.length : Nat) + 6 + 1) (-1) r i = w r i := fun i hi => by rw [row i, if_neg (by omega), if_neg (by omega), if_neg (by omega)]
      refine hK _ (h.rowt hr tf (h.1.junk hl hrl e4) rfl (fun _ _ _ _ _ => rfl)) tf ?_ e4 ?_ (fun f f0 f1 => ?_) ?_
      · rw [e4 493 (by omega)]; exact h.1.2.1
      · rw [row, if_neg (by omega), if_neg (by omega), if_pos (by omega)]
      · rw [row, if_neg (by omega), if_pos ⟨by omega, by omega⟩, show A + (445 + 12 * ((d.run.length : Nat) : Int) + f - (445 + 12 * (d.run.length : Nat) + 1)) = A + (f - 1) by omega]
        exact hat (f - 1) (by omega) (by omega)
      · rw [row, if_pos rfl]
    -- not paired, or nothing of a pair
    have no : isPair (pairs (nextD d q) q c) = none → f_X4_fetches_95 r q A (c 0) (c 1) w Q := by
      intro hp
      unfold f_X4_fetches_95 f_X4_fetches_96 f_X4_fetches_109 f_X4_fetches_115
      rw [hp] at hQ hok out
      simp only at hQ hok out
      by_cases h2 : c 1 = 2
      · rw [if_pos (Or.inl h2)] at out
        exact br_F rc1 r2 (by omega) (brB_F (out 4 rfl))
      · refine br_T rc1 r2 h2 ?_
        by_cases h3 : c 1 = 3
        · rw [if_pos (Or.inr h3)] at out
          exact br_F rc1 r3 (by omega) (out 4 rfl)
        · rw [if_neg (by omega)] at hQ
          refine br_T rc1 r3 h3 (wk (fun x29 x31 w34 => brB false (f_X4_fetchedOf r q w34 (fun x36 w35 => f_X4_lays r (x31 + 6) x36 w35 (fun w37 => f_X4_fetches_190 r x29 x31 w37 Q))) (f_X4_fetches_190 r x29 x31 w34 Q)) (fun w4 g4 f4 e493 e4 k0 k1 k7 => brB_F ?_))
          unfold f_X4_fetches_190
          refine ⟨⟨by omega, by omega⟩, ⟨by omega, by omega⟩, ⟨by omega, by omega⟩, ?_⟩
          have tf : TFr r w4 (tup (tup w4 r (445 + 12 * (d.run.length : Nat) + 11) (timeD t (nextD d q) q c)) r 493 (tup w4 r (445 + 12 * (d.run.length : Nat) + 11) (timeD t (nextD d q) q c) r 493 + 1)) := TFr.tp.trans TFr.tp
          refine hQ _ (g4.row hr tf ?_ rfl (fun _ _ _ _ _ => rfl)) (f4.trans tf.t)
          simp only [tw_at]
          rw [iup_ne (j := 493) (i := 445 + 12 * ((d.run.length : Nat) : Int) + 11) (by omega), e493]
          refine g4.1.runs hl hrl (fun f f0 f1 f2 => ?_) (by rw [iup_at]; rfl) (fun i i0 i1 => ?_)
          · show iup (iup (w4 r) (445 + 12 * ((d.run.length : Nat) : Int) + 11) (timeD t (nextD d q) q c)) 493 (((d.run.length : Nat) : Int) + 1) (445 + 12 * ((d.run.length : Nat) : Int) + f) = wk1 q c (timeD t (nextD d q) q c) f
            rw [iup_ne (by omega)]
            by_cases c11 : f = 11
            · subst c11; rw [iup_at]; rfl
            · rw [iup_ne (by omega)]
              by_cases c00 : f = 0
              · subst c00; rw [k0]; rfl
              · by_cases c7 : f = 7
                · subst c7; rw [k7]; rfl
                · have f2' : f ≤ 5 := by
                    rcases f2 with f2 | f2 | f2 | f2
                    · exact f2
                    · exact absurd f2 c7
                    · exact absurd f2 c11
                    · have : (wk1 q c (timeD t (nextD d q) q c) 7 : Int) = -1 := rfl
                      omega
                  rw [k1 f (by omega) f2', wk1_at (by omega) f2']
          · have i1 : i < 445 + 12 * ((d.run.length : Nat) : Int) ∨ 445 + 12 * ((d.run.length : Nat) : Int) + 12 ≤ i := i1
            rw [iup_ne i0, iup_ne (by omega)]
    by_cases h2 : c 1 = 2
    · refine br_F rc1 r2 (by omega) ?_
      -- has it more work
      refine t_of h h5 (by omega) (by omega) (t_of h h5 (by omega) (by omega) ?_)
      rw [e2, e3]
      refine ⟨⟨⟨by omega, by omega⟩, ⟨by omega, by omega⟩⟩, fun cc => ?_, fun cc => ?_⟩
      · refine brB_F (no ?_)
        unfold pairs
        rw [if_neg]
        · rfl
        · rintro ⟨z1, z2⟩
          have := of_decide_eq_true z2
          omega
      · have hw2 : hasW (nextD d q).s q = true := decide_eq_true (by omega)
        refine brB_T ?_
        have eo : (nextD d q).ring q = cs := by
          show nup d.ring q (d.ring q).tail q = cs
          rw [nup_at, hc]; rfl
        have hlen := (hw.wl h5).2.1
        rw [hc, List.length_cons] at hlen
        have hchain := (hw.wl h5).1.1
        cases cs with
        | nil => simp only [List.length_nil] at hlen; omega
        | cons o cs' =>
          have ook : CmdOK o := (hw.wl h5).2.2.2.1 o (by rw [hc]; exact List.mem_cons_of_mem _ List.mem_cons_self)
          have epr : pairs (nextD d q) q c = some o := by
            unfold pairs
            rw [if_pos ⟨h2, hw2⟩, eo]
            rfl
          have hn : ∀ f : Int, 0 ≤ f → f < 5 → w r (89 * q + 9 + 5 * ((d.s (89 * q + 3) + 1) % 8) + f) = o f := by
            intro f f0 f1
            have := h.1.2.2.2.1 q h5 0 o (by rw [eo]; rfl) f f0 f1
            rw [e3] at this
            rw [← this]
            congr 3
            simp
          refine ⟨⟨by omega, by omega⟩, ?_⟩
          rw [hn 1 (by omega) (by omega)]
          by_cases p3 : o 1 = 3
          · refine br_F ⟨by omega, by omega⟩ r3 (by omega) ⟨⟨by omega, by omega⟩, ?_⟩
            rw [hn 4 (by omega) (by omega)]
            by_cases p4 : o 4 = 0
            · refine br0_F ⟨by omega, by omega⟩ (by omega) ?_
              have eip : isPair (pairs (nextD d q) q c) = some o := by
                rw [epr]
                unfold isPair
                simp only
                rw [if_pos ⟨p3, by omega⟩]
              rw [if_pos (Or.inl h2), eip] at hQ hok
              simp only at hQ hok
              unfold f_X4_fetches_96 f_X4_fetches_109
              refine br_F rc1 r2 (by omega) (brB_T (br_T rc1 r3 (by omega) (wk (fun x29 x31 w34 => brB true (f_X4_fetchedOf r q w34 (fun x36 w35 => f_X4_lays r (x31 + 6) x36 w35 (fun w37 => f_X4_fetches_190 r x29 x31 w37 Q))) (f_X4_fetches_190 r x29 x31 w34 Q)) (fun w4 g4 f4 e493 e4 k0 k1 k7 => brB_T ?_))))
              refine t_fetchedOf (c := o) (cs := cs') g4 hr hl (by rw [e900]; exact hm.2) h5 hq9' (by rw [e3]; omega) hkd' eo (fun w6 g6 f6 c6 e6 => ?_)
              rw [e3] at c6 ⊢
              refine tw_lays (by omega) (by omega) (fun w7 f7 e7 => ?_)
              have row : ∀ i : Int, w7 r i = if 445 + 12 * (d.run.length : Nat) + 6 ≤ i ∧ i < 445 + 12 * (d.run.length : Nat) + 6 + 5 then o (i - (445 + 12 * (d.run.length : Nat) + 6)) else w6 r i := by
                intro i
                rw [e7 i]
                by_cases cc : 445 + 12 * (d.run.length : Nat) + 6 ≤ i ∧ i < 445 + 12 * (d.run.length : Nat) + 6 + 5
                · rw [if_pos cc, if_pos cc]
                  exact c6 _ (by omega) (by omega)
                · rw [if_neg cc, if_neg cc]
              have e7o : ∀ i : Int, (i < 445 + 12 * (d.run.length : Nat) ∨ 445 + 12 * (d.run.length : Nat) + 12 ≤ i) → w7 r i = w6 r i := fun i hi => by rw [row i, if_neg (by omega)]
              have g7 : TwA w7 r (nextD (nextD d q) q) := g6.row hr f7 (g6.1.junk hl hrl e7o) rfl (fun _ _ _ _ _ => rfl)
              have e493' : w7 r 493 = (d.run.length : Nat) := by rw [e7o 493 (by omega), e6 493 (by omega) (by omega)]; exact e493
              unfold f_X4_fetches_190
              refine ⟨⟨by omega, by omega⟩, ⟨by omega, by omega⟩, ⟨by omega, by omega⟩, ?_⟩
              have tf : TFr r w7 (tup (tup w7 r (445 + 12 * (d.run.length : Nat) + 11) (timeD t (nextD d q) q c)) r 493 (tup w7 r (445 + 12 * (d.run.length : Nat) + 11) (timeD t (nextD d q) q c) r 493 + 1)) := TFr.tp.trans TFr.tp
              refine hQ _ (g7.row hr tf ?_ rfl (fun _ _ _ _ _ => rfl)) (f4.trans (f6.trans (f7.trans tf)).t)
              simp only [tw_at]
              rw [iup_ne (j := 493) (i := 445 + 12 * ((d.run.length : Nat) : Int) + 11) (by omega), e493']
              refine g7.1.runs hl hrl (fun f f0 f1 f2 => ?_) (by rw [iup_at]; rfl) (fun i i0 i1 => ?_)
              · show iup (iup (w7 r) (445 + 12 * ((d.run.length : Nat) : Int) + 11) (timeD t (nextD d q) q c)) 493 (((d.run.length : Nat) : Int) + 1) (445 + 12 * ((d.run.length : Nat) : Int) + f) = wk2 q c o (timeD t (nextD d q) q c) f
                rw [iup_ne (by omega)]
                by_cases c11 : f = 11
                · subst c11; rw [iup_at]; rfl
                · rw [iup_ne (by omega), row]
                  by_cases c6' : 6 ≤ f
                  · rw [if_pos ⟨by omega, by omega⟩, wk2_at2 c6' (by omega)]
                    congr 1
                    omega
                  · rw [if_neg (by omega), e6 _ (by omega) (by omega)]
                    by_cases c00 : f = 0
                    · subst c00; rw [k0]; rfl
                    · rw [k1 f (by omega) (by omega), wk2_at (by omega) (by omega)]
              · have i1 : i < 445 + 12 * ((d.run.length : Nat) : Int) ∨ 445 + 12 * ((d.run.length : Nat) : Int) + 12 ≤ i := i1
                rw [iup_ne i0, iup_ne (by omega)]
            · refine br0_T ⟨by have := ook.2.2.2.2; omega, by have := ook.2.2.2.2; omega⟩ p4 (no ?_)
              rw [epr]
              unfold isPair
              simp only
              rw [if_neg (by have := ook.2.2.2.2; omega)]
          · refine br_T ⟨by have := ook.2.1; omega, by have := ook.2.1; omega⟩ r3 p3 (no ?_)
            rw [epr]
            unfold isPair
            simp only
            rw [if_neg (fun z => p3 z.1)]
    · refine br_T rc1 r2 h2 (no ?_)
      unfold pairs
      rw [if_neg (fun z => h2 z.1)]
      rfl
theorem t_fetches {Q : Tw → Prop} {t : Tmf} (h : TwA w r d) (hr : r = 20 ∨ r = 21) (hw : WF d B) (hB : B ≤ 900000000) (hB9 : 9 ≤ B) (hR : RuleW w t) (hl : (d.run.length : Int) < d.s 826) (ha : anyW d.s (d.s 900).toNat = true) (hQ : ∀ w', TwA w' r (fetchD t d) → TFt r w w' → Q w') : f_X4_fetches r w Q := by
  obtain ⟨q, s', c, cs, k1, k2, k3, k4, k5, k6, k7, -⟩ := fetchD_ok (t := t) hw hB9 hl ha
  rw [k7] at hQ
  have h5 := hw.hq k2
  have hkd : 0 ≤ (setS d s').s (89 * q + 22) ∧ (setS d s').s (89 * q + 22) ≤ 3 := by
    show 0 ≤ s' (89 * q + 22) ∧ s' (89 * q + 22) ≤ 3
    rw [k3.1 _ (by omega)]
    exact (hw.l8 k2).2.2.1
  have hk9 : (q : Int) < (setS d s').s 900 := by show (q : Int) < s' 900; rw [k3.1 _ (by omega)]; exact k2
  have hb := k5.1.1 (89 * q + 3)
  have hn := k5.nn h5
  unfold f_X4_fetches
  refine t_chosen h hr hw (by omega) hB9 k1 (fun w1 g1 f1 => t_fetchedOf g1 hr k5.lens k5.many.2 h5 hk9 (by omega) hkd k6 (fun w2 g2 f2 c2 e2 => ?_))
  exact t_fetchQ hr k5 hB hk9 (by show _ < s' 826; rw [k3.1 _ (by omega)]; exact hl) k4 k6 g2 (hR.fr (f1.trans f2).t hr) c2 (fun w' g' f' => hQ w' g' ((f1.trans f2).t.trans f'))
end
