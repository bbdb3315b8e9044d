/-! PURE PROOFS: the twin ends works, posts words -/
set_option maxRecDepth 100000
section
variable {w : Tw} {r : Nat} {d : DS} {B : Int} {q : Nat}
theorem t_ends {Q : Tw → Prop} {l m : List Rec} {c : Rec} (h : TwA w r d) (hr : r = 20 ∨ r = 21) (hl : Lens d) (hm : d.s 900 ≤ 5) (hb : ∀ i, 828 ≤ i → i < 838 → 0 ≤ d.s i ∧ d.s i ≤ 99) (hc : d.run = l ++ c :: m) (h3 : 0 ≤ c 3 ∧ c 3 ≤ 9) (h4 : 0 ≤ c 4 ∧ c 4 ≤ 99)
    (h7 : ((c 7 = -1 ∧ (c 2 = 0 ∨ c 2 = 1 ∨ c 2 = 4)) ∨ (c 7 = 3 ∧ c 2 = 2 ∧ (0 ≤ c 6 ∧ c 6 < 16) ∧ (0 ≤ c 8 ∧ c 8 ≤ 9) ∧ (0 ≤ c 9 ∧ c 9 ≤ 99) ∧ c 10 = 0))) (hn : (finD d c).out.length ≤ 80)
    (hQ : ∀ w', TwA w' r (setRun (finD d c) (l ++ m)) → TFr r w w' → Q w') : f_X4_ends r (l.length : Nat) w Q := by
  have hlen : l.length + m.length + 1 ≤ 4 := by have := hl.1; rw [hc, List.length_append, List.length_cons] at this; omega
  have hget : d.run[l.length]? = some c := by rw [hc, List.getElem?_append_right (Nat.le_refl _), Nat.sub_self]; rfl
  have g := h.1.2.2.2.2.2.1 l.length c hget
  have g0 := g 0 (by omega) (by omega) (by omega)
  have g1 := g 1 (by omega) (by omega) (by omega)
  have g2 := g 2 (by omega) (by omega) (by omega)
  have g3 := g 3 (by omega) (by omega) (by omega)
  have g4 := g 4 (by omega) (by omega) (by omega)
  have hb3 := hb (828 + c 3) (by omega) (by omega)
  have eb : w r (828 + c 3) = d.s (828 + c 3) := h.1.1 _ (Or.inr ⟨by omega, by omega, by omega⟩)
  unfold f_X4_ends f_X4_runAt
  have z0 : (445 + 12 * ((l.length : Nat) : Int) + 1 + 0) = 445 + 12 * (l.length : Nat) + 1 := by omega
  have z1 : (445 + 12 * ((l.length : Nat) : Int) + 1 + 1) = 445 + 12 * (l.length : Nat) + 2 := by omega
  have z2 : (445 + 12 * ((l.length : Nat) : Int) + 1 + 2) = 445 + 12 * (l.length : Nat) + 3 := by omega
  have z3 : (445 + 12 * ((l.length : Nat) : Int) + 1 + 3) = 445 + 12 * (l.length : Nat) + 4 := by omega
  simp only [z0, z1, z2, z3]
  refine ⟨⟨by omega, by omega⟩, ⟨by omega, by omega⟩, ⟨by omega, by omega⟩, ⟨by omega, by omega⟩, ?_⟩
  rw [g0, g1, g2, g3]
  have rc2 : R32 (c 2) := ⟨by omega, by omega⟩
  -- what comes last
  have last : ∀ (w1 : Tw) (e : DS), TwA w1 r e → TFr r w w1 → e.run = d.run → e.out.length ≤ 80 → setRun e (l ++ m) = setRun (finD d c) (l ++ m) → f_X4_ends_225 r (l.length : Nat) w1 Q := by
    intro w1 e g1 f1 er eo es
    unfold f_X4_ends_225
    refine t_runGoes (c := c) g1 hr ⟨by rw [er]; exact hl.1, eo⟩ (by rw [er]; exact hc) (fun w2 g2 f2 => hQ w2 (by rw [← es]; exact g2) (f1.trans f2))
  by_cases n7 : c 7 < 0
  · have h72 : c 7 = -1 ∧ (c 2 = 0 ∨ c 2 = 1 ∨ c 2 = 4) := by
      rcases h7 with h7 | h7
      · exact h7
      · omega
    have e : finD d c = fin1 d c := by unfold finD; rw [if_pos n7]
    rw [e] at hn last
    unfold fin1 at hn last
    have hn1 : d.out.length < 80 := by
      have : (d.out ++ [rec4 (c 0) (c 1) 0 (if c 2 = 0 then d.s (828 + c 3) else if c 2 = 1 then c 4 else 0)]).length ≤ 80 := hn
      rw [List.length_append, List.length_singleton] at this
      omega
    have olen : ∀ (e : DS) (v : Rec), e.out = d.out → (outD e v).out.length ≤ 80 := by
      intro e v ee
      show (e.out ++ [v]).length ≤ 80
      rw [List.length_append, List.length_singleton, ee]; omega
    by_cases o0 : c 2 = 0
    · rw [if_neg (by omega), if_pos o0] at last
      refine br0_F rc2 (by omega) ⟨⟨by omega, by omega⟩, ?_⟩
      rw [eb]
      exact t_comesOut h hr hl hn1 (fun w1 g1 f1 => last w1 _ g1 f1 rfl (olen _ _ rfl) rfl)
    · refine br0_T rc2 o0 ?_
      by_cases o1 : c 2 = 1
      · rw [if_pos o1, if_neg o0, if_pos o1] at last
        refine br_F rc2 r1 (by omega) ⟨⟨by omega, by omega⟩, ⟨by omega, by omega⟩, ⟨by omega, by omega⟩, ?_⟩
        rw [g4, tw_at, iup_ne (by omega), g4]
        have a1 := h.sc (i := 828 + c 3) (x := c 4) hr hm hl (Or.inr ⟨by omega, by omega, by omega⟩) (by omega)
        exact t_comesOut a1 hr hl hn1 (fun w1 g1 f1 => last w1 _ g1 (TFr.tp.trans f1) rfl (olen _ _ rfl) rfl)
      · rw [if_neg o1, if_neg o0, if_neg o1] at last
        refine br_T rc2 r1 o1 (br_F rc2 ⟨by decide, by decide⟩ (by omega) ?_)
        exact t_comesOut h hr hl hn1 (fun w1 g1 f1 => last w1 _ g1 f1 rfl (olen _ _ rfl) rfl)
  · obtain ⟨v7, v2, v6, v8, v9, v10⟩ : c 7 = 3 ∧ c 2 = 2 ∧ (0 ≤ c 6 ∧ c 6 < 16) ∧ (0 ≤ c 8 ∧ c 8 ≤ 9) ∧ (0 ≤ c 9 ∧ c 9 ≤ 99) ∧ c 10 = 0 := by
      rcases h7 with h7 | h7
      · omega
      · exact h7
    have e : finD d c = fin2 d c := by unfold finD; rw [if_neg n7]
    rw [e] at hn last
    unfold fin2 at hn last
    have hn1 : d.out.length + 2 ≤ 80 := by
      have hn' : ((d.out ++ [rec4 (c 0) (c 1) (if d.s (828 + c 3) = c 4 then 0 else 2) (d.s (828 + c 3))]) ++ [rec4 (c 0) (c 6) (if d.s (828 + c 3) = c 4 then 0 else 3) (if d.s (828 + c 3) = c 4 then c 9 else 0)]).length ≤ 80 := hn
      rw [List.length_append, List.length_append, List.length_singleton, List.length_singleton] at hn'
      omega
    refine br0_T rc2 (by omega) (br_T rc2 r1 (by omega) (br_T rc2 ⟨by decide, by decide⟩ (by omega) ⟨⟨by omega, by omega⟩, ⟨by omega, by omega⟩, ?_⟩))
    rw [g4, eb]
    have olen1 : ∀ v : Rec, (outD d v).out.length ≤ 80 := by
      intro v
      show (d.out ++ [v]).length ≤ 80
      rw [List.length_append, List.length_singleton]; omega
    have olen2 : ∀ (e : DS) (u v : Rec), e.out = d.out ++ [u] → (outD e v).out.length ≤ 80 := by
      intro e u v ee
      show (e.out ++ [v]).length ≤ 80
      rw [List.length_append, List.length_singleton, ee, List.length_append, List.length_singleton]; omega
    have y0 : (445 + 12 * ((l.length : Nat) : Int) + 6 + 0) = 445 + 12 * (l.length : Nat) + 6 := by omega
    have y2 : (445 + 12 * ((l.length : Nat) : Int) + 6 + 2) = 445 + 12 * (l.length : Nat) + 8 := by omega
    have y3 : (445 + 12 * ((l.length : Nat) : Int) + 6 + 3) = 445 + 12 * (l.length : Nat) + 9 := by omega
    refine ⟨⟨⟨by omega, by omega⟩, ⟨by omega, by omega⟩⟩, fun nc => ?_, fun nc => ?_⟩
    · rw [if_neg nc, if_neg nc, if_neg nc, if_neg nc] at last
      unfold f_X4_ends_143 f_X4_ends_159
      refine brB_F ⟨⟨by omega, by omega⟩, ?_⟩
      rw [eb]
      refine t_comesOut h hr hl (by omega) (fun w1 k1 f1 => brB_F ?_)
      have gg := k1.1.2.2.2.2.2.1 l.length c hget
      unfold f_X4_ends_189 f_X4_ends_207 f_X4_ends_222
      rw [y0]
      refine ⟨⟨by omega, by omega⟩, brB_F (brB_F ?_)⟩
      rw [gg 6 (by omega) (by omega) (by omega)]
      exact t_comesOut k1 hr ⟨hl.1, olen1 _⟩ (by show (d.out ++ [_]).length < 80; rw [List.length_append, List.length_singleton]; omega) (fun w2 k2 f2 => last w2 _ k2 (f1.trans f2) rfl (olen2 _ _ _ rfl) rfl)
    · have nc : d.s (828 + c 3) = c 4 := Decidable.of_not_not nc
      rw [if_pos nc, if_pos nc, if_pos nc, if_pos nc] at last
      unfold f_X4_ends_143 f_X4_ends_159
      refine brB_T ⟨⟨by omega, by omega⟩, ?_⟩
      rw [eb]
      refine t_comesOut h hr hl (by omega) (fun w1 k1 f1 => brB_T ?_)
      have gg := k1.1.2.2.2.2.2.1 l.length c hget
      rw [y2, y3]
      have gg8 := gg 8 (by omega) (by omega) (by omega)
      refine ⟨⟨by omega, by omega⟩, ⟨by omega, by omega⟩, ?_⟩
      rw [gg8, gg 9 (by omega) (by omega) (by omega)]
      refine ⟨⟨by omega, by omega⟩, ?_⟩
      have a1 := k1.sc (i := 828 + c 8) (x := c 9) hr hm ⟨hl.1, olen1 _⟩ (Or.inr ⟨by omega, by omega, by omega⟩) (by omega)
      have gg1 := a1.1.2.2.2.2.2.1 l.length c hget
      unfold f_X4_ends_189 f_X4_ends_207 f_X4_ends_222
      rw [y0, y3]
      refine ⟨⟨by omega, by omega⟩, brB_T (brB_T ⟨⟨by omega, by omega⟩, ?_⟩)⟩
      rw [gg1 6 (by omega) (by omega) (by omega), gg1 9 (by omega) (by omega) (by omega)]
      exact t_comesOut a1 hr ⟨hl.1, olen1 _⟩ (by show (d.out ++ [_]).length < 80; rw [List.length_append, List.length_singleton]; omega) (fun w2 k2 f2 => last w2 _ k2 (f1.trans (TFr.tp.trans f2)) rfl (olen2 _ _ _ rfl) rfl)
/-- all lefts go down -/
theorem t_tick_2 {Q : Tw → Prop} (h : TwA w r d) (hr : r = 20 ∨ r = 21) (hl : Lens d) (hQ : ∀ w', TwA w' r (setRun d (d.run.map dec)) → TFr r w w' → ∃ fl, f_X4_tickGoes_32 r Q fl 0 w') : f_X4_tickGoes r w Q := by
  have lp : ∀ (l m : List Rec) (w1 : Tw), d.run = l ++ m → TwA w1 r (setRun d (l.map dec ++ m)) → TFr r w w1 → f_X4_tickGoes_2 r Q (m.length + 1) (l.length : Nat) w1 := by
    intro l m
    induction m generalizing l with
    | nil =>
      intro w1 hc g1 f1
      have e493 : w1 r 493 = ((l.map dec ++ []).length : Nat) := g1.1.2.1
      rw [List.append_nil, List.length_map] at e493
      rw [List.append_nil] at hc g1
      have := hl.1
      rw [hc] at this
      unfold f_X4_tickGoes_2 f_X4_tickGoes_2_b
      refine ⟨⟨by omega, by omega⟩, br_T ⟨by omega, by omega⟩ ⟨by omega, by omega⟩ (by omega) (hQ w1 ?_ f1)⟩
      rw [hc]; exact g1
    | cons c m ih =>
      intro w1 hc g1 f1
      have e493 : w1 r 493 = ((l.map dec ++ c :: m).length : Nat) := g1.1.2.1
      rw [List.length_append, List.length_map, List.length_cons] at e493
      have hlen := hl.1
      rw [hc, List.length_append, List.length_cons] at hlen
      have hget : (setRun d (l.map dec ++ c :: m)).run[l.length]? = some c := by
        show (l.map dec ++ c :: m)[l.length]? = some c
        rw [List.getElem?_append_right (by rw [List.length_map]; omega), List.length_map, Nat.sub_self]; rfl
      have g11 := g1.1.2.2.2.2.2.1 l.length c hget 11 (by omega) (by omega) (by omega)
      unfold f_X4_tickGoes_2 f_X4_tickGoes_2_b f_X4_runAt
      refine ⟨⟨by omega, by omega⟩, br_F ⟨by omega, by omega⟩ ⟨by omega, by omega⟩ (by omega) ⟨⟨by omega, by omega⟩, ⟨by omega, by omega⟩, ?_⟩⟩
      rw [g11]
      have := ih (l ++ [c]) (tup w1 r (445 + 12 * ((l.length : Nat) : Int) + 11) (c 11 - 1)) (by rw [hc, List.append_assoc]; rfl) ?_ (f1.trans TFr.tp)
      · rw [List.length_append, List.length_singleton] at this
        exact this
      · refine g1.row hr TFr.tp ?_ rfl (fun _ _ _ _ _ => rfl)
        rw [tw_at]
        obtain ⟨k1, k2, k4, k5, k6, k7, k8⟩ := g1.1
        have es : ∀ i : Int, i ≠ 445 + 12 * ((l.length : Nat) : Int) + 11 → iup (w1 r) (445 + 12 * ((l.length : Nat) : Int) + 11) (c 11 - 1) i = w1 r i := fun i hi => iup_ne hi
        have ee : (l ++ [c]).map dec ++ m = l.map dec ++ dec c :: m := by rw [List.map_append, List.append_assoc]; rfl
        rw [ee]
        refine ⟨fun j hj => ?_, ?_, ?_, fun q hq => ?_, fun q hq => ?_, ?_, ?_⟩
        · have hj' := hj
          unfold isSc at hj'
          rw [es j (by omega)]; exact k1 j hj
        · rw [es 493 (by omega), e493]
          show _ = (((l.map dec ++ dec c :: m).length : Nat) : Int)
          rw [List.length_append, List.length_map, List.length_cons]
        · rw [es 814 (by omega)]; exact k4
        · exact (k5 q hq).congr (fun j j0 j1 => es j (by omega))
        · exact (k6 q hq).congr (fun j j0 j1 => es j (by omega))
        · intro k v hv f f0 f1' f2
          have hk := get_lt hv
          have hk' : k < (l.map dec ++ dec c :: m).length := hk
          rw [List.length_append, List.length_map, List.length_cons] at hk'
          by_cases ek : k = l.length
          · subst ek
            have hv' : (l.map dec ++ dec c :: m)[l.length]? = some v := hv
            rw [List.getElem?_append_right (by rw [List.length_map]; omega), List.length_map, Nat.sub_self] at hv'
            simp only [List.getElem?_cons_zero, Option.some.injEq] at hv'
            subst hv'
            by_cases e11 : f = 11
            · subst e11; rw [iup_at, dec_at]
            · rw [es _ (by omega), dec_ne e11]
              exact k7 l.length c hget f f0 f1' (by rw [dec_ne (by decide)] at f2; exact f2)
          · rw [es _ (by omega)]
            refine k7 k v ?_ f f0 f1' f2
            have hv' : (l.map dec ++ dec c :: m)[k]? = some v := hv
            show (l.map dec ++ c :: m)[k]? = some v
            by_cases kl : k < l.length
            · rw [List.getElem?_append_left (by rw [List.length_map]; omega)] at hv' ⊢
              exact hv'
            · rw [List.getElem?_append_right (by rw [List.length_map]; omega), List.length_map] at hv' ⊢
              obtain ⟨j, hj⟩ : ∃ j, k - l.length = j + 1 := ⟨k - l.length - 1, by omega⟩
              rw [hj, List.getElem?_cons_succ] at hv' ⊢
              exact hv'
        · exact k8.congr hl.2 (fun j j0 j1 => es j (by omega))
  exact ⟨d.run.length + 1, lp [] d.run w rfl h TFr.refl⟩
end
