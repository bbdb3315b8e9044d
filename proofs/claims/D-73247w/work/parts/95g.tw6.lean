/-! PURE PROOFS: the twin's tick -/
set_option maxRecDepth 100000
def TFk (r : Nat) (w w' : Tw) : Prop := ∀ j, j ≠ r → j ≠ 12 → j ≠ 13 → j ≠ 24 → j ≠ 25 → w' j = w j
theorem TFt.k {r : Nat} {w w' : Tw} (h : TFt r w w') : TFk r w w' := fun j h1 h2 h3 _ _ => h j h1 h2 h3
theorem TFr.k {r : Nat} {w w' : Tw} (h : TFr r w w') : TFk r w w' := fun j h1 _ _ _ _ => h j h1
theorem TFk.refl {r : Nat} {w : Tw} : TFk r w w := fun _ _ _ _ _ _ => rfl
theorem TFk.trans {r : Nat} {w w1 w2 : Tw} (h : TFk r w w1) (k : TFk r w1 w2) : TFk r w w2 := fun j h1 h2 h3 h4 h5 => by rw [k j h1 h2 h3 h4 h5, h j h1 h2 h3 h4 h5]
section
variable {w : Tw} {r : Nat} {d : DS} {B : Int} {q : Nat}
theorem RuleW.fk {w' : Tw} {t : Tmf} (h : RuleW w t) (f : TFk r w w') (hr : r = 20 ∨ r = 21) : RuleW w' t := h.on (f 8 (by omega) (by omega) (by omega) (by omega) (by omega)) (f 10 (by omega) (by omega) (by omega) (by omega) (by omega))
theorem TwA.rowk {w' : Tw} {d' : DS} (h : TwA w r d) (hr : r = 20 ∨ r = 21) (hf : TFk r w w') (h1 : RowR (w' r) d') (e : d'.s 900 = d.s 900) (e2 : ∀ q : Nat, (q : Int) < d.s 900 → ∀ f : Int, 20 ≤ f → f < 24 → d'.s (89 * q + f) = d.s (89 * q + f)) : TwA w' r d' := by
  obtain ⟨h2, h3, h4⟩ := h
  have ff : ∀ j, j = 14 ∨ j = 16 ∨ j = 17 ∨ j = 18 ∨ j = 19 → w' j = w j := fun j hj => hf j (by omega) (by omega) (by omega) (by omega) (by omega)
  refine ⟨h1, by rw [ff 14 (by omega), e]; exact h3, fun q hq => ?_⟩
  rw [e] at hq
  obtain ⟨k1, k2, k3, k4⟩ := h4 q hq
  rw [ff 16 (by omega), ff 17 (by omega), ff 18 (by omega), ff 19 (by omega), e2 q hq 20 (by omega) (by omega), e2 q hq 21 (by omega) (by omega), e2 q hq 22 (by omega) (by omega), e2 q hq 23 (by omega) (by omega)]
  exact ⟨k1, k2, k3, k4⟩
/-- a field that is no part of the row is written -/
theorem TwA.fld {j : Nat} {i x : Int} (h : TwA w r d) (hr : r = 20 ∨ r = 21) (hj : j = 24 ∨ j = 25 ∨ j = 12 ∨ j = 13) : TwA (tup w j i x) r d :=
  h.rowk hr (fun k k1 k2 k3 k4 k5 => tw_ne (by omega)) (by rw [tw_ne (by omega)]; exact h.1) rfl (fun _ _ _ _ _ => rfl)
theorem t_tick_32 {Q : Tw → Prop} (hr : r = 20 ∨ r = 21) (hB : 99 ≤ B) : ∀ (l : List Rec) (e : DS) (w : Tw), WF (setRun e (e.run ++ l)) B → TwA w r (setRun e (e.run ++ l.map dec)) →
    (∀ w', TwA w' r (l.foldl runStep e) → TFr r w w' → f_X4_posts r w' (fun w75 => ∃ fl76, f_X4_tickGoes_75 r Q fl76 0 w75)) → f_X4_tickGoes_32 r Q (l.length + 1) (e.run.length : Nat) w := by
  intro l
  induction l with
  | nil =>
    intro e w hw h hQ
    have e493 : w r 493 = ((e.run ++ []).length : Nat) := h.1.2.1
    have hlen : (e.run ++ []).length ≤ 4 := hw.2.2.1.1
    rw [List.append_nil] at e493 hlen
    unfold f_X4_tickGoes_32 f_X4_tickGoes_32_b
    refine ⟨⟨by omega, by omega⟩, br_T ⟨by omega, by omega⟩ ⟨by omega, by omega⟩ (by omega) (hQ w ?_ TFr.refl)⟩
    have : setRun e (e.run ++ [].map dec) = e := by rw [List.map_nil, List.append_nil]; rfl
    rw [this] at h; exact h
  | cons c l ih =>
    intro e w hw h hQ
    rw [List.foldl_cons] at hQ
    have e493 : w r 493 = ((e.run ++ (c :: l).map dec).length : Nat) := h.1.2.1
    have hlen : (e.run ++ c :: l).length ≤ 4 := hw.2.2.1.1
    rw [List.map_cons, List.length_append, List.length_cons, List.length_map] at e493
    rw [List.length_append, List.length_cons] at hlen
    have hget : (setRun e (e.run ++ (c :: l).map dec)).run[e.run.length]? = some (dec c) := by
      show (e.run ++ (c :: l).map dec)[e.run.length]? = some (dec c)
      rw [List.getElem?_append_right (Nat.le_refl _), Nat.sub_self]; rfl
    have g11 := h.1.2.2.2.2.2.1 e.run.length (dec c) hget 11 (by omega) (by omega) (by omega)
    rw [dec_at] at g11
    obtain ⟨w0, w1, w3, w4, w5, w11, w7⟩ := hw.2.2.1.2 c (List.mem_append_right _ List.mem_cons_self)
    obtain ⟨hst, hst9⟩ := runStep_wf hB hw
    have hol := hw.outlen
    have hol' : e.out.length ≤ 80 := hol
    unfold f_X4_tickGoes_32 f_X4_tickGoes_32_b f_X4_runAt
    refine ⟨⟨by omega, by omega⟩, br_F ⟨by omega, by omega⟩ ⟨by omega, by omega⟩ (by omega) ⟨⟨by omega, by omega⟩, ?_⟩⟩
    rw [g11]
    by_cases cz : c 11 - 1 = 0
    · refine br0_F ⟨by omega, by omega⟩ (by omega) ?_
      have er : runStep e c = finD e (dec c) := by unfold runStep; rw [dec_at, if_neg (by omega)]
      have hfo : (finD (setRun e (e.run ++ (c :: l).map dec)) (dec c)).out.length ≤ 80 := by
        rw [finD_run]
        have := hst.outlen
        rw [er] at this
        exact this
      refine t_ends (c := dec c) (l := e.run) (m := l.map dec) h hr ⟨by show (e.run ++ (c :: l).map dec).length ≤ 4; rw [List.length_append, List.length_map, List.length_cons]; omega, hol'⟩ hw.many.2 hw.1.2.2.2.2.1 rfl ?_ ?_ ?_ hfo (fun w' g' f' => ?_)
      · rw [dec_ne (by decide)]; exact w3
      · rw [dec_ne (by decide)]; exact w4
      · rw [dec_ne (by decide), dec_ne (by decide), dec_ne (by decide), dec_ne (by decide), dec_ne (by decide), dec_ne (by decide)]; exact w7
      · have g2 : TwA w' r (setRun (runStep e c) ((runStep e c).run ++ l.map dec)) := by
          rw [er, fin_run]
          rw [finD_run] at g'
          exact g'
        have := ih (runStep e c) w' hst g2 (fun w'' g'' f'' => hQ w'' g'' (f'.trans f''))
        rw [er, fin_run] at this
        exact this
    · refine br0_T ⟨by omega, by omega⟩ cz ?_
      have er : runStep e c = setRun e (e.run ++ [dec c]) := by unfold runStep; rw [dec_at, if_pos (by omega)]
      have := ih (runStep e c) w hst (by
        rw [er]
        show TwA w r (setRun e ((e.run ++ [dec c]) ++ l.map dec))
        rw [List.append_assoc]; exact h) hQ
      rw [er] at this
      have e2 : (((setRun e (e.run ++ [dec c])).run.length : Nat) : Int) = (e.run.length : Nat) + 1 := by
        show (((e.run ++ [dec c]).length : Nat) : Int) = _
        rw [List.length_append, List.length_singleton]; omega
      rw [e2] at this
      exact this
/-- a word is posted in the row -/
theorem RowR.post {ρ ρ' : Rec} {p : Rec} (h : RowR ρ d) (hl : Lens d) (hq : q < 5) (hpl : (d.posts q).length ≤ 7) (hlen : ((d.posts q).length : Int) = d.s (89 * q + 5) - d.s (89 * q + 6)) (e1 : ∀ f : Int, 0 ≤ f → f < 5 → ρ' (89 * q + 49 + 5 * (d.s (89 * q + 5) % 8) + f) = p f) (e2 : ρ' (89 * q + 5) = d.s (89 * q + 5) + 1)
    (e3 : ∀ i : Int, i ≠ 89 * q + 5 → (i < 89 * q + 49 + 5 * (d.s (89 * q + 5) % 8) ∨ 89 * q + 49 + 5 * (d.s (89 * q + 5) % 8) + 5 ≤ i) → ρ' i = ρ i) : RowR ρ' (iup d.s (89 * q + 5) (d.s (89 * q + 5) + 1), d.ring, nup d.posts q (d.posts q ++ [p]), d.us, d.run, d.out) := by
  obtain ⟨h1, h2, h4, h5, h6, h7, h8⟩ := h
  have hA : 89 * (q : Int) + 49 ≤ 89 * q + 49 + 5 * (d.s (89 * q + 5) % 8) ∧ 89 * q + 49 + 5 * (d.s (89 * q + 5) % 8) ≤ 89 * (q : Int) + 84 := by omega
  generalize hAe : 89 * (q : Int) + 49 + 5 * (d.s (89 * q + 5) % 8) = A at *
  refine ⟨fun j hj => ?_, ?_, ?_, fun x hx => ?_, fun x hx => ?_, ?_, ?_⟩
  · have hj' := hj
    unfold isSc at hj'
    show ρ' j = iup d.s (89 * q + 5) (d.s (89 * q + 5) + 1) j
    by_cases c : j = 89 * q + 5
    · rw [c, e2, iup_at]
    · rw [iup_ne c, e3 j c (by clear hAe; omega)]; exact h1 j hj
  · rw [e3 493 (by omega) (by omega)]; exact h2
  · rw [e3 814 (by omega) (by omega)]; exact h4
  · show RingL ρ' _ (iup d.s (89 * q + 5) (d.s (89 * q + 5) + 1) (89 * x + 3)) (d.ring x)
    rw [iup_ne (by omega)]
    exact (h5 x hx).congr (fun j j0 j1 => e3 j (by omega) (by clear hAe; omega))
  · show RingL ρ' _ (iup d.s (89 * q + 5) (d.s (89 * q + 5) + 1) (89 * x + 6)) (nup d.posts q (d.posts q ++ [p]) x)
    rw [iup_ne (by omega)]
    by_cases ex : x = q
    · subst ex
      rw [nup_at]
      have ek : d.s (89 * x + 6) + ((d.posts x).length : Nat) = d.s (89 * x + 5) := by omega
      refine (h6 x hx).snoc hpl ?_ ?_
      · rw [ek, hAe]; exact e1
      · rw [ek, hAe]
        intro i i0 i1 i2
        exact e3 i (by omega) i2
    · rw [nup_ne ex]
      exact (h6 x hx).congr (fun j j0 j1 => e3 j (by omega) (by omega))
  · exact h7.congr hl.1 (fun j j0 j1 => e3 j (by omega) (by omega))
  · exact h8.congr hl.2 (fun j j0 j1 => e3 j (by omega) (by omega))
theorem t_posts_2 {Q : Tw → Prop} (hr : r = 20 ∨ r = 21) : ∀ (l : List Rec) (e : DS) (B : Int) (w : Tw), WF (setOut e (e.out ++ l)) B → B + l.length ≤ 900000000 → TwA w r (setOut e (e.out ++ l)) →
    (∀ w', TwA w' r (l.foldl postStep e) → (∀ j, j ≠ r → j ≠ 24 → w' j = w j) → w' 24 0 = w 24 0 + ((l.foldl postStep e).s 902 - e.s 902) → Q w') → f_X4_posts_2 r Q (l.length + 1) (e.out.length : Nat) w := by
  intro l
  induction l with
  | nil =>
    intro e B w hw hB h hQ
    have e814 : w r 814 = ((e.out ++ []).length : Nat) := h.1.2.2.1
    have hol : (e.out ++ []).length ≤ 80 := hw.outlen
    rw [List.append_nil] at e814 hol
    unfold f_X4_posts_2 f_X4_posts_2_b
    refine ⟨⟨by omega, by omega⟩, br_T ⟨by omega, by omega⟩ ⟨by omega, by omega⟩ (by omega) (hQ w ?_ (fun _ _ _ => rfl) (by show _ = _ + (e.s 902 - e.s 902); omega))⟩
    have : setOut e (e.out ++ []) = e := by rw [List.append_nil]; rfl
    rw [this] at h; exact h
  | cons c l ih =>
    intro e B w hw hB h hQ
    rw [List.foldl_cons] at hQ
    rw [List.length_cons] at hB
    have e814 : w r 814 = ((e.out ++ c :: l).length : Nat) := h.1.2.2.1
    have hol : (e.out ++ c :: l).length ≤ 80 := hw.outlen
    rw [List.length_append, List.length_cons] at e814 hol
    have hget : (setOut e (e.out ++ c :: l)).out[e.out.length]? = some c := by
      show (e.out ++ c :: l)[e.out.length]? = some c
      rw [List.getElem?_append_right (Nat.le_refl _), Nat.sub_self]; rfl
    have g := h.1.2.2.2.2.2.2 e.out.length c hget
    obtain ⟨⟨w0, w0'⟩, w1, w2, w3⟩ := hw.2.2.2.1 c (List.mem_append_right _ List.mem_cons_self)
    have hm := hw.many
    obtain ⟨n, hn⟩ : ∃ n : Nat, c 0 = n := ⟨(c 0).toNat, by omega⟩
    have hn2 : (c 0).toNat = n := by omega
    have h9 : (n : Int) < e.s 900 := by rw [← hn]; exact w0'
    have hm' : 0 ≤ e.s 900 ∧ e.s 900 ≤ 5 := hm
    have h5 : n < 5 := by omega
    have h8 := hw.l8 (q := n) h9
    have h8p : 2 ≤ e.s (89 * n + 21) ∧ e.s (89 * n + 21) ≤ 8 := h8.2.1
    have hnn := hw.nn h5
    have hnn5 : 0 ≤ e.s (89 * n + 5) := hnn.2.2.2
    have hnn6 : 0 ≤ e.s (89 * n + 6) := hnn.2.1
    have hb5 : -B ≤ e.s (89 * n + 5) ∧ e.s (89 * n + 5) ≤ B := hw.1.1 (89 * n + 5)
    have hb6 : -B ≤ e.s (89 * n + 6) ∧ e.s (89 * n + 6) ≤ B := hw.1.1 (89 * n + 6)
    have e17 : w 17 n = e.s (89 * n + 21) := (h.2.2 n h9).2.1
    obtain ⟨hst, hst9⟩ := postStep_wf hw
    have hl : Lens (setOut e (e.out ++ c :: l)) := hw.lens
    unfold f_X4_posts_2 f_X4_posts_2_b f_X4_outAt f_X4_posts_171
    refine ⟨⟨by omega, by omega⟩, br_F ⟨by omega, by omega⟩ ⟨by omega, by omega⟩ (by omega) ⟨⟨by omega, by omega⟩, ?_⟩⟩
    rw [g 0 (by omega) (by omega), hn]
    refine t_of h h5 (by omega) (by omega) (t_of h h5 (by omega) (by omega) ⟨⟨by omega, by omega⟩, ?_⟩)
    rw [e17]
    simp only [s_mk]
    by_cases cp : e.s (89 * n + 21) - 1 ≤ e.s (89 * n + 5) - e.s (89 * n + 6)
    · refine br_T ⟨by omega, by omega⟩ ⟨by omega, by omega⟩ cp ?_
      have es : postStep e c = setOut e (e.out ++ [c]) := by
        unfold postStep
        rw [hn2, if_neg (by unfold hasP; simp; omega)]
      have := ih (postStep e c) (B + 1) w hst (by omega) (by
        rw [es]
        show TwA w r (setOut e ((e.out ++ [c]) ++ l))
        rw [List.append_assoc]; exact h) (by
        intro w' g' f' c'
        refine hQ w' g' f' ?_
        rw [c']
        rw [show (postStep e c).s 902 = e.s 902 by rw [es]; rfl])
      rw [es] at this
      have e2 : (((setOut e (e.out ++ [c])).out.length : Nat) : Int) = (e.out.length : Nat) + 1 := by
        show (((e.out ++ [c]).length : Nat) : Int) = _
        rw [List.length_append, List.length_singleton]; omega
      rw [e2] at this
      exact this
    · refine br_F ⟨by omega, by omega⟩ ⟨by omega, by omega⟩ cp ?_
      have es : postStep e c = postD e c := by
        unfold postStep
        rw [hn2, if_pos (by unfold hasP; simp; omega)]
      rw [es] at hst hQ
      unfold f_X4_placeAt
      refine ⟨⟨by omega, by omega, by omega, by omega⟩, ?_⟩
      generalize hA : 89 * (n : Int) + 49 + 5 * (e.s (89 * n + 5) % 8) = A
      have hAr : 89 * (n : Int) + 49 ≤ A ∧ A + 5 ≤ 89 * (n : Int) + 89 := by omega
      rw [g 1 (by omega) (by omega)]
      refine ⟨⟨by omega, by omega⟩, ⟨by omega, by omega⟩, ⟨by omega, by omega⟩, ?_⟩
      have n2 : tup w r (A + 0) (c 1) r (494 + 4 * ((e.out.length : Nat) : Int) + 2) = c 2 := by rw [tw_at, iup_ne (by omega)]; exact g 2 (by omega) (by omega)
      rw [n2]
      refine ⟨⟨by omega, by omega⟩, ⟨by omega, by omega⟩, ?_⟩
      have n3 : tup (tup w r (A + 0) (c 1)) r (A + 1) (c 2) r (494 + 4 * ((e.out.length : Nat) : Int) + 3) = c 3 := by rw [tw_at, iup_ne (by omega), tw_at, iup_ne (by omega)]; exact g 3 (by omega) (by omega)
      rw [n3]
      refine ⟨⟨by omega, by omega⟩, ?_⟩
      have nf : tup (tup (tup w r (A + 0) (c 1)) r (A + 1) (c 2)) r (A + 2) (c 3) r (89 * n + 3) = e.s (89 * n + 3) := by
        rw [tw_at, iup_ne (by omega), tw_at, iup_ne (by omega), tw_at, iup_ne (by omega)]
        exact h.1.1 _ (Or.inl ⟨by omega, by omega, by omega⟩)
      unfold f_X4_of
      refine ⟨⟨by omega, by omega⟩, ?_⟩
      rw [nf]
      have n17 : ∀ (i x i2 x2 i3 x3 i4 x4 : Int), tup (tup (tup (tup w r i x) r i2 x2) r i3 x3) r i4 x4 17 n = e.s (89 * n + 21) := by
        intro i x i2 x2 i3 x3 i4 x4
        rw [tw_ne (by omega), tw_ne (by omega), tw_ne (by omega), tw_ne (by omega)]; exact e17
      refine ⟨⟨by omega, by omega⟩, ⟨by omega, by omega⟩, ?_⟩
      rw [n17]
      have ediv : (e.s (89 * n + 5)).tdiv (e.s (89 * n + 21)) = e.s (89 * n + 5) / e.s (89 * n + 21) := Int.tdiv_eq_ediv_of_nonneg hnn5
      have ed0 : 0 ≤ e.s (89 * n + 5) / e.s (89 * n + 21) := Int.ediv_nonneg hnn5 (by omega)
      have ed1 : e.s (89 * n + 5) / e.s (89 * n + 21) ≤ e.s (89 * n + 5) := Int.ediv_le_self _ hnn5
      rw [ediv]
      refine ⟨⟨⟨by omega, by omega⟩, ⟨by omega, by omega⟩, by omega⟩, ⟨by omega, by omega, by omega, by omega⟩, ?_⟩
      have fin : ∀ (b : Bool) (x : Int), phs (e.s (89 * n + 5)) (e.s (89 * n + 21)) = x → (b = true → x = 1) → (b = false → x = 0) → f_X4_posts_135 r (fun l2 w => f_X4_posts_2 r Q (l.length + 1) l2 w) (e.out.length : Nat) n (e.s (89 * n + 5)) (A + 4) b (tup (tup (tup (tup w r (A + 0) (c 1)) r (A + 1) (c 2)) r (A + 2) (c 3)) r (A + 3) (e.s (89 * n + 3))) Q := by
        intro b x hx hb1 hb0
        unfold f_X4_posts_135 f_X4_flag f_X4_sets f_X4_posts_171
        have main : ∀ y : Int, y = x → wrA (tup (tup (tup (tup w r (A + 0) (c 1)) r (A + 1) (c 2)) r (A + 2) (c 3)) r (A + 3) (e.s (89 * n + 3))) r 844 (A + 4) y (fun w43 => wrA w43 r 844 (89 * (n : Int) + 5) (e.s (89 * n + 5) + 1) (fun w44 => f_X4_outGoes r (e.out.length : Nat) w44 (fun w45 => tS w45 24 0 ((w45 24 0) + 1) (fun w46 => f_X4_posts_2 r Q (l.length + 1) (e.out.length : Nat) w46)))) := by
          rintro y rfl
          refine ⟨⟨by omega, by omega⟩, ⟨by omega, by omega⟩, ?_⟩
          have tf : TFr r w (tup (tup (tup (tup (tup (tup w r (A + 0) (c 1)) r (A + 1) (c 2)) r (A + 2) (c 3)) r (A + 3) (e.s (89 * n + 3))) r (A + 4) y) r (89 * (n : Int) + 5) (e.s (89 * n + 5) + 1)) := ((((TFr.tp.trans TFr.tp).trans TFr.tp).trans TFr.tp).trans TFr.tp).trans TFr.tp
          have g1 : TwA (tup (tup (tup (tup (tup (tup w r (A + 0) (c 1)) r (A + 1) (c 2)) r (A + 2) (c 3)) r (A + 3) (e.s (89 * n + 3))) r (A + 4) y) r (89 * (n : Int) + 5) (e.s (89 * n + 5) + 1)) r
              (iup e.s (89 * n + 5) (e.s (89 * n + 5) + 1), e.ring, nup e.posts n (e.posts n ++ [rec5 (c 1) (c 2) (c 3) (e.s (89 * n + 3)) y]), e.us, e.run, e.out ++ c :: l) := by
            refine h.row hr tf ?_ (iup_ne (by omega)) (fun p hp f f0 f1 => iup_ne (by omega))
            simp only [tw_at]
            refine h.1.post hl h5 (hw.postslen h5) (hw.wl h5).2.2.1 ?_ ?_ ?_
            · intro f f0 f1
              rw [show 89 * (n : Int) + 49 + 5 * (DS.s (setOut e (e.out ++ c :: l)) (89 * n + 5) % 8) + f = A + f from by rw [← hA]; rfl]
              obtain rfl | rfl | rfl | rfl | rfl : f = 0 ∨ f = 1 ∨ f = 2 ∨ f = 3 ∨ f = 4 := by omega
              all_goals (simp (disch := omega) only [iup_at, iup_ne])
              all_goals rfl
            · rw [iup_at]; rfl
            · intro i i0 i1
              have i1 : i < 89 * (n : Int) + 49 + 5 * (e.s (89 * n + 5) % 8) ∨ 89 * (n : Int) + 49 + 5 * (e.s (89 * n + 5) % 8) + 5 ≤ i := i1
              rw [hA] at i1
              simp (disch := omega) only [iup_ne]
          refine t_outGoes (c := c) (l := e.out) (m := l) g1 hr hl rfl (fun w45 g45 f45 => ?_)
          unfold tS
          have g46 : TwA (tup w45 24 0 (w45 24 0 + 1)) r (setOut (postD e c) ((postD e c).out ++ l)) := by
            have := (g45.fld (j := 24) (i := 0) (x := w45 24 0 + 1) hr (by omega)).own (s' := (postD e c).s) (by show iup e.s _ _ 900 ≤ 5; rw [iup_ne (by omega)]; exact hm'.2) (fun i hi => by
              show iup (iup e.s (89 * (c 0).toNat + 5) (e.s (89 * (c 0).toNat + 5) + 1)) 902 (e.s 902 + 1) i = iup e.s (89 * n + 5) (e.s (89 * n + 5) + 1) i
              rw [iup_ne (by omega), hn2])
            unfold postD at this ⊢
            rw [hn2] at this ⊢
            rw [hx]
            exact this
          refine ih (postD e c) (B + 1) _ hst (by omega) g46 (fun w' g' f' c' => hQ w' g' (fun j j1 j2 => ?_) ?_)
          · rw [f' j j1 j2, tw_ne j2, f45 j j1, tf j j1]
          · rw [c', tw_at, iup_at, f45 24 (by omega), tf 24 (by omega)]
            show _ + 1 + (_ - iup (iup e.s (89 * (c 0).toNat + 5) (e.s (89 * (c 0).toNat + 5) + 1)) 902 (e.s 902 + 1) 902) = _
            rw [iup_at]; omega
        cases b with
        | true => exact brB_T (main 1 (hb1 rfl).symm)
        | false => exact brB_F (main 0 (hb0 rfl).symm)
      by_cases cz : e.s (89 * n + 5) / e.s (89 * n + 21) % 2 = 0
      · exact br0_F ⟨by omega, by omega⟩ (by omega) (fin true 1 (by unfold phs; rw [if_pos cz]) (fun _ => rfl) (fun z => by cases z))
      · exact br0_T ⟨by omega, by omega⟩ cz (fin false 0 (by unfold phs; rw [if_neg cz]) (fun z => by cases z) (fun _ => rfl))
theorem t_posts {Q : Tw → Prop} (h : TwA w r d) (hr : r = 20 ∨ r = 21) (hw : WF d B) (hB : B ≤ 800000000) (hQ : ∀ w', TwA w' r (postAll d) → (∀ j, j ≠ r → j ≠ 24 → w' j = w j) → w' 24 0 = w 24 0 + ((postAll d).s 902 - d.s 902) → Q w') : f_X4_posts r w Q := by
  have ho := hw.outlen
  exact ⟨d.out.length + 1, t_posts_2 hr d.out (setOut d []) B w hw (by omega) h hQ⟩
end
