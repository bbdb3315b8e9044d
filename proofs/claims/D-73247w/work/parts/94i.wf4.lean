/-! PURE PROOFS: what is always so stays so: words are posted, works go on -/
set_option maxRecDepth 100000
section
variable {d e : DS} {B B' : Int} {q : Nat} {s s' : Rec} {w : Rec} {l : List Rec}
theorem Hds.snoc {p : Rec} : ∀ {l : List Rec}, Hds l → (∀ x ∈ l, x 3 ≤ p 3) → Hds (l ++ [p])
  | [], _, _ => ⟨fun x hx => (by cases hx), trivial⟩
  | c :: l, h, k => by
    refine ⟨fun x hx => ?_, Hds.snoc h.2 (fun x hx => k x (List.mem_cons_of_mem _ hx))⟩
    rcases List.mem_append.mp hx with h1 | h1
    · exact h.1 x h1
    · rw [List.mem_singleton.mp h1]; exact k c List.mem_cons_self
theorem phs01 {n p : Int} : phs n p = 0 ∨ phs n p = 1 := by unfold phs; split <;> simp
theorem postStep_wf (h : WF (setOut e (e.out ++ w :: l)) B) : WF (setOut (postStep e w) ((postStep e w).out ++ l)) (B + 1) ∧ (postStep e w).s 900 = e.s 900 := by
  obtain ⟨⟨w0, w0'⟩, w1, w2, w3⟩ := h.2.2.2.1 w (List.mem_append_right _ List.mem_cons_self)
  have hm := h.many
  obtain ⟨n, hn⟩ : ∃ n : Nat, w 0 = n := ⟨(w 0).toNat, by omega⟩
  have hn2 : (w 0).toNat = n := by omega
  unfold postStep
  rw [hn2]
  by_cases hp : hasP e.s n = true
  · rw [if_pos hp]
    have h5 : n < 5 := by have : (n : Int) < e.s 900 := by rw [← hn]; exact w0'
                          have : e.s 900 ≤ 5 := hm.2
                          omega
    have h9 : (n : Int) < e.s 900 := by rw [← hn]; exact w0'
    unfold postD
    rw [hn2]
    have hb1 := h.1.1
    have b5 : -B ≤ e.s (89 * n + 5) ∧ e.s (89 * n + 5) ≤ B := hb1 (89 * n + 5)
    have b902 : -B ≤ e.s 902 ∧ e.s 902 ≤ B := hb1 902
    obtain ⟨k1, k2, k3, k4, k5, k6⟩ := h.wl h5
    obtain ⟨u1, u2⟩ := h.2.2.2.2 n h5
    have e1 : e.ring = nup e.ring n (e.ring n) := nup_self.symm
    have e2 : e.us = nup e.us n (e.us n) := nup_self.symm
    have k1' : WLs e.s n := k1
    have k2' : ((e.ring n).length : Int) = e.s (89 * n + 0) - e.s (89 * n + 3) := k2
    have k3' : ((e.posts n).length : Int) = e.s (89 * n + 5) - e.s (89 * n + 6) := k3
    have k5' : All (PsOK (e.s (89 * n + 4)) (e.s (89 * n + 3))) (e.posts n) := k5
    have hp' := of_decide_eq_true hp
    refine ⟨?_, ?_⟩
    · show WF (iup (iup e.s (89 * n + 5) (e.s (89 * n + 5) + 1)) 902 (e.s 902 + 1), e.ring, nup e.posts n (e.posts n ++ [rec5 (w 1) (w 2) (w 3) (e.s (89 * n + 3)) (phs (e.s (89 * n + 5)) (e.s (89 * n + 21)))]), e.us, e.run, e.out ++ l) (B + 1)
      rw [e1, e2]
      refine h.line (s' := iup (iup e.s (89 * n + 5) (e.s (89 * n + 5) + 1)) 902 (e.s 902 + 1)) h5 (h.1.low (bnd_iup (bnd_iup hb1 (B' := B + 1) (by omega) (by omega)) (Int.le_refl _) (by omega)) ?_ ?_ ?_) ?_ ?_ ⟨?_, ?_, ?_, k4, ?_, k6.snoc ?_⟩ h.2.2.1 ?_ ⟨u1, fun a => ?_⟩ (fun p hp hne a => ?_)
      · intro i i0 i1; (simp (disch := omega) only [iup_at, iup_ne]; try rfl)
      · (simp (disch := omega) only [iup_at, iup_ne]; try rfl)
      · (simp (disch := omega) only [iup_at, iup_ne]; try rfl); exact h.1.2.2.2.2.2.2.2.2.2
      · (simp (disch := omega) only [iup_at, iup_ne]; try rfl)
      · intro p hp hne f f0 f1; (simp (disch := omega) only [iup_at, iup_ne]; try rfl)
      · unfold WLs at k1' ⊢
        (simp (disch := omega) only [iup_at, iup_ne]; try rfl)
        exact ⟨k1'.1, by omega, k1'.2.2.1, k1'.2.2.2.1, fun _ => by have := k1'.2.2.2.2.1 h9; omega, fun _ => by omega⟩
      · (simp (disch := omega) only [iup_at, iup_ne]; try rfl); exact k2'
      · (simp (disch := omega) only [iup_at, iup_ne]; try rfl); rw [List.length_append, List.length_singleton]; omega
      · (simp (disch := omega) only [iup_at, iup_ne]; try rfl)
        refine k5'.app (All.one ⟨w1, w2, w3, ?_, phs01⟩)
        show e.s (89 * n + 4) ≤ e.s (89 * n + 3) ∧ e.s (89 * n + 3) ≤ e.s (89 * n + 3)
        have := k1'.1
        omega
      · intro x hx
        exact (k5' x hx).2.2.2.1.2
      · intro x hx
        refine h.2.2.2.1 x ?_
        rcases List.mem_append.mp hx with x1 | x1
        · exact List.mem_append_left _ x1
        · exact List.mem_append_right _ (List.mem_cons_of_mem _ x1)
      · have u3 := u2 a
        have u4 : kR a (e.ring n) + kW n a e.run + kO n a (e.out ++ w :: l) + kR a (e.posts n) = if 0 ≤ a ∧ (e.us n).testBit a.toNat = true then 1 else 0 := u3
        rw [← u4, kR_app, kR_one, kO_app, kO_app]
        simp only [kO]
        rw [hn]
        show _ + (_ + if w 1 = a then 1 else 0) = _
        by_cases e9 : w 1 = a
        · rw [if_pos e9, if_pos ⟨rfl, e9⟩]; show kR a (e.ring n) + kW n a e.run + _ + _ = kR a (e.ring n) + kW n a e.run + _ + _; omega
        · rw [if_neg e9, if_neg (fun z => e9 z.2)]; show kR a (e.ring n) + kW n a e.run + _ + _ = kR a (e.ring n) + kW n a e.run + _ + _; omega
      · show kW p a e.run + kO p a (e.out ++ l) = kW p a e.run + kO p a (e.out ++ w :: l)
        rw [kO_app, kO_app]
        simp only [kO]
        rw [if_neg (fun z => hne (by have := z.1; omega))]
        omega
    · show iup (iup e.s (89 * n + 5) (e.s (89 * n + 5) + 1)) 902 (e.s 902 + 1) 900 = _
      (simp (disch := omega) only [iup_at, iup_ne]; try rfl)
  · rw [if_neg hp]
    refine ⟨?_, rfl⟩
    have : e.out ++ w :: l = (e.out ++ [w]) ++ l := by simp
    rw [this] at h
    exact h.mono (by omega)
theorem postL_wf : ∀ (l : List Rec) (e : DS) (B : Int), WF (setOut e (e.out ++ l)) B → WF (l.foldl postStep e) (B + l.length)
  | [], e, B, h => by
    have : e.out ++ [] = e.out := List.append_nil _
    rw [this] at h
    exact h.mono (by simp)
  | w :: l, e, B, h => by
    have k := postL_wf l (postStep e w) (B + 1) (postStep_wf h).1
    rw [List.foldl_cons]
    refine k.mono ?_
    rw [List.length_cons]
    omega
theorem WF.posts (h : WF d B) : WF (postAll d) (B + 80) := by
  unfold postAll
  have hl := h.outlen
  exact (postL_wf d.out (setOut d []) B h).mono (by omega)
theorem kW_one {q a : Int} {w : Rec} : kW q a [w] = (if w 0 = q ∧ w 1 = a then 1 else 0) + (if w 0 = q ∧ 0 ≤ w 7 ∧ w 6 = a then 1 else 0) := by simp [kW]
theorem dec_ne {w : Rec} {i : Int} (h : i ≠ 11) : dec w i = w i := by unfold dec; rw [iup_ne h]
theorem dec_at {w : Rec} : dec w 11 = w 11 - 1 := by unfold dec; rw [iup_at]
theorem kW_dec {q a : Int} {w : Rec} {l : List Rec} : kW q a (dec w :: l) = kW q a (w :: l) := by
  simp only [kW]
  rw [dec_ne (by decide), dec_ne (by decide), dec_ne (by decide), dec_ne (by decide)]
/-- the same ids, other lists -/
theorem WF.moved (h : WF d B) {rn ou : List Rec} (hs : WS s' B') (h9 : s' 900 = d.s 900) (he : ∀ p : Nat, p < 5 → ∀ f : Int, 0 ≤ f → f < 24 → s' (89 * p + f) = d.s (89 * p + f))
    (hr : rn.length ≤ 4 ∧ All (WkOK (d.s 900)) rn) (ho : All (WdOK (d.s 900)) ou) (hc : ∀ p : Nat, p < 5 → ∀ a : Int, kW p a rn + kO p a ou = kW p a d.run + kO p a d.out) : WF (s', d.ring, d.posts, d.us, rn, ou) B' := by
  obtain ⟨h1, h2, h3, h4, h6⟩ := h
  refine ⟨hs, fun p hp => ?_, ?_, ?_, fun p hp => ?_⟩
  · show WL s' p (d.ring p) (d.posts p)
    obtain ⟨k1, k2, k3, k4, k5, k6⟩ := h2 p hp
    have e' := he p hp
    refine ⟨k1.same h9 e', ?_, ?_, k4, ?_, k6⟩
    · rw [e' 0 (by omega) (by omega), e' 3 (by omega) (by omega)]; exact k2
    · rw [e' 5 (by omega) (by omega), e' 6 (by omega) (by omega)]; exact k3
    · rw [e' 4 (by omega) (by omega), e' 3 (by omega) (by omega)]; exact k5
  · show _ ∧ All (WkOK (s' 900)) _; rw [h9]; exact hr
  · show All (WdOK (s' 900)) _; rw [h9]; exact ho
  · refine ⟨(h6 p hp).1, fun a => ?_⟩
    have k := (h6 p hp).2 a
    have c := hc p hp a
    show kR a (d.ring p) + kW p a rn + kO p a ou + kR a (d.posts p) = if 0 ≤ a ∧ (d.us p).testBit a.toNat = true then 1 else 0
    omega
theorem WS.blk {i x : Int} (h : WS s B) (hi : 828 ≤ i ∧ i < 838) (hx : 0 ≤ x ∧ x ≤ 99) (hB : 99 ≤ B) : WS (iup s i x) B := by
  obtain ⟨h1, h2, h3, h4, h5, h6, h7, h8, h9, h10⟩ := h
  refine ⟨bnd_iup h1 (Int.le_refl _) (by omega), by (simp (disch := omega) only [iup_at, iup_ne]; try rfl); exact h2, by (simp (disch := omega) only [iup_at, iup_ne]; try rfl); exact h3, by (simp (disch := omega) only [iup_at, iup_ne]; try rfl); exact h4, fun j j0 j1 => ?_, by (simp (disch := omega) only [iup_at, iup_ne]; try rfl); exact h6, fun j j0 j1 => by (simp (disch := omega) only [iup_at, iup_ne]; try rfl); exact h7 j j0 j1, fun j j0 j1 => by (simp (disch := omega) only [iup_at, iup_ne]; try rfl); exact h8 j j0 j1, fun j j0 j1 => by (simp (disch := omega) only [iup_at, iup_ne]; try rfl); exact h9 j j0 j1, by (simp (disch := omega) only [iup_at, iup_ne]; try rfl); exact h10⟩
  unfold iup
  split
  · exact hx
  · exact h5 j j0 j1
theorem All.app_l {P : Rec → Prop} {l m : List Rec} (h : All P (l ++ m)) : All P l := fun x hx => h x (List.mem_append_left _ hx)
theorem All.app_r {P : Rec → Prop} {l m : List Rec} (h : All P (l ++ m)) : All P m := fun x hx => h x (List.mem_append_right _ hx)
theorem runStep_wf (hB : 99 ≤ B) (h : WF (setRun e (e.run ++ w :: l)) B) : WF (setRun (runStep e w) ((runStep e w).run ++ l)) B ∧ (runStep e w).s 900 = e.s 900 := by
  have hw := h.2.2.1.2
  have hlen : (e.run ++ w :: l).length ≤ 4 := h.2.2.1.1
  rw [List.length_append, List.length_cons] at hlen
  obtain ⟨w0, w1, w3, w4, w5, w11, w7⟩ := hw w (List.mem_append_right _ List.mem_cons_self)
  have hA : All (WkOK (e.s 900)) (e.run ++ w :: l) := hw
  have w0 : 0 ≤ w 0 ∧ w 0 < e.s 900 := w0
  unfold runStep
  rw [dec_at]
  by_cases hl : 0 < w 11 - 1
  · rw [if_pos hl]
    refine ⟨?_, rfl⟩
    refine h.moved (rn := (e.run ++ [dec w]) ++ l) (ou := e.out) h.1 rfl (fun _ _ _ _ _ => rfl) ⟨by simp; omega, (hA.app_l.app (All.one ?_)).app hA.app_r.tl⟩ h.2.2.2.1 (fun p hp a => ?_)
    · unfold WkOK
      rw [dec_at, dec_ne (by decide), dec_ne (by decide), dec_ne (by decide), dec_ne (by decide), dec_ne (by decide), dec_ne (by decide), dec_ne (by decide), dec_ne (by decide), dec_ne (by decide), dec_ne (by decide), dec_ne (by decide)]
      exact ⟨w0, w1, w3, w4, w5, ⟨by omega, by omega⟩, w7⟩
    · show kW p a ((e.run ++ [dec w]) ++ l) + _ = kW p a (e.run ++ w :: l) + _
      rw [List.append_assoc, List.singleton_append, kW_app, kW_dec, kW_app]
      rfl
  · rw [if_neg hl]
    have hS : WS e.s B := h.1
    have hO : All (WdOK (e.s 900)) e.out := h.2.2.2.1
    have hbl := hS.2.2.2.2.1 (828 + w 3) (by omega) (by omega)
    have hR : (e.run ++ l).length ≤ 4 ∧ All (WkOK (e.s 900)) (e.run ++ l) := ⟨by rw [List.length_append]; omega, hA.app_l.app hA.app_r.tl⟩
    unfold finD
    rw [dec_ne (by decide)]
    by_cases h7 : w 7 < 0
    · rw [if_pos h7]
      unfold fin1
      rw [dec_ne (by decide), dec_ne (by decide), dec_ne (by decide), dec_ne (by decide), dec_ne (by decide)]
      have ho : All (WdOK (e.s 900)) (e.out ++ [rec4 (w 0) (w 1) 0 (if w 2 = 0 then e.s (828 + w 3) else if w 2 = 1 then w 4 else 0)]) := hO.app (All.one ⟨w0, w1, by show (0 : Int) ≤ 0 ∧ (0 : Int) ≤ 4; omega, by
        show 0 ≤ (if w 2 = 0 then e.s (828 + w 3) else if w 2 = 1 then w 4 else 0) ∧ (if w 2 = 0 then e.s (828 + w 3) else if w 2 = 1 then w 4 else 0) ≤ 99
        split
        · exact hbl
        · split
          · exact w4
          · omega⟩)
      have hc : ∀ p : Nat, p < 5 → ∀ a : Int, kW p a (e.run ++ l) + kO p a (e.out ++ [rec4 (w 0) (w 1) 0 (if w 2 = 0 then e.s (828 + w 3) else if w 2 = 1 then w 4 else 0)]) = kW p a (e.run ++ w :: l) + kO p a e.out := by
        intro p hp a
        rw [kW_app, kW_app, kO_app]
        simp only [kW, kO]
        rw [if_neg (show ¬ (w 0 = p ∧ 0 ≤ w 7 ∧ w 6 = a) by omega)]
        show _ + (_ + ((if w 0 = p ∧ w 1 = a then 1 else 0) + 0)) = _
        omega
      by_cases h2 : w 2 = 1
      · refine ⟨?_, by show (if w 2 = 1 then iup e.s (828 + w 3) (w 4) else e.s) 900 = _; rw [if_pos h2]; (simp (disch := omega) only [iup_at, iup_ne]; try rfl)⟩
        have k := h.moved (s' := iup e.s (828 + w 3) (w 4)) (WS.blk hS (by omega) w4 hB) (by (simp (disch := omega) only [iup_at, iup_ne]; try rfl)) (fun p hp f f0 f1 => by (simp (disch := omega) only [iup_at, iup_ne]; try rfl)) hR ho hc
        rw [if_pos h2]; exact k
      · refine ⟨?_, by show (if w 2 = 1 then iup e.s (828 + w 3) (w 4) else e.s) 900 = _; rw [if_neg h2]⟩
        have k := h.moved (s' := e.s) hS rfl (fun p hp f f0 f1 => rfl) hR ho hc
        rw [if_neg h2]; exact k
    · rw [if_neg h7]
      unfold fin2
      rw [dec_ne (by decide), dec_ne (by decide), dec_ne (by decide), dec_ne (by decide), dec_ne (by decide), dec_ne (by decide), dec_ne (by decide)]
      obtain ⟨v7, v2, v6, v8, v9, v10⟩ : w 7 = 3 ∧ w 2 = 2 ∧ (0 ≤ w 6 ∧ w 6 < 16) ∧ (0 ≤ w 8 ∧ w 8 ≤ 9) ∧ (0 ≤ w 9 ∧ w 9 ≤ 99) ∧ w 10 = 0 := by
        rcases w7 with z | z
        · omega
        · exact z
      have ho : All (WdOK (e.s 900)) ((e.out ++ [rec4 (w 0) (w 1) (if e.s (828 + w 3) = w 4 then 0 else 2) (e.s (828 + w 3))]) ++ [rec4 (w 0) (w 6) (if e.s (828 + w 3) = w 4 then 0 else 3) (if e.s (828 + w 3) = w 4 then w 9 else 0)]) := by
        refine (hO.app (All.one (x := rec4 (w 0) (w 1) (if e.s (828 + w 3) = w 4 then 0 else 2) (e.s (828 + w 3))) ⟨w0, w1, ?_, hbl⟩)).app (All.one (x := rec4 (w 0) (w 6) (if e.s (828 + w 3) = w 4 then 0 else 3) (if e.s (828 + w 3) = w 4 then w 9 else 0)) ⟨w0, v6, ?_, ?_⟩)
        · show 0 ≤ (if e.s (828 + w 3) = w 4 then (0 : Int) else 2) ∧ (if e.s (828 + w 3) = w 4 then (0 : Int) else 2) ≤ 4
          split <;> omega
        · show 0 ≤ (if e.s (828 + w 3) = w 4 then (0 : Int) else 3) ∧ (if e.s (828 + w 3) = w 4 then (0 : Int) else 3) ≤ 4
          split <;> omega
        · show 0 ≤ (if e.s (828 + w 3) = w 4 then w 9 else 0) ∧ (if e.s (828 + w 3) = w 4 then w 9 else 0) ≤ 99
          split <;> omega
      have hc : ∀ p : Nat, p < 5 → ∀ a : Int, kW p a (e.run ++ l) + kO p a ((e.out ++ [rec4 (w 0) (w 1) (if e.s (828 + w 3) = w 4 then 0 else 2) (e.s (828 + w 3))]) ++ [rec4 (w 0) (w 6) (if e.s (828 + w 3) = w 4 then 0 else 3) (if e.s (828 + w 3) = w 4 then w 9 else 0)]) = kW p a (e.run ++ w :: l) + kO p a e.out := by
        intro p hp a
        rw [kW_app, kW_app, kO_app, kO_app]
        simp only [kW, kO]
        show _ + (_ + ((if w 0 = p ∧ w 1 = a then 1 else 0) + 0) + ((if w 0 = p ∧ w 6 = a then 1 else 0) + 0)) = _
        by_cases c1 : w 0 = p ∧ w 6 = a
        · rw [if_pos c1, if_pos (show w 0 = p ∧ 0 ≤ w 7 ∧ w 6 = a from ⟨c1.1, by omega, c1.2⟩)]; omega
        · rw [if_neg c1, if_neg (show ¬ (w 0 = p ∧ 0 ≤ w 7 ∧ w 6 = a) from fun z => c1 ⟨z.1, z.2.2⟩)]; omega
      by_cases h2 : e.s (828 + w 3) = w 4
      · refine ⟨?_, by show (if e.s (828 + w 3) = w 4 then iup e.s (828 + w 8) (w 9) else e.s) 900 = _; rw [if_pos h2]; (simp (disch := omega) only [iup_at, iup_ne]; try rfl)⟩
        have k := h.moved (s' := iup e.s (828 + w 8) (w 9)) (WS.blk hS (by omega) v9 hB) (by (simp (disch := omega) only [iup_at, iup_ne]; try rfl)) (fun p hp f f0 f1 => by (simp (disch := omega) only [iup_at, iup_ne]; try rfl)) hR ho hc
        show WF (if e.s (828 + w 3) = w 4 then iup e.s (828 + w 8) (w 9) else e.s, e.ring, e.posts, e.us, e.run ++ l, _) B
        rw [if_pos h2]; exact k
      · refine ⟨?_, by show (if e.s (828 + w 3) = w 4 then iup e.s (828 + w 8) (w 9) else e.s) 900 = _; rw [if_neg h2]⟩
        have k := h.moved (s' := e.s) hS rfl (fun p hp f f0 f1 => rfl) hR ho hc
        show WF (if e.s (828 + w 3) = w 4 then iup e.s (828 + w 8) (w 9) else e.s, e.ring, e.posts, e.us, e.run ++ l, _) B
        rw [if_neg h2]; exact k
theorem runL_wf (hB : 99 ≤ B) : ∀ (l : List Rec) (e : DS), WF (setRun e (e.run ++ l)) B → WF (l.foldl runStep e) B
  | [], e, h => by
    have : e.run ++ [] = e.run := List.append_nil _
    rw [this] at h
    exact h
  | w :: l, e, h => by
    rw [List.foldl_cons]
    exact runL_wf hB l (runStep e w) (runStep_wf hB h).1
theorem WF.runs (h : WF d B) (hB : 99 ≤ B) : WF (runAll d) B := by
  unfold runAll
  exact runL_wf hB d.run (setRun d []) h
end
