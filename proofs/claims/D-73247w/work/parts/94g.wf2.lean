/-! PURE PROOFS: what is always so stays so: numbers -/
set_option maxRecDepth 100000
section
variable {d : DS} {B B' : Int} {q : Nat} {s s' : Rec}
theorem WS.mono (h : WS s B) (hb : B ≤ B') : WS s B' := ⟨fun i => by have := h.1 i; omega, h.2⟩
theorem WF.mono (h : WF d B) (hb : B ≤ B') : WF d B' := ⟨h.1.mono hb, h.2⟩
theorem WF.scal (h : WF d B) (h9 : s' 900 = d.s 900) (hs : WS s' B') (hl : ∀ q : Nat, q < 5 → WLs s' q) (he : ∀ q : Nat, q < 5 → s' (89 * q + 0) = d.s (89 * q + 0) ∧ s' (89 * q + 3) = d.s (89 * q + 3) ∧ s' (89 * q + 4) = d.s (89 * q + 4) ∧ s' (89 * q + 5) = d.s (89 * q + 5) ∧ s' (89 * q + 6) = d.s (89 * q + 6)) : WF (setS d s') B' := by
  obtain ⟨h1, h2, h3, h4, h5⟩ := h
  refine ⟨hs, fun q hq => ?_, ?_, ?_, h5⟩
  · obtain ⟨k1, k2, k3, k4, k5, k6⟩ := h2 q hq
    obtain ⟨e0, e3, e4, e5, e6⟩ := he q hq
    refine ⟨hl q hq, ?_, ?_, k4, ?_, k6⟩
    · show _ = s' _ - s' _; rw [e0, e3]; exact k2
    · show _ = s' _ - s' _; rw [e5, e6]; exact k3
    · show All (PsOK (s' _) (s' _)) _; rw [e4, e3]; exact k5
  · show _ ∧ All (WkOK (s' 900)) _; rw [h9]; exact h3
  · show All (WdOK (s' 900)) _; rw [h9]; exact h4
theorem WLs.same {s s' : Rec} (h : WLs s q) (h9 : s' 900 = s 900) (e : ∀ f : Int, 0 ≤ f → f < 24 → s' (89 * q + f) = s (89 * q + f)) : WLs s' q := by
  unfold WLs at h ⊢
  rw [h9, e 0 (by omega) (by omega), e 1 (by omega) (by omega), e 2 (by omega) (by omega), e 3 (by omega) (by omega), e 4 (by omega) (by omega), e 5 (by omega) (by omega), e 6 (by omega) (by omega), e 7 (by omega) (by omega), e 8 (by omega) (by omega), e 20 (by omega) (by omega), e 21 (by omega) (by omega), e 22 (by omega) (by omega), e 23 (by omega) (by omega)]
  exact h
theorem bnd_iup {i x : Int} (h : ∀ i, -B ≤ s i ∧ s i ≤ B) (hb : B ≤ B') (hx : -B' ≤ x ∧ x ≤ B') : ∀ j, -B' ≤ iup s i x j ∧ iup s i x j ≤ B' := by
  intro j
  unfold iup
  split
  · exact hx
  · have := h j; omega
/-- what has to be so of the numbers ahead of the lines -/
theorem WS.low (h : WS s B) (hs : ∀ i, -B' ≤ s' i ∧ s' i ≤ B') (e : ∀ i, 814 ≤ i → i < 838 → s' i = s i) (e9 : s' 900 = s 900) (e4 : s' 840 + s' 841 + s' 842 + s' 843 = s' (89 * 0 + 3) + s' (89 * 1 + 3) + s' (89 * 2 + 3) + s' (89 * 3 + 3) + s' (89 * 4 + 3)) : WS s' B' := by
  obtain ⟨h1, h2, h3, h4, h5, h6, h7, h8, h9, h10⟩ := h
  refine ⟨hs, by rw [e9]; exact h2, by rw [e 826 (by omega) (by omega)]; exact h3, by rw [e 827 (by omega) (by omega)]; exact h4, fun i i0 i1 => by rw [e i (by omega) (by omega)]; exact h5 i i0 i1, by rw [e 814 (by omega) (by omega)]; exact h6, fun i i0 i1 => by rw [e i (by omega) (by omega)]; exact h7 i i0 i1, fun i i0 i1 => by rw [e i (by omega) (by omega)]; exact h8 i i0 i1, fun i i0 i1 => by rw [e i (by omega) (by omega)]; exact h9 i i0 i1, e4⟩
theorem WF.hq (h : WF d B) (hq : (q : Int) < d.s 900) : q < 5 := by have := h.many; omega
theorem WF.ring (h : WF d B) (hq : (q : Int) < d.s 900) : WF (ringD d q) (B + 1) := by
  have h5 := h.hq hq
  unfold ringD ringS
  split
  · exact h.mono (by omega)
  · rename_i h1
    have hb := h.1.1
    have b0 := hb (89 * q + 0)
    have b23 := hb (89 * q + 23)
    have b838 := hb 838
    have b839 := hb 839
    split
    · refine h.scal ?_ (h.1.low (bnd_iup (bnd_iup hb (Int.le_refl _) b0) (by omega) (by omega)) ?_ ?_ ?_) ?_ ?_
      · (simp (disch := omega) only [iup_at, iup_ne]; try rfl)
      · intro i i0 i1; (simp (disch := omega) only [iup_at, iup_ne]; try rfl)
      · (simp (disch := omega) only [iup_at, iup_ne]; try rfl)
      · (simp (disch := omega) only [iup_at, iup_ne]; try rfl); exact h.1.2.2.2.2.2.2.2.2.2
      · intro p hp
        have k := (h.wl hp).1
        by_cases e : p = q
        · subst e
          unfold WLs at k ⊢
          (simp (disch := omega) only [iup_at, iup_ne]; try rfl)
          exact ⟨⟨k.1.1, k.1.2.1, k.1.2.2.1, by omega, by omega⟩, k.2⟩
        · exact k.same (by (simp (disch := omega) only [iup_at, iup_ne]; try rfl)) (fun f f0 f1 => by (simp (disch := omega) only [iup_at, iup_ne]; try rfl))
      · intro p hp
        refine ⟨?_, ?_, ?_, ?_, ?_⟩ <;> (simp (disch := omega) only [iup_at, iup_ne]; try rfl)
    · refine h.scal ?_ (h.1.low (bnd_iup (bnd_iup (bnd_iup (bnd_iup hb (Int.le_refl _) b0) (B' := B + 1) (by omega) (by omega)) (Int.le_refl _) (by omega)) (Int.le_refl _) (by omega)) ?_ ?_ ?_) ?_ ?_
      · (simp (disch := omega) only [iup_at, iup_ne]; try rfl)
      · intro i i0 i1; (simp (disch := omega) only [iup_at, iup_ne]; try rfl)
      · (simp (disch := omega) only [iup_at, iup_ne]; try rfl)
      · (simp (disch := omega) only [iup_at, iup_ne]; try rfl); exact h.1.2.2.2.2.2.2.2.2.2
      · intro p hp
        have k := (h.wl hp).1
        by_cases e : p = q
        · subst e
          unfold WLs at k ⊢
          (simp (disch := omega) only [iup_at, iup_ne]; try rfl)
          exact ⟨⟨k.1.1, k.1.2.1, by omega, by omega, by omega⟩, k.2.1, k.2.2.2.1, k.2.2.2.1, k.2.2.2.2.1, by omega⟩
        · exact k.same (by (simp (disch := omega) only [iup_at, iup_ne]; try rfl)) (fun f f0 f1 => by (simp (disch := omega) only [iup_at, iup_ne]; try rfl))
      · intro p hp
        refine ⟨?_, ?_, ?_, ?_, ?_⟩ <;> (simp (disch := omega) only [iup_at, iup_ne]; try rfl)
theorem look1_wf (h : WF d B) (hq : (q : Int) < d.s 900) : WF (setS d (look1 d.s q)) B := by
  have h5 := h.hq hq
  unfold look1
  split
  · have hb := h.1.1
    have b1 := hb (89 * q + 1)
    split
    · refine h.scal ?_ (h.1.low (bnd_iup hb (Int.le_refl _) b1) ?_ ?_ ?_) ?_ ?_
      · (simp (disch := omega) only [iup_at, iup_ne]; try rfl)
      · intro i i0 i1; (simp (disch := omega) only [iup_at, iup_ne]; try rfl)
      · (simp (disch := omega) only [iup_at, iup_ne]; try rfl)
      · (simp (disch := omega) only [iup_at, iup_ne]; try rfl); exact h.1.2.2.2.2.2.2.2.2.2
      · intro p hp
        have k := (h.wl hp).1
        by_cases e : p = q
        · subst e
          unfold WLs at k ⊢
          (simp (disch := omega) only [iup_at, iup_ne]; try rfl)
          exact ⟨⟨k.1.1, k.1.2.1, by omega, by omega, by omega⟩, k.2⟩
        · exact k.same (by (simp (disch := omega) only [iup_at, iup_ne]; try rfl)) (fun f f0 f1 => by (simp (disch := omega) only [iup_at, iup_ne]; try rfl))
      · intro p hp
        refine ⟨?_, ?_, ?_, ?_, ?_⟩ <;> (simp (disch := omega) only [iup_at, iup_ne]; try rfl)
    · refine h.scal ?_ (h.1.low (bnd_iup (bnd_iup (bnd_iup hb (Int.le_refl _) b1) (Int.le_refl _) b1) (Int.le_refl _) (by omega)) ?_ ?_ ?_) ?_ ?_
      · (simp (disch := omega) only [iup_at, iup_ne]; try rfl)
      · intro i i0 i1; (simp (disch := omega) only [iup_at, iup_ne]; try rfl)
      · (simp (disch := omega) only [iup_at, iup_ne]; try rfl)
      · (simp (disch := omega) only [iup_at, iup_ne]; try rfl); exact h.1.2.2.2.2.2.2.2.2.2
      · intro p hp
        have k := (h.wl hp).1
        by_cases e : p = q
        · subst e
          unfold WLs at k ⊢
          (simp (disch := omega) only [iup_at, iup_ne]; try rfl)
          exact ⟨⟨k.1.1, k.1.2.1, by omega, by omega, by omega⟩, k.2.1, by simp, k.2.2.2.1, k.2.2.2.2.1, by omega⟩
        · exact k.same (by (simp (disch := omega) only [iup_at, iup_ne]; try rfl)) (fun f f0 f1 => by (simp (disch := omega) only [iup_at, iup_ne]; try rfl))
      · intro p hp
        refine ⟨?_, ?_, ?_, ?_, ?_⟩ <;> (simp (disch := omega) only [iup_at, iup_ne]; try rfl)
  · exact h
theorem look1_900 {s : Rec} (hq : q < 5) : look1 s q 900 = s 900 := by
  unfold look1
  split
  · split <;> (simp (disch := omega) only [iup_at, iup_ne]; try rfl)
  · rfl
theorem lookTo_wf (h : WF d B) : ∀ n : Nat, (n : Int) ≤ d.s 900 → WF (setS d (lookTo d.s n)) B ∧ lookTo d.s n 900 = d.s 900
  | 0, _ => ⟨h, rfl⟩
  | n + 1, hn => by
    obtain ⟨k1, k2⟩ := lookTo_wf h n (by omega)
    have hm := h.many
    refine ⟨look1_wf k1 (by show (n : Int) < lookTo d.s n 900; omega), ?_⟩
    show look1 (lookTo d.s n) n 900 = _
    rw [look1_900 (by omega), k2]
theorem WF.look (h : WF d B) : WF (lookD d) B := by
  have hm := h.many
  exact (lookTo_wf h _ (by omega)).1
end
