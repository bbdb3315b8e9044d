/-! PURE PROOFS: a drive looks, counts, is emptied -/
set_option maxRecDepth 100000
section
variable {G : Wd} {D a q : Nat} {rf : Nat → Nat → Nat} {d : DS} {B : Int}
theorem p_X2_look_2 {Q : Wd → Prop} (hD : 9 < D) (hw : WF d B) (hB : B ≤ 1000000000) : ∀ (m k : Nat) (G : Wd), k + m = (d.s 900).toNat → DrA G D a rf (setS d (lookTo d.s k)) → (∀ G', DrA G' D a rf (lookD d) → FrR D (D + 100) G G' → Q G') → f_X2_look_2 a Q (m + 1) k G := by
  have hm := hw.many
  intro m
  induction m with
  | zero =>
    intro k G hk h hQ
    have e9 := (lookTo_wf hw k (by omega)).2
    unfold f_X2_look_2 f_X2_look_2_b
    refine gD_8 h (br_T ⟨by omega, by omega⟩ ?_ ?_ (hQ G ?_ FrR.refl))
    · show R32 (lookTo d.s k 900); rw [e9]; exact hw.r hB _
    · show lookTo d.s k 900 ≤ (k : Int); omega
    · unfold lookD
      rw [show (d.s 900).toNat = k by omega]; exact h
  | succ m ih =>
    intro k G hk h hQ
    obtain ⟨hw1, e9⟩ := lookTo_wf hw k (by omega)
    have hk5 : k < 5 := by omega
    unfold f_X2_look_2 f_X2_look_2_b f_X2_look_65
    refine gD_8 h (br_F ⟨by omega, by omega⟩ ?_ ?_ ?_)
    · show R32 (lookTo d.s k 900); rw [e9]; exact hw.r hB _
    · show ¬ (lookTo d.s k 900 ≤ (k : Int)); omega
    · refine gD_0 h (nn_of (xldL h hk5 (nn_of (gL_15 h hk5 ?_))))
      have nx : ∀ G', DrA G' D a rf (setS d (look1 (lookTo d.s k) k)) → FrR D (D + 100) G G' → f_X2_look_2 a Q (m + 1) ((k : Int) + 1) G' := by
        intro G' g1 g2
        rw [show (k : Int) + 1 = ((k + 1 : Nat) : Int) by omega]
        exact ih (k + 1) G' (by omega) g1 (fun G2 g3 g4 => hQ G2 g3 (g2.trans g4))
      generalize lookTo d.s k = s at h nx hw1 e9
      show brB (decide (s (89 * (k : Int) + 23) = 1)) _ _
      unfold look1 at nx
      by_cases c1 : s (89 * k + 23) = 1
      · rw [decide_eq_true c1]
        refine brB_T (gL_16 h hk5 ?_)
        show brB (decide (s (89 * (k : Int) + 8) = 1)) _ _
        by_cases c2 : s (89 * k + 8) = 1
        · rw [decide_eq_true c2]
          rw [if_pos ⟨c1, c2⟩] at nx
          refine brB_T (gL_8 h hk5 (pL_9 h hk5 hD (fun G1 g1 f1 => ⟨cL g1 hk5, ?_⟩)))
          simp (disch := omega) only [setS, setRun, setOut, outD, s_mk, ring_mk, posts_mk, us_mk, run_mk, out_mk, ring_2, posts_2, us_2, run_2, out_2, iup_at, iup_ne, nup_at, nup_ne] at g1
          have hwl := (hw1.wl hk5).1
          have hw2 : WF (setS d (iup s (89 * k + 2) (s (89 * k + 1)))) B := by
            refine hw1.scal (s' := iup s (89 * k + 2) (s (89 * k + 1))) ?_ (hw1.1.low (bnd_iup hw1.1.1 (Int.le_refl _) (hw1.1.1 _)) ?_ ?_ ?_) ?_ ?_
            · (simp (disch := omega) only [iup_at, iup_ne]; try rfl)
            · intro i i0 i1; (simp (disch := omega) only [iup_at, iup_ne]; try rfl)
            · (simp (disch := omega) only [iup_at, iup_ne]; try rfl)
            · (simp (disch := omega) only [iup_at, iup_ne]; try rfl); exact hw1.1.2.2.2.2.2.2.2.2.2
            · intro p hp
              have kk := (hw1.wl hp).1
              by_cases e : p = k
              · subst e
                have kk : WLs s p := kk
                unfold WLs at kk ⊢
                (simp (disch := omega) only [iup_at, iup_ne]; try rfl)
                exact ⟨⟨kk.1.1, kk.1.2.1, by omega, by omega, by omega⟩, kk.2⟩
              · exact kk.same (by (simp (disch := omega) only [iup_at, iup_ne]; try rfl)) (fun f f0 f1 => by (simp (disch := omega) only [iup_at, iup_ne]; try rfl))
            · intro p hp
              refine ⟨?_, ?_, ?_, ?_, ?_⟩ <;> (simp (disch := omega) only [iup_at, iup_ne]; try rfl)
          refine p_X3_hasWork g1 hk5 hw2 hB ?_
          have hwl' : WLs s k := hwl
          unfold WLs at hwl'
          by_cases c3 : s (89 * k + 3) < s (89 * k + 1)
          · rw [if_pos c3] at nx
            rw [show hasW (DS.s (setS d (iup s (89 * k + 2) (s (89 * k + 1))))) k = true by unfold hasW; simp (disch := omega) only [setS, setRun, setOut, outD, s_mk, ring_mk, posts_mk, us_mk, run_mk, out_mk, ring_2, posts_2, us_2, run_2, out_2, iup_at, iup_ne, nup_at, nup_ne]; simpa using c3]
            exact brB_T (nx G1 g1 f1)
          · rw [if_neg c3] at nx
            rw [show hasW (DS.s (setS d (iup s (89 * k + 2) (s (89 * k + 1))))) k = false by unfold hasW; simp (disch := omega) only [setS, setRun, setOut, outD, s_mk, ring_mk, posts_mk, us_mk, run_mk, out_mk, ring_2, posts_2, us_2, run_2, out_2, iup_at, iup_ne, nup_at, nup_ne]; simpa using c3]
            refine brB_F (gL_9 g1 hk5 (pL_14 g1 hk5 hD (fun G2 g2 f2 => pL_16 0 (by decide) g2 hk5 hD (fun G3 g3 f3 => nx G3 ?_ (f1.trans (f2.trans f3))))))
            simp (disch := omega) only [setS, setRun, setOut, outD, s_mk, ring_mk, posts_mk, us_mk, run_mk, out_mk, ring_2, posts_2, us_2, run_2, out_2, iup_at, iup_ne, nup_at, nup_ne] at g3
            exact g3
        · rw [decide_eq_false c2]
          rw [if_neg (fun z => c2 z.2)] at nx
          exact brB_F (nx G h FrR.refl)
      · rw [decide_eq_false c1]
        rw [if_neg (fun z => c1 z.1)] at nx
        exact brB_F (nx G h FrR.refl)
theorem p_X2_look {Q : Wd → Prop} (h : DrA G D a rf d) (hD : 9 < D) (hw : WF d B) (hB : B ≤ 1000000000) (hQ : ∀ G', DrA G' D a rf (lookD d) → FrR D (D + 100) G G' → Q G') : f_X2_look a G Q :=
  ⟨(d.s 900).toNat + 1, p_X2_look_2 hD hw hB (d.s 900).toNat 0 G (by omega) h hQ⟩
/-- what is counted over the lines -/
def sumI (f : Nat → Int) : Nat → Int
  | 0 => 0
  | n + 1 => sumI f n + f n
theorem p_X2_inRings_4 {Q : Int → Wd → Prop} (h : DrA G D a rf d) (hw : WF d B) (hB : B ≤ 1000000000) (hQ : Q (sumI (fun q => (d.ring q).length) (d.s 900).toNat) G) : ∀ (m k : Nat), k + m = (d.s 900).toNat → f_X2_inRings_4 a Q (m + 1) (sumI (fun q => (d.ring q).length) k) k G := by
  have hm := hw.many
  intro m
  induction m with
  | zero =>
    intro k hk
    unfold f_X2_inRings_4 f_X2_inRings_4_b
    refine gD_8 h (br_T ⟨by omega, by omega⟩ (hw.r hB _) (by omega) ?_)
    rw [show k = (d.s 900).toNat by omega]; exact hQ
  | succ m ih =>
    intro k hk
    have hk5 : k < 5 := by omega
    unfold f_X2_inRings_4 f_X2_inRings_4_b
    refine gD_8 h (br_F ⟨by omega, by omega⟩ (hw.r hB _) (by omega) (gD_0 h (nn_of (xldL h hk5 (nn_of (gL_1 h hk5 (nn_of ⟨cRing h hk5, x_ringSize h hk5 ?_⟩)))))))
    rw [show (k : Int) + 1 = ((k + 1 : Nat) : Int) by omega]
    exact ih (k + 1) (by omega)
theorem p_X2_inRings {Q : Int → Wd → Prop} (h : DrA G D a rf d) (hw : WF d B) (hB : B ≤ 1000000000) (hQ : Q (sumI (fun q => (d.ring q).length) (d.s 900).toNat) G) : f_X2_inRings a G Q :=
  ⟨(d.s 900).toNat + 1, p_X2_inRings_4 h hw hB hQ (d.s 900).toNat 0 (by omega)⟩
theorem p_X2_notTaken_4 {Q : Int → Wd → Prop} (h : DrA G D a rf d) (hw : WF d B) (hB : B ≤ 1000000000) (hQ : Q (sumI (fun q => d.s (89 * q + 5) - d.s (89 * q + 6)) (d.s 900).toNat) G) : ∀ (m k : Nat), k + m = (d.s 900).toNat → f_X2_notTaken_4 a Q (m + 1) (sumI (fun q => d.s (89 * q + 5) - d.s (89 * q + 6)) k) k G := by
  have hm := hw.many
  intro m
  induction m with
  | zero =>
    intro k hk
    unfold f_X2_notTaken_4 f_X2_notTaken_4_b
    refine gD_8 h (br_T ⟨by omega, by omega⟩ (hw.r hB _) (by omega) ?_)
    rw [show k = (d.s 900).toNat by omega]; exact hQ
  | succ m ih =>
    intro k hk
    have hk5 : k < 5 := by omega
    unfold f_X2_notTaken_4 f_X2_notTaken_4_b
    refine gD_8 h (br_F ⟨by omega, by omega⟩ (hw.r hB _) (by omega) (gD_0 h (nn_of (xldL h hk5 (nn_of (gL_12 h hk5 (gD_0 h (nn_of (xldL h hk5 (nn_of (gL_13 h hk5 ?_))))))))))) 
    rw [show (k : Int) + 1 = ((k + 1 : Nat) : Int) by omega]
    exact ih (k + 1) (by omega)
theorem p_X2_notTaken {Q : Int → Wd → Prop} (h : DrA G D a rf d) (hw : WF d B) (hB : B ≤ 1000000000) (hQ : Q (sumI (fun q => d.s (89 * q + 5) - d.s (89 * q + 6)) (d.s 900).toNat) G) : f_X2_notTaken a G Q :=
  ⟨(d.s 900).toNat + 1, p_X2_notTaken_4 h hw hB hQ (d.s 900).toNat 0 (by omega)⟩
theorem p_X2_fetched_4 {Q : Int → Wd → Prop} (h : DrA G D a rf d) (hw : WF d B) (hB : B ≤ 1000000000) (hQ : Q (sumI (fun q => d.s (89 * q + 3)) (d.s 900).toNat) G) : ∀ (m k : Nat), k + m = (d.s 900).toNat → f_X2_fetched_4 a Q (m + 1) (sumI (fun q => d.s (89 * q + 3)) k) k G := by
  have hm := hw.many
  intro m
  induction m with
  | zero =>
    intro k hk
    unfold f_X2_fetched_4 f_X2_fetched_4_b
    refine gD_8 h (br_T ⟨by omega, by omega⟩ (hw.r hB _) (by omega) ?_)
    rw [show k = (d.s 900).toNat by omega]; exact hQ
  | succ m ih =>
    intro k hk
    have hk5 : k < 5 := by omega
    unfold f_X2_fetched_4 f_X2_fetched_4_b
    refine gD_8 h (br_F ⟨by omega, by omega⟩ (hw.r hB _) (by omega) (gD_0 h (nn_of (xldL h hk5 (nn_of (gL_10 h hk5 ?_))))))
    rw [show (k : Int) + 1 = ((k + 1 : Nat) : Int) by omega]
    exact ih (k + 1) (by omega)
theorem p_X2_fetched {Q : Int → Wd → Prop} (h : DrA G D a rf d) (hw : WF d B) (hB : B ≤ 1000000000) (hQ : Q (sumI (fun q => d.s (89 * q + 3)) (d.s 900).toNat) G) : f_X2_fetched a G Q :=
  ⟨(d.s 900).toNat + 1, p_X2_fetched_4 h hw hB hQ (d.s 900).toNat 0 (by omega)⟩
theorem p_X2_blocksSum_13 {Q : Int → Wd → Prop} (h : DrA G D a rf d) (hQ : Q (sumI (fun q => d.s (828 + q)) 10) G) : ∀ (m k : Nat), k + m = 10 → f_X2_blocksSum_13 a Q (m + 1) (sumI (fun q => d.s (828 + q)) k) (some (rf 9 3)) (10 : Nat) k G := by
  intro m
  induction m with
  | zero =>
    intro k hk
    unfold f_X2_blocksSum_13 f_X2_blocksSum_13_b
    refine br_T ⟨by omega, by omega⟩ ⟨by omega, by omega⟩ (by omega) ?_
    rw [show k = 10 by omega]; exact hQ
  | succ m ih =>
    intro k hk
    unfold f_X2_blocksSum_13 f_X2_blocksSum_13_b
    refine br_F ⟨by omega, by omega⟩ ⟨by omega, by omega⟩ (by omega) (nn_of (xldB h (by omega) (by omega) ?_))
    rw [show (k : Int) + 1 = ((k + 1 : Nat) : Int) by omega]
    exact ih (k + 1) (by omega)
theorem p_X2_blocksSum {Q : Int → Wd → Prop} (h : DrA G D a rf d) (hQ : Q (sumI (fun q => d.s (828 + q)) 10) G) : f_X2_blocksSum a G Q := by
  unfold f_X2_blocksSum
  refine gD_3 h (nn_of ?_)
  obtain ⟨f, k1, k2⟩ := h.2.2.2.2.1
  exact lnI_of k1 ⟨11, p_X2_blocksSum_13 h hQ 10 0 (by omega)⟩
theorem p_X2_isDrained_2 {Q : Bool → Wd → Prop} (h : DrA G D a rf d) (hw : WF d B) (hB : B ≤ 1000000000) : ∀ (m k : Nat), k + m = (d.s 900).toNat → (∀ b, (b = true ↔ (∀ j : Nat, k ≤ j → j < (d.s 900).toNat → d.s (89 * j + 1) ≤ d.s (89 * j + 3)) ∧ d.run = [] ∧ d.out = []) → Q b G) → f_X2_isDrained_2 a Q (m + 1) k G := by
  have hm := hw.many
  intro m
  induction m with
  | zero =>
    intro k hk hQ
    unfold f_X2_isDrained_2 f_X2_isDrained_2_b f_X2_isDrained_63
    refine gD_8 h (br_T ⟨by omega, by omega⟩ (hw.r hB _) (by omega) (gD_1 h (nn_of ⟨cRun h, x_runEmpty h ?_⟩)))
    cases hr : d.run with
    | cons w l => exact brB_F (hQ false ⟨fun z => (by cases z), fun z => by rw [hr] at z; cases z.2.1⟩)
    | nil =>
      refine brB_T (gD_2 h (nn_of ⟨cOut h, x_outEmpty h ?_⟩))
      cases ho : d.out with
      | cons w l => exact brB_F (hQ false ⟨fun z => (by cases z), fun z => by rw [ho] at z; cases z.2.2⟩)
      | nil => exact brB_T (hQ true ⟨fun _ => ⟨fun j j1 j2 => by omega, hr, ho⟩, fun _ => rfl⟩)
  | succ m ih =>
    intro k hk hQ
    have hk5 : k < 5 := by omega
    unfold f_X2_isDrained_2 f_X2_isDrained_2_b
    refine gD_8 h (br_F ⟨by omega, by omega⟩ (hw.r hB _) (by omega) (gD_0 h (nn_of (xldL h hk5 (nn_of (gL_8 h hk5 (gD_0 h (nn_of (xldL h hk5 (nn_of (gL_10 h hk5 ?_)))))))))))
    refine ⟨⟨hw.r hB _, hw.r hB _⟩, fun c => ?_, fun c => ?_⟩
    · rw [show (k : Int) + 1 = ((k + 1 : Nat) : Int) by omega]
      refine ih (k + 1) (by omega) (fun b hb => hQ b ?_)
      rw [hb]
      refine ⟨fun z => ⟨fun j j1 j2 => ?_, z.2⟩, fun z => ⟨fun j j1 j2 => z.1 j (by omega) j2, z.2⟩⟩
      by_cases e : j = k
      · subst e; exact c
      · exact z.1 j (by omega) j2
    · exact hQ false ⟨fun z => (by cases z), fun z => absurd (z.1 k (by omega) (by omega)) c⟩
def isDr (d : DS) : Bool := decide (∀ j : Nat, j < 5 → (j : Int) < d.s 900 → d.s (89 * j + 1) ≤ d.s (89 * j + 3)) && (d.run.isEmpty && d.out.isEmpty)
theorem isDr_iff {d : DS} : isDr d = true ↔ (∀ j : Nat, j < 5 → (j : Int) < d.s 900 → d.s (89 * j + 1) ≤ d.s (89 * j + 3)) ∧ d.run = [] ∧ d.out = [] := by
  unfold isDr
  simp only [Bool.and_eq_true, decide_eq_true_eq, List.isEmpty_iff]
theorem p_X2_isDrained {Q : Bool → Wd → Prop} (h : DrA G D a rf d) (hw : WF d B) (hB : B ≤ 1000000000) (hQ : Q (isDr d) G) : f_X2_isDrained a G Q := by
  refine ⟨(d.s 900).toNat + 1, p_X2_isDrained_2 h hw hB (d.s 900).toNat 0 (by omega) (fun b hb => ?_)⟩
  have hm := hw.many
  have e : b = isDr d := by
    rw [Bool.eq_iff_iff, hb, isDr_iff]
    exact ⟨fun z => ⟨fun j j1 j2 => z.1 j (by omega) (by omega), z.2⟩, fun z => ⟨fun j j1 j2 => z.1 j (by omega) (by omega), z.2⟩⟩
  rw [e]; exact hQ
theorem p_X3_empty {Q : Wd → Prop} (h : DrA G D a rf d) (hD : 9 < D) (hq : q < 5) (hQ : ∀ G', DrA G' D a rf (iup (iup (iup (iup (iup (iup (iup (iup (iup d.s (89 * q + 0) 0) (89 * q + 1) 0) (89 * q + 2) 0) (89 * q + 3) 0) (89 * q + 4) 0) (89 * q + 5) 0) (89 * q + 6) 0) (89 * q + 7) 0) (89 * q + 8) 0, nup d.ring q [], nup d.posts q [], nup d.us q 0, d.run, d.out) → FrR D (D + 100) G G' → Q G') : f_X3_empty (rf q 0) G Q := by
  unfold f_X3_empty
  refine gL_1 h hq (nn_of ⟨cRing h hq, x_ringClear h hD hq (fun G1 g1 f1 => gL_2 g1 hq (nn_of ⟨cPosts g1 hq, x_postsClear g1 hD hq (fun G2 g2 f2 => gL_3 g2 hq (nn_of ⟨cUsed g2 hq, x_usedClear g2 hD hq (fun G3 g3 f3 => ?_)⟩))⟩))⟩)
  refine pL_7 g3 hq hD (fun G4 g4 f4 => pL_8 g4 hq hD (fun G5 g5 f5 => pL_9 g5 hq hD (fun G6 g6 f6 => pL_10 g6 hq hD (fun G7 g7 f7 => pL_11 g7 hq hD (fun G8 g8 f8 => pL_12 g8 hq hD (fun G9 g9 f9 => pL_13 g9 hq hD (fun G10 g10 f10 => pL_14 g10 hq hD (fun G11 g11 f11 => pL_16 0 (by decide) g11 hq hD (fun G12 g12 f12 => hQ G12 ?_ ?_)))))))))
  · exact g12
  · exact f1.trans (f2.trans (f3.trans (f4.trans (f5.trans (f6.trans (f7.trans (f8.trans (f9.trans (f10.trans (f11.trans f12))))))))))
end
