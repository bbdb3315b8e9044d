/-! PURE PROOFS: what a line, a drive does, at DrA: takes, whose turn it is, looks -/
set_option maxRecDepth 100000
section
variable {G : Wd} {D a q : Nat} {rf : Nat → Nat → Nat} {d : DS} {B : Int}
theorem cst_of {r : Option Nat} {x r1 ci : Nat} {fs : List Value} {cs : List Nat} {A : Prop} (h : r = some x) (hx : G r1 x = some (oB ci fs)) (hc : ci ∈ cs) (hA : A) : cst G r cs A := by
  refine ⟨fun y hy => ?_, hA⟩
  rw [h] at hy
  injection hy with hy
  exact ⟨ci, hc, r1, fs, by rw [← hy]; exact hx⟩
theorem p_X3_byIds {Q : Int → Wd → Prop} (h : DrA G D a rf d) (hq : q < 5) (hQ : Q (16 - (bcnt 16 (d.us q) : Nat)) G) : f_X3_byIds (rf q 0) G Q := by
  unfold f_X3_byIds
  (repeat first | (with_reducible apply nn_of) | (refine ⟨cL (by assumption) (by assumption), ?_⟩) | (refine ⟨cD (by assumption), ?_⟩) | ((with_reducible apply gD_0); (focus (assumption))) | ((with_reducible apply gD_1); (focus (assumption))) | ((with_reducible apply gD_2); (focus (assumption))) | ((with_reducible apply xldL); (focus (assumption)); (focus (assumption))) | ((with_reducible apply gL_7); (focus (assumption)); (focus (assumption))) | ((with_reducible apply gL_8); (focus (assumption)); (focus (assumption))) | ((with_reducible apply gL_9); (focus (assumption)); (focus (assumption))) | ((with_reducible apply gL_10); (focus (assumption)); (focus (assumption))) | ((with_reducible apply gL_11); (focus (assumption)); (focus (assumption))) | ((with_reducible apply gL_12); (focus (assumption)); (focus (assumption))) | ((with_reducible apply gL_13); (focus (assumption)); (focus (assumption))) | ((with_reducible apply gL_14); (focus (assumption)); (focus (assumption))) | ((with_reducible apply gL_0); (focus (assumption)); (focus (assumption))) | ((with_reducible apply gL_1); (focus (assumption)); (focus (assumption))) | ((with_reducible apply gL_2); (focus (assumption)); (focus (assumption))) | ((with_reducible apply gL_3); (focus (assumption)); (focus (assumption))) | ((with_reducible apply gL_4); (focus (assumption)); (focus (assumption))) | ((with_reducible apply gL_5); (focus (assumption)); (focus (assumption))) | ((with_reducible apply gL_6); (focus (assumption)); (focus (assumption))) | ((with_reducible apply gL_15); (focus (assumption)); (focus (assumption))) | ((with_reducible apply gL_16); (focus (assumption)); (focus (assumption))) | ((with_reducible apply gD_8); (focus (assumption))) | ((with_reducible apply gD_9); (focus (assumption))) | ((with_reducible apply gD_10); (focus (assumption))) | ((with_reducible apply gD_11); (focus (assumption))) | ((with_reducible apply gD_12); (focus (assumption))) | ((with_reducible apply gD_13); (focus (assumption))) | ((with_reducible apply gD_14); (focus (assumption))) | ((with_reducible apply gD_3); (focus (assumption))) | ((with_reducible apply gD_4); (focus (assumption))) | ((with_reducible apply gD_5); (focus (assumption))) | ((with_reducible apply gD_6); (focus (assumption))) | ((with_reducible apply gD_7); (focus (assumption))) | ((with_reducible apply pL_7); (focus (assumption)); (focus (assumption)); (focus (assumption)); intro _ _ _) | ((with_reducible apply pL_8); (focus (assumption)); (focus (assumption)); (focus (assumption)); intro _ _ _) | ((with_reducible apply pL_9); (focus (assumption)); (focus (assumption)); (focus (assumption)); intro _ _ _) | ((with_reducible apply pL_10); (focus (assumption)); (focus (assumption)); (focus (assumption)); intro _ _ _) | ((with_reducible apply pL_11); (focus (assumption)); (focus (assumption)); (focus (assumption)); intro _ _ _) | ((with_reducible apply pL_12); (focus (assumption)); (focus (assumption)); (focus (assumption)); intro _ _ _) | ((with_reducible apply pL_13); (focus (assumption)); (focus (assumption)); (focus (assumption)); intro _ _ _) | ((with_reducible apply pL_14); (focus (assumption)); (focus (assumption)); (focus (assumption)); intro _ _ _) | ((with_reducible apply pL_4); (focus (assumption)); (focus (assumption)); (focus (assumption)); intro _ _ _) | ((with_reducible apply pL_5); (focus (assumption)); (focus (assumption)); (focus (assumption)); intro _ _ _) | ((with_reducible apply pL_6); (focus (assumption)); (focus (assumption)); (focus (assumption)); intro _ _ _) | ((with_reducible apply pD_10); (focus (assumption)); (focus (assumption)); intro _ _ _) | ((with_reducible apply pD_11); (focus (assumption)); (focus (assumption)); intro _ _ _) | ((with_reducible apply pD_12); (focus (assumption)); (focus (assumption)); intro _ _ _) | ((with_reducible apply pD_13); (focus (assumption)); (focus (assumption)); intro _ _ _) | ((with_reducible apply pD_14); (focus (assumption)); (focus (assumption)); intro _ _ _) | ((with_reducible apply pD_8); (focus (assumption)); (focus (assumption)); intro _ _ _) | ((with_reducible apply pD_9); (focus (assumption)); (focus (assumption)); intro _ _ _) | (refine ⟨cRun (by assumption), ?_⟩) | (refine ⟨cOut (by assumption), ?_⟩) | (refine ⟨cRing (by assumption) (by assumption), ?_⟩) | (refine ⟨cPosts (by assumption) (by assumption), ?_⟩) | (refine ⟨cUsed (by assumption) (by assumption), ?_⟩))
  obtain ⟨k1, k2, k4, k6⟩ := h.lineq hq
  exact p_J5_cardinality k6 hQ
theorem p_X3_take {Q : Option Nat → Wd → Prop} {p : Rec} {ps : List Rec} (h : DrA G D a rf d) (hD : 9 < D) (hq : q < 5) (hp : d.posts q = p :: ps) (h0 : 0 ≤ p 0 ∧ p 0 < 16) (hQ : ∀ x G', PostAt (G' 1) q x p → DrA G' D a rf (takeD d q p) → FrR D (D + 100) G G' → Q (some x) G') : f_X3_take (rf q 0) G Q := by
  unfold f_X3_take
  (repeat first | (with_reducible apply nn_of) | (refine ⟨cL (by assumption) (by assumption), ?_⟩) | (refine ⟨cD (by assumption), ?_⟩) | ((with_reducible apply gD_0); (focus (assumption))) | ((with_reducible apply gD_1); (focus (assumption))) | ((with_reducible apply gD_2); (focus (assumption))) | ((with_reducible apply xldL); (focus (assumption)); (focus (assumption))) | ((with_reducible apply gL_7); (focus (assumption)); (focus (assumption))) | ((with_reducible apply gL_8); (focus (assumption)); (focus (assumption))) | ((with_reducible apply gL_9); (focus (assumption)); (focus (assumption))) | ((with_reducible apply gL_10); (focus (assumption)); (focus (assumption))) | ((with_reducible apply gL_11); (focus (assumption)); (focus (assumption))) | ((with_reducible apply gL_12); (focus (assumption)); (focus (assumption))) | ((with_reducible apply gL_13); (focus (assumption)); (focus (assumption))) | ((with_reducible apply gL_14); (focus (assumption)); (focus (assumption))) | ((with_reducible apply gL_0); (focus (assumption)); (focus (assumption))) | ((with_reducible apply gL_1); (focus (assumption)); (focus (assumption))) | ((with_reducible apply gL_2); (focus (assumption)); (focus (assumption))) | ((with_reducible apply gL_3); (focus (assumption)); (focus (assumption))) | ((with_reducible apply gL_4); (focus (assumption)); (focus (assumption))) | ((with_reducible apply gL_5); (focus (assumption)); (focus (assumption))) | ((with_reducible apply gL_6); (focus (assumption)); (focus (assumption))) | ((with_reducible apply gL_15); (focus (assumption)); (focus (assumption))) | ((with_reducible apply gL_16); (focus (assumption)); (focus (assumption))) | ((with_reducible apply gD_8); (focus (assumption))) | ((with_reducible apply gD_9); (focus (assumption))) | ((with_reducible apply gD_10); (focus (assumption))) | ((with_reducible apply gD_11); (focus (assumption))) | ((with_reducible apply gD_12); (focus (assumption))) | ((with_reducible apply gD_13); (focus (assumption))) | ((with_reducible apply gD_14); (focus (assumption))) | ((with_reducible apply gD_3); (focus (assumption))) | ((with_reducible apply gD_4); (focus (assumption))) | ((with_reducible apply gD_5); (focus (assumption))) | ((with_reducible apply gD_6); (focus (assumption))) | ((with_reducible apply gD_7); (focus (assumption))) | ((with_reducible apply pL_7); (focus (assumption)); (focus (assumption)); (focus (assumption)); intro _ _ _) | ((with_reducible apply pL_8); (focus (assumption)); (focus (assumption)); (focus (assumption)); intro _ _ _) | ((with_reducible apply pL_9); (focus (assumption)); (focus (assumption)); (focus (assumption)); intro _ _ _) | ((with_reducible apply pL_10); (focus (assumption)); (focus (assumption)); (focus (assumption)); intro _ _ _) | ((with_reducible apply pL_11); (focus (assumption)); (focus (assumption)); (focus (assumption)); intro _ _ _) | ((with_reducible apply pL_12); (focus (assumption)); (focus (assumption)); (focus (assumption)); intro _ _ _) | ((with_reducible apply pL_13); (focus (assumption)); (focus (assumption)); (focus (assumption)); intro _ _ _) | ((with_reducible apply pL_14); (focus (assumption)); (focus (assumption)); (focus (assumption)); intro _ _ _) | ((with_reducible apply pL_4); (focus (assumption)); (focus (assumption)); (focus (assumption)); intro _ _ _) | ((with_reducible apply pL_5); (focus (assumption)); (focus (assumption)); (focus (assumption)); intro _ _ _) | ((with_reducible apply pL_6); (focus (assumption)); (focus (assumption)); (focus (assumption)); intro _ _ _) | ((with_reducible apply pD_10); (focus (assumption)); (focus (assumption)); intro _ _ _) | ((with_reducible apply pD_11); (focus (assumption)); (focus (assumption)); intro _ _ _) | ((with_reducible apply pD_12); (focus (assumption)); (focus (assumption)); intro _ _ _) | ((with_reducible apply pD_13); (focus (assumption)); (focus (assumption)); intro _ _ _) | ((with_reducible apply pD_14); (focus (assumption)); (focus (assumption)); intro _ _ _) | ((with_reducible apply pD_8); (focus (assumption)); (focus (assumption)); intro _ _ _) | ((with_reducible apply pD_9); (focus (assumption)); (focus (assumption)); intro _ _ _) | (refine ⟨cRun (by assumption), ?_⟩) | (refine ⟨cOut (by assumption), ?_⟩) | (refine ⟨cRing (by assumption) (by assumption), ?_⟩) | (refine ⟨cPosts (by assumption) (by assumption), ?_⟩) | (refine ⟨cUsed (by assumption) (by assumption), ?_⟩))
  refine x_postsPoll h hD hq hp (fun x G1 g1 g2 g3 => ?_)
  obtain ⟨y, y1, y2⟩ := g1
  refine cst_of rfl y1 (by decide) ?_
  refine gL_13 g2 hq (pL_13 g2 hq hD (fun G2 g4 g5 => ?_))
  have y1' := g5.2.1 _ _ y1
  have y2' := g5.2.1 _ _ y2
  refine nn_of (gI_of y1' (by decide) rfl (pL_11 g4 hq hD (fun G3 g6 g7 => ?_)))
  have y3 := g7.2.1 _ _ y1'
  have y4 := g7.2.1 _ _ y2'
  refine gL_3 g6 hq (gR_of y3 (by decide) rfl (nn_of (gI_of y4 (by decide) rfl (nn_of ⟨cUsed g6 hq, ?_⟩))))
  obtain ⟨n, hn⟩ : ∃ n : Nat, p 0 = n := ⟨(p 0).toNat, by omega⟩
  rw [hn]
  refine x_usedAt g6 hD hq (by omega) (fun G4 g8 g9 => ?_)
  refine hQ x G4 ⟨y, g9.2.1 _ _ y3, g9.2.1 _ _ y4⟩ ?_ (g3.trans (g5.trans (g7.trans g9)))
  unfold takeD
  have e : (p 0).toNat = n := by omega
  have e2 : (d.posts q).tail = ps := by rw [hp]; rfl
  rw [e, e2]
  exact g8
theorem p_X2_hasWork_2 {Q : Bool → Wd → Prop} (h : DrA G D a rf d) (hw : WF d B) (hB : B ≤ 1000000000) : ∀ (m k : Nat), k + m = (d.s 900).toNat → (∀ b, (b = true ↔ ∃ j, k ≤ j ∧ j < (d.s 900).toNat ∧ hasW d.s j = true) → Q b G) → f_X2_hasWork_2 a Q (m + 1) k G := by
  have hm := hw.many
  intro m
  induction m with
  | zero =>
    intro k hk hQ
    unfold f_X2_hasWork_2 f_X2_hasWork_2_b
    (repeat first | (with_reducible apply nn_of) | (refine ⟨cL (by assumption) (by assumption), ?_⟩) | (refine ⟨cD (by assumption), ?_⟩) | ((with_reducible apply gD_0); (focus (assumption))) | ((with_reducible apply gD_1); (focus (assumption))) | ((with_reducible apply gD_2); (focus (assumption))) | ((with_reducible apply xldL); (focus (assumption)); (focus (assumption))) | ((with_reducible apply gL_7); (focus (assumption)); (focus (assumption))) | ((with_reducible apply gL_8); (focus (assumption)); (focus (assumption))) | ((with_reducible apply gL_9); (focus (assumption)); (focus (assumption))) | ((with_reducible apply gL_10); (focus (assumption)); (focus (assumption))) | ((with_reducible apply gL_11); (focus (assumption)); (focus (assumption))) | ((with_reducible apply gL_12); (focus (assumption)); (focus (assumption))) | ((with_reducible apply gL_13); (focus (assumption)); (focus (assumption))) | ((with_reducible apply gL_14); (focus (assumption)); (focus (assumption))) | ((with_reducible apply gL_0); (focus (assumption)); (focus (assumption))) | ((with_reducible apply gL_1); (focus (assumption)); (focus (assumption))) | ((with_reducible apply gL_2); (focus (assumption)); (focus (assumption))) | ((with_reducible apply gL_3); (focus (assumption)); (focus (assumption))) | ((with_reducible apply gL_4); (focus (assumption)); (focus (assumption))) | ((with_reducible apply gL_5); (focus (assumption)); (focus (assumption))) | ((with_reducible apply gL_6); (focus (assumption)); (focus (assumption))) | ((with_reducible apply gL_15); (focus (assumption)); (focus (assumption))) | ((with_reducible apply gL_16); (focus (assumption)); (focus (assumption))) | ((with_reducible apply gD_8); (focus (assumption))) | ((with_reducible apply gD_9); (focus (assumption))) | ((with_reducible apply gD_10); (focus (assumption))) | ((with_reducible apply gD_11); (focus (assumption))) | ((with_reducible apply gD_12); (focus (assumption))) | ((with_reducible apply gD_13); (focus (assumption))) | ((with_reducible apply gD_14); (focus (assumption))) | ((with_reducible apply gD_3); (focus (assumption))) | ((with_reducible apply gD_4); (focus (assumption))) | ((with_reducible apply gD_5); (focus (assumption))) | ((with_reducible apply gD_6); (focus (assumption))) | ((with_reducible apply gD_7); (focus (assumption))) | ((with_reducible apply pL_7); (focus (assumption)); (focus (assumption)); (focus (assumption)); intro _ _ _) | ((with_reducible apply pL_8); (focus (assumption)); (focus (assumption)); (focus (assumption)); intro _ _ _) | ((with_reducible apply pL_9); (focus (assumption)); (focus (assumption)); (focus (assumption)); intro _ _ _) | ((with_reducible apply pL_10); (focus (assumption)); (focus (assumption)); (focus (assumption)); intro _ _ _) | ((with_reducible apply pL_11); (focus (assumption)); (focus (assumption)); (focus (assumption)); intro _ _ _) | ((with_reducible apply pL_12); (focus (assumption)); (focus (assumption)); (focus (assumption)); intro _ _ _) | ((with_reducible apply pL_13); (focus (assumption)); (focus (assumption)); (focus (assumption)); intro _ _ _) | ((with_reducible apply pL_14); (focus (assumption)); (focus (assumption)); (focus (assumption)); intro _ _ _) | ((with_reducible apply pL_4); (focus (assumption)); (focus (assumption)); (focus (assumption)); intro _ _ _) | ((with_reducible apply pL_5); (focus (assumption)); (focus (assumption)); (focus (assumption)); intro _ _ _) | ((with_reducible apply pL_6); (focus (assumption)); (focus (assumption)); (focus (assumption)); intro _ _ _) | ((with_reducible apply pD_10); (focus (assumption)); (focus (assumption)); intro _ _ _) | ((with_reducible apply pD_11); (focus (assumption)); (focus (assumption)); intro _ _ _) | ((with_reducible apply pD_12); (focus (assumption)); (focus (assumption)); intro _ _ _) | ((with_reducible apply pD_13); (focus (assumption)); (focus (assumption)); intro _ _ _) | ((with_reducible apply pD_14); (focus (assumption)); (focus (assumption)); intro _ _ _) | ((with_reducible apply pD_8); (focus (assumption)); (focus (assumption)); intro _ _ _) | ((with_reducible apply pD_9); (focus (assumption)); (focus (assumption)); intro _ _ _) | (refine ⟨cRun (by assumption), ?_⟩) | (refine ⟨cOut (by assumption), ?_⟩) | (refine ⟨cRing (by assumption) (by assumption), ?_⟩) | (refine ⟨cPosts (by assumption) (by assumption), ?_⟩) | (refine ⟨cUsed (by assumption) (by assumption), ?_⟩))
    refine br_T ⟨by omega, by omega⟩ (hw.r hB _) (by omega) (hQ false ?_)
    constructor
    · intro z; cases z
    · rintro ⟨j, j1, j2, j3⟩; omega
  | succ m ih =>
    intro k hk hQ
    have hk5 : k < 5 := by omega
    unfold f_X2_hasWork_2 f_X2_hasWork_2_b
    (repeat first | (with_reducible apply nn_of) | (refine ⟨cL (by assumption) (by assumption), ?_⟩) | (refine ⟨cD (by assumption), ?_⟩) | ((with_reducible apply gD_0); (focus (assumption))) | ((with_reducible apply gD_1); (focus (assumption))) | ((with_reducible apply gD_2); (focus (assumption))) | ((with_reducible apply xldL); (focus (assumption)); (focus (assumption))) | ((with_reducible apply gL_7); (focus (assumption)); (focus (assumption))) | ((with_reducible apply gL_8); (focus (assumption)); (focus (assumption))) | ((with_reducible apply gL_9); (focus (assumption)); (focus (assumption))) | ((with_reducible apply gL_10); (focus (assumption)); (focus (assumption))) | ((with_reducible apply gL_11); (focus (assumption)); (focus (assumption))) | ((with_reducible apply gL_12); (focus (assumption)); (focus (assumption))) | ((with_reducible apply gL_13); (focus (assumption)); (focus (assumption))) | ((with_reducible apply gL_14); (focus (assumption)); (focus (assumption))) | ((with_reducible apply gL_0); (focus (assumption)); (focus (assumption))) | ((with_reducible apply gL_1); (focus (assumption)); (focus (assumption))) | ((with_reducible apply gL_2); (focus (assumption)); (focus (assumption))) | ((with_reducible apply gL_3); (focus (assumption)); (focus (assumption))) | ((with_reducible apply gL_4); (focus (assumption)); (focus (assumption))) | ((with_reducible apply gL_5); (focus (assumption)); (focus (assumption))) | ((with_reducible apply gL_6); (focus (assumption)); (focus (assumption))) | ((with_reducible apply gL_15); (focus (assumption)); (focus (assumption))) | ((with_reducible apply gL_16); (focus (assumption)); (focus (assumption))) | ((with_reducible apply gD_8); (focus (assumption))) | ((with_reducible apply gD_9); (focus (assumption))) | ((with_reducible apply gD_10); (focus (assumption))) | ((with_reducible apply gD_11); (focus (assumption))) | ((with_reducible apply gD_12); (focus (assumption))) | ((with_reducible apply gD_13); (focus (assumption))) | ((with_reducible apply gD_14); (focus (assumption))) | ((with_reducible apply gD_3); (focus (assumption))) | ((with_reducible apply gD_4); (focus (assumption))) | ((with_reducible apply gD_5); (focus (assumption))) | ((with_reducible apply gD_6); (focus (assumption))) | ((with_reducible apply gD_7); (focus (assumption))) | ((with_reducible apply pL_7); (focus (assumption)); (focus (assumption)); (focus (assumption)); intro _ _ _) | ((with_reducible apply pL_8); (focus (assumption)); (focus (assumption)); (focus (assumption)); intro _ _ _) | ((with_reducible apply pL_9); (focus (assumption)); (focus (assumption)); (focus (assumption)); intro _ _ _) | ((with_reducible apply pL_10); (focus (assumption)); (focus (assumption)); (focus (assumption)); intro _ _ _) | ((with_reducible apply pL_11); (focus (assumption)); (focus (assumption)); (focus (assumption)); intro _ _ _) | ((with_reducible apply pL_12); (focus (assumption)); (focus (assumption)); (focus (assumption)); intro _ _ _) | ((with_reducible apply pL_13); (focus (assumption)); (focus (assumption)); (focus (assumption)); intro _ _ _) | ((with_reducible apply pL_14); (focus (assumption)); (focus (assumption)); (focus (assumption)); intro _ _ _) | ((with_reducible apply pL_4); (focus (assumption)); (focus (assumption)); (focus (assumption)); intro _ _ _) | ((with_reducible apply pL_5); (focus (assumption)); (focus (assumption)); (focus (assumption)); intro _ _ _) | ((with_reducible apply pL_6); (focus (assumption)); (focus (assumption)); (focus (assumption)); intro _ _ _) | ((with_reducible apply pD_10); (focus (assumption)); (focus (assumption)); intro _ _ _) | ((with_reducible apply pD_11); (focus (assumption)); (focus (assumption)); intro _ _ _) | ((with_reducible apply pD_12); (focus (assumption)); (focus (assumption)); intro _ _ _) | ((with_reducible apply pD_13); (focus (assumption)); (focus (assumption)); intro _ _ _) | ((with_reducible apply pD_14); (focus (assumption)); (focus (assumption)); intro _ _ _) | ((with_reducible apply pD_8); (focus (assumption)); (focus (assumption)); intro _ _ _) | ((with_reducible apply pD_9); (focus (assumption)); (focus (assumption)); intro _ _ _) | (refine ⟨cRun (by assumption), ?_⟩) | (refine ⟨cOut (by assumption), ?_⟩) | (refine ⟨cRing (by assumption) (by assumption), ?_⟩) | (refine ⟨cPosts (by assumption) (by assumption), ?_⟩) | (refine ⟨cUsed (by assumption) (by assumption), ?_⟩))
    refine br_F ⟨by omega, by omega⟩ (hw.r hB _) (by omega) ?_
    (repeat first | (with_reducible apply nn_of) | (refine ⟨cL (by assumption) (by assumption), ?_⟩) | (refine ⟨cD (by assumption), ?_⟩) | ((with_reducible apply gD_0); (focus (assumption))) | ((with_reducible apply gD_1); (focus (assumption))) | ((with_reducible apply gD_2); (focus (assumption))) | ((with_reducible apply xldL); (focus (assumption)); (focus (assumption))) | ((with_reducible apply gL_7); (focus (assumption)); (focus (assumption))) | ((with_reducible apply gL_8); (focus (assumption)); (focus (assumption))) | ((with_reducible apply gL_9); (focus (assumption)); (focus (assumption))) | ((with_reducible apply gL_10); (focus (assumption)); (focus (assumption))) | ((with_reducible apply gL_11); (focus (assumption)); (focus (assumption))) | ((with_reducible apply gL_12); (focus (assumption)); (focus (assumption))) | ((with_reducible apply gL_13); (focus (assumption)); (focus (assumption))) | ((with_reducible apply gL_14); (focus (assumption)); (focus (assumption))) | ((with_reducible apply gL_0); (focus (assumption)); (focus (assumption))) | ((with_reducible apply gL_1); (focus (assumption)); (focus (assumption))) | ((with_reducible apply gL_2); (focus (assumption)); (focus (assumption))) | ((with_reducible apply gL_3); (focus (assumption)); (focus (assumption))) | ((with_reducible apply gL_4); (focus (assumption)); (focus (assumption))) | ((with_reducible apply gL_5); (focus (assumption)); (focus (assumption))) | ((with_reducible apply gL_6); (focus (assumption)); (focus (assumption))) | ((with_reducible apply gL_15); (focus (assumption)); (focus (assumption))) | ((with_reducible apply gL_16); (focus (assumption)); (focus (assumption))) | ((with_reducible apply gD_8); (focus (assumption))) | ((with_reducible apply gD_9); (focus (assumption))) | ((with_reducible apply gD_10); (focus (assumption))) | ((with_reducible apply gD_11); (focus (assumption))) | ((with_reducible apply gD_12); (focus (assumption))) | ((with_reducible apply gD_13); (focus (assumption))) | ((with_reducible apply gD_14); (focus (assumption))) | ((with_reducible apply gD_3); (focus (assumption))) | ((with_reducible apply gD_4); (focus (assumption))) | ((with_reducible apply gD_5); (focus (assumption))) | ((with_reducible apply gD_6); (focus (assumption))) | ((with_reducible apply gD_7); (focus (assumption))) | ((with_reducible apply pL_7); (focus (assumption)); (focus (assumption)); (focus (assumption)); intro _ _ _) | ((with_reducible apply pL_8); (focus (assumption)); (focus (assumption)); (focus (assumption)); intro _ _ _) | ((with_reducible apply pL_9); (focus (assumption)); (focus (assumption)); (focus (assumption)); intro _ _ _) | ((with_reducible apply pL_10); (focus (assumption)); (focus (assumption)); (focus (assumption)); intro _ _ _) | ((with_reducible apply pL_11); (focus (assumption)); (focus (assumption)); (focus (assumption)); intro _ _ _) | ((with_reducible apply pL_12); (focus (assumption)); (focus (assumption)); (focus (assumption)); intro _ _ _) | ((with_reducible apply pL_13); (focus (assumption)); (focus (assumption)); (focus (assumption)); intro _ _ _) | ((with_reducible apply pL_14); (focus (assumption)); (focus (assumption)); (focus (assumption)); intro _ _ _) | ((with_reducible apply pL_4); (focus (assumption)); (focus (assumption)); (focus (assumption)); intro _ _ _) | ((with_reducible apply pL_5); (focus (assumption)); (focus (assumption)); (focus (assumption)); intro _ _ _) | ((with_reducible apply pL_6); (focus (assumption)); (focus (assumption)); (focus (assumption)); intro _ _ _) | ((with_reducible apply pD_10); (focus (assumption)); (focus (assumption)); intro _ _ _) | ((with_reducible apply pD_11); (focus (assumption)); (focus (assumption)); intro _ _ _) | ((with_reducible apply pD_12); (focus (assumption)); (focus (assumption)); intro _ _ _) | ((with_reducible apply pD_13); (focus (assumption)); (focus (assumption)); intro _ _ _) | ((with_reducible apply pD_14); (focus (assumption)); (focus (assumption)); intro _ _ _) | ((with_reducible apply pD_8); (focus (assumption)); (focus (assumption)); intro _ _ _) | ((with_reducible apply pD_9); (focus (assumption)); (focus (assumption)); intro _ _ _) | (refine ⟨cRun (by assumption), ?_⟩) | (refine ⟨cOut (by assumption), ?_⟩) | (refine ⟨cRing (by assumption) (by assumption), ?_⟩) | (refine ⟨cPosts (by assumption) (by assumption), ?_⟩) | (refine ⟨cUsed (by assumption) (by assumption), ?_⟩))
    refine p_X3_hasWork h hk5 hw hB ?_
    cases hb : hasW d.s k with
    | true => exact brB_T (hQ true ⟨fun _ => ⟨k, by omega, by omega, hb⟩, fun _ => rfl⟩)
    | false =>
      refine brB_F ?_
      rw [show (k : Int) + 1 = ((k + 1 : Nat) : Int) by omega]
      refine ih (k + 1) (by omega) (fun b hb2 => hQ b ?_)
      rw [hb2]
      constructor
      · rintro ⟨j, j1, j2, j3⟩; exact ⟨j, by omega, j2, j3⟩
      · rintro ⟨j, j1, j2, j3⟩
        refine ⟨j, ?_, j2, j3⟩
        by_cases e : j = k
        · subst e; rw [hb] at j3; cases j3
        · omega
theorem p_X2_hasWork {Q : Bool → Wd → Prop} (h : DrA G D a rf d) (hw : WF d B) (hB : B ≤ 1000000000) (hQ : Q (anyW d.s (d.s 900).toNat) G) : f_X2_hasWork a G Q := by
  refine ⟨(d.s 900).toNat + 1, ?_⟩
  refine p_X2_hasWork_2 h hw hB (d.s 900).toNat 0 (by omega) (fun b hb => ?_)
  have e : b = anyW d.s (d.s 900).toNat := by
    rw [Bool.eq_iff_iff, hb]
    constructor
    · rintro ⟨j, j1, j2, j3⟩; exact anyW_of j2 j3
    · intro z
      obtain ⟨j, j1, j2⟩ := anyW_ex z
      exact ⟨j, by omega, j1, j2⟩
  rw [e]; exact hQ
def lineR (rf : Nat → Nat → Nat) : Option Nat → Option Nat
  | none => none
  | some q => some (rf q 0)
theorem p_X2_turn_2 {Q : Option Nat → Wd → Prop} {c : Int} (h : DrA G D a rf d) (hw : WF d B) (hB : B ≤ 1000000000) (hc : 0 ≤ c ∧ c ≤ 3) : ∀ (m : Nat), m ≤ 5 → Q (lineR rf (turnN d.s c m)) G → f_X2_turn_2 a Q (m + 1) c (6 - (m : Int)) G := by
  have hm := hw.many
  have hlast := hw.1.2.2.2.2.2.2.2.2.1 (822 + c) (by omega) (by omega)
  intro m
  induction m with
  | zero =>
    intro _ hQ
    unfold f_X2_turn_2 f_X2_turn_2_b
    exact br_T ⟨by omega, by omega⟩ ⟨by omega, by omega⟩ (by omega) hQ
  | succ m ih =>
    intro hm5 hQ
    unfold f_X2_turn_2 f_X2_turn_2_b
    refine br_F ⟨by omega, by omega⟩ ⟨by omega, by omega⟩ (by omega) ?_
    have e6 : (6 : Int) - ((m + 1 : Nat) : Int) + 1 = 6 - (m : Int) := by omega
    refine gD_6 h (nn_of (xldT h (by omega) (by omega) ⟨⟨by omega, by omega, by omega, by omega⟩, gD_8 h ?_⟩))
    have eq5 := turnQ_lt (s := d.s) (c := c) (m := m)
    have eq : (d.s (822 + c) + (6 - ((m + 1 : Nat) : Int))) % 5 = ((turnQ d.s c m : Nat) : Int) := by unfold turnQ; omega
    rw [eq]
    have nx : isT d.s c (turnQ d.s c m) = false → f_X2_turn_58 a (fun l1 l2 G => f_X2_turn_2 a Q (m + 1) l1 l2 G) c (6 - ((m + 1 : Nat) : Int)) G Q := by
      intro hf
      unfold f_X2_turn_58
      rw [e6]
      refine ih (by omega) ?_
      unfold turnN at hQ
      rw [hf, if_neg (by simp)] at hQ
      exact hQ
    generalize hg : turnQ d.s c m = p at *
    by_cases c1 : d.s 900 ≤ (p : Int)
    · refine br_T ⟨by omega, by omega⟩ (hw.r hB _) c1 (nx ?_)
      unfold isT
      rw [decide_eq_false (by omega)]; rfl
    · refine br_F ⟨by omega, by omega⟩ (hw.r hB _) c1 (gD_0 h (nn_of (xldL h eq5 (nn_of (gL_6 h eq5 ?_)))))
      by_cases c2 : d.s (89 * p + 22) = c
      · refine br_F (hw.r hB _) ⟨by omega, by omega⟩ (by omega) (gD_0 h (nn_of (xldL h eq5 (nn_of ⟨cL h eq5, p_X3_hasWork h eq5 hw hB ?_⟩))))
        cases hb : hasW d.s p with
        | true =>
          refine brB_T (gD_0 h (nn_of (xldL h eq5 ?_)))
          unfold turnN at hQ
          rw [hg, if_pos (by unfold isT; simp [c2, hb]; omega)] at hQ
          exact hQ
        | false =>
          refine brB_F (nx ?_)
          unfold isT
          rw [hb, Bool.and_false]
      · refine br_T (hw.r hB _) ⟨by omega, by omega⟩ c2 (nx ?_)
        unfold isT
        rw [decide_eq_false c2]; simp
theorem p_X2_turn {Q : Option Nat → Wd → Prop} {c : Int} (h : DrA G D a rf d) (hw : WF d B) (hB : B ≤ 1000000000) (hc : 0 ≤ c ∧ c ≤ 3) (hQ : Q (lineR rf (turn d.s c)) G) : f_X2_turn a c G Q := by
  refine ⟨6, ?_⟩
  exact p_X2_turn_2 h hw hB hc 5 (by omega) hQ
theorem p_X2_hasCredit_2 {Q : Bool → Wd → Prop} (h : DrA G D a rf d) (hw : WF d B) (hB : B ≤ 1000000000) : ∀ (m : Nat), m ≤ 3 → Q (crN d.s m).isSome G → f_X2_hasCredit_2 a Q (m + 1) (4 - (m : Int)) G := by
  intro m
  induction m with
  | zero =>
    intro _ hQ
    unfold f_X2_hasCredit_2 f_X2_hasCredit_2_b
    exact br_T ⟨by omega, by omega⟩ ⟨by omega, by omega⟩ (by omega) hQ
  | succ m ih =>
    intro hm3 hQ
    unfold f_X2_hasCredit_2 f_X2_hasCredit_2_b
    refine br_F ⟨by omega, by omega⟩ ⟨by omega, by omega⟩ (by omega) ?_
    have e6 : (4 : Int) - ((m + 1 : Nat) : Int) + 1 = 4 - (m : Int) := by omega
    have e7 : (4 : Int) - ((m + 1 : Nat) : Int) = 3 - (m : Int) := by omega
    refine gD_5 h (nn_of (xldC h (by omega) (by omega) ?_))
    unfold crN at hQ
    unfold f_X2_hasCredit_26
    rw [e6, e7]
    by_cases c1 : d.s (818 + (3 - (m : Int))) ≤ 0
    · rw [if_neg (fun z => by omega)] at hQ
      exact br0_T (hw.r hB _) c1 (ih (by omega) hQ)
    · refine br0_F (hw.r hB _) c1 ⟨cD h, p_X2_turn h hw hB (by omega) ?_⟩
      cases ht : turn d.s (3 - (m : Int)) with
      | none =>
        rw [ht, if_neg (by simp)] at hQ
        exact brN_N (ih (by omega) hQ)
      | some q =>
        rw [ht, if_pos ⟨by omega, rfl⟩] at hQ
        exact brN_S hQ
theorem p_X2_hasCredit {Q : Bool → Wd → Prop} (h : DrA G D a rf d) (hw : WF d B) (hB : B ≤ 1000000000) (hQ : Q (crN d.s 3).isSome G) : f_X2_hasCredit a G Q :=
  ⟨4, p_X2_hasCredit_2 h hw hB 3 (by omega) hQ⟩
end
