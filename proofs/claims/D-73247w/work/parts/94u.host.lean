/-! PURE PROOFS: the host puts, takes, calls back, on a drive -/
set_option maxRecDepth 100000
theorem bcnt_le : ∀ (k u : Nat), bcnt k u ≤ k
  | 0, _ => Nat.le_refl _
  | k + 1, u => by
    have := bcnt_le k (u / 2)
    unfold bcnt
    omega
theorem bcnt_full : ∀ (k u : Nat), bcnt k u = k ↔ ∀ j, j < k → u.testBit j = true
  | 0, u => ⟨fun _ j hj => by omega, fun _ => rfl⟩
  | k + 1, u => by
    have ih := bcnt_full k (u / 2)
    have hl := bcnt_le k (u / 2)
    unfold bcnt
    constructor
    · intro h j hj
      cases j with
      | zero => rw [Nat.testBit_zero]; simp; omega
      | succ j => rw [Nat.testBit_succ]; exact ih.mp (by omega) j (by omega)
    · intro h
      have h0 := h 0 (by omega)
      rw [Nat.testBit_zero] at h0
      simp at h0
      have := ih.mpr (fun j hj => by have := h (j + 1) (by omega); rw [Nat.testBit_succ] at this; exact this)
      omega
theorem ones_full {u : Nat} (hu : u < 65536) : (bcnt 16 u = 16 ↔ ¬ ones 32 u < 16) := by
  rw [bcnt_full]
  constructor
  · intro h hlt
    have := ones_bit 32 u (by omega)
    rw [h _ hlt] at this; cases this
  · intro h j hj
    exact ones_low 32 u j (by omega)
def putR (d : DS) (q op b v : Int) : Int :=
  if (0 ≤ q ∧ q < d.s 900) ∧ (0 ≤ op ∧ op ≤ 4) ∧ (0 ≤ b ∧ b ≤ 9) ∧ (0 ≤ v ∧ v ≤ 99) then
    if d.s (89 * q + 20) - 1 - d.s (89 * q + 0) + d.s (89 * q + 4) = 0 then -2 else if ones 32 (d.us q.toNat) < 16 then 0 else -3
  else -1
def takR (d : DS) (q : Int) : Int := if 0 ≤ q ∧ q < d.s 900 then (if (d.posts q.toNat).isEmpty = true then -2 else 0) else -1
section
variable {G : Wd} {D a q : Nat} {rf : Nat → Nat → Nat} {d : DS} {B : Int}
theorem p_in {Q : Bool → Wd → Prop} {x lo hi : Int} (hx : R32 x) (hl : R32 lo) (hh : R32 hi) (h : Q (decide (lo ≤ x ∧ x ≤ hi)) G) : f_X1_in x lo hi G Q := by
  obtain ⟨a0, a1⟩ := hx
  obtain ⟨b0, b1⟩ := hl
  obtain ⟨c0, c1⟩ := hh
  have sgr : ∀ x y : Int, R32 (sg x y) := by
    intro x y
    unfold sg
    split
    · exact ⟨by decide, by decide⟩
    · split
      · exact r0
      · exact r1
  unfold f_X1_in f_X1_in_17
  refine ⟨⟨⟨by omega, by omega⟩, ⟨by omega, by omega⟩⟩, ?_⟩
  by_cases h1 : x < lo
  · rw [decide_eq_false (by omega)] at h
    exact br0_T (sgr _ _) (by unfold sg; rw [if_pos h1]; decide) h
  · refine br0_F (sgr _ _) (by unfold sg; rw [if_neg h1]; split <;> decide) ⟨⟨⟨by omega, by omega⟩, ⟨by omega, by omega⟩⟩, ?_⟩
    by_cases h2 : hi < x
    · rw [decide_eq_false (by omega)] at h
      exact br0_T (sgr _ _) (by unfold sg; rw [if_neg (by omega), if_neg (by omega)]; decide) h
    · rw [decide_eq_true ⟨by omega, by omega⟩] at h
      refine br0_F (sgr _ _) ?_ h
      unfold sg
      by_cases h3 : x < hi
      · rw [if_pos h3]; decide
      · rw [if_neg h3, if_pos (by omega)]; decide
theorem p_inq {Q : Bool → Wd → Prop} {x m : Int} (hx : R32 x) (hm : 0 ≤ m ∧ m ≤ 5) (h : Q (decide (0 ≤ x ∧ x < m)) G) : f_X1_in x 0 (m - 1) G Q := by
  refine p_in hx r0 ⟨by omega, by omega⟩ ?_
  rw [show decide (0 ≤ x ∧ x ≤ m - 1) = decide (0 ≤ x ∧ x < m) from decide_eq_decide.mpr ⟨fun h => ⟨by omega, by omega⟩, fun h => ⟨by omega, by omega⟩⟩]
  exact h
theorem p_refusesPut {Q : Int → Wd → Prop} {q op b v : Int} (h : DrA G D a rf d) (hw : WF d B) (hB : B ≤ 100000000) (h1 : R32 q) (h2 : R32 op) (h3 : R32 b) (h4 : R32 v) (hQ : Q (putR d q op b v) G) : f_X1_refusesPut (some a) q op b v G Q := by
  have hm := hw.many
  unfold f_X1_refusesPut
  refine ⟨h1, nn_of (gD_8 h ⟨⟨by omega, by omega⟩, p_inq h1 hm ?_⟩)⟩
  unfold putR at hQ
  by_cases c1 : 0 ≤ q ∧ q < d.s 900
  · rw [decide_eq_true c1]
    refine brB_T ⟨h2, p_in h2 r0 ⟨by decide, by decide⟩ ?_⟩
    by_cases c2 : 0 ≤ op ∧ op ≤ 4
    · rw [decide_eq_true c2]
      refine brB_T ⟨h3, p_in h3 r0 ⟨by decide, by decide⟩ ?_⟩
      by_cases c3 : 0 ≤ b ∧ b ≤ 9
      · rw [decide_eq_true c3]
        refine brB_T ⟨h4, p_in h4 r0 ⟨by decide, by decide⟩ ?_⟩
        by_cases c4 : 0 ≤ v ∧ v ≤ 99
        · rw [decide_eq_true c4]
          rw [if_pos ⟨c1, c2, c3, c4⟩] at hQ
          obtain ⟨n, rfl⟩ : ∃ n : Nat, q = n := ⟨q.toNat, by omega⟩
          have h5 : n < 5 := by omega
          have b1 := hw.1.1 (89 * n + 20)
          have b2 := hw.1.1 (89 * n + 0)
          have b3 := hw.1.1 (89 * n + 4)
          refine brB_T (gD_0 h (nn_of (xldL h h5 (nn_of ⟨cL h h5, p_X3_bySlots h h5 ?_⟩))))
          by_cases c5 : d.s (89 * n + 20) - 1 - d.s (89 * n + 0) + d.s (89 * n + 4) = 0
          · rw [if_pos c5] at hQ
            exact br0_F ⟨by omega, by omega⟩ (by omega) hQ
          · rw [if_neg c5] at hQ
            refine br0_T ⟨by omega, by omega⟩ c5 (gD_0 h (nn_of (xldL h h5 (nn_of ⟨cL h h5, p_X3_byIds h h5 ?_⟩))))
            have hb16 := bcnt_le 16 (d.us n)
            have hof := ones_full (h.us_lt h5)
            rw [Int.toNat_natCast] at hQ
            by_cases c6 : ones 32 (d.us n) < 16
            · rw [if_pos c6] at hQ
              have : bcnt 16 (d.us n) ≠ 16 := fun z => (hof.mp z) c6
              exact br0_T ⟨by omega, by omega⟩ (by omega) hQ
            · rw [if_neg c6] at hQ
              have := hof.mpr c6
              exact br0_F ⟨by omega, by omega⟩ (by omega) hQ
        · rw [decide_eq_false c4]
          rw [if_neg (fun z => c4 z.2.2.2)] at hQ
          exact brB_F hQ
      · rw [decide_eq_false c3]
        rw [if_neg (fun z => c3 z.2.2.1)] at hQ
        exact brB_F hQ
    · rw [decide_eq_false c2]
      rw [if_neg (fun z => c2 z.2.1)] at hQ
      exact brB_F hQ
  · rw [decide_eq_false c1]
    rw [if_neg (fun z => c1 z.1)] at hQ
    exact brB_F hQ
theorem p_X8_init {a : Nat} {v0 v1 v2 v3 v4 v5 : Value} {x0 x1 x2 x3 x4 : Int} {x5 : Bool} {Q : Wd → Prop} (h : G 1 a = some (oB 7 [v0, v1, v2, v3, v4, v5])) (hQ : Q (wset G 1 a (oB 7 [vI x0, vI x1, vI x2, vI x3, vI x4, vB x5]))) : f_X8_init a x0 x1 x2 x3 x4 x5 G Q := by
  unfold f_X8_init
  (repeat first | ((with_reducible apply gI_of); (focus ((repeat first | exact wset_at | assumption | apply wset_skip | (left; decide) | (left; omega) | (right; assumption) | (right; apply Ne.symm; assumption) | (right; exact fr_ne (by assumption) (by assumption)) | (right; exact (fr_ne (by assumption) (by assumption)).symm)))); (focus (decide)); (focus (rfl))) | ((with_reducible apply gR_of); (focus ((repeat first | exact wset_at | assumption | apply wset_skip | (left; decide) | (left; omega) | (right; assumption) | (right; apply Ne.symm; assumption) | (right; exact fr_ne (by assumption) (by assumption)) | (right; exact (fr_ne (by assumption) (by assumption)).symm)))); (focus (decide)); (focus (rfl))) | ((with_reducible apply gZ_of); (focus ((repeat first | exact wset_at | assumption | apply wset_skip | (left; decide) | (left; omega) | (right; assumption) | (right; apply Ne.symm; assumption) | (right; exact fr_ne (by assumption) (by assumption)) | (right; exact (fr_ne (by assumption) (by assumption)).symm)))); (focus (decide)); (focus (rfl))) | ((with_reducible apply pF_of); (focus ((repeat first | exact wset_at | assumption | apply wset_skip | (left; decide) | (left; omega) | (right; assumption) | (right; apply Ne.symm; assumption) | (right; exact fr_ne (by assumption) (by assumption)) | (right; exact (fr_ne (by assumption) (by assumption)).symm)))); (focus (first | assumption | decide | omega)); (focus (decide)); (focus ((exact Nat.le_of_ble_eq_true rfl))); simp only [List.set_cons_zero, List.set_cons_succ, wset_wset]) | ((with_reducible apply nn_of)) | ((with_reducible apply isC_and); (focus ((repeat first | exact wset_at | assumption | apply wset_skip | (left; decide) | (left; omega) | (right; assumption) | (right; apply Ne.symm; assumption) | (right; exact fr_ne (by assumption) (by assumption)) | (right; exact (fr_ne (by assumption) (by assumption)).symm))))) | ((with_reducible apply brB_T)) | ((with_reducible apply brB_F)) | ((with_reducible apply brN_N)) | ((with_reducible apply brN_S)) | ((with_reducible apply lnR_of); (focus ((repeat first | exact wset_at | assumption | apply wset_skip | (left; decide) | (left; omega) | (right; assumption) | (right; apply Ne.symm; assumption) | (right; exact fr_ne (by assumption) (by assumption)) | (right; exact (fr_ne (by assumption) (by assumption)).symm))))) | ((with_reducible apply lnI_of); (focus ((repeat first | exact wset_at | assumption | apply wset_skip | (left; decide) | (left; omega) | (right; assumption) | (right; apply Ne.symm; assumption) | (right; exact fr_ne (by assumption) (by assumption)) | (right; exact (fr_ne (by assumption) (by assumption)).symm))))) | ((with_reducible apply lnJ_of); (focus ((repeat first | exact wset_at | assumption | apply wset_skip | (left; decide) | (left; omega) | (right; assumption) | (right; apply Ne.symm; assumption) | (right; exact fr_ne (by assumption) (by assumption)) | (right; exact (fr_ne (by assumption) (by assumption)).symm))))) | ((with_reducible apply ldR_of); (focus ((repeat first | exact wset_at | assumption | apply wset_skip | (left; decide) | (left; omega) | (right; assumption) | (right; apply Ne.symm; assumption) | (right; exact fr_ne (by assumption) (by assumption)) | (right; exact (fr_ne (by assumption) (by assumption)).symm)))); (focus ((first | assumption | (refine ⟨?_, ?_, ?_⟩ <;> omega))))) | ((with_reducible apply ldI_of); (focus ((repeat first | exact wset_at | assumption | apply wset_skip | (left; decide) | (left; omega) | (right; assumption) | (right; apply Ne.symm; assumption) | (right; exact fr_ne (by assumption) (by assumption)) | (right; exact (fr_ne (by assumption) (by assumption)).symm)))); (focus ((first | assumption | (refine ⟨?_, ?_, ?_⟩ <;> omega))))) | ((with_reducible apply ldJ_of); (focus ((repeat first | exact wset_at | assumption | apply wset_skip | (left; decide) | (left; omega) | (right; assumption) | (right; apply Ne.symm; assumption) | (right; exact fr_ne (by assumption) (by assumption)) | (right; exact (fr_ne (by assumption) (by assumption)).symm)))); (focus ((first | assumption | (refine ⟨?_, ?_, ?_⟩ <;> omega))))))
  exact hQ
theorem p_goPut {Q : Int → Wd → Prop} {k n : Nat} {op b v : Int} (h : DrA G D a rf d) (hD : 9 < D) (hw : WF d B) (h5 : q < 5) (hi : ones 32 (d.us q) < 16) (hk : 1 ≤ k) (hn : 6 ≤ n) (hQ : ∀ G', DrA G' D a rf (putD d q op b v) → FrR D (D + 100) G G' → Q ((ones 32 (d.us q) : Nat) : Int) G') : f_X1_goPut k n (some a) q op b v G Q := by
  unfold f_X1_goPut
  refine nn_of (gD_0 h (nn_of (xldL h h5 (nn_of (gL_3 h h5 (nn_of ⟨cUsed h h5, ?_⟩))))))
  obtain ⟨k1, k2, k4, k6⟩ := h.lineq h5
  refine p_J5_nextClear k6 (gL_3 h h5 (nn_of ⟨cUsed h h5, x_usedSet h hD h5 hi (fun G1 g1 f1 => gL_1 g1 h5 (nO_of 1 hk hn (by decide) (fun y hy => ?_)))⟩))
  have g2 : ∀ e, DrA (wset G1 1 y e) D a rf _ := fun e => g1.new hy hD
  have f2 : ∀ e, FrR D (D + 100) G1 (wset G1 1 y e) := fun e => FrR.new hy
  refine p_X8_init wset_at ?_
  rw [wset_wset]
  have hx : CmdAt (wset G1 1 y (oB 7 [vI q, vI (ones 32 (d.us q) : Nat), vI op, vI b, vI v, vB false]) 1) q y (rec5 (ones 32 (d.us q) : Nat) op b v 0) := wset_at
  refine nn_of ⟨cRing (g2 _) h5, x_ringAdd (g2 _) hD h5 ?_ hx (fun G3 g3 f3 => gL_7 g3 h5 (pL_7 g3 h5 hD (fun G4 g4 f4 => hQ G4 g4 (f1.trans ((f2 _).trans (f3.trans f4))))))⟩
  have := hw.ringlen h5
  show (d.ring q).length < 16
  omega
theorem p_refusesTaking {Q : Int → Wd → Prop} {q : Int} (h : DrA G D a rf d) (hm : 0 ≤ d.s 900 ∧ d.s 900 ≤ 5) (h1 : R32 q) (hQ : Q (takR d q) G) : f_X1_refusesTaking (some a) q G Q := by
  unfold f_X1_refusesTaking
  refine ⟨h1, nn_of (gD_8 h ⟨⟨by omega, by omega⟩, p_inq h1 hm ?_⟩)⟩
  unfold takR at hQ
  by_cases c1 : 0 ≤ q ∧ q < d.s 900
  · rw [decide_eq_true c1]
    rw [if_pos c1] at hQ
    obtain ⟨n, rfl⟩ : ∃ n : Nat, q = n := ⟨q.toNat, by omega⟩
    rw [Int.toNat_natCast] at hQ
    have h5 : n < 5 := by omega
    refine brB_T (gD_0 h (nn_of (xldL h h5 (nn_of (gL_2 h h5 (nn_of ⟨cPosts h h5, x_postsEmpty h h5 ?_⟩))))))
    cases hp : (d.posts n).isEmpty with
    | true => rw [hp, if_pos rfl] at hQ; exact brB_T hQ
    | false => rw [hp, if_neg (by simp)] at hQ; exact brB_F hQ
  · rw [decide_eq_false c1]
    rw [if_neg c1] at hQ
    exact brB_F hQ
def isId (id : Int) (c : Rec) : Bool := decide (c 0 = id)
def ofi : Option Nat → Int
  | none => -1
  | some k => k
def ringOf (d : DS) (q : Nat) (id : Int) : Int := ofi ((d.ring q).findIdx? (isId id))
theorem p_placeOf_10 {Q : Int → Wd → Prop} {i r b : Nat} {id : Int} (hr : 7 < r) (hid : R32 id) : ∀ (l : List Rec) (G : Wd) (k n j : Nat) (ys xs : List Nat), DiAt G 7 i r b ys xs → All2 (CmdAt (G 1) q) xs l → All CmdOK l → (j + l.length ≤ 100) →
    (∀ G', (∀ r, r ≠ 7 → G' r = G r) → Q (ofi ((l.findIdx? (isId id)).map (fun m => j + m))) G') → f_X1_placeOf_10 Q (l.length + 1) k n id j (some i) G := by
  intro l
  induction l with
  | nil =>
    intro G k n j ys xs hi hx hc hj hQ
    have : xs = [] := hx.nil
    subst this
    obtain ⟨e, hh, lr, i1, i2⟩ := _root_.id hi
    unfold f_X1_placeOf_10 f_X1_placeOf_10_b
    exact nn_of ⟨isC_of i2, p_J23_hasNext hi (brB_F (hQ G (fun _ _ => rfl)))⟩
  | cons c l ih =>
    intro G k n j ys xs hi hx hc hj hQ
    obtain ⟨x, xs, rfl, x1, x2⟩ := hx.cons
    obtain ⟨e, hh, lr, i1, i2⟩ := _root_.id hi
    rw [List.length_cons] at hj
    obtain ⟨c0, -⟩ := hc.hd
    unfold f_X1_placeOf_10 f_X1_placeOf_10_b
    refine nn_of ⟨isC_of i2, p_J23_hasNext hi (brB_T ⟨isC_of i2, p_J23_next hi (by omega) (by omega) (by omega) (fun G1 hi1 f1 f1' => ?_)⟩)⟩
    have e1 : G1 1 = G 1 := f1 1 (by decide)
    have x1' : CmdAt (G1 1) q x c := by rw [e1]; exact x1
    refine cst_of rfl x1' (by decide) (nn_of (gI_of x1' (by decide) rfl ?_))
    rw [List.findIdx?_cons] at hQ
    by_cases c1 : c 0 = id
    · rw [if_pos (show isId id c = true from decide_eq_true c1)] at hQ
      exact br_F ⟨by omega, by omega⟩ hid (by omega) (hQ G1 f1)
    · rw [if_neg (show ¬ isId id c = true by unfold isId; simpa using c1)] at hQ
      refine br_T ⟨by omega, by omega⟩ hid c1 ?_
      rw [show (j : Int) + 1 = ((j + 1 : Nat) : Int) by omega]
      refine ih G1 k n (j + 1) (ys ++ [x]) xs hi1 (by rw [e1]; exact x2) hc.tl (by omega) (fun G' f' => ?_)
      have := hQ G' (fun r hr => (f' r hr).trans (f1 r hr))
      rw [Option.map_map] at this
      have e2 : ((fun m => j + m) ∘ (· + 1) : Nat → Nat) = fun m => j + 1 + m := by funext m; simp only [Function.comp]; omega
      rw [e2] at this
      exact this
theorem p_placeOf {Q : Int → Wd → Prop} {k n : Nat} {id : Int} (h : DrA G D a rf d) (hD : 9 < D) (hw : WF d B) (h5 : q < 5) (hid : R32 id) (hk : 1 ≤ k) (hn : 4 ≤ n) (hQ : ∀ G', (∀ r, r ≠ 7 → G' r = G r) → Q (ringOf d q id) G') : f_X1_placeOf k n (some (rf q 0)) id G Q := by
  unfold f_X1_placeOf
  obtain ⟨m1, ⟨zs, m3, m4⟩, m5, m6⟩ := h.lineq h5
  refine nn_of (gL_1 h h5 (nn_of ⟨1, 4, ⟨by omega, by omega⟩, cRing h h5, p_J4_iterator 7 m3 (by decide) (by omega) (by omega) (by omega) (by omega) (fun i' G2 hi2 f2 f2' => ⟨(d.ring q).length + 1, ?_⟩)⟩))
  have e2 : G2 1 = G 1 := f2 1 (by decide)
  have hl := hw.ringlen h5
  refine p_placeOf_10 (q := q) (by omega) hid (d.ring q) G2 _ _ 0 [] zs hi2 (by rw [e2]; exact m4) (hw.wl h5).2.2.2.1 (by omega) (fun G' f' => ?_)
  have := hQ G' (fun r hr => (f' r hr).trans (f2 r hr))
  unfold ringOf at this
  rw [show ∀ o : Option Nat, o.map (fun j => 0 + j) = o from fun o => by cases o <;> simp]
  exact this
theorem p_postOf_8 {Q : Option Nat → Wd → Prop} {i r b : Nat} {id lo hi : Int} (hr : 7 < r) (hid : R32 id) : ∀ (l : List Rec) (G : Wd) (k n : Nat) (ys xs : List Nat), DiAt G 7 i r b ys xs → All2 (PostAt (G 1) q) xs l → All (PsOK lo hi) l →
    (∀ G', (∀ r, r ≠ 7 → G' r = G r) → l.find? (isId id) = none → Q none G') → (∀ G' x p, (∀ r, r ≠ 7 → G' r = G r) → l.find? (isId id) = some p → PostAt (G' 1) q x p → Q (some x) G') → f_X1_postOf_8 Q (l.length + 1) k n id (some i) G := by
  intro l
  induction l with
  | nil =>
    intro G k n ys xs hi hx hc h0 h1
    have : xs = [] := hx.nil
    subst this
    obtain ⟨e, hh, lr, i1, i2⟩ := _root_.id hi
    unfold f_X1_postOf_8 f_X1_postOf_8_b
    exact nn_of ⟨isC_of i2, p_J23_hasNext hi (brB_F (h0 G (fun _ _ => rfl) rfl))⟩
  | cons c l ih =>
    intro G k n ys xs hi hx hc h0 h1
    obtain ⟨x, xs, rfl, x1, x2⟩ := hx.cons
    obtain ⟨e, hh, lr, i1, i2⟩ := _root_.id hi
    obtain ⟨c0, -⟩ := hc.hd
    unfold f_X1_postOf_8 f_X1_postOf_8_b
    refine nn_of ⟨isC_of i2, p_J23_hasNext hi (brB_T ⟨isC_of i2, p_J23_next hi (by omega) (by omega) (by omega) (fun G1 hi1 f1 f1' => ?_)⟩)⟩
    have e1 : G1 1 = G 1 := f1 1 (by decide)
    have x1' : PostAt (G1 1) q x c := by rw [e1]; exact x1
    obtain ⟨y, y1, y2⟩ := _root_.id x1'
    refine cst_of rfl y1 (by decide) (nn_of (gR_of y1 (by decide) rfl (nn_of (gI_of y2 (by decide) rfl ?_))))
    rw [List.find?_cons] at h0 h1
    by_cases c1 : c 0 = id
    · rw [show isId id c = true from decide_eq_true c1] at h1
      exact br_F ⟨by omega, by omega⟩ hid (by omega) (h1 G1 x c f1 rfl x1')
    · rw [show isId id c = false from decide_eq_false c1] at h0 h1
      exact br_T ⟨by omega, by omega⟩ hid c1 (ih G1 k n (ys ++ [x]) xs hi1 (by rw [e1]; exact x2) hc.tl (fun G' f' e' => h0 G' (fun r hr => (f' r hr).trans (f1 r hr)) e') (fun G' x p f' e' p' => h1 G' x p (fun r hr => (f' r hr).trans (f1 r hr)) e' p'))
theorem p_postOf {Q : Option Nat → Wd → Prop} {k n : Nat} {id : Int} (h : DrA G D a rf d) (hD : 9 < D) (hw : WF d B) (h5 : q < 5) (hid : R32 id) (hk : 1 ≤ k) (hn : 4 ≤ n) (h0 : ∀ G', (∀ r, r ≠ 7 → G' r = G r) → (d.posts q).find? (isId id) = none → Q none G')
    (h1 : ∀ G' x p, (∀ r, r ≠ 7 → G' r = G r) → (d.posts q).find? (isId id) = some p → PostAt (G' 1) q x p → Q (some x) G') : f_X1_postOf k n (some (rf q 0)) id G Q := by
  unfold f_X1_postOf
  obtain ⟨m1, m2, ⟨zs, m3, m4⟩, m6⟩ := h.lineq h5
  refine nn_of (gL_2 h h5 (nn_of ⟨1, 4, ⟨by omega, by omega⟩, cPosts h h5, p_J4_iterator 7 m3 (by decide) (by omega) (by omega) (by omega) (by omega) (fun i' G2 hi2 f2 f2' => ⟨(d.posts q).length + 1, ?_⟩)⟩))
  have e2 : G2 1 = G 1 := f2 1 (by decide)
  exact p_postOf_8 (q := q) (by omega) hid (d.posts q) G2 _ _ [] zs hi2 (by rw [e2]; exact m4) (hw.wl h5).2.2.2.2.1 (fun G' f' e' => h0 G' (fun r hr => (f' r hr).trans (f2 r hr)) e') (fun G' x p f' e' p' => h1 G' x p (fun r hr => (f' r hr).trans (f2 r hr)) e' p')
end
