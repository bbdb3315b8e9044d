/-! PURE PROOFS: a command is called back, on a drive -/
set_option maxRecDepth 100000
section
variable {G : Wd} {D a q : Nat} {rf : Nat → Nat → Nat} {d : DS} {B : Int}
theorem x_outAddn {Q : Wd → Prop} {x k n : Nat} {w : Rec} (h : DrA G D a rf d) (hD : 9 < D) (hl : d.out.length < 900000) (hx : WordAt (G 1) x w) (hk : 1 ≤ k) (hn : 3 ≤ n)
    (hQ : ∀ G', DrA G' D a rf (outD d w) → FrR (D + 4) (D + 6) G G' → Q G') : f_J3_addLast k n (rf 9 2) (some x) G Q := by
  obtain ⟨xs, k2, k3⟩ := h.2.2.2.1
  refine p_J3_addLast k2 (by omega) hk hn (by rw [k3.len]; exact hl) (fun G' g1 g2 => ?_)
  have e1 : Ext (G 1) (G' 1) := by rw [g2 1 (by omega) (by omega)]; exact Ext.refl
  obtain ⟨m1, m2⟩ := h.outsU hD g2 g1 ((k3.imp (fun _ _ => WordAt.ext e1)).app (ys := [x]) (ds := [w]) ⟨hx.ext e1, trivial⟩)
  exact hQ G' m1 (FrR.fr2 g2 (by omega) (by omega) (by omega))
/-- an iterator over what runs, in region D + 15 -/
theorem DrA.itR {G' : Wd} {l : List Rec} {i : Nat} {b : Bool} {zs xs : List Nat} (h : DrA G D a rf d) (hD : 9 < D) (hf : ∀ r, r ≠ D + 15 → r ≠ D + 2 → r ≠ D + 3 → G' r = G r) (hi : ItAt G' (D + 15) i (D + 2) (rf 9 1) b zs xs) (h2 : All2 (WorkAt (G' 1)) (zs ++ xs) l) : DrA G' D a rf (setRun d l) ∧ FrR D (D + 100) G G' := by
  obtain ⟨k1, ⟨lf, k2, k3⟩, k4, ⟨us, k6, k7⟩, k8, k9, k10, k11, k12, k13⟩ := h
  have e1 : Ext (G 1) (G' 1) := by rw [hf 1 (by omega) (by omega) (by omega)]; exact Ext.refl
  refine ⟨⟨?_, ⟨lf, ?_, k3⟩, ⟨zs ++ xs, hi.ll, h2⟩, ⟨us, k6.congr (hf _ (by omega) (by omega) (by omega)) (hf _ (by omega) (by omega) (by omega)), k7.imp (fun _ _ => WordAt.ext e1)⟩,
    k8.congr (hf _ (by omega) (by omega) (by omega)), k9.congr (hf _ (by omega) (by omega) (by omega)), k10.congr (hf _ (by omega) (by omega) (by omega)), k11.congr (hf _ (by omega) (by omega) (by omega)), k12.congr (hf _ (by omega) (by omega) (by omega)),
    fun p hp => (k13 p hp).congr (fun r r1 r2 => hf r (by omega) (by omega) (by omega)) e1⟩, ⟨fun r r1 r3 r5 r6 => hf r (by omega) (by omega) (by omega), fun b e hb => by rw [hf 1 (by omega) (by omega) (by omega)]; exact hb, by rw [hf 5 (by omega) (by omega) (by omega)]; exact Ex5.refl⟩⟩
  · rw [hf _ (by omega) (by omega) (by omega)]; exact k1
  · rw [hf _ (by omega) (by omega) (by omega)]; exact k2
theorem p_X9_hasId {Q : Bool → Wd → Prop} {x : Nat} {w : Rec} {m q id : Int} (hx : WorkAt (G 1) x w) (hok : WkOK m w) (hm : m ≤ 5) (hq : R32 q) (hid : R32 id) (hQ : Q (hasId w q id) G) : f_X9_hasId x q id G Q := by
  obtain ⟨y, z, x1, x2, x3⟩ := hx
  obtain ⟨w0, w1, w3, w4, w5, w11, w7⟩ := hok
  unfold f_X9_hasId f_X9_hasId_40 f_X9_hasId_44
  unfold hasId at hQ
  refine gR_of x1 (by decide) rfl (nn_of (gI_of x2 (by decide) rfl ?_))
  by_cases c0 : w 0 = q
  · rw [decide_eq_true c0, Bool.true_and] at hQ
    refine br_F ⟨by omega, by omega⟩ hq (by omega) (gR_of x1 (by decide) rfl (nn_of (gI_of x2 (by decide) rfl ?_)))
    by_cases c1 : w 1 = id
    · rw [decide_eq_true c1, Bool.true_or] at hQ
      exact br_T ⟨by omega, by omega⟩ hid c1 hQ
    · rw [decide_eq_false c1, Bool.false_or] at hQ
      refine br_F ⟨by omega, by omega⟩ hid c1 (gR_of x1 (by decide) rfl ?_)
      rcases x3 with ⟨n7, rfl⟩ | ⟨n7, b, rfl, x4⟩
      · rw [decide_eq_false (by omega), Bool.false_and] at hQ
        exact brN_N hQ
      · rw [decide_eq_true n7, Bool.true_and] at hQ
        refine brN_S (gR_of x1 (by decide) rfl (nn_of (gI_of x4 (by decide) rfl ?_)))
        have w6 : 0 ≤ w 6 ∧ w 6 < 16 := by
          rcases w7 with w7 | w7
          · omega
          · exact w7.2.2.1
        by_cases c6 : w 6 = id
        · rw [decide_eq_true c6] at hQ
          exact br_F ⟨by omega, by omega⟩ hid (by omega) hQ
        · rw [decide_eq_false c6] at hQ
          exact br_T ⟨by omega, by omega⟩ hid c6 hQ
  · rw [decide_eq_false c0, Bool.false_and] at hQ
    exact br_T ⟨by omega, by omega⟩ hq c0 hQ
/-- a new word goes into the outbox, the rest stands -/
theorem x_newOutn {Q : Nat → Nat → Wd → Prop} {k n x z : Nat} {lq id c2 c3 c4 st rs : Int} {c5 : Bool} {f : Nat} {fs : List Value} (h : DrA G D a rf d) (hD : 9 < D) (hz : G 1 z = some (oB 8 fs)) (hzf : fs[f]? = some (vR (some x))) (hx : G 1 x = some (oB 7 [vI lq, vI id, vI c2, vI c3, vI c4, vB c5])) (hl : d.out.length < 900000) (hk : 2 ≤ k) (hn : 7 ≤ n)
    (hQ : ∀ G', DrA G' D a rf (outD d (rec4 lq id st rs)) → FrR (D + 4) (D + 6) G G' → Q 1 3 G') :
    nO G k n 9 4 zX10 (fun a89 G90 => gR G90 z [8] f (fun x91 => f_X10_init a89 x91 st rs G90 (fun G92 => nn (some (rf 9 2)) (fun a93 => (∃ k95 n96, (k95 ≤ (k - 1) ∧ n96 ≤ (n - 4)) ∧ (isC G92 a93 12 ∧ f_J3_addLast k95 n96 a93 (some a89) G92 (fun G94 => Q k95 n96 G94))))))) := by
  refine nO_of 1 (by omega) (by omega) (by decide) (fun y hy => ?_)
  refine gR_of (r := 1) (show wset G 1 y (oB 9 zX10) 1 z = _ by rw [wset_ne (fr_ne hy hz)]; exact hz) (by decide) hzf (p_X10_init wset_at (by rw [wset_ne (fr_ne hy hx)]; exact hx) ?_)
  rw [wset_wset]
  have h1 : DrA (wset G 1 y (oB 9 [vI lq, vI id, vI st, vI rs])) D a rf d := h.new hy hD
  exact nn_of ⟨1, 3, ⟨by omega, by omega⟩, cOut h1, x_outAddn (w := rec4 lq id st rs) h1 hD hl wset_at (by omega) (by omega) (fun G1 g1 f1 => hQ G1 g1 ((FrR.new hy).trans f1))⟩
theorem p_goCall_73 {Q : Wd → Prop} {i : Nat} {id : Int} (hD : 9 < D) (hid : R32 id) : ∀ (l : List Rec) (e : DS) (G : Wd) (k n : Nat) (nw : Bool) (ys xs : List Nat), All (WkOK (e.s 900)) l → e.s 900 ≤ 5 → DrA G D a rf (setRun e (e.run ++ l)) → ItAt G (D + 15) i (D + 2) (rf 9 1) nw ys xs → All2 (WorkAt (G 1)) ys e.run → All2 (WorkAt (G 1)) xs l →
    e.out.length + 2 * l.length < 800000 → 4 * l.length ≤ k → 32 * l.length ≤ n → q < 5 →
    (∀ G', DrA G' D a rf (l.foldl (callStep q id) e) → FrR D (D + 100) G G' → Q G') → f_X1_goCall_73 Q (l.length + 1) k n (some a) q id (some i) G := by
  intro l
  induction l with
  | nil =>
    intro e G k n nw ys xs hok h9 h hi hys hxs ho hk hn h5 hQ
    have : xs = [] := hxs.nil
    subst this
    obtain ⟨n1, n2, mc, lr, i1, i2, i3, i4, i5, i6, i7, i8⟩ := _root_.id hi
    unfold f_X1_goCall_73 f_X1_goCall_73_b
    refine nn_of ⟨isC_of (by assumption), p_J25_hasNext hi (brB_F (hQ G ?_ FrR.refl))⟩
    show DrA G D a rf e
    have : setRun e (e.run ++ []) = e := by rw [List.append_nil]; rfl
    rw [this] at h; exact h
  | cons w l ih =>
    intro e G k n nw ys xs hok h9 h hi hys hxs ho hk hn h5 hQ
    obtain ⟨x, xs, rfl, x1, x2⟩ := hxs.cons
    rw [List.length_cons] at ho hk hn
    rw [List.foldl_cons] at hQ
    obtain ⟨n1, n2, mc, lr, i1, i2, i3, i4, i5, i6, i7, i8⟩ := _root_.id hi
    unfold f_X1_goCall_73 f_X1_goCall_73_b f_X1_goCall_165
    refine nn_of ⟨isC_of (by assumption), p_J25_hasNext hi (brB_T ⟨isC_of (by assumption), p_J25_next hi (by omega) (by omega) (by omega) (fun G1 hi1 f1 f1' => ?_)⟩)⟩
    have e1 : G1 1 = G 1 := f1 1 (by omega)
    obtain ⟨g1, fr1⟩ := h.itR hD (fun r r1 r2 r3 => f1 r r1) hi1 (l := e.run ++ w :: l) (by
      rw [e1, List.append_assoc]
      exact hys.app (show All2 _ ([x] ++ xs) (w :: l) from ⟨x1, x2⟩))
    have x1' : WorkAt (G1 1) x w := by rw [e1]; exact x1
    obtain ⟨y, z, y1, y2, y3⟩ := _root_.id x1'
    refine cst_of rfl y1 (by decide) (nn_of ⟨isC_of y1, p_X9_hasId x1' hok.hd h9 ⟨by omega, by omega⟩ hid ?_⟩)
    have hQ' := hQ
    unfold callStep at hQ'
    cases hh : hasId w q id with
    | false =>
      rw [hh, if_neg (by simp)] at hQ'
      refine brB_F (ih (setRun e (e.run ++ [w])) G1 k n true (ys ++ [x]) xs hok.tl h9 ?_ hi1 ?_ ?_ (by show e.out.length + _ < _; omega) (by omega) (by omega) h5 (fun G' g' f' => hQ' G' g' (fr1.trans f')))
      · show DrA G1 D a rf (setRun e ((e.run ++ [w]) ++ l))
        rw [List.append_assoc]; exact g1
      · rw [e1]
        exact hys.app (ys := [x]) (ds := [w]) ⟨x1, trivial⟩
      · rw [e1]; exact x2
    | true =>
      rw [hh, if_pos rfl] at hQ'
      obtain ⟨n1, n2, mc, lr, i1, i2, i3, i4, i5, i6, i7, i8⟩ := _root_.id hi1
      refine brB_T ⟨isC_of (by assumption), p_J25_remove hi1 (by omega) (by omega) (by omega) (by omega) (fun G2 hi2 f2 f2' => ?_)⟩
      have e2 : G2 1 = G 1 := by rw [f2 1 (by omega) (by omega) (by omega), e1]
      have ys2 : All2 (WorkAt (G2 1)) ys e.run := by rw [e2]; exact hys
      have xs2 : All2 (WorkAt (G2 1)) xs l := by rw [e2]; exact x2
      obtain ⟨g2, fr2⟩ := g1.itR hD (fun r r1 r2 r3 => f2 r r1 r2 r3) hi2 (l := e.run ++ l) (ys2.app xs2)
      have z1 : G2 1 x = some (oB 8 [vR (some y), vR z, vI (w 11)]) := by rw [e2, ← e1]; exact y1
      have z2 : G2 1 y = some (oB 7 [vI (w 0), vI (w 1), vI (w 2), vI (w 3), vI (w 4), vB (decide (w 5 = 1))]) := by rw [e2, ← e1]; exact y2
      refine nn_of (gD_2 g2 (x_newOutn (f := 0) g2 hD z1 rfl z2 (by show e.out.length < _; omega) (by omega) (by omega) (fun G3 g3 f3 => ?_)))
      have z3 := f3.2.1 _ _ z1
      have hi3 : ItAt G3 (D + 15) i (D + 2) (rf 9 1) false ys xs := hi2.congr (by rw [f3.1 _ (by omega) (by omega) (by omega) (by omega)]) (f3.1 _ (by omega) (by omega) (by omega) (by omega)) (f3.1 _ (by omega) (by omega) (by omega) (by omega))
      have ys3 := ys2.imp (fun _ _ => WorkAt.ext f3.e)
      have xs3 := xs2.imp (fun _ _ => WorkAt.ext f3.e)
      refine gR_of z3 (by decide) rfl ?_
      unfold backW at hQ'
      rcases y3 with ⟨n7, rfl⟩ | ⟨n7, b, rfl, y4⟩
      · rw [if_pos n7] at hQ'
        refine brN_N (ih (setOut e (e.out ++ [rec4 (w 0) (w 1) 1 0])) G3 _ _ false ys xs hok.tl h9 g3 hi3 ys3 xs3 ?_ (by omega) (by omega) h5 (fun G' g' f' => hQ' G' g' (fr1.trans (fr2.trans ((f3.wide (by omega) (by omega)).trans f')))))
        show (e.out ++ [_]).length + _ < _
        rw [List.length_append, List.length_singleton]; omega
      · rw [if_neg (by omega)] at hQ'
        have z4 : G3 1 b = some (oB 7 [vI (w 0), vI (w 6), vI (w 7), vI (w 8), vI (w 9), vB (decide (w 10 = 1))]) := f3.2.1 _ _ (by rw [e2, ← e1]; exact y4)
        refine brN_S (gD_2 g3 (x_newOutn (f := 1) g3 hD z3 rfl z4 (by show (e.out ++ [_]).length < _; rw [List.length_append, List.length_singleton]; omega) (by omega) (by omega) (fun G4 g4 f4 => ?_)))
        have hi4 : ItAt G4 (D + 15) i (D + 2) (rf 9 1) false ys xs := hi3.congr (by rw [f4.1 _ (by omega) (by omega) (by omega) (by omega)]) (f4.1 _ (by omega) (by omega) (by omega) (by omega)) (f4.1 _ (by omega) (by omega) (by omega) (by omega))
        refine ih (setOut e (e.out ++ [rec4 (w 0) (w 1) 1 0, rec4 (w 0) (w 6) 1 0])) G4 _ _ false ys xs hok.tl h9 ?_ hi4 (ys3.imp (fun _ _ => WorkAt.ext f4.e)) (xs3.imp (fun _ _ => WorkAt.ext f4.e)) ?_ (by omega) (by omega) h5 (fun G' g' f' => hQ' G' g' (fr1.trans (fr2.trans ((f3.wide (by omega) (by omega)).trans ((f4.wide (by omega) (by omega)).trans f')))))
        · have ea : (e.out ++ [rec4 (w 0) (w 1) 1 0]) ++ [rec4 (w 0) (w 6) 1 0] = e.out ++ [rec4 (w 0) (w 1) 1 0, rec4 (w 0) (w 6) 1 0] := by simp
          show DrA G4 D a rf (setRun (setOut e (e.out ++ [rec4 (w 0) (w 1) 1 0, rec4 (w 0) (w 6) 1 0])) (e.run ++ l))
          rw [← ea]; exact g4
        · show (e.out ++ [_, _]).length + _ < _
          rw [List.length_append]
          show e.out.length + 2 + _ < _
          omega
theorem p_goCall_19 {Q : Wd → Prop} {id : Int} (hD : 9 < D) (hid : R32 id) (h5 : q < 5) (hw : WF d B) {N : Nat} (hN : N ≤ 7) : ∀ (l : List Rec) (m : List Rec) (G : Wd) (k n : Nat), l.length ≤ N → m.length + l.length ≤ 7 → All CmdOK l → DrA G D a rf (d.s, nup d.ring q (l ++ m.map (callC id)), d.2.2) → d.ring q = m ++ l → l.length + 17 ≤ k → 8 * (l.length + 17) ≤ n →
    (∀ G', DrA G' D a rf (callD d q id) → FrR D (D + 100) G G' → Q G') → f_X1_goCall_19 Q (l.length + 1) k n (some a) q id (some (rf q 1)) N ((N : Int) - (l.length : Nat)) G := by
  intro l
  induction l with
  | nil =>
    intro m G k n hl hm7 hok h hr hk hn hQ
    rw [List.length_nil] at hk hn
    rw [List.append_nil] at hr
    unfold f_X1_goCall_19 f_X1_goCall_19_b
    refine br_T ⟨by simp only [List.length_nil]; omega, by simp only [List.length_nil]; omega⟩ ⟨by omega, by omega⟩ (by simp) ?_
    obtain ⟨zs, m3, m4⟩ := h.2.2.1
    have hrl := hw.2.2.1.1
    have hol := hw.outlen
    refine nn_of (gD_1 h (nn_of ⟨1, 8, ⟨by omega, by omega⟩, cRun h, p_J2_iterator (D + 15) m3 (by omega) (by omega) (by omega) (by omega) (by omega) (fun i' G2 hi2 f2 f2' => ⟨d.run.length + 1, ?_⟩)⟩))
    have e2 : G2 1 = G 1 := f2 1 (by omega)
    obtain ⟨g2, fr2⟩ := h.itR hD (fun r r1 r2 r3 => f2 r r1) hi2 (l := d.run) (by rw [e2]; exact m4)
    have eq : (d.s, nup d.ring q (m.map (callC id)), d.2.2) = callRing d q id := by unfold callRing; rw [hr]
    refine p_goCall_73 hD hid d.run (setRun (callRing d q id) []) G2 _ _ false [] zs hw.2.2.1.2 hw.many.2 ?_ hi2 trivial (by rw [e2]; exact m4) (by show d.out.length + _ < _; omega) (by omega) (by omega) h5 (fun G' g' f' => hQ G' g' (fr2.trans f'))
    rw [← eq]; exact g2
  | cons c l ih =>
    intro m G k n hl hm7 hok h hr hk hn hQ
    rw [List.length_cons] at hl hm7 hk hn
    obtain ⟨c0, -⟩ := hok.hd
    unfold f_X1_goCall_19 f_X1_goCall_19_b f_X1_goCall_55
    refine br_F ⟨by simp only [List.length_cons]; omega, by simp only [List.length_cons]; omega⟩ ⟨by omega, by omega⟩ (by simp only [List.length_cons]; omega) (nn_of ⟨cRing h h5, x_ringPoll (c := c) (cs := l ++ m.map (callC id)) h hD h5 nup_at (fun x G1 x1 g1 f1 => ?_)⟩)
    have g1' : DrA G1 D a rf (d.s, nup d.ring q (l ++ m.map (callC id)), d.2.2) := by
      have : nup (nup d.ring q (c :: l ++ m.map (callC id))) q (l ++ m.map (callC id)) = nup d.ring q (l ++ m.map (callC id)) := nup_nup
      have g1 : DrA G1 D a rf (d.s, nup (nup d.ring q (c :: l ++ m.map (callC id))) q (l ++ m.map (callC id)), d.2.2) := g1
      rw [this] at g1; exact g1
    have rest : ∀ (G2 : Wd) (y k' n' : Nat), DrA G2 D a rf (d.s, nup d.ring q (l ++ m.map (callC id)), d.2.2) → FrR D (D + 100) G G2 → CmdAt (G2 1) q y (callC id c) → l.length + 17 ≤ k' → 8 * (l.length + 17) ≤ n' →
        nn (some (rf q 1)) (fun a76 => (isC G2 a76 13 ∧ f_J4_addLast a76 (some y) G2 (fun G77 => f_X1_goCall_19 Q (l.length + 1) k' n' (some a) q id (some (rf q 1)) N ((N : Int) - ((c :: l).length : Nat) + 1) G77))) := by
      intro G2 y k' n' g2 f2 y1 hk' hn'
      refine nn_of ⟨cRing g2 h5, x_ringAdd g2 hD h5 ?_ y1 (fun G3 g3 f3 => ?_)⟩
      · show (nup d.ring q (l ++ m.map (callC id)) q).length < 16
        rw [nup_at, List.length_append, List.length_map]; omega
      · rw [show (N : Int) - ((c :: l).length : Nat) + 1 = (N : Int) - (l.length : Nat) by rw [List.length_cons]; omega]
        refine ih (m ++ [c]) G3 k' n' (by omega) (by rw [List.length_append, List.length_singleton]; omega) hok.tl ?_ (by rw [hr, List.append_assoc]; rfl) hk' hn' (fun G' g' f' => hQ G' g' (f2.trans (f3.trans f')))
        have g3 : DrA G3 D a rf (d.s, nup (nup d.ring q (l ++ m.map (callC id))) q (nup d.ring q (l ++ m.map (callC id)) q ++ [callC id c]), d.2.2) := g3
        rw [nup_nup, nup_at] at g3
        rw [List.map_append, ← List.append_assoc]
        exact g3
    refine cst_of rfl x1 (by decide) (nn_of (gI_of x1 (by decide) rfl ?_))
    by_cases c1 : c 0 = id
    · refine br_F ⟨by omega, by omega⟩ hid (by omega) ⟨1, 8, ⟨by omega, by omega⟩, isC_of x1, ?_⟩
      unfold f_X8_calledBack
      refine nO_of 1 (by omega) (by omega) (by decide) (fun y hy => ?_)
      have x1' : wset G1 1 y (oB 7 zX8) 1 x = some (oB 7 [vI q, vI (c 0), vI (c 1), vI (c 2), vI (c 3), vB (decide (c 4 = 1))]) := by rw [wset_ne (fr_ne hy x1)]; exact x1
      refine gI_of x1' (by decide) rfl (gI_of x1' (by decide) rfl (gI_of x1' (by decide) rfl (gI_of x1' (by decide) rfl (gI_of x1' (by decide) rfl (p_X8_init wset_at ?_)))))
      rw [wset_wset]
      refine rest _ y _ _ (g1'.new hy hD) (f1.trans (FrR.new hy)) ?_ (by omega) (by omega)
      unfold CmdAt callC
      rw [if_pos c1, wset_at, iup_at, iup_ne (by decide), iup_ne (by decide), iup_ne (by decide), iup_ne (by decide)]
      rfl
    · refine br_T ⟨by omega, by omega⟩ hid c1 (rest G1 x _ _ g1' f1 ?_ (by omega) (by omega))
      unfold callC
      rw [if_neg c1]; exact x1
theorem p_goCall {Q : Wd → Prop} {k n : Nat} {id : Int} (h : DrA G D a rf d) (hD : 9 < D) (hw : WF d B) (h5 : q < 5) (hid : R32 id) (hk : 24 ≤ k) (hn : 192 ≤ n) (hQ : ∀ G', DrA G' D a rf (callD d q id) → FrR D (D + 100) G G' → Q G') : f_X1_goCall k n (some a) q id G Q := by
  have hl := hw.ringlen h5
  unfold f_X1_goCall
  refine nn_of (gD_0 h (nn_of (xldL h h5 (nn_of (gL_1 h h5 (nn_of ⟨cRing h h5, x_ringSize h h5 ⟨(d.ring q).length + 1, ?_⟩⟩))))))
  have k1 := p_goCall_19 (Q := Q) (N := (d.ring q).length) hD hid h5 hw hl (d.ring q) [] G k n (Nat.le_refl _) (by simpa using hl) (hw.wl h5).2.2.2.1 (by
    show DrA G D a rf (d.s, nup d.ring q (d.ring q ++ []), d.2.2)
    rw [List.append_nil, nup_self]; exact h) rfl (by omega) (by omega) hQ
  rw [show (((d.ring q).length : Nat) : Int) - ((d.ring q).length : Nat) = 0 by omega] at k1
  exact k1
end
