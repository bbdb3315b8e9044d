/-! PURE PROOFS: words are posted -/
set_option maxRecDepth 100000
section
variable {G : Wd} {D a q : Nat} {rf : Nat → Nat → Nat} {d : DS} {B : Int}
theorem pL_12n {K : Wd → Prop} {x : Int} (h : DrA G D a rf d) (hq : q < 5) (hD : 9 < D) (hk : ∀ G', DrA G' D a rf (setS d (iup d.s (89 * q + 5) x)) → FrR (D + 20 + 10 * q) (D + 27 + 10 * q) G G' → K G') : pF G (rf q 0) [2] 12 (vI x) K := by
  have h0 := h
  obtain ⟨-, -, -, -, -, -, -, -, -, k⟩ := h
  obtain ⟨k1, k2⟩ := k q hq
  refine pF_of k1 (by omega) (by decide) (by (exact Nat.le_of_ble_eq_true rfl)) ?_
  have hf : ∀ e, FrR (D + 20 + 10 * q) (D + 27 + 10 * q) G (wset G (D + 20 + 10 * q) (rf q 0) e) := fun e => FrR.ws (by omega) (by omega) (by omega)
  refine hk _ (h0.line0 hD hq (hf _) ⟨?_, ?_⟩ (fun j hj => iup_ne (by omega))) (hf _)
  · rw [wset_at, iup_at]
    rw [iup_ne (j := 89 * q + 20) (by omega), iup_ne (j := 89 * q + 21) (by omega), iup_ne (j := 89 * q + 22) (by omega), iup_ne (j := 89 * q + 0) (by omega), iup_ne (j := 89 * q + 1) (by omega), iup_ne (j := 89 * q + 2) (by omega), iup_ne (j := 89 * q + 3) (by omega), iup_ne (j := 89 * q + 4) (by omega), iup_ne (j := 89 * q + 6) (by omega), iup_ne (j := 89 * q + 7) (by omega), iup_ne (j := 89 * q + 23) (by omega), iup_ne (j := 89 * q + 8) (by omega)]
    rfl
  · exact LineA.body k2 (fun r r1 r2 => wset2 (by omega)) (fun b e hb _ => by rw [wset2 (by omega)]; exact hb)
theorem pD_14n {K : Wd → Prop} {x : Int} (h : DrA G D a rf d) (hD : 9 < D) (hk : ∀ G', DrA G' D a rf (setS d (iup d.s 902 x)) → FrR D (D + 1) G G' → K G') : pF G a [1] 14 (vI x) K := by
  refine pF_of h.1 (by omega) (by decide) (by (exact Nat.le_of_ble_eq_true rfl)) ?_
  have hf : ∀ e, FrR D (D + 1) G (wset G D a e) := fun e => FrR.ws (by omega) (by omega) (by omega)
  refine hk _ (h.top hD (hf _) ?_ (fun j hj => iup_ne (by omega))) (hf _)
  rw [wset_at]
  (simp (disch := omega) only [iup_at, iup_ne]; try rfl)
theorem x_postsAddn {Q : Wd → Prop} {x : Nat} {p : Rec} (h : DrA G D a rf d) (hD : 9 < D) (hq : q < 5) (hl : (d.posts q).length < 16) (hx : PostAt (G 1) q x p)
    (hQ : ∀ G', DrA G' D a rf (d.s, d.ring, nup d.posts q (d.posts q ++ [p]), d.2.2.2) → FrR (D + 20 + 10 * q) (D + 27 + 10 * q) G G' → Q G') : f_J4_addLast (rf q 2) (some x) G Q := by
  obtain ⟨k1, k2, ⟨ys, k4, k5⟩, k6⟩ := h.lineq hq
  refine p_J4_addLast k4 (by omega) (by rw [k5.len]; exact hl) (by obtain ⟨y, e, -⟩ := hx; exact ⟨1, 10, _, by decide, e, by decide⟩) (fun G' g1 g2 => ?_)
  have e1 : Ext (G 1) (G' 1) := by rw [g2 1 (by omega) (by omega)]; exact Ext.refl
  obtain ⟨m1, m2⟩ := h.postsU hD hq g2 g1 ((k5.imp (fun _ _ => PostAt.ext e1)).app (ys := [x]) (ds := [p]) ⟨hx.ext e1, trivial⟩)
  exact hQ G' m1 (FrR.fr2 g2 (by omega) (by omega) (by omega))
theorem p_X3_post {Q : Wd → Prop} {k n x : Nat} {w : Rec} (h : DrA G D a rf d) (hD : 9 < D) (hq : q < 5) (h0 : w 0 = q) (hx : WordAt (G 1) x w) (hw : WF d B) (hB : B ≤ 1000000000) (hq9 : (q : Int) < d.s 900) (hk : 1 ≤ k) (hn : 3 ≤ n)
    (hQ : ∀ G', DrA G' D a rf (iup d.s (89 * q + 5) (d.s (89 * q + 5) + 1), d.ring, nup d.posts q (d.posts q ++ [rec5 (w 1) (w 2) (w 3) (d.s (89 * q + 3)) (phs (d.s (89 * q + 5)) (d.s (89 * q + 21)))]), d.us, d.run, d.out) → FrR (D + 20 + 10 * q) (D + 27 + 10 * q) G G' → Q G') : f_X3_post k n (rf q 0) (some x) G Q := by
  have h8 := hw.l8 hq9
  have hnn := hw.nn hq
  have hb5 := hw.1.1 (89 * q + 5)
  have hpl := hw.postslen hq
  unfold f_X3_post
  refine gL_2 h hq (nO_of 1 hk hn (by decide) (fun y hy => ?_))
  have h1 : DrA (wset G 1 y (oB 10 zX11)) D a rf d := h.new hy hD
  refine gL_10 h1 hq (gL_12 h1 hq ⟨cL h1 hq, p_X3_phaseOf h1 hq h8.2.1 hnn.2.2.2 (by omega) (p_X11_init wset_at ?_)⟩)
  rw [wset_wset]
  have h2 : DrA (wset G 1 y (oB 10 [vR (some x), vI (d.s (89 * q + 3)), vI (phs (d.s (89 * q + 5)) (d.s (89 * q + 21)))])) D a rf d := h.new hy hD
  have hp : PostAt (wset G 1 y (oB 10 [vR (some x), vI (d.s (89 * q + 3)), vI (phs (d.s (89 * q + 5)) (d.s (89 * q + 21)))]) 1) q y (rec5 (w 1) (w 2) (w 3) (d.s (89 * q + 3)) (phs (d.s (89 * q + 5)) (d.s (89 * q + 21)))) := by
    refine ⟨x, wset_at, ?_⟩
    rw [wset_ne (fr_ne hy hx)]
    have hx' := hx
    unfold WordAt at hx'
    rw [h0] at hx'
    exact hx'
  have f2 : FrR (D + 20 + 10 * q) (D + 27 + 10 * q) G (wset G 1 y (oB 10 [vR (some x), vI (d.s (89 * q + 3)), vI (phs (d.s (89 * q + 5)) (d.s (89 * q + 21)))])) := FrR.new hy
  generalize wset G 1 y (oB 10 [vR (some x), vI (d.s (89 * q + 3)), vI (phs (d.s (89 * q + 5)) (d.s (89 * q + 21)))]) = G2 at h2 hp f2 ⊢
  refine nn_of ⟨cPosts h2 hq, x_postsAddn h2 hD hq (by omega) hp (fun G3 g3 f3 => gL_12 g3 hq (pL_12n g3 hq hD (fun G4 g4 f4 => hQ G4 g4 (f2.trans (f3.trans f4)))))⟩
/-- an iterator over the outbox, in region D + 15 -/
theorem DrA.it {G' : Wd} {l : List Rec} {ys : List Nat} {i : Nat} {b : Bool} {zs xs : List Nat} (h : DrA G D a rf d) (hD : 9 < D) (hf : ∀ r, r ≠ D + 15 → r ≠ D + 4 → r ≠ D + 5 → G' r = G r) (hi : ItAt G' (D + 15) i (D + 4) (rf 9 2) b zs xs) (h2 : All2 (WordAt (G' 1)) (zs ++ xs) l) : DrA G' D a rf (setOut d l) ∧ FrR D (D + 100) G G' := by
  obtain ⟨k1, ⟨lf, k2, k3⟩, ⟨us, k4, k5⟩, k6, k8, k9, k10, k11, k12, k13⟩ := h
  have e1 : Ext (G 1) (G' 1) := by rw [hf 1 (by omega) (by omega) (by omega)]; exact Ext.refl
  refine ⟨⟨?_, ⟨lf, ?_, k3⟩, ⟨us, k4.congr (hf _ (by omega) (by omega) (by omega)) (hf _ (by omega) (by omega) (by omega)), k5.imp (fun _ _ => WorkAt.ext e1)⟩, ⟨zs ++ xs, hi.ll, h2⟩,
    k8.congr (hf _ (by omega) (by omega) (by omega)), k9.congr (hf _ (by omega) (by omega) (by omega)), k10.congr (hf _ (by omega) (by omega) (by omega)), k11.congr (hf _ (by omega) (by omega) (by omega)), k12.congr (hf _ (by omega) (by omega) (by omega)),
    fun p hp => (k13 p hp).congr (fun r r1 r2 => hf r (by omega) (by omega) (by omega)) e1⟩, ⟨fun r r1 r3 r5 r6 => hf r (by omega) (by omega) (by omega), fun b e hb => by rw [hf 1 (by omega) (by omega) (by omega)]; exact hb, by rw [hf 5 (by omega) (by omega) (by omega)]; exact Ex5.refl⟩⟩
  · rw [hf _ (by omega) (by omega) (by omega)]; exact k1
  · rw [hf _ (by omega) (by omega) (by omega)]; exact k2
theorem hasP_of {s : Rec} : hasP s q = true ↔ s (89 * q + 5) - s (89 * q + 6) < s (89 * q + 21) - 1 := by unfold hasP; simp
theorem p_X2_postAll_8 {Q : Wd → Prop} {i : Nat} (hD : 9 < D) : ∀ (l : List Rec) (e : DS) (B : Int) (G : Wd) (k n : Nat) (nw : Bool) (ys xs : List Nat), WF (setOut e (e.out ++ l)) B → B + l.length ≤ 1000000000 → DrA G D a rf (setOut e (e.out ++ l)) → ItAt G (D + 15) i (D + 4) (rf 9 2) nw ys xs → All2 (WordAt (G 1)) ys e.out → All2 (WordAt (G 1)) xs l →
    e.out.length + l.length ≤ k + (l.foldl postStep e).out.length → 8 * (e.out.length + l.length) ≤ n + 8 * (l.foldl postStep e).out.length →
    (∀ G', DrA G' D a rf (l.foldl postStep e) → FrR D (D + 100) G G' → Q G') → f_X2_postAll_8 a Q (l.length + 1) k n (some i) G := by
  have mono : ∀ (l : List Rec) (e : DS), (l.foldl postStep e).out.length ≤ e.out.length + l.length := by
    intro l
    induction l with
    | nil => intro e; simp
    | cons w l ih =>
      intro e
      rw [List.foldl_cons, List.length_cons]
      have := ih (postStep e w)
      have h2 : (postStep e w).out.length ≤ e.out.length + 1 := by
        unfold postStep
        split
        · show e.out.length ≤ _; omega
        · show (e.out ++ [w]).length ≤ _; rw [List.length_append, List.length_singleton]; omega
      omega
  intro l
  induction l with
  | nil =>
    intro e B G k n nw ys xs hw hB h hi hys hxs hk hn hQ
    have : xs = [] := hxs.nil
    subst this
    obtain ⟨n1, n2, mc, lr, i1, i2, i3, i4, i5, i6, i7, i8⟩ := id hi
    unfold f_X2_postAll_8 f_X2_postAll_8_b
    refine nn_of ⟨isC_of (by assumption), p_J25_hasNext hi ?_⟩
    refine brB_F (hQ G ?_ FrR.refl)
    show DrA G D a rf e
    have : setOut e (e.out ++ []) = e := by rw [List.append_nil]; rfl
    rw [this] at h; exact h
  | cons w l ih =>
    intro e B G k n nw ys xs hw hB h hi hys hxs hk hn hQ
    obtain ⟨x, xs, rfl, x1, x2⟩ := hxs.cons
    rw [List.length_cons] at hk hn hB
    rw [List.foldl_cons] at hk hn hQ
    obtain ⟨⟨w0, w0'⟩, w1, w2, w3⟩ := hw.2.2.2.1 w (List.mem_append_right _ List.mem_cons_self)
    have hm := hw.many
    obtain ⟨q, hq⟩ : ∃ q : Nat, w 0 = q := ⟨(w 0).toNat, by omega⟩
    have hq2 : (w 0).toNat = q := by omega
    have h5 : q < 5 := by have : w 0 < e.s 900 := w0'; have : e.s 900 ≤ 5 := hm.2; omega
    have hq9 : (q : Int) < (setOut e (e.out ++ w :: l)).s 900 := by rw [← hq]; exact w0'
    obtain ⟨n1, n2, mc, lr, i1, i2, i3, i4, i5, i6, i7, i8⟩ := id hi
    unfold f_X2_postAll_8 f_X2_postAll_8_b
    refine nn_of ⟨isC_of (by assumption), p_J25_hasNext hi (brB_T ⟨isC_of (by assumption), p_J25_next hi (by omega) (by omega) (by omega) (fun G1 hi1 f1 f1' => ?_)⟩)⟩
    have e1 : G1 1 = G 1 := f1 1 (by omega)
    obtain ⟨g1, fr1⟩ := h.it (ys := []) hD (fun r r1 r2 r3 => f1 r r1) hi1 (l := e.out ++ w :: l) (by
      rw [e1, List.append_assoc]
      exact hys.app (show All2 _ ([x] ++ xs) (w :: l) from ⟨x1, x2⟩))
    have x1' : WordAt (G1 1) x w := by rw [e1]; exact x1
    have x1c := x1'
    unfold WordAt at x1c
    rw [hq] at x1c
    obtain ⟨hst, hst9⟩ := postStep_wf hw
    refine cst_of rfl x1c (by decide) (gD_0 g1 (nn_of (gI_of x1c (by decide) rfl (nn_of (xldL g1 h5 (nn_of ⟨cL g1 h5, p_X3_hasPlace g1 h5 hw (by omega) ?_⟩))))))
    show brB (hasP e.s q) _ _
    have m1 := mono l (postStep e w)
    cases hp : hasP e.s q with
    | true =>
      have es : postStep e w = postD e w := by unfold postStep; rw [hq2, if_pos hp]
      have eo : (postD e w).out = e.out := rfl
      rw [es, eo] at m1
      rw [es] at hk hn hQ hst
      refine brB_T (gD_0 g1 (gI_of x1c (by decide) rfl (nn_of (xldL g1 h5 (nn_of ⟨1, 8, ⟨by omega, by omega⟩, cL g1 h5, p_X3_post g1 hD h5 hq x1' hw (by omega) hq9 (by omega) (by omega) (fun G2 g2 f2 => ?_)⟩)))))
      have hi2 : ItAt G2 (D + 15) i (D + 4) (rf 9 2) true (ys ++ [x]) xs := hi1.congr (by rw [f2.1 _ (by omega) (by omega) (by omega) (by omega)]) (f2.1 _ (by omega) (by omega) (by omega) (by omega)) (f2.1 _ (by omega) (by omega) (by omega) (by omega))
      obtain ⟨n1, n2, mc, lr, i1, i2, i3, i4, i5, i6, i7, i8⟩ := id hi2
      refine ⟨isC_of (by assumption), p_J25_remove hi2 (by omega) (by omega) (by omega) (by omega) (fun G3 hi3 f3 f3' => ?_)⟩
      have e13 : Ext (G 1) (G3 1) := by
        rw [f3 1 (by omega) (by omega) (by omega), ← e1]; exact f2.e
      have ys3 : All2 (WordAt (G3 1)) ys e.out := hys.imp (fun _ _ => WordAt.ext e13)
      have xs3 : All2 (WordAt (G3 1)) xs l := x2.imp (fun _ _ => WordAt.ext e13)
      obtain ⟨g3, fr3⟩ := g2.it (ys := []) hD (fun r r1 r2 r3 => f3 r r1 r2 r3) hi3 (l := e.out ++ l) (ys3.app xs3)
      refine gD_14 g3 (pD_14n g3 hD (fun G4 g4 f4 => ?_))
      have g4' : DrA G4 D a rf (setOut (postD e w) ((postD e w).out ++ l)) := by
        unfold postD
        rw [hq2]
        simp (disch := omega) only [setS, setRun, setOut, outD, s_mk, ring_mk, posts_mk, us_mk, run_mk, out_mk, ring_2, posts_2, us_2, run_2, out_2, iup_at, iup_ne, nup_at, nup_ne] at g4
        exact g4
      have hi4 : ItAt G4 (D + 15) i (D + 4) (rf 9 2) false ys xs := hi3.congr (by rw [f4.1 _ (by omega) (by omega) (by omega) (by omega)]) (f4.1 _ (by omega) (by omega) (by omega) (by omega)) (f4.1 _ (by omega) (by omega) (by omega) (by omega))
      exact ih (postD e w) (B + 1) G4 _ _ false ys xs hst (by omega) g4' hi4 (ys3.imp (fun _ _ => WordAt.ext f4.e)) (xs3.imp (fun _ _ => WordAt.ext f4.e)) (by rw [eo]; omega) (by rw [eo]; omega) (fun G' g' f' => hQ G' g' (fr1.trans ((f2.wide (by omega) (by omega)).trans (fr3.trans ((f4.wide (by omega) (by omega)).trans f')))))
    | false =>
      have es : postStep e w = setOut e (e.out ++ [w]) := by unfold postStep; rw [hq2, hp]; rfl
      rw [es] at hk hn hQ hst m1
      refine brB_F (ih (setOut e (e.out ++ [w])) (B + 1) G1 k n true (ys ++ [x]) xs hst (by omega) ?_ hi1 ?_ ?_ ?_ ?_ (fun G' g' f' => hQ G' g' (fr1.trans f')))
      · show DrA G1 D a rf (setOut e ((e.out ++ [w]) ++ l))
        rw [List.append_assoc]; exact g1
      · rw [e1]
        exact hys.app (ys := [x]) (ds := [w]) ⟨x1, trivial⟩
      · rw [e1]; exact x2
      · show (e.out ++ [w]).length + _ ≤ _
        rw [List.length_append, List.length_singleton]; omega
      · show 8 * ((e.out ++ [w]).length + _) ≤ _
        rw [List.length_append, List.length_singleton]; omega
theorem p_X2_postAll {Q : Wd → Prop} {k n : Nat} (h : DrA G D a rf d) (hD : 9 < D) (hw : WF d B) (hB : B ≤ 900000000) (hk : 1 + d.out.length ≤ k + (postAll d).out.length) (hn : 8 * (1 + d.out.length) ≤ n + 8 * (postAll d).out.length) (hQ : ∀ G', DrA G' D a rf (postAll d) → FrR D (D + 100) G G' → Q G') : f_X2_postAll k n a G Q := by
  have ho := hw.outlen
  have m0 : (postAll d).out.length ≤ d.out.length := by
    have mono : ∀ (l : List Rec) (e : DS), (l.foldl postStep e).out.length ≤ e.out.length + l.length := by
      intro l
      induction l with
      | nil => intro e; simp
      | cons w l ih =>
        intro e
        rw [List.foldl_cons, List.length_cons]
        have := ih (postStep e w)
        have h2 : (postStep e w).out.length ≤ e.out.length + 1 := by
          unfold postStep
          split
          · show e.out.length ≤ _; omega
          · show (e.out ++ [w]).length ≤ _; rw [List.length_append, List.length_singleton]; omega
        omega
    have := mono d.out (setOut d [])
    unfold postAll
    have e0 : (setOut d []).out.length = 0 := rfl
    omega
  unfold f_X2_postAll
  obtain ⟨ys, y1, y2⟩ := h.2.2.2.1
  refine gD_2 h (nn_of ⟨1, 8, ⟨by omega, by omega⟩, cOut h, p_J2_iterator (D + 15) y1 (by omega) (by omega) (by omega) (by omega) (by omega) (fun i G1 hi f1 f1' => ⟨d.out.length + 1, ?_⟩)⟩)
  have e1 : G1 1 = G 1 := f1 1 (by omega)
  obtain ⟨g1, fr1⟩ := h.it (ys := []) hD (fun r r1 r2 r3 => f1 r r1) hi (l := d.out) (by rw [e1]; exact y2)
  exact p_X2_postAll_8 hD d.out (setOut d []) B G1 _ _ false [] ys hw (by omega) g1 hi trivial (by rw [e1]; exact y2) (by show 0 + _ ≤ _ + (postAll d).out.length; omega) (by show 8 * (0 + _) ≤ _ + 8 * (postAll d).out.length; omega) (fun G' g' f' => hQ G' g' (fr1.trans f'))
end
