/-! PURE PROOFS: the lists, deques, sets of a drive, at DrA -/
set_option maxRecDepth 100000
section
variable {G : Wd} {D a q : Nat} {rf : Nat → Nat → Nat} {d : DS}
theorem DrA.lineq (h : DrA G D a rf d) (hq : q < 5) : LineA G (D + 20 + 10 * q) q (rf q) d.s (d.ring q) (d.posts q) (d.us q) := h.2.2.2.2.2.2.2.2.2 q hq
theorem DrA.ringU {G' : Wd} {xs : List Nat} {rg : List Rec} (h : DrA G D a rf d) (hD : 9 < D) (hq : q < 5) (hf : Fr2 (D + 20 + 10 * q + 1) G G') (h1 : Dq G' (D + 20 + 10 * q + 1) (rf q 1) xs) (h2 : All2 (CmdAt (G' 1) q) xs rg) :
    DrA G' D a rf (d.s, nup d.ring q rg, d.2.2) ∧ FrR D (D + 100) G G' := by
  obtain ⟨k1, k2, ⟨ys, k4, k5⟩, k6⟩ := h.lineq hq
  have hf2 : FrR (D + 20 + 10 * q) (D + 27 + 10 * q) G G' := FrR.fr2 hf (by omega) (by omega) (by omega)
  refine ⟨?_, hf2.wide (by omega) (by omega)⟩
  have := h.line hD hq hf2 (s' := d.s) (rg := rg) (ps := d.posts q) (u := d.us q) ⟨by rw [hf _ (by omega) (by omega)]; exact k1, ⟨xs, h1, h2⟩, ⟨ys, k4.congr (hf _ (by omega) (by omega)) (hf _ (by omega) (by omega)), k5.imp (fun _ _ => PostAt.ext hf2.e)⟩, k6.congr (hf _ (by omega) (by omega)) (hf _ (by omega) (by omega))⟩ (fun _ _ => rfl)
  rw [nup_self, nup_self] at this
  exact this
theorem DrA.postsU {G' : Wd} {ys : List Nat} {ps : List Rec} (h : DrA G D a rf d) (hD : 9 < D) (hq : q < 5) (hf : Fr2 (D + 20 + 10 * q + 3) G G') (h1 : Dq G' (D + 20 + 10 * q + 3) (rf q 2) ys) (h2 : All2 (PostAt (G' 1) q) ys ps) :
    DrA G' D a rf (d.s, d.ring, nup d.posts q ps, d.2.2.2) ∧ FrR D (D + 100) G G' := by
  obtain ⟨k1, ⟨xs, k2, k3⟩, k4, k6⟩ := h.lineq hq
  have hf2 : FrR (D + 20 + 10 * q) (D + 27 + 10 * q) G G' := FrR.fr2 hf (by omega) (by omega) (by omega)
  refine ⟨?_, hf2.wide (by omega) (by omega)⟩
  have := h.line hD hq hf2 (s' := d.s) (rg := d.ring q) (ps := ps) (u := d.us q) ⟨by rw [hf _ (by omega) (by omega)]; exact k1, ⟨xs, k2.congr (hf _ (by omega) (by omega)) (hf _ (by omega) (by omega)), k3.imp (fun _ _ => CmdAt.ext hf2.e)⟩, ⟨ys, h1, h2⟩, k6.congr (hf _ (by omega) (by omega)) (hf _ (by omega) (by omega))⟩ (fun _ _ => rfl)
  rw [nup_self, nup_self] at this
  exact this
theorem DrA.usedU {G' : Wd} {u : Nat} (h : DrA G D a rf d) (hD : 9 < D) (hq : q < 5) (hf : Fr2 (D + 20 + 10 * q + 5) G G') (h1 : Bs G' (D + 20 + 10 * q + 5) (rf q 3) u) :
    DrA G' D a rf (d.s, d.ring, d.posts, nup d.us q u, d.2.2.2.2) ∧ FrR D (D + 100) G G' := by
  obtain ⟨k1, ⟨xs, k2, k3⟩, ⟨ys, k4, k5⟩, k6⟩ := h.lineq hq
  have hf2 : FrR (D + 20 + 10 * q) (D + 27 + 10 * q) G G' := FrR.fr2 hf (by omega) (by omega) (by omega)
  refine ⟨?_, hf2.wide (by omega) (by omega)⟩
  have := h.line hD hq hf2 (s' := d.s) (rg := d.ring q) (ps := d.posts q) (u := u) ⟨by rw [hf _ (by omega) (by omega)]; exact k1, ⟨xs, k2.congr (hf _ (by omega) (by omega)) (hf _ (by omega) (by omega)), k3.imp (fun _ _ => CmdAt.ext hf2.e)⟩, ⟨ys, k4.congr (hf _ (by omega) (by omega)) (hf _ (by omega) (by omega)), k5.imp (fun _ _ => PostAt.ext hf2.e)⟩, h1⟩ (fun _ _ => rfl)
  rw [nup_self, nup_self] at this
  exact this
theorem x_ringPoll {Q : Option Nat → Wd → Prop} {c : Rec} {cs : List Rec} (h : DrA G D a rf d) (hD : 9 < D) (hq : q < 5) (hc : d.ring q = c :: cs)
    (hQ : ∀ x G', CmdAt (G' 1) q x c → DrA G' D a rf (d.s, nup d.ring q cs, d.2.2) → FrR D (D + 100) G G' → Q (some x) G') : f_J4_pollFirst (rf q 1) G Q := by
  obtain ⟨k1, ⟨xs, k2, k3⟩, k4⟩ := h.lineq hq
  rw [hc] at k3
  obtain ⟨x, xs, rfl, k7, k8⟩ := k3.cons
  refine p_J4_pollFirst k2 (by omega) (fun G' g1 g2 => ?_)
  have e1 : Ext (G 1) (G' 1) := by rw [g2 1 (by omega) (by omega)]; exact Ext.refl
  obtain ⟨m1, m2⟩ := h.ringU hD hq g2 g1 (k8.imp (fun _ _ => CmdAt.ext e1))
  exact hQ x G' (k7.ext e1) m1 m2
theorem x_ringAdd {Q : Wd → Prop} {x : Nat} {c : Rec} (h : DrA G D a rf d) (hD : 9 < D) (hq : q < 5) (hl : (d.ring q).length < 16) (hx : CmdAt (G 1) q x c)
    (hQ : ∀ G', DrA G' D a rf (d.s, nup d.ring q (d.ring q ++ [c]), d.2.2) → FrR D (D + 100) G G' → Q G') : f_J4_addLast (rf q 1) (some x) G Q := by
  obtain ⟨k1, ⟨xs, k2, k3⟩, k4⟩ := h.lineq hq
  refine p_J4_addLast k2 (by omega) (by rw [k3.len]; exact hl) ⟨1, 7, _, by decide, hx, by decide⟩ (fun G' g1 g2 => ?_)
  have e1 : Ext (G 1) (G' 1) := by rw [g2 1 (by omega) (by omega)]; exact Ext.refl
  obtain ⟨m1, m2⟩ := h.ringU hD hq g2 g1 ((k3.imp (fun _ _ => CmdAt.ext e1)).app (ys := [x]) (ds := [c]) ⟨hx.ext e1, trivial⟩)
  exact hQ G' m1 m2
theorem x_ringPeek {Q : Option Nat → Wd → Prop} (h : DrA G D a rf d) (hq : q < 5) (h0 : d.ring q = [] → Q none G) (h1 : ∀ x c cs, d.ring q = c :: cs → CmdAt (G 1) q x c → Q (some x) G) : f_J4_peekFirst (rf q 1) G Q := by
  obtain ⟨k1, ⟨xs, k2, k3⟩, k4⟩ := h.lineq hq
  refine p_J4_peekFirst k2 ?_
  cases hr : d.ring q with
  | nil => rw [hr] at k3; rw [k3.nil]; exact h0 hr
  | cons c cs =>
    rw [hr] at k3
    obtain ⟨x, xs, rfl, k7, k8⟩ := k3.cons
    exact h1 x c cs hr k7
theorem x_ringSize {Q : Int → Wd → Prop} (h : DrA G D a rf d) (hq : q < 5) (hQ : Q ((d.ring q).length : Nat) G) : f_J4_size (rf q 1) G Q := by
  obtain ⟨k1, ⟨xs, k2, k3⟩, k4⟩ := h.lineq hq
  refine p_J4_size k2 ?_
  rw [k3.len]; exact hQ
theorem x_ringClear {Q : Wd → Prop} (h : DrA G D a rf d) (hD : 9 < D) (hq : q < 5) (hQ : ∀ G', DrA G' D a rf (d.s, nup d.ring q [], d.2.2) → FrR D (D + 100) G G' → Q G') : f_J4_clear (rf q 1) G Q := by
  obtain ⟨k1, ⟨xs, k2, k3⟩, k4⟩ := h.lineq hq
  refine p_J4_clear k2 (by omega) (fun G' g1 g2 => ?_)
  obtain ⟨m1, m2⟩ := h.ringU (rg := []) hD hq g2 g1 trivial
  exact hQ G' m1 m2
theorem x_postsClear {Q : Wd → Prop} (h : DrA G D a rf d) (hD : 9 < D) (hq : q < 5) (hQ : ∀ G', DrA G' D a rf (d.s, d.ring, nup d.posts q [], d.2.2.2) → FrR D (D + 100) G G' → Q G') : f_J4_clear (rf q 2) G Q := by
  obtain ⟨k1, k2, ⟨ys, k4, k5⟩, k6⟩ := h.lineq hq
  refine p_J4_clear k4 (by omega) (fun G' g1 g2 => ?_)
  obtain ⟨m1, m2⟩ := h.postsU (ps := []) hD hq g2 g1 trivial
  exact hQ G' m1 m2
theorem x_usedClear {Q : Wd → Prop} (h : DrA G D a rf d) (hD : 9 < D) (hq : q < 5) (hQ : ∀ G', DrA G' D a rf (d.s, d.ring, d.posts, nup d.us q 0, d.2.2.2.2) → FrR D (D + 100) G G' → Q G') : f_J5_clear (rf q 3) G Q := by
  obtain ⟨k1, k2, k4, k6⟩ := h.lineq hq
  refine p_J5_clear k6 (by omega) (fun G' g1 g2 => ?_)
  obtain ⟨m1, m2⟩ := h.usedU hD hq g2 g1
  exact hQ G' m1 m2
theorem x_postsAdd {Q : Wd → Prop} {x : Nat} {p : Rec} (h : DrA G D a rf d) (hD : 9 < D) (hq : q < 5) (hl : (d.posts q).length < 16) (hx : PostAt (G 1) q x p)
    (hQ : ∀ G', DrA G' D a rf (d.s, d.ring, nup d.posts q (d.posts q ++ [p]), d.2.2.2) → FrR D (D + 100) G G' → Q G') : f_J4_addLast (rf q 2) (some x) G Q := by
  obtain ⟨k1, k2, ⟨ys, k4, k5⟩, k6⟩ := h.lineq hq
  refine p_J4_addLast k4 (by omega) (by rw [k5.len]; exact hl) (by obtain ⟨y, e, -⟩ := hx; exact ⟨1, 10, _, by decide, e, by decide⟩) (fun G' g1 g2 => ?_)
  have e1 : Ext (G 1) (G' 1) := by rw [g2 1 (by omega) (by omega)]; exact Ext.refl
  obtain ⟨m1, m2⟩ := h.postsU hD hq g2 g1 ((k5.imp (fun _ _ => PostAt.ext e1)).app (ys := [x]) (ds := [p]) ⟨hx.ext e1, trivial⟩)
  exact hQ G' m1 m2
theorem x_postsPoll {Q : Option Nat → Wd → Prop} {p : Rec} {ps : List Rec} (h : DrA G D a rf d) (hD : 9 < D) (hq : q < 5) (hc : d.posts q = p :: ps)
    (hQ : ∀ x G', PostAt (G' 1) q x p → DrA G' D a rf (d.s, d.ring, nup d.posts q ps, d.2.2.2) → FrR D (D + 100) G G' → Q (some x) G') : f_J4_pollFirst (rf q 2) G Q := by
  obtain ⟨k1, k2, ⟨ys, k4, k5⟩, k6⟩ := h.lineq hq
  rw [hc] at k5
  obtain ⟨x, xs, rfl, k7, k8⟩ := k5.cons
  refine p_J4_pollFirst k4 (by omega) (fun G' g1 g2 => ?_)
  have e1 : Ext (G 1) (G' 1) := by rw [g2 1 (by omega) (by omega)]; exact Ext.refl
  obtain ⟨m1, m2⟩ := h.postsU hD hq g2 g1 (k8.imp (fun _ _ => PostAt.ext e1))
  exact hQ x G' (k7.ext e1) m1 m2
theorem x_postsEmpty {Q : Bool → Wd → Prop} (h : DrA G D a rf d) (hq : q < 5) (hQ : Q (d.posts q).isEmpty G) : f_J4_isEmpty (rf q 2) G Q := by
  obtain ⟨k1, k2, ⟨ys, k4, k5⟩, k6⟩ := h.lineq hq
  refine p_J4_isEmpty k4 ?_
  have e : ys.isEmpty = (d.posts q).isEmpty := by
    have := k5.len
    cases hys : ys <;> cases hps : d.posts q <;> rw [hys, hps] at this <;> simp at this <;> rfl
  rw [e]; exact hQ
theorem x_usedAt {Q : Wd → Prop} {i : Nat} (h : DrA G D a rf d) (hD : 9 < D) (hq : q < 5) (hi : i < 16) (hQ : ∀ G', DrA G' D a rf (d.s, d.ring, d.posts, nup d.us q (bclr (d.us q) i), d.2.2.2.2) → FrR D (D + 100) G G' → Q G') : f_J5_clear_2 (rf q 3) i G Q := by
  obtain ⟨k1, k2, k4, k6⟩ := h.lineq hq
  refine p_J5_clearAt k6 (by omega) hi (fun G' g1 g2 => ?_)
  obtain ⟨m1, m2⟩ := h.usedU hD hq g2 g1
  exact hQ G' m1 m2
theorem x_usedSet {Q : Wd → Prop} {i : Nat} (h : DrA G D a rf d) (hD : 9 < D) (hq : q < 5) (hi : i < 16) (hQ : ∀ G', DrA G' D a rf (d.s, d.ring, d.posts, nup d.us q (d.us q ||| 2 ^ i), d.2.2.2.2) → FrR D (D + 100) G G' → Q G') : f_J5_set (rf q 3) i G Q := by
  obtain ⟨k1, k2, k4, k6⟩ := h.lineq hq
  refine p_J5_set k6 (by omega) hi (fun G' g1 g2 => ?_)
  obtain ⟨m1, m2⟩ := h.usedU hD hq g2 g1
  exact hQ G' m1 m2
theorem x_usedGet {Q : Bool → Wd → Prop} {i : Nat} (h : DrA G D a rf d) (hq : q < 5) (hi : i < 16) (hQ : Q ((d.us q).testBit i) G) : f_J5_get (rf q 3) i G Q := by
  obtain ⟨k1, k2, k4, k6⟩ := h.lineq hq
  exact p_J5_get k6 hi hQ
theorem DrA.us_lt (h : DrA G D a rf d) (hq : q < 5) : d.us q < 65536 := by
  obtain ⟨k1, k2, k4, e, st, f, k5, k6, k7, k8⟩ := h.lineq hq
  exact k8
theorem DrA.runsU {G' : Wd} {xs : List Nat} {l : List Rec} (h : DrA G D a rf d) (hD : 9 < D) (hf : Fr2 (D + 2) G G') (h1 : Ll G' (D + 2) (rf 9 1) xs) (h2 : All2 (WorkAt (G' 1)) xs l) : DrA G' D a rf (setRun d l) ∧ FrR D (D + 100) G G' := by
  have hf2 : FrR (D + 2) (D + 4) G G' := FrR.fr2 hf (by omega) (by omega) (by omega)
  exact ⟨h.runs hD hf2 h1 h2, hf2.wide (by omega) (by omega)⟩
theorem DrA.outsU {G' : Wd} {xs : List Nat} {l : List Rec} (h : DrA G D a rf d) (hD : 9 < D) (hf : Fr2 (D + 4) G G') (h1 : Ll G' (D + 4) (rf 9 2) xs) (h2 : All2 (WordAt (G' 1)) xs l) : DrA G' D a rf (setOut d l) ∧ FrR D (D + 100) G G' := by
  have hf2 : FrR (D + 4) (D + 6) G G' := FrR.fr2 hf (by omega) (by omega) (by omega)
  exact ⟨h.outs hD hf2 h1 h2, hf2.wide (by omega) (by omega)⟩
theorem x_runPoll {Q : Option Nat → Wd → Prop} {w : Rec} {ws : List Rec} (h : DrA G D a rf d) (hD : 9 < D) (hc : d.run = w :: ws)
    (hQ : ∀ x G', WorkAt (G' 1) x w → DrA G' D a rf (setRun d ws) → FrR D (D + 100) G G' → Q (some x) G') : f_J3_pollFirst (rf 9 1) G Q := by
  obtain ⟨xs, k2, k3⟩ := h.2.2.1
  rw [hc] at k3
  obtain ⟨x, xs, rfl, k7, k8⟩ := k3.cons
  refine p_J3_pollFirst k2 (by omega) (fun G' g1 g2 => ?_)
  have e1 : Ext (G 1) (G' 1) := by rw [g2 1 (by omega) (by omega)]; exact Ext.refl
  obtain ⟨m1, m2⟩ := h.runsU hD g2 g1 (k8.imp (fun _ _ => WorkAt.ext e1))
  exact hQ x G' (k7.ext e1) m1 m2
theorem x_runAdd {Q : Wd → Prop} {x k n : Nat} {w : Rec} (h : DrA G D a rf d) (hD : 9 < D) (hl : d.run.length < 900000) (hx : WorkAt (G 1) x w) (hk : 1 ≤ k) (hn : 3 ≤ n)
    (hQ : ∀ G', DrA G' D a rf (setRun d (d.run ++ [w])) → FrR D (D + 100) G G' → Q G') : f_J3_addLast k n (rf 9 1) (some x) G Q := by
  obtain ⟨xs, k2, k3⟩ := h.2.2.1
  refine p_J3_addLast k2 (by omega) hk hn (by rw [k3.len]; exact hl) (fun G' g1 g2 => ?_)
  have e1 : Ext (G 1) (G' 1) := by rw [g2 1 (by omega) (by omega)]; exact Ext.refl
  obtain ⟨m1, m2⟩ := h.runsU hD g2 g1 ((k3.imp (fun _ _ => WorkAt.ext e1)).app (ys := [x]) (ds := [w]) ⟨hx.ext e1, trivial⟩)
  exact hQ G' m1 m2
theorem x_outAdd {Q : Wd → Prop} {x k n : Nat} {w : Rec} (h : DrA G D a rf d) (hD : 9 < D) (hl : d.out.length < 900000) (hx : WordAt (G 1) x w) (hk : 1 ≤ k) (hn : 3 ≤ n)
    (hQ : ∀ G', DrA G' D a rf (outD d w) → FrR D (D + 100) G G' → Q G') : f_J3_addLast k n (rf 9 2) (some x) G Q := by
  obtain ⟨xs, k2, k3⟩ := h.2.2.2.1
  refine p_J3_addLast k2 (by omega) hk hn (by rw [k3.len]; exact hl) (fun G' g1 g2 => ?_)
  have e1 : Ext (G 1) (G' 1) := by rw [g2 1 (by omega) (by omega)]; exact Ext.refl
  obtain ⟨m1, m2⟩ := h.outsU hD g2 g1 ((k3.imp (fun _ _ => WordAt.ext e1)).app (ys := [x]) (ds := [w]) ⟨hx.ext e1, trivial⟩)
  exact hQ G' m1 m2
theorem x_runSize {Q : Int → Wd → Prop} (h : DrA G D a rf d) (hQ : Q (d.run.length : Nat) G) : f_J3_size (rf 9 1) G Q := by
  obtain ⟨xs, k2, k3⟩ := h.2.2.1
  refine p_J3_size k2 ?_
  rw [k3.len]; exact hQ
theorem x_outSize {Q : Int → Wd → Prop} (h : DrA G D a rf d) (hQ : Q (d.out.length : Nat) G) : f_J3_size (rf 9 2) G Q := by
  obtain ⟨xs, k2, k3⟩ := h.2.2.2.1
  refine p_J3_size k2 ?_
  rw [k3.len]; exact hQ
theorem All2.isE {P : Nat → Rec → Prop} {xs : List Nat} {cs : List Rec} (h : All2 P xs cs) : xs.isEmpty = cs.isEmpty := by
  cases xs <;> cases cs
  · rfl
  · exact h.elim
  · exact h.elim
  · rfl
theorem x_runEmpty {Q : Bool → Wd → Prop} (h : DrA G D a rf d) (hQ : Q d.run.isEmpty G) : f_J0_isEmpty (rf 9 1) G Q := by
  obtain ⟨xs, k2, k3⟩ := h.2.2.1
  refine p_J0_isEmpty k2 ?_
  rw [k3.isE]; exact hQ
theorem x_outEmpty {Q : Bool → Wd → Prop} (h : DrA G D a rf d) (hQ : Q d.out.isEmpty G) : f_J0_isEmpty (rf 9 2) G Q := by
  obtain ⟨xs, k2, k3⟩ := h.2.2.2.1
  refine p_J0_isEmpty k2 ?_
  rw [k3.isE]; exact hQ
theorem x_runClear {Q : Wd → Prop} (h : DrA G D a rf d) (hD : 9 < D) (hQ : ∀ G', DrA G' D a rf (setRun d []) → FrR D (D + 100) G G' → Q G') : f_J3_clear (rf 9 1) G Q := by
  obtain ⟨xs, k2, k3⟩ := h.2.2.1
  refine p_J3_clear k2 (by omega) (fun G' g1 g2 => ?_)
  obtain ⟨m1, m2⟩ := h.runsU (l := []) hD g2 g1 trivial
  exact hQ G' m1 m2
theorem x_outClear {Q : Wd → Prop} (h : DrA G D a rf d) (hD : 9 < D) (hQ : ∀ G', DrA G' D a rf (setOut d []) → FrR D (D + 100) G G' → Q G') : f_J3_clear (rf 9 2) G Q := by
  obtain ⟨xs, k2, k3⟩ := h.2.2.2.1
  refine p_J3_clear k2 (by omega) (fun G' g1 g2 => ?_)
  obtain ⟨m1, m2⟩ := h.outsU (l := []) hD g2 g1 trivial
  exact hQ G' m1 m2
end
