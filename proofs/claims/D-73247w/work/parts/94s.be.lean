/-! PURE PROOFS: a drive is made like another one -/
set_option maxRecDepth 100000
/-- all but lo .. hi, what is dropped and region 7 is as it was -/
def FrX (lo hi : Nat) (G G' : Wd) : Prop := (∀ r, r ≠ 1 → r ≠ 3 → r ≠ 5 → r ≠ 7 → (r < lo ∨ hi ≤ r) → G' r = G r) ∧ ExS (G 1) (G' 1) ∧ Ex5 (G 5) (G' 5)
theorem FrR.x {lo hi : Nat} {G G' : Wd} (h : FrR lo hi G G') : FrX lo hi G G' := ⟨fun r h1 h2 h3 _ h4 => h.1 r h1 h2 h3 h4, h.2⟩
theorem FrX.refl {lo hi : Nat} {G : Wd} : FrX lo hi G G := (FrR.refl (lo := lo) (hi := hi)).x
theorem Ex5.trans {R S T : Nat → Option QE} (h : Ex5 R S) (k : Ex5 S T) : Ex5 R T := fun b v0 v1 v2 v3 v4 v5 v6 x => by
  obtain ⟨w3, w4, w5, w6, y⟩ := h b v0 v1 v2 v3 v4 v5 v6 x
  exact k b v0 v1 v2 w3 w4 w5 w6 y
theorem FrX.trans {lo hi : Nat} {G G1 G2 : Wd} (h : FrX lo hi G G1) (k : FrX lo hi G1 G2) : FrX lo hi G G2 := ⟨fun r h1 h2 h3 h5 h4 => by rw [k.1 r h1 h2 h3 h5 h4, h.1 r h1 h2 h3 h5 h4], fun b e x => k.2.1 b e (h.2.1 b e x), h.2.2.trans k.2.2⟩
theorem FrX.by7 {lo hi : Nat} {G G' : Wd} (h : ∀ r, r ≠ 7 → G' r = G r) : FrX lo hi G G' := ⟨fun r _ _ _ h7 _ => h r h7, fun b e hb => by rw [h 1 (by decide)]; exact hb, by rw [h 5 (by decide)]; exact Ex5.refl⟩
theorem FrX.e {lo hi : Nat} {G G' : Wd} (h : FrX lo hi G G') : Ext (G 1) (G' 1) := fun b e x _ => h.2.1 b e x
theorem FrX.wide {lo hi lo' hi' : Nat} {G G' : Wd} (h : FrX lo hi G G') (h1 : lo' ≤ lo) (h2 : hi ≤ hi') : FrX lo' hi' G G' := ⟨fun r k1 k2 k3 k5 k4 => h.1 r k1 k2 k3 k5 (by omega), h.2⟩
section
variable {G : Wd} {D a q : Nat} {rf : Nat → Nat → Nat} {d : DS} {B : Int}
theorem DrA.otherX {G' : Wd} {lo hi : Nat} (h : DrA G D a rf d) (hf : FrX lo hi G G') (h1 : 9 < D) (h2 : D + 100 ≤ lo ∨ hi ≤ D) : DrA G' D a rf d :=
  h.congr (fun r r1 r2 => hf.1 r (by omega) (by omega) (by omega) (by omega) (by omega)) hf.e
theorem DrA.by7 {G' : Wd} (h : DrA G D a rf d) (h1 : 9 < D) (h2 : ∀ r, r ≠ 7 → G' r = G r) : DrA G' D a rf d :=
  h.congr (fun r r1 r2 => h2 r (by omega)) (by rw [h2 1 (by decide)]; exact Ext.refl)
def usedI (i : Int) : Prop := (0 ≤ i ∧ i < 445 ∧ (i % 89 < 9 ∨ (20 ≤ i % 89 ∧ i % 89 < 24))) ∨ (814 ≤ i ∧ i < 844) ∨ (900 ≤ i ∧ i < 903)
theorem DrA.ext {d' : DS} (h : DrA G D a rf d) (hs : ∀ i, usedI i → d'.s i = d.s i) (hr : ∀ q, q < 5 → d'.ring q = d.ring q ∧ d'.posts q = d.posts q ∧ d'.us q = d.us q) (h1 : d'.run = d.run) (h2 : d'.out = d.out) : DrA G D a rf d' := by
  obtain ⟨k1, k2, k4, k6, k8, k9, k10, k11, k12, k13⟩ := h
  refine ⟨?_, k2, by rw [h1]; exact k4, by rw [h2]; exact k6, k8.same (fun i i0 i1 => hs i (Or.inr (Or.inl ⟨by omega, by omega⟩))), k9.same (fun i i0 i1 => hs i (Or.inr (Or.inl ⟨by omega, by omega⟩))), k10.same (fun i i0 i1 => hs i (Or.inr (Or.inl ⟨by omega, by omega⟩))), k11.same (fun i i0 i1 => hs i (Or.inr (Or.inl ⟨by omega, by omega⟩))), k12.same (fun i i0 i1 => hs i (Or.inr (Or.inl ⟨by omega, by omega⟩))), fun q hq => ?_⟩
  · rw [hs 900 (Or.inr (Or.inr (by omega))), hs 826 (Or.inr (Or.inl (by omega))), hs 827 (Or.inr (Or.inl (by omega))), hs 838 (Or.inr (Or.inl (by omega))), hs 839 (Or.inr (Or.inl (by omega))), hs 901 (Or.inr (Or.inr (by omega))), hs 902 (Or.inr (Or.inr (by omega)))]
    exact k1
  · obtain ⟨e1, e2, e3⟩ := hr q hq
    rw [e1, e2, e3]
    obtain ⟨m1, m2⟩ := k13 q hq
    have hu : ∀ f : Int, (0 ≤ f ∧ f < 9) ∨ (20 ≤ f ∧ f < 24) → d'.s (89 * q + f) = d.s (89 * q + f) := fun f hf => hs _ (Or.inl ⟨by omega, by omega, by omega⟩)
    refine ⟨?_, m2⟩
    rw [hu 20 (by omega), hu 21 (by omega), hu 22 (by omega), hu 0 (by omega), hu 1 (by omega), hu 2 (by omega), hu 3 (by omega), hu 4 (by omega), hu 5 (by omega), hu 6 (by omega), hu 7 (by omega), hu 23 (by omega), hu 8 (by omega)]
    exact m1
/-- lines are alike -/
def LineEq (e f : DS) (q : Nat) : Prop := e.ring q = f.ring q ∧ e.posts q = f.posts q ∧ e.us q = f.us q ∧ ∀ j : Int, (0 ≤ j ∧ j < 9) ∨ (20 ≤ j ∧ j < 24) → e.s (89 * q + j) = f.s (89 * q + j)
theorem LineEq.refl {e : DS} : LineEq e e q := ⟨rfl, rfl, rfl, fun _ _ => rfl⟩
theorem LineEq.trans {e f g : DS} (h : LineEq e f q) (k : LineEq f g q) : LineEq e g q := ⟨h.1.trans k.1, h.2.1.trans k.2.1, h.2.2.1.trans k.2.2.1, fun j hj => (h.2.2.2 j hj).trans (k.2.2.2 j hj)⟩
/-- but for line q -/
def ButL (e f : DS) (q : Nat) : Prop := (∀ p, p < 5 → p ≠ q → LineEq e f p) ∧ (∀ i, 445 ≤ i → e.s i = f.s i) ∧ e.run = f.run ∧ e.out = f.out
theorem ButL.refl {e : DS} : ButL e e q := ⟨fun _ _ _ => LineEq.refl, fun _ _ => rfl, rfl, rfl⟩
theorem ButL.trans {e f g : DS} (h : ButL e f q) (k : ButL f g q) : ButL e g q := ⟨fun p hp hn => (h.1 p hp hn).trans (k.1 p hp hn), fun i hi => (h.2.1 i hi).trans (k.2.1 i hi), h.2.2.1.trans k.2.2.1, h.2.2.2.trans k.2.2.2⟩
theorem ButL.s {e : DS} {i x : Int} (hq : q < 5) (h : 89 * (q : Int) ≤ i ∧ i < 89 * (q : Int) + 24) : ButL (setS e (iup e.s i x)) e q :=
  ⟨fun p hp hn => ⟨rfl, rfl, rfl, fun j hj => iup_ne (by omega)⟩, fun j hj => iup_ne (by omega), rfl, rfl⟩
theorem ButL.rg {e : DS} {l : List Rec} : ButL (e.s, nup e.ring q l, e.2.2) e q := ⟨fun p hp hn => ⟨nup_ne hn, rfl, rfl, fun _ _ => rfl⟩, fun _ _ => rfl, rfl, rfl⟩
theorem ButL.ps {e : DS} {l : List Rec} : ButL (e.s, e.ring, nup e.posts q l, e.2.2.2) e q := ⟨fun p hp hn => ⟨rfl, nup_ne hn, rfl, fun _ _ => rfl⟩, fun _ _ => rfl, rfl, rfl⟩
theorem ButL.us {e : DS} {u : Nat} : ButL (e.s, e.ring, e.posts, nup e.us q u, e.2.2.2.2) e q := ⟨fun p hp hn => ⟨rfl, rfl, nup_ne hn, fun _ _ => rfl⟩, fun _ _ => rfl, rfl, rfl⟩
variable {D' a' : Nat} {rf' : Nat → Nat → Nat} {src : DS}
/-- the numbers of a line are copied -/
theorem x_beNums {Q : Wd → Prop} (h : DrA G D a rf d) (hs : DrA G D' a' rf' src) (hD : 9 < D) (hD' : 9 < D') (hdj : D + 100 ≤ D' ∨ D' + 100 ≤ D) (hq : q < 5) (h1 : d.ring q = src.ring q) (h2 : d.posts q = src.posts q) (h3 : d.us q = src.us q)
    (h01 : (src.s (89 * q + 8) = 0 ∨ src.s (89 * q + 8) = 1) ∧ (src.s (89 * q + 23) = 0 ∨ src.s (89 * q + 23) = 1))
    (hQ : ∀ G' e', DrA G' D a rf e' → DrA G' D' a' rf' src → LineEq e' src q → ButL e' d q → FrR D (D + 100) G G' → Q G') :
    gI G (rf' q 0) [2] 4 (fun x82 => pF G (rf q 0) [2] 4 (vI x82) (fun G83 => gI G83 (rf' q 0) [2] 5 (fun x84 => pF G83 (rf q 0) [2] 5 (vI x84) (fun G85 => gI G85 (rf' q 0) [2] 6 (fun x86 => pF G85 (rf q 0) [2] 6 (vI x86) (fun G87 => gZ G87 (rf' q 0) [2] 15 (fun x88 => pF G87 (rf q 0) [2] 15 (vB x88) (fun G89 => gI G89 (rf' q 0) [2] 7 (fun x90 => pF G89 (rf q 0) [2] 7 (vI x90) (fun G91 => gI G91 (rf' q 0) [2] 8 (fun x92 => pF G91 (rf q 0) [2] 8 (vI x92) (fun G93 => gI G93 (rf' q 0) [2] 9 (fun x94 => pF G93 (rf q 0) [2] 9 (vI x94) (fun G95 => gI G95 (rf' q 0) [2] 10 (fun x96 => pF G95 (rf q 0) [2] 10 (vI x96) (fun G97 => gI G97 (rf' q 0) [2] 11 (fun x98 => pF G97 (rf q 0) [2] 11 (vI x98) (fun G99 => gI G99 (rf' q 0) [2] 12 (fun x100 => pF G99 (rf q 0) [2] 12 (vI x100) (fun G101 => gI G101 (rf' q 0) [2] 13 (fun x102 => pF G101 (rf q 0) [2] 13 (vI x102) (fun G103 => gI G103 (rf' q 0) [2] 14 (fun x104 => pF G103 (rf q 0) [2] 14 (vI x104) (fun G105 => gZ G105 (rf' q 0) [2] 16 (fun x106 => pF G105 (rf q 0) [2] 16 (vB x106) (fun G107 => Q G107)))))))))))))))))))))))))) := by
  have o : ∀ {G1 G2}, DrA G1 D' a' rf' src → FrR D (D + 100) G1 G2 → DrA G2 D' a' rf' src := fun k f => k.other f hD' (by omega)
  have dz : ∀ {i : Int}, (src.s i = 0 ∨ src.s i = 1) → decide (src.s i = 1) = decide (src.s i = 1) := fun _ => rfl
  refine gL_4 hs hq (pL_4 h hq hD (fun G1 g1 f1 => ?_)); have s1 := o hs f1
  refine gL_5 s1 hq (pL_5 g1 hq hD (fun G2 g2 f2 => ?_)); have s2 := o s1 f2
  refine gL_6 s2 hq (pL_6 g2 hq hD (fun G3 g3 f3 => ?_)); have s3 := o s2 f3
  refine gL_15 s3 hq (pL_15 (src.s (89 * q + 23)) rfl g3 hq hD (fun G4 g4 f4 => ?_)); have s4 := o s3 f4
  refine gL_7 s4 hq (pL_7 g4 hq hD (fun G5 g5 f5 => ?_)); have s5 := o s4 f5
  refine gL_8 s5 hq (pL_8 g5 hq hD (fun G6 g6 f6 => ?_)); have s6 := o s5 f6
  refine gL_9 s6 hq (pL_9 g6 hq hD (fun G7 g7 f7 => ?_)); have s7 := o s6 f7
  refine gL_10 s7 hq (pL_10 g7 hq hD (fun G8 g8 f8 => ?_)); have s8 := o s7 f8
  refine gL_11 s8 hq (pL_11 g8 hq hD (fun G9 g9 f9 => ?_)); have s9 := o s8 f9
  refine gL_12 s9 hq (pL_12 g9 hq hD (fun G10 g10 f10 => ?_)); have s10 := o s9 f10
  refine gL_13 s10 hq (pL_13 g10 hq hD (fun G11 g11 f11 => ?_)); have s11 := o s10 f11
  refine gL_14 s11 hq (pL_14 g11 hq hD (fun G12 g12 f12 => ?_)); have s12 := o s11 f12
  refine gL_16 s12 hq (pL_16 (src.s (89 * q + 8)) rfl g12 hq hD (fun G13 g13 f13 => ?_)); have s13 := o s12 f13
  refine hQ G13 _ g13 s13 ⟨h1, h2, h3, ?_⟩ ?_ (f1.trans (f2.trans (f3.trans (f4.trans (f5.trans (f6.trans (f7.trans (f8.trans (f9.trans (f10.trans (f11.trans (f12.trans f13))))))))))))
  · intro j hj
    simp (disch := omega) only [setS, setRun, setOut, outD, s_mk, ring_mk, posts_mk, us_mk, run_mk, out_mk, ring_2, posts_2, us_2, run_2, out_2, iup_at, iup_ne, nup_at, nup_ne]
    obtain rfl | rfl | rfl | rfl | rfl | rfl | rfl | rfl | rfl | rfl | rfl | rfl | rfl : j = 0 ∨ j = 1 ∨ j = 2 ∨ j = 3 ∨ j = 4 ∨ j = 5 ∨ j = 6 ∨ j = 7 ∨ j = 8 ∨ j = 20 ∨ j = 21 ∨ j = 22 ∨ j = 23 := by omega
    all_goals (simp (disch := omega) only [iup_at, iup_ne])
  · refine (ButL.s hq (by omega)).trans ((ButL.s hq (by omega)).trans ((ButL.s hq (by omega)).trans ((ButL.s hq (by omega)).trans ((ButL.s hq (by omega)).trans ((ButL.s hq (by omega)).trans ((ButL.s hq (by omega)).trans ((ButL.s hq (by omega)).trans ((ButL.s hq (by omega)).trans ((ButL.s hq (by omega)).trans ((ButL.s hq (by omega)).trans ((ButL.s hq (by omega)).trans (ButL.s hq (by omega)))))))))))))
theorem p_X3_be_60 {Q : Wd → Prop} {i : Nat} (hD : 9 < D) (hD' : 9 < D') (hdj : D + 100 ≤ D' ∨ D' + 100 ≤ D) (hab : rf q 3 ≠ rf' q 3) (hq : q < 5) (hpl : (src.posts q).length ≤ 7) (h01 : (src.s (89 * q + 8) = 0 ∨ src.s (89 * q + 8) = 1) ∧ (src.s (89 * q + 23) = 0 ∨ src.s (89 * q + 23) = 1)) :
    ∀ (l : List Rec) (G : Wd) (d : DS) (k n : Nat) (ys xs : List Nat), DrA G D a rf d → DrA G D' a' rf' src → DiAt G 7 i (D' + 20 + 10 * q + 3) (rf' q 2) ys xs → All2 (PostAt (G 1) q) xs l → d.posts q ++ l = src.posts q → d.ring q = src.ring q →
    (∀ G' e', DrA G' D a rf e' → DrA G' D' a' rf' src → LineEq e' src q → ButL e' d q → FrX D (D + 100) G G' → Q G') → f_X3_be_60 (rf q 0) Q (l.length + 1) k n (some (rf' q 0)) (some i) G := by
  intro l
  induction l with
  | nil =>
    intro G d k n ys xs h hs hi hx hp hr hQ
    have : xs = [] := hx.nil
    subst this
    rw [List.append_nil] at hp
    obtain ⟨e, hh, lr, i1, i2⟩ := id hi
    unfold f_X3_be_60 f_X3_be_60_b
    refine nn_of ⟨isC_of i2, p_J23_hasNext hi (brB_F (gL_3 h hq (nn_of ⟨cUsed h hq, x_usedClear h hD hq (fun G1 g1 f1 => ?_)⟩)))⟩
    have s1 := hs.other f1 hD' (by omega)
    refine gL_3 g1 hq (nn_of (gL_3 s1 hq (nn_of ⟨cUsed g1 hq, ?_⟩)))
    obtain ⟨k1, k2, k4, k6⟩ := g1.lineq hq
    obtain ⟨m1, m2, m4, m6⟩ := s1.lineq hq
    have k6' : Bs G1 (D + 20 + 10 * q + 5) (rf q 3) 0 := by
      have e0 : DS.us (d.s, d.ring, d.posts, nup d.us q 0, d.2.2.2.2) q = 0 := nup_at
      rw [e0] at k6; exact k6
    refine p_J5_or k6' m6 (by omega) (by omega) (by omega) (by omega) (by omega) hab (fun G2 g2 f2 => ?_)
    obtain ⟨n1, n2⟩ := g1.usedU hD hq f2 g2
    refine x_beNums n1 (s1.other n2 hD' (by omega)) hD hD' hdj hq hr hp ?_ h01 (fun G' e' g' s' l' b' f' => hQ G' e' g' s' l' ?_ (f1.x.trans (n2.x.trans f'.x)))
    · show nup (nup d.us q 0) q (src.us q) q = _
      rw [nup_at]
    · exact b'.trans (ButL.us.trans ButL.us)
  | cons w l ih =>
    intro G d k n ys xs h hs hi hx hp hr hQ
    obtain ⟨x, xs, rfl, x1, x2⟩ := hx.cons
    obtain ⟨e, hh, lr, i1, i2⟩ := id hi
    unfold f_X3_be_60 f_X3_be_60_b
    refine nn_of ⟨isC_of i2, p_J23_hasNext hi (brB_T ⟨isC_of i2, p_J23_next hi (by omega) (by omega) (by omega) (fun G1 hi1 f1 f1' => ?_)⟩)⟩
    have g1 := h.by7 hD f1
    have s1 := hs.by7 hD' f1
    have e1 : G1 1 = G 1 := f1 1 (by decide)
    have x1' : PostAt (G1 1) q x w := by rw [e1]; exact x1
    obtain ⟨y, y1, y2⟩ := id x1'
    have hlen : (d.posts q).length < 16 := by
      have := congrArg List.length hp
      rw [List.length_append] at this
      omega
    refine cst_of rfl y1 (by decide) (gL_2 g1 hq (nn_of ⟨cPosts g1 hq, x_postsAdd g1 hD hq hlen x1' (fun G2 g2 f2 => ?_)⟩))
    have s2 := s1.other f2 hD' (by omega)
    have hi2 : DiAt G2 7 i (D' + 20 + 10 * q + 3) (rf' q 2) (ys ++ [x]) xs := hi1.congr (by rw [f2.1 7 (by decide) (by decide) (by decide) (by omega)]) (f2.1 _ (by omega) (by omega) (by omega) (by omega)) (f2.1 _ (by omega) (by omega) (by omega) (by omega))
    refine ih G2 _ k n (ys ++ [x]) xs g2 s2 hi2 (x2.imp (fun _ _ z => PostAt.ext f2.e (by rw [e1]; exact z))) ?_ hr (fun G' e' g' s' l' b' f' => hQ G' e' g' s' l' (b'.trans ButL.ps) ((FrX.by7 f1).trans (f2.x.trans f')))
    show nup d.posts q (d.posts q ++ [w]) q ++ l = _
    rw [nup_at, ← hp, List.append_assoc]; rfl
theorem p_X3_be_15 {Q : Wd → Prop} {i : Nat} (hD : 9 < D) (hD' : 9 < D') (hdj : D + 100 ≤ D' ∨ D' + 100 ≤ D) (hab : rf q 3 ≠ rf' q 3) (hq : q < 5) (hrl : (src.ring q).length ≤ 7) (hpl : (src.posts q).length ≤ 7) (h01 : (src.s (89 * q + 8) = 0 ∨ src.s (89 * q + 8) = 1) ∧ (src.s (89 * q + 23) = 0 ∨ src.s (89 * q + 23) = 1)) :
    ∀ (l : List Rec) (G : Wd) (d : DS) (k n : Nat) (ys xs : List Nat), DrA G D a rf d → DrA G D' a' rf' src → DiAt G 7 i (D' + 20 + 10 * q + 1) (rf' q 1) ys xs → All2 (CmdAt (G 1) q) xs l → d.ring q ++ l = src.ring q → 1 ≤ k → 8 ≤ n →
    (∀ G' e', DrA G' D a rf e' → DrA G' D' a' rf' src → LineEq e' src q → ButL e' d q → FrX D (D + 100) G G' → Q G') → f_X3_be_15 (rf q 0) Q (l.length + 1) k n (some (rf' q 0)) (some i) G := by
  intro l
  induction l with
  | nil =>
    intro G d k n ys xs h hs hi hx hp hk hn hQ
    have : xs = [] := hx.nil
    subst this
    rw [List.append_nil] at hp
    obtain ⟨e, hh, lr, i1, i2⟩ := id hi
    unfold f_X3_be_15 f_X3_be_15_b
    refine nn_of ⟨isC_of i2, p_J23_hasNext hi (brB_F (gL_2 h hq (nn_of ⟨cPosts h hq, x_postsClear h hD hq (fun G1 g1 f1 => ?_)⟩)))⟩
    have s1 := hs.other f1 hD' (by omega)
    obtain ⟨m1, m2, ⟨zs, m3, m4⟩, m6⟩ := s1.lineq hq
    refine nn_of (gL_2 s1 hq (nn_of ⟨1, 8, ⟨by omega, by omega⟩, cPosts s1 hq, p_J4_iterator 7 m3 (by decide) (by omega) (by omega) (by omega) (by omega) (fun i' G2 hi2 f2 f2' => ⟨(src.posts q).length + 1, ?_⟩)⟩))
    have e2 : G2 1 = G1 1 := f2 1 (by decide)
    refine p_X3_be_60 hD hD' hdj hab hq hpl h01 (src.posts q) G2 _ _ _ [] zs (g1.by7 hD f2) (s1.by7 hD' f2) hi2 (by rw [e2]; exact m4) ?_ hp (fun G' e' g' s' l' b' f' => hQ G' e' g' s' l' (b'.trans ButL.ps) (f1.x.trans ((FrX.by7 f2).trans f')))
    show nup d.posts q [] q ++ _ = _
    rw [nup_at]; rfl
  | cons w l ih =>
    intro G d k n ys xs h hs hi hx hp hk hn hQ
    obtain ⟨x, xs, rfl, x1, x2⟩ := hx.cons
    obtain ⟨e, hh, lr, i1, i2⟩ := id hi
    unfold f_X3_be_15 f_X3_be_15_b
    refine nn_of ⟨isC_of i2, p_J23_hasNext hi (brB_T ⟨isC_of i2, p_J23_next hi (by omega) (by omega) (by omega) (fun G1 hi1 f1 f1' => ?_)⟩)⟩
    have g1 := h.by7 hD f1
    have s1 := hs.by7 hD' f1
    have e1 : G1 1 = G 1 := f1 1 (by decide)
    have x1' : CmdAt (G1 1) q x w := by rw [e1]; exact x1
    have hlen : (d.ring q).length < 16 := by
      have := congrArg List.length hp
      rw [List.length_append] at this
      omega
    refine cst_of rfl x1' (by decide) (gL_1 g1 hq (nn_of ⟨cRing g1 hq, x_ringAdd g1 hD hq hlen x1' (fun G2 g2 f2 => ?_)⟩))
    have s2 := s1.other f2 hD' (by omega)
    have hi2 : DiAt G2 7 i (D' + 20 + 10 * q + 1) (rf' q 1) (ys ++ [x]) xs := hi1.congr (by rw [f2.1 7 (by decide) (by decide) (by decide) (by omega)]) (f2.1 _ (by omega) (by omega) (by omega) (by omega)) (f2.1 _ (by omega) (by omega) (by omega) (by omega))
    refine ih G2 _ k n (ys ++ [x]) xs g2 s2 hi2 (x2.imp (fun _ _ z => CmdAt.ext f2.e (by rw [e1]; exact z))) ?_ hk hn (fun G' e' g' s' l' b' f' => hQ G' e' g' s' l' (b'.trans ButL.rg) ((FrX.by7 f1).trans (f2.x.trans f')))
    show nup d.ring q (d.ring q ++ [w]) q ++ l = _
    rw [nup_at, ← hp, List.append_assoc]; rfl
theorem p_X3_be {Q : Wd → Prop} {k n : Nat} (h : DrA G D a rf d) (hs : DrA G D' a' rf' src) (hD : 9 < D) (hD' : 9 < D') (hdj : D + 100 ≤ D' ∨ D' + 100 ≤ D) (hab : rf q 3 ≠ rf' q 3) (hq : q < 5) (hw : WF src B) (hk : 2 ≤ k) (hn : 16 ≤ n)
    (hQ : ∀ G' e', DrA G' D a rf e' → DrA G' D' a' rf' src → LineEq e' src q → ButL e' d q → FrX D (D + 100) G G' → Q G') : f_X3_be k n (rf q 0) (some (rf' q 0)) G Q := by
  unfold f_X3_be
  refine gL_1 h hq (nn_of ⟨cRing h hq, x_ringClear h hD hq (fun G1 g1 f1 => ?_)⟩)
  have s1 := hs.other f1 hD' (by omega)
  obtain ⟨m1, ⟨zs, m3, m4⟩, m5, m6⟩ := s1.lineq hq
  refine nn_of (gL_1 s1 hq (nn_of ⟨1, 8, ⟨by omega, by omega⟩, cRing s1 hq, p_J4_iterator 7 m3 (by decide) (by omega) (by omega) (by omega) (by omega) (fun i' G2 hi2 f2 f2' => ⟨(src.ring q).length + 1, ?_⟩)⟩))
  have e2 : G2 1 = G1 1 := f2 1 (by decide)
  have hl := (hw.wl hq).1
  refine p_X3_be_15 hD hD' hdj hab hq (hw.ringlen hq) (hw.postslen hq) ⟨hl.2.2.1, hl.2.2.2.1⟩ (src.ring q) G2 _ _ _ [] zs (g1.by7 hD f2) (s1.by7 hD' f2) hi2 (by rw [e2]; exact m4) ?_ (by omega) (by omega) (fun G' e' g' s' l' b' f' => hQ G' e' g' s' l' (b'.trans ButL.rg) (f1.x.trans ((FrX.by7 f2).trans f')))
  show nup d.ring q [] q ++ _ = _
  rw [nup_at]; rfl
end
