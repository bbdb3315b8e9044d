/-! PURE PROOFS: a drive is made like another one: all of it -/
set_option maxRecDepth 100000
def copyD (d : DS) : DS := setS d (iup (iup d.s 901 0) 902 0)
section
variable {G : Wd} {D a q : Nat} {rf : Nat → Nat → Nat} {d : DS} {B : Int}
variable {D' a' : Nat} {rf' : Nat → Nat → Nat} {src : DS}
/-- copied rows -/
theorem x_cp {Q : Wd → Prop} {j n : Nat} {b : Int} (h : DrA G D a rf d) (hs : DrA G D' a' rf' src) (hD : 9 < D) (hD' : 9 < D') (hdj : D + 100 ≤ D' ∨ D' + 100 ≤ D) (hj : (j, b, n) ∈ [(6, (828 : Int), 10), (7, 814, 4), (8, 818, 4), (9, 822, 4), (10, 840, 4)])
    (hQ : ∀ G' s', DrA G' D a rf (setS d s') → DrA G' D' a' rf' src → (∀ i, b ≤ i → i < b + n → s' i = src.s i) → (∀ i, i < b ∨ b + n ≤ i → s' i = d.s i) → FrR D (D + 100) G G' → Q G') : cpI G (rf' 9 (j - 3)) 0 (rf 9 (j - 3)) 0 n Q := by
  have hj' : 6 ≤ j ∧ j ≤ 10 ∧ n ≤ 10 := by
    simp only [List.mem_cons, Prod.mk.injEq, List.not_mem_nil, or_false] at hj
    omega
  have get : ∀ {D a : Nat} {rf : Nat → Nat → Nat} {d : DS}, DrA G D a rf d → IA G (D + j) (rf 9 (j - 3)) n b d.s := by
    intro D a rf d h
    obtain ⟨-, -, -, -, k8, k9, k10, k11, k12, -⟩ := h
    simp only [List.mem_cons, Prod.mk.injEq, List.not_mem_nil, or_false] at hj
    rcases hj with ⟨rfl, rfl, rfl⟩ | ⟨rfl, rfl, rfl⟩ | ⟨rfl, rfl, rfl⟩ | ⟨rfl, rfl, rfl⟩ | ⟨rfl, rfl, rfl⟩
    · exact k8
    · exact k9
    · exact k10
    · exact k11
    · exact k12
  obtain ⟨f, k1, k2⟩ := get hs
  obtain ⟨g, k3, k4⟩ := get h
  have f3 : ∀ e, FrR (D + j) (D + j + 1) G (wset G (D + j) (rf 9 (j - 3)) e) := fun e => FrR.ws (by omega) (by omega) (by omega)
  refine ⟨D' + j, n, f, D + j, n, g, ⟨by omega, by omega⟩, k1, k3, ⟨⟨by omega, by omega, by omega⟩, ⟨by omega, by omega⟩, by omega, by omega, by omega⟩, ?_⟩
  let s' : Rec := fun i => if b ≤ i ∧ i < b + n then src.s i else d.s i
  refine hQ _ s' (h.arr hD hj (f3 _) ⟨_, wset_at, fun i i0 i1 => ?_⟩ (fun i hi => ?_)) (hs.other (f3 _) hD' (by omega)) (fun i i0 i1 => ?_) (fun i hi => ?_) ((f3 _).wide (by omega) (by omega))
  · unfold icp
    rw [if_pos ⟨by omega, by omega⟩, k2 _ (by omega) (by omega)]
    show _ = if b ≤ b + i ∧ b + i < b + n then src.s (b + i) else d.s (b + i)
    rw [if_pos ⟨by omega, by omega⟩]
    congr 1
    omega
  · show (if b ≤ i ∧ i < b + n then src.s i else d.s i) = _
    rw [if_neg (by omega)]
  · show (if b ≤ i ∧ i < b + n then src.s i else d.s i) = _
    rw [if_pos ⟨i0, i1⟩]
  · show (if b ≤ i ∧ i < b + n then src.s i else d.s i) = _
    rw [if_neg (by omega)]
/-- the drive's own numbers, rows -/
theorem x_beTop {Q : Wd → Prop} (h : DrA G D a rf d) (hs : DrA G D' a' rf' src) (hD : 9 < D) (hD' : 9 < D') (hdj : D + 100 ≤ D' ∨ D' + 100 ≤ D) (hl : ∀ q, q < 5 → LineEq d src q) (h9 : d.s 900 = src.s 900) (hr : d.run = src.run) (ho : d.out = src.out)
    (hQ : ∀ G', DrA G' D a rf (copyD src) → DrA G' D' a' rf' src → FrR D (D + 100) G G' → Q G') :
    gR G a' [1] 3 (fun x104 => gR G a [1] 3 (fun x105 => nn x105 (fun a106 => nn x104 (fun a107 => cpI G a107 0 a106 0 10 (fun G108 => (isC G108 a 1 ∧ f_X2_beTurns a (some a') G108 (fun G109 => gR G109 a' [1] 7 (fun x110 => gR G109 a [1] 7 (fun x111 => nn x111 (fun a112 => nn x110 (fun a113 => cpI G109 a113 0 a112 0 4 (fun G114 => gI G114 a' [1] 9 (fun x115 => pF G114 a [1] 9 (vI x115) (fun G116 => gI G116 a' [1] 10 (fun x117 => pF G116 a [1] 10 (vI x117) (fun G118 => gI G118 a' [1] 11 (fun x119 => pF G118 a [1] 11 (vI x119) (fun G120 => gI G120 a' [1] 12 (fun x121 => pF G120 a [1] 12 (vI x121) (fun G122 => pF G122 a [1] 13 (vI 0) (fun G123 => pF G123 a [1] 14 (vI 0) (fun G124 => Q G124)))))))))))))))))))))) := by
  have o : ∀ {G1 G2}, DrA G1 D' a' rf' src → FrR D (D + 100) G1 G2 → DrA G2 D' a' rf' src := fun k f => k.other f hD' (by omega)
  refine gD_3 hs (gD_3 h (nn_of (nn_of (x_cp (j := 6) (b := 828) (n := 10) h hs hD hD' hdj (by decide) (fun G1 s1 g1 c1 p1 n1 f1 => ⟨cD g1, ?_⟩)))))
  unfold f_X2_beTurns
  refine nn_of (gD_4 c1 (gD_4 g1 (nn_of (nn_of (x_cp (j := 7) (b := 814) (n := 4) g1 c1 hD hD' hdj (by decide) (fun G2 s2 g2 c2 p2 n2 f2 => ?_))))))
  refine gD_5 c2 (gD_5 g2 (nn_of (nn_of (x_cp (j := 8) (b := 818) (n := 4) g2 c2 hD hD' hdj (by decide) (fun G3 s3 g3 c3 p3 n3 f3 => ?_)))))
  refine gD_6 c3 (gD_6 g3 (nn_of (nn_of (x_cp (j := 9) (b := 822) (n := 4) g3 c3 hD hD' hdj (by decide) (fun G4 s4 g4 c4 p4 n4 f4 => ?_)))))
  refine gD_7 c4 (gD_7 g4 (nn_of (nn_of (x_cp (j := 10) (b := 840) (n := 4) g4 c4 hD hD' hdj (by decide) (fun G5 s5 g5 c5 p5 n5 f5 => ?_)))))
  refine gD_9 c5 (pD_9 g5 hD (fun G6 g6 f6 => ?_)); have c6 := o c5 f6
  refine gD_10 c6 (pD_10 g6 hD (fun G7 g7 f7 => ?_)); have c7 := o c6 f7
  refine gD_11 c7 (pD_11 g7 hD (fun G8 g8 f8 => ?_)); have c8 := o c7 f8
  refine gD_12 c8 (pD_12 g8 hD (fun G9 g9 f9 => ?_)); have c9 := o c8 f9
  refine pD_13 g9 hD (fun G10 g10 f10 => pD_14 g10 hD (fun G11 g11 f11 => hQ G11 ?_ (o (o c9 f10) f11) (f1.trans (f2.trans (f3.trans (f4.trans (f5.trans (f6.trans (f7.trans (f8.trans (f9.trans (f10.trans f11))))))))))))
  have n1 : ∀ i : Int, (i < 828 ∨ 838 ≤ i) → s1 i = d.s i := n1
  have n2 : ∀ i : Int, (i < 814 ∨ 818 ≤ i) → s2 i = s1 i := n2
  have n3 : ∀ i : Int, (i < 818 ∨ 822 ≤ i) → s3 i = s2 i := n3
  have n4 : ∀ i : Int, (i < 822 ∨ 826 ≤ i) → s4 i = s3 i := n4
  have n5 : ∀ i : Int, (i < 840 ∨ 844 ≤ i) → s5 i = s4 i := n5
  have p1 : ∀ i : Int, 828 ≤ i → i < 838 → s1 i = src.s i := p1
  have p2 : ∀ i : Int, 814 ≤ i → i < 818 → s2 i = src.s i := p2
  have p3 : ∀ i : Int, 818 ≤ i → i < 822 → s3 i = src.s i := p3
  have p4 : ∀ i : Int, 822 ≤ i → i < 826 → s4 i = src.s i := p4
  have p5 : ∀ i : Int, 840 ≤ i → i < 844 → s5 i = src.s i := p5
  unfold copyD
  refine g11.ext (fun i hu => ?_) (fun q hq => ⟨(hl q hq).1.symm, (hl q hq).2.1.symm, (hl q hq).2.2.1.symm⟩) hr.symm ho.symm
  show iup (iup src.s 901 0) 902 0 i = iup (iup (iup (iup (iup (iup s5 826 (src.s 826)) 827 (src.s 827)) 838 (src.s 838)) 839 (src.s 839)) 901 0) 902 0 i
  unfold usedI at hu
  by_cases e1 : i = 902
  · subst e1; rw [iup_at, iup_at]
  by_cases e2 : i = 901
  · subst e2; rw [iup_ne (by decide), iup_at, iup_ne (by decide), iup_at]
  by_cases e3 : i = 839
  · subst e3; simp (disch := omega) only [iup_at, iup_ne]
  by_cases e4 : i = 838
  · subst e4; simp (disch := omega) only [iup_at, iup_ne]
  by_cases e5 : i = 827
  · subst e5; simp (disch := omega) only [iup_at, iup_ne]
  by_cases e6 : i = 826
  · subst e6; simp (disch := omega) only [iup_at, iup_ne]
  rw [iup_ne e1, iup_ne e2, iup_ne e1, iup_ne e2, iup_ne e3, iup_ne e4, iup_ne e5, iup_ne e6]
  by_cases c1 : i < 445
  · rw [n5 i (by omega), n4 i (by omega), n3 i (by omega), n2 i (by omega), n1 i (by omega)]
    have hq : (i / 89).toNat < 5 := by omega
    have := (hl _ hq).2.2.2 (i % 89) (by omega)
    rw [show 89 * (((i / 89).toNat : Nat) : Int) + i % 89 = i by omega] at this
    exact this.symm
  by_cases c2 : i < 818
  · rw [n5 i (by omega), n4 i (by omega), n3 i (by omega), p2 i (by omega) (by omega)]
  by_cases c3 : i < 822
  · rw [n5 i (by omega), n4 i (by omega), p3 i (by omega) (by omega)]
  by_cases c4 : i < 826
  · rw [n5 i (by omega), p4 i (by omega) (by omega)]
  by_cases c5 : i < 838
  · rw [n5 i (by omega), n4 i (by omega), n3 i (by omega), n2 i (by omega), p1 i (by omega) (by omega)]
  by_cases c6 : i < 844
  · rw [p5 i (by omega) (by omega)]
  · have e9 : i = 900 := by omega
    subst e9
    rw [n5 _ (by omega), n4 _ (by omega), n3 _ (by omega), n2 _ (by omega), n1 _ (by omega), h9]
theorem p_X2_be_99 {Q : Wd → Prop} {i : Nat} (hD : 9 < D) (hD' : 9 < D') (hdj : D + 100 ≤ D' ∨ D' + 100 ≤ D) (hol : src.out.length ≤ 80) : ∀ (l : List Rec) (G : Wd) (d : DS) (k n : Nat) (nw : Bool) (ys xs : List Nat), DrA G D a rf d → DrA G D' a' rf' src → ItAt G 7 i (D' + 4) (rf' 9 2) nw ys xs → All2 (WordAt (G 1)) xs l → d.out ++ l = src.out →
    (∀ q, q < 5 → LineEq d src q) → d.s 900 = src.s 900 → d.run = src.run → l.length ≤ k → 8 * l.length ≤ n → (∀ G', DrA G' D a rf (copyD src) → DrA G' D' a' rf' src → FrX D (D + 100) G G' → Q G') → f_X2_be_99 a Q (l.length + 1) k n (some a') (some i) G := by
  intro l
  induction l with
  | nil =>
    intro G d k n nw ys xs h hs hi hx hp hle h9 hr hk hn hQ
    have : xs = [] := hx.nil
    subst this
    rw [List.append_nil] at hp
    obtain ⟨n1, n2, mc, lr, i1, i2, i3, i4, i5, i6, i7, i8⟩ := id hi
    unfold f_X2_be_99 f_X2_be_99_b
    refine nn_of ⟨isC_of (by assumption), p_J25_hasNext hi (brB_F (nn_of ?_))⟩
    exact x_beTop h hs hD hD' hdj hle h9 hr hp (fun G' g' s' f' => hQ G' g' s' f'.x)
  | cons w l ih =>
    intro G d k n nw ys xs h hs hi hx hp hle h9 hr hk hn hQ
    obtain ⟨x, xs, rfl, x1, x2⟩ := hx.cons
    obtain ⟨n1, n2, mc, lr, i1, i2, i3, i4, i5, i6, i7, i8⟩ := id hi
    rw [List.length_cons] at hk hn
    unfold f_X2_be_99 f_X2_be_99_b
    refine nn_of ⟨isC_of (by assumption), p_J25_hasNext hi (brB_T ⟨isC_of (by assumption), p_J25_next hi (by omega) (by omega) (by omega) (fun G1 hi1 f1 f1' => ?_)⟩)⟩
    have g1 := h.by7 hD f1
    have s1 := hs.by7 hD' f1
    have e1 : G1 1 = G 1 := f1 1 (by decide)
    have x1' : WordAt (G1 1) x w := by rw [e1]; exact x1
    have hlen : d.out.length < 900000 := by
      have := congrArg List.length hp
      rw [List.length_append] at this
      omega
    refine cst_of rfl x1' (by decide) (gD_2 g1 (nn_of ⟨1, 8, ⟨by omega, by omega⟩, cOut g1, x_outAdd g1 hD hlen x1' (by omega) (by omega) (fun G2 g2 f2 => ?_)⟩))
    have s2 := s1.other f2 hD' (by omega)
    have hi2 : ItAt G2 7 i (D' + 4) (rf' 9 2) true (ys ++ [x]) xs := hi1.congr (by rw [f2.1 7 (by decide) (by decide) (by decide) (by omega)]) (f2.1 _ (by omega) (by omega) (by omega) (by omega)) (f2.1 _ (by omega) (by omega) (by omega) (by omega))
    refine ih G2 _ _ _ true (ys ++ [x]) xs g2 s2 hi2 (x2.imp (fun _ _ z => WordAt.ext f2.e (by rw [e1]; exact z))) ?_ hle h9 hr (by omega) (by omega) (fun G' g' s' f' => hQ G' g' s' ((FrX.by7 f1).trans (f2.x.trans f')))
    show (d.out ++ [w]) ++ l = _
    rw [← hp, List.append_assoc]; rfl
theorem p_X2_be_54 {Q : Wd → Prop} {i : Nat} (hD : 9 < D) (hD' : 9 < D') (hdj : D + 100 ≤ D' ∨ D' + 100 ≤ D) (hol : src.out.length ≤ 80) (hrl : src.run.length ≤ 4) : ∀ (l : List Rec) (G : Wd) (d : DS) (k n : Nat) (nw : Bool) (ys xs : List Nat), DrA G D a rf d → DrA G D' a' rf' src → ItAt G 7 i (D' + 2) (rf' 9 1) nw ys xs → All2 (WorkAt (G 1)) xs l → d.run ++ l = src.run →
    (∀ q, q < 5 → LineEq d src q) → d.s 900 = src.s 900 → l.length + 81 ≤ k → 8 * (l.length + 81) ≤ n → (∀ G', DrA G' D a rf (copyD src) → DrA G' D' a' rf' src → FrX D (D + 100) G G' → Q G') → f_X2_be_54 a Q (l.length + 1) k n (some a') (some i) G := by
  intro l
  induction l with
  | nil =>
    intro G d k n nw ys xs h hs hi hx hp hle h9 hk hn hQ
    have : xs = [] := hx.nil
    subst this
    rw [List.append_nil] at hp
    rw [List.length_nil] at hk hn
    obtain ⟨n1, n2, mc, lr, i1, i2, i3, i4, i5, i6, i7, i8⟩ := id hi
    unfold f_X2_be_54 f_X2_be_54_b
    refine nn_of ⟨isC_of (by assumption), p_J25_hasNext hi (brB_F (gD_2 h (nn_of ⟨cOut h, x_outClear h hD (fun G1 g1 f1 => ?_)⟩)))⟩
    have s1 := hs.other f1 hD' (by omega)
    obtain ⟨zs, m3, m4⟩ := s1.2.2.2.1
    refine nn_of (gD_2 s1 (nn_of ⟨1, 8, ⟨by omega, by omega⟩, cOut s1, p_J2_iterator 7 m3 (by decide) (by omega) (by omega) (by omega) (by omega) (fun i' G2 hi2 f2 f2' => ⟨src.out.length + 1, ?_⟩)⟩))
    have e2 : G2 1 = G1 1 := f2 1 (by decide)
    exact p_X2_be_99 hD hD' hdj hol src.out G2 _ _ _ false [] zs (g1.by7 hD f2) (s1.by7 hD' f2) hi2 (by rw [e2]; exact m4) rfl hle h9 hp (by omega) (by omega) (fun G' g' s' f' => hQ G' g' s' (f1.x.trans ((FrX.by7 f2).trans f')))
  | cons w l ih =>
    intro G d k n nw ys xs h hs hi hx hp hle h9 hk hn hQ
    obtain ⟨x, xs, rfl, x1, x2⟩ := hx.cons
    obtain ⟨n1, n2, mc, lr, i1, i2, i3, i4, i5, i6, i7, i8⟩ := id hi
    rw [List.length_cons] at hk hn
    unfold f_X2_be_54 f_X2_be_54_b
    refine nn_of ⟨isC_of (by assumption), p_J25_hasNext hi (brB_T ⟨isC_of (by assumption), p_J25_next hi (by omega) (by omega) (by omega) (fun G1 hi1 f1 f1' => ?_)⟩)⟩
    have g1 := h.by7 hD f1
    have s1 := hs.by7 hD' f1
    have e1 : G1 1 = G 1 := f1 1 (by decide)
    have x1' : WorkAt (G1 1) x w := by rw [e1]; exact x1
    obtain ⟨y, z, y1, y2⟩ := id x1'
    have hlen : d.run.length < 900000 := by
      have := congrArg List.length hp
      rw [List.length_append] at this
      omega
    refine cst_of rfl y1 (by decide) (gD_1 g1 (nn_of ⟨1, 8, ⟨by omega, by omega⟩, cRun g1, x_runAdd g1 hD hlen x1' (by omega) (by omega) (fun G2 g2 f2 => ?_)⟩))
    have s2 := s1.other f2 hD' (by omega)
    have hi2 : ItAt G2 7 i (D' + 2) (rf' 9 1) true (ys ++ [x]) xs := hi1.congr (by rw [f2.1 7 (by decide) (by decide) (by decide) (by omega)]) (f2.1 _ (by omega) (by omega) (by omega) (by omega)) (f2.1 _ (by omega) (by omega) (by omega) (by omega))
    refine ih G2 _ _ _ true (ys ++ [x]) xs g2 s2 hi2 (x2.imp (fun _ _ z => WorkAt.ext f2.e (by rw [e1]; exact z))) ?_ hle h9 (by omega) (by omega) (fun G' g' s' f' => hQ G' g' s' ((FrX.by7 f1).trans (f2.x.trans f')))
    show (d.run ++ [w]) ++ l = _
    rw [← hp, List.append_assoc]; rfl
theorem p_X2_be_10 {Q : Wd → Prop} (hD : 9 < D) (hD' : 9 < D') (hdj : D + 100 ≤ D' ∨ D' + 100 ≤ D) (hab : ∀ q, q < 5 → rf q 3 ≠ rf' q 3) (hw : WF src B) : ∀ (m c : Nat) (G : Wd) (d : DS) (k n : Nat), c + m = (src.s 900).toNat → DrA G D a rf d → DrA G D' a' rf' src → (∀ q, q < c → LineEq d src q) → (∀ q : Nat, q < 5 → src.s 900 ≤ q → Lz d q) → d.s 900 = src.s 900 →
    2 * m + 86 ≤ k → 8 * (2 * m + 86) ≤ n → (∀ G', DrA G' D a rf (copyD src) → DrA G' D' a' rf' src → FrX D (D + 100) G G' → Q G') → f_X2_be_10 a Q (m + 1) k n (some a') c G := by
  have hm := hw.many
  intro m
  induction m with
  | zero =>
    intro c G d k n hc h hs hl hz h9 hk hn hQ
    unfold f_X2_be_10 f_X2_be_10_b
    refine gD_8 h (br_T ⟨by omega, by omega⟩ (by rw [h9]; exact ⟨by omega, by omega⟩) (by rw [h9]; omega) (gD_1 h (nn_of ⟨cRun h, x_runClear h hD (fun G1 g1 f1 => ?_)⟩)))
    have s1 := hs.other f1 hD' (by omega)
    obtain ⟨zs, m3, m4⟩ := s1.2.2.1
    refine nn_of (gD_1 s1 (nn_of ⟨1, 8, ⟨by omega, by omega⟩, cRun s1, p_J2_iterator 7 m3 (by decide) (by omega) (by omega) (by omega) (by omega) (fun i' G2 hi2 f2 f2' => ⟨src.run.length + 1, ?_⟩)⟩))
    have e2 : G2 1 = G1 1 := f2 1 (by decide)
    have hrl := hw.2.2.1.1
    refine p_X2_be_54 hD hD' hdj hw.outlen hrl src.run G2 _ _ _ false [] zs (g1.by7 hD f2) (s1.by7 hD' f2) hi2 (by rw [e2]; exact m4) rfl (fun q hq => ?_) h9 (by omega) (by omega) (fun G' g' s' f' => hQ G' g' s' (f1.x.trans ((FrX.by7 f2).trans f')))
    show LineEq d src q
    by_cases e : q < c
    · exact hl q e
    · obtain ⟨z1, z2, z3, z4, z5⟩ := hz q hq (by omega)
      obtain ⟨y1, y2, y3, y4, y5⟩ := hw.pris (q := q) (by omega) hq
      refine ⟨z1.trans y1.symm, z2.trans y2.symm, z3.trans y3.symm, fun j hj => ?_⟩
      rcases hj with hj | hj
      · rw [z4 j hj.1 hj.2, y4 j hj.1 hj.2]
      · rw [z5 j hj.1 hj.2, y5 j hj.1 hj.2]
  | succ m ih =>
    intro c G d k n hc h hs hl hz h9 hk hn hQ
    have hc5 : c < 5 := by omega
    unfold f_X2_be_10 f_X2_be_10_b
    refine gD_8 h (br_F ⟨by omega, by omega⟩ (by rw [h9]; exact ⟨by omega, by omega⟩) (by rw [h9]; omega) (gD_0 h (nn_of (xldL h hc5 (nn_of (gD_0 hs (nn_of (xldL hs hc5 (nn_of ⟨2, 16, ⟨by omega, by omega⟩, cL h hc5, p_X3_be h hs hD hD' hdj (hab c hc5) hc5 hw (by omega) (by omega) (fun G1 e1 g1 s1 l1 b1 f1 => ?_)⟩)))))))))
    rw [show (c : Int) + 1 = ((c + 1 : Nat) : Int) by omega]
    refine ih (c + 1) G1 e1 _ _ (by omega) g1 s1 (fun q hq => ?_) (fun q hq hq9 => ?_) ((b1.2.1 _ (by omega)).trans h9) (by omega) (by omega) (fun G' g' s' f' => hQ G' g' s' (f1.trans f'))
    · by_cases e : q = c
      · subst e; exact l1
      · exact (b1.1 q (by omega) e).trans (hl q (by omega))
    · obtain ⟨z1, z2, z3, z4, z5⟩ := hz q hq hq9
      obtain ⟨y1, y2, y3, y4⟩ := b1.1 q hq (by omega)
      exact ⟨y1.trans z1, y2.trans z2, y3.trans z3, fun f f0 f1 => (y4 f (Or.inl ⟨f0, f1⟩)).trans (z4 f f0 f1), fun f f0 f1 => (y4 f (Or.inr ⟨f0, f1⟩)).trans (z5 f f0 f1)⟩
theorem p_X2_be {Q : Wd → Prop} {k n : Nat} (h : DrA G D a rf d) (hs : DrA G D' a' rf' src) (hD : 9 < D) (hD' : 9 < D') (hdj : D + 100 ≤ D' ∨ D' + 100 ≤ D) (hab : ∀ q, q < 5 → rf q 3 ≠ rf' q 3) (hw : WF src B) (hz : ∀ q : Nat, q < 5 → src.s 900 ≤ q → Lz d q) (hk : 96 ≤ k) (hn : 768 ≤ n)
    (hQ : ∀ G', DrA G' D a rf (copyD src) → DrA G' D' a' rf' src → FrX D (D + 100) G G' → Q G') : f_X2_be k n a (some a') G Q := by
  have hm := hw.many
  unfold f_X2_be
  refine nn_of (gD_8 hs (pD_8 h hD (fun G1 g1 f1 => ⟨(src.s 900).toNat + 1, ?_⟩)))
  refine p_X2_be_10 hD hD' hdj hab hw (src.s 900).toNat 0 G1 _ k n (by omega) g1 (hs.other f1 hD' (by omega)) (fun q hq => by omega) (fun q hq hq9 => ?_) (show iup d.s 900 (src.s 900) 900 = src.s 900 from iup_at) (by omega) (by omega) (fun G' g' s' f' => hQ G' g' s' (f1.x.trans f'))
  obtain ⟨z1, z2, z3, z4, z5⟩ := hz q hq hq9
  exact ⟨z1, z2, z3, fun f f0 f1 => by show iup d.s 900 _ _ = 0; rw [iup_ne (by omega)]; exact z4 f f0 f1, fun f f0 f1 => by show iup d.s 900 _ _ = 0; rw [iup_ne (by omega)]; exact z5 f f0 f1⟩
end
