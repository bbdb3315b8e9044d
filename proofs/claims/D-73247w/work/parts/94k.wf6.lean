/-! PURE PROOFS: what is always so stays so: called back, emptied, other numbers -/
set_option maxRecDepth 100000
theorem WF.mk {s : Rec} {rg ps : Nat → List Rec} {us : Nat → Nat} {rn ou : List Rec} {B : Int} (h1 : WS s B) (h2 : ∀ q : Nat, q < 5 → WL s q (rg q) (ps q)) (h3 : rn.length ≤ 4 ∧ All (WkOK (s 900)) rn) (h4 : All (WdOK (s 900)) ou)
    (h5 : ∀ q : Nat, q < 5 → us q < 65536 ∧ ∀ a : Int, kR a (rg q) + kW q a rn + kO q a ou + kR a (ps q) = if 0 ≤ a ∧ (us q).testBit a.toNat = true then 1 else 0) : WF (s, rg, ps, us, rn, ou) B := ⟨h1, h2, h3, h4, h5⟩
section
variable {d e : DS} {B B' : Int} {q : Nat} {s s' : Rec} {w : Rec} {l : List Rec}
theorem kR_map {a id : Int} : ∀ {l : List Rec}, kR a (l.map (callC id)) = kR a l
  | [] => rfl
  | c :: l => by
    simp only [List.map_cons, kR, kR_map (l := l)]
    have : callC id c 0 = c 0 := by unfold callC; split; rw [iup_ne (by decide)]; rfl
    rw [this]
theorem callC_ok {id : Int} {c : Rec} (h : CmdOK c) : CmdOK (callC id c) := by
  unfold callC
  split
  · obtain ⟨h0, h1, h2, h3, h4⟩ := h
    refine ⟨?_, ?_, ?_, ?_, ?_⟩
    · rw [iup_ne (by decide)]; exact h0
    · rw [iup_ne (by decide)]; exact h1
    · rw [iup_ne (by decide)]; exact h2
    · rw [iup_ne (by decide)]; exact h3
    · rw [iup_at]; exact Or.inr rfl
  · exact h
theorem callRing_wf {id : Int} (h : WF d B) (h5 : q < 5) : WF (callRing d q id) B := by
  unfold callRing
  obtain ⟨k1, k2, k3, k4, k5, k6⟩ := h.wl h5
  obtain ⟨u1, u2⟩ := h.2.2.2.2 q h5
  have k := h.line h5 (s' := d.s) (B' := B) (rg := (d.ring q).map (callC id)) (ps := d.posts q) (u := d.us q) (rn := d.run) (ou := d.out) h.1 rfl (fun _ _ _ _ _ _ => rfl) ⟨k1, by rw [List.length_map]; exact k2, k3, fun x hx => by
    obtain ⟨y, y1, y2⟩ := List.mem_map.mp hx
    rw [← y2]; exact callC_ok (k4 y y1), k5, k6⟩ h.2.2.1 h.2.2.2.1 ⟨u1, fun a => by rw [kR_map]; exact u2 a⟩ (fun _ _ _ _ => rfl)
  rw [nup_self, nup_self] at k
  exact k
theorem callStep_wf {id : Int} (h : WF (setRun e (e.run ++ w :: l)) B) : WF (setRun (callStep q id e w) ((callStep q id e w).run ++ l)) B := by
  have hA : All (WkOK (e.s 900)) (e.run ++ w :: l) := h.2.2.1.2
  have hlen : (e.run ++ w :: l).length ≤ 4 := h.2.2.1.1
  rw [List.length_append, List.length_cons] at hlen
  obtain ⟨w0, w1, w3, w4, w5, w11, w7⟩ := hA w (List.mem_append_right _ List.mem_cons_self)
  unfold callStep
  split
  · have hO : All (WdOK (e.s 900)) e.out := h.2.2.2.1
    have hR : (e.run ++ l).length ≤ 4 ∧ All (WkOK (e.s 900)) (e.run ++ l) := ⟨by rw [List.length_append]; omega, hA.app_l.app hA.app_r.tl⟩
    have z : ∀ i, (0 ≤ i ∧ i < 16) → WdOK (e.s 900) (rec4 (w 0) i 1 0) := fun i hi => ⟨w0, hi, by show (0 : Int) ≤ 1 ∧ (1 : Int) ≤ 4; omega, by show (0 : Int) ≤ 0 ∧ (0 : Int) ≤ 99; omega⟩
    refine h.moved (s' := e.s) (rn := e.run ++ l) (ou := e.out ++ backW w) h.1 rfl (fun _ _ _ _ _ => rfl) hR (hO.app ?_) (fun p hp a => ?_)
    · unfold backW
      split
      · exact All.one (z _ w1)
      · exact (All.one (z _ w1)).app (m := [_]) (All.one (z _ (by rcases w7 with w7 | w7; omega; exact w7.2.2.1)))
    · show _ = kW p a (e.run ++ w :: l) + kO p a e.out
      rw [kW_app, kW_app, kO_app]
      unfold backW
      split
      · rename_i h7
        simp only [kW, kO]
        rw [if_neg (show ¬ (w 0 = p ∧ 0 ≤ w 7 ∧ w 6 = a) by omega)]
        show _ + (_ + ((if w 0 = p ∧ w 1 = a then 1 else 0) + 0)) = _
        omega
      · rename_i h7
        simp only [kW, kO]
        show _ + (_ + ((if w 0 = p ∧ w 1 = a then 1 else 0) + ((if w 0 = p ∧ w 6 = a then 1 else 0) + 0))) = _
        rw [ite_iff (c := w 0 = p ∧ 0 ≤ w 7 ∧ w 6 = a) (c' := w 0 = p ∧ w 6 = a) ⟨fun z => ⟨z.1, z.2.2⟩, fun z => ⟨z.1, by omega, z.2⟩⟩]
        omega
  · have : e.run ++ w :: l = (e.run ++ [w]) ++ l := by simp
    rw [this] at h
    exact h
theorem callL_wf {id : Int} : ∀ (l : List Rec) (e : DS), WF (setRun e (e.run ++ l)) B → WF (l.foldl (callStep q id) e) B
  | [], e, h => by
    have : e.run ++ [] = e.run := List.append_nil _
    rw [this] at h
    exact h
  | w :: l, e, h => by
    rw [List.foldl_cons]
    exact callL_wf l (callStep q id e w) (callStep_wf h)
theorem WF.call {id : Int} (h : WF d B) (h5 : q < 5) : WF (callD d q id) B := by
  unfold callD
  exact callL_wf _ (setRun (callRing d q id) []) (callRing_wf h h5)
theorem kW_none {a n : Int} {q : Int} (hq : n ≤ q) : ∀ {l : List Rec}, All (WkOK n) l → kW q a l = 0
  | [], _ => rfl
  | w :: l, h => by
    have := h.hd.1
    simp only [kW, kW_none hq h.tl]
    rw [if_neg (by omega), if_neg (by omega)]
theorem kO_none {a n : Int} {q : Int} (hq : n ≤ q) : ∀ {l : List Rec}, All (WdOK n) l → kO q a l = 0
  | [], _ => rfl
  | w :: l, h => by
    have := h.hd.1
    simp only [kO, kO_none hq h.tl]
    rw [if_neg (by omega)]
/-- a line that is not there yet -/
def Lz (d : DS) (q : Nat) : Prop := d.ring q = [] ∧ d.posts q = [] ∧ d.us q = 0 ∧ (∀ f : Int, 0 ≤ f → f < 9 → d.s (89 * q + f) = 0) ∧ ∀ f : Int, 20 ≤ f → f < 24 → d.s (89 * q + f) = 0
theorem WF.pris (h : WF d B) (hq : d.s 900 ≤ q) (h5 : q < 5) : Lz d q := by
  obtain ⟨k1, k2, k3, k4, k5, k6⟩ := h.wl h5
  obtain ⟨u1, u2⟩ := h.2.2.2.2 q h5
  obtain ⟨z0, z5, z7, z8, z20, z21, z22, z23⟩ := k1.2.2.2.2.2 hq
  have m1 := k1.1
  have m2 := k1.2.1
  have r0 : d.ring q = [] := List.eq_nil_of_length_eq_zero (by omega)
  have p0 : d.posts q = [] := List.eq_nil_of_length_eq_zero (by omega)
  refine ⟨r0, p0, ?_, ?_, ?_⟩
  · apply Nat.eq_of_testBit_eq
    intro i
    have u3 := u2 (i : Int)
    rw [r0, p0, kW_none hq h.2.2.1.2, kO_none hq h.2.2.2.1] at u3
    simp only [kR] at u3
    rw [Nat.zero_testBit]
    by_cases e : (d.us q).testBit i = true
    · rw [if_pos ⟨by omega, by simpa using e⟩] at u3; omega
    · simpa using e
  · intro f f0 f1
    obtain rfl | rfl | rfl | rfl | rfl | rfl | rfl | rfl | rfl : f = 0 ∨ f = 1 ∨ f = 2 ∨ f = 3 ∨ f = 4 ∨ f = 5 ∨ f = 6 ∨ f = 7 ∨ f = 8 := by omega
    all_goals omega
  · intro f f0 f1
    obtain rfl | rfl | rfl | rfl : f = 20 ∨ f = 21 ∨ f = 22 ∨ f = 23 := by omega
    all_goals omega
theorem empt_lo {n : Nat} {i : Int} (h : 445 ≤ i) (hn : n ≤ 5) : emptS s n i = s i := by unfold emptS; rw [if_neg (by omega)]
theorem empt_z (h : WF d B) (h5 : q < 5) {f : Int} (f0 : 0 ≤ f) (f1 : f < 9) : emptS d.s (d.s 900).toNat (89 * q + f) = 0 := by
  have hm := h.many
  unfold emptS
  by_cases e : (q : Int) < d.s 900
  · rw [if_pos ⟨by omega, by omega, by omega⟩]
  · rw [if_neg (by omega)]
    exact (h.pris (by omega) h5).2.2.2.1 f f0 f1
theorem empt_k (h5 : q < 5) {n : Nat} {f : Int} (f0 : 9 ≤ f) (f1 : f < 89) : emptS s n (89 * q + f) = s (89 * q + f) := by
  unfold emptS
  rw [if_neg (by omega)]
theorem turns_lo {i : Int} (h : i < 818 ∨ 844 ≤ i ∨ (826 ≤ i ∧ i < 840)) : turnsS s i = s i := by
  unfold turnsS
  rw [if_neg (by omega), if_neg (by omega), if_neg (by omega)]
theorem WF.empty (h : WF d B) (hB : 9 ≤ B) : WF (emptyD d) B := by
  have hm := h.many
  have hm5 : (d.s 900).toNat ≤ 5 := by omega
  obtain ⟨h1, h2, h3, h4, h5, h6, h7, h8, h9, h10⟩ := h.1
  have lo : ∀ i : Int, 445 ≤ i → (i < 818 ∨ 844 ≤ i ∨ (826 ≤ i ∧ i < 840)) → turnsS (emptS d.s (d.s 900).toNat) i = d.s i := fun i i0 i1 => by rw [turns_lo i1, empt_lo i0 hm5]
  have zr : ∀ q : Nat, q < 5 → ∀ f : Int, 0 ≤ f → f < 9 → turnsS (emptS d.s (d.s 900).toNat) (89 * q + f) = 0 := fun q hq f f0 f1 => by rw [turns_lo (by omega), empt_z h hq f0 f1]
  have kp : ∀ q : Nat, q < 5 → ∀ f : Int, 9 ≤ f → f < 89 → turnsS (emptS d.s (d.s 900).toNat) (89 * q + f) = d.s (89 * q + f) := fun q hq f f0 f1 => by rw [turns_lo (by omega), empt_k hq f0 f1]
  have rz : ∀ (α : Type) (f : Nat → α) (x : α) (q : Nat), (∀ q : Nat, d.s 900 ≤ q → q < 5 → f q = x) → q < 5 → emptR f (d.s 900).toNat x q = x := by
    intro α f x q hf hq
    unfold emptR
    split
    · rfl
    · exact hf q (by omega) hq
  unfold emptyD
  refine WF.mk ⟨fun i => ?_, by rw [lo _ (by omega) (by omega)]; exact h2, by rw [lo _ (by omega) (by omega)]; exact h3, by rw [lo _ (by omega) (by omega)]; exact h4, fun i i0 i1 => by rw [lo _ (by omega) (by omega)]; exact h5 i i0 i1, by rw [lo _ (by omega) (by omega)]; exact h6, fun i i0 i1 => by rw [lo _ (by omega) (by omega)]; exact h7 i i0 i1, fun i i0 i1 => ?_, fun i i0 i1 => ?_, ?_⟩ (fun q hq => ⟨?_, ?_, ?_, ?_, ?_, ?_⟩) ⟨Nat.zero_le _, fun x hx => by cases hx⟩ (fun x hx => (by cases hx)) (fun q hq => ⟨?_, fun a => ?_⟩)
  · show -B ≤ turnsS (emptS d.s (d.s 900).toNat) i ∧ turnsS (emptS d.s (d.s 900).toNat) i ≤ B
    unfold turnsS emptS
    split
    · rw [if_neg (by omega)]; exact h1 _
    · split
      · omega
      · split
        · omega
        · split
          · omega
          · exact h1 i
  · show 0 ≤ turnsS (emptS d.s (d.s 900).toNat) i ∧ turnsS (emptS d.s (d.s 900).toNat) i ≤ 9
    unfold turnsS
    rw [if_pos ⟨i0, i1⟩, empt_lo (by omega) hm5]
    by_cases e : i = 818
    · subst e; rw [show (818 - 4 : Int) = 814 by decide, h6]; decide
    · have := h7 (i - 4) (by omega) (by omega); omega
  · show 0 ≤ turnsS (emptS d.s (d.s 900).toNat) i ∧ turnsS (emptS d.s (d.s 900).toNat) i ≤ 4
    unfold turnsS
    rw [if_neg (by omega), if_pos ⟨i0, i1⟩]; decide
  · have z := fun q hq => zr q hq 3 (by omega) (by omega)
    have z0 := z 0 (by omega)
    have z1 := z 1 (by omega)
    have z2 := z 2 (by omega)
    have z3 := z 3 (by omega)
    have z4 := z 4 (by omega)
    have sv : ∀ i : Int, 840 ≤ i → i < 844 → turnsS (emptS d.s (d.s 900).toNat) i = 0 := fun i i0 i1 => by unfold turnsS; rw [if_neg (by omega), if_neg (by omega), if_pos ⟨i0, i1⟩]
    show turnsS (emptS d.s (d.s 900).toNat) 840 + turnsS (emptS d.s (d.s 900).toNat) 841 + turnsS (emptS d.s (d.s 900).toNat) 842 + turnsS (emptS d.s (d.s 900).toNat) 843 = turnsS (emptS d.s (d.s 900).toNat) (89 * ((0 : Nat) : Int) + 3) + turnsS (emptS d.s (d.s 900).toNat) (89 * ((1 : Nat) : Int) + 3) + turnsS (emptS d.s (d.s 900).toNat) (89 * ((2 : Nat) : Int) + 3) + turnsS (emptS d.s (d.s 900).toNat) (89 * ((3 : Nat) : Int) + 3) + turnsS (emptS d.s (d.s 900).toNat) (89 * ((4 : Nat) : Int) + 3)
    rw [sv 840 (by omega) (by omega), sv 841 (by omega) (by omega), sv 842 (by omega) (by omega), sv 843 (by omega) (by omega), z0, z1, z2, z3, z4]
    rfl
  · show WLs (turnsS (emptS d.s (d.s 900).toNat)) q
    unfold WLs
    rw [zr q hq 0 (by omega) (by omega), zr q hq 1 (by omega) (by omega), zr q hq 2 (by omega) (by omega), zr q hq 3 (by omega) (by omega), zr q hq 4 (by omega) (by omega), zr q hq 5 (by omega) (by omega), zr q hq 6 (by omega) (by omega), zr q hq 7 (by omega) (by omega), zr q hq 8 (by omega) (by omega), kp q hq 20 (by omega) (by omega), kp q hq 21 (by omega) (by omega), kp q hq 22 (by omega) (by omega), kp q hq 23 (by omega) (by omega), lo 900 (by omega) (by omega)]
    have k := (h.wl hq).1
    exact ⟨by omega, by omega, Or.inl rfl, k.2.2.2.1, fun z => by have := k.2.2.2.2.1 z; omega, fun z => by have := k.2.2.2.2.2 z; omega⟩
  · show ((emptR d.ring (d.s 900).toNat [] q).length : Int) = turnsS (emptS d.s (d.s 900).toNat) (89 * q + 0) - turnsS (emptS d.s (d.s 900).toNat) (89 * q + 3)
    rw [rz _ _ _ _ (fun q k1 k2 => (h.pris k1 k2).1) hq, zr q hq 0 (by omega) (by omega), zr q hq 3 (by omega) (by omega)]; rfl
  · show ((emptR d.posts (d.s 900).toNat [] q).length : Int) = turnsS (emptS d.s (d.s 900).toNat) (89 * q + 5) - turnsS (emptS d.s (d.s 900).toNat) (89 * q + 6)
    rw [rz _ _ _ _ (fun q k1 k2 => (h.pris k1 k2).2.1) hq, zr q hq 5 (by omega) (by omega), zr q hq 6 (by omega) (by omega)]; rfl
  · show All CmdOK (emptR d.ring (d.s 900).toNat [] q)
    rw [rz _ _ _ _ (fun q k1 k2 => (h.pris k1 k2).1) hq]; intro x hx; cases hx
  · show All _ (emptR d.posts (d.s 900).toNat [] q)
    rw [rz _ _ _ _ (fun q k1 k2 => (h.pris k1 k2).2.1) hq]; intro x hx; cases hx
  · show Hds (emptR d.posts (d.s 900).toNat [] q)
    rw [rz _ _ _ _ (fun q k1 k2 => (h.pris k1 k2).2.1) hq]; trivial
  · show emptR d.us (d.s 900).toNat 0 q < 65536
    rw [rz _ _ _ _ (fun q k1 k2 => (h.pris k1 k2).2.2.1) hq]; decide
  · show kR a (emptR d.ring (d.s 900).toNat [] q) + 0 + 0 + kR a (emptR d.posts (d.s 900).toNat [] q) = if 0 ≤ a ∧ (emptR d.us (d.s 900).toNat 0 q).testBit a.toNat = true then 1 else 0
    rw [rz _ _ _ _ (fun q k1 k2 => (h.pris k1 k2).1) hq, rz _ _ _ _ (fun q k1 k2 => (h.pris k1 k2).2.1) hq, rz _ _ _ _ (fun q k1 k2 => (h.pris k1 k2).2.2.1) hq, Nat.zero_testBit, if_neg (by simp)]
    rfl
theorem WF.hi (h : WF d B) (e : ∀ i : Int, i < 901 → s' i = d.s i) (hb : ∀ i : Int, -B' ≤ s' i ∧ s' i ≤ B') : WF (setS d s') B' :=
  h.scal (e _ (by omega)) (h.1.low hb (fun i i0 i1 => e i (by omega)) (e _ (by omega)) (by rw [e _ (by omega), e _ (by omega), e _ (by omega), e _ (by omega), e _ (by omega), e _ (by omega), e _ (by omega), e _ (by omega), e _ (by omega)]; exact h.1.2.2.2.2.2.2.2.2.2)) (fun p hp => (h.wl hp).1.same (e _ (by omega)) (fun f f0 f1 => e _ (by omega))) (fun p hp => ⟨e _ (by omega), e _ (by omega), e _ (by omega), e _ (by omega), e _ (by omega)⟩)
theorem WF.lo (h : WF d B) (hs : WS s' B') (e9 : s' 900 = d.s 900) (e : ∀ i : Int, i < 445 → s' i = d.s i) : WF (setS d s') B' :=
  h.scal e9 hs (fun p hp => (h.wl hp).1.same e9 (fun f f0 f1 => e _ (by omega))) (fun p hp => ⟨e _ (by omega), e _ (by omega), e _ (by omega), e _ (by omega), e _ (by omega)⟩)
theorem WF.blk {i x : Int} (h : WF d B) (hi : 0 ≤ i ∧ i < 10) (hx : 0 ≤ x ∧ x ≤ 99) (hB : 99 ≤ B) : WF (setS d (iup d.s (828 + i) x)) B :=
  h.lo (h.1.blk (by omega) hx hB) (by (simp (disch := omega) only [iup_at, iup_ne]; try rfl)) (fun j hj => by (simp (disch := omega) only [iup_at, iup_ne]; try rfl))
theorem WF.dep {x : Int} (h : WF d B) (hx : 1 ≤ x ∧ x ≤ 4) (hB : 99 ≤ B) : WF (setS d (iup d.s 826 x)) B := by
  obtain ⟨h1, h2, h3, h4, h5, h6, h7, h8, h9, h10⟩ := h.1
  exact h.lo ⟨bnd_iup h1 (Int.le_refl _) (by omega), by (simp (disch := omega) only [iup_at, iup_ne]; try rfl); exact h2, by (simp (disch := omega) only [iup_at, iup_ne]; try rfl); exact hx, by (simp (disch := omega) only [iup_at, iup_ne]; try rfl); exact h4, fun i i0 i1 => by (simp (disch := omega) only [iup_at, iup_ne]; try rfl); exact h5 i i0 i1, by (simp (disch := omega) only [iup_at, iup_ne]; try rfl); exact h6,
    fun i i0 i1 => by (simp (disch := omega) only [iup_at, iup_ne]; try rfl); exact h7 i i0 i1, fun i i0 i1 => by (simp (disch := omega) only [iup_at, iup_ne]; try rfl); exact h8 i i0 i1, fun i i0 i1 => by (simp (disch := omega) only [iup_at, iup_ne]; try rfl); exact h9 i i0 i1, by (simp (disch := omega) only [iup_at, iup_ne]; try rfl); exact h10⟩ (by (simp (disch := omega) only [iup_at, iup_ne]; try rfl)) (fun j hj => by (simp (disch := omega) only [iup_at, iup_ne]; try rfl))
theorem WF.weigh {c x : Int} (h : WF d B) (hc : 1 ≤ c ∧ c ≤ 3) (hx : 1 ≤ x ∧ x ≤ 9) (hB : 99 ≤ B) : WF (setS d (iup (iup d.s (814 + c) x) (818 + c) x)) B := by
  obtain ⟨h1, h2, h3, h4, h5, h6, h7, h8, h9, h10⟩ := h.1
  exact h.lo ⟨bnd_iup (bnd_iup h1 (Int.le_refl _) (by omega)) (Int.le_refl _) (by omega), by (simp (disch := omega) only [iup_at, iup_ne]; try rfl); exact h2, by (simp (disch := omega) only [iup_at, iup_ne]; try rfl); exact h3, by (simp (disch := omega) only [iup_at, iup_ne]; try rfl); exact h4, fun i i0 i1 => by (simp (disch := omega) only [iup_at, iup_ne]; try rfl); exact h5 i i0 i1, by (simp (disch := omega) only [iup_at, iup_ne]; try rfl); exact h6,
    fun i i0 i1 => by
      rw [iup_ne (by omega)]
      unfold iup
      split
      · exact hx
      · exact h7 i i0 i1, fun i i0 i1 => by
      unfold iup
      split
      · omega
      · split
        · omega
        · exact h8 i i0 i1, fun i i0 i1 => by (simp (disch := omega) only [iup_at, iup_ne]; try rfl); exact h9 i i0 i1, by (simp (disch := omega) only [iup_at, iup_ne]; try rfl); exact h10⟩ (by (simp (disch := omega) only [iup_at, iup_ne]; try rfl)) (fun j hj => by (simp (disch := omega) only [iup_at, iup_ne]; try rfl))
/-- a line more -/
def lineS (s : Rec) (q : Nat) (a b c f : Int) : Rec := iup (iup (iup (iup (iup s (89 * q + 20) a) (89 * q + 21) b) (89 * q + 22) c) (89 * q + 23) f) 900 (q + 1)
theorem WF.newl {a b c f : Int} (h : WF d B) (hq : d.s 900 = q) (h5 : q < 5) (ha : 2 ≤ a ∧ a ≤ 8) (hb : 2 ≤ b ∧ b ≤ 8) (hc : 0 ≤ c ∧ c ≤ 3) (hf : f = 0 ∨ f = 1) (hB : 99 ≤ B) : WF (setS d (lineS d.s q a b c f)) B := by
  obtain ⟨h1, h2, h3, h4, h5', h6, h7, h8, h9, h10⟩ := h.1
  have hz := h.pris (q := q) (by omega) h5
  unfold lineS
  obtain ⟨g1, g2, g3, g4, g5⟩ := h
  refine WF.mk ⟨bnd_iup (bnd_iup (bnd_iup (bnd_iup (bnd_iup h1 (Int.le_refl _) (by omega)) (Int.le_refl _) (by omega)) (Int.le_refl _) (by omega)) (Int.le_refl _) (by omega)) (Int.le_refl _) (by omega), by (simp (disch := omega) only [iup_at, iup_ne]; try rfl); omega, by (simp (disch := omega) only [iup_at, iup_ne]; try rfl); exact h3, by (simp (disch := omega) only [iup_at, iup_ne]; try rfl); exact h4, fun i i0 i1 => by (simp (disch := omega) only [iup_at, iup_ne]; try rfl); exact h5' i i0 i1, by (simp (disch := omega) only [iup_at, iup_ne]; try rfl); exact h6,
    fun i i0 i1 => by (simp (disch := omega) only [iup_at, iup_ne]; try rfl); exact h7 i i0 i1, fun i i0 i1 => by (simp (disch := omega) only [iup_at, iup_ne]; try rfl); exact h8 i i0 i1, fun i i0 i1 => by (simp (disch := omega) only [iup_at, iup_ne]; try rfl); exact h9 i i0 i1, by (simp (disch := omega) only [iup_at, iup_ne]; try rfl); exact h10⟩ (fun p hp => ?_) ⟨g3.1, fun x hx => ?_⟩ (fun x hx => ?_) g5
  · obtain ⟨k1, k2, k3, k4, k5, k6⟩ := g2 p hp
    refine ⟨?_, ?_, ?_, k4, ?_, k6⟩
    · show WLs (iup (iup (iup (iup (iup d.s (89 * q + 20) a) (89 * q + 21) b) (89 * q + 22) c) (89 * q + 23) f) 900 (q + 1)) p
      unfold WLs at k1 ⊢
      by_cases e : p = q
      · subst e
        obtain ⟨-, -, -, z9, z24⟩ := hz
        have z0 := z9 0 (by omega) (by omega)
        have z4 := z9 4 (by omega) (by omega)
        have z5 := z9 5 (by omega) (by omega)
        have z6 := z9 6 (by omega) (by omega)
        (simp (disch := omega) only [iup_at, iup_ne]; try rfl)
        exact ⟨k1.1, k1.2.1, k1.2.2.1, hf, fun _ => ⟨ha, hb, hc, by omega, by omega⟩, fun z => by omega⟩
      · (simp (disch := omega) only [iup_at, iup_ne]; try rfl)
        exact ⟨k1.1, k1.2.1, k1.2.2.1, k1.2.2.2.1, fun z => k1.2.2.2.2.1 (by omega), fun z => k1.2.2.2.2.2 (by omega)⟩
    · show _ = iup (iup (iup (iup (iup d.s (89 * q + 20) a) (89 * q + 21) b) (89 * q + 22) c) (89 * q + 23) f) 900 (q + 1) _ - iup (iup (iup (iup (iup d.s (89 * q + 20) a) (89 * q + 21) b) (89 * q + 22) c) (89 * q + 23) f) 900 (q + 1) _
      (simp (disch := omega) only [iup_at, iup_ne]; try rfl); exact k2
    · show _ = iup (iup (iup (iup (iup d.s (89 * q + 20) a) (89 * q + 21) b) (89 * q + 22) c) (89 * q + 23) f) 900 (q + 1) _ - iup (iup (iup (iup (iup d.s (89 * q + 20) a) (89 * q + 21) b) (89 * q + 22) c) (89 * q + 23) f) 900 (q + 1) _
      (simp (disch := omega) only [iup_at, iup_ne]; try rfl); exact k3
    · show All (PsOK (iup (iup (iup (iup (iup d.s (89 * q + 20) a) (89 * q + 21) b) (89 * q + 22) c) (89 * q + 23) f) 900 (q + 1) _) (iup (iup (iup (iup (iup d.s (89 * q + 20) a) (89 * q + 21) b) (89 * q + 22) c) (89 * q + 23) f) 900 (q + 1) _)) _
      (simp (disch := omega) only [iup_at, iup_ne]; try rfl); exact k5
  · show WkOK (iup (iup (iup (iup (iup d.s (89 * q + 20) a) (89 * q + 21) b) (89 * q + 22) c) (89 * q + 23) f) 900 (q + 1) 900) x
    (simp (disch := omega) only [iup_at, iup_ne]; try rfl)
    obtain ⟨x0, x1⟩ := g3.2 x hx
    exact ⟨⟨x0.1, by omega⟩, x1⟩
  · show WdOK (iup (iup (iup (iup (iup d.s (89 * q + 20) a) (89 * q + 21) b) (89 * q + 22) c) (89 * q + 23) f) 900 (q + 1) 900) x
    (simp (disch := omega) only [iup_at, iup_ne]; try rfl)
    obtain ⟨x0, x1⟩ := g4 x hx
    exact ⟨⟨x0.1, by omega⟩, x1⟩
end
