/-! PURE PROOFS: recall on the twin; takes on both -/
set_option maxRecDepth 100000
section
variable {G : Wd} {x : Nat} {w : Tw} {d : DS} {un : List DS} {pg : Nat → Option DS} {tx rw' hw ha cs : List Int} {B : Int}
theorem Tn.row0 (h : Tn w d un pg tx rw' hw ha cs) : Tn (tup w 1 0 0) d un pg tx [] hw ha cs :=
  h.rw2 ⟨by rw [tw_at, iup_at]; rfl, fun i c hc => by simp at hc⟩ (fun j j1 _ => tw_ne j1)
theorem T_tell {Q : Tw → Prop} {v : Int} (h : Tn w d un pg tx rw' hw ha cs) (hl : rw'.length < 24) (hQ : ∀ w' : Tw, Tn w' d un pg tx (rw' ++ [v]) hw ha cs → (∀ j, j ≠ 1 → j ≠ 2 → w' j = w j) → Q w') : f_X4_enters v w Q :=
  t_enters h.2.2.2.2.2.1 hl (fun w' g f => hQ w' (h.rw2 g f) f)
theorem Sy.cq (h : Sy G x d un pg tx rw' hw ha cs B) : isC G x 0 := by
  obtain ⟨A, rf, E, dr, u, ru, ai, ar, ah, h1, -⟩ := h
  exact cQ h1
theorem T_recall {Q : Int → Tw → Prop} {q id : Int} (h : Tn w d un pg tx rw' hw ha cs) (hw' : Wl d un pg B) (h1 : R32 q) (h2 : R32 id) (hQ : ∀ w', Tn w' d un pg tx (if recA d q id < 0 then rw' else [recL d q id, recF d q id]) hw ha cs → Q (recA d q id) w') : f_X4_recall q id w Q := by
  have hr := recA_r (d := d) (q := q) (id := id)
  have hwf := hw'.1
  unfold f_X4_recall tS
  have g0 := h.thr (i := 0) (v := 0)
  refine t_callsAnswer g0.1 hwf.1 (by omega) h1 h2 ?_
  by_cases c : recA d q id < 0
  · rw [if_pos c] at hQ
    exact br0_F ⟨by omega, by omega⟩ (by omega) (hQ _ g0)
  · rw [if_neg c] at hQ
    obtain ⟨hin, -⟩ := recA_0 (show 0 ≤ recA d q id by omega)
    obtain ⟨m, rfl⟩ : ∃ m : Nat, q = m := ⟨q.toNat, by omega⟩
    have h5 : m < 5 := hwf.1.hq hin.2
    have hrl := hwf.1.2.2.1.1
    have g1 := g0.row0
    refine br0_T ⟨by omega, by omega⟩ (by omega) (t_runOf g1.1 hwf.1 h5 h2 ?_)
    rcases recA_at hwf.1 (show 0 ≤ recA d m id by omega) with ⟨e0, ⟨l1, c', l2, k1, k2, k3, k4, k5⟩, k6⟩ | ⟨e1, k0, l1, c', l2, k1, k2, k3, k4, k5⟩
    · have eL : recL d m id = 0 := by unfold recL; rw [if_pos e0]
      have eF : recF d m id = ringOf d m id := by unfold recF; rw [if_pos e0, Int.toNat_natCast]
      rw [eL, eF] at hQ
      have hof : R32 (ringOf d m id) := by
        have := hwf.1.ringlen h5
        unfold ringOf
        rw [k2, ofi_some]
        have := fi_lt k2
        exact ⟨by omega, by omega⟩
      refine br0_F ⟨by omega, by omega⟩ (by omega) ?_
      unfold f_X4_recall_61 f_X4_recall_85
      refine T_tell g1 (by simp) (fun w2 g2 f2 => br0_F ⟨by omega, by omega⟩ (by omega) (t_ringOf g2.1 h5 hwf.1 (by omega) h2 ⟨hof, T_tell g2 (by simp) (fun w3 g3 f3 => ?_)⟩))
      rw [e0] at hQ ⊢
      exact hQ w3 g3
    · have hget : d.run[l1.length]? = some c' := by rw [k1, List.getElem?_append_right (Nat.le_refl _), Nat.sub_self]; rfl
      have hlt := get_lt hget
      have hfd : d.run.find? (fun v => hasId v m id) = some c' := by
        rw [k1, List.find?_append, List.find?_eq_none.mpr (fun v hv => by rw [k4 v hv]; simp), List.find?_cons, k3]; rfl
      have eL : recL d m id = c' 11 := by unfold recL; rw [if_neg (by omega), hfd]
      have eF : recF d m id = runOf d m id := by unfold recF; rw [if_neg (by omega), Int.toNat_natCast]
      have eR : runOf d m id = (l1.length : Nat) := by unfold runOf; rw [k2]; rfl
      rw [eL, eF, eR] at hQ
      rw [eR]
      have hok := (hwf.1.2.2.1.2 _ (get_mem hget)).2.2.2.2.2.1
      have cell := g1.1.1.2.2.2.2.2.1 l1.length c' hget 11 (by omega) (by omega) (by omega)
      unfold f_X4_runAt
      refine br0_T ⟨by omega, by omega⟩ (by omega) ⟨⟨by omega, by omega⟩, ?_⟩
      rw [cell]
      refine ⟨⟨by omega, by omega⟩, ?_⟩
      unfold f_X4_recall_61 f_X4_recall_85
      refine T_tell g1 (by simp) (fun w2 g2 f2 => br0_T ⟨by omega, by omega⟩ (by omega) ⟨⟨by omega, by omega⟩, T_tell g2 (by simp) (fun w3 g3 f3 => ?_)⟩)
      rw [e1] at hQ ⊢
      exact hQ w3 g3
/-- what is taken: the first post of the line, or why not -/
def takA (d : DS) (q : Int) : Int := if takR d q < 0 then takR d q else match d.posts q.toNat with
  | [] => 0
  | p :: _ => 10 * p 0 + p 1
def takM (d : DS) (q : Int) : DS := if takR d q < 0 then d else match d.posts q.toNat with
  | [] => d
  | p :: _ => takeD d q.toNat p
def takT (d : DS) (q : Int) (rw' : List Int) : List Int := if takR d q < 0 then rw' else match d.posts q.toNat with
  | [] => rw'
  | p :: _ => [p 2, p 3, p 4]
theorem takR_r {q : Int} : (takR d q = -1 ∨ takR d q = -2 ∨ takR d q = 0) ∧ (¬ takR d q < 0 → (0 ≤ q ∧ q < d.s 900) ∧ ∃ p ps, d.posts q.toNat = p :: ps) := by
  unfold takR
  by_cases c : 0 ≤ q ∧ q < d.s 900
  · rw [if_pos c]
    cases hp : d.posts q.toNat with
    | nil => exact ⟨Or.inr (Or.inl rfl), fun z => absurd (by decide) z⟩
    | cons p ps => exact ⟨Or.inr (Or.inr rfl), fun _ => ⟨c, p, ps, rfl⟩⟩
  · rw [if_neg c]
    exact ⟨Or.inl rfl, fun z => absurd (by decide) z⟩
theorem take_9 {p : Rec} {q : Nat} (h5 : q < 5) : (takeD d q p).s 900 = d.s 900 := by
  show iup (iup d.s _ _) _ _ 900 = _
  rw [iup_ne (by omega), iup_ne (by omega)]
theorem T_takes {Q : Int → Tw → Prop} {q : Int} (h : Tn w d un pg tx rw' hw ha cs) (hw' : Wl d un pg B) (h1 : R32 q) (hQ : ∀ w', Tn w' (takM d q) (if takR d q < 0 then un else remU un d) pg tx (takT d q rw') hw ha cs → Q (takA d q) w') : f_X4_takes q w Q := by
  have hwf := hw'.1
  obtain ⟨hr, hr2⟩ := takR_r (d := d) (q := q)
  unfold f_X4_takes tS
  refine t_by (h.thr (i := 0) (v := 0)) hw' (fun w1 g1 r1 f1 => ?_)
  by_cases c : takR d q < 0
  · refine t_takesOne0 g1.1 hwf.1 (by omega) h1 c (br0_F ⟨by omega, by omega⟩ (by omega) ?_)
    unfold takM takT takA at hQ
    rw [if_pos c, if_pos c, if_pos c, if_pos c] at hQ
    exact hQ w1 g1
  · obtain ⟨hin, p, ps, hp⟩ := hr2 c
    obtain ⟨m, rfl⟩ : ∃ m : Nat, q = m := ⟨q.toNat, by omega⟩
    unfold takM takT takA at hQ
    rw [if_neg c, if_neg c, if_neg c, if_neg c, hp] at hQ
    rw [Int.toNat_natCast] at hp hQ
    have h5 : m < 5 := hwf.1.hq hin.2
    have hpo : PsOK _ _ p := (hwf.1.wl h5).2.2.2.2.1 p (by rw [hp]; exact List.mem_cons_self)
    refine t_takesOne g1.1 (Or.inl rfl) hwf.1 (by omega) hin.2 hp (fun w2 a g2 f2 a0 a1 ep => ?_)
    have g3 : Tn w2 (takeD d m p) un pg tx rw' hw ha cs := g1.row g2 (take_9 h5) (fun j hj => f2 j (by omega))
    have g4 := g3.row0
    have hb := hwf.1.1.1
    obtain ⟨p0, p1, p2, p3, p4⟩ := hpo
    have b3 := hb (89 * m + 3)
    have b4 := hb (89 * m + 4)
    refine br0_T ⟨by omega, by omega⟩ a0 ⟨⟨by omega, by omega⟩, ?_⟩
    rw [tw_ne (by decide), ep 2 (by omega) (by omega)]
    refine ⟨⟨by omega, by omega⟩, T_tell g4 (by simp) (fun w3 g5 f3 => ⟨⟨by omega, by omega⟩, ?_⟩)⟩
    rw [f3 20 (by decide) (by decide), tw_ne (by decide), ep 3 (by omega) (by omega)]
    refine ⟨⟨by omega, by omega⟩, T_tell g5 (by simp) (fun w4 g6 f4 => ⟨⟨by omega, by omega⟩, ?_⟩)⟩
    rw [f4 20 (by decide) (by decide), f3 20 (by decide) (by decide), tw_ne (by decide), ep 4 (by omega) (by omega)]
    refine ⟨⟨by omega, by omega⟩, T_tell g6 (by simp) (fun w5 g7 f5 => ⟨⟨by omega, by omega⟩, ⟨by omega, by omega⟩, ?_⟩)⟩
    rw [f5 20 (by decide) (by decide), f4 20 (by decide) (by decide), f3 20 (by decide) (by decide), tw_ne (by decide), ep 0 (by omega) (by omega), ep 1 (by omega) (by omega)]
    refine t_adds' g7 ⟨by omega, by omega⟩ hw'.2.1 hw'.lens hwf.1.lens ?_ hwf.1.many.2 ?_ (fun w6 g8 f6 => hQ w6 g8)
    · rw [f5 23 (by decide) (by decide), f4 23 (by decide) (by decide), f3 23 (by decide) (by decide), tw_ne (by decide), f2 23 (by decide)]
      exact r1
    · have ff : ∀ j, j ≠ 1 → j ≠ 2 → j ≠ 20 → w5 j = w1 j := fun j j1 j2 j3 => by rw [f5 j j1 j2, f4 j j1 j2, f3 j j1 j2, tw_ne j1, f2 j j3]
      rw [ff 16 (by decide) (by decide) (by decide), ff 17 (by decide) (by decide) (by decide), ff 18 (by decide) (by decide) (by decide), ff 19 (by decide) (by decide) (by decide)]
      exact g1.1.2.2
theorem S_takes {Q : Int → Wd → Prop} {k n : Nat} {q : Int} (h : Sy G x d un pg tx rw' hw ha cs B) (hB : B + 10 ≤ 70000000) (h1' : R32 q) (hk : 9400 ≤ k) (hn : 75200 ≤ n) (hQ : ∀ G', Sy G' x (takM d q) (if takR d q < 0 then un else remU un d) pg tx (takT d q rw') hw ha cs (B + 10) → FQ G G' → Q (takA d q) G') : f_X1_takes k n x q G Q := by
  have h0 := h
  obtain ⟨A, rf, E, dr, u, ru, ai, ar, ah, h1, h2, h3, h4, h5, h6⟩ := h
  have hd := h2.d0 h1
  have hwf := h2.2.2.2.2.1
  obtain ⟨hr, hr2⟩ := takR_r (d := d) (q := q)
  unfold f_X1_takes
  refine gQ_0 h1 (p_refusesTaking hd hwf.1.many h1' ?_)
  by_cases c : takR d q < 0
  · unfold takM takT takA at hQ
    rw [if_pos c, if_pos c, if_pos c, if_pos c] at hQ
    exact br0_F ⟨by omega, by omega⟩ (by omega) (hQ G (h0.mono (by omega) hB) FrX.refl)
  · obtain ⟨hin, p, ps, hp⟩ := hr2 c
    obtain ⟨m, rfl⟩ : ∃ m : Nat, q = m := ⟨q.toNat, by omega⟩
    unfold takM takT takA at hQ
    rw [if_neg c, if_neg c, if_neg c, if_neg c, hp] at hQ
    rw [Int.toNat_natCast] at hp hQ
    have hm5 : m < 5 := hwf.1.hq hin.2
    have hpo : PsOK _ _ p := (hwf.1.wl hm5).2.2.2.2.1 p (by rw [hp]; exact List.mem_cons_self)
    have hb := hwf.1.1.1
    obtain ⟨p0, p1, p2, p3, p4⟩ := hpo
    have b3 := hb (89 * m + 3)
    have b4 := hb (89 * m + 4)
    refine br0_T ⟨by omega, by omega⟩ (by omega) (gQ_0 h1 ⟨96, 768, ⟨by omega, by omega⟩, cQ h1, q_remember h1 h2 h3 h4 h5 h6 (by omega) (by omega) (fun G1 dr1 u1 ar1 ah1 g1 g2 g3 g4 g5 g6 f1 => ?_)⟩)
    have d1 := g2.d0 g1
    refine gQ_0 g1 (nn_of (gD_0 d1 (nn_of (xldL d1 hm5 (nn_of ⟨cL d1 hm5, p_X3_take d1 (by omega) hm5 hp p0 (fun y G2 y1 d2 f2 => ?_)⟩)))))
    have s2 : Sy G2 x (takeD d m p) (remU un d) pg tx rw' hw ha cs (B + 10) := Sy.step g1 g2 g3 g4 g5 g6 f2.x d2 ((hwf.1.take hin.2 hp).mono (by omega)) (take_9 hm5) (by omega) hB
    obtain ⟨z, z1, z2⟩ := y1
    refine q_row0 s2 (fun G3 s3 f3 => ?_)
    have z3 := f3.2.1 _ _ z1
    have z4 := f3.2.1 _ _ z2
    refine nn_of (gR_of z3 (by decide) rfl (nn_of (gI_of z4 (by decide) rfl ⟨⟨by omega, by omega⟩, s3.cq, q_tell s3 (by simp) (fun G4 s4 f4 => ?_)⟩)))
    have z5 := f4.2.1 _ _ z3
    refine gI_of z5 (by decide) rfl ⟨⟨by omega, by omega⟩, s4.cq, q_tell s4 (by simp) (fun G5 s5 f5 => ?_)⟩
    have z6 := f5.2.1 _ _ z5
    refine gI_of z6 (by decide) rfl ⟨⟨by omega, by omega⟩, s5.cq, q_tell s5 (by simp) (fun G6 s6 f6 => ?_)⟩
    have z7 := f6.2.1 _ _ z6
    have z8 := f6.2.1 _ _ (f5.2.1 _ _ (f4.2.1 _ _ z4))
    exact gR_of z7 (by decide) rfl (nn_of (gI_of z8 (by decide) rfl (gR_of z7 (by decide) rfl (nn_of (gI_of z8 (by decide) rfl (hQ G6 s6 (f1.trans ((f2.x.wide (by omega) (by omega)).trans (f3.trans (f4.trans (f5.trans f6)))))))))))
end
