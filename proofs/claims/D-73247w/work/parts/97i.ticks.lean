/-! PURE PROOFS: ticks on both -/
set_option maxRecDepth 100000
section
variable {G : Wd} {x : Nat} {w : Tw} {d : DS} {un : List DS} {pg : Nat → Option DS} {tx rw' hw ha cs : List Int} {B : Int}
variable {A : Nat → Nat} {rf : Nat → Nat → Nat → Nat} {E : Nat → Bool} {dr : Nat → DS} {u : Nat → Int} {ru : Option Nat} {ai : Nat → Int → Int} {ar : Nat → Int → Option Nat} {ah : Nat → Nat}
def tikM (d : DS) (t : Tmf) (m : Int) : DS := if 0 ≤ m ∧ m ≤ 60 then tickN t m.toNat (copyD d) else d
def tikA (d : DS) (t : Tmf) (m : Int) : Int := if 0 ≤ m ∧ m ≤ 60 then (tickN t m.toNat (copyD d)).s 902 else -1
def tikT (d : DS) (t : Tmf) (m : Int) (rw' : List Int) : List Int := if 0 ≤ m ∧ m ≤ 60 then [(tickN t m.toNat (copyD d)).s 901, idleN t m.toNat (copyD d)] else rw'
theorem tickN_wf {t : Tmf} : ∀ (n : Nat) (d : DS) (B : Int), WF d B → 99 ≤ B → WF (tickN t n d) (B + 200 * n) ∧ (tickN t n d).s 900 = d.s 900
  | 0, d, B, h, _ => ⟨h.mono (by omega), rfl⟩
  | n + 1, d, B, h, h9 => by
    have k := tickN_wf (t := t) n (tickD t d) (B + 200) (h.tick h9) (by omega)
    exact ⟨k.1.mono (by omega), k.2.trans (tickD_lo h h9)⟩
theorem idleN_r {t : Tmf} : ∀ (n : Nat) (d : DS), 0 ≤ idleN t n d ∧ idleN t n d ≤ n
  | 0, d => ⟨Int.le_refl _, Int.le_refl _⟩
  | n + 1, d => by
    have k := idleN_r (t := t) n (tickD t d)
    unfold idleN
    split <;> omega
theorem T_ticks {Q : Int → Tw → Prop} {m : Int} (h : Tn w d un pg tx rw' hw ha cs) (hw' : Wl d un pg B) (h1 : R32 m) (hQ : ∀ w', Tn w' (tikM d (tmC cs) m) (if tikA d (tmC cs) m = -1 ∧ ¬ (0 ≤ m ∧ m ≤ 60) then un else remU un d) pg tx (tikT d (tmC cs) m rw') hw ha cs → Q (tikA d (tmC cs) m) w') : f_X4_ticks m w Q := by
  have hwf := hw'.1
  unfold f_X4_ticks tS
  have g0 := h.thr (i := 0) (v := 0)
  refine ⟨h1, t_in h1 r0 ⟨by decide, by decide⟩ ?_⟩
  by_cases c : 0 ≤ m ∧ m ≤ 60
  · rw [decide_eq_true c]
    obtain ⟨n, rfl⟩ : ∃ n : Nat, m = n := ⟨m.toNat, by omega⟩
    unfold tikM tikA tikT at hQ
    rw [if_pos c, if_pos c, if_pos c, if_neg (fun z => z.2 c), Int.toNat_natCast] at hQ
    refine brB_T (t_by g0 hw' (fun w1 g1 r1 f1 => ?_))
    have hc := hwf.1.copy (by omega)
    have t1 : TwA w1 20 (copyD d) := g1.1.row (Or.inl rfl) TFr.refl g1.1.1.cpd hc.2 (fun q hq f f0 f1 => by show iup (iup d.s _ _) _ _ _ = _; have := hwf.1.many; rw [iup_ne (by omega), iup_ne (by omega)])
    have k := tickN_wf (t := tmC cs) n (copyD d) B hc.1 (by omega)
    have hi := idleN_r (t := tmC cs) n (copyD d)
    have hb := k.1.1.1
    have b1 := hb 901
    have b2 := hb 902
    have z1 : (copyD d).s 901 = 0 := by show iup (iup d.s 901 0) 902 0 901 = 0; rw [iup_ne (by decide), iup_at]
    have z2 : (copyD d).s 902 = 0 := by show iup (iup d.s 901 0) 902 0 902 = 0; rw [iup_at]
    refine t_ticksGo t1 (Or.inl rfl) (by omega) hc.1 (by omega) (by omega) g1.rule (fun w2 t2 f2 c24 c25 c26 => ?_)
    rw [z1] at c25
    rw [z2] at c24
    have g3 : Tn w2 (tickN (tmC cs) n (copyD d)) un pg tx rw' hw ha cs := g1.row t2 (k.2.trans hc.2) (fun j hj => f2 j (by omega) (by omega) (by omega) (by omega) (by omega) (by omega))
    have g4 := g3.row0
    rw [tw_ne (show (25 : Nat) ≠ 1 by decide), c25]
    refine ⟨⟨by omega, by omega⟩, T_tell g4 (by simp) (fun w3 g5 f3 => ?_)⟩
    rw [f3 26 (by decide) (by decide), tw_ne (show (26 : Nat) ≠ 1 by decide), c26]
    refine ⟨⟨by omega, by omega⟩, T_tell g5 (by simp) (fun w4 g6 f4 => ?_)⟩
    rw [f4 24 (by decide) (by decide), f3 24 (by decide) (by decide), tw_ne (show (24 : Nat) ≠ 1 by decide), c24]
    refine t_adds' g6 ⟨by omega, by omega⟩ hw'.2.1 hw'.lens hwf.1.lens ?_ hwf.1.many.2 ?_ (fun w5 g7 f5 => ?_)
    · rw [f4 23 (by decide) (by decide), f3 23 (by decide) (by decide), tw_ne (by decide), f2 23 (by decide) (by decide) (by decide) (by decide) (by decide) (by decide)]
      exact r1
    · have ff : ∀ j, j ≠ 1 → j ≠ 2 → j ≠ 20 → j ≠ 12 → j ≠ 13 → j ≠ 24 → j ≠ 25 → j ≠ 26 → w4 j = w1 j := fun j j1 j2 j3 j4 j5 j6 j7 j8 => by rw [f4 j j1 j2, f3 j j1 j2, tw_ne j1, f2 j j3 j4 j5 j6 j7 j8]
      rw [ff 16 (by decide) (by decide) (by decide) (by decide) (by decide) (by decide) (by decide) (by decide), ff 17 (by decide) (by decide) (by decide) (by decide) (by decide) (by decide) (by decide) (by decide), ff 18 (by decide) (by decide) (by decide) (by decide) (by decide) (by decide) (by decide) (by decide), ff 19 (by decide) (by decide) (by decide) (by decide) (by decide) (by decide) (by decide) (by decide)]
      exact g1.1.2.2
    · have := hQ w5 (by simpa using g7)
      simpa using this
  · rw [decide_eq_false c]
    unfold tikM tikA tikT at hQ
    rw [if_neg c, if_neg c, if_neg c, if_pos ⟨rfl, c⟩] at hQ
    exact brB_F (hQ _ g0)
theorem cmds_le : ∀ (l : List Rec), cmds l ≤ 2 * l.length
  | [] => Nat.le_refl _
  | w :: l => by
    have := cmds_le l
    unfold cmds
    rw [List.length_cons]
    split <;> omega
theorem Phi_le (h : WF d B) : Phi d ≤ 193 := by
  have h1 := tot_le h
  have h2 := cmds_le d.run
  have h3 := h.2.2.1.1
  have h4 := h.outlen
  unfold Phi
  omega
theorem Sy.n13 {K : Int → Prop} (h : Sy G x d un pg tx rw' hw ha cs B) (hk : K (d.s 901)) : gR G x [0] 0 (fun y => nn y (fun a => gI G a [1] 13 K)) := by
  obtain ⟨A, rf, E, dr, u, ru, ai, ar, ah, h1, h2, -⟩ := h
  exact gQ_0 h1 (nn_of (gD_13 (h2.d0 h1) hk))
theorem Sy.n14 {K : Int → Prop} (h : Sy G x d un pg tx rw' hw ha cs B) (hk : K (d.s 902)) : gR G x [0] 0 (fun y => nn y (fun a => gI G a [1] 14 K)) := by
  obtain ⟨A, rf, E, dr, u, ru, ai, ar, ah, h1, h2, -⟩ := h
  exact gQ_0 h1 (nn_of (gD_14 (h2.d0 h1) hk))
theorem q_ticks_42 {Q : Int → Wd → Prop} {N : Nat} (hN : N ≤ 60) : ∀ (j : Nat) (e : DS) (B : Int) (G : Wd) (dr : Nat → DS) (k n : Nat) (l2 : Int), j ≤ N → Wo G x A rf E dr u ru ai ar → AbD rf E dr ah (ar 3) (ar 20) (ai 21) (u 4) (u 5) e un pg B → AbT (u 7) (ai 6) tx → AbR (u 9) (ai 8) rw' → AbH (u 16) (ai 14) (ai 15) hw ha → RuleT G ru (tmC cs) → B + 200 * j ≤ 70000000 → 21 * j + Phi e ≤ k → 8 * (21 * j + Phi e) ≤ n → (0 ≤ l2 ∧ l2 ≤ 60 - j) →
    (∀ G', Sy G' x (tickN (tmC cs) j e) un pg tx [(tickN (tmC cs) j e).s 901, l2 + idleN (tmC cs) j e] hw ha cs (B + 200 * j) → FQ G G' → Q ((tickN (tmC cs) j e).s 902) G') → f_X1_ticks_42 x Q (j + 1) k n N l2 ((N : Int) - j) G := by
  intro j
  induction j with
  | zero =>
    intro e B G dr k n l2 hj h1 h2 h3 h4 h5 h6 hB hk hn hl2 hQ
    have hb := h2.2.2.2.2.1
    have b1 := hb.1.1.1 901
    have s0 : Sy G x e un pg tx rw' hw ha cs B := ⟨A, rf, E, dr, u, ru, ai, ar, ah, h1, h2, h3, h4, h5, h6⟩
    unfold f_X1_ticks_42 f_X1_ticks_42_b
    refine br_T ⟨by omega, by omega⟩ ⟨by omega, by omega⟩ (by omega) (q_row0 s0 (fun G1 s1 f1 => s1.n13 ⟨⟨by omega, by omega⟩, s1.cq, q_tell s1 (by simp) (fun G2 s2 f2 => ⟨⟨by omega, by omega⟩, s2.cq, q_tell s2 (by simp) (fun G3 s3 f3 => s3.n14 (hQ G3 ?_ (f1.trans (f2.trans f3))))⟩)⟩))
    have s4 : Sy G3 x e un pg tx [e.s 901, l2] hw ha cs B := s3
    rw [show l2 + idleN (tmC cs) 0 e = l2 by show l2 + (0 : Int) = l2; omega]
    exact s4.mono (by omega) (by omega)
  | succ j ih =>
    intro e B G dr k n l2 hj h1 h2 h3 h4 h5 h6 hB hk hn hl2 hQ
    have hb := h2.2.2.2.2.1
    have hd := h2.d0 h1
    have hph := tick_phi (t := tmC cs) hb.1 (by omega)
    unfold f_X1_ticks_42 f_X1_ticks_42_b f_X1_ticks_77
    refine br_F ⟨by omega, by omega⟩ ⟨by omega, by omega⟩ (by omega) (gQ_0 h1 (gQ_10 h1 (nn_of ⟨21 + Phi e - Phi (tickD (tmC cs) e), 8 * (21 + Phi e - Phi (tickD (tmC cs) e)), ⟨by omega, by omega⟩, cD hd, p_X2_goTick hd (by omega) hb.1 (by omega) (by omega) h6 (by omega) (by omega) (fun G1 d1 f1 => ?_)⟩)))
    have w1 := h1.upd (i := 0) f1.x (by omega) d1
    have a1 := h2.now (hb.1.tick (t := tmC cs) (by omega)) (tickD_lo hb.1 (by omega)) (by omega) (by omega)
    refine gQ_0 w1 (nn_of (gD_1 d1 (nn_of ⟨cRun d1, x_runEmpty d1 ?_⟩)))
    rw [show (N : Int) - ((j + 1 : Nat) : Int) + 1 = (N : Int) - j by omega]
    have nx : ∀ y : Int, y = (if (tickD (tmC cs) e).run.isEmpty = true then 1 else 0) → f_X1_ticks_42 x Q (j + 1) (k - (21 + Phi e - Phi (tickD (tmC cs) e))) (n - 8 * (21 + Phi e - Phi (tickD (tmC cs) e))) N (l2 + y) ((N : Int) - j) G1 := by
      rintro y rfl
      refine ih (tickD (tmC cs) e) (B + 200) G1 _ _ _ _ (by omega) w1 a1 h3 h4 h5 (h6.x f1.x) (by omega) (by omega) (by omega) (by split <;> omega) (fun G' s' f' => ?_)
      refine hQ G' ?_ ((f1.x.wide (by omega) (by omega)).trans f')
      rw [show B + 200 * ((j + 1 : Nat) : Int) = B + 200 + 200 * (j : Nat) by omega]
      have : l2 + idleN (tmC cs) (j + 1) e = l2 + (if (tickD (tmC cs) e).run.isEmpty = true then 1 else 0) + idleN (tmC cs) j (tickD (tmC cs) e) := by
        show l2 + ((if (tickD (tmC cs) e).run.isEmpty = true then (1 : Int) else 0) + idleN (tmC cs) j (tickD (tmC cs) e)) = _
        omega
      rw [this]
      exact s'
    cases hrn : (tickD (tmC cs) e).run.isEmpty with
    | true => exact brB_T (nx 1 (by rw [hrn]; rfl))
    | false => exact brB_F (nx 0 (by rw [hrn]; rfl))
theorem S_ticks {Q : Int → Wd → Prop} {k n : Nat} {m : Int} (h : Sy G x d un pg tx rw' hw ha cs B) (hB : B + 12000 ≤ 70000000) (h1' : R32 m) (hk : 9400 ≤ k) (hn : 75200 ≤ n) (hQ : ∀ G', Sy G' x (tikM d (tmC cs) m) (if tikA d (tmC cs) m = -1 ∧ ¬ (0 ≤ m ∧ m ≤ 60) then un else remU un d) pg tx (tikT d (tmC cs) m rw') hw ha cs (B + 12000) → FQ G G' → Q (tikA d (tmC cs) m) G') : f_X1_ticks k n x m G Q := by
  have h0 := h
  obtain ⟨A, rf, E, dr, u, ru, ai, ar, ah, h1, h2, h3, h4, h5, h6⟩ := h
  have hwf := h2.2.2.2.2.1
  unfold f_X1_ticks
  refine ⟨h1', p_in h1' r0 ⟨by decide, by decide⟩ ?_⟩
  by_cases c : 0 ≤ m ∧ m ≤ 60
  · rw [decide_eq_true c]
    obtain ⟨N, rfl⟩ : ∃ n : Nat, m = n := ⟨m.toNat, by omega⟩
    unfold tikM tikA tikT at hQ
    rw [if_pos c, if_pos c, if_pos c, if_neg (fun z => z.2 c), Int.toNat_natCast] at hQ
    refine brB_T (gQ_0 h1 ⟨96, 768, ⟨by omega, by omega⟩, cQ h1, q_remember h1 h2 h3 h4 h5 h6 (by omega) (by omega) (fun G1 dr1 u1 ar1 ah1 g1 g2 g3 g4 g5 g6 f1 => ?_)⟩)
    have d1 := g2.d0 g1
    refine gQ_0 g1 (nn_of (pD_13 d1 (by omega) (fun G2 d2 f2 => ?_)))
    have w2 := g1.upd (i := 0) f2.x (by omega) d2
    refine gQ_0 w2 (nn_of (pD_14 d2 (by omega) (fun G3 d3 f3 => ⟨N + 1, ?_⟩)))
    have d3 : DrA G3 10 (rf 0 8 0) (rf 0) (copyD d) := d3
    have hc := hwf.1.copy (by omega)
    have fr : FrX 10 110 G1 G3 := f2.x.trans f3.x
    have w3 := g1.upd (i := 0) fr (by omega) d3
    have a3 := g2.now hc.1 hc.2 (Int.le_refl _) (by omega)
    have hp := Phi_le hc.1
    have lp := q_ticks_42 (Q := Q) (tx := tx) (rw' := rw') (hw := hw) (ha := ha) (cs := cs) (N := N) (by omega) N (copyD d) B G3 _ (k - 96) (n - 768) 0 (Nat.le_refl _) w3 a3 g3 g4 g5 (g6.x fr) (by omega) (by omega) (by omega) ⟨by omega, by omega⟩ (fun G' s' f' => by
      refine hQ G' ?_ (f1.trans ((fr.wide (by omega) (by omega)).trans f'))
      rw [show (0 : Int) + idleN (tmC cs) N (copyD d) = idleN (tmC cs) N (copyD d) by omega] at s'
      exact s'.mono (by omega) hB)
    rw [show (N : Int) - (N : Nat) = 0 by omega] at lp
    exact lp
  · rw [decide_eq_false c]
    unfold tikM tikA tikT at hQ
    rw [if_neg c, if_neg c, if_neg c, if_pos ⟨rfl, c⟩] at hQ
    exact brB_F (hQ G (h0.mono (by omega) hB) FrX.refl)
end
