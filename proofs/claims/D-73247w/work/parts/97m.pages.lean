/-! PURE PROOFS: again and keep on both -/
set_option maxRecDepth 100000
def agB (d : DS) (pg : Nat → Option DS) (i : Int) : Bool := decide (0 ≤ i ∧ i ≤ 1) && match pg i.toNat with
  | none => false
  | some e => decide (e.s 900 = d.s 900)
def agM (d : DS) (pg : Nat → Option DS) (i : Int) : DS := if agB d pg i = true then (match pg i.toNat with
  | none => d
  | some e => copyD e) else d
def kpP (d : DS) (pg : Nat → Option DS) (i : Int) : Nat → Option DS := if 0 ≤ i ∧ i ≤ 1 then nup pg i.toNat (some (copyD d)) else pg
section
variable {G : Wd} {x : Nat} {w : Tw} {d : DS} {un : List DS} {pg : Nat → Option DS} {tx rw' hw ha cs : List Int} {B : Int}
variable {A : Nat → Nat} {rf : Nat → Nat → Nat → Nat} {E : Nat → Bool} {dr : Nat → DS} {u : Nat → Int} {ru : Option Nat} {ai : Nat → Int → Int} {ar : Nat → Int → Option Nat} {ah : Nat → Nat}
theorem S_again {Q : Bool → Wd → Prop} {k n : Nat} {i : Int} (h : Sy G x d un pg tx rw' hw ha cs B) (h1' : R32 i) (hk : 9400 ≤ k) (hn : 75200 ≤ n) (hQ : ∀ G', Sy G' x (agM d pg i) (if agB d pg i = true then [] else un) pg tx rw' hw ha cs B → FQ G G' → Q (agB d pg i) G') : f_X1_again k n x i G Q := by
  have h0 := h
  obtain ⟨A, rf, E, dr, u, ru, ai, ar, ah, h1, h2, h3, h4, h5, h6⟩ := h
  obtain ⟨k1, k2, k3, k4, k5, k6, k7, k8, k9, k10, k11⟩ := id h2
  have no : agB d pg i = false → Q false G := by
    intro e
    have := hQ G (by unfold agM; rw [e]; exact h0) FrX.refl
    rw [e] at this
    exact this
  unfold f_X1_again
  refine ⟨h1', p_in h1' r0 ⟨by decide, by decide⟩ ?_⟩
  by_cases c : 0 ≤ i ∧ i ≤ 1
  · rw [decide_eq_true c]
    obtain ⟨m, rfl⟩ : ∃ m : Nat, i = m := ⟨i.toNat, by omega⟩
    refine brB_T (gQ_20 h1 (nn_of (ldQ_20 h1 (by omega) (by omega) ?_)))
    have hm := k5.1.many
    rcases k11 m (by omega) with ⟨z1, z2, z3⟩ | ⟨e, e1, e2, e3, e4, e5, e6, e7⟩
    · rw [z2]
      exact brN_N (no (by unfold agB; rw [Int.toNat_natCast, z1]; simp))
    · rw [e2]
      refine brN_S (gQ_21 h1 (nn_of (ldQ_21 h1 (by omega) (by omega) (gQ_5 h1 ?_))))
      rw [e5, k10]
      have em := e6.many
      by_cases c9 : e.s 900 = d.s 900
      · have eB : agB d pg m = true := by unfold agB; rw [decide_eq_true c, Int.toNat_natCast, e1]; simp [c9]
        have eM : agM d pg m = copyD e := by unfold agM; rw [if_pos eB, Int.toNat_natCast, e1]
        rw [eM, if_pos eB, eB] at hQ
        refine br_T ⟨by omega, by omega⟩ ⟨by omega, by omega⟩ c9 (gQ_0 h1 (gQ_20 h1 (nn_of (ldQ_20 h1 (by omega) (by omega) ?_))))
        rw [e2]
        have hd := h2.d0 h1
        have hs := h1.drv (i := 11 + m) (by omega) e3
        rw [e4] at hs
        refine nn_of ⟨96, 768, ⟨by omega, by omega⟩, cD hd, p_X2_be hd hs (by omega) (by omega) (by omega) (fun q hq => k3 0 _ q (by omega) (by omega) (k1 0 (by omega)) e3 (by omega) hq) e6 (fun q hq hq9 => by have := k4 0 (by omega) (k1 0 (by omega)) q hq (by omega); rw [k2] at this; exact this) (by omega) (by omega) (fun G2 d2 s2 f2 => ?_)⟩
        have w2 := h1.upd (i := 0) f2 (by omega) d2
        have hc := e6.copy (by omega)
        have a2 := (h2.pop (m := 0)).now hc.1 (hc.2.trans c9) (Int.le_refl _) k5.2.2
        refine pQ_4 w2 (fun G3 w3 f3 => hQ G3 ⟨A, rf, E, _, _, ru, ai, ar, ah, w3, ?_, h3, h4, h5, (h6.x f2).x f3⟩ ((f2.wide (by omega) (by omega)).trans (f3.wide (by omega) (by omega))))
        exact a2
      · exact br_F ⟨by omega, by omega⟩ ⟨by omega, by omega⟩ c9 (no (by unfold agB; rw [Int.toNat_natCast, e1]; simp [c9]))
  · rw [decide_eq_false c]
    exact brB_F (no (by unfold agB; rw [decide_eq_false c]; rfl))
theorem S_keep {Q : Bool → Wd → Prop} {k n : Nat} {i : Int} (h : Sy G x d un pg tx rw' hw ha cs B) (h1' : R32 i) (hk : 9400 ≤ k) (hn : 75200 ≤ n) (hQ : ∀ G', Sy G' x d un (kpP d pg i) tx rw' hw ha cs B → FQ G G' → Q (decide (0 ≤ i ∧ i ≤ 1)) G') : f_X1_keep k n x i G Q := by
  have h0 := h
  obtain ⟨A, rf, E, dr, u, ru, ai, ar, ah, h1, h2, h3, h4, h5, h6⟩ := h
  obtain ⟨k1, k2, k3, k4, k5, k6, k7, k8, k9, k10, k11⟩ := id h2
  unfold f_X1_keep
  refine ⟨h1', p_in h1' r0 ⟨by decide, by decide⟩ ?_⟩
  by_cases c : 0 ≤ i ∧ i ≤ 1
  · rw [decide_eq_true c] at hQ ⊢
    obtain ⟨m, rfl⟩ : ∃ m : Nat, i = m := ⟨i.toNat, by omega⟩
    unfold kpP at hQ
    rw [if_pos c, Int.toNat_natCast] at hQ
    have hc := k5.1.copy (by omega)
    have fin : ∀ (G1 : Wd) (rf1 : Nat → Nat → Nat → Nat) (E1 : Nat → Bool) (dr1 : Nat → DS) (ar1 : Nat → Int → Option Nat) (k' n' : Nat), Wo G1 x A rf1 E1 dr1 u ru ai ar1 → E1 (11 + m) = true → (∀ j, j ≠ 11 + m → E1 j = E j ∧ rf1 j = rf j ∧ dr1 j = dr j) → (∀ i j q, i < 13 → j < 13 → E1 i = true → E1 j = true → i ≠ j → q < 5 → rf1 i q 3 ≠ rf1 j q 3) → (∀ q : Nat, q < 5 → d.s 900 ≤ q → Lz (dr1 (11 + m)) q) → ar1 20 (m : Nat) = some (rf1 (11 + m) 8 0) → (∀ j : Int, j ≠ m → ar1 20 j = ar 20 j) → (∀ j, j ≠ 20 → ar1 j = ar j) → FQ G G1 → 96 ≤ k' → 768 ≤ n' → f_X1_keep_34 x k' n' m G1 Q := by
      intro G1 rf1 E1 dr1 ar1 k' n' w1 hE ho hdis hlz ha20 ha20' har f1 hk' hn'
      unfold f_X1_keep_34
      refine gQ_20 w1 (nn_of (ldQ_20 w1 (by omega) (by omega) ?_))
      rw [ha20]
      have E0 : E1 0 = true := by rw [(ho 0 (by omega)).1]; exact k1 0 (by omega)
      have ht := w1.drv (i := 11 + m) (by omega) hE
      have hs := w1.drv (i := 0) (by omega) E0
      rw [(ho 0 (by omega)).2.2, k2] at hs
      refine gQ_0 w1 (nn_of ⟨96, 768, ⟨by omega, by omega⟩, cD ht, p_X2_be ht hs (by omega) (by omega) (by omega) (fun q hq => hdis _ 0 q (by omega) (by omega) hE E0 (by omega) hq) k5.1 hlz (by omega) (by omega) (fun G2 d2 s2 f2 => ?_)⟩)
      have w2 := w1.upd (i := 11 + m) f2 (by omega) d2
      refine gQ_21 w2 (gQ_5 w2 (nn_of (stQ_21 w2 (by omega) (by omega) (fun G3 w3 f3 => hQ G3 ⟨A, rf1, E1, _, u, ru, _, ar1, ah, w3, ?_, h3, h4, h5, ((h6.x f1).x f2).x f3⟩ (f1.trans ((f2.q (by omega)).trans (f3.wide (by omega) (by omega))))))))
      rw [nup_at]
      refine ⟨fun j hj => by rw [(ho j (by omega)).1]; exact k1 j hj, by rw [nup_ne (by omega), (ho 0 (by omega)).2.2]; exact k2, hdis, fun j hj he q hq hq9 => ?_, k5, ⟨fun j hj => ?_, fun j hj => by rw [har 3 (by decide)]; exact k6.2 j hj⟩, k7, k8, fun j e he => ?_, k10, fun j hj => ?_⟩
      · by_cases ej : j = 11 + m
        · subst ej; rw [nup_at]; exact hc.1.pris (by rw [hc.2]; exact hq9) hq
        · rw [nup_ne ej, (ho j ej).2.2]
          exact k4 j hj (by rw [← (ho j ej).1]; exact he) q hq hq9
      · have := k6.1 j hj
        rw [har 3 (by decide), (ho (ah j) (by omega)).2.1]
        exact this
      · have hlt := get_lt he
        have := (k6.1 j (by omega)).2
        rw [nup_ne (by omega), (ho (ah j) (by omega)).2.2]
        exact k9 j e he
      · by_cases ej : j = m
        · subst ej
          right
          exact ⟨copyD d, nup_at, ha20, hE, nup_at, by rw [iup_at, k10, hc.2], hc.1, by rw [hc.2]; exact Int.le_refl _⟩
        · rw [nup_ne ej, ha20' j (by omega), (ho (11 + j) (by omega)).1, (ho (11 + j) (by omega)).2.1, nup_ne (by omega), (ho (11 + j) (by omega)).2.2, iup_ne (by omega)]
          exact k11 j hj
    refine brB_T (gQ_20 h1 (nn_of (ldQ_20 h1 (by omega) (by omega) ?_)))
    rcases k11 m (by omega) with ⟨z1, z2, z3⟩ | ⟨e, e1, e2, e3, e4, e5, e6, e7⟩
    · rw [z2]
      refine brN_N (gQ_20 h1 (nO_of (100 * (11 + m) + 10) (by omega) (by omega) (by omega) (fun y hy => ⟨43, 344, ⟨by omega, by omega⟩, p_X2_init (D := 100 * (11 + m) + 10) wset_at (by omega) (by omega) (by omega) (fun G1 rfn dn e8 f1 dn3 => nn_of ?_)⟩)))
      have ff : ∀ r, (r < 100 * (11 + m) + 10 ∨ 100 * (11 + m) + 10 + 100 ≤ r) → G1 r = G r := fun r hr => by rw [f1 r hr, wset2 (by omega)]
      have fx : FrX (100 * (11 + m) + 10) (100 * (11 + m) + 110) G G1 := ⟨fun r _ _ _ _ hr => ff r (by omega), fun b e hb => by rw [ff 1 (by omega)]; exact hb, by rw [ff 5 (by omega)]; exact Ex5.refl⟩
      have w1 : Wo G1 x A (nup rf (11 + m) rfn) (nup E (11 + m) true) (nup dr (11 + m) newD) u ru ai ar := by
        have e : ∀ r, 1999 < r → r < 2100 → G1 r = G r := fun r r1 r2 => ff r (by omega)
        refine ⟨?_, fun j hj he => ?_, by rw [e _ (by omega) (by omega)]; exact h1.a3, by rw [e _ (by omega) (by omega)]; exact h1.a6, by rw [e _ (by omega) (by omega)]; exact h1.a8, by rw [e _ (by omega) (by omega)]; exact h1.a14, by rw [e _ (by omega) (by omega)]; exact h1.a15, by rw [e _ (by omega) (by omega)]; exact h1.a17, by rw [e _ (by omega) (by omega)]; exact h1.a18, by rw [e _ (by omega) (by omega)]; exact h1.a20, by rw [e _ (by omega) (by omega)]; exact h1.a21⟩
        · rw [e _ (by omega) (by omega), nup_ne (j := 0) (by omega), nup_ne (j := 1) (by omega), nup_ne (j := 2) (by omega)]; exact h1.1
        · by_cases ej : j = 11 + m
          · subst ej; rw [nup_at, nup_at, e8]; exact dn
          · rw [nup_ne ej] at he
            rw [nup_ne ej, nup_ne ej]
            exact (h1.drv hj he).otherX fx (by omega) (by omega)
      refine stQ_20 w1 (by omega) (by omega) (fun z hz => ?_) (fun G2 w2 f2 => ?_)
      · injection hz with hz
        exact ⟨100 * (11 + m) + 10, 1, _, by omega, by rw [← hz]; exact dn.1, by decide⟩
      refine fin G2 _ _ _ _ _ _ w2 nup_at (fun j hj => ⟨nup_ne hj, nup_ne hj, nup_ne hj⟩) (fun i' j q hi hj he1 he2 hij hq => ?_) (fun q hq _ => ?_) ?_ (fun j hj => ?_) (fun j hj => nup_ne hj) ((fx.wide (by omega) (by omega)).trans (f2.wide (by omega) (by omega))) (by omega) (by omega)
      · have other : ∀ j, j < 13 → j ≠ 11 + m → nup E (11 + m) true j = true → rfn q 3 ≠ rf j q 3 := by
          intro j hj ej he
          rw [nup_ne ej] at he
          obtain ⟨-, -, -, b, st, f, m6, -⟩ := (h1.drv hj he).lineq hq
          exact dn3 q (100 * j + 10 + 20 + 10 * q + 5) _ _ hq (by omega) (by rw [wset2 (by omega)]; exact m6)
        by_cases e1 : i' = 11 + m
        · subst e1
          rw [nup_at, nup_ne (fun z => hij z.symm)]
          exact other j hj (fun z => hij z.symm) he2
        · by_cases e2 : j = 11 + m
          · subst e2
            rw [nup_at, nup_ne e1]
            exact (other i' hi e1 he1).symm
          · rw [nup_ne e1, nup_ne e2]
            rw [nup_ne e1] at he1
            rw [nup_ne e2] at he2
            exact k3 i' j q hi hj he1 he2 hij hq
      · rw [nup_at]
        exact ⟨rfl, rfl, rfl, fun f f0 f1 => newS_lo (by omega), fun f f0 f1 => newS_lo (by omega)⟩
      · rw [nup_at, nup_at, e8]; unfold rup; rw [if_pos rfl]
      · rw [nup_at]; unfold rup; rw [if_neg hj]
    · rw [e2]
      exact brN_S (fin G rf E dr ar k n h1 e3 (fun j _ => ⟨rfl, rfl, rfl⟩) k3 (fun q hq hq9 => k4 (11 + m) (by omega) e3 q hq hq9) e2 (fun _ _ => rfl) (fun _ _ => rfl) FrX.refl (by omega) (by omega))
  · rw [decide_eq_false c] at hQ ⊢
    unfold kpP at hQ
    rw [if_neg c] at hQ
    exact brB_F (hQ G h0 FrX.refl)
theorem T_again {Q : Bool → Tw → Prop} {i : Int} (h : Tn w d un pg tx rw' hw ha cs) (hw' : Wl d un pg B) (h1' : R32 i) (hQ : ∀ w', Tn w' (agM d pg i) (if agB d pg i = true then [] else un) pg tx rw' hw ha cs → Q (agB d pg i) w') : f_X4_again i w Q := by
  have hwf := hw'.1
  have g0 := h.thr (i := 0) (v := 0)
  have no : agB d pg i = false → Q false (tup w 0 0 0) := by
    intro e
    have := hQ _ (by unfold agM; rw [e]; exact g0)
    rw [e] at this
    exact this
  unfold f_X4_again tS
  generalize hw0 : tup w 0 0 0 = w0 at g0 no
  refine ⟨h1', t_in h1' r0 ⟨by decide, by decide⟩ ?_⟩
  by_cases c : 0 ≤ i ∧ i ≤ 1
  · rw [decide_eq_true c]
    obtain ⟨m, rfl⟩ : ∃ m : Nat, i = m := ⟨i.toNat, by omega⟩
    refine brB_T ⟨⟨by omega, by omega⟩, ?_⟩
    obtain ⟨y1, y2, y3, y4, y5, y6, y7, y8, y9, y10⟩ := id g0
    have hm := hwf.1.many
    rcases y4 m (by omega) with ⟨z1, z2⟩ | ⟨e, e1, e2, e3, e4⟩
    · rw [z2]
      exact br0_T r0 rfl (no (by unfold agB; rw [Int.toNat_natCast, z1]; simp))
    · obtain ⟨m2, m3⟩ := hw'.2.2.2 m e (by omega) e1
      have em := m2.many
      rw [e2]
      refine br0_F r1 (by decide) ⟨⟨by omega, by omega⟩, ?_⟩
      rw [e3, y2]
      by_cases c9 : e.s 900 = d.s 900
      · have eB : agB d pg m = true := by unfold agB; rw [decide_eq_true c, Int.toNat_natCast, e1]; simp [c9]
        have eM : agM d pg m = copyD e := by unfold agM; rw [if_pos eB, Int.toNat_natCast, e1]
        rw [eM, if_pos eB, eB] at hQ
        refine br_T ⟨by omega, by omega⟩ ⟨by omega, by omega⟩ c9 ?_
        have lp : ∀ (j k : Nat) (w2 : Tw), k + j = 844 → (∀ j, j ≠ 20 → w2 j = w0 j) → (∀ i : Int, 0 ≤ i → i < k → w2 20 i = w0 44 (844 * (m : Int) + i)) → f_X4_again_41 Q (j + 1) m k w2 := by
          intro j
          induction j with
          | zero =>
            intro k w2 hk f2 e2
            unfold f_X4_again_41 f_X4_again_41_b tS
            refine br_T ⟨by omega, by omega⟩ ⟨by omega, by omega⟩ (by omega) ?_
            have ff : ∀ j, j ≠ 20 → j ≠ 22 → tup w2 22 0 0 j = w0 j := fun j j1 j2 => by rw [tw_ne j2, f2 j j1]
            have row : RowR (tup w2 22 0 0 20) e := by
              rw [tw_ne (by decide)]
              refine RowR.congr e4 m2.lens (fun i i0 i1 => ?_)
              exact e2 i i0 (by omega)
            refine hQ _ ⟨⟨row.cpd, ?_, ?_⟩, ?_, ⟨by rw [tw_at, iup_at]; rfl, fun k' e' hk' => by simp at hk'⟩, ?_, ?_, ?_, ?_, ⟨?_, ?_⟩, y9, fun k' e' hk' => by simp at hk', ?_⟩
            · rw [ff 14 (by decide) (by decide), y1.2.1, (m2.copy (by omega)).2, c9]
            · have := (y10.2 m e (by omega) e1).cpd m2.many.2
              rw [← ff 16 (by decide) (by decide), ← ff 17 (by decide) (by decide), ← ff 18 (by decide) (by decide), ← ff 19 (by decide) (by decide)] at this
              exact this
            · rw [ff 15 (by decide) (by decide), y2, (m2.copy (by omega)).2, c9]
            · rw [ff 42 (by decide) (by decide), ff 43 (by decide) (by decide), ff 44 (by decide) (by decide)]; exact y4
            · rw [ff 3 (by decide) (by decide), ff 4 (by decide) (by decide)]; exact y5
            · rw [ff 1 (by decide) (by decide), ff 2 (by decide) (by decide)]; exact y6
            · rw [ff 36 (by decide) (by decide), ff 37 (by decide) (by decide), ff 38 (by decide) (by decide)]; exact y7
            · rw [ff 10 (by decide) (by decide)]; exact y8.1
            · rw [ff 8 (by decide) (by decide)]; exact y8.2
            · rw [ff 16 (by decide) (by decide), ff 17 (by decide) (by decide), ff 18 (by decide) (by decide), ff 19 (by decide) (by decide)]
              exact y10.2
          | succ j ih =>
            intro k w2 hk f2 e2
            unfold f_X4_again_41 f_X4_again_41_b
            refine br_F ⟨by omega, by omega⟩ ⟨by omega, by omega⟩ (by omega) ⟨⟨by omega, by omega⟩, ⟨by omega, by omega⟩, ?_⟩
            rw [show (k : Int) + 1 = ((k + 1 : Nat) : Int) by omega]
            refine ih (k + 1) _ (by omega) (fun j hj => by rw [tw_ne hj]; exact f2 j hj) (fun i i0 i1 => ?_)
            rw [tw_at]
            by_cases ci : i = k
            · subst ci; rw [iup_at, f2 44 (by decide)]
            · rw [iup_ne ci]; exact e2 i i0 (by omega)
        exact ⟨845, lp 844 0 w0 (by omega) (fun _ _ => rfl) (fun i i0 i1 => by omega)⟩
      · exact br_F ⟨by omega, by omega⟩ ⟨by omega, by omega⟩ c9 (no (by unfold agB; rw [Int.toNat_natCast, e1]; simp [c9]))
  · rw [decide_eq_false c]
    exact brB_F (no (by unfold agB; rw [decide_eq_false c]; rfl))
theorem T_keep {Q : Bool → Tw → Prop} {i : Int} (h : Tn w d un pg tx rw' hw ha cs) (hw' : Wl d un pg B) (h1' : R32 i) (hQ : ∀ w', Tn w' d un (kpP d pg i) tx rw' hw ha cs → Q (decide (0 ≤ i ∧ i ≤ 1)) w') : f_X4_keep i w Q := by
  have hwf := hw'.1
  have g0 := h.thr (i := 0) (v := 0)
  unfold f_X4_keep tS
  generalize hw0 : tup w 0 0 0 = w0 at g0
  refine ⟨h1', t_in h1' r0 ⟨by decide, by decide⟩ ?_⟩
  by_cases c : 0 ≤ i ∧ i ≤ 1
  · rw [decide_eq_true c] at hQ ⊢
    obtain ⟨m, rfl⟩ : ∃ m : Nat, i = m := ⟨i.toNat, by omega⟩
    unfold kpP at hQ
    rw [if_pos c, Int.toNat_natCast] at hQ
    refine brB_T ⟨⟨by omega, by omega⟩, ⟨by omega, by omega⟩, ?_⟩
    obtain ⟨y1, y2, y3, y4, y5, y6, y7, y8, y9, y10⟩ := id g0
    have e15 : tup w0 42 m 1 15 0 = d.s 900 := by rw [tw_ne (by decide)]; exact y2
    rw [e15]
    generalize hw1 : tup (tup w0 42 m 1) 43 m (d.s 900) = w1
    have f42 : w1 42 = iup (w0 42) m 1 := by rw [← hw1, tw_ne (by decide), tw_at]
    have f43 : w1 43 = iup (w0 43) m (d.s 900) := by rw [← hw1, tw_at, tw_ne (by decide)]
    have f1 : ∀ j, j ≠ 42 → j ≠ 43 → w1 j = w0 j := fun j j1 j2 => by rw [← hw1, tw_ne j2, tw_ne j1]
    have hc := hwf.1.copy (by omega)
    have lp : ∀ (j k : Nat) (w2 : Tw), k + j = 844 → (∀ j, j ≠ 44 → w2 j = w1 j) → (∀ i : Int, w2 44 i = if 844 * (m : Int) ≤ i ∧ i < 844 * (m : Int) + k then w0 20 (i - 844 * m) else w0 44 i) → f_X4_keep_36 Q (j + 1) m k w2 := by
      intro j
      induction j with
      | zero =>
        intro k w2 hk f2 e2
        unfold f_X4_keep_36 f_X4_keep_36_b
        refine br_T ⟨by omega, by omega⟩ ⟨by omega, by omega⟩ (by omega) ?_
        have ff : ∀ j, j ≠ 42 → j ≠ 43 → j ≠ 44 → w2 j = w0 j := fun j j1 j2 j3 => by rw [f2 j j3, f1 j j1 j2]
        refine hQ _ ⟨y1.oth (Or.inl rfl) (fun j hj => ff j (by omega) (by omega) (by omega)), by rw [ff 15 (by decide) (by decide) (by decide)]; exact y2, by rw [ff 22 (by decide) (by decide) (by decide), ff 23 (by decide) (by decide) (by decide)]; exact y3, ?_, by rw [ff 3 (by decide) (by decide) (by decide), ff 4 (by decide) (by decide) (by decide)]; exact y5, by rw [ff 1 (by decide) (by decide) (by decide), ff 2 (by decide) (by decide) (by decide)]; exact y6, by rw [ff 36 (by decide) (by decide) (by decide), ff 37 (by decide) (by decide) (by decide), ff 38 (by decide) (by decide) (by decide)]; exact y7, ⟨by rw [ff 10 (by decide) (by decide) (by decide)]; exact y8.1, by rw [ff 8 (by decide) (by decide) (by decide)]; exact y8.2⟩, y9, ?_, ?_⟩
        · intro j hj
          rw [f2 42 (by decide), f2 43 (by decide), f42, f43]
          by_cases ej : j = m
          · subst ej
            right
            refine ⟨copyD d, nup_at, iup_at, by rw [iup_at, hc.2], ?_⟩
            refine RowR.congr y1.1.cpd hwf.1.lens (fun i i0 i1 => ?_)
            show w2 44 (844 * ((j : Nat) : Int) + i) = _
            rw [e2, if_pos ⟨by omega, by omega⟩]
            congr 1
            omega
          · rw [nup_ne ej, iup_ne (by omega), iup_ne (by omega)]
            rcases y4 j hj with z | ⟨e, e1, e3, e4, e5⟩
            · exact Or.inl z
            · refine Or.inr ⟨e, e1, e3, e4, e5.congr (hw'.2.2.2 j e hj e1).1.lens (fun i i0 i1 => ?_)⟩
              rw [e2, if_neg (by omega)]
        · rw [ff 16 (by decide) (by decide) (by decide), ff 17 (by decide) (by decide) (by decide), ff 18 (by decide) (by decide) (by decide), ff 19 (by decide) (by decide) (by decide)]
          exact y10.1
        · rw [ff 16 (by decide) (by decide) (by decide), ff 17 (by decide) (by decide) (by decide), ff 18 (by decide) (by decide) (by decide), ff 19 (by decide) (by decide) (by decide)]
          intro j e hj he
          by_cases ej : j = m
          · subst ej
            rw [nup_at] at he
            injection he with he
            subst he
            exact LnQ.cpd (e := d) y1.2.2 hwf.1.many.2
          · rw [nup_ne ej] at he
            exact y10.2 j e hj he
      | succ j ih =>
        intro k w2 hk f2 e2
        unfold f_X4_keep_36 f_X4_keep_36_b
        refine br_F ⟨by omega, by omega⟩ ⟨by omega, by omega⟩ (by omega) ⟨⟨by omega, by omega⟩, ⟨by omega, by omega⟩, ?_⟩
        rw [show (k : Int) + 1 = ((k + 1 : Nat) : Int) by omega]
        refine ih (k + 1) _ (by omega) (fun j hj => by rw [tw_ne hj]; exact f2 j hj) (fun i => ?_)
        rw [tw_at]
        by_cases ci : i = 844 * m + k
        · subst ci
          rw [iup_at, if_pos ⟨by omega, by omega⟩, f2 20 (by decide), f1 20 (by decide) (by decide)]
          congr 1
          omega
        · rw [iup_ne ci, e2 i]
          by_cases c2 : 844 * (m : Int) ≤ i ∧ i < 844 * (m : Int) + k
          · rw [if_pos c2, if_pos ⟨by omega, by omega⟩]
          · rw [if_neg c2, if_neg (by omega)]
    exact ⟨845, lp 844 0 w1 (by omega) (fun _ _ => rfl) (fun i => by rw [if_neg (by omega), f1 44 (by decide) (by decide)])⟩
  · rw [decide_eq_false c] at hQ ⊢
    unfold kpP at hQ
    rw [if_neg c] at hQ
    exact brB_F (hQ _ g0)
end
