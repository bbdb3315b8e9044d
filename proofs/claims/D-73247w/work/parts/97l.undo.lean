/-! PURE PROOFS: undo, again, keep on both -/
set_option maxRecDepth 100000
def undA (un : List DS) : Int := (un.length : Nat) - 1
def undM (d : DS) (un : List DS) : DS := match un.getLast? with
  | none => d
  | some e => copyD e
section
variable {G : Wd} {x : Nat} {w : Tw} {d : DS} {un : List DS} {pg : Nat → Option DS} {tx rw' hw ha cs : List Int} {B : Int}
variable {A : Nat → Nat} {rf : Nat → Nat → Nat → Nat} {E : Nat → Bool} {dr : Nat → DS} {u : Nat → Int} {ru : Option Nat} {ai : Nat → Int → Int} {ar : Nat → Int → Option Nat} {ah : Nat → Nat}
theorem AbD.pop {r3 r20 : Int → Option Nat} {a21 : Int → Int} {u4 u5 : Int} {m : Nat} (h : AbD rf E dr ah r3 r20 a21 u4 u5 d un pg B) : AbD rf E dr ah r3 r20 a21 ((un.take m).length : Nat) u5 d (un.take m) pg B := by
  obtain ⟨k1, k2, k3, k4, k5, k6, k7, k8, k9, k10, k11⟩ := h
  refine ⟨k1, k2, k3, k4, k5, k6, k7, ⟨rfl, by rw [List.length_take]; omega⟩, fun k e hk => ?_, k10, k11⟩
  have h1 := get_lt hk
  rw [List.length_take] at h1
  rw [List.getElem?_take] at hk
  rw [if_pos (by omega)] at hk
  exact k9 k e hk
theorem S_undo {Q : Int → Wd → Prop} {k n : Nat} (h : Sy G x d un pg tx rw' hw ha cs B) (hk : 9400 ≤ k) (hn : 75200 ≤ n) (hQ : ∀ G', Sy G' x (undM d un) (un.take (un.length - 1)) pg tx rw' hw ha cs B → FQ G G' → Q (undA un) G') : f_X1_undo k n x G Q := by
  have h0 := h
  obtain ⟨A, rf, E, dr, u, ru, ai, ar, ah, h1, h2, h3, h4, h5, h6⟩ := h
  obtain ⟨k1, k2, k3, k4, k5, k6, k7, k8, k9, k10, k11⟩ := id h2
  unfold f_X1_undo
  refine gQ_4 h1 ?_
  rw [k8.1]
  by_cases c : un.length = 0
  · have e : un = [] := List.length_eq_zero_iff.mp c
    subst e
    exact br0_F ⟨by simp, by simp⟩ (by simp) (hQ G h0 FrX.refl)
  · have hg : ∃ e, un[un.length - 1]? = some e := ⟨un[un.length - 1], List.getElem?_eq_getElem (by omega)⟩
    obtain ⟨e, he⟩ := hg
    have eM : undM d un = copyD e := by unfold undM; rw [List.getLast?_eq_getElem?, he]
    rw [eM] at hQ
    obtain ⟨m1, m2, m3⟩ := k9 _ e he
    refine br0_T ⟨by omega, by omega⟩ (by omega) (gQ_4 h1 (pQ_4 h1 (fun G1 w1 f1 => ?_)))
    have eu : nup u 4 (u 4 - 1) 4 = ((un.length - 1 : Nat) : Int) := by rw [nup_at, k8.1]; omega
    obtain ⟨y1, y2⟩ := k6.1 (un.length - 1) (by omega)
    refine gQ_0 w1 (gQ_3 w1 (gQ_4 w1 (nn_of ?_)))
    rw [eu]
    refine ldQ_3 w1 (by omega) (by omega) ?_
    rw [y1]
    have hd := h2.d0 w1
    have hs := w1.drv (i := ah (un.length - 1)) (by omega) (k1 _ (by omega))
    rw [m1] at hs
    refine nn_of ⟨96, 768, ⟨by omega, by omega⟩, cD hd, p_X2_be hd hs (by omega) (by omega) (by omega) (fun q hq => k3 0 _ q (by omega) (by omega) (k1 0 (by omega)) (k1 _ (by omega)) (by omega) hq) m2 (fun q hq hq9 => by have := k4 0 (by omega) (k1 0 (by omega)) q hq (by omega); rw [k2] at this; exact this) (by omega) (by omega) (fun G2 d2 s2 f2 => ?_)⟩
    have w2 := w1.upd (i := 0) f2 (by omega) d2
    have a1 := h2.pop (m := un.length - 1)
    have hc := m2.copy (by omega)
    have a2 := a1.now hc.1 (hc.2.trans m3) (Int.le_refl _) k5.2.2
    refine gQ_4 w2 ?_
    rw [eu]
    have := hQ G2 ⟨A, rf, E, _, _, ru, ai, ar, ah, w2, ?_, h3, h4, h5, (h6.x f1).x f2⟩ ((f1.wide (by omega) (by omega)).trans (f2.wide (by omega) (by omega)))
    · unfold undA at this
      rw [show ((un.length - 1 : Nat) : Int) = (un.length : Nat) - 1 by omega]
      exact this
    · rw [eu]
      have el : ((un.take (un.length - 1)).length : Nat) = un.length - 1 := by rw [List.length_take]; omega
      rw [el] at a2
      exact a2
theorem get_take {α : Type} {l : List α} {m k : Nat} {e : α} (h : (l.take m)[k]? = some e) : l[k]? = some e := by
  rw [List.getElem?_take] at h
  split at h
  · exact h
  · cases h
theorem T_undo {Q : Int → Tw → Prop} (h : Tn w d un pg tx rw' hw ha cs) (hw' : Wl d un pg B) (hQ : ∀ w', Tn w' (undM d un) (un.take (un.length - 1)) pg tx rw' hw ha cs → Q (undA un) w') : f_X4_undo w Q := by
  have hwf := hw'.1
  have h8 := hw'.2.1
  have g0 := h.thr (i := 0) (v := 0)
  unfold f_X4_undo tS
  have e22 : tup w 0 0 0 22 0 = (un.length : Nat) := g0.2.2.1.1
  by_cases c : un.length = 0
  · have e : un = [] := List.length_eq_zero_iff.mp c
    subst e
    refine br0_F (by rw [e22]; exact ⟨by simp, by simp⟩) (by rw [e22]; simp) (hQ _ g0)
  · obtain ⟨e, he⟩ : ∃ e, un[un.length - 1]? = some e := ⟨un[un.length - 1], List.getElem?_eq_getElem (by omega)⟩
    have eM : undM d un = copyD e := by unfold undM; rw [List.getLast?_eq_getElem?, he]
    rw [eM] at hQ
    obtain ⟨m2, m3⟩ := hw'.2.2.1 _ e he
    refine br0_T (by rw [e22]; exact ⟨by omega, by omega⟩) (by rw [e22]; omega) ?_
    rw [e22]
    have hu := g0.2.2.1
    have e22' : tup (tup w 0 0 0) 22 0 ((un.length : Nat) - 1) 22 0 = ((un.length - 1 : Nat) : Int) := by rw [tw_at, iup_at]; omega
    generalize hw1 : tup (tup w 0 0 0) 22 0 ((un.length : Nat) - 1) = w1 at e22'
    have f1 : ∀ j, j ≠ 22 → w1 j = tup w 0 0 0 j := fun j hj => by rw [← hw1, tw_ne hj]
    have lp : ∀ (m k : Nat) (w2 : Tw), k + m = 844 → (∀ j, j ≠ 20 → w2 j = w1 j) → (∀ i : Int, 0 ≤ i → i < k → w2 20 i = w1 23 (844 * ((un.length - 1 : Nat) : Int) + i)) → f_X4_undo_26 Q (m + 1) k w2 := by
      intro m
      induction m with
      | zero =>
        intro k w2 hk f2 e2
        unfold f_X4_undo_26 f_X4_undo_26_b
        rw [f2 22 (by decide), e22']
        refine br_T ⟨by omega, by omega⟩ ⟨by omega, by omega⟩ (by omega) ?_
        rw [show ((un.length - 1 : Nat) : Int) = undA un by unfold undA; omega]
        obtain ⟨y1, y2, y3, y4, y5, y6, y7, y8, y9, y10⟩ := g0
        have ff : ∀ j, j ≠ 20 → j ≠ 22 → w2 j = tup w 0 0 0 j := fun j j1 j2 => by rw [f2 j j1, f1 j j2]
        have row : RowR (w2 20) e := by
          refine RowR.congr (y3.2 _ e he) m2.lens (fun i i0 i1 => ?_)
          rw [e2 i i0 (by omega), f1 23 (by decide)]
        refine hQ w2 ⟨⟨row.cpd, ?_, ?_⟩, ?_, ⟨?_, fun k' e' hk' => ?_⟩, ?_, ?_, ?_, ?_, ⟨?_, ?_⟩, y9, ?_, ?_⟩
        · rw [ff 14 (by decide) (by decide), y1.2.1, (m2.copy (by omega)).2, m3]
        · have := (y10.1 _ e he).cpd m2.many.2
          rw [← ff 16 (by decide) (by decide), ← ff 17 (by decide) (by decide), ← ff 18 (by decide) (by decide), ← ff 19 (by decide) (by decide)] at this
          exact this
        · rw [ff 15 (by decide) (by decide), y2, (m2.copy (by omega)).2, m3]
        · rw [f2 22 (by decide), e22', List.length_take]; omega
        · rw [ff 23 (by decide) (by decide)]
          exact y3.2 k' e' (get_take hk')
        · rw [ff 42 (by decide) (by decide), ff 43 (by decide) (by decide), ff 44 (by decide) (by decide)]; exact y4
        · rw [ff 3 (by decide) (by decide), ff 4 (by decide) (by decide)]; exact y5
        · rw [ff 1 (by decide) (by decide), ff 2 (by decide) (by decide)]; exact y6
        · rw [ff 36 (by decide) (by decide), ff 37 (by decide) (by decide), ff 38 (by decide) (by decide)]; exact y7
        · rw [ff 10 (by decide) (by decide)]; exact y8.1
        · rw [ff 8 (by decide) (by decide)]; exact y8.2
        · intro k' e' hk'
          rw [ff 16 (by decide) (by decide), ff 17 (by decide) (by decide), ff 18 (by decide) (by decide), ff 19 (by decide) (by decide)]
          exact y10.1 k' e' (get_take hk')
        · rw [ff 16 (by decide) (by decide), ff 17 (by decide) (by decide), ff 18 (by decide) (by decide), ff 19 (by decide) (by decide)]
          exact y10.2
      | succ m ih =>
        intro k w2 hk f2 e2
        unfold f_X4_undo_26 f_X4_undo_26_b
        rw [f2 22 (by decide), e22']
        refine br_F ⟨by omega, by omega⟩ ⟨by omega, by omega⟩ (by omega) ⟨⟨by omega, by omega⟩, ⟨by omega, by omega⟩, ?_⟩
        rw [show (k : Int) + 1 = ((k + 1 : Nat) : Int) by omega]
        refine ih (k + 1) _ (by omega) (fun j hj => by rw [tw_ne hj]; exact f2 j hj) (fun i i0 i1 => ?_)
        rw [tw_at]
        by_cases ci : i = k
        · subst ci; rw [iup_at, f2 23 (by decide)]
        · rw [iup_ne ci]; exact e2 i i0 (by omega)
    exact ⟨845, lp 844 0 w1 (by omega) (fun _ _ => rfl) (fun i i0 i1 => by omega)⟩
end
