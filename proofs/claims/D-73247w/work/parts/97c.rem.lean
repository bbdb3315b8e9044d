/-! PURE PROOFS: what is remembered -/
set_option maxRecDepth 100000
def remU (un : List DS) (e : DS) : List DS := if un.length = 8 then un.tail ++ [copyD e] else un ++ [copyD e]
theorem WF.copy {d : DS} {B : Int} (h : WF d B) (hB : 0 ≤ B) : WF (copyD d) B ∧ (copyD d).s 900 = d.s 900 := by
  unfold copyD
  exact ⟨h.hi (fun i hi => by rw [iup_ne (by omega), iup_ne (by omega)]) (bnd_iup (bnd_iup h.1.1 (Int.le_refl _) (by omega)) (Int.le_refl _) (by omega)), by show iup (iup d.s 901 0) 902 0 900 = _; rw [iup_ne (by decide), iup_ne (by decide)]⟩
section
variable {rf : Nat → Nat → Nat → Nat} {E : Nat → Bool} {dr : Nat → DS} {ah : Nat → Nat} {r3 r20 : Int → Option Nat} {a21 : Int → Int} {u4 u5 : Int} {d : DS} {un : List DS} {pg : Nat → Option DS} {B : Int}
theorem AbD.now {d' : DS} {B' : Int} (h : AbD rf E dr ah r3 r20 a21 u4 u5 d un pg B) (hw : WF d' B') (h9 : d'.s 900 = d.s 900) (hB : B ≤ B') (hB' : B' ≤ 70000000) : AbD rf E (nup dr 0 d') ah r3 r20 a21 u4 u5 d' un pg B' := by
  obtain ⟨k1, k2, k3, k4, k5, k6, k7, k8, k9, k10, k11⟩ := h
  refine ⟨k1, nup_at, k3, fun i hi he q hq hq9 => ?_, ⟨hw, by omega, hB'⟩, k6, k7, k8, fun k e hk => ?_, by rw [h9]; exact k10, fun i hi => ?_⟩
  · by_cases e : i = 0
    · subst e; rw [nup_at]; exact hw.pris hq9 hq
    · rw [nup_ne e]; exact k4 i hi he q hq (by omega)
  · obtain ⟨m1, m2, m3⟩ := k9 k e hk
    have hlt : k < 8 := by have := get_lt hk; omega
    have := (k6.1 k hlt).2.1
    rw [nup_ne (by omega), h9]
    exact ⟨m1, m2.mono hB, m3⟩
  · rcases k11 i hi with z | ⟨e, e1, e2, e3, e4, e5, e6, e7⟩
    · exact Or.inl z
    · rw [h9]
      exact Or.inr ⟨e, e1, e2, e3, by rw [nup_ne (by omega)]; exact e4, e5, e6.mono hB, e7⟩
theorem AbD.aux {e' : DS} {i : Nat} (h : AbD rf E dr ah r3 r20 a21 u4 u5 d un pg B) (hi : i = 1 ∨ i = 2) (hz : ∀ q : Nat, q < 5 → d.s 900 ≤ q → Lz e' q) : AbD rf E (nup dr i e') ah r3 r20 a21 u4 u5 d un pg B := by
  obtain ⟨k1, k2, k3, k4, k5, k6, k7, k8, k9, k10, k11⟩ := h
  refine ⟨k1, by rw [nup_ne (by omega)]; exact k2, k3, fun j hj he q hq hq9 => ?_, k5, k6, k7, k8, fun k e hk => ?_, k10, fun j hj => ?_⟩
  · by_cases ej : j = i
    · subst ej; rw [nup_at]; exact hz q hq hq9
    · rw [nup_ne ej]; exact k4 j hj he q hq hq9
  · have hlt : k < 8 := by have := get_lt hk; omega
    have := (k6.1 k hlt).2.1
    rw [nup_ne (by omega)]
    exact k9 k e hk
  · rcases k11 j hj with z | ⟨e, e1, e2, e3, e4, e5, e6, e7⟩
    · exact Or.inl z
    · exact Or.inr ⟨e, e1, e2, e3, by rw [nup_ne (by omega)]; exact e4, e5, e6, e7⟩
/-- one more is behind -/
theorem AbD.push {e : DS} (h : AbD rf E dr ah r3 r20 a21 u4 u5 d un pg B) (hl : un.length < 8) (hw : WF e B) (h9 : e.s 900 = d.s 900) : AbD rf E (nup dr (ah un.length) (copyD e)) ah r3 r20 a21 (u4 + 1) u5 d (un ++ [copyD e]) pg B := by
  obtain ⟨k1, k2, k3, k4, k5, k6, k7, k8, k9, k10, k11⟩ := h
  have hah := (k6.1 un.length hl).2
  obtain ⟨c1, c2⟩ := hw.copy (by omega)
  refine ⟨k1, by rw [nup_ne (by omega)]; exact k2, k3, fun j hj he q hq hq9 => ?_, k5, k6, k7, ⟨by rw [k8.1, List.length_append, List.length_singleton]; omega, by rw [List.length_append, List.length_singleton]; omega⟩, fun k e' hk => ?_, k10, fun j hj => ?_⟩
  · by_cases ej : j = ah un.length
    · subst ej; rw [nup_at]; exact c1.pris (by rw [c2, h9]; exact hq9) hq
    · rw [nup_ne ej]; exact k4 j hj he q hq hq9
  · have hi := get_lt hk
    rw [List.length_append, List.length_singleton] at hi
    by_cases ek : k = un.length
    · subst ek
      rw [List.getElem?_append_right (Nat.le_refl _), Nat.sub_self] at hk
      simp only [List.getElem?_cons_zero, Option.some.injEq] at hk
      subst hk
      rw [nup_at]
      exact ⟨rfl, c1, c2.trans h9⟩
    · rw [List.getElem?_append_left (by omega)] at hk
      have : ah k ≠ ah un.length := fun z => ek (k7 k un.length (by omega) hl z)
      rw [nup_ne this]
      exact k9 k e' hk
  · rcases k11 j hj with z | ⟨e', e1, e2, e3, e4, e5, e6, e7⟩
    · exact Or.inl z
    · exact Or.inr ⟨e', e1, e2, e3, by rw [nup_ne (by omega)]; exact e4, e5, e6, e7⟩
def rotA (ah : Nat → Nat) : Nat → Nat := fun k => if k < 7 then ah (k + 1) else ah 0
/-- the oldest goes behind, to be used anew -/
theorem AbD.rot (h : AbD rf E dr ah r3 r20 a21 u4 u5 d un pg B) (hl : un.length = 8) : AbD rf E dr (rotA ah) (rup (icp r3 r3 1 0 7) 7 (r3 0)) r20 a21 (u4 - 1) u5 d un.tail pg B := by
  obtain ⟨k1, k2, k3, k4, k5, k6, k7, k8, k9, k10, k11⟩ := h
  refine ⟨k1, k2, k3, k4, k5, ⟨fun k hk => ?_, fun i hi => ?_⟩, fun j k hj hk e => ?_, ⟨by rw [k8.1, List.length_tail]; omega, by rw [List.length_tail]; omega⟩, fun k e hk => ?_, k10, k11⟩
  · unfold rup icp rotA
    by_cases c : k < 7
    · rw [if_neg (by omega), if_pos ⟨by omega, by omega⟩, if_pos c, show (1 : Int) + ((k : Nat) - 0) = ((k + 1 : Nat) : Int) by omega]
      exact k6.1 (k + 1) (by omega)
    · have e7 : k = 7 := by omega
      subst e7
      rw [if_pos (by omega), if_neg c]
      exact k6.1 0 (by omega)
  · unfold rup icp
    rw [if_neg (by omega), if_neg (by omega)]
    exact k6.2 i hi
  · unfold rotA at e
    by_cases c : j < 7
    · rw [if_pos c] at e
      by_cases c2 : k < 7
      · rw [if_pos c2] at e
        have := k7 _ _ (by omega) (by omega) e
        omega
      · rw [if_neg c2] at e
        have := k7 _ _ (by omega) (by omega) e
        omega
    · rw [if_neg c] at e
      by_cases c2 : k < 7
      · rw [if_pos c2] at e
        have := k7 _ _ (by omega) (by omega) e
        omega
      · omega
  · rw [List.getElem?_tail] at hk
    have hlt := get_lt hk
    unfold rotA
    rw [if_pos (by omega)]
    exact k9 (k + 1) e hk
end
section
variable {G : Wd} {x : Nat} {d : DS} {un : List DS} {pg : Nat → Option DS} {tx rw' hw ha cs : List Int} {B : Int}
variable {A : Nat → Nat} {rf : Nat → Nat → Nat → Nat} {E : Nat → Bool} {dr : Nat → DS} {u : Nat → Int} {ru : Option Nat} {ai : Nat → Int → Int} {ar : Nat → Int → Option Nat} {ah : Nat → Nat}
theorem nup_ar {α : Type} {f : Nat → α} {i j : Nat} {y : α} (h : i ≠ j) : nup f j y i = f i := nup_ne h
/-- the drive i is remembered -/
theorem w_remember {K : Wd → Prop} {k n i : Nat} (h1 : Wo G x A rf E dr u ru ai ar) (h2 : AbD rf E dr ah (ar 3) (ar 20) (ai 21) (u 4) (u 5) d un pg B) (hi : i = 0 ∨ i = 1) (hw : WF (dr i) B) (h9 : (dr i).s 900 = d.s 900) (hk : 96 ≤ k) (hn : 768 ≤ n)
    (hK : ∀ G' dr' u' ar' ah', Wo G' x A rf E dr' u' ru ai ar' → AbD rf E dr' ah' (ar' 3) (ar' 20) (ai 21) (u' 4) (u' 5) d (remU un (dr i)) pg B → (∀ j, j ≠ 4 → u' j = u j) → (∀ j, j ≠ 3 → ar' j = ar j) → (∀ j, j < 3 → dr' j = dr j) → FQ G G' → K G') : f_X1_remember k n x (some (rf i 8 0)) G K := by
  -- the last step
  have last : ∀ (G1 : Wd) (u1 : Nat → Int) (ar1 : Nat → Int → Option Nat) (ah1 : Nat → Nat) (un1 : List DS), Wo G1 x A rf E dr u1 ru ai ar1 → AbD rf E dr ah1 (ar1 3) (ar1 20) (ai 21) (u1 4) (u1 5) d un1 pg B → un1.length < 8 → un1 ++ [copyD (dr i)] = remU un (dr i) → (∀ j, j ≠ 4 → u1 j = u j) → (∀ j, j ≠ 3 → ar1 j = ar j) → FQ G G1 → f_X1_remember_49 x k n (some (rf i 8 0)) G1 K := by
    intro G1 u1 ar1 ah1 un1 g1 b1 hl e1 eu ea f1
    obtain ⟨k1, k2, k3, k4, k5, k6, k7, k8, k9, k10, k11⟩ := id b1
    have hah := k6.1 un1.length hl
    unfold f_X1_remember_49
    refine gQ_3 g1 (gQ_4 g1 (nn_of ?_))
    rw [k8.1]
    refine ldQ_3 g1 (by omega) (by omega) ?_
    rw [hah.1]
    have hEa : E (ah1 un1.length) = true := k1 _ (by omega)
    have hEi : E i = true := k1 i (by omega)
    have ht := g1.drv (by omega) hEa
    have hs := g1.drv (i := i) (by omega) hEi
    refine nn_of ⟨k, n, ⟨Nat.le_refl _, Nat.le_refl _⟩, cD ht, p_X2_be ht hs (by omega) (by omega) (by omega) (fun q hq => k3 _ _ q (by omega) (by omega) hEa hEi (by omega) hq) hw (fun q hq hq9 => k4 _ (by omega) hEa q hq (by omega)) hk hn (fun G2 g2 s2 f2 => ?_)⟩
    have w2 := g1.upd f2 (by omega) g2
    refine gQ_4 w2 (pQ_4 w2 (fun G3 g3 f3 => ?_))
    have b3 := b1.push hl hw h9
    rw [e1] at b3
    exact hK G3 _ _ ar1 ah1 g3 b3 (fun j hj => by rw [nup_ne hj]; exact eu j hj) ea (fun j hj => nup_ne (by omega)) (f1.trans ((f2.q (by omega)).trans (f3.wide (by omega) (by omega))))
  obtain ⟨k1, k2, k3, k4, k5, k6, k7, k8, k9, k10, k11⟩ := id h2
  unfold f_X1_remember
  refine gQ_4 h1 ?_
  rw [k8.1]
  by_cases c : un.length = 8
  · refine br_F ⟨by omega, by omega⟩ ⟨by decide, by decide⟩ (by omega) (gQ_3 h1 (nn_of (ldQ_3 h1 (by omega) (by omega) (gQ_3 h1 (gQ_3 h1 (nn_of (nn_of ?_)))))))
    refine ⟨2003, 8, _, 2003, 8, _, ⟨by decide, by decide⟩, h1.a3, h1.a3, ⟨⟨by omega, by omega, by omega⟩, ⟨by omega, by omega⟩, by omega, by omega, by omega⟩, fun j y hy => ?_, ?_⟩
    · by_cases cj : j < 0 ∨ 8 ≤ j
      · rw [k6.2 j cj] at hy; cases hy
      · have := k6.1 j.toNat (by omega)
        rw [show ((j.toNat : Nat) : Int) = j by omega] at this
        rw [this.1] at hy
        injection hy with hy
        rw [← hy]
        exact cD (h1.drv (by omega) (k1 _ (by omega)))
    · obtain ⟨g1, f1⟩ := h1.w3 (y := icp (ar 3) (ar 3) 1 0 7)
      have h0 := (k6.1 0 (by omega)).1
      refine gQ_3 g1 (nn_of (stQ_3 g1 (by omega) (by omega) (fun z hz => ?_) (fun G2 g2 f2 => gQ_4 g2 (pQ_4 g2 (fun G3 g3 f3 => ?_)))))
      · have hz : ar 3 0 = some z := hz
        have h0 : ar 3 0 = some (rf (ah 0) 8 0) := h0
        rw [h0] at hz
        injection hz with hz
        have hd := g1.drv (i := ah 0) (by have := (k6.1 0 (by omega)).2; omega) (k1 _ (by have := (k6.1 0 (by omega)).2; omega))
        exact ⟨100 * ah 0 + 10, 1, _, by omega, by rw [← hz]; exact hd.1, by decide⟩
      · have b2 := h2.rot c
        have e8 : u 4 = 8 := by rw [k8.1, c]; rfl
        refine last G3 _ _ (rotA ah) un.tail g3 ?_ (by rw [List.length_tail]; omega) (by unfold remU; rw [if_pos c]) (fun j hj => nup_ne hj) (fun j hj => by rw [nup_ne hj, nup_ne hj]) ((f1.wide (by omega) (by omega)).trans ((f2.wide (by omega) (by omega)).trans (f3.wide (by omega) (by omega))))
        rw [nup_at] at *
        exact b2
  · exact br_T ⟨by omega, by omega⟩ ⟨by decide, by decide⟩ (by omega) (last G u ar ah un h1 h2 (by omega) (by unfold remU; rw [if_neg c]) (fun _ _ => rfl) (fun _ _ => rfl) FrX.refl)
end
