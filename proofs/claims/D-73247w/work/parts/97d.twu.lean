/-! PURE PROOFS: the twin remembers, copies, tells -/
set_option maxRecDepth 100000
section
variable {w : Tw} {d : DS} {un : List DS} {pg : Nat → Option DS} {tx rw' hw ha cs : List Int} {B : Int}
/-- 844 cells are copied -/
theorem t_putsBy {Q : Tw → Prop} {n : Nat} (hn : n ≤ 8) (h22 : w 22 0 = (n : Nat)) (hQ : ∀ w' : Tw, (∀ j, j ≠ 23 → w' j = w j) → (∀ i : Int, w' 23 i = if 844 * (n : Int) ≤ i ∧ i < 844 * (n : Int) + 844 then w 20 (i - 844 * n) else w 23 i) → Q w') : f_X4_putsBy w Q := by
  have lp : ∀ (m k : Nat) (w1 : Tw), k + m = 844 → (∀ j, j ≠ 23 → w1 j = w j) → (∀ i : Int, w1 23 i = if 844 * (n : Int) ≤ i ∧ i < 844 * (n : Int) + k then w 20 (i - 844 * n) else w 23 i) → f_X4_putsBy_2 Q (m + 1) k w1 := by
    intro m
    induction m with
    | zero =>
      intro k w1 hk f1 e1
      unfold f_X4_putsBy_2 f_X4_putsBy_2_b
      refine br_T ⟨by omega, by omega⟩ ⟨by decide, by decide⟩ (by omega) (hQ w1 f1 (fun i => ?_))
      rw [e1 i, show (k : Int) = 844 by omega]
    | succ m ih =>
      intro k w1 hk f1 e1
      unfold f_X4_putsBy_2 f_X4_putsBy_2_b
      rw [f1 22 (by decide), h22, f1 20 (by decide), show (k : Int) + 1 = ((k + 1 : Nat) : Int) by omega]
      refine br_F ⟨by omega, by omega⟩ ⟨by decide, by decide⟩ (by omega) ⟨⟨by omega, by omega⟩, ⟨by omega, by omega⟩, ih (k + 1) _ (by omega) (fun j hj => by rw [tw_ne hj]; exact f1 j hj) (fun i => ?_)⟩
      rw [tw_at]
      by_cases c : i = 844 * (n : Int) + k
      · subst c
        rw [iup_at, if_pos ⟨by omega, by omega⟩]
        congr 1
        omega
      · rw [iup_ne c, e1 i]
        by_cases c2 : 844 * (n : Int) ≤ i ∧ i < 844 * (n : Int) + k
        · rw [if_pos c2, if_pos ⟨by omega, by omega⟩]
        · rw [if_neg c2, if_neg (by omega)]
  exact ⟨845, lp 844 0 w (by omega) (fun _ _ => rfl) (fun i => by rw [if_neg (by omega)])⟩
theorem t_copies {Q : Tw → Prop} (hQ : ∀ w' : Tw, (∀ j, j ≠ 21 → w' j = w j) → (∀ i : Int, 0 ≤ i → i < 844 → w' 21 i = w 20 i) → Q w') : f_X4_copies w Q := by
  have lp : ∀ (m k : Nat) (w1 : Tw), k + m = 844 → (∀ j, j ≠ 21 → w1 j = w j) → (∀ i : Int, 0 ≤ i → i < k → w1 21 i = w 20 i) → f_X4_copies_2 Q (m + 1) k w1 := by
    intro m
    induction m with
    | zero =>
      intro k w1 hk f1 e1
      unfold f_X4_copies_2 f_X4_copies_2_b
      exact br_T ⟨by omega, by omega⟩ ⟨by decide, by decide⟩ (by omega) (hQ w1 f1 (fun i i0 i1 => e1 i i0 (by omega)))
    | succ m ih =>
      intro k w1 hk f1 e1
      unfold f_X4_copies_2 f_X4_copies_2_b
      rw [f1 20 (by decide), show (k : Int) + 1 = ((k + 1 : Nat) : Int) by omega]
      refine br_F ⟨by omega, by omega⟩ ⟨by decide, by decide⟩ (by omega) ⟨⟨by omega, by omega⟩, ⟨by omega, by omega⟩, ih (k + 1) _ (by omega) (fun j hj => by rw [tw_ne hj]; exact f1 j hj) (fun i i0 i1 => ?_)⟩
      rw [tw_at]
      by_cases c : i = k
      · subst c; rw [iup_at]
      · rw [iup_ne c]; exact e1 i i0 (by omega)
  exact ⟨845, lp 844 0 w (by omega) (fun _ _ => rfl) (fun i i0 i1 => by omega)⟩
/-- what is aside is like what is -/
theorem t_copy {Q : Tw → Prop} (h : TwA w 20 d) (hl : Lens d) (hQ : ∀ w' : Tw, TwA w' 21 d → (∀ j, j ≠ 21 → w' j = w j) → Q w') : f_X4_copies w Q := by
  refine t_copies (fun w' f e => hQ w' ⟨h.1.congr hl e, by rw [f 14 (by decide)]; exact h.2.1, fun q hq => ?_⟩ f)
  rw [f 16 (by decide), f 17 (by decide), f 18 (by decide), f 19 (by decide)]
  exact h.2.2 q hq
theorem RowR.cpd {ρ : Rec} (h : RowR ρ d) : RowR ρ (copyD d) := h.own (fun i hi => by unfold isSc at hi; rw [iup_ne (by omega), iup_ne (by omega)])
theorem RowAt.congr {f g : Int → Int} {o o' : Int} {e : DS} (h : RowAt f o e) (hl : Lens e) (k : ∀ i : Int, 0 ≤ i → i < 844 → g (o' + i) = f (o + i)) : RowAt g o' e := RowR.congr h hl k
/-- one more can be undone -/
theorem t_adds {Q : Int → Tw → Prop} {x : Int} {e : DS} (hx : R32 x) (hu : TnU (w 22 0) (w 23) un) (hl : un.length ≤ 8) (hln : ∀ (k : Nat) (e : DS), un[k]? = some e → Lens e) (hle : Lens e) (he : RowAt (w 23) (844 * (un.length : Nat)) e)
    (hQ : ∀ w' : Tw, TnU (w' 22 0) (w' 23) (if un.length = 8 then un.tail ++ [e] else un ++ [e]) → (∀ j, j ≠ 22 → j ≠ 23 → w' j = w j) → Q x w') : f_X4_adds x w Q := by
  have hsnoc : ∀ (k : Nat) (e' : DS), (un ++ [e])[k]? = some e' → RowAt (w 23) (844 * k) e' ∧ Lens e' := by
    intro k e' hk
    have hi := get_lt hk
    rw [List.length_append, List.length_singleton] at hi
    by_cases c : k = un.length
    · subst c
      rw [List.getElem?_append_right (Nat.le_refl _), Nat.sub_self] at hk
      simp only [List.getElem?_cons_zero, Option.some.injEq] at hk
      subst hk
      exact ⟨he, hle⟩
    · rw [List.getElem?_append_left (by omega)] at hk
      exact ⟨hu.2 k e' hk, hln k e' hk⟩
  unfold f_X4_adds tS
  have e22 : tup w 22 0 (w 22 0 + 1) 22 0 = ((un.length + 1 : Nat) : Int) := by rw [tw_at, iup_at, hu.1]; omega
  simp only [e22]
  by_cases c : un.length = 8
  · rw [if_pos c] at hQ
    refine br_F ⟨by omega, by omega⟩ ⟨by decide, by decide⟩ (by omega) ?_
    have lp : ∀ (m k : Nat) (w1 : Tw), k + m = 6752 → (∀ j, j ≠ 23 → w1 j = tup w 22 0 (w 22 0 + 1) j) → (∀ i : Int, w1 23 i = if 0 ≤ i ∧ i < k then w 23 (i + 844) else w 23 i) → f_X4_adds_21 Q (m + 1) x k w1 := by
      intro m
      induction m with
      | zero =>
        intro k w1 hk f1 e1
        unfold f_X4_adds_21 f_X4_adds_21_b tS
        refine br_T ⟨by omega, by omega⟩ ⟨by decide, by decide⟩ (by omega) (hQ _ ⟨?_, fun k' e' hk' => ?_⟩ (fun j j1 j2 => by rw [tw_ne j1, f1 j j2, tw_ne j1]))
        · rw [tw_at, iup_at, f1 22 (by decide), e22, List.length_append, List.length_tail, List.length_singleton]; omega
        · rw [tw_ne (by decide)]
          have hk2 := get_lt hk'
          rw [List.length_append, List.length_tail, List.length_singleton] at hk2
          have hget : (un ++ [e])[k' + 1]? = some e' := by
            cases un with
            | nil => simp at c
            | cons a l => simpa using hk'
          obtain ⟨m1, m2⟩ := hsnoc (k' + 1) e' hget
          refine m1.congr m2 (fun i i0 i1 => ?_)
          rw [e1, if_pos ⟨by omega, by omega⟩]
          congr 1
          omega
      | succ m ih =>
        intro k w1 hk f1 e1
        unfold f_X4_adds_21 f_X4_adds_21_b
        rw [show (k : Int) + 1 = ((k + 1 : Nat) : Int) by omega]
        refine br_F ⟨by omega, by omega⟩ ⟨by decide, by decide⟩ (by omega) ⟨⟨by omega, by omega⟩, ⟨by omega, by omega⟩, ih (k + 1) _ (by omega) (fun j hj => by rw [tw_ne hj]; exact f1 j hj) (fun i => ?_)⟩
        rw [tw_at]
        by_cases ci : i = k
        · subst ci
          rw [iup_at, e1, if_neg (by omega), if_pos ⟨by omega, by omega⟩]
        · rw [iup_ne ci, e1 i]
          by_cases c2 : 0 ≤ i ∧ i < k
          · rw [if_pos c2, if_pos ⟨by omega, by omega⟩]
          · rw [if_neg c2, if_neg (by omega)]
    refine ⟨6753, lp 6752 0 _ (by omega) (fun _ _ => rfl) (fun i => ?_)⟩
    rw [if_neg (by omega), tw_ne (by decide)]
  · rw [if_neg c] at hQ
    refine br_T ⟨by omega, by omega⟩ ⟨by decide, by decide⟩ (by omega) (hQ _ ⟨?_, fun k' e' hk' => ?_⟩ (fun j j1 j2 => tw_ne j1))
    · rw [e22, List.length_append, List.length_singleton]
    · rw [tw_ne (by decide)]
      exact (hsnoc k' e' hk').1
theorem t_enters {Q : Tw → Prop} {v : Int} {l : List Int} (h : TnR (w 1 0) (w 2) l) (hl : l.length < 24) (hQ : ∀ w' : Tw, TnR (w' 1 0) (w' 2) (l ++ [v]) → (∀ j, j ≠ 1 → j ≠ 2 → w' j = w j) → Q w') : f_X4_enters v w Q := by
  unfold f_X4_enters tS
  have h1 := h.1
  refine ⟨⟨by omega, by omega⟩, hQ _ ?_ (fun j j1 j2 => by rw [tw_ne j1, tw_ne j2])⟩
  have := h.tell (v := v)
  rw [tw_at, iup_at, tw_ne (by decide), tw_ne (by decide), tw_at]
  exact this
/-- thrown = 0 -/
theorem Tn.thr {i v : Int} (h : Tn w d un pg tx rw' hw ha cs) : Tn (tup w 0 i v) d un pg tx rw' hw ha cs := h
theorem TwA.oth {w' : Tw} {r : Nat} (h : TwA w r d) (hr : r = 20 ∨ r = 21) (f : ∀ j, j = r ∨ j = 14 ∨ j = 16 ∨ j = 17 ∨ j = 18 ∨ j = 19 → w' j = w j) : TwA w' r d := by
  obtain ⟨m1, m2, m3⟩ := h
  refine ⟨by rw [f r (by omega)]; exact m1, by rw [f 14 (by omega)]; exact m2, fun q hq => ?_⟩
  rw [f 16 (by omega), f 17 (by omega), f 18 (by omega), f 19 (by omega)]
  exact m3 q hq
end
