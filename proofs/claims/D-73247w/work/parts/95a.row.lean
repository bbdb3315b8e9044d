/-! PURE PROOFS: the twin's row tells a plain drive -/
set_option maxRecDepth 100000
def isSc (i : Int) : Prop := (0 ≤ i ∧ i < 445 ∧ i % 89 < 9) ∨ (815 ≤ i ∧ i < 844 ∧ i ≠ 818)
def RingL (ρ : Rec) (o k0 : Int) (l : List Rec) : Prop := ∀ (k : Nat) (c : Rec), l[k]? = some c → ∀ f : Int, 0 ≤ f → f < 5 → ρ (o + 5 * ((k0 + k) % 8) + f) = c f
def RunL (ρ : Rec) (l : List Rec) : Prop := ∀ (k : Nat) (c : Rec), l[k]? = some c → ∀ f : Int, 0 ≤ f → f < 12 → (f ≤ 5 ∨ f = 7 ∨ f = 11 ∨ 0 ≤ c 7) → ρ (445 + 12 * k + f) = c f
def OutL (ρ : Rec) (l : List Rec) : Prop := ∀ (k : Nat) (c : Rec), l[k]? = some c → ∀ f : Int, 0 ≤ f → f < 4 → ρ (494 + 4 * k + f) = c f
def RowR (ρ : Rec) (d : DS) : Prop := (∀ i, isSc i → ρ i = d.s i) ∧ ρ 493 = (d.run.length : Nat) ∧ ρ 814 = (d.out.length : Nat) ∧
  (∀ q : Nat, q < 5 → RingL ρ (89 * q + 9) (d.s (89 * q + 3)) (d.ring q)) ∧ (∀ q : Nat, q < 5 → RingL ρ (89 * q + 49) (d.s (89 * q + 6)) (d.posts q)) ∧ RunL ρ d.run ∧ OutL ρ d.out
theorem get_lt {α : Type} {l : List α} {k : Nat} {c : α} (h : l[k]? = some c) : k < l.length := by
  rcases Nat.lt_or_ge k l.length with h1 | h1
  · exact h1
  · rw [List.getElem?_eq_none h1] at h; cases h
theorem RingL.congr {ρ ρ' : Rec} {o k0 : Int} {l : List Rec} (h : RingL ρ o k0 l) (e : ∀ i : Int, o ≤ i → i < o + 40 → ρ' i = ρ i) : RingL ρ' o k0 l := by
  intro k c hc f f0 f1
  rw [e _ (by omega) (by omega)]
  exact h k c hc f f0 f1
theorem RunL.congr {ρ ρ' : Rec} {l : List Rec} (h : RunL ρ l) (hl : l.length ≤ 4) (e : ∀ i : Int, 445 ≤ i → i < 493 → ρ' i = ρ i) : RunL ρ' l := by
  intro k c hc f f0 f1 f2
  have := get_lt hc
  rw [e _ (by omega) (by omega)]
  exact h k c hc f f0 f1 f2
theorem OutL.congr {ρ ρ' : Rec} {l : List Rec} (h : OutL ρ l) (hl : l.length ≤ 80) (e : ∀ i : Int, 494 ≤ i → i < 814 → ρ' i = ρ i) : OutL ρ' l := by
  intro k c hc f f0 f1
  have := get_lt hc
  rw [e _ (by omega) (by omega)]
  exact h k c hc f f0 f1
theorem RingL.tail {ρ : Rec} {o k0 : Int} {c : Rec} {l : List Rec} (h : RingL ρ o k0 (c :: l)) : RingL ρ o (k0 + 1) l := by
  intro k c' hc f f0 f1
  have := h (k + 1) c' (by simpa using hc) f f0 f1
  rw [← this]
  congr 3
  omega
theorem RingL.snoc {ρ ρ' : Rec} {o k0 : Int} {l : List Rec} {c : Rec} (h : RingL ρ o k0 l) (hl : l.length ≤ 7) (e1 : ∀ f : Int, 0 ≤ f → f < 5 → ρ' (o + 5 * ((k0 + (l.length : Nat)) % 8) + f) = c f)
    (e2 : ∀ i : Int, o ≤ i → i < o + 40 → (i < o + 5 * ((k0 + (l.length : Nat)) % 8) ∨ o + 5 * ((k0 + (l.length : Nat)) % 8) + 5 ≤ i) → ρ' i = ρ i) : RingL ρ' o k0 (l ++ [c]) := by
  intro k c' hc f f0 f1
  have hk := get_lt hc
  rw [List.length_append, List.length_singleton] at hk
  by_cases ek : k = l.length
  · subst ek
    rw [List.getElem?_append_right (Nat.le_refl _), Nat.sub_self] at hc
    simp only [List.getElem?_cons_zero, Option.some.injEq] at hc
    rw [← hc]
    exact e1 f f0 f1
  · rw [List.getElem?_append_left (by omega)] at hc
    rw [e2 _ (by omega) (by omega) (by omega)]
    exact h k c' hc f f0 f1
theorem RunL.snoc {ρ ρ' : Rec} {l : List Rec} {c : Rec} (h : RunL ρ l) (e1 : ∀ f : Int, 0 ≤ f → f < 12 → (f ≤ 5 ∨ f = 7 ∨ f = 11 ∨ 0 ≤ c 7) → ρ' (445 + 12 * (l.length : Nat) + f) = c f)
    (e2 : ∀ i : Int, 445 ≤ i → i < 445 + 12 * (l.length : Nat) → ρ' i = ρ i) : RunL ρ' (l ++ [c]) := by
  intro k c' hc f f0 f1 f2
  have hk := get_lt hc
  rw [List.length_append, List.length_singleton] at hk
  by_cases ek : k = l.length
  · subst ek
    rw [List.getElem?_append_right (Nat.le_refl _), Nat.sub_self] at hc
    simp only [List.getElem?_cons_zero, Option.some.injEq] at hc
    subst hc
    exact e1 f f0 f1 f2
  · rw [List.getElem?_append_left (by omega)] at hc
    rw [e2 _ (by omega) (by omega)]
    exact h k c' hc f f0 f1 f2
theorem OutL.snoc {ρ ρ' : Rec} {l : List Rec} {c : Rec} (h : OutL ρ l) (e1 : ∀ f : Int, 0 ≤ f → f < 4 → ρ' (494 + 4 * (l.length : Nat) + f) = c f)
    (e2 : ∀ i : Int, 494 ≤ i → i < 494 + 4 * (l.length : Nat) → ρ' i = ρ i) : OutL ρ' (l ++ [c]) := by
  intro k c' hc f f0 f1
  have hk := get_lt hc
  rw [List.length_append, List.length_singleton] at hk
  by_cases ek : k = l.length
  · subst ek
    rw [List.getElem?_append_right (Nat.le_refl _), Nat.sub_self] at hc
    simp only [List.getElem?_cons_zero, Option.some.injEq] at hc
    subst hc
    exact e1 f f0 f1
  · rw [List.getElem?_append_left (by omega)] at hc
    rw [e2 _ (by omega) (by omega)]
    exact h k c' hc f f0 f1
/-- one is let go, those behind it move up -/
theorem RunL.erase {ρ ρ' : Rec} {l m : List Rec} {c : Rec} (h : RunL ρ (l ++ c :: m)) (e1 : ∀ i : Int, 445 ≤ i → i < 445 + 12 * (l.length : Nat) → ρ' i = ρ i)
    (e2 : ∀ i : Int, 445 + 12 * (l.length : Nat) ≤ i → i < 445 + 12 * ((l.length + m.length : Nat) : Int) → ρ' i = ρ (i + 12)) : RunL ρ' (l ++ m) := by
  intro k c' hc f f0 f1 f2
  have hk := get_lt hc
  rw [List.length_append] at hk
  by_cases ek : k < l.length
  · rw [List.getElem?_append_left ek] at hc
    rw [e1 _ (by omega) (by omega)]
    exact h k c' (by rw [List.getElem?_append_left ek]; exact hc) f f0 f1 f2
  · rw [List.getElem?_append_right (by omega)] at hc
    rw [e2 _ (by omega) (by omega)]
    have := h (k + 1) c' (by rw [List.getElem?_append_right (by omega), show k + 1 - l.length = (k - l.length) + 1 by omega, List.getElem?_cons_succ]; exact hc) f f0 f1 f2
    rw [← this]
    congr 1
    omega
theorem OutL.erase {ρ ρ' : Rec} {l m : List Rec} {c : Rec} (h : OutL ρ (l ++ c :: m)) (e1 : ∀ i : Int, 494 ≤ i → i < 494 + 4 * (l.length : Nat) → ρ' i = ρ i)
    (e2 : ∀ i : Int, 494 + 4 * (l.length : Nat) ≤ i → i < 494 + 4 * ((l.length + m.length : Nat) : Int) → ρ' i = ρ (i + 4)) : OutL ρ' (l ++ m) := by
  intro k c' hc f f0 f1
  have hk := get_lt hc
  rw [List.length_append] at hk
  by_cases ek : k < l.length
  · rw [List.getElem?_append_left ek] at hc
    rw [e1 _ (by omega) (by omega)]
    exact h k c' (by rw [List.getElem?_append_left ek]; exact hc) f f0 f1
  · rw [List.getElem?_append_right (by omega)] at hc
    rw [e2 _ (by omega) (by omega)]
    have := h (k + 1) c' (by rw [List.getElem?_append_right (by omega), show k + 1 - l.length = (k - l.length) + 1 by omega, List.getElem?_cons_succ]; exact hc) f f0 f1
    rw [← this]
    congr 1
    omega
def Lens (d : DS) : Prop := d.run.length ≤ 4 ∧ d.out.length ≤ 80
theorem WF.lens {d : DS} {B : Int} (h : WF d B) : Lens d := ⟨h.2.2.1.1, h.outlen⟩
/-- a number of the row has changed -/
theorem RowR.sc {ρ : Rec} {d : DS} {i x : Int} (h : RowR ρ d) (hl : Lens d) (hi : isSc i) (h3 : 445 ≤ i ∨ (i % 89 ≠ 3 ∧ i % 89 ≠ 6)) : RowR (iup ρ i x) (setS d (iup d.s i x)) := by
  obtain ⟨h1, h2, h4, h5, h6, h7, h8⟩ := h
  have hi' := hi
  unfold isSc at hi'
  refine ⟨fun j hj => ?_, ?_, ?_, fun q hq => ?_, fun q hq => ?_, ?_, ?_⟩
  · show iup ρ i x j = iup d.s i x j
    unfold iup
    by_cases e : j = i
    · rw [if_pos e, if_pos e]
    · rw [if_neg e, if_neg e]; exact h1 j hj
  · rw [iup_ne (by omega)]; exact h2
  · rw [iup_ne (by omega)]; exact h4
  · show RingL _ _ (iup d.s i x (89 * q + 3)) _
    rw [iup_ne (by omega)]
    exact (h5 q hq).congr (fun j j0 j1 => iup_ne (by omega))
  · show RingL _ _ (iup d.s i x (89 * q + 6)) _
    rw [iup_ne (by omega)]
    exact (h6 q hq).congr (fun j j0 j1 => iup_ne (by omega))
  · exact h7.congr hl.1 (fun j j0 j1 => iup_ne (by omega))
  · exact h8.congr hl.2 (fun j j0 j1 => iup_ne (by omega))
/-- only numbers that the twin does not keep have changed -/
theorem RowR.own {ρ : Rec} {d : DS} {s' : Rec} (h : RowR ρ d) (e : ∀ i : Int, isSc i → s' i = d.s i) : RowR ρ (setS d s') := by
  obtain ⟨h1, h2, h4, h5, h6, h7, h8⟩ := h
  refine ⟨fun j hj => by rw [h1 j hj]; exact (e j hj).symm, h2, h4, fun q hq => ?_, fun q hq => ?_, h7, h8⟩
  · show RingL _ _ (s' (89 * q + 3)) _
    rw [e _ (Or.inl ⟨by omega, by omega, by omega⟩)]; exact h5 q hq
  · show RingL _ _ (s' (89 * q + 6)) _
    rw [e _ (Or.inl ⟨by omega, by omega, by omega⟩)]; exact h6 q hq
/-- the twin holds a drive in its row r -/
def TwA (w : Tw) (r : Nat) (d : DS) : Prop := RowR (w r) d ∧ w 14 0 = d.s 900 ∧ ∀ q : Nat, (q : Int) < d.s 900 → w 16 q = d.s (89 * q + 20) ∧ w 17 q = d.s (89 * q + 21) ∧ w 18 q = d.s (89 * q + 22) ∧ w 19 q = d.s (89 * q + 23)
theorem tw_at {w : Tw} {r : Nat} {i x : Int} : tup w r i x r = iup (w r) i x := by unfold tup va_up; rw [if_pos rfl]
theorem tw_ne {w : Tw} {r j : Nat} {i x : Int} (h : j ≠ r) : tup w r i x j = w j := by unfold tup va_up; rw [if_neg h]
def TFr (r : Nat) (w w' : Tw) : Prop := ∀ j, j ≠ r → w' j = w j
theorem TFr.refl {r : Nat} {w : Tw} : TFr r w w := fun _ _ => rfl
theorem TFr.trans {r : Nat} {w w1 w2 : Tw} (h : TFr r w w1) (k : TFr r w1 w2) : TFr r w w2 := fun j hj => by rw [k j hj, h j hj]
theorem TFr.tp {r : Nat} {w : Tw} {i x : Int} : TFr r w (tup w r i x) := fun _ hj => tw_ne hj
theorem TwA.row {w w' : Tw} {r : Nat} {d d' : DS} (h : TwA w r d) (hr : r = 20 ∨ r = 21) (hf : TFr r w w') (h1 : RowR (w' r) d') (e : d'.s 900 = d.s 900) (e2 : ∀ q : Nat, (q : Int) < d.s 900 → ∀ f : Int, 20 ≤ f → f < 24 → d'.s (89 * q + f) = d.s (89 * q + f)) : TwA w' r d' := by
  obtain ⟨h2, h3, h4⟩ := h
  refine ⟨h1, by rw [hf 14 (by omega), e]; exact h3, fun q hq => ?_⟩
  rw [e] at hq
  obtain ⟨k1, k2, k3, k4⟩ := h4 q hq
  rw [hf 16 (by omega), hf 17 (by omega), hf 18 (by omega), hf 19 (by omega), e2 q hq 20 (by omega) (by omega), e2 q hq 21 (by omega) (by omega), e2 q hq 22 (by omega) (by omega), e2 q hq 23 (by omega) (by omega)]
  exact ⟨k1, k2, k3, k4⟩
/-- a number is written -/
theorem TwA.sc {w : Tw} {r : Nat} {d : DS} {i x : Int} (h : TwA w r d) (hr : r = 20 ∨ r = 21) (hm : d.s 900 ≤ 5) (hl : Lens d) (hi : isSc i) (h3 : 445 ≤ i ∨ (i % 89 ≠ 3 ∧ i % 89 ≠ 6)) : TwA (tup w r i x) r (setS d (iup d.s i x)) := by
  have hi' := hi
  unfold isSc at hi'
  refine h.row hr TFr.tp ?_ (iup_ne (by omega)) (fun q hq f f0 f1 => iup_ne (by omega))
  rw [tw_at]
  exact h.1.sc hl hi h3
theorem TwA.own {w : Tw} {r : Nat} {d : DS} {s' : Rec} (h : TwA w r d) (hm : d.s 900 ≤ 5) (e : ∀ i : Int, i < 901 → s' i = d.s i) : TwA w r (setS d s') := by
  obtain ⟨h2, h3, h4⟩ := h
  refine ⟨h2.own (fun i hi => e i (by unfold isSc at hi; omega)), by rw [h3]; exact (e _ (by omega)).symm, fun q hq => ?_⟩
  have e9 : s' 900 = d.s 900 := e _ (by omega)
  have hq : (q : Int) < s' 900 := hq
  rw [e9] at hq
  show _ = s' _ ∧ _ = s' _ ∧ _ = s' _ ∧ _ = s' _
  rw [e _ (by omega), e _ (by omega), e _ (by omega), e _ (by omega)]
  exact h4 q hq
