/-! PURE PROOFS: what is always so stays so: whose turn it is, commands are fetched -/
set_option maxRecDepth 100000
theorem ite_iff {c c' : Prop} [Decidable c] [Decidable c'] {x y : Nat} (h : c ↔ c') : (if c then x else y) = if c' then x else y := by
  by_cases e : c
  · rw [if_pos e, if_pos (h.mp e)]
  · rw [if_neg e, if_neg (fun z => e (h.mpr z))]
section
variable {d e : DS} {B B' : Int} {q : Nat} {s s' : Rec} {w : Rec} {l : List Rec}
theorem turnQ_lt {c : Int} {m : Nat} : turnQ s c m < 5 := by unfold turnQ; omega
theorem turnN_is {c : Int} : ∀ {m : Nat}, turnN s c m = some q → isT s c q = true ∧ q < 5
  | 0, h => by cases h
  | m + 1, h => by
    unfold turnN at h
    by_cases e : isT s c (turnQ s c m) = true
    · rw [if_pos e] at h
      injection h with h
      rw [← h]; exact ⟨e, turnQ_lt⟩
    · rw [if_neg e] at h; exact turnN_is h
theorem turnN_none {c : Int} : ∀ {m : Nat}, turnN s c m = none → ∀ j, j < m → isT s c (turnQ s c j) = false
  | 0, _, j, hj => by omega
  | m + 1, h, j, hj => by
    unfold turnN at h
    by_cases e : isT s c (turnQ s c m) = true
    · rw [if_pos e] at h; cases h
    · rw [if_neg e] at h
      by_cases e2 : j = m
      · subst e2; simpa using e
      · exact turnN_none h j (by omega)
theorem turn_none {c : Int} (h : turn s c = none) (hl : 0 ≤ s (822 + c) ∧ s (822 + c) ≤ 4) (hq : q < 5) : isT s c q = false := by
  have k := turnN_none h ((s (822 + c) - q) % 5).toNat (by omega)
  have e : turnQ s c ((s (822 + c) - q) % 5).toNat = q := by unfold turnQ; omega
  rw [e] at k; exact k
theorem isT_congr {c : Int} (hq : q < 5) (e : ∀ i : Int, i < 818 → s' i = s i) (e9 : s' 900 = s 900) : isT s' c q = isT s c q := by
  unfold isT hasW
  rw [e9, e _ (by omega), e _ (by omega), e _ (by omega)]
theorem turnN_congr {c : Int} (e : ∀ i : Int, i < 818 → s' i = s i) (e8 : s' (822 + c) = s (822 + c)) (e9 : s' 900 = s 900) : ∀ m, turnN s' c m = turnN s c m
  | 0 => rfl
  | m + 1 => by
    have e2 : turnQ s' c m = turnQ s c m := by unfold turnQ; rw [e8]
    unfold turnN
    rw [e2, isT_congr turnQ_lt e e9, turnN_congr e e8 e9 m]
theorem crN_some : ∀ {m c : Nat}, m ≤ 3 → crN s m = some c → (1 ≤ c ∧ c ≤ 3) ∧ 0 < s (818 + (c : Int)) ∧ (turn s c).isSome = true
  | 0, c, _, h => by cases h
  | m + 1, c, hm, h => by
    unfold crN at h
    by_cases e : 0 < s (818 + (3 - (m : Int))) ∧ (turn s (3 - (m : Int))).isSome = true
    · rw [if_pos e] at h
      injection h with h
      subst h
      have e2 : ((3 - m : Nat) : Int) = 3 - (m : Int) := by omega
      rw [e2]
      exact ⟨by omega, e.1, e.2⟩
    · rw [if_neg e] at h; exact crN_some (by omega) h
theorem crN_none : ∀ {m : Nat}, m ≤ 3 → crN s m = none → ∀ c : Nat, 3 < c + m → c ≤ 3 → 1 ≤ c → ¬ (0 < s (818 + (c : Int)) ∧ (turn s c).isSome = true)
  | 0, _, _, c, h1, h2, _ => by omega
  | m + 1, hm, h, c, h1, h2, h3 => by
    unfold crN at h
    by_cases e : 0 < s (818 + (3 - (m : Int))) ∧ (turn s (3 - (m : Int))).isSome = true
    · rw [if_pos e] at h; cases h
    · rw [if_neg e] at h
      by_cases e2 : c + m = 3
      · rw [show (c : Int) = 3 - (m : Int) by omega]; exact e
      · exact crN_none (by omega) h c (by omega) h2 h3
theorem anyW_ex : ∀ {n : Nat}, anyW s n = true → ∃ q, q < n ∧ hasW s q = true
  | 0, h => by cases h
  | n + 1, h => by
    unfold anyW at h
    rw [Bool.or_eq_true] at h
    rcases h with h | h
    · obtain ⟨q, h1, h2⟩ := anyW_ex h
      exact ⟨q, by omega, h2⟩
    · exact ⟨n, by omega, h⟩
theorem anyW_of : ∀ {n q : Nat}, q < n → hasW s q = true → anyW s n = true
  | n + 1, q, h, k => by
    unfold anyW
    rw [Bool.or_eq_true]
    by_cases e : q = n
    · subst e; exact Or.inr k
    · exact Or.inl (anyW_of (by omega) k)
theorem isT_of {c : Int} (h : isT s c q = true) : (q : Int) < s 900 ∧ s (89 * q + 22) = c ∧ hasW s q = true := by
  unfold isT at h
  simp only [Bool.and_eq_true, decide_eq_true_eq] at h
  exact ⟨h.1.1, h.1.2, h.2⟩
theorem isT_mk (h1 : (q : Int) < s 900) (h2 : hasW s q = true) : isT s (s (89 * q + 22)) q = true := by
  unfold isT
  simp only [Bool.and_eq_true, decide_eq_true_eq]
  exact ⟨⟨h1, trivial⟩, h2⟩
/-- what is left as it was by a choice -/
def ChS (s s' : Rec) : Prop := (∀ i : Int, i < 818 ∨ 826 ≤ i → s' i = s i) ∧ (∀ i, 818 ≤ i → i < 822 → 0 ≤ s' i ∧ s' i ≤ 9) ∧ (∀ i, 822 ≤ i → i < 826 → 0 ≤ s' i ∧ s' i ≤ 4)
theorem refill_lo {i : Int} (h : i < 818 ∨ 822 ≤ i) : refill s i = s i := by unfold refill; rw [if_neg (by omega)]
theorem refl1_lo {i : Int} (h : i < 818 ∨ 822 ≤ i) : refl1 s i = s i := by unfold refl1; split; rfl; exact refill_lo h
theorem turn_refl {c : Int} (hc : 0 ≤ c) : turn (refl1 s) c = turn s c := turnN_congr (fun i hi => refl1_lo (by omega)) (refl1_lo (by omega)) (refl1_lo (by omega)) 5
theorem refl1_cr (h : WS s B) {i : Int} (h0 : 818 ≤ i) (h1 : i < 822) : 0 ≤ refl1 s i ∧ refl1 s i ≤ 9 := by
  unfold refl1
  split
  · exact h.2.2.2.2.2.2.2.1 i h0 h1
  · unfold refill
    rw [if_pos ⟨h0, h1⟩]
    by_cases e : i = 818
    · subst e; rw [show (818 - 4 : Int) = 814 by decide, h.2.2.2.2.2.1]; decide
    · have := h.2.2.2.2.2.2.1 (i - 4) (by omega) (by omega); omega
theorem chosen_ok (h : WF d B) (ha : anyW d.s (d.s 900).toNat = true) : ∃ q s', chosen d.s = (some q, s') ∧ (q : Int) < d.s 900 ∧ hasW d.s q = true ∧ ChS d.s s' := by
  obtain ⟨p, p1, p2⟩ := anyW_ex ha
  have hm := h.many
  have hp : (p : Int) < d.s 900 := by omega
  have hS := h.1
  have hlast := hS.2.2.2.2.2.2.2.2.1
  have hcr := hS.2.2.2.2.2.2.2.1
  unfold chosen
  cases h0 : turn d.s 0 with
  | some q =>
    obtain ⟨k1, k2⟩ := turnN_is h0
    obtain ⟨k3, k4, k5⟩ := isT_of k1
    refine ⟨q, _, rfl, k3, k5, fun i hi => iup_ne (by omega), fun i i0 i1 => by rw [iup_ne (by omega)]; exact hcr i i0 i1, fun i i0 i1 => ?_⟩
    unfold iup
    split
    · omega
    · exact hlast i i0 i1
  | none =>
    have hk := (h.l8 hp).2.2.1
    have hT := isT_mk hp p2
    have hk0 : d.s (89 * p + 22) ≠ 0 := by
      intro e
      rw [e] at hT
      have := turn_none h0 (hlast 822 (by omega) (by omega)) (q := p) (by omega)
      rw [this] at hT; cases hT
    have hts : (turn d.s (d.s (89 * p + 22))).isSome = true := by
      cases ht : turn d.s (d.s (89 * p + 22)) with
      | some x => rfl
      | none =>
        have := turn_none ht (hlast _ (by omega) (by omega)) (q := p) (by omega)
        rw [this] at hT; cases hT
    obtain ⟨c0, hc0⟩ : ∃ c0 : Nat, d.s (89 * p + 22) = c0 := ⟨(d.s (89 * p + 22)).toNat, by omega⟩
    rw [hc0] at hts hk0 hk
    have hcn : (crN (refl1 d.s) 3).isSome = true := by
      cases hcr2 : crN (refl1 d.s) 3 with
      | some x => rfl
      | none =>
        exfalso
        by_cases hr : (crN d.s 3).isSome = true
        · have : refl1 d.s = d.s := by unfold refl1; rw [if_pos hr]
          rw [this] at hcr2
          rw [hcr2] at hr; cases hr
        · have k := crN_none (by omega) hcr2 c0 (by omega) (by omega) (by omega)
          rw [turn_refl (by omega)] at k
          refine k ⟨?_, hts⟩
          unfold refl1
          rw [if_neg hr]
          unfold refill
          rw [if_pos ⟨by omega, by omega⟩]
          have := hS.2.2.2.2.2.2.1 (818 + (c0 : Int) - 4) (by omega) (by omega)
          omega
    cases hcr2 : crN (refl1 d.s) 3 with
    | none => rw [hcr2] at hcn; cases hcn
    | some c =>
      obtain ⟨k1, k2, k3⟩ := crN_some (by omega) hcr2
      cases ht : turn (refl1 d.s) c with
      | none => rw [ht] at k3; cases k3
      | some q =>
        obtain ⟨k4, k5⟩ := turnN_is ht
        obtain ⟨k6, k7, k8⟩ := isT_of k4
        have k9 : (q : Int) < d.s 900 := by rw [refl1_lo (by omega)] at k6; exact k6
        have k10 : hasW d.s q = true := by
          unfold hasW at k8 ⊢
          rw [refl1_lo (by omega), refl1_lo (by omega)] at k8; exact k8
        refine ⟨q, choose1 (refl1 d.s) c q, by simp only [ht], k9, k10, fun i hi => ?_, fun i i0 i1 => ?_, fun i i0 i1 => ?_⟩
        · unfold choose1
          rw [iup_ne (by omega), iup_ne (by omega)]
          exact refl1_lo (by omega)
        · unfold choose1
          rw [iup_ne (by omega)]
          unfold iup
          split
          · have := refl1_cr hS (i := 818 + (c : Int)) (by omega) (by omega)
            omega
          · exact refl1_cr hS i0 i1
        · unfold choose1 iup
          split
          · omega
          · split
            · omega
            · rw [refl1_lo (by omega)]; exact hlast i i0 i1
theorem WF.chose (h : WF d B) (hB : 9 ≤ B) (hc : ChS d.s s') : WF (setS d s') B := by
  obtain ⟨c1, c2, c3⟩ := hc
  obtain ⟨h1, h2, h3, h4, h5, h6, h7, h8, h9, h10⟩ := h.1
  refine h.scal (c1 _ (by omega)) ⟨fun i => ?_, by rw [c1 _ (by omega)]; exact h2, by rw [c1 _ (by omega)]; exact h3, by rw [c1 _ (by omega)]; exact h4, fun i i0 i1 => by rw [c1 _ (by omega)]; exact h5 i i0 i1, by rw [c1 _ (by omega)]; exact h6,
    fun i i0 i1 => by rw [c1 _ (by omega)]; exact h7 i i0 i1, c2, c3, by rw [c1 _ (by omega), c1 _ (by omega), c1 _ (by omega), c1 _ (by omega), c1 _ (by omega), c1 _ (by omega), c1 _ (by omega), c1 _ (by omega), c1 _ (by omega)]; exact h10⟩ (fun p hp => (h.wl hp).1.same (c1 _ (by omega)) (fun f f0 f1 => c1 _ (by omega))) (fun p hp => ⟨c1 _ (by omega), c1 _ (by omega), c1 _ (by omega), c1 _ (by omega), c1 _ (by omega)⟩)
  by_cases e1 : i < 818 ∨ 826 ≤ i
  · rw [c1 i e1]; exact h1 i
  · by_cases e2 : i < 822
    · have := c2 i (by omega) e2; omega
    · have := c3 i (by omega) (by omega); omega
theorem nup_nup {α : Type} {f : Nat → α} {q : Nat} {x y : α} : nup (nup f q x) q y = nup f q y := by
  funext j
  unfold nup
  split <;> rfl
/-- commands leave a ring, what they were is in the lists -/
theorem WF.pulled (h : WF d B) (hq : (q : Int) < d.s 900) {cs rest rn ou : List Rec} (hr : d.ring q = cs ++ rest) (hm : d.s (89 * q + 3) + (cs.length : Nat) ≤ d.s (89 * q + 2)) (hb : ∀ i, -B' ≤ s' i ∧ s' i ≤ B') (e3 : s' (89 * q + 3) = d.s (89 * q + 3) + (cs.length : Nat))
    (e : ∀ i : Int, i < 838 ∨ 844 ≤ i → i < 901 → i ≠ 89 * q + 3 → s' i = d.s i) (e4 : s' 840 + s' 841 + s' 842 + s' 843 = d.s 840 + d.s 841 + d.s 842 + d.s 843 + (cs.length : Nat)) (hrn : rn.length ≤ 4 ∧ All (WkOK (d.s 900)) rn) (ho : All (WdOK (d.s 900)) ou)
    (hc : ∀ a : Int, kW q a rn + kO q a ou = kW q a d.run + kO q a d.out + kR a cs) (hc2 : ∀ p : Nat, p < 5 → p ≠ q → ∀ a : Int, kW p a rn + kO p a ou = kW p a d.run + kO p a d.out) : WF (s', nup d.ring q rest, d.posts, d.us, rn, ou) B' := by
  have h5 := h.hq hq
  obtain ⟨k1, k2, k3, k4, k5, k6⟩ := h.wl h5
  obtain ⟨u1, u2⟩ := h.2.2.2.2 q h5
  have ep : d.posts = nup d.posts q (d.posts q) := nup_self.symm
  have eu : d.us = nup d.us q (d.us q) := nup_self.symm
  rw [ep, eu]
  rw [hr] at k2 k4
  rw [List.length_append] at k2
  have hS := h.1.2.2.2.2.2.2.2.2.2
  refine h.line h5 (h.1.low hb (fun i i0 i1 => e i (by omega) (by omega) (by omega)) (e 900 (by omega) (by omega) (by omega)) ?_) (e 900 (by omega) (by omega) (by omega)) (fun p hp hne f f0 f1 => e _ (by omega) (by omega) (by omega)) ⟨?_, ?_, ?_, k4.app_r, ?_, k6⟩ hrn ho ⟨u1, fun a => ?_⟩ hc2
  · rw [e4, hS]
    obtain rfl | rfl | rfl | rfl | rfl : q = 0 ∨ q = 1 ∨ q = 2 ∨ q = 3 ∨ q = 4 := by omega
    · rw [show (89 * 0 + 3 : Int) = 89 * ((0 : Nat) : Int) + 3 by decide, e3, e (89 * 1 + 3) (by omega) (by omega) (by omega), e (89 * 2 + 3) (by omega) (by omega) (by omega), e (89 * 3 + 3) (by omega) (by omega) (by omega), e (89 * 4 + 3) (by omega) (by omega) (by omega)]; omega
    · rw [show (89 * 1 + 3 : Int) = 89 * ((1 : Nat) : Int) + 3 by decide, e3, e (89 * 0 + 3) (by omega) (by omega) (by omega), e (89 * 2 + 3) (by omega) (by omega) (by omega), e (89 * 3 + 3) (by omega) (by omega) (by omega), e (89 * 4 + 3) (by omega) (by omega) (by omega)]; omega
    · rw [show (89 * 2 + 3 : Int) = 89 * ((2 : Nat) : Int) + 3 by decide, e3, e (89 * 0 + 3) (by omega) (by omega) (by omega), e (89 * 1 + 3) (by omega) (by omega) (by omega), e (89 * 3 + 3) (by omega) (by omega) (by omega), e (89 * 4 + 3) (by omega) (by omega) (by omega)]; omega
    · rw [show (89 * 3 + 3 : Int) = 89 * ((3 : Nat) : Int) + 3 by decide, e3, e (89 * 0 + 3) (by omega) (by omega) (by omega), e (89 * 1 + 3) (by omega) (by omega) (by omega), e (89 * 2 + 3) (by omega) (by omega) (by omega), e (89 * 4 + 3) (by omega) (by omega) (by omega)]; omega
    · rw [show (89 * 4 + 3 : Int) = 89 * ((4 : Nat) : Int) + 3 by decide, e3, e (89 * 0 + 3) (by omega) (by omega) (by omega), e (89 * 1 + 3) (by omega) (by omega) (by omega), e (89 * 2 + 3) (by omega) (by omega) (by omega), e (89 * 3 + 3) (by omega) (by omega) (by omega)]; omega
  · unfold WLs at k1 ⊢
    rw [e3, e 900 (by omega) (by omega) (by omega), e (89 * q + 0) (by omega) (by omega) (by omega), e (89 * q + 1) (by omega) (by omega) (by omega), e (89 * q + 2) (by omega) (by omega) (by omega), e (89 * q + 4) (by omega) (by omega) (by omega), e (89 * q + 5) (by omega) (by omega) (by omega), e (89 * q + 6) (by omega) (by omega) (by omega), e (89 * q + 7) (by omega) (by omega) (by omega), e (89 * q + 8) (by omega) (by omega) (by omega),
      e (89 * q + 20) (by omega) (by omega) (by omega), e (89 * q + 21) (by omega) (by omega) (by omega), e (89 * q + 22) (by omega) (by omega) (by omega), e (89 * q + 23) (by omega) (by omega) (by omega)]
    exact ⟨⟨k1.1.1, by omega, by omega, k1.1.2.2.2⟩, k1.2⟩
  · rw [e3, e (89 * q + 0) (by omega) (by omega) (by omega)]; omega
  · rw [e (89 * q + 5) (by omega) (by omega) (by omega), e (89 * q + 6) (by omega) (by omega) (by omega)]; exact k3
  · rw [e3, e (89 * q + 4) (by omega) (by omega) (by omega)]
    intro x hx
    obtain ⟨x0, x1, x2, x3, x4⟩ := k5 x hx
    exact ⟨x0, x1, x2, ⟨x3.1, by omega⟩, x4⟩
  · have u3 := u2 a
    rw [hr, kR_app] at u3
    have c := hc a
    omega
theorem nextS_i {i : Int} (hk : 0 ≤ s (89 * q + 22) ∧ s (89 * q + 22) ≤ 3) (h : i < 838 ∨ 844 ≤ i) (h1 : i < 901) (h2 : i ≠ 89 * q + 3) : nextS s q i = s i := by
  unfold nextS; (simp (disch := omega) only [iup_at, iup_ne]; try rfl)
theorem nextS_3 (hq : q < 5) (hk : 0 ≤ s (89 * q + 22) ∧ s (89 * q + 22) ≤ 3) : nextS s q (89 * q + 3) = s (89 * q + 3) + 1 := by
  unfold nextS; (simp (disch := omega) only [iup_at, iup_ne]; try rfl)
theorem nextS_sv (hq : q < 5) (hk : 0 ≤ s (89 * q + 22) ∧ s (89 * q + 22) ≤ 3) : nextS s q 840 + nextS s q 841 + nextS s q 842 + nextS s q 843 = s 840 + s 841 + s 842 + s 843 + 1 := by
  unfold nextS
  obtain e | e | e | e : s (89 * q + 22) = 0 ∨ s (89 * q + 22) = 1 ∨ s (89 * q + 22) = 2 ∨ s (89 * q + 22) = 3 := by omega
  · rw [e, show (840 + 0 : Int) = 840 by decide]; (simp (disch := omega) only [iup_at, iup_ne]; try rfl); omega
  · rw [e, show (840 + 1 : Int) = 841 by decide]; (simp (disch := omega) only [iup_at, iup_ne]; try rfl); omega
  · rw [e, show (840 + 2 : Int) = 842 by decide]; (simp (disch := omega) only [iup_at, iup_ne]; try rfl); omega
  · rw [e, show (840 + 3 : Int) = 843 by decide]; (simp (disch := omega) only [iup_at, iup_ne]; try rfl); omega
theorem nextS_b (hb : ∀ i, -B ≤ s i ∧ s i ≤ B) : ∀ i, -(B + 1) ≤ nextS s q i ∧ nextS s q i ≤ B + 1 := by
  unfold nextS
  have b1 := hb (89 * q + 3)
  have b2 := hb 901
  have b3 := hb (840 + s (89 * q + 22))
  exact bnd_iup (bnd_iup (bnd_iup hb (B' := B + 1) (by omega) (by omega)) (Int.le_refl _) (by omega)) (Int.le_refl _) (by omega)
def tot (d : DS) : Nat := sumN (fun q => (d.ring q).length) 5
theorem sumN_nup {f : Nat → Nat} {q x : Nat} : ∀ n, sumN (nup f q x) n = if q < n then sumN f n + x - f q else sumN f n
  | 0 => by simp [sumN]
  | n + 1 => by
    have ih := sumN_nup (f := f) (q := q) (x := x) n
    have hle : ∀ m, q < m → f q ≤ sumN f m := by
      intro m
      induction m with
      | zero => intro h; omega
      | succ m ihm =>
        intro h
        simp only [sumN]
        by_cases e : q = m
        · subst e; omega
        · have := ihm (by omega); omega
    simp only [sumN]
    rw [ih]
    by_cases e : q = n
    · subst e
      rw [nup_at, if_neg (by omega), if_pos (by omega)]; omega
    · rw [nup_ne (fun z => e z.symm)]
      by_cases e2 : q < n
      · rw [if_pos e2, if_pos (by omega)]
        have := hle n e2
        omega
      · rw [if_neg e2, if_neg (by omega)]
theorem tot_nup {sc : Rec} {l : List Rec} {r : (Nat → List Rec) × (Nat → Nat) × List Rec × List Rec} (hq : q < 5) : tot (sc, nup d.ring q l, r) + (d.ring q).length = tot d + l.length := by
  have e : (fun p => (nup d.ring q l p).length) = nup (fun p => (d.ring p).length) q l.length := by
    funext p
    unfold nup
    split <;> rfl
  have hle : ∀ m, q < m → (d.ring q).length ≤ sumN (fun p => (d.ring p).length) m := by
    intro m
    induction m with
    | zero => intro h; omega
    | succ m ihm =>
      intro h
      simp only [sumN]
      by_cases e : q = m
      · subst e; omega
      · have := ihm (by omega); omega
  have k := sumN_nup (f := fun p => (d.ring p).length) (q := q) (x := l.length) 5
  show sumN (fun p => (nup d.ring q l p).length) 5 + _ = sumN (fun p => (d.ring p).length) 5 + _
  rw [e, k, if_pos hq]
  have := hle 5 hq
  omega
theorem tm_in {t : Tmf} {c : Rec} : 1 ≤ timeD t d q c ∧ timeD t d q c ≤ 9 := by unfold timeD; omega
theorem fetchQ_ok {t : Tmf} {c : Rec} {cs : List Rec} (h : WF d B) (hq : (q : Int) < d.s 900) (hr : (d.run.length : Int) < d.s 826) (hw : hasW d.s q = true) (hc : d.ring q = c :: cs) :
    WF (fetchQ t (nextD d q) q c) (B + 2) ∧ tot (fetchQ t (nextD d q) q c) < tot d ∧ (fetchQ t (nextD d q) q c).s 900 = d.s 900 := by
  have h5 := h.hq hq
  have hk := (h.l8 hq).2.2.1
  have hd := h.1.2.2.1
  obtain ⟨k1, k2, k3, k4, k5, k6⟩ := h.wl h5
  have hw' := of_decide_eq_true hw
  rw [hc] at k4 k2
  obtain ⟨c0, c1, c2, c3, c4⟩ := k4.hd
  have h9 : nextS d.s q 900 = d.s 900 := nextS_i hk (by omega) (by omega) (by omega)
  have et : (d.ring q).tail = cs := by rw [hc]; rfl
  have hwk := h.2.2.1
  -- one command goes out
  have one : ∀ st : Int, 0 ≤ st ∧ st ≤ 4 → WF (outD (nextD d q) (rec4 q (c 0) st 0)) (B + 2) ∧ tot (outD (nextD d q) (rec4 q (c 0) st 0)) < tot d ∧ (outD (nextD d q) (rec4 q (c 0) st 0)).s 900 = d.s 900 := by
    intro st hst
    refine ⟨?_, ?_, h9⟩
    · show WF (nextS d.s q, nup d.ring q (d.ring q).tail, d.posts, d.us, d.run, d.out ++ [rec4 q (c 0) st 0]) (B + 2)
      rw [et]
      refine (h.pulled hq (cs := [c]) (rest := cs) (rn := d.run) (ou := d.out ++ [rec4 q (c 0) st 0]) hc (by simp only [List.length_singleton]; omega) (nextS_b h.1.1) (nextS_3 h5 hk) (fun i i0 i1 i2 => nextS_i hk i0 i1 i2) (nextS_sv h5 hk) h.2.2.1
        (h.2.2.2.1.app (All.one (x := rec4 q (c 0) st 0) ⟨⟨by show 0 ≤ (q : Int); omega, hq⟩, c0, hst, by show (0 : Int) ≤ 0 ∧ (0 : Int) ≤ 99; omega⟩)) (fun a => ?_) (fun p hp hne a => ?_)).mono (by omega)
      · rw [kO_app, kR_one]
        simp only [kO]
        show _ + (_ + ((if (q : Int) = q ∧ c 0 = a then 1 else 0) + 0)) = _
        by_cases e : c 0 = a
        · rw [if_pos e, if_pos ⟨rfl, e⟩]; omega
        · rw [if_neg e, if_neg (fun z => e z.2)]; omega
      · rw [kO_app]
        simp only [kO]
        show _ + (_ + ((if (q : Int) = p ∧ c 0 = a then 1 else 0) + 0)) = _
        rw [if_neg (fun z => hne (by omega))]; omega
    · show tot (nextS d.s q, nup d.ring q (d.ring q).tail, _) < _
      rw [et]
      have := tot_nup (d := d) (q := q) (l := cs) h5 (sc := nextS d.s q) (r := (d.posts, d.us, d.run, d.out ++ [rec4 q (c 0) st 0]))
      rw [hc, List.length_cons] at this
      show tot (nextS d.s q, nup d.ring q cs, (d.posts, d.us, d.run, d.out ++ [rec4 q (c 0) st 0])) < _
      omega
  unfold fetchQ
  by_cases h4 : c 4 = 1
  · rw [if_pos h4]; exact one 1 (by omega)
  · rw [if_neg h4]
    have c4' : c 4 = 0 := by omega
    by_cases h23 : c 1 = 2 ∨ c 1 = 3
    · rw [if_pos h23]
      cases hp : isPair (pairs (nextD d q) q c) with
      | none => exact one 4 (by omega)
      | some o =>
        have hp2 : ∃ cs', cs = o :: cs' ∧ c 1 = 2 ∧ hasW (nextS d.s q) q = true ∧ o 1 = 3 ∧ ¬ o 4 = 1 := by
          unfold pairs at hp
          by_cases z : c 1 = 2 ∧ hasW (nextD d q).s q = true
          · rw [if_pos z] at hp
            have : (nextD d q).ring q = cs := by
              show nup d.ring q (d.ring q).tail q = cs
              rw [nup_at, et]
            rw [this] at hp
            cases cs with
            | nil => cases hp
            | cons o' cs' =>
              simp only [List.head?_cons, isPair] at hp
              by_cases y : o' 1 = 3 ∧ ¬ o' 4 = 1
              · rw [if_pos y] at hp
                injection hp with hp
                subst hp
                exact ⟨cs', rfl, z.1, z.2, y.1, y.2⟩
              · rw [if_neg y] at hp; cases hp
          · rw [if_neg z] at hp; cases hp
        obtain ⟨cs', rfl, y1, y2, y3, y4⟩ := hp2
        obtain ⟨o0, o1, o2, o3, o4⟩ := k4.tl.hd
        have y2' := of_decide_eq_true y2
        rw [nextS_3 h5 hk, nextS_i hk (by omega) (by omega) (by omega)] at y2'
        have hk2 : 0 ≤ nextS d.s q (89 * q + 22) ∧ nextS d.s q (89 * q + 22) ≤ 3 := by rw [nextS_i hk (by omega) (by omega) (by omega)]; exact hk
        have er : (nup d.ring q (o :: cs') q).tail = cs' := by rw [nup_at]; rfl
        have tin := tm_in (d := nextD d q) (q := q) (t := t) (c := c)
        refine ⟨?_, ?_, ?_⟩
        · show WF (nextS (nextS d.s q) q, nup (nup d.ring q (d.ring q).tail) q (nup d.ring q (d.ring q).tail q).tail, d.posts, d.us, d.run ++ [wk2 q c o (timeD t (nextD d q) q c)], d.out) (B + 2)
          rw [et, er, nup_nup]
          refine h.pulled hq (cs := [c, o]) (rest := cs') hc (by show d.s (89 * q + 3) + 2 ≤ _; omega) (fun i => by have := nextS_b (q := q) (nextS_b (q := q) h.1.1) i; omega) ?_ (fun i i0 i1 i2 => ?_) ?_ ⟨?_, h.2.2.1.2.app (All.one (x := wk2 q c o (timeD t (nextD d q) q c)) ⟨⟨?_, hq⟩, c0, c2, c3, c4', tin, Or.inr ⟨y3, y1, o0, o2, o3, ?_⟩⟩)⟩ h.2.2.2.1 (fun a => ?_) (fun p hp hne a => ?_)
          · rw [nextS_3 h5 hk2, nextS_3 h5 hk]; show _ = _ + 2; omega
          · rw [nextS_i hk2 i0 i1 i2, nextS_i hk i0 i1 i2]
          · rw [nextS_sv h5 hk2, nextS_sv h5 hk]; show _ = _ + 2; omega
          · rw [List.length_append, List.length_singleton]; omega
          · show 0 ≤ (q : Int); omega
          · show o 4 = 0; omega
          · rw [kW_app]
            simp only [kW, kR]
            show _ + ((if (q : Int) = q ∧ c 0 = a then 1 else 0) + (if (q : Int) = q ∧ 0 ≤ o 1 ∧ o 0 = a then 1 else 0) + 0) + _ = _
            have e1 : (if (q : Int) = q ∧ c 0 = a then 1 else 0) = if c 0 = a then 1 else 0 := ite_iff ⟨fun z => z.2, fun z => ⟨rfl, z⟩⟩
            have e2 : (if (q : Int) = q ∧ 0 ≤ o 1 ∧ o 0 = a then 1 else 0) = if o 0 = a then 1 else 0 := ite_iff ⟨fun z => z.2.2, fun z => ⟨rfl, by omega, z⟩⟩
            rw [e1, e2]; omega
          · rw [kW_app]
            simp only [kW]
            show _ + ((if (q : Int) = p ∧ c 0 = a then 1 else 0) + (if (q : Int) = p ∧ 0 ≤ o 1 ∧ o 0 = a then 1 else 0) + 0) + _ = _
            rw [if_neg (show ¬ ((q : Int) = p ∧ c 0 = a) from fun z => hne (by omega)), if_neg (show ¬ ((q : Int) = p ∧ 0 ≤ o 1 ∧ o 0 = a) from fun z => hne (by omega))]
            omega
        · show tot (nextS (nextS d.s q) q, nup (nup d.ring q (d.ring q).tail) q (nup d.ring q (d.ring q).tail q).tail, _) < _
          rw [et, er, nup_nup]
          have := tot_nup (d := d) (q := q) (l := cs') h5 (sc := nextS (nextS d.s q) q) (r := (d.posts, d.us, d.run ++ [wk2 q c o (timeD t (nextD d q) q c)], d.out))
          rw [hc, List.length_cons, List.length_cons] at this
          show tot (nextS (nextS d.s q) q, nup d.ring q cs', (d.posts, d.us, d.run ++ [wk2 q c o (timeD t (nextD d q) q c)], d.out)) < _
          omega
        · show nextS (nextS d.s q) q 900 = _
          rw [nextS_i hk2 (by omega) (by omega) (by omega), h9]
    · rw [if_neg h23]
      have tin := tm_in (d := nextD d q) (q := q) (t := t) (c := c)
      refine ⟨?_, ?_, h9⟩
      · show WF (nextS d.s q, nup d.ring q (d.ring q).tail, d.posts, d.us, d.run ++ [wk1 q c (timeD t (nextD d q) q c)], d.out) (B + 2)
        rw [et]
        refine (h.pulled hq (cs := [c]) (rest := cs) hc (by simp only [List.length_singleton]; omega) (nextS_b h.1.1) (nextS_3 h5 hk) (fun i i0 i1 i2 => nextS_i hk i0 i1 i2) (nextS_sv h5 hk) ⟨?_, h.2.2.1.2.app (All.one (x := wk1 q c (timeD t (nextD d q) q c)) ⟨⟨?_, hq⟩, c0, c2, c3, c4', tin, Or.inl ⟨rfl, ?_⟩⟩)⟩ h.2.2.2.1 (fun a => ?_) (fun p hp hne a => ?_)).mono (by omega)
        · rw [List.length_append, List.length_singleton]; omega
        · show 0 ≤ (q : Int); omega
        · show c 1 = 0 ∨ c 1 = 1 ∨ c 1 = 4; omega
        · rw [kW_app, kR_one]
          simp only [kW]
          show _ + ((if (q : Int) = q ∧ c 0 = a then 1 else 0) + (if (q : Int) = q ∧ (0 : Int) ≤ -1 ∧ (0 : Int) = a then 1 else 0) + 0) + _ = _
          have e1 : (if (q : Int) = q ∧ c 0 = a then 1 else 0) = if c 0 = a then 1 else 0 := ite_iff ⟨fun z => z.2, fun z => ⟨rfl, z⟩⟩
          rw [e1, if_neg (show ¬ ((q : Int) = q ∧ (0 : Int) ≤ -1 ∧ (0 : Int) = a) by omega)]; omega
        · rw [kW_app]
          simp only [kW]
          show _ + ((if (q : Int) = p ∧ c 0 = a then 1 else 0) + (if (q : Int) = p ∧ (0 : Int) ≤ -1 ∧ (0 : Int) = a then 1 else 0) + 0) + _ = _
          rw [if_neg (show ¬ ((q : Int) = p ∧ c 0 = a) from fun z => hne (by omega)), if_neg (show ¬ ((q : Int) = p ∧ (0 : Int) ≤ -1 ∧ (0 : Int) = a) by omega)]
          omega
      · show tot (nextS d.s q, nup d.ring q (d.ring q).tail, _) < _
        rw [et]
        have := tot_nup (d := d) (q := q) (l := cs) h5 (sc := nextS d.s q) (r := (d.posts, d.us, d.run ++ [wk1 q c (timeD t (nextD d q) q c)], d.out))
        rw [hc, List.length_cons] at this
        show tot (nextS d.s q, nup d.ring q cs, (d.posts, d.us, d.run ++ [wk1 q c (timeD t (nextD d q) q c)], d.out)) < _
        omega
theorem hasW_ring (h : WF d B) (hq : q < 5) (hw : hasW d.s q = true) : ∃ c cs, d.ring q = c :: cs := by
  obtain ⟨k1, k2, k3⟩ := h.wl hq
  have hw' := of_decide_eq_true hw
  cases hr : d.ring q with
  | nil => rw [hr] at k2; simp only [List.length_nil] at k2; have := k1.1; omega
  | cons c cs => exact ⟨c, cs, rfl⟩
theorem fetchD_ok {t : Tmf} (h : WF d B) (hB : 9 ≤ B) (hr : (d.run.length : Int) < d.s 826) (ha : anyW d.s (d.s 900).toNat = true) : ∃ q s' c cs, chosen d.s = (some q, s') ∧ (q : Int) < d.s 900 ∧ ChS d.s s' ∧ hasW s' q = true ∧ WF (setS d s') B ∧ d.ring q = c :: cs ∧ fetchD t d = fetchQ t (nextD (setS d s') q) q c ∧
    WF (fetchD t d) (B + 2) ∧ tot (fetchD t d) < tot d ∧ (fetchD t d).s 900 = d.s 900 := by
  obtain ⟨q, s', k1, k2, k3, k4⟩ := chosen_ok h ha
  have k5 := h.chose hB k4
  have h5 := h.hq k2
  have k6 : hasW s' q = true := by
    unfold hasW at k3 ⊢
    rw [k4.1 _ (by omega), k4.1 _ (by omega)]; exact k3
  obtain ⟨c, cs, k7⟩ := hasW_ring h h5 k3
  have e : fetchD t d = fetchQ t (nextD (setS d s') q) q c := by
    unfold fetchD
    rw [k1]
    show (match d.ring q with | [] => setS d s' | c :: _ => fetchQ t (nextD (setS d s') q) q c) = _
    rw [k7]
  have k8 := fetchQ_ok (t := t) k5 (by show (q : Int) < s' 900; rw [k4.1 _ (by omega)]; exact k2) (by show _ < s' 826; rw [k4.1 _ (by omega)]; exact hr) k6 k7
  refine ⟨q, s', c, cs, k1, k2, k4, k6, k5, k7, e, ?_⟩
  rw [e]
  exact ⟨k8.1, k8.2.1, by rw [k8.2.2]; exact k4.1 _ (by omega)⟩
theorem fetchL_wf {t : Tmf} : ∀ (f : Nat) (d : DS) (B : Int), WF d B → 9 ≤ B → WF (fetchL t f d) (B + 2 * f) ∧ (fetchL t f d).s 900 = d.s 900
  | 0, d, B, h, _ => ⟨h.mono (by omega), rfl⟩
  | f + 1, d, B, h, hB => by
    unfold fetchL
    split
    · rename_i c
      obtain ⟨q, s', c', cs, -, -, -, -, -, -, -, k1, k2, k3⟩ := fetchD_ok (t := t) h hB c.1 c.2
      obtain ⟨m1, m2⟩ := fetchL_wf f (fetchD t d) (B + 2) k1 (by omega)
      exact ⟨m1.mono (by omega), by rw [m2, k3]⟩
    · exact ⟨h.mono (by omega), rfl⟩
theorem WF.set827 {x : Int} (h : WF d B) (h0 : 0 ≤ x) (h1 : x ≤ B) : WF (setS d (iup d.s 827 x)) B := by
  obtain ⟨h1', h2, h3, h4, h5, h6, h7, h8, h9, h10⟩ := h.1
  refine h.scal (by (simp (disch := omega) only [iup_at, iup_ne]; try rfl)) ⟨bnd_iup h1' (Int.le_refl _) (by omega), by (simp (disch := omega) only [iup_at, iup_ne]; try rfl); exact h2, by (simp (disch := omega) only [iup_at, iup_ne]; try rfl); exact h3, by (simp (disch := omega) only [iup_at, iup_ne]; try rfl); exact h0, fun i i0 i1 => by (simp (disch := omega) only [iup_at, iup_ne]; try rfl); exact h5 i i0 i1, by (simp (disch := omega) only [iup_at, iup_ne]; try rfl); exact h6,
    fun i i0 i1 => by (simp (disch := omega) only [iup_at, iup_ne]; try rfl); exact h7 i i0 i1, fun i i0 i1 => by (simp (disch := omega) only [iup_at, iup_ne]; try rfl); exact h8 i i0 i1, fun i i0 i1 => by (simp (disch := omega) only [iup_at, iup_ne]; try rfl); exact h9 i i0 i1, by (simp (disch := omega) only [iup_at, iup_ne]; try rfl); exact h10⟩ (fun p hp => (h.wl hp).1.same (by (simp (disch := omega) only [iup_at, iup_ne]; try rfl)) (fun f f0 f1 => by (simp (disch := omega) only [iup_at, iup_ne]; try rfl))) (fun p hp => by refine ⟨?_, ?_, ?_, ?_, ?_⟩ <;> (simp (disch := omega) only [iup_at, iup_ne]; try rfl))
theorem WF.tick {t : Tmf} (h : WF d B) (hB : 99 ≤ B) : WF (tickD t d) (B + 200) := by
  unfold tickD
  have k1 := (fetchL_wf (t := t) 40 _ _ (h.runs hB).posts.look (by omega)).1
  have k2 := k1.1.1 827
  have k3 := k1.1.2.2.2.1
  exact (k1.mono (B' := B + 200) (by omega)).set827 (by omega) (by omega)
end
