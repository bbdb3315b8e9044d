/-! PURE PROOFS: what is always so stays so: a put, a take, a post -/
set_option maxRecDepth 100000
theorem ones_bit : ∀ (k u : Nat), ones k u < k → u.testBit (ones k u) = false
  | 0, _, h => by simp [ones] at h
  | k + 1, u, h => by
    unfold ones at h ⊢
    by_cases e : u % 2 = 1
    · rw [if_pos e] at h ⊢
      rw [show 1 + ones k (u / 2) = ones k (u / 2) + 1 by omega, Nat.testBit_succ]
      exact ones_bit k (u / 2) (by omega)
    · rw [if_neg e]
      rw [Nat.testBit_zero]
      simpa using e
theorem ones_low : ∀ (k u j : Nat), j < ones k u → u.testBit j = true
  | 0, _, _, h => by simp [ones] at h
  | k + 1, u, j, h => by
    unfold ones at h
    by_cases e : u % 2 = 1
    · rw [if_pos e] at h
      cases j with
      | zero => rw [Nat.testBit_zero]; simpa using e
      | succ j => rw [Nat.testBit_succ]; exact ones_low k (u / 2) j (by omega)
    · rw [if_neg e] at h; omega
section
variable {d : DS} {B B' : Int} {q : Nat} {s s' : Rec}
theorem WF.line (h : WF d B) (h5 : q < 5) {rg ps rn ou : List Rec} {u : Nat} (hs : WS s' B') (h9 : s' 900 = d.s 900) (he : ∀ p : Nat, p < 5 → p ≠ q → ∀ f : Int, 0 ≤ f → f < 24 → s' (89 * p + f) = d.s (89 * p + f))
    (hl : WL s' q rg ps) (hr : rn.length ≤ 4 ∧ All (WkOK (d.s 900)) rn) (ho : All (WdOK (d.s 900)) ou) (hu : u < 65536 ∧ ∀ a : Int, kR a rg + kW q a rn + kO q a ou + kR a ps = if 0 ≤ a ∧ u.testBit a.toNat = true then 1 else 0)
    (hc : ∀ p : Nat, p < 5 → p ≠ q → ∀ a : Int, kW p a rn + kO p a ou = kW p a d.run + kO p a d.out) : WF (s', nup d.ring q rg, nup d.posts q ps, nup d.us q u, rn, ou) B' := by
  obtain ⟨h1, h2, h3, h4, h6⟩ := h
  refine ⟨hs, fun p hp => ?_, ?_, ?_, fun p hp => ?_⟩
  · show WL s' p (nup d.ring q rg p) (nup d.posts q ps p)
    by_cases e : p = q
    · subst e; rw [nup_at, nup_at]; exact hl
    · rw [nup_ne e, nup_ne e]
      obtain ⟨k1, k2, k3, k4, k5, k6⟩ := h2 p hp
      have e' := he p hp e
      refine ⟨k1.same h9 e', ?_, ?_, k4, ?_, k6⟩
      · rw [e' 0 (by omega) (by omega), e' 3 (by omega) (by omega)]; exact k2
      · rw [e' 5 (by omega) (by omega), e' 6 (by omega) (by omega)]; exact k3
      · rw [e' 4 (by omega) (by omega), e' 3 (by omega) (by omega)]; exact k5
  · show _ ∧ All (WkOK (s' 900)) _; rw [h9]; exact hr
  · show All (WdOK (s' 900)) _; rw [h9]; exact ho
  · show nup d.us q u p < 65536 ∧ ∀ a : Int, kR a (nup d.ring q rg p) + kW p a rn + kO p a ou + kR a (nup d.posts q ps p) = if 0 ≤ a ∧ (nup d.us q u p).testBit a.toNat = true then 1 else 0
    by_cases e : p = q
    · subst e; rw [nup_at, nup_at, nup_at]; exact hu
    · rw [nup_ne e, nup_ne e, nup_ne e]
      refine ⟨(h6 p hp).1, fun a => ?_⟩
      have k := (h6 p hp).2 a
      have c := hc p hp e a
      omega
theorem All.app {P : Rec → Prop} {l m : List Rec} (h : All P l) (k : All P m) : All P (l ++ m) := by
  intro x hx
  rcases List.mem_append.mp hx with h1 | h1
  · exact h x h1
  · exact k x h1
theorem All.one {P : Rec → Prop} {x : Rec} (h : P x) : All P [x] := by
  intro y hy
  rw [List.mem_singleton.mp hy]; exact h
theorem All.tl {P : Rec → Prop} {x : Rec} {l : List Rec} (h : All P (x :: l)) : All P l := fun y hy => h y (List.mem_cons_of_mem _ hy)
theorem All.hd {P : Rec → Prop} {x : Rec} {l : List Rec} (h : All P (x :: l)) : P x := h x List.mem_cons_self
theorem kR_one {a : Int} {c : Rec} : kR a [c] = if c 0 = a then 1 else 0 := by simp [kR]
theorem WF.put {op b v : Int} (h : WF d B) (hq : (q : Int) < d.s 900) (ho : 0 ≤ op ∧ op ≤ 4) (hb : 0 ≤ b ∧ b ≤ 9) (hv : 0 ≤ v ∧ v ≤ 99) (hs : d.s (89 * q + 0) - d.s (89 * q + 4) < d.s (89 * q + 20) - 1) (hi : ones 32 (d.us q) < 16) : WF (putD d q op b v) (B + 1) := by
  have h5 := h.hq hq
  have hb1 := h.1.1
  have b0 := hb1 (89 * q + 0)
  unfold putD
  obtain ⟨k1, k2, k3, k4, k5, k6⟩ := h.wl h5
  obtain ⟨u1, u2⟩ := h.2.2.2.2 q h5
  have e : d.posts = nup d.posts q (d.posts q) := nup_self.symm
  rw [e]
  refine h.line h5 (h.1.low (bnd_iup hb1 (by omega) (by omega)) ?_ ?_ ?_) ?_ ?_ ⟨?_, ?_, ?_, ?_, ?_, k6⟩ h.2.2.1 h.2.2.2.1 ⟨set_lt u1 hi, fun a => ?_⟩ (fun p hp hne a => rfl)
  · intro i i0 i1; (simp (disch := omega) only [iup_at, iup_ne]; try rfl)
  · (simp (disch := omega) only [iup_at, iup_ne]; try rfl)
  · (simp (disch := omega) only [iup_at, iup_ne]; try rfl); exact h.1.2.2.2.2.2.2.2.2.2
  · (simp (disch := omega) only [iup_at, iup_ne]; try rfl)
  · intro p hp hne f f0 f1; (simp (disch := omega) only [iup_at, iup_ne]; try rfl)
  · unfold WLs at k1 ⊢
    (simp (disch := omega) only [iup_at, iup_ne]; try rfl)
    exact ⟨⟨k1.1.1, k1.1.2.1, k1.1.2.2.1, by omega, by omega⟩, k1.2.1, k1.2.2.1, k1.2.2.2.1, fun _ => by have := k1.2.2.2.2.1 hq; omega, fun _ => by omega⟩
  · (simp (disch := omega) only [iup_at, iup_ne]; try rfl); rw [List.length_append, List.length_singleton]; omega
  · (simp (disch := omega) only [iup_at, iup_ne]; try rfl); exact k3
  · refine k4.app (All.one ⟨?_, ?_, ?_, ?_, ?_⟩)
    · show 0 ≤ ((ones 32 (d.us q) : Nat) : Int) ∧ ((ones 32 (d.us q) : Nat) : Int) < 16
      omega
    · exact ho
    · exact hb
    · exact hv
    · exact Or.inl rfl
  · (simp (disch := omega) only [iup_at, iup_ne]; try rfl); exact k5
  · rw [kR_app, kR_one]
    show _ + (if ((ones 32 (d.us q) : Nat) : Int) = a then 1 else 0) + _ + _ + _ = _
    have u3 := u2 a
    have u4 := ones_bit 32 (d.us q) (by omega)
    rw [bit_set]
    by_cases e1 : ((ones 32 (d.us q) : Nat) : Int) = a
    · have e2 : a.toNat = ones 32 (d.us q) := by omega
      rw [if_pos e1, if_pos ⟨by omega, by rw [e2]; simp⟩]
      rw [e2, u4, if_neg (by simp)] at u3
      omega
    · rw [if_neg e1]
      by_cases e3 : 0 ≤ a
      · have e4 : decide (ones 32 (d.us q) = a.toNat) = false := decide_eq_false (by omega)
        rw [e4, Bool.or_false]; omega
      · rw [if_neg (by omega)] at u3 ⊢; omega
theorem WF.take {p : Rec} {ps : List Rec} (h : WF d B) (hq : (q : Int) < d.s 900) (hp : d.posts q = p :: ps) : WF (takeD d q p) (B + 1) := by
  have h5 := h.hq hq
  have hb1 := h.1.1
  have b6 := hb1 (89 * q + 6)
  have b3 := hb1 (89 * q + 3)
  unfold takeD
  obtain ⟨k1, k2, k3, k4, k5, k6⟩ := h.wl h5
  obtain ⟨u1, u2⟩ := h.2.2.2.2 q h5
  rw [hp] at k3 k5 k6
  obtain ⟨p0, p1, p2, p3, p4⟩ := k5.hd
  have b4 := hb1 (89 * q + 4)
  have e : d.ring = nup d.ring q (d.ring q) := nup_self.symm
  rw [e, hp]
  rw [List.length_cons] at k3
  refine h.line h5 (h.1.low (bnd_iup (bnd_iup hb1 (B' := B + 1) (by omega) (by omega)) (Int.le_refl _) (by omega)) ?_ ?_ ?_) ?_ ?_ ⟨?_, ?_, ?_, ?_, ?_, k6.2⟩ h.2.2.1 h.2.2.2.1 ⟨bclr_lt u1, fun a => ?_⟩ (fun p hp hne a => rfl)
  · intro i i0 i1; (simp (disch := omega) only [iup_at, iup_ne]; try rfl)
  · (simp (disch := omega) only [iup_at, iup_ne]; try rfl)
  · (simp (disch := omega) only [iup_at, iup_ne]; try rfl); exact h.1.2.2.2.2.2.2.2.2.2
  · (simp (disch := omega) only [iup_at, iup_ne]; try rfl)
  · intro p hp hne f f0 f1; (simp (disch := omega) only [iup_at, iup_ne]; try rfl)
  · unfold WLs at k1 ⊢
    (simp (disch := omega) only [iup_at, iup_ne]; try rfl)
    exact ⟨⟨by omega, by omega, k1.1.2.2.1, by omega, by omega⟩, by omega, k1.2.2.1, k1.2.2.2.1, fun _ => by have := k1.2.2.2.2.1 hq; omega, fun _ => by omega⟩
  · (simp (disch := omega) only [iup_at, iup_ne]; try rfl); exact k2
  · (simp (disch := omega) only [iup_at, iup_ne]; try rfl); rw [List.tail_cons]; omega
  · exact k4
  · (simp (disch := omega) only [iup_at, iup_ne]; try rfl)
    rw [List.tail_cons]
    intro x hx
    obtain ⟨x0, x1, x2, x3, x4⟩ := k5.tl x hx
    exact ⟨x0, x1, x2, ⟨k6.1 x hx, x3.2⟩, x4⟩
  · rw [List.tail_cons]
    have u3 := u2 a
    rw [hp] at u3
    simp only [kR] at u3
    by_cases e1 : p 0 = a
    · rw [if_pos e1] at u3
      rw [if_neg]
      · split at u3 <;> omega
      · rintro ⟨n1, n2⟩
        rw [bit_clr (by omega) (by omega)] at n2
        rw [show (p 0).toNat = a.toNat by omega] at n2
        simp at n2
    · rw [if_neg e1] at u3
      by_cases e3 : 0 ≤ a ∧ a < 16
      · rw [bit_clr (by omega) (by omega), decide_eq_false (show ¬ (p 0).toNat = a.toNat by omega)]
        simp only [Bool.not_false, Bool.and_true]
        omega
      · have hz : ∀ u : Nat, u < 65536 → ¬ (0 ≤ a ∧ u.testBit a.toNat = true) := by
          rintro u hu ⟨z1, z2⟩
          have z3 : u < 2 ^ a.toNat := Nat.lt_of_lt_of_le (show u < 2 ^ 16 from hu) (Nat.pow_le_pow_right (by decide) (show 16 ≤ a.toNat by omega))
          rw [Nat.testBit_lt_two_pow z3] at z2
          cases z2
        rw [if_neg (hz _ u1)] at u3
        rw [if_neg (hz _ (bclr_lt u1))]
        omega
end
