/-! PURE PROOFS: the host, on the twin's row: takes, calls back -/
set_option maxRecDepth 100000
def recA (d : DS) (q id : Int) : Int :=
  if (0 ≤ q ∧ q < d.s 900) ∧ (0 ≤ id ∧ id ≤ 15) then
    if ((d.ring q.toNat).findIdx? (isId id)).isSome = true then (if (d.ring q.toNat).any (fun c => isId id c && decide (c 4 = 1)) = true then -3 else 0)
    else match d.run.find? (fun v => hasId v q id) with
      | none => -2
      | some v => if v 11 = 1 then -4 else 1
  else -1
def calM (d : DS) (q id : Int) : DS := if recA d q id < 0 then d else callD d q.toNat id
section
variable {w : Tw} {r : Nat} {d : DS} {B : Int} {q : Nat}
theorem t_takesOne0 {Q : Int → Tw → Prop} {q : Int} (h : TwA w r d) (hw : WF d B) (hB : B ≤ 100000000) (h1 : R32 q) (hn : takR d q < 0) (hQ : Q (takR d q) w) : f_X4_takesOne r q w Q := by
  have hm := hw.many
  unfold f_X4_takesOne
  refine t_isQueue h hm h1 ?_
  unfold takR at hQ hn
  by_cases c1 : 0 ≤ q ∧ q < d.s 900
  · rw [decide_eq_true c1]
    rw [if_pos c1] at hQ hn
    obtain ⟨n, rfl⟩ : ∃ n : Nat, q = n := ⟨q.toNat, by omega⟩
    rw [Int.toNat_natCast] at hQ hn
    have h5 : n < 5 := by omega
    have hl := (hw.wl h5).2.2.1
    refine brB_T (t_of h h5 (by omega) (by omega) (t_of h h5 (by omega) (by omega) ?_))
    cases hp : d.posts n with
    | nil =>
      rw [hp] at hQ hl
      simp only [List.length_nil] at hl
      exact br_F (hw.r (by omega) _) (hw.r (by omega) _) (by omega) hQ
    | cons p ps =>
      rw [hp, if_neg (by simp)] at hn
      omega
  · rw [decide_eq_false c1]
    rw [if_neg c1] at hQ
    exact brB_F hQ
/-- the first of the posted is taken -/
theorem RowR.take {ρ ρ' : Rec} {p : Rec} {ps : List Rec} (h : RowR ρ d) (hl : Lens d) (hq : q < 5) (hp : d.posts q = p :: ps) (e : ρ' = iup (iup ρ (89 * q + 6) (d.s (89 * q + 6) + 1)) (89 * q + 4) (p 3)) : RowR ρ' (takeD d q p) := by
  obtain ⟨h1, h2, h4, h5, h6, h7, h8⟩ := h
  have es : ∀ i : Int, i ≠ 89 * q + 6 → i ≠ 89 * q + 4 → ρ' i = ρ i := fun i i0 i1 => by rw [e, iup_ne i1, iup_ne i0]
  unfold takeD
  refine ⟨fun j hj => ?_, ?_, ?_, fun x hx => ?_, fun x hx => ?_, ?_, ?_⟩
  · show ρ' j = iup (iup d.s (89 * q + 6) (d.s (89 * q + 6) + 1)) (89 * q + 4) (p 3) j
    rw [e]
    by_cases c1 : j = 89 * q + 4
    · rw [c1, iup_at, iup_at]
    · rw [iup_ne c1, iup_ne c1]
      by_cases c2 : j = 89 * q + 6
      · rw [c2, iup_at, iup_at]
      · rw [iup_ne c2, iup_ne c2]; exact h1 j hj
  · rw [es _ (by omega) (by omega)]; exact h2
  · rw [es _ (by omega) (by omega)]; exact h4
  · show RingL ρ' _ (iup (iup d.s (89 * q + 6) (d.s (89 * q + 6) + 1)) (89 * q + 4) (p 3) (89 * x + 3)) (d.ring x)
    rw [iup_ne (by omega), iup_ne (by omega)]
    exact (h5 x hx).congr (fun j j0 j1 => es j (by omega) (by omega))
  · show RingL ρ' _ (iup (iup d.s (89 * q + 6) (d.s (89 * q + 6) + 1)) (89 * q + 4) (p 3) (89 * x + 6)) (nup d.posts q (d.posts q).tail x)
    rw [iup_ne (by omega)]
    by_cases ex : x = q
    · subst ex
      rw [iup_at, nup_at, hp, List.tail_cons]
      have := h6 x hx
      rw [hp] at this
      exact this.tail.congr (fun j j0 j1 => es j (by omega) (by omega))
    · rw [iup_ne (by omega), nup_ne ex]
      exact (h6 x hx).congr (fun j j0 j1 => es j (by omega) (by omega))
  · exact h7.congr hl.1 (fun j j0 j1 => es j (by omega) (by omega))
  · exact h8.congr hl.2 (fun j j0 j1 => es j (by omega) (by omega))
theorem t_takesOne {Q : Int → Tw → Prop} {p : Rec} {ps : List Rec} (h : TwA w r d) (hr : r = 20 ∨ r = 21) (hw : WF d B) (hB : B ≤ 100000000) (hq9 : (q : Int) < d.s 900) (hp : d.posts q = p :: ps)
    (hQ : ∀ w' (a : Int), TwA w' r (takeD d q p) → TFr r w w' → 0 ≤ a → a ≤ 440 → (∀ f : Int, 0 ≤ f → f < 5 → w' r (a + f) = p f) → Q a w') : f_X4_takesOne r q w Q := by
  have hm := hw.many
  have h5 := hw.hq hq9
  have hl := (hw.wl h5).2.2.1
  rw [hp, List.length_cons] at hl
  have hnn := hw.nn h5
  have hb6 := hw.1.1 (89 * q + 6)
  unfold f_X4_takesOne
  refine t_isQueue h hm ⟨by omega, by omega⟩ ?_
  rw [decide_eq_true ⟨by omega, hq9⟩]
  refine brB_T (t_of h h5 (by omega) (by omega) (t_of h h5 (by omega) (by omega) (br_T (hw.r (by omega) _) (hw.r (by omega) _) (by omega) (t_of h h5 (by omega) (by omega) ?_))))
  unfold f_X4_placeAt f_X4_sets
  refine ⟨⟨by omega, by omega, by omega, by omega⟩, t_of h h5 (by omega) (by omega) ⟨⟨by omega, by omega⟩, ?_⟩⟩
  have hA : 89 * (q : Int) + 49 ≤ 89 * q + 49 + 5 * (d.s (89 * q + 6) % 8) ∧ 89 * q + 49 + 5 * (d.s (89 * q + 6) % 8) ≤ 89 * (q : Int) + 84 := by omega
  have cell : ∀ f : Int, 0 ≤ f → f < 5 → w r (89 * q + 49 + 5 * (d.s (89 * q + 6) % 8) + f) = p f := by
    intro f f0 f1
    have := h.1.2.2.2.2.1 q h5 0 p (by rw [hp]; rfl) f f0 f1
    rw [← this]
    congr 3
    simp
  generalize hAe : 89 * (q : Int) + 49 + 5 * (d.s (89 * q + 6) % 8) = A at hA cell ⊢
  clear hAe
  have e3 : tup w r (89 * q + 6) (d.s (89 * q + 6) + 1) r (A + 3) = p 3 := by rw [tw_at, iup_ne (by omega)]; exact cell 3 (by omega) (by omega)
  simp only [e3]
  refine ⟨⟨by omega, by omega⟩, ⟨by omega, by omega⟩, ?_⟩
  have tf : TFr r w (tup (tup w r (89 * q + 6) (d.s (89 * q + 6) + 1)) r (89 * q + 4) (p 3)) := TFr.tp.trans TFr.tp
  refine hQ _ A (h.row hr tf ?_ (takeD_9 (by omega) h5) (fun x hx f f0 f1 => ?_)) tf (by omega) (by omega) (fun f f0 f1 => ?_)
  · simp only [tw_at]
    exact h.1.take hw.lens h5 hp rfl
  · show iup (iup d.s (89 * q + 6) (d.s (89 * q + 6) + 1)) (89 * q + 4) (p 3) _ = _
    rw [iup_ne (by omega), iup_ne (by omega)]
  · simp only [tw_at]
    rw [iup_ne (by omega), iup_ne (by omega)]
    exact cell f f0 f1
theorem split_id {p : Rec → Bool} : ∀ {l : List Rec} {k : Nat}, l.findIdx? p = some k → ∃ l1 c l2, l = l1 ++ c :: l2 ∧ l1.length = k ∧ p c = true ∧ ∀ x ∈ l1, p x = false
  | [], k, h => by simp at h
  | c :: l, k, h => by
    rw [List.findIdx?_cons] at h
    by_cases e : p c = true
    · rw [if_pos e] at h
      injection h with h
      exact ⟨[], c, l, rfl, h, e, fun x hx => by cases hx⟩
    · rw [if_neg e] at h
      cases hf : l.findIdx? p with
      | none => rw [hf] at h; cases h
      | some j =>
        rw [hf] at h
        simp only [Option.map_some, Option.some.injEq] at h
        obtain ⟨l1, c', l2, k1, k2, k3, k4⟩ := split_id hf
        refine ⟨c :: l1, c', l2, by rw [k1]; rfl, by rw [List.length_cons, k2]; exact h, k3, fun x hx => ?_⟩
        rcases List.mem_cons.mp hx with hx | hx
        · rw [hx]; simpa using e
        · exact k4 x hx
theorem kR_zero {a : Int} : ∀ {l : List Rec}, kR a l = 0 ↔ ∀ x ∈ l, x 0 ≠ a
  | [] => by simp [kR]
  | c :: l => by
    simp only [kR, List.mem_cons, forall_eq_or_imp]
    rw [← kR_zero (l := l)]
    by_cases e : c 0 = a
    · rw [if_pos e]
      exact ⟨fun z => by omega, fun z => absurd e z.1⟩
    · rw [if_neg e]
      exact ⟨fun z => ⟨e, by omega⟩, fun z => by omega⟩
theorem kW_zero {x a : Int} : ∀ {l : List Rec}, kW x a l = 0 ↔ ∀ v ∈ l, hasId v x a = false
  | [] => by simp [kW]
  | c :: l => by
    simp only [kW, List.mem_cons, forall_eq_or_imp]
    rw [← kW_zero (l := l)]
    have hk := hasId_k (v := c) (x := x) (id := a)
    by_cases e : hasId c x a = true
    · have := hk.mp e
      exact ⟨fun z => by omega, fun z => by rw [e] at z; cases z.1⟩
    · have : ¬ 0 < (if c 0 = x ∧ c 1 = a then 1 else 0) + (if c 0 = x ∧ 0 ≤ c 7 ∧ c 6 = a then 1 else 0) := fun z => e (hk.mpr z)
      exact ⟨fun z => ⟨by simpa using e, by omega⟩, fun z => by omega⟩
theorem map_none {id : Int} : ∀ {l : List Rec}, (∀ x ∈ l, x 0 ≠ id) → l.map (callC id) = l
  | [], _ => rfl
  | c :: l, h => by
    rw [List.map_cons, map_none (fun x hx => h x (List.mem_cons_of_mem _ hx))]
    have : callC id c = c := by unfold callC; rw [if_neg (h c List.mem_cons_self)]
    rw [this]
theorem callL_none {id : Int} : ∀ (l : List Rec) (e : DS), (∀ v ∈ l, hasId v q id = false) → l.foldl (callStep q id) e = setRun e (e.run ++ l)
  | [], e, _ => by rw [List.append_nil]; rfl
  | c :: l, e, h => by
    have hc : callStep q id e c = setRun e (e.run ++ [c]) := by unfold callStep; rw [h c List.mem_cons_self, if_neg (by simp)]
    rw [List.foldl_cons, hc, callL_none l _ (fun v hv => h v (List.mem_cons_of_mem _ hv))]
    show setRun e ((e.run ++ [c]) ++ l) = _
    rw [List.append_assoc]; rfl
theorem callD_ring {id : Int} (h : ∀ v ∈ d.run, hasId v q id = false) : callD d q id = callRing d q id := by
  unfold callD
  have := callL_none (q := q) (id := id) (callRing d q id).run (setRun (callRing d q id) []) h
  rw [this]
  rfl
theorem callD_run {id : Int} {l1 l2 : List Rec} {c : Rec} (h0 : ∀ x ∈ d.ring q, x 0 ≠ id) (hr : d.run = l1 ++ c :: l2) (hc : hasId c q id = true) (h1 : ∀ v ∈ l1, hasId v q id = false) (h2 : ∀ v ∈ l2, hasId v q id = false) : callD d q id = setRun (setOut d (d.out ++ backW c)) (l1 ++ l2) := by
  have ec : callRing d q id = d := by unfold callRing; rw [map_none h0, nup_self]; rfl
  unfold callD
  rw [ec, hr, List.foldl_append, callL_none l1 _ h1, List.foldl_cons]
  have : callStep q id (setRun (setRun d []) ((setRun d []).run ++ l1)) c = setOut (setRun d l1) (d.out ++ backW c) := by
    unfold callStep
    rw [hc, if_pos rfl]
    rfl
  rw [this, callL_none l2 _ h2]
  rfl
theorem recA_ids (hw : WF d B) (h5 : q < 5) {id : Int} (h0 : 0 ≤ id) : kR id (d.ring q) + kW q id d.run ≤ 1 := by
  have := hw.ids h5 h0
  split at this <;> omega
theorem t_callsAnswer {Q : Int → Tw → Prop} {q id : Int} (h : TwA w r d) (hw : WF d B) (hB : B ≤ 100000000) (h1 : R32 q) (h2 : R32 id) (hQ : Q (recA d q id) w) : f_X4_callsAnswer r q id w Q := by
  have hm := hw.many
  unfold f_X4_callsAnswer
  refine t_isQueue h hm h1 ?_
  unfold recA at hQ
  by_cases c1 : 0 ≤ q ∧ q < d.s 900
  · rw [decide_eq_true c1]
    refine brB_T ⟨h2, t_in h2 r0 ⟨by decide, by decide⟩ ?_⟩
    by_cases c2 : 0 ≤ id ∧ id ≤ 15
    · rw [decide_eq_true c2]
      rw [if_pos ⟨c1, c2⟩] at hQ
      obtain ⟨n, rfl⟩ : ∃ n : Nat, q = n := ⟨q.toNat, by omega⟩
      rw [Int.toNat_natCast] at hQ
      have h5 : n < 5 := by omega
      have hids := recA_ids hw h5 c2.1
      have hnn := hw.nn h5
      have hb3 := hw.1.1 (89 * n + 3)
      have rl := hw.ringlen h5
      refine brB_T (t_ringOf h h5 hw (by omega) h2 ?_)
      unfold ringOf
      cases hf : (d.ring n).findIdx? (isId id) with
      | some k =>
        rw [hf, if_pos (show (some k).isSome = true from rfl)] at hQ
        have hk := fi_lt hf
        rw [ofi_some]
        obtain ⟨l1, c, l2, k1, k2, k3, k4⟩ := split_id hf
        have hu : kR id (d.ring n) ≤ 1 := by omega
        rw [k1, kR_app] at hu
        simp only [kR] at hu
        have hc0 : c 0 = id := of_decide_eq_true k3
        rw [if_pos hc0] at hu
        have z2 : kR id l2 = 0 := by omega
        have z2' := kR_zero.mp z2
        have hget : (d.ring n)[k]? = some c := by rw [k1, ← k2, List.getElem?_append_right (Nat.le_refl _), Nat.sub_self]; rfl
        have cell := h.1.2.2.2.1 n h5 k c hget 4 (by omega) (by omega)
        have hany : (d.ring n).any (fun c => isId id c && decide (c 4 = 1)) = decide (c 4 = 1) := by
          rw [k1, List.any_append, List.any_cons, k3, Bool.true_and]
          have a1 : l1.any (fun c => isId id c && decide (c 4 = 1)) = false := by
            rw [List.any_eq_false]
            intro x hx
            rw [k4 x hx]; simp
          have a2 : l2.any (fun c => isId id c && decide (c 4 = 1)) = false := by
            rw [List.any_eq_false]
            intro x hx
            have : isId id x = false := decide_eq_false (z2' x hx)
            rw [this]; simp
          rw [a1, a2]; simp
        have hcok : CmdOK c := (hw.wl h5).2.2.2.1 c (get_mem hget)
        refine br0_F ⟨by omega, by omega⟩ (by omega) (t_of h h5 (by omega) (by omega) ?_)
        unfold f_X4_ringAt
        refine ⟨⟨by omega, by omega, by omega, by omega⟩, ⟨by omega, by omega⟩, ?_⟩
        rw [cell]
        rw [hany] at hQ
        by_cases c4 : c 4 = 1
        · rw [if_pos (decide_eq_true c4)] at hQ
          exact br_F ⟨by omega, by omega⟩ r1 (by omega) hQ
        · rw [if_neg (by simpa using c4)] at hQ
          have := hcok.2.2.2.2
          exact br_T ⟨by omega, by omega⟩ r1 c4 hQ
      | none =>
        rw [hf, if_neg (by simp)] at hQ
        rw [ofi_none]
        refine br0_T ⟨by decide, by decide⟩ (by decide) (t_runOf h hw h5 h2 ?_)
        unfold runOf
        cases hf2 : d.run.findIdx? (fun v => hasId v n id) with
        | none =>
          rw [ofi_none]
          have : d.run.find? (fun v => hasId v n id) = none := by
            rw [List.find?_eq_none]
            rw [List.findIdx?_eq_none_iff] at hf2
            intro x hx
            rw [hf2 x hx]; simp
          rw [this] at hQ
          exact br0_F ⟨by decide, by decide⟩ (by decide) hQ
        | some k =>
          have hk := fi_lt hf2
          have hl4 := hw.2.2.1.1
          rw [ofi_some]
          obtain ⟨l1, c, l2, k1, k2, k3, k4⟩ := split_id hf2
          have hget : d.run[k]? = some c := by rw [k1, ← k2, List.getElem?_append_right (Nat.le_refl _), Nat.sub_self]; rfl
          have hfind : d.run.find? (fun v => hasId v n id) = some c := by
            rw [k1, List.find?_append, List.find?_eq_none.mpr (fun x hx => by rw [k4 x hx]; simp), Option.none_or, List.find?_cons, k3]
          rw [hfind] at hQ
          simp only at hQ
          have cell := h.1.2.2.2.2.2.1 k c hget 11 (by omega) (by omega) (by omega)
          obtain ⟨w0, w1, w3, w4, w5, w11, w7⟩ := hw.2.2.1.2 c (get_mem hget)
          unfold f_X4_runAt
          refine br0_T ⟨by omega, by omega⟩ (by omega) ⟨⟨by omega, by omega⟩, ?_⟩
          rw [cell]
          by_cases c11 : c 11 = 1
          · rw [if_pos c11] at hQ
            exact br_F ⟨by omega, by omega⟩ ⟨by decide, by decide⟩ (by omega) hQ
          · rw [if_neg c11] at hQ
            exact br_T ⟨by omega, by omega⟩ ⟨by decide, by decide⟩ (by omega) hQ
    · rw [decide_eq_false c2]
      rw [if_neg (fun z => c2 z.2)] at hQ
      exact brB_F hQ
  · rw [decide_eq_false c1]
    rw [if_neg (fun z => c1 z.1)] at hQ
    exact brB_F hQ
theorem RowR.called {ρ : Rec} {id : Int} {l1 l2 : List Rec} {c : Rec} (h : RowR ρ d) (hl : Lens d) (hq : q < 5) (h3 : 0 ≤ d.s (89 * q + 3)) (hrl : (d.ring q).length ≤ 7) (hr : d.ring q = l1 ++ c :: l2) (hc : c 0 = id) (h1 : ∀ x ∈ l1, x 0 ≠ id) (h2 : ∀ x ∈ l2, x 0 ≠ id) : RowR (iup ρ (89 * q + 9 + 5 * ((d.s (89 * q + 3) + (l1.length : Nat)) % 8) + 4) 1) (callRing d q id) := by
  obtain ⟨k1, k2, k4, k5, k6, k7, k8⟩ := h
  have hA : 89 * (q : Int) + 9 ≤ 89 * q + 9 + 5 * ((d.s (89 * q + 3) + (l1.length : Nat)) % 8) ∧ 89 * q + 9 + 5 * ((d.s (89 * q + 3) + (l1.length : Nat)) % 8) ≤ 89 * (q : Int) + 44 := by omega
  have em : (d.ring q).map (callC id) = l1 ++ iup c 4 1 :: l2 := by
    rw [hr, List.map_append, List.map_cons, map_none h1, map_none h2]
    unfold callC
    rw [if_pos hc]
  have hlen : l1.length + l2.length + 1 ≤ 7 := by rw [hr, List.length_append, List.length_cons] at hrl; omega
  unfold callRing
  rw [em]
  have es : ∀ i : Int, (i < 89 * q + 9 ∨ 89 * (q : Int) + 49 ≤ i) → iup ρ (89 * q + 9 + 5 * ((d.s (89 * q + 3) + (l1.length : Nat)) % 8) + 4) 1 i = ρ i := fun i hi => iup_ne (by omega)
  refine ⟨fun j hj => ?_, ?_, ?_, fun x hx => ?_, fun x hx => ?_, ?_, ?_⟩
  · have hj' := hj
    unfold isSc at hj'
    rw [es j (by omega)]; exact k1 j hj
  · rw [es _ (by omega)]; exact k2
  · rw [es _ (by omega)]; exact k4
  · show RingL _ _ (d.s (89 * x + 3)) (nup d.ring q (l1 ++ iup c 4 1 :: l2) x)
    by_cases ex : x = q
    · subst ex
      rw [nup_at]
      have g := k5 x hx
      rw [hr] at g
      intro k v hv f f0 f1
      have hk := get_lt hv
      rw [List.length_append, List.length_cons] at hk
      by_cases ek : k = l1.length
      · subst ek
        rw [List.getElem?_append_right (Nat.le_refl _), Nat.sub_self] at hv
        simp only [List.getElem?_cons_zero, Option.some.injEq] at hv
        subst hv
        by_cases e4 : f = 4
        · subst e4; rw [iup_at, iup_at]
        · rw [iup_ne (by omega), iup_ne e4]
          exact g l1.length c (by rw [List.getElem?_append_right (Nat.le_refl _), Nat.sub_self]; rfl) f f0 f1
      · rw [iup_ne (by omega)]
        refine g k v ?_ f f0 f1
        by_cases kl : k < l1.length
        · rw [List.getElem?_append_left kl] at hv ⊢
          exact hv
        · rw [List.getElem?_append_right (by omega)] at hv ⊢
          obtain ⟨j, hj⟩ : ∃ j, k - l1.length = j + 1 := ⟨k - l1.length - 1, by omega⟩
          rw [hj, List.getElem?_cons_succ] at hv ⊢
          exact hv
    · rw [nup_ne ex]
      exact (k5 x hx).congr (fun j j0 j1 => es j (by omega))
  · exact (k6 x hx).congr (fun j j0 j1 => es j (by omega))
  · exact k7.congr hl.1 (fun j j0 j1 => es j (by omega))
  · exact k8.congr hl.2 (fun j j0 j1 => es j (by omega))
theorem recA_0 {q id : Int} (h : 0 ≤ recA d q id) : (0 ≤ q ∧ q < d.s 900) ∧ (0 ≤ id ∧ id ≤ 15) := by
  unfold recA at h
  by_cases c : (0 ≤ q ∧ q < d.s 900) ∧ (0 ≤ id ∧ id ≤ 15)
  · exact c
  · rw [if_neg c] at h; omega
/-- what is called back: in a ring, or running -/
theorem recA_at (hw : WF d B) {id : Int} (h : 0 ≤ recA d q id) : (recA d q id = 0 ∧ (∃ l1 c l2, d.ring q = l1 ++ c :: l2 ∧ (d.ring q).findIdx? (isId id) = some l1.length ∧ c 0 = id ∧ (∀ x ∈ l1, x 0 ≠ id) ∧ (∀ x ∈ l2, x 0 ≠ id)) ∧ (∀ v ∈ d.run, hasId v q id = false)) ∨
    (recA d q id = 1 ∧ (∀ x ∈ d.ring q, x 0 ≠ id) ∧ ∃ l1 c l2, d.run = l1 ++ c :: l2 ∧ d.run.findIdx? (fun v => hasId v q id) = some l1.length ∧ hasId c q id = true ∧ (∀ v ∈ l1, hasId v q id = false) ∧ (∀ v ∈ l2, hasId v q id = false)) := by
  obtain ⟨c1, c2⟩ := recA_0 h
  have hm := hw.many
  have h5 : q < 5 := by omega
  have hids := recA_ids hw h5 c2.1
  unfold recA at h ⊢
  rw [if_pos ⟨c1, c2⟩] at h ⊢
  rw [Int.toNat_natCast] at h ⊢
  cases hf : (d.ring q).findIdx? (isId id) with
  | some k =>
    rw [hf, if_pos (show (some k).isSome = true from rfl)] at h
    left
    have pos := ring_kR.mp (show ((d.ring q).findIdx? (isId id)).isSome = true by rw [hf]; rfl)
    refine ⟨?_, ?_, kW_zero.mp (by omega)⟩
    · rw [if_pos (show (some k).isSome = true from rfl)]
      split at h
      · omega
      · rename_i c; rw [if_neg c]
    · obtain ⟨l1, c, l2, k1, k2, k3, k4⟩ := split_id hf
      have hu : kR id (d.ring q) ≤ 1 := by omega
      rw [k1, kR_app] at hu
      simp only [kR] at hu
      have hc0 : c 0 = id := of_decide_eq_true k3
      rw [if_pos hc0] at hu
      exact ⟨l1, c, l2, k1, by rw [k2], hc0, fun x hx => of_decide_eq_false (k4 x hx), kR_zero.mp (by omega)⟩
  | none =>
    rw [hf, if_neg (by simp)] at h
    right
    have hz : kR id (d.ring q) = 0 := by
      have : ¬ 0 < kR id (d.ring q) := fun z => by have := ring_kR.mpr z; rw [hf] at this; cases this
      omega
    rw [if_neg (by simp)]
    cases hf2 : d.run.findIdx? (fun v => hasId v q id) with
    | none =>
      have : d.run.find? (fun v => hasId v q id) = none := by
        rw [List.find?_eq_none]
        rw [List.findIdx?_eq_none_iff] at hf2
        intro x hx
        rw [hf2 x hx]; simp
      rw [this] at h
      simp at h
    | some k =>
      obtain ⟨l1, c, l2, k1, k2, k3, k4⟩ := split_id hf2
      have hfind : d.run.find? (fun v => hasId v q id) = some c := by
        rw [k1, List.find?_append, List.find?_eq_none.mpr (fun x hx => by rw [k4 x hx]; simp), Option.none_or, List.find?_cons, k3]
      rw [hfind] at h ⊢
      simp only at h ⊢
      have hu : kW q id d.run ≤ 1 := by omega
      rw [k1, kW_app] at hu
      simp only [kW] at hu
      have := hasId_k.mp k3
      refine ⟨?_, kR_zero.mp hz, l1, c, l2, k1, by rw [k2], k3, k4, kW_zero.mp (by omega)⟩
      split at h
      · omega
      · rename_i z; rw [if_neg z]
theorem t_callsOne {Q : Int → Tw → Prop} {q id : Int} (h : TwA w r d) (hr : r = 20 ∨ r = 21) (hw : WF d B) (hB : B ≤ 100000000) (h1 : R32 q) (h2 : R32 id) (hQ : ∀ w', TwA w' r (calM d q id) → TFr r w w' → Q (recA d q id) w') : f_X4_callsOne r q id w Q := by
  unfold f_X4_callsOne
  refine t_callsAnswer h hw hB h1 h2 ?_
  unfold calM at hQ
  by_cases hn : recA d q id < 0
  · rw [if_pos hn] at hQ
    have hr4 : -5 ≤ recA d q id := by
      unfold recA
      split
      · split
        · split <;> decide
        · split
          · decide
          · split <;> decide
      · decide
    unfold f_X4_callsOne_36
    exact br0_T ⟨by omega, by omega⟩ (by omega) (br_T ⟨by omega, by omega⟩ r1 (by omega) (hQ w h TFr.refl))
  · rw [if_neg hn] at hQ
    obtain ⟨c1, c2⟩ := recA_0 (d := d) (q := q) (id := id) (by omega)
    obtain ⟨n, rfl⟩ : ∃ n : Nat, q = n := ⟨q.toNat, by omega⟩
    rw [Int.toNat_natCast] at hQ
    have hm := hw.many
    have h5 : n < 5 := by omega
    have hnn := hw.nn h5
    have hb3 := hw.1.1 (89 * n + 3)
    have rl := hw.ringlen h5
    rcases recA_at hw (show 0 ≤ recA d n id by omega) with ⟨e0, ⟨l1, c, l2, k1, k2, k3, k4, k5⟩, k6⟩ | ⟨e1, k0, l1, c, l2, k1, k2, k3, k4, k5⟩
    · rw [callD_ring k6] at hQ
      rw [e0] at hQ ⊢
      refine br0_F r0 (by decide) (t_of h h5 (by omega) (by omega) (t_ringOf h h5 hw (by omega) h2 ?_))
      unfold ringOf f_X4_ringAt
      rw [k2, ofi_some]
      have hl1 : l1.length < 7 := by rw [k1, List.length_append, List.length_cons] at rl; omega
      refine ⟨⟨by omega, by omega, by omega, by omega⟩, ⟨by omega, by omega⟩, ?_⟩
      unfold f_X4_callsOne_36
      refine br_T r0 r1 (by decide) (hQ _ (h.row hr TFr.tp ?_ rfl (fun _ _ _ _ _ => rfl)) TFr.tp)
      rw [tw_at]
      exact h.1.called hw.lens h5 hnn.1 rl k1 k3 k4 k5
    · have hcd := callD_run k0 k1 k3 k4 k5
      have hwc := hw.call (id := id) h5
      rw [hcd] at hQ hwc
      rw [e1] at hQ ⊢
      have hl4 : l1.length + l2.length + 1 ≤ 4 := by have := hw.2.2.1.1; rw [k1, List.length_append, List.length_cons] at this; omega
      have hget : d.run[l1.length]? = some c := by rw [k1, List.getElem?_append_right (Nat.le_refl _), Nat.sub_self]; rfl
      have hcq : c 0 = n := by unfold hasId at k3; simp only [Bool.and_eq_true, decide_eq_true_eq] at k3; exact k3.1
      have hol : (d.out ++ backW c).length ≤ 80 := hwc.outlen
      rw [List.length_append] at hol
      have hl := hw.lens
      have g := h.1.2.2.2.2.2.1 l1.length c hget
      obtain ⟨w0, w1, w3, w4, w5, w11, w7⟩ := hw.2.2.1.2 c (get_mem hget)
      refine br0_T r1 (by decide) ?_
      unfold f_X4_callsOne_36 f_X4_callsOne_96
      refine br_F r1 r1 (by decide) (t_runOf h hw h5 h2 ?_)
      unfold runOf
      rw [k2, ofi_some]
      unfold f_X4_runAt
      refine ⟨⟨by omega, by omega⟩, ?_⟩
      rw [show (445 + 12 * ((l1.length : Nat) : Int) + 1 + 0) = 445 + 12 * (l1.length : Nat) + 1 by omega, g 1 (by omega) (by omega) (by omega)]
      have hb1 : d.out.length + 1 ≤ 80 := by unfold backW at hol; split at hol <;> simp at hol <;> omega
      refine t_comesOut h hr hl (by omega) (fun wa ga fa => ?_)
      have gg := ga.1.2.2.2.2.2.1 l1.length c hget
      unfold f_X4_hasSecond f_X4_runAt
      refine ⟨⟨by omega, by omega⟩, ?_⟩
      rw [show (445 + 12 * ((l1.length : Nat) : Int) + 6 + 1) = 445 + 12 * (l1.length : Nat) + 7 by omega, gg 7 (by omega) (by omega) (by omega)]
      have la : Lens (outD d (rec4 n (c 1) 1 0)) := ⟨hl.1, by show (d.out ++ [_]).length ≤ 80; rw [List.length_append, List.length_singleton]; omega⟩
      unfold backW at hQ hol
      by_cases n7 : c 7 < 0
      · rw [if_pos n7] at hQ
        rw [hcq] at hQ
        refine br0_T ⟨by omega, by omega⟩ n7 (brB_F (t_runGoes (c := c) (l := l1) (m := l2) ga hr la k1 (fun wb gb fb => hQ wb gb (fa.trans fb))))
      · rw [if_neg n7] at hQ hol
        rw [hcq] at hQ
        have hol2 : d.out.length + 2 ≤ 80 := hol
        refine br0_F ⟨by omega, by omega⟩ n7 (brB_T ⟨⟨by omega, by omega⟩, ?_⟩)
        rw [show (445 + 12 * ((l1.length : Nat) : Int) + 6 + 0) = 445 + 12 * (l1.length : Nat) + 6 by omega, gg 6 (by omega) (by omega) (by omega)]
        refine t_comesOut ga hr la (by show (d.out ++ [_]).length < 80; rw [List.length_append, List.length_singleton]; omega) (fun wb gb fb => ?_)
        refine t_runGoes (c := c) (l := l1) (m := l2) gb hr ⟨hl.1, by show ((d.out ++ [_]) ++ [_]).length ≤ 80; rw [List.length_append, List.length_append, List.length_singleton, List.length_singleton]; omega⟩ k1 (fun wc gc fc => hQ wc ?_ ((fa.trans fb).trans fc))
        have ea : (d.out ++ [rec4 n (c 1) 1 0]) ++ [rec4 n (c 6) 1 0] = d.out ++ [rec4 n (c 1) 1 0, rec4 n (c 6) 1 0] := by simp
        rw [← ea]
        exact gc
end
