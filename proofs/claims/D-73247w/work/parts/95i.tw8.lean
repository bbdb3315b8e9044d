/-! PURE PROOFS: the host, on the twin's row: puts, rings, takes -/
set_option maxRecDepth 100000
section
variable {w : Tw} {r : Nat} {d : DS} {B : Int} {q : Nat}
theorem ofi_nn {o : Option Nat} : 0 ≤ ofi o ↔ o.isSome = true := by
  cases o with
  | none => simp [ofi]
  | some k => simp [ofi]
theorem ring_kR {id : Int} : ∀ {l : List Rec}, (l.findIdx? (isId id)).isSome = true ↔ 0 < kR id l
  | [] => by simp [kR]
  | c :: l => by
    rw [List.findIdx?_cons]
    unfold kR
    by_cases e : c 0 = id
    · rw [if_pos (show isId id c = true from decide_eq_true e), if_pos e]; simp; omega
    · rw [if_neg (show ¬ isId id c = true by unfold isId; simpa using e), if_neg e, Option.isSome_map, ring_kR (l := l)]; omega
theorem any_kR {id : Int} : ∀ {l : List Rec}, l.any (isId id) = true ↔ 0 < kR id l
  | [] => by simp [kR]
  | c :: l => by
    rw [List.any_cons, Bool.or_eq_true, any_kR (l := l)]
    simp only [kR]
    by_cases e : c 0 = id
    · rw [if_pos e]
      exact ⟨fun _ => by omega, fun _ => Or.inl (decide_eq_true e)⟩
    · rw [if_neg e]
      constructor
      · rintro (z | z)
        · exact absurd (of_decide_eq_true z) e
        · omega
      · intro z; exact Or.inr (by omega)
theorem hasId_k {v : Rec} {x id : Int} : hasId v x id = true ↔ 0 < (if v 0 = x ∧ v 1 = id then 1 else 0) + (if v 0 = x ∧ 0 ≤ v 7 ∧ v 6 = id then 1 else 0) := by
  unfold hasId
  simp only [Bool.and_eq_true, Bool.or_eq_true, decide_eq_true_eq]
  by_cases a : v 0 = x ∧ v 1 = id
  · rw [if_pos a]
    exact ⟨fun _ => by omega, fun _ => ⟨a.1, Or.inl a.2⟩⟩
  · rw [if_neg a]
    by_cases b : v 0 = x ∧ 0 ≤ v 7 ∧ v 6 = id
    · rw [if_pos b]
      exact ⟨fun _ => by omega, fun _ => ⟨b.1, Or.inr b.2⟩⟩
    · rw [if_neg b]
      constructor
      · rintro ⟨z1, z2 | z2⟩
        · exact absurd ⟨z1, z2⟩ a
        · exact absurd ⟨z1, z2⟩ b
      · intro z; omega
theorem run_kW {x id : Int} : ∀ {l : List Rec}, (l.findIdx? (fun v => hasId v x id)).isSome = true ↔ 0 < kW x id l
  | [] => by simp [kW]
  | v :: l => by
    rw [List.findIdx?_cons]
    have hk := hasId_k (v := v) (x := x) (id := id)
    unfold kW
    by_cases e : hasId v x id = true
    · rw [if_pos e]
      have := hk.mp e
      constructor
      · intro _; omega
      · intro _; rfl
    · rw [if_neg e, Option.isSome_map, run_kW (l := l)]
      have : ¬ 0 < (if v 0 = x ∧ v 1 = id then 1 else 0) + (if v 0 = x ∧ 0 ≤ v 7 ∧ v 6 = id then 1 else 0) := fun z => e (hk.mpr z)
      omega
theorem out_kO {x id : Int} : ∀ {l : List Rec}, (l.findIdx? (isOut x id)).isSome = true ↔ 0 < kO x id l
  | [] => by simp [kO]
  | v :: l => by
    rw [List.findIdx?_cons]
    unfold kO
    by_cases e : v 0 = x ∧ v 1 = id
    · rw [if_pos (show isOut x id v = true by unfold isOut; simp [e.1, e.2]), if_pos e]; simp; omega
    · rw [if_neg (show ¬ isOut x id v = true by unfold isOut; simpa using e), if_neg e, Option.isSome_map, out_kO (l := l)]; omega
theorem WF.ids (h : WF d B) (hq : q < 5) {a : Int} (ha : 0 ≤ a) : kR a (d.ring q) + kW q a d.run + kO q a d.out + kR a (d.posts q) = if (d.us q).testBit a.toNat = true then 1 else 0 := by
  have := (h.2.2.2.2 q hq).2 a
  rw [this]
  exact ite_iff ⟨fun z => z.2, fun z => ⟨ha, z⟩⟩
theorem ofi_r {o : Option Nat} {n : Nat} (h : ∀ k, o = some k → k < n) (hn : n ≤ 1000) : R32 (ofi o) := by
  cases o with
  | none => exact ⟨by decide, by decide⟩
  | some k =>
    have := h k rfl
    exact ⟨by rw [ofi_some]; omega, by rw [ofi_some]; omega⟩
theorem fi_lt {α : Type} {p : α → Bool} {l : List α} {k : Nat} (h : l.findIdx? p = some k) : k < l.length := by
  rw [List.findIdx?_eq_some_iff_getElem] at h
  exact h.1
theorem t_isUsed {Q : Bool → Tw → Prop} {id : Int} (h : TwA w r d) (hq : q < 5) (hw : WF d B) (hB : B ≤ 1000000000) (h0 : 0 ≤ id) (hid : R32 id) (hQ : Q ((d.us q).testBit id.toNat) w) : f_X4_isUsed r q id w Q := by
  have hk := hw.ids hq h0
  unfold f_X4_isUsed f_X4_isUsed_36
  have rl := hw.ringlen hq
  have wl := hw.2.2.1.1
  have ol := hw.outlen
  refine t_ringOf h hq hw hB hid ⟨ofi_r (fun k hk => fi_lt hk) (by omega), fun c => ?_, fun c => ?_⟩
  · have k1 := ring_kR.mp (ofi_nn.mp c)
    have : (d.us q).testBit id.toNat = true := by
      by_cases z : (d.us q).testBit id.toNat = true
      · exact z
      · rw [if_neg z] at hk; omega
    rw [this] at hQ; exact hQ
  · have k1 : ¬ 0 < kR id (d.ring q) := fun z => c (ofi_nn.mpr (ring_kR.mpr z))
    refine t_runOf h hw hq hid ⟨ofi_r (fun k hk => fi_lt hk) (by omega), fun c => ?_, fun c => ?_⟩
    · have k2 := run_kW.mp (ofi_nn.mp c)
      have : (d.us q).testBit id.toNat = true := by
        by_cases z : (d.us q).testBit id.toNat = true
        · exact z
        · rw [if_neg z] at hk; omega
      rw [this] at hQ; exact hQ
    · have k2 : ¬ 0 < kW q id d.run := fun z => c (ofi_nn.mpr (run_kW.mpr z))
      refine t_outOf h hw hq hid ⟨ofi_r (fun k hk => fi_lt hk) (by omega), fun c => ?_, fun c => ?_⟩
      · have k3 := out_kO.mp (ofi_nn.mp c)
        have : (d.us q).testBit id.toNat = true := by
          by_cases z : (d.us q).testBit id.toNat = true
          · exact z
          · rw [if_neg z] at hk; omega
        rw [this] at hQ; exact hQ
      · have k3 : ¬ 0 < kO q id d.out := fun z => c (ofi_nn.mpr (out_kO.mpr z))
        refine t_isPosted h hq hw hB hid ?_
        cases hp : (d.posts q).any (isId id) with
        | true =>
          have k4 := any_kR.mp hp
          have : (d.us q).testBit id.toNat = true := by
            by_cases z : (d.us q).testBit id.toNat = true
            · exact z
            · rw [if_neg z] at hk; omega
          rw [this] at hQ; exact brB_T hQ
        | false =>
          have k4 : ¬ 0 < kR id (d.posts q) := fun z => by rw [any_kR.mpr z] at hp; cases hp
          have : (d.us q).testBit id.toNat = false := by
            by_cases z : (d.us q).testBit id.toNat = true
            · rw [if_pos z] at hk; omega
            · simpa using z
          rw [this] at hQ; exact brB_F hQ
theorem t_freeId {Q : Int → Tw → Prop} (h : TwA w r d) (hq : q < 5) (hw : WF d B) (hB : B ≤ 1000000000) (hQ : Q (if ones 32 (d.us q) < 16 then (ones 32 (d.us q) : Nat) else -1) w) : f_X4_freeId r q w Q := by
  have hu := (hw.2.2.2.2 q hq).1
  have ho : ones 32 (d.us q) ≤ 16 := ones_le 16 (d.us q) hu 32
  have lp : ∀ (m k : Nat), k + m = 16 → k ≤ ones 32 (d.us q) → f_X4_freeId_2 r Q (m + 1) q k w := by
    intro m
    induction m with
    | zero =>
      intro k hk hk2
      unfold f_X4_freeId_2 f_X4_freeId_2_b f_X4_freeId_23
      rw [if_neg (by omega)] at hQ
      exact br_T ⟨by omega, by omega⟩ ⟨by omega, by omega⟩ (by omega) (br_F ⟨by omega, by omega⟩ ⟨by omega, by omega⟩ (by omega) hQ)
    | succ m ih =>
      intro k hk hk2
      unfold f_X4_freeId_2 f_X4_freeId_2_b f_X4_freeId_23
      refine br_F ⟨by omega, by omega⟩ ⟨by omega, by omega⟩ (by omega) (t_isUsed h hq hw hB (by omega) ⟨by omega, by omega⟩ ?_)
      rw [Int.toNat_natCast]
      by_cases c : k = ones 32 (d.us q)
      · have := ones_bit 32 (d.us q) (by omega)
        rw [← c] at this
        rw [this]
        rw [if_pos (by omega), ← c] at hQ
        exact brB_F (br_T ⟨by omega, by omega⟩ ⟨by omega, by omega⟩ (by omega) hQ)
      · rw [ones_low 32 (d.us q) k (by omega), show (k : Int) + 1 = ((k + 1 : Nat) : Int) by omega]
        exact brB_T (ih (k + 1) (by omega) (by omega))
  exact ⟨17, lp 16 0 (by omega) (by omega)⟩
/-- a command is put into the row -/
theorem RowR.put {ρ ρ' : Rec} {op b v : Int} (h : RowR ρ d) (hl : Lens d) (hq : q < 5) (hrl : (d.ring q).length ≤ 7) (hlen : ((d.ring q).length : Int) = d.s (89 * q + 0) - d.s (89 * q + 3)) (e1 : ∀ f : Int, 0 ≤ f → f < 5 → ρ' (89 * q + 9 + 5 * (d.s (89 * q + 0) % 8) + f) = rec5 (ones 32 (d.us q) : Nat) op b v 0 f) (e2 : ρ' (89 * q + 0) = d.s (89 * q + 0) + 1)
    (e3 : ∀ i : Int, i ≠ 89 * q + 0 → (i < 89 * q + 9 + 5 * (d.s (89 * q + 0) % 8) ∨ 89 * q + 9 + 5 * (d.s (89 * q + 0) % 8) + 5 ≤ i) → ρ' i = ρ i) : RowR ρ' (putD d q op b v) := by
  obtain ⟨h1, h2, h4, h5, h6, h7, h8⟩ := h
  have hA : 89 * (q : Int) + 9 ≤ 89 * q + 9 + 5 * (d.s (89 * q + 0) % 8) ∧ 89 * q + 9 + 5 * (d.s (89 * q + 0) % 8) ≤ 89 * (q : Int) + 44 := by omega
  have ek : d.s (89 * q + 3) + ((d.ring q).length : Nat) = d.s (89 * q + 0) := by omega
  generalize hAe : 89 * (q : Int) + 9 + 5 * (d.s (89 * q + 0) % 8) = A at *
  unfold putD
  refine ⟨fun j hj => ?_, ?_, ?_, fun x hx => ?_, fun x hx => ?_, ?_, ?_⟩
  · have hj' := hj
    unfold isSc at hj'
    show ρ' j = iup d.s (89 * q + 0) (d.s (89 * q + 0) + 1) j
    by_cases c : j = 89 * q + 0
    · rw [c, e2, iup_at]
    · rw [iup_ne c, e3 j c (by clear hAe; omega)]; exact h1 j hj
  · rw [e3 493 (by omega) (by omega)]; exact h2
  · rw [e3 814 (by omega) (by omega)]; exact h4
  · show RingL ρ' _ (iup d.s (89 * q + 0) (d.s (89 * q + 0) + 1) (89 * x + 3)) (nup d.ring q (d.ring q ++ [rec5 (ones 32 (d.us q) : Nat) op b v 0]) x)
    rw [iup_ne (by omega)]
    by_cases ex : x = q
    · subst ex
      rw [nup_at]
      refine (h5 x hx).snoc hrl ?_ ?_
      · rw [ek, hAe]; exact e1
      · rw [ek, hAe]
        intro i i0 i1 i2
        exact e3 i (by omega) i2
    · rw [nup_ne ex]
      exact (h5 x hx).congr (fun j j0 j1 => e3 j (by omega) (by clear hAe; omega))
  · show RingL ρ' _ (iup d.s (89 * q + 0) (d.s (89 * q + 0) + 1) (89 * x + 6)) (d.posts x)
    rw [iup_ne (by omega)]
    exact (h6 x hx).congr (fun j j0 j1 => e3 j (by omega) (by clear hAe; omega))
  · exact h7.congr hl.1 (fun j j0 j1 => e3 j (by omega) (by omega))
  · exact h8.congr hl.2 (fun j j0 j1 => e3 j (by omega) (by omega))
def putA (d : DS) (q op b v : Int) : Int := if putR d q op b v < 0 then putR d q op b v else (ones 32 (d.us q.toNat) : Nat)
def putM (d : DS) (q op b v : Int) : DS := if putR d q op b v < 0 then d else putD d q.toNat op b v
theorem t_putsOne {Q : Int → Tw → Prop} {q op b v : Int} (h : TwA w r d) (hr : r = 20 ∨ r = 21) (hw : WF d B) (hB : B ≤ 100000000) (h1 : R32 q) (h2 : R32 op) (h3 : R32 b) (h4 : R32 v) (hQ : ∀ w', TwA w' r (putM d q op b v) → TFr r w w' → Q (putA d q op b v) w') : f_X4_putsOne r q op b v w Q := by
  have hm := hw.many
  unfold f_X4_putsOne
  refine t_isQueue h hm h1 ?_
  have neg : ∀ x : Int, putR d q op b v = x → x < 0 → Q x w := by
    intro x e hx
    have := hQ w (by unfold putM; rw [e, if_pos hx]; exact h) TFr.refl
    unfold putA at this
    rw [e, if_pos hx] at this
    exact this
  have pos : putR d q op b v = 0 → ∀ w', TwA w' r (putD d q.toNat op b v) → TFr r w w' → Q (ones 32 (d.us q.toNat) : Nat) w' := by
    intro e w' g' f'
    have := hQ w' (by unfold putM; rw [e, if_neg (by decide)]; exact g') f'
    unfold putA at this
    rw [e, if_neg (by decide)] at this
    exact this
  by_cases c1 : 0 ≤ q ∧ q < d.s 900
  · rw [decide_eq_true c1]
    refine brB_T ⟨h2, t_in h2 r0 ⟨by decide, by decide⟩ ?_⟩
    by_cases c2 : 0 ≤ op ∧ op ≤ 4
    · rw [decide_eq_true c2]
      refine brB_T ⟨h3, t_in h3 r0 ⟨by decide, by decide⟩ ?_⟩
      by_cases c3 : 0 ≤ b ∧ b ≤ 9
      · rw [decide_eq_true c3]
        refine brB_T ⟨h4, t_in h4 r0 ⟨by decide, by decide⟩ ?_⟩
        by_cases c4 : 0 ≤ v ∧ v ≤ 99
        · rw [decide_eq_true c4]
          obtain ⟨n, rfl⟩ : ∃ n : Nat, q = n := ⟨q.toNat, by omega⟩
          rw [Int.toNat_natCast] at pos
          have eP : putR d n op b v = if d.s (89 * n + 20) - 1 - d.s (89 * n + 0) + d.s (89 * n + 4) = 0 then -2 else if ones 32 (d.us n) < 16 then 0 else -3 := by unfold putR; rw [if_pos ⟨c1, c2, c3, c4⟩, Int.toNat_natCast]
          have h5 : n < 5 := by omega
          have hb0 := hw.1.1 (89 * n + 0)
          have hb4 := hw.1.1 (89 * n + 4)
          have hl8 := hw.l8 c1.2
          have hnn := hw.nn h5
          have e16 : w 16 n = d.s (89 * n + 20) := (h.2.2 n c1.2).1
          refine brB_T (t_of h h5 (by omega) (by omega) (t_of h h5 (by omega) (by omega) ⟨⟨by omega, by omega⟩, ?_⟩))
          rw [e16]
          by_cases c5 : d.s (89 * n + 20) - 1 - d.s (89 * n + 0) + d.s (89 * n + 4) = 0
          · rw [if_pos c5] at eP
            exact br_F ⟨by omega, by omega⟩ ⟨by omega, by omega⟩ (by omega) (neg (-2) eP (by decide))
          · rw [if_neg c5] at eP
            refine br_T ⟨by omega, by omega⟩ ⟨by omega, by omega⟩ (by omega) (t_freeId h h5 hw (by omega) ?_)
            by_cases c6 : ones 32 (d.us n) < 16
            · rw [if_pos c6]
              rw [if_pos c6] at eP
              refine br0_T ⟨by omega, by omega⟩ (by omega) (t_of h h5 (by omega) (by omega) ?_)
              unfold f_X4_ringAt
              refine ⟨⟨by omega, by omega, by omega, by omega⟩, ?_⟩
              have hA : 89 * (n : Int) + 9 ≤ 89 * n + 9 + 5 * (d.s (89 * n + 0) % 8) ∧ 89 * n + 9 + 5 * (d.s (89 * n + 0) % 8) ≤ 89 * (n : Int) + 44 := by omega
              generalize hAe : 89 * (n : Int) + 9 + 5 * (d.s (89 * n + 0) % 8) = A at hA ⊢
              have e0 : ∀ (x1 x2 x3 x4 x5 : Int), tup (tup (tup (tup (tup w r (A + 0) x1) r (A + 1) x2) r (A + 2) x3) r (A + 3) x4) r (A + 4) x5 r (89 * n + 0) = d.s (89 * n + 0) := by
                intro x1 x2 x3 x4 x5
                rw [tw_at, iup_ne (by omega), tw_at, iup_ne (by omega), tw_at, iup_ne (by omega), tw_at, iup_ne (by omega), tw_at, iup_ne (by omega)]
                exact h.1.1 _ (Or.inl ⟨by omega, by omega, by omega⟩)
              unfold f_X4_of f_X4_sets
              refine ⟨⟨by omega, by omega⟩, ⟨by omega, by omega⟩, ⟨by omega, by omega⟩, ⟨by omega, by omega⟩, ⟨by omega, by omega⟩, ⟨by omega, by omega⟩, ⟨by omega, by omega⟩, ?_⟩
              rw [e0]
              have tf : TFr r w (tup (tup (tup (tup (tup (tup w r (A + 0) (ones 32 (d.us n) : Nat)) r (A + 1) op) r (A + 2) b) r (A + 3) v) r (A + 4) 0) r (89 * n + 0) (d.s (89 * n + 0) + 1)) := ((((TFr.tp.trans TFr.tp).trans TFr.tp).trans TFr.tp).trans TFr.tp).trans TFr.tp
              refine pos eP _ (h.row hr tf ?_ (iup_ne (by omega)) (fun p hp f f0 f1 => iup_ne (by omega))) tf
              simp only [tw_at]
              refine h.1.put hw.lens h5 (hw.ringlen h5) (hw.wl h5).2.1 ?_ ?_ ?_
              · rw [hAe]
                intro f f0 f1
                obtain rfl | rfl | rfl | rfl | rfl : f = 0 ∨ f = 1 ∨ f = 2 ∨ f = 3 ∨ f = 4 := by omega
                all_goals (simp (disch := omega) only [iup_at, iup_ne])
                all_goals rfl
              · rw [iup_at]
              · rw [hAe]
                intro i i0 i1
                clear hAe
                simp (disch := omega) only [iup_ne]
            · rw [if_neg c6]
              rw [if_neg c6] at eP
              exact br0_F ⟨by decide, by decide⟩ (by decide) (neg (-3) eP (by decide))
        · rw [decide_eq_false c4]
          exact brB_F (neg (-1) (by unfold putR; rw [if_neg (fun z => c4 z.2.2.2)]) (by decide))
      · rw [decide_eq_false c3]
        exact brB_F (neg (-1) (by unfold putR; rw [if_neg (fun z => c3 z.2.2.1)]) (by decide))
    · rw [decide_eq_false c2]
      exact brB_F (neg (-1) (by unfold putR; rw [if_neg (fun z => c2 z.2.1)]) (by decide))
  · rw [decide_eq_false c1]
    exact brB_F (neg (-1) (by unfold putR; rw [if_neg (fun z => c1 z.1)]) (by decide))
def ringA (d : DS) (q : Int) : Int := if 0 ≤ q ∧ q < d.s 900 then bellOf d.s q.toNat else -1
def ringM (d : DS) (q : Int) : DS := if 0 ≤ q ∧ q < d.s 900 then ringD d q.toNat else d
theorem t_ringsOne {Q : Int → Tw → Prop} {q : Int} (h : TwA w r d) (hr : r = 20 ∨ r = 21) (hw : WF d B) (hB : B ≤ 100000000) (h1 : R32 q) (hQ : ∀ w', TwA w' r (ringM d q) → TFr r w w' → Q (ringA d q) w') : f_X4_ringsOne r q w Q := by
  have hm := hw.many
  unfold f_X4_ringsOne
  refine t_isQueue h hm h1 ?_
  unfold ringA ringM at hQ
  by_cases c1 : 0 ≤ q ∧ q < d.s 900
  · rw [decide_eq_true c1]
    rw [if_pos c1, if_pos c1] at hQ
    obtain ⟨n, rfl⟩ : ∃ n : Nat, q = n := ⟨q.toNat, by omega⟩
    rw [Int.toNat_natCast] at hQ
    have h5 : n < 5 := by omega
    have hb0 := hw.1.1 (89 * n + 0)
    have hb1 := hw.1.1 (89 * n + 1)
    have hb7 := hw.1.1 (89 * n + 7)
    have e19 : w 19 n = d.s (89 * n + 23) := (h.2.2 n c1.2).2.2.2
    have h23 := (hw.wl h5).1.2.2.2.1
    have hl := hw.lens
    refine brB_T (t_of h h5 (by omega) (by omega) (t_of h h5 (by omega) (by omega) ?_))
    unfold ringD ringS at hQ
    by_cases c2 : d.s (89 * n + 1) = d.s (89 * n + 0)
    · have eb : bellOf d.s n = -2 := by unfold bellOf; rw [if_pos c2]
      rw [eb, if_pos rfl] at hQ
      exact br_F ⟨by omega, by omega⟩ ⟨by omega, by omega⟩ (by omega) (hQ w h TFr.refl)
    · unfold f_X4_sets
      refine br_T ⟨by omega, by omega⟩ ⟨by omega, by omega⟩ c2 ⟨⟨by omega, by omega⟩, ⟨by omega, by omega⟩, ?_⟩
      have a1 := h.sc (i := 89 * n + 1) (x := d.s (89 * n + 0)) hr hm.2 hl (Or.inl ⟨by omega, by omega, by omega⟩) (by omega)
      have en : tup w r (89 * n + 1) (d.s (89 * n + 0)) 19 n = d.s (89 * n + 23) := by rw [tw_ne (by omega)]; exact e19
      rw [en]
      have m1 : iup d.s (89 * n + 1) (d.s (89 * n + 0)) 900 ≤ 5 := by rw [iup_ne (by omega)]; exact hm.2
      have e838 : ∀ w1 : Tw, w1 r 838 = w1 r (838 + 0) := fun _ => rfl
      -- a bell
      have yes : bellOf d.s n = 1 → f_X4_ringsOne_72 r n (d.s (89 * n + 0)) (tup w r (89 * n + 1) (d.s (89 * n + 0))) Q := by
        intro eb
        rw [eb, if_neg (by decide), if_neg (by decide)] at hQ
        unfold f_X4_ringsOne_72 f_X4_ringsOne_77 f_X4_sets
        refine brB_T ⟨⟨by omega, by omega⟩, ⟨by omega, by omega⟩, ?_⟩
        have a2 := a1.sc (i := 89 * n + 2) (x := d.s (89 * n + 0)) hr m1 hl (Or.inl ⟨by omega, by omega, by omega⟩) (by omega)
        have en2 : tup (tup w r (89 * n + 1) (d.s (89 * n + 0))) r (89 * n + 2) (d.s (89 * n + 0)) 19 n = d.s (89 * n + 23) := by rw [tw_ne (by omega)]; exact en
        rw [en2]
        have a3 := a2.sc (i := 89 * n + 8) (x := d.s (89 * n + 23)) hr (by show iup (iup d.s _ _) _ _ 900 ≤ 5; rw [iup_ne (by omega)]; exact m1) hl (Or.inl ⟨by omega, by omega, by omega⟩) (by omega)
        have a4 := a3.sc (i := 838) (x := d.s 838 + 1) hr (by show iup (iup (iup d.s _ _) _ _) _ _ 900 ≤ 5; rw [iup_ne (by omega), iup_ne (by omega)]; exact m1) hl (Or.inr ⟨by omega, by omega, by omega⟩) (by omega)
        refine ⟨⟨by omega, by omega⟩, ?_⟩
        unfold f_X4_ringsOne_105 f_X4_ringsOne_119 f_X4_flag
        refine brB_T (brB_F ⟨⟨by omega, by omega⟩, ⟨by omega, by omega⟩, brB_T ?_⟩)
        have er : tup (tup (tup w r (89 * n + 1) (d.s (89 * n + 0))) r (89 * n + 2) (d.s (89 * n + 0))) r (89 * n + 8) (d.s (89 * n + 23)) r (838 + 0) = d.s 838 := by
          rw [tw_at, iup_ne (by omega), tw_at, iup_ne (by omega), tw_at, iup_ne (by omega)]
          exact h.1.1 _ (Or.inr ⟨by omega, by omega, by omega⟩)
        rw [er]
        refine hQ _ ?_ (((TFr.tp.trans TFr.tp).trans TFr.tp).trans TFr.tp)
        have : iup (iup (iup (iup d.s (89 * n + 1) (d.s (89 * n + 0))) (89 * n + 2) (d.s (89 * n + 0))) (89 * n + 8) (d.s (89 * n + 23))) 838 (d.s 838 + 1) = iup (iup (iup (iup d.s (89 * n + 1) (d.s (89 * n + 0))) 838 (d.s 838 + 1)) (89 * n + 2) (d.s (89 * n + 0))) (89 * n + 8) (d.s (89 * n + 23)) := by
          funext i
          unfold iup
          by_cases i1 : i = 838
          · rw [if_pos i1, if_neg (by omega), if_neg (by omega), if_pos i1]
          · rw [if_neg i1, if_neg i1]
        rw [← this]
        exact a4
      have non : bellOf d.s n = 0 → f_X4_ringsOne_77 r n (d.s (89 * n + 0)) false (tup w r (89 * n + 1) (d.s (89 * n + 0))) Q := by
        intro eb
        rw [eb, if_neg (by decide), if_pos (by decide)] at hQ
        unfold f_X4_ringsOne_77 f_X4_ringsOne_105 f_X4_ringsOne_119 f_X4_flag
        refine brB_F (brB_F (brB_T ⟨⟨by omega, by omega⟩, ⟨by omega, by omega⟩, brB_F ?_⟩))
        have a4 := a1.sc (i := 839) (x := d.s 839 + 1) hr m1 hl (Or.inr ⟨by omega, by omega, by omega⟩) (by omega)
        have er : tup w r (89 * n + 1) (d.s (89 * n + 0)) r (838 + 1) = d.s 839 := by
          rw [tw_at, iup_ne (by omega)]
          exact h.1.1 _ (Or.inr ⟨by omega, by omega, by omega⟩)
        rw [er]
        exact hQ _ a4 (TFr.tp.trans TFr.tp)
      by_cases c3 : d.s (89 * n + 23) = 0
      · refine br0_T ⟨by omega, by omega⟩ c3 (yes ?_)
        unfold bellOf
        rw [if_neg c2, if_pos (Or.inl (by omega))]
      · refine br0_F ⟨by omega, by omega⟩ c3 (t_of a1 h5 (by omega) (by omega) ?_)
        show ok32 (iup d.s (89 * n + 1) (d.s (89 * n + 0)) (89 * n + 7)) _
        rw [show iup d.s (89 * n + 1) (d.s (89 * n + 0)) (89 * n + 7) = d.s (89 * n + 7) from iup_ne (by omega)]
        refine ⟨⟨by omega, by omega⟩, ⟨by omega, by omega⟩, ⟨by omega, by omega⟩, ?_⟩
        show f_X4_in (iup d.s (89 * n + 1) (d.s (89 * n + 0)) (89 * n + 7)) _ _ _ _
        rw [show iup d.s (89 * n + 1) (d.s (89 * n + 0)) (89 * n + 7) = d.s (89 * n + 7) from iup_ne (by omega)]
        refine t_in ⟨by omega, by omega⟩ ⟨by omega, by omega⟩ ⟨by omega, by omega⟩ ?_
        by_cases c4 : d.s (89 * n + 1) ≤ d.s (89 * n + 7) ∧ d.s (89 * n + 7) ≤ d.s (89 * n + 0) - 1
        · rw [decide_eq_true c4]
          refine brB_T (yes ?_)
          unfold bellOf
          rw [if_neg c2, if_pos (Or.inr ⟨c4.1, by omega⟩)]
        · rw [decide_eq_false c4]
          refine brB_F (non ?_)
          unfold bellOf
          rw [if_neg c2, if_neg (by omega)]
  · rw [decide_eq_false c1]
    rw [if_neg c1, if_neg c1] at hQ
    exact brB_F (hQ w h TFr.refl)
end
