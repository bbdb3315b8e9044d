/-! GLUE: the start's own region, the entry, the end -/
set_option maxRecDepth 100000
/-- a String is no array -/
theorem gl_noarr {s : State} {args : Array Value} {a : Nat} {A : Nat → Prop} (hi : (Cond.instantiable "java/lang/String" 4).before args s = true) (ho : va_O "java/lang/String" a A s s.heap) {cell : Cell} {ty : FieldType} (hc : s.heap[a]? = some cell) (hty : s.isArrayOf cell ty) : False := by
  obtain ⟨cell', h1, h2, h3, -⟩ := ho
  cases Option.some.inj (h1.symm.trans hc)
  obtain ⟨c, k, g1, g2, g3, -⟩ := Cond.instantiable_spec hi
  obtain ⟨-, k', e1, comp, e2⟩ := hty
  cases Option.some.inj (g1.symm.trans h3)
  cases Option.some.inj (g2.symm.trans e1)
  rw [g3] at e2
  cases e2
theorem gl_arr2 {s : State} {cell : Cell} {ty ty' : FieldType} (h : s.isArrayOf cell ty) (h' : s.isArrayOf cell ty') : ty = ty' := by
  obtain ⟨-, k, e1, comp, e2⟩ := h
  obtain ⟨-, k', e1', comp', e2'⟩ := h'
  cases Option.some.inj (e1.symm.trans e1')
  rw [e2] at e2'
  injection e2'
theorem gl_OF {s : State} {o n d : String} {v v' : Value} {a : Nat} {A : Nat → Prop} (h : va_OF o n d v a A s s.heap) (h' : va_OF o n d v' a A s s.heap) : v = v' := by
  obtain ⟨cf, k, i, f, cell, h1, -, h3, -, h5, -⟩ := h
  obtain ⟨cf', k', i', f', cell', h1', -, h3', -, h5', -⟩ := h'
  cases Option.some.inj (h1.symm.trans h1')
  cases Option.some.inj (h3.symm.trans h3')
  exact Option.some.inj (h5.symm.trans h5')
theorem gl_T {s : State} {v : Nat} {p q : String × Nat × String × List Int} (hp : p ∈ strs) (hq : q ∈ strs) {A : Nat → Prop} (h : va_T .byte v p.2.2.2.length (fun j => .int (Int32.ofInt (bytesOf p.2.2.2 j))) A s s.heap) (h' : va_T .byte v q.2.2.2.length (fun j => .int (Int32.ofInt (bytesOf q.2.2.2 j))) A s s.heap) : p.2.2.2 = q.2.2.2 := by
  obtain ⟨cell, h1, -, -, h4, h5, h6, -⟩ := h
  obtain ⟨cell', h1', -, -, h4', h5', h6', -⟩ := h'
  cases Option.some.inj (h1.symm.trans h1')
  have l1 := gl_len p hp
  have l2 := gl_len q hq
  have e : p.2.2.2.length = q.2.2.2.length := by
    have e0 := h5.symm.trans h5'
    have := congrArg Int32.toInt e0
    rw [Int32.toInt_ofNat_of_lt (by omega), Int32.toInt_ofNat_of_lt (by omega)] at this
    omega
  refine gl_bs p hp q hq e (fun j hj => ?_)
  have := (h6 j hj).symm.trans (h6' j (by omega))
  injection this with this
  injection this
/-- the start's own region -/
def gl_R (b L : Nat) (f : Int → Int) (sa sv : String × Nat × String × List Int → Nat) : Nat → Option QE := fun a =>
  if a = b then some (aI 12 L f) else match strs.find? (fun q => sa q == a) with
    | some q => some (oB 118 [vR (some (sv q)), vI 0])
    | none => match strs.find? (fun q => sv q == a) with
      | some q => some (aI 11 q.2.2.2.length (bytesOf q.2.2.2))
      | none => none
theorem gl_Z {l : Launch} (hflags : l.flags = flags0) {s : State} {b L : Nat} {xs : Nat → Int32} (hL : L ≤ 320) (ht : ∀ w ∈ lw_tbl, w.before #[Value.ref b] s = true) (hX : va_X b L xs s s.heap) (hb : b < s.heap.size) (hg : (Jvm.Cond.and given_1 narrow_1).before #[Value.ref b] s = true) :
    ∃ z : Zt, Zok z ∧ z.1 = l ∧ zs z = s ∧ zb z = b ∧ zR z b = some (aI 12 L (fun i => (xs i.toNat).toInt)) := by
  obtain ⟨D, hD⟩ := gl_classes ht
  obtain ⟨K, hK⟩ := gl_arrays ht
  have hs := flat_of_before _ hg
  have h0 : ∀ q : String × Nat × String × List Int, ∃ x : Nat × Nat, q ∈ strs → (Term.string q.1 q.2.1).eval #[Value.ref b] s none [] s = some (.ref x.1) ∧ gl_S s x.1 x.2 q.2.2.2 := by
    intro q
    by_cases hq : q ∈ strs
    · obtain ⟨a, v, h1, h2⟩ := gl_one (s := s) (args := #[Value.ref b]) (own := q.1) (k := q.2.1) (bs := q.2.2.2) (by have := gl_len q hq; omega) (fun w hw => hs w (gl_needs q hq w hw))
      exact ⟨(a, v), fun _ => ⟨h1, h2⟩⟩
    · exact ⟨(0, 0), fun h => absurd h hq⟩
  obtain ⟨ad, had⟩ := Classical.axiomOfChoice h0
  have hi : (Cond.instantiable "java/lang/String" 4).before #[Value.ref b] s = true := ht _ (lw_all_tbl q467)
  obtain ⟨scr, x1, x2, x3, x4, x5⟩ := hX
  have ne1 : ∀ q ∈ strs, (ad q).1 ≠ b := fun q hq e => by
    obtain ⟨-, ho, -⟩ := had q hq
    rw [e] at ho
    exact gl_noarr hi ho x1 x2
  have ne2 : ∀ q ∈ strs, (ad q).2 ≠ b := fun q hq e => by
    obtain ⟨-, -, -, -, cell, t1, t2, -⟩ := had q hq
    rw [e] at t1
    cases Option.some.inj (x1.symm.trans t1)
    cases gl_arr2 x2 t2
  have ne3 : ∀ q ∈ strs, ∀ q' ∈ strs, (ad q).1 ≠ (ad q').2 := fun q hq q' hq' e => by
    obtain ⟨-, ho, -⟩ := had q hq
    obtain ⟨-, -, -, -, cell, t1, t2, -⟩ := had q' hq'
    rw [e] at ho
    exact gl_noarr hi ho t1 t2
  have hlt : ∀ q ∈ strs, (ad q).1 < s.heap.size ∧ (ad q).2 < s.heap.size := fun q hq => by
    obtain ⟨-, ⟨c1, o1, -⟩, -, -, cell, t1, t2, -⟩ := had q hq
    exact ⟨(Array.getElem?_eq_some_iff.mp o1).1, (Array.getElem?_eq_some_iff.mp t1).1⟩
  have find1 : ∀ {p : String × Nat × String × List Int → Bool} {q}, strs.find? p = some q → q ∈ strs ∧ p q = true := fun h => ⟨List.mem_of_find?_eq_some h, List.find?_some h⟩
  let z : Zt := (l, s, D, K, b, gl_R b L (fun i => (xs i.toNat).toInt) (fun q => (ad q).1) (fun q => (ad q).2))
  have hb1 : zR z b = some (aI 12 L (fun i => (xs i.toNat).toInt)) := if_pos rfl
  refine ⟨z, ⟨hflags, ht, hg, ⟨hD, hK⟩, fun a e he => ?_, fun q hq => ?_⟩, rfl, rfl, rfl, hb1⟩
  · by_cases hab : a = b
    · subst hab
      cases Option.some.inj (hb1.symm.trans he)
      refine ⟨hb, Or.inr (Or.inr ⟨L, _, rfl, hL, fun i => ?_, scr, x1, x2, x3, x4, fun j hj => ?_⟩)⟩
      · exact ⟨Int32.le_toInt _, Int32.toInt_lt _⟩
      · rw [x5 j hj]
        simp
    · replace he : gl_R b L (fun i => (xs i.toNat).toInt) (fun q => (ad q).1) (fun q => (ad q).2) a = some e := he
      unfold gl_R at he
      rw [if_neg hab] at he
      split at he
      · rename_i q hf
        obtain ⟨m1, m2⟩ := find1 hf
        have m2 : (ad q).1 = a := eq_of_beq m2
        subst m2
        cases Option.some.inj he
        obtain ⟨-, o1, o2, o3, -⟩ := had q m1
        exact ⟨(hlt q m1).1, Or.inl ⟨(ad q).2, rfl, o1, o2, o3⟩⟩
      · split at he
        · rename_i q hf
          obtain ⟨m1, m2⟩ := find1 hf
          have m2 : (ad q).2 = a := eq_of_beq m2
          subst m2
          cases Option.some.inj he
          obtain ⟨-, o1, o2, o3, o4⟩ := had q m1
          exact ⟨(hlt q m1).2, Or.inr (Or.inl ⟨_, _, rfl, by have := gl_len q m1; omega, o4⟩)⟩
        · cases he
  · obtain ⟨ev, o1, o2, o3, o4⟩ := had q hq
    refine ⟨(ad q).1, (ad q).2, ⟨ht _ (gl_refs q hq), ev⟩, ?_, ?_⟩
    · show gl_R b L (fun i => (xs i.toNat).toInt) (fun q => (ad q).1) (fun q => (ad q).2) (ad q).1 = _
      unfold gl_R
      rw [if_neg (ne1 q hq)]
      split
      · rename_i q' hf
        obtain ⟨m1, m2⟩ := find1 hf
        have m2 : (ad q').1 = (ad q).1 := eq_of_beq m2
        obtain ⟨-, p1, p2, p3, p4⟩ := had q' m1
        rw [m2] at p3
        have := gl_OF o3 p3
        injection this with this
        rw [this]
      · rename_i hf
        have := List.find?_eq_none.mp hf q hq
        simp at this
    · show gl_R b L (fun i => (xs i.toNat).toInt) (fun q => (ad q).1) (fun q => (ad q).2) (ad q).2 = _
      unfold gl_R
      rw [if_neg (ne2 q hq)]
      split
      · rename_i q' hf
        obtain ⟨m1, m2⟩ := find1 hf
        have m2 : (ad q').1 = (ad q).2 := eq_of_beq m2
        exact absurd m2 (ne3 q' m1 q hq)
      · split
        · rename_i q' hf
          obtain ⟨m1, m2⟩ := find1 hf
          have m2 : (ad q').2 = (ad q).2 := eq_of_beq m2
          obtain ⟨-, p1, p2, p3, p4⟩ := had q' m1
          rw [m2] at p4
          rw [gl_T m1 hq p4 o4]
        · rename_i hf
          have := List.find?_eq_none.mp hf q hq
          simp at this
theorem whole_start (law_ok : LawOK) {p : Program} {e : Env} {s : State} {m : MethodId} {below : List Frame} {meth : Method} {c : Code} (l : Launch) (hflags : l.flags = flags0) {b L : Nat} {xs : Nat → Int32} (hL : L ≤ 320) (C0 : lw_At p s m meth c b L xs) : W p l e room_1 s m #[Value.ref b] below meth c s.heap [] 0 0 (lw_Z below #[Value.ref b] s) (entryFrame m ([Value.ref b] : List Value).toArray 8) := by
  obtain ⟨hx, hb, hr, hml, hown, hts, hX, hbl, hlk, hgv, htab, hnm⟩ := C0
  obtain ⟨z, hz, rfl, rfl, hzb, hzR⟩ := gl_Z hflags hL hts hX hbl hgv
  have h1 := w_L_law (law_ok b L _ (zR z) hL (fun i => ⟨Int32.le_toInt _, Int32.toInt_lt _⟩) hzR)
  rw [lg_entry_eq]
  have h2 := h1 z hz p e room_1 (zs z) m #[Value.ref b] below meth c (zs z).heap [] 0 0 _ ⟨hx, hb, hr, hlk, hml, hown, htab, hnm, State.WarmedH.refl _, Nat.le_refl _⟩ ⟨by decide, by decide, by decide, by decide⟩
    ⟨⟨Nat.le_refl _, fun _ _ => rfl, rfl⟩, [], fun k q h => (by cases h), ⟨fun i j p q h => (by cases h), fun k q h => (by cases h)⟩, fun r a e' hr h => (by unfold G00 at h; rw [if_neg hr] at h; cases h), fun r r' a e1 e2 hr _ h => (by unfold G00 at h; rw [if_neg hr] at h; cases h)⟩ va_S.rf
    (lv_entry [Value.ref b] (n := 8) (Nat.le_of_ble_eq_true rfl))
  intro T hT X
  obtain ⟨t, a1, o, b1, b2, b3⟩ := h2 T hT X
  refine ⟨t, a1, o, b1, b2, ?_⟩
  rcases b3 with ⟨⟨v, G', q1, q2, q3, r, q4, q5⟩, Lc, f1, f2⟩ | ⟨q, q1, E, ce, Lc, ⟨G', -, -, q2⟩, -⟩
  · subst q4
    subst q5
    refine ⟨q1, ?_⟩
    exact ⟨f1.1, f1.2.1, State.sameButNew.drop_fresh (L := []) (J := Lc) f1.2.2 f2⟩
  · exact absurd q2 id
