/-! PURE PROOFS: public acts: puts, ring, weighs, depth -/
set_option maxRecDepth 100000
section
variable {w : Tw} {d : DS} {un : List DS} {pg : Nat → Option DS} {tx rw' hw ha cs : List Int} {B : Int}
theorem Tn.row {w' : Tw} {d' : DS} (h : Tn w d un pg tx rw' hw ha cs) (ht : TwA w' 20 d') (h9 : d'.s 900 = d.s 900) (f : ∀ j, j = 15 ∨ j = 22 ∨ j = 23 ∨ j = 42 ∨ j = 43 ∨ j = 44 ∨ j = 3 ∨ j = 4 ∨ j = 1 ∨ j = 2 ∨ j = 36 ∨ j = 37 ∨ j = 38 ∨ j = 8 ∨ j = 10 ∨ j = 16 ∨ j = 17 ∨ j = 18 ∨ j = 19 → w' j = w j) : Tn w' d' un pg tx rw' hw ha cs := by
  obtain ⟨h1, h2, h3, h4, h5, h6, h7, h8, h10, h11⟩ := h
  refine ⟨ht, by rw [f 15 (by omega), h9]; exact h2, by rw [f 22 (by omega), f 23 (by omega)]; exact h3, by rw [f 42 (by omega), f 43 (by omega), f 44 (by omega)]; exact h4, by rw [f 3 (by omega), f 4 (by omega)]; exact h5, by rw [f 1 (by omega), f 2 (by omega)]; exact h6, by rw [f 36 (by omega), f 37 (by omega), f 38 (by omega)]; exact h7, ⟨by rw [f 10 (by omega)]; exact h8.1, by rw [f 8 (by omega)]; exact h8.2⟩, h10, by rw [f 16 (by omega), f 17 (by omega), f 18 (by omega), f 19 (by omega)]; exact h11⟩
theorem Tn.un' {w' : Tw} {un' : List DS} (h : Tn w d un pg tx rw' hw ha cs) (hu : TnU (w' 22 0) (w' 23) un') (hq : ∀ (k : Nat) (e : DS), un'[k]? = some e → LnQ (w 16) (w 17) (w 18) (w 19) e) (f : ∀ j, j ≠ 22 → j ≠ 23 → w' j = w j) : Tn w' d un' pg tx rw' hw ha cs := by
  obtain ⟨h1, h2, h3, h4, h5, h6, h7, h8, h10, h11⟩ := h
  refine ⟨h1.oth (Or.inl rfl) (fun j hj => f j (by omega) (by omega)), by rw [f 15 (by decide) (by decide)]; exact h2, hu, by rw [f 42 (by decide) (by decide), f 43 (by decide) (by decide), f 44 (by decide) (by decide)]; exact h4, by rw [f 3 (by decide) (by decide), f 4 (by decide) (by decide)]; exact h5, by rw [f 1 (by decide) (by decide), f 2 (by decide) (by decide)]; exact h6, by rw [f 36 (by decide) (by decide), f 37 (by decide) (by decide), f 38 (by decide) (by decide)]; exact h7, ⟨by rw [f 10 (by decide) (by decide)]; exact h8.1, by rw [f 8 (by decide) (by decide)]; exact h8.2⟩, h10, by rw [f 16 (by decide) (by decide), f 17 (by decide) (by decide), f 18 (by decide) (by decide), f 19 (by decide) (by decide)]; exact ⟨hq, h11.2⟩⟩
theorem Tn.rw2 {w' : Tw} {l : List Int} (h : Tn w d un pg tx rw' hw ha cs) (hu : TnR (w' 1 0) (w' 2) l) (f : ∀ j, j ≠ 1 → j ≠ 2 → w' j = w j) : Tn w' d un pg tx l hw ha cs := by
  obtain ⟨h1, h2, h3, h4, h5, h6, h7, h8, h10, h11⟩ := h
  refine ⟨h1.oth (Or.inl rfl) (fun j hj => f j (by omega) (by omega)), by rw [f 15 (by decide) (by decide)]; exact h2, by rw [f 22 (by decide) (by decide), f 23 (by decide) (by decide)]; exact h3, by rw [f 42 (by decide) (by decide), f 43 (by decide) (by decide), f 44 (by decide) (by decide)]; exact h4, by rw [f 3 (by decide) (by decide), f 4 (by decide) (by decide)]; exact h5, hu, by rw [f 36 (by decide) (by decide), f 37 (by decide) (by decide), f 38 (by decide) (by decide)]; exact h7, ⟨by rw [f 10 (by decide) (by decide)]; exact h8.1, by rw [f 8 (by decide) (by decide)]; exact h8.2⟩, h10, by rw [f 16 (by decide) (by decide), f 17 (by decide) (by decide), f 18 (by decide) (by decide), f 19 (by decide) (by decide)]; exact h11⟩
/-- what is known of both: all that is kept is well -/
def Wl (d : DS) (un : List DS) (pg : Nat → Option DS) (B : Int) : Prop := (WF d B ∧ 99 ≤ B ∧ B ≤ 70000000) ∧ un.length ≤ 8 ∧ (∀ (k : Nat) (e : DS), un[k]? = some e → WF e B ∧ e.s 900 = d.s 900) ∧ ∀ i e, i < 2 → pg i = some e → WF e B ∧ e.s 900 ≤ d.s 900
theorem Sy.wl {G : Wd} {x : Nat} (h : Sy G x d un pg tx rw' hw ha cs B) : Wl d un pg B := by
  obtain ⟨A, rf, E, dr, u, ru, ai, ar, ah, h1, ⟨k1, k2, k3, k4, k5, k6, k7, k8, k9, k10, k11⟩, -⟩ := h
  refine ⟨k5, k8.2, fun k e hk => (k9 k e hk).2, fun i e hi he => ?_⟩
  rcases k11 i hi with ⟨z, -⟩ | ⟨e', e1, e2, e3, e4, e5, e6, e7⟩
  · rw [z] at he; cases he
  · rw [e1] at he
    injection he with he
    subst he
    exact ⟨e6, e7⟩
/-- the twin: what is is put by, something is done, it counts or not -/
theorem t_by {Q : Tw → Prop} (h : Tn w d un pg tx rw' hw ha cs) (hw' : Wl d un pg B) (hQ : ∀ w', Tn w' d un pg tx rw' hw ha cs → RowAt (w' 23) (844 * (un.length : Nat)) (copyD d) → (∀ j, j ≠ 23 → w' j = w j) → Q w') : f_X4_putsBy w Q := by
  have hu := h.2.2.1
  have hl := hw'.2.1
  refine t_putsBy (n := un.length) hl hu.1 (fun w' f e => hQ w' ?_ ?_ f)
  · refine h.un' ⟨by rw [f 22 (by decide)]; exact hu.1, fun k e' hk => ?_⟩ h.2.2.2.2.2.2.2.2.2.1 (fun j j1 j2 => f j j2)
    have hk2 := get_lt hk
    refine (hu.2 k e' hk).congr (hw'.2.2.1 k e' hk).1.lens (fun i i0 i1 => ?_)
    rw [e, if_neg (by omega)]
  · have hr : RowR (w 20) (copyD d) := h.1.1.cpd
    refine RowR.congr hr hw'.1.1.lens (fun i i0 i1 => ?_)
    show w' 23 (844 * ((un.length : Nat) : Int) + i) = _
    rw [e, if_pos ⟨by omega, by omega⟩]
    congr 1
    omega
theorem copy_lens (h : Lens d) : Lens (copyD d) := h
theorem LnQ.cpd {a16 a17 a18 a19 : Int → Int} {e : DS} (h : LnQ a16 a17 a18 a19 e) (h9 : e.s 900 ≤ 5) : LnQ a16 a17 a18 a19 (copyD e) := by
  intro q hq
  have e9 : (copyD e).s 900 = e.s 900 := by show iup (iup e.s 901 0) 902 0 900 = _; rw [iup_ne (by decide), iup_ne (by decide)]
  rw [e9] at hq
  show _ = iup (iup e.s 901 0) 902 0 _ ∧ _ = iup (iup e.s 901 0) 902 0 _ ∧ _ = iup (iup e.s 901 0) 902 0 _ ∧ _ = iup (iup e.s 901 0) 902 0 _
  rw [iup_ne (by omega), iup_ne (by omega), iup_ne (by omega), iup_ne (by omega), iup_ne (by omega), iup_ne (by omega), iup_ne (by omega), iup_ne (by omega)]
  exact h q hq
theorem remU_q {a16 a17 a18 a19 : Int → Int} {e : DS} (h : ∀ (k : Nat) (e : DS), un[k]? = some e → LnQ a16 a17 a18 a19 e) (he : LnQ a16 a17 a18 a19 (copyD e)) : ∀ (k : Nat) (e' : DS), (remU un e)[k]? = some e' → LnQ a16 a17 a18 a19 e' := by
  intro k e' hk
  have := List.mem_of_getElem? hk
  have main : e' ∈ un ∨ e' = copyD e := by
    unfold remU at this
    split at this
    · rcases List.mem_append.mp this with z | z
      · exact Or.inl (List.mem_of_mem_tail z)
      · exact Or.inr (List.mem_singleton.mp z)
    · rcases List.mem_append.mp this with z | z
      · exact Or.inl z
      · exact Or.inr (List.mem_singleton.mp z)
  rcases main with z | z
  · obtain ⟨j, hj⟩ := List.getElem?_of_mem z
    exact h j e' hj
  · rw [z]; exact he
theorem t_adds' {Q : Int → Tw → Prop} {x : Int} {e d' : DS} (h : Tn w d' un pg tx rw' hw ha cs) (hx : R32 x) (hl : un.length ≤ 8) (hln : ∀ (k : Nat) (e : DS), un[k]? = some e → Lens e) (hle : Lens e) (hb : RowAt (w 23) (844 * (un.length : Nat)) (copyD e)) (h9 : e.s 900 ≤ 5) (hqe : LnQ (w 16) (w 17) (w 18) (w 19) e) (hQ : ∀ w', Tn w' d' (remU un e) pg tx rw' hw ha cs → (∀ j, j ≠ 22 → j ≠ 23 → w' j = w j) → Q x w') : f_X4_adds x w Q :=
  t_adds hx h.2.2.1 hl hln (copy_lens hle) hb (fun w' u' f' => hQ w' (h.un' u' (remU_q h.2.2.2.2.2.2.2.2.2.1 (hqe.cpd h9)) f') f')
theorem Wl.lens (h : Wl d un pg B) : ∀ (k : Nat) (e : DS), un[k]? = some e → Lens e := fun k e hk => (h.2.2.1 k e hk).1.lens
theorem t_host {Q : Int → Tw → Prop} {F : Tw → (Int → Tw → Prop) → Prop} {d' : DS} {x : Int} (h : Tn w d un pg tx rw' hw ha cs) (hw' : Wl d un pg B) (hx : R32 x) (h9 : d'.s 900 = d.s 900)
    (hF : ∀ w1 (K : Int → Tw → Prop), TwA w1 20 d → (∀ w2, TwA w2 20 d' → TFr 20 w1 w2 → K x w2) → F w1 K) (hQ : ∀ w', Tn w' d' (if x < 0 then un else remU un d) pg tx rw' hw ha cs → Q x w') :
    tS w 0 0 0 (fun w7 => f_X4_putsBy w7 (fun w8 => F w8 (fun x10 w9 => f_X4_counted x10 w9 (fun x12 w11 => Q x12 w11)))) := by
  unfold tS
  refine t_by (h.thr (i := 0) (v := 0)) hw' (fun w1 g1 r1 f1 => hF w1 _ g1.1 (fun w2 g2 f2 => ?_))
  have g3 : Tn w2 d' un pg tx rw' hw ha cs := g1.row g2 h9 (fun j hj => f2 j (by omega))
  unfold f_X4_counted
  refine ⟨hx, fun c => ?_, fun c => ?_⟩
  · rw [if_neg (by omega)] at hQ
    exact t_adds' g3 hx hw'.2.1 hw'.lens hw'.1.1.lens (by rw [f2 23 (by decide)]; exact r1) hw'.1.1.many.2 (by rw [f2 16 (by decide), f2 17 (by decide), f2 18 (by decide), f2 19 (by decide)]; exact g1.1.2.2) (fun w3 g3 _ => hQ w3 g3)
  · rw [if_pos (by omega)] at hQ
    exact hQ w2 g3
theorem putA_r (hw : WF d B) {q op b v : Int} : R32 (putA d q op b v) ∧ (putA d q op b v < 0 ↔ putR d q op b v < 0) := by
  have h1 : putR d q op b v = -1 ∨ putR d q op b v = -2 ∨ putR d q op b v = -3 ∨ (putR d q op b v = 0 ∧ (0 ≤ q ∧ q < d.s 900) ∧ ones 32 (d.us q.toNat) < 16) := by
    unfold putR
    split
    · rename_i c
      split
      · exact Or.inr (Or.inl rfl)
      · split
        · rename_i c2; exact Or.inr (Or.inr (Or.inr ⟨rfl, c.1, c2⟩))
        · exact Or.inr (Or.inr (Or.inl rfl))
    · exact Or.inl rfl
  unfold putA
  rcases h1 with e | e | e | ⟨e, -, e2⟩
  · rw [e]; exact ⟨by rw [if_pos (by decide)]; exact ⟨by decide, by decide⟩, by simp⟩
  · rw [e]; exact ⟨by rw [if_pos (by decide)]; exact ⟨by decide, by decide⟩, by simp⟩
  · rw [e]; exact ⟨by rw [if_pos (by decide)]; exact ⟨by decide, by decide⟩, by simp⟩
  · rw [e]; exact ⟨by rw [if_neg (by decide)]; exact ⟨by omega, by omega⟩, by rw [if_neg (by decide)]; omega⟩
theorem putM_9 (hw : WF d B) {q op b v : Int} : (putM d q op b v).s 900 = d.s 900 := by
  unfold putM
  split
  · rfl
  · rename_i c
    have hm := hw.many
    have hq : 0 ≤ q ∧ q < d.s 900 := by
      unfold putR at c
      by_cases z : (0 ≤ q ∧ q < d.s 900) ∧ (0 ≤ op ∧ op ≤ 4) ∧ (0 ≤ b ∧ b ≤ 9) ∧ (0 ≤ v ∧ v ≤ 99)
      · exact z.1
      · rw [if_neg z] at c; omega
    show iup d.s (89 * q.toNat + 0) (d.s (89 * q.toNat + 0) + 1) 900 = _
    rw [iup_ne (by omega)]
theorem T_puts {Q : Int → Tw → Prop} {q op b v : Int} (h : Tn w d un pg tx rw' hw ha cs) (hw' : Wl d un pg B) (h1 : R32 q) (h2 : R32 op) (h3 : R32 b) (h4 : R32 v) (hQ : ∀ w', Tn w' (putM d q op b v) (if putA d q op b v < 0 then un else remU un d) pg tx rw' hw ha cs → Q (putA d q op b v) w') : f_X4_puts q op b v w Q :=
  t_host h hw' (putA_r hw'.1.1).1 (putM_9 hw'.1.1) (fun w1 K g1 hK => t_putsOne g1 (Or.inl rfl) hw'.1.1 (by have := hw'.1; omega) h1 h2 h3 h4 hK) hQ
theorem ringM_9 (hw : WF d B) {q : Int} : (ringM d q).s 900 = d.s 900 := by
  unfold ringM
  split
  · rename_i c
    have hm := hw.many
    unfold ringD
    show ringS d.s q.toNat 900 = _
    unfold ringS
    split
    · rfl
    · split
      · rw [iup_ne (by omega), iup_ne (by omega)]
      · rw [iup_ne (by omega), iup_ne (by omega), iup_ne (by omega), iup_ne (by omega)]
  · rfl
theorem bellOf_r {s : Rec} {q : Nat} : bellOf s q = -2 ∨ bellOf s q = 1 ∨ bellOf s q = 0 := by
  unfold bellOf
  split
  · exact Or.inl rfl
  · split
    · exact Or.inr (Or.inl rfl)
    · exact Or.inr (Or.inr rfl)
theorem ringA_r {q : Int} : R32 (ringA d q) := by
  unfold ringA
  split
  · rcases bellOf_r (s := d.s) (q := q.toNat) with e | e | e <;> rw [e] <;> exact ⟨by decide, by decide⟩
  · exact ⟨by decide, by decide⟩
theorem T_ring {Q : Int → Tw → Prop} {q : Int} (h : Tn w d un pg tx rw' hw ha cs) (hw' : Wl d un pg B) (h1 : R32 q) (hQ : ∀ w', Tn w' (ringM d q) (if ringA d q < 0 then un else remU un d) pg tx rw' hw ha cs → Q (ringA d q) w') : f_X4_ring q w Q :=
  t_host h hw' ringA_r (ringM_9 hw'.1.1) (fun w1 K g1 hK => t_ringsOne g1 (Or.inl rfl) hw'.1.1 (by have := hw'.1; omega) h1 hK) hQ
theorem recA_r {q id : Int} : -4 ≤ recA d q id ∧ recA d q id ≤ 1 := by
  unfold recA
  split
  · split
    · split <;> decide
    · split
      · decide
      · split <;> decide
  · decide
theorem callL_s {q : Nat} {id : Int} : ∀ (l : List Rec) (e : DS), (l.foldl (callStep q id) e).s = e.s
  | [], _ => rfl
  | c :: l, e => by
    rw [List.foldl_cons, callL_s l]
    unfold callStep
    split <;> rfl
theorem calM_9 {q id : Int} : (calM d q id).s = d.s := by
  unfold calM
  split
  · rfl
  · unfold callD
    rw [callL_s]; rfl
theorem T_calls {Q : Int → Tw → Prop} {q id : Int} (h : Tn w d un pg tx rw' hw ha cs) (hw' : Wl d un pg B) (h1 : R32 q) (h2 : R32 id) (hQ : ∀ w', Tn w' (calM d q id) (if recA d q id < 0 then un else remU un d) pg tx rw' hw ha cs → Q (recA d q id) w') : f_X4_calls q id w Q :=
  t_host h hw' ⟨by have := recA_r (d := d) (q := q) (id := id); omega, by have := recA_r (d := d) (q := q) (id := id); omega⟩ (by rw [calM_9]) (fun w1 K g1 hK => t_callsOne g1 (Or.inl rfl) hw'.1.1 (by have := hw'.1; omega) h1 h2 hK) hQ
def weiA (d : DS) (c v : Int) : Int := if (1 ≤ c ∧ c ≤ 3) ∧ (1 ≤ v ∧ v ≤ 9) then (if d.s (814 + c) = v then -2 else 10 + d.s (814 + c)) else -1
def weiM (d : DS) (c v : Int) : DS := if weiA d c v < 0 then d else setS d (iup (iup d.s (814 + c) v) (818 + c) v)
theorem T_weighs {Q : Int → Tw → Prop} {c v : Int} (h : Tn w d un pg tx rw' hw ha cs) (hw' : Wl d un pg B) (h1 : R32 c) (h2 : R32 v) (hQ : ∀ w', Tn w' (weiM d c v) (if weiA d c v < 0 then un else remU un d) pg tx rw' hw ha cs → Q (weiA d c v) w') : f_X4_weighs c v w Q := by
  have hS := hw'.1.1.1.2.2.2.2.2.2.1
  have hr : -2 ≤ weiA d c v ∧ weiA d c v ≤ 19 := by
    unfold weiA
    split
    · rename_i z
      have := hS (814 + c) (by omega) (by omega)
      split <;> omega
    · decide
  refine t_host h hw' ⟨by omega, by omega⟩ ?_ (fun w1 K g1 hK => ?_) hQ
  · unfold weiM
    split
    · rfl
    · rename_i z
      have : 1 ≤ c ∧ c ≤ 3 := by
        unfold weiA at z
        by_cases y : (1 ≤ c ∧ c ≤ 3) ∧ (1 ≤ v ∧ v ≤ 9)
        · exact y.1
        · rw [if_neg y] at z; omega
      show iup (iup d.s (814 + c) v) (818 + c) v 900 = _
      rw [iup_ne (by omega), iup_ne (by omega)]
  · unfold f_X4_weighsOne
    have neg : ∀ y : Int, weiA d c v = y → y < 0 → K y w1 := by
      intro y e hy
      have := hK w1 (by unfold weiM; rw [e, if_pos hy]; exact g1) TFr.refl
      rw [e] at this; exact this
    refine ⟨h1, t_in h1 r1 ⟨by decide, by decide⟩ ?_⟩
    by_cases c1 : 1 ≤ c ∧ c ≤ 3
    · rw [decide_eq_true c1]
      refine brB_T ⟨h2, t_in h2 r1 ⟨by decide, by decide⟩ ?_⟩
      by_cases c2 : 1 ≤ v ∧ v ≤ 9
      · rw [decide_eq_true c2]
        have hb := hS (814 + c) (by omega) (by omega)
        have e1 : w1 20 (814 + c) = d.s (814 + c) := g1.1.1 _ (Or.inr ⟨by omega, by omega, by omega⟩)
        refine brB_T ⟨⟨by omega, by omega⟩, ?_⟩
        rw [e1]
        by_cases c3 : d.s (814 + c) = v
        · exact br_F ⟨by omega, by omega⟩ h2 (by omega) (neg (-2) (by unfold weiA; rw [if_pos ⟨c1, c2⟩, if_pos c3]) (by decide))
        · have eA : weiA d c v = 10 + d.s (814 + c) := by unfold weiA; rw [if_pos ⟨c1, c2⟩, if_neg c3]
          refine br_T ⟨by omega, by omega⟩ h2 c3 ⟨⟨by omega, by omega⟩, ⟨by omega, by omega⟩, ?_⟩
          have a1 := g1.sc (i := 814 + c) (x := v) (Or.inl rfl) hw'.1.1.many.2 hw'.1.1.lens (Or.inr ⟨by omega, by omega, by omega⟩) (by omega)
          have a2 := a1.sc (i := 818 + c) (x := v) (Or.inl rfl) (by show iup d.s _ _ 900 ≤ 5; rw [iup_ne (by omega)]; exact hw'.1.1.many.2) hw'.1.1.lens (Or.inr ⟨by omega, by omega, by omega⟩) (by omega)
          have := hK _ (by unfold weiM; rw [eA, if_neg (by omega)]; exact a2) (TFr.tp.trans TFr.tp)
          rw [eA] at this
          exact this
      · rw [decide_eq_false c2]
        exact brB_F (neg (-1) (by unfold weiA; rw [if_neg (fun z => c2 z.2)]) (by decide))
    · rw [decide_eq_false c1]
      exact brB_F (neg (-1) (by unfold weiA; rw [if_neg (fun z => c1 z.1)]) (by decide))
def depA (d : DS) (v : Int) : Int := if 1 ≤ v ∧ v ≤ 4 then (if d.s 826 = v then -2 else 10 + d.s 826) else -1
def depM (d : DS) (v : Int) : DS := if depA d v < 0 then d else setS d (iup d.s 826 v)
theorem T_depth {Q : Int → Tw → Prop} {v : Int} (h : Tn w d un pg tx rw' hw ha cs) (hw' : Wl d un pg B) (h1 : R32 v) (hQ : ∀ w', Tn w' (depM d v) (if depA d v < 0 then un else remU un d) pg tx rw' hw ha cs → Q (depA d v) w') : f_X4_depth v w Q := by
  have hS := hw'.1.1.1.2.2.1
  have hr : -2 ≤ depA d v ∧ depA d v ≤ 19 := by
    unfold depA
    split
    · split <;> omega
    · decide
  refine t_host h hw' ⟨by omega, by omega⟩ ?_ (fun w1 K g1 hK => ?_) hQ
  · unfold depM
    split
    · rfl
    · show iup d.s 826 v 900 = _
      rw [iup_ne (by omega)]
  · unfold f_X4_depthIs
    refine ⟨h1, t_in h1 r1 ⟨by decide, by decide⟩ ?_⟩
    by_cases c1 : 1 ≤ v ∧ v ≤ 4
    · rw [decide_eq_true c1]
      have e1 : w1 20 826 = d.s 826 := g1.1.1 _ (Or.inr ⟨by omega, by omega, by omega⟩)
      refine brB_T ⟨⟨by omega, by omega⟩, ⟨by omega, by omega⟩, ?_⟩
      rw [e1]
      have a1 := g1.sc (i := 826) (x := v) (Or.inl rfl) hw'.1.1.many.2 hw'.1.1.lens (Or.inr ⟨by omega, by omega, by omega⟩) (by omega)
      by_cases c3 : d.s 826 = v
      · have eA : depA d v = -2 := by unfold depA; rw [if_pos c1, if_pos c3]
        refine br_F ⟨by omega, by omega⟩ h1 (by omega) ?_
        have e9 : iup d.s 826 v = d.s := by
          funext i
          unfold iup
          split
          · rename_i z; rw [z]; exact c3.symm
          · rfl
        rw [e9] at a1
        have := hK _ (by unfold depM; rw [eA, if_pos (by decide)]; exact a1) TFr.tp
        rw [eA] at this
        exact this
      · have eA : depA d v = 10 + d.s 826 := by unfold depA; rw [if_pos c1, if_neg c3]
        refine br_T ⟨by omega, by omega⟩ h1 c3 ?_
        have := hK _ (by unfold depM; rw [eA, if_neg (by omega)]; exact a1) TFr.tp
        rw [eA] at this
        exact this
    · have eA : depA d v = -1 := by unfold depA; rw [if_neg c1]
      rw [decide_eq_false c1]
      have := hK w1 (by unfold depM; rw [eA, if_pos (by decide)]; exact g1) TFr.refl
      rw [eA] at this
      exact brB_F this
end
