/-! PURE PROOFS: the twin drains, resets, ticks on -/
set_option maxRecDepth 100000
def drainF (t : Tmf) : Nat → Int → Int → DS → Int × Int × DS
  | 0, _, tk, d => (-2, tk, d)
  | f + 1, k, tk, d => if isDr d = true then (k, tk, d) else if f = 0 then (-2, tk, d) else drainF t f (k + 1) (tk + takeCnt d (d.s 900).toNat) (tickD t (takeAllD d))
def drainD (t : Tmf) (d : DS) : Int × Int × DS := drainF t 100 0 0 d
def tickN (t : Tmf) : Nat → DS → DS
  | 0, d => d
  | n + 1, d => tickN t n (tickD t d)
def idleN (t : Tmf) : Nat → DS → Int
  | 0, _ => 0
  | n + 1, d => (if (tickD t d).run.isEmpty = true then 1 else 0) + idleN t n (tickD t d)
section
variable {w : Tw} {r : Nat} {d : DS} {B : Int} {q : Nat}
theorem tickD_lo {t : Tmf} (h : WF d B) (hB : 99 ≤ B) : (tickD t d).s 900 = d.s 900 := by
  have w1 := h.runs hB
  have w2 := w1.posts
  have w3 := w2.look
  show iup (fetchL t 40 (lookD (postAll (runAll d)))).s 827 ((fetchL t 40 (lookD (postAll (runAll d)))).s 827 + 1) 900 = _
  rw [iup_ne (by decide), (fetchL_wf (t := t) 40 _ _ w3 (by omega)).2, lookD_hi w2 (by omega), postAll_hi w1 (by omega) (by omega), runAll_hi h hB (by omega)]
theorem takeAll_hi (h : WF d B) {i : Int} (hi : 445 ≤ i) : (takeAllD d).s i = d.s i := by
  have hm := h.many
  exact (takeTo_wf h (d.s 900).toNat (by omega)).2 i hi
theorem takeQ_run : ∀ (n : Nat) (d : DS), (takeQ q n d).run = d.run ∧ (takeQ q n d).out = d.out ∧ (takeQ q n d).ring = d.ring
  | 0, d => ⟨rfl, rfl, rfl⟩
  | n + 1, d => by
    unfold takeQ
    split
    · exact ⟨rfl, rfl, rfl⟩
    · rename_i p ps hp
      exact takeQ_run n (takeD d q p)
theorem takeTo_run {d : DS} : ∀ (n : Nat), (takeTo d n).run = d.run ∧ (takeTo d n).out = d.out ∧ (takeTo d n).ring = d.ring
  | 0 => ⟨rfl, rfl, rfl⟩
  | n + 1 => by
    obtain ⟨a, b, c⟩ := takeQ_run (q := n) ((takeTo d n).posts n).length (takeTo d n)
    obtain ⟨a', b', c'⟩ := takeTo_run n
    exact ⟨a.trans a', b.trans b', c.trans c'⟩
theorem Phi_take : Phi (takeAllD d) = Phi d := by
  obtain ⟨a, b, c⟩ := takeTo_run (d := d) (d.s 900).toNat
  unfold Phi tot takeAllD
  rw [a, b, c]
theorem t_isDrained {Q : Bool → Tw → Prop} (h : TwA w r d) (hw : WF d B) (hB : B ≤ 1000000000) (hQ : Q (isDr d) w) : f_X4_isDrained r w Q := by
  have hm := hw.many
  have e14 : w 14 0 = d.s 900 := h.2.1
  have e493 := h.1.2.1
  have e814 := h.1.2.2.1
  have hl := hw.lens
  have hl1 := hl.1
  have hl2 := hl.2
  have lp : ∀ (m k : Nat) (b : Bool), k + m = (d.s 900).toNat → (b = true ↔ (∀ j : Nat, j < k → d.s (89 * j + 1) ≤ d.s (89 * j + 3)) ∧ d.run = [] ∧ d.out = []) → f_X4_isDrained_24 r Q (m + 1) b k w := by
    intro m
    induction m with
    | zero =>
      intro k b hk hb
      unfold f_X4_isDrained_24 f_X4_isDrained_24_b
      rw [e14]
      refine br_T ⟨by omega, by omega⟩ ⟨by omega, by omega⟩ (by omega) ?_
      have : b = isDr d := by
        rw [Bool.eq_iff_iff, hb, isDr_iff]
        exact ⟨fun z => ⟨fun j j1 j2 => z.1 j (by omega), z.2⟩, fun z => ⟨fun j j1 => z.1 j (by omega) (by omega), z.2⟩⟩
      rw [this]; exact hQ
    | succ m ih =>
      intro k b hk hb
      have hk5 : k < 5 := by omega
      have hch := (hw.wl hk5).1.1
      unfold f_X4_isDrained_24 f_X4_isDrained_24_b f_X4_isDrained_55 f_X4_isDrained_56
      rw [e14, show (k : Int) + 1 = ((k + 1 : Nat) : Int) by omega]
      refine br_F ⟨by omega, by omega⟩ ⟨by omega, by omega⟩ (by omega) ?_
      cases b with
      | false =>
        refine brB_F (ih (k + 1) false (by omega) ⟨fun z => (by cases z), fun z => ?_⟩)
        exact hb.mpr ⟨fun j hj => z.1 j (by omega), z.2⟩
      | true =>
        refine brB_T (t_of h hk5 (by omega) (by omega) (t_of h hk5 (by omega) (by omega) ⟨⟨hw.r hB _, hw.r hB _⟩, fun c => ?_, fun c => ?_⟩))
        · refine ih (k + 1) false (by omega) ⟨fun z => (by cases z), fun z => ?_⟩
          have := z.1 k (by omega)
          omega
        · refine ih (k + 1) true (by omega) ⟨fun _ => ⟨fun j hj => ?_, (hb.mp rfl).2⟩, fun _ => rfl⟩
          by_cases ej : j = k
          · subst ej; omega
          · exact (hb.mp rfl).1 j (by omega)
  unfold f_X4_isDrained f_X4_isDrained_20 f_X4_isDrained_21
  refine ⟨⟨by omega, by omega⟩, ?_⟩
  rw [e493]
  refine ⟨⟨by omega, by omega⟩, fun c => ⟨(d.s 900).toNat + 1, lp _ 0 false (by omega) ⟨fun z => (by cases z), fun z => ?_⟩⟩, fun c => ⟨⟨by omega, by omega⟩, ?_⟩⟩
  · rw [z.2.1] at c; simp at c
  · rw [e814]
    have er : d.run = [] := List.eq_nil_of_length_eq_zero (by omega)
    refine ⟨⟨by omega, by omega⟩, fun c2 => ⟨(d.s 900).toNat + 1, lp _ 0 false (by omega) ⟨fun z => (by cases z), fun z => ?_⟩⟩, fun c2 => ⟨(d.s 900).toNat + 1, lp _ 0 true (by omega) ⟨fun _ => ⟨fun j hj => by omega, er, List.eq_nil_of_length_eq_zero (by omega)⟩, fun _ => rfl⟩⟩⟩
    rw [z.2.2] at c2; simp at c2
theorem takR_e (hq : (q : Int) < d.s 900) (hp : d.posts q = []) : takR d q = -2 := by
  unfold takR
  rw [if_pos ⟨by omega, hq⟩, Int.toNat_natCast, hp]; rfl
theorem t_takesAll {Q : Tw → Prop} (h : TwA w r d) (hr : r = 20 ∨ r = 21) (hw : WF d B) (hB : B ≤ 99999000) (hQ : ∀ w', TwA w' r (takeAllD d) → (∀ j, j ≠ r → j ≠ 35 → w' j = w j) → w' 35 0 = w 35 0 + takeCnt d (d.s 900).toNat → Q w') : f_X4_takesAll r w Q := by
  have hm := hw.many
  -- of one line
  have inner : ∀ (k2 : Int → Tw → Prop) (q : Nat), q < 5 → ∀ (n : Nat) (d : DS) (B : Int) (w : Tw), (d.posts q).length = n → TwA w r d → WF d B → B + n ≤ 100000000 → (q : Int) < d.s 900 →
      (∀ w', TwA w' r (takeQ q n d) → (∀ j, j ≠ r → j ≠ 35 → w' j = w j) → w' 35 0 = w 35 0 + n → k2 ((q : Int) + 1) w') → f_X4_takesAll_10 r k2 Q (n + 1) q w := by
    intro k2 q h5 n
    induction n with
    | zero =>
      intro d B w hn h hw hB hq9 hk
      have hp : d.posts q = [] := List.eq_nil_of_length_eq_zero hn
      unfold f_X4_takesAll_10 f_X4_takesAll_10_b
      refine t_takesOne0 h hw (by omega) ⟨by omega, by omega⟩ (by rw [takR_e hq9 hp]; decide) ?_
      rw [takR_e hq9 hp]
      exact br0_T ⟨by decide, by decide⟩ (by decide) (hk w h (fun _ _ _ => rfl) (by simp))
    | succ n ih =>
      intro d B w hn h hw hB hq9 hk
      cases hp : d.posts q with
      | nil => rw [hp] at hn; cases hn
      | cons p ps =>
        unfold f_X4_takesAll_10 f_X4_takesAll_10_b
        refine t_takesOne h hr hw (by omega) hq9 hp (fun w1 a g1 f1 a0 a1 _ => ?_)
        unfold tS
        refine br0_F ⟨by omega, by omega⟩ (by omega) ?_
        have g2 : TwA (tup w1 35 0 (w1 35 0 + 1)) r (takeD d q p) := by
          obtain ⟨m1, m2, m3⟩ := g1
          refine ⟨by rw [tw_ne (by omega)]; exact m1, by rw [tw_ne (by omega)]; exact m2, fun x hx => ?_⟩
          rw [tw_ne (by omega), tw_ne (by omega), tw_ne (by omega), tw_ne (by omega)]
          exact m3 x hx
        refine ih (takeD d q p) (B + 1) _ ?_ g2 (hw.take hq9 hp) (by omega) (by rw [takeD_9 (by omega) h5]; exact hq9) (fun w' g' f' c' => hk w' ?_ (fun j j1 j2 => ?_) ?_)
        · show (nup d.posts q (d.posts q).tail q).length = n
          rw [nup_at, hp, List.tail_cons]
          rw [hp, List.length_cons] at hn
          omega
        · have e : takeQ q (n + 1) d = takeQ q n (takeD d q p) := by simp only [takeQ, hp]
          rw [e]; exact g'
        · rw [f' j j1 j2, tw_ne j2, f1 j j1]
        · rw [c', tw_at, iup_at, f1 35 (by omega)]; omega
  have outer : ∀ (m k : Nat) (w1 : Tw), k + m = (d.s 900).toNat → TwA w1 r (takeTo d k) → (∀ j, j ≠ r → j ≠ 35 → w1 j = w j) → w1 35 0 = w 35 0 + takeCnt d k → f_X4_takesAll_2 r Q (m + 1) k w1 := by
    intro m
    induction m with
    | zero =>
      intro k w1 hk g1 f1 c1
      have e14 : w1 14 0 = d.s 900 := by rw [f1 14 (by omega) (by omega)]; exact h.2.1
      unfold f_X4_takesAll_2 f_X4_takesAll_2_b
      rw [e14]
      have ek : k = (d.s 900).toNat := by omega
      refine br_T ⟨by omega, by omega⟩ ⟨by omega, by omega⟩ (by omega) (hQ w1 ?_ f1 (by rw [← ek]; exact c1))
      unfold takeAllD
      rw [← ek]; exact g1
    | succ m ih =>
      intro k w1 hk g1 f1 c1
      have e14 : w1 14 0 = d.s 900 := by rw [f1 14 (by omega) (by omega)]; exact h.2.1
      obtain ⟨hw1, e9⟩ := takeTo_wf hw k (by omega)
      have hk5 : k < 5 := by omega
      have hpl := hw1.postslen hk5
      unfold f_X4_takesAll_2 f_X4_takesAll_2_b
      rw [e14]
      refine br_F ⟨by omega, by omega⟩ ⟨by omega, by omega⟩ (by omega) ⟨((takeTo d k).posts k).length + 1, ?_⟩
      refine inner _ k hk5 _ (takeTo d k) _ w1 rfl g1 hw1 (by omega) (by rw [e9 _ (by omega)]; omega) (fun w' g' f' c' => ?_)
      rw [show (k : Int) + 1 = ((k + 1 : Nat) : Int) by omega]
      refine ih (k + 1) w' (by omega) g' (fun j j1 j2 => (f' j j1 j2).trans (f1 j j1 j2)) ?_
      rw [c', c1]
      show _ = _ + (takeCnt d k + (((takeTo d k).posts k).length : Nat))
      omega
  exact ⟨(d.s 900).toNat + 1, outer (d.s 900).toNat 0 w (by omega) h (fun _ _ _ => rfl) (by show _ = _ + (0 : Int); omega)⟩
theorem t_drainF {Q : Int → Tw → Prop} {t : Tmf} (hr : r = 20 ∨ r = 21) : ∀ (f : Nat) (k tk : Int) (d : DS) (B : Int) (w : Tw), k + f = 99 → 0 ≤ k → TwA w r d → WF d B → 99 ≤ B → B + 300 * f ≤ 90000000 → RuleW w t → w 35 0 = tk →
    (∀ w', (0 ≤ (drainF t (f + 1) k tk d).1 → TwA w' r (drainF t (f + 1) k tk d).2.2 ∧ w' 35 0 = (drainF t (f + 1) k tk d).2.1) → (∀ i : Int, 828 ≤ i → i < 838 → w' r i = (drainF t (f + 1) k tk d).2.2.s i) → (∀ j, j ≠ r → j ≠ 12 → j ≠ 13 → j ≠ 24 → j ≠ 25 → j ≠ 35 → w' j = w j) → Q (drainF t (f + 1) k tk d).1 w') → f_X4_drainsOf_7 r Q (f + 2) k w := by
  intro f
  induction f with
  | zero =>
    intro k tk d B w hk hk0 h hw hB9 hB hR h35 hQ
    unfold f_X4_drainsOf_7 f_X4_drainsOf_7_b
    refine br_F ⟨by omega, by omega⟩ ⟨by omega, by omega⟩ (by omega) (t_isDrained h hw (by omega) ?_)
    have hb : ∀ i : Int, 828 ≤ i → i < 838 → w r i = d.s i := fun i i0 i1 => h.1.1 i (Or.inr ⟨by omega, by omega, by omega⟩)
    cases hd : isDr d with
    | true =>
      have e : drainF t (0 + 1) k tk d = (k, tk, d) := by unfold drainF; rw [if_pos hd]
      rw [e] at hQ
      exact brB_T (hQ w (fun _ => ⟨h, h35⟩) hb (fun _ _ _ _ _ _ _ => rfl))
    | false =>
      have e : drainF t (0 + 1) k tk d = (-2, tk, d) := by unfold drainF; rw [hd, if_neg (by simp), if_pos rfl]
      rw [e] at hQ
      refine brB_F (t_takesAll h hr hw (by omega) (fun w1 g1 f1 c1 => br_T ⟨by omega, by omega⟩ ⟨by omega, by omega⟩ (by omega) ?_))
      unfold f_X4_drainsOf_39 f_X4_drainsOf_7 f_X4_drainsOf_7_b
      refine br_T ⟨by omega, by omega⟩ ⟨by omega, by omega⟩ (by omega) (hQ w1 (fun z => absurd z (by show ¬ (0 : Int) ≤ -2; decide)) (fun i i0 i1 => ?_) (fun j j1 j2 j3 j4 j5 j6 => f1 j j1 j6))
      rw [g1.1.1 i (Or.inr ⟨by omega, by omega, by omega⟩), takeAll_hi hw (by omega)]
  | succ f ih =>
    intro k tk d B w hk hk0 h hw hB9 hB hR h35 hQ
    unfold f_X4_drainsOf_7 f_X4_drainsOf_7_b
    refine br_F ⟨by omega, by omega⟩ ⟨by omega, by omega⟩ (by omega) (t_isDrained h hw (by omega) ?_)
    have hb : ∀ i : Int, 828 ≤ i → i < 838 → w r i = d.s i := fun i i0 i1 => h.1.1 i (Or.inr ⟨by omega, by omega, by omega⟩)
    cases hd : isDr d with
    | true =>
      have e : drainF t (f + 1 + 1) k tk d = (k, tk, d) := by
        show (if isDr d = true then (k, tk, d) else _) = _
        rw [if_pos hd]
      rw [e] at hQ
      exact brB_T (hQ w (fun _ => ⟨h, h35⟩) hb (fun _ _ _ _ _ _ _ => rfl))
    | false =>
      have e : drainF t (f + 1 + 1) k tk d = drainF t (f + 1) (k + 1) (tk + takeCnt d (d.s 900).toNat) (tickD t (takeAllD d)) := by
        show (if isDr d = true then (k, tk, d) else if f + 1 = 0 then (-2, tk, d) else _) = _
        rw [hd, if_neg (by simp), if_neg (by omega)]
      rw [e] at hQ
      have hw1 := hw.takeAll
      refine brB_F (t_takesAll h hr hw (by omega) (fun w1 g1 f1 c1 => br_F ⟨by omega, by omega⟩ ⟨by omega, by omega⟩ (by omega) (t_tick g1 hr hw1 (by omega) (by omega) (hR.on (f1 8 (by omega) (by omega)) (f1 10 (by omega) (by omega))) (fun w2 g2 f2 _ _ => ?_))))
      unfold f_X4_drainsOf_39
      refine ih (k + 1) _ _ (B + 35 + 200) w2 (by omega) (by omega) g2 (hw1.tick (by omega)) (by omega) (by omega) ((hR.on (f1 8 (by omega) (by omega)) (f1 10 (by omega) (by omega))).fk f2 hr) (by rw [f2 35 (by omega) (by omega) (by omega) (by omega) (by omega), c1, h35]) (fun w' a' b' f' => hQ w' a' b' (fun j j1 j2 j3 j4 j5 j6 => ?_))
      rw [f' j j1 j2 j3 j4 j5 j6, f2 j j1 j2 j3 j4 j5, f1 j j1 j6]
theorem t_drainsOf {Q : Int → Tw → Prop} {t : Tmf} (h : TwA w r d) (hr : r = 20 ∨ r = 21) (hw : WF d B) (hB : B ≤ 80000000) (hB9 : 99 ≤ B) (hR : RuleW w t)
    (hQ : ∀ w', (0 ≤ (drainD t d).1 → TwA w' r (drainD t d).2.2 ∧ w' 35 0 = (drainD t d).2.1) → (∀ i : Int, 828 ≤ i → i < 838 → w' r i = (drainD t d).2.2.s i) → (∀ j, j ≠ r → j ≠ 12 → j ≠ 13 → j ≠ 24 → j ≠ 25 → j ≠ 35 → w' j = w j) → Q (drainD t d).1 w') : f_X4_drainsOf r w Q := by
  unfold f_X4_drainsOf tS
  have g2 : TwA (tup w 35 0 0) r d := by
    obtain ⟨m1, m2, m3⟩ := h
    refine ⟨by rw [tw_ne (by omega)]; exact m1, by rw [tw_ne (by omega)]; exact m2, fun x hx => ?_⟩
    rw [tw_ne (by omega), tw_ne (by omega), tw_ne (by omega), tw_ne (by omega)]
    exact m3 x hx
  refine ⟨101, t_drainF hr 99 0 0 d B _ (by omega) (by omega) g2 hw hB9 (by omega) (hR.on (tw_ne (by omega)) (tw_ne (by omega))) (by rw [tw_at, iup_at]) (fun w' a' b' f' => hQ w' a' b' (fun j j1 j2 j3 j4 j5 j6 => ?_))⟩
  rw [f' j j1 j2 j3 j4 j5 j6, tw_ne j6]
theorem t_ticksGo {Q : Tw → Prop} {t : Tmf} {n : Nat} (h : TwA w r d) (hr : r = 20 ∨ r = 21) (hn : n ≤ 60) (hw : WF d B) (hB : B ≤ 700000000) (hB9 : 99 ≤ B) (hR : RuleW w t)
    (hQ : ∀ w', TwA w' r (tickN t n d) → (∀ j, j ≠ r → j ≠ 12 → j ≠ 13 → j ≠ 24 → j ≠ 25 → j ≠ 26 → w' j = w j) → w' 24 0 = (tickN t n d).s 902 - d.s 902 → w' 25 0 = (tickN t n d).s 901 - d.s 901 → w' 26 0 = idleN t n d → Q w') : f_X4_ticksGo r n w Q := by
  unfold f_X4_ticksGo tS
  have f26 : ∀ {w1 : Tw} {e : DS} {x : Int}, TwA w1 r e → TwA (tup w1 26 0 x) r e := by
    rintro w1 e x ⟨m1, m2, m3⟩
    refine ⟨by rw [tw_ne (by omega)]; exact m1, by rw [tw_ne (by omega)]; exact m2, fun x hx => ?_⟩
    rw [tw_ne (by omega), tw_ne (by omega), tw_ne (by omega), tw_ne (by omega)]
    exact m3 x hx
  have lp : ∀ (m k : Nat) (e : DS) (B : Int) (w1 : Tw), k + m = n → TwA w1 r e → WF e B → 99 ≤ B → B + 200 * m ≤ 700100000 → RuleW w1 t → (∀ j, j ≠ r → j ≠ 12 → j ≠ 13 → j ≠ 24 → j ≠ 25 → j ≠ 26 → w1 j = w j) →
      (∀ w', TwA w' r (tickN t m e) → (∀ j, j ≠ r → j ≠ 12 → j ≠ 13 → j ≠ 24 → j ≠ 25 → j ≠ 26 → w' j = w j) → w' 24 0 = w1 24 0 + ((tickN t m e).s 902 - e.s 902) → w' 25 0 = w1 25 0 + ((tickN t m e).s 901 - e.s 901) → w' 26 0 = w1 26 0 + idleN t m e → Q w') → f_X4_ticksGo_17 r Q (m + 1) n k w1 := by
    intro m
    induction m with
    | zero =>
      intro k e B w1 hk g1 hw hB9 hB hR f1 hK
      unfold f_X4_ticksGo_17 f_X4_ticksGo_17_b
      exact br_T ⟨by omega, by omega⟩ ⟨by omega, by omega⟩ (by omega) (hK w1 g1 f1 (by show _ = _ + (e.s 902 - e.s 902); omega) (by show _ = _ + (e.s 901 - e.s 901); omega) (by show _ = _ + (0 : Int); omega))
    | succ m ih =>
      intro k e B w1 hk g1 hw hB9 hB hR f1 hK
      unfold f_X4_ticksGo_17 f_X4_ticksGo_17_b
      refine br_F ⟨by omega, by omega⟩ ⟨by omega, by omega⟩ (by omega) (t_tick g1 hr hw (by omega) hB9 hR (fun w2 g2 f2 c24 c25 => ?_))
      have hwt := hw.tick (t := t) hB9
      have e493 := g2.1.2.1
      have hl4 := hwt.2.2.1.1
      refine ⟨⟨by omega, by omega⟩, ?_⟩
      rw [e493]
      have nx : ∀ (b : Bool) (x : Int), (b = true → x = 1) → (b = false → x = 0) → (if (tickD t e).run.isEmpty = true then (1 : Int) else 0) = x → f_X4_ticksGo_45 r (fun l2 l3 w => f_X4_ticksGo_17 r Q (m + 1) l2 l3 w) n k (w2 26 0) b w2 Q := by
        intro b x hb1 hb0 hx
        have main : ∀ y : Int, y = x → f_X4_ticksGo_17 r Q (m + 1) n ((k + 1 : Nat) : Int) (tup w2 26 0 (w2 26 0 + y)) := by
          rintro y rfl
          refine ih (k + 1) (tickD t e) (B + 200) _ (by omega) (f26 g2) hwt (by omega) (by omega) ((hR.fk f2 hr).on (tw_ne (by omega)) (tw_ne (by omega))) (fun j j1 j2 j3 j4 j5 j6 => by rw [tw_ne j6, f2 j j1 j2 j3 j4 j5, f1 j j1 j2 j3 j4 j5 j6]) (fun w' g' f' a24 a25 a26 => hK w' g' f' ?_ ?_ ?_)
          · rw [a24, tw_ne (by omega), c24]
            show _ = _ + ((tickN t m (tickD t e)).s 902 - e.s 902)
            omega
          · rw [a25, tw_ne (by omega), c25]
            show _ = _ + ((tickN t m (tickD t e)).s 901 - e.s 901)
            omega
          · rw [a26, tw_at, iup_at, f2 26 (by omega) (by omega) (by omega) (by omega) (by omega)]
            show _ = _ + ((if (tickD t e).run.isEmpty = true then 1 else 0) + idleN t m (tickD t e))
            rw [hx]; omega
        unfold f_X4_ticksGo_45 f_X4_flag tS
        rw [show (k : Int) + 1 = ((k + 1 : Nat) : Int) by omega]
        cases b with
        | true => exact brB_T (main 1 (hb1 rfl).symm)
        | false => exact brB_F (main 0 (hb0 rfl).symm)
      cases hrn : (tickD t e).run with
      | nil =>
        rw [hrn] at nx
        exact br0_F ⟨by simp, by simp⟩ (by simp) (nx true 1 (fun _ => rfl) (fun z => by cases z) rfl)
      | cons c l =>
        rw [hrn] at nx hl4
        rw [List.length_cons] at hl4 ⊢
        exact br0_T ⟨by omega, by omega⟩ (by omega) (nx false 0 (fun z => by cases z) (fun _ => rfl) rfl)
  have g3 : TwA (tup (tup (tup w 24 0 0) 25 0 0) 26 0 0) r d := f26 ((h.fld (j := 24) hr (by omega)).fld (j := 25) hr (by omega))
  refine ⟨n + 1, lp n 0 d B _ (by omega) g3 hw hB9 (by omega) (hR.on (by rw [tw_ne (by omega), tw_ne (by omega), tw_ne (by omega)]) (by rw [tw_ne (by omega), tw_ne (by omega), tw_ne (by omega)])) (fun j j1 j2 j3 j4 j5 j6 => by rw [tw_ne j6, tw_ne j5, tw_ne j4]) (fun w' g' f' a24 a25 a26 => hQ w' g' f' ?_ ?_ ?_)⟩
  · rw [a24, tw_ne (by omega), tw_ne (by omega), tw_at, iup_at]; omega
  · rw [a25, tw_ne (by omega), tw_at, iup_at]; omega
  · rw [a26, tw_at, iup_at]; omega
end
