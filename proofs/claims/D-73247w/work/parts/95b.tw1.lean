/-! PURE PROOFS: the twin looks into its row -/
set_option maxRecDepth 100000
theorem sg_r (x y : Int) : R32 (sg x y) := by
  unfold sg
  split
  · exact ⟨by decide, by decide⟩
  · split
    · exact r0
    · exact r1
theorem t_in {w : Tw} {Q : Bool → Tw → Prop} {x lo hi : Int} (hx : R32 x) (hl : R32 lo) (hh : R32 hi) (h : Q (decide (lo ≤ x ∧ x ≤ hi)) w) : f_X4_in x lo hi w Q := by
  obtain ⟨a0, a1⟩ := hx
  obtain ⟨b0, b1⟩ := hl
  obtain ⟨c0, c1⟩ := hh
  unfold f_X4_in f_X4_in_17
  refine ⟨⟨⟨by omega, by omega⟩, ⟨by omega, by omega⟩⟩, ?_⟩
  by_cases h1 : x < lo
  · rw [decide_eq_false (by omega)] at h
    exact br0_T (sg_r _ _) (by unfold sg; rw [if_pos h1]; decide) h
  · refine br0_F (sg_r _ _) (by unfold sg; rw [if_neg h1]; split <;> decide) ⟨⟨⟨by omega, by omega⟩, ⟨by omega, by omega⟩⟩, ?_⟩
    by_cases h2 : hi < x
    · rw [decide_eq_false (by omega)] at h
      exact br0_T (sg_r _ _) (by unfold sg; rw [if_neg (by omega), if_neg (by omega)]; decide) h
    · rw [decide_eq_true ⟨by omega, by omega⟩] at h
      refine br0_F (sg_r _ _) ?_ h
      unfold sg
      by_cases h3 : x < hi
      · rw [if_pos h3]; decide
      · rw [if_neg h3, if_pos (by omega)]; decide
theorem drop_cons {α : Type} {l m : List α} {c : α} {k : Nat} (h : l.drop k = c :: m) : l[k]? = some c ∧ l.drop (k + 1) = m ∧ k < l.length := by
  have h1 : k < l.length := by
    rcases Nat.lt_or_ge k l.length with h1 | h1
    · exact h1
    · rw [List.drop_eq_nil_of_le h1] at h; cases h
  rw [List.drop_eq_getElem_cons h1] at h
  injection h with h2 h3
  exact ⟨by rw [List.getElem?_eq_getElem h1, h2], h3, h1⟩
theorem get_mem {α : Type} {l : List α} {k : Nat} {c : α} (h : l[k]? = some c) : c ∈ l := List.mem_of_getElem? h
section
variable {w : Tw} {r : Nat} {d : DS} {B : Int} {q : Nat}
theorem t_isQueue {Q : Bool → Tw → Prop} {x : Int} (h : TwA w r d) (hm : 0 ≤ d.s 900 ∧ d.s 900 ≤ 5) (hx : R32 x) (hQ : Q (decide (0 ≤ x ∧ x < d.s 900)) w) : f_X4_isQueue x w Q := by
  unfold f_X4_isQueue
  rw [h.2.1]
  refine ⟨hx, ⟨by omega, by omega⟩, t_in hx r0 ⟨by omega, by omega⟩ ?_⟩
  have e : decide (0 ≤ x ∧ x ≤ d.s 900 - 1) = decide (0 ≤ x ∧ x < d.s 900) := decide_eq_decide.mpr ⟨fun h => ⟨by omega, by omega⟩, fun h => ⟨by omega, by omega⟩⟩
  rw [e]; exact hQ
theorem t_of {Q : Int → Tw → Prop} {f : Int} (h : TwA w r d) (hq : q < 5) (f0 : 0 ≤ f) (f1 : f < 9) (hQ : Q (d.s (89 * q + f)) w) : f_X4_of r q f w Q := by
  unfold f_X4_of
  refine ⟨⟨by omega, by omega⟩, ?_⟩
  rw [h.1.1 _ (Or.inl ⟨by omega, by omega, by omega⟩)]
  exact hQ
theorem t_hasWork {Q : Bool → Tw → Prop} (h : TwA w r d) (hq : q < 5) (hw : WF d B) (hB : B ≤ 1000000000) (hQ : Q (hasW d.s q) w) : f_X4_hasWork r q w Q := by
  refine t_of h hq (by omega) (by omega) (t_of h hq (by omega) (by omega) ?_)
  unfold hasW at hQ
  by_cases hc : d.s (89 * q + 2) ≤ d.s (89 * q + 3)
  · rw [decide_eq_false (by omega)] at hQ
    exact br_T (hw.r hB _) (hw.r hB _) hc hQ
  · rw [decide_eq_true (by omega)] at hQ
    exact br_F (hw.r hB _) (hw.r hB _) hc hQ
theorem t_ringOf_7 {Q : Int → Tw → Prop} {id : Int} (h : TwA w r d) (hq : q < 5) (hw : WF d B) (hB : B ≤ 1000000000) (hid : R32 id) : ∀ (l : List Rec) (k : Nat), (d.ring q).drop k = l → k ≤ (d.ring q).length →
    Q (ofi ((l.findIdx? (fun c => decide (c 0 = id))).map (fun j => k + j))) w → f_X4_ringOf_7 r Q (l.length + 1) q id (d.s (89 * q + 3) + k) w := by
  intro l
  have hl := hw.ringlen hq
  have hn := hw.nn hq
  have hb := hw.1.1 (89 * q + 3)
  have hlen := (hw.wl hq).2.1
  induction l with
  | nil =>
    intro k hk hk2 hQ
    have hk3 : (d.ring q).length ≤ k := List.drop_eq_nil_iff.mp hk
    unfold f_X4_ringOf_7 f_X4_ringOf_7_b
    refine t_of h hq (by omega) (by omega) (br_T ⟨by omega, by omega⟩ (hw.r hB _) (by omega) ?_)
    exact hQ
  | cons c l ih =>
    intro k hk hk2 hQ
    obtain ⟨k1, k2, k3⟩ := drop_cons hk
    unfold f_X4_ringOf_7 f_X4_ringOf_7_b
    refine t_of h hq (by omega) (by omega) (br_F ⟨by omega, by omega⟩ (hw.r hB _) (by omega) ?_)
    unfold f_X4_ringAt
    refine ⟨⟨by omega, by omega, by omega, by omega⟩, ⟨by omega, by omega⟩, ?_⟩
    rw [h.1.2.2.2.1 q hq k c k1 0 (by omega) (by omega)]
    have ci := ((hw.wl hq).2.2.2.1 c (get_mem k1)).1
    rw [List.findIdx?_cons] at hQ
    by_cases e : c 0 = id
    · rw [if_pos (by simpa using e)] at hQ
      refine br_F ⟨by omega, by omega⟩ hid (by omega) (t_of h hq (by omega) (by omega) ?_)
      rw [show d.s (89 * q + 3) + (k : Int) - d.s (89 * q + 3) = k by omega]
      exact hQ
    · rw [if_neg (by simpa using e)] at hQ
      refine br_T ⟨by omega, by omega⟩ hid e ?_
      rw [show d.s (89 * q + 3) + (k : Int) + 1 = d.s (89 * q + 3) + ((k + 1 : Nat) : Int) by omega]
      refine ih (k + 1) k2 (by omega) ?_
      rw [Option.map_map] at hQ
      have e2 : ((fun j => k + j) ∘ (· + 1) : Nat → Nat) = fun j => k + 1 + j := by funext j; simp only [Function.comp]; omega
      rw [e2] at hQ
      exact hQ
theorem t_ringOf {Q : Int → Tw → Prop} {id : Int} (h : TwA w r d) (hq : q < 5) (hw : WF d B) (hB : B ≤ 1000000000) (hid : R32 id) (hQ : Q (ringOf d q id) w) : f_X4_ringOf r q id w Q := by
  unfold f_X4_ringOf
  refine t_of h hq (by omega) (by omega) ⟨(d.ring q).length + 1, ?_⟩
  have k := t_ringOf_7 (Q := Q) h hq hw hB hid (d.ring q) 0 rfl (by omega) (by
    rw [show ∀ o : Option Nat, o.map (fun j => 0 + j) = o from fun o => by cases o <;> simp]
    exact hQ)
  simpa using k
theorem t_runOf_2 {Q : Int → Tw → Prop} {id : Int} (h : TwA w r d) (hw : WF d B) (hq : q < 5) (hid : R32 id) : ∀ (l : List Rec) (k : Nat), d.run.drop k = l → k ≤ d.run.length →
    Q (ofi ((l.findIdx? (fun v => hasId v q id)).map (fun j => k + j))) w → f_X4_runOf_2 r Q (l.length + 1) q id k w := by
  intro l
  have hl := hw.2.2.1.1
  induction l with
  | nil =>
    intro k hk hk2 hQ
    have hk3 : d.run.length ≤ k := List.drop_eq_nil_iff.mp hk
    unfold f_X4_runOf_2 f_X4_runOf_2_b
    refine ⟨⟨by omega, by omega⟩, ?_⟩
    rw [h.1.2.1]
    exact br_T ⟨by omega, by omega⟩ ⟨by omega, by omega⟩ (by omega) hQ
  | cons c l ih =>
    intro k hk hk2 hQ
    obtain ⟨k1, k2, k3⟩ := drop_cons hk
    obtain ⟨o1, o2, o3, o4, o5, o6, o7⟩ := hw.2.2.1.2 c (get_mem k1)
    have hm := hw.many
    have g := h.1.2.2.2.2.2.1 k c k1
    unfold f_X4_runOf_2 f_X4_runOf_2_b f_X4_runOf_48 f_X4_runOf_52 f_X4_runOf_53 f_X4_runOf_74 f_X4_hasSecond f_X4_runAt
    refine ⟨⟨by omega, by omega⟩, ?_⟩
    rw [h.1.2.1]
    refine br_F ⟨by omega, by omega⟩ ⟨by omega, by omega⟩ (by omega) ⟨⟨by omega, by omega⟩, ?_⟩
    have g0 := g 0 (by omega) (by omega) (by omega)
    have g1 := g 1 (by omega) (by omega) (by omega)
    have g7 := g 7 (by omega) (by omega) (by omega)
    rw [show (445 + 12 * (k : Int) + 1 + 0) = 445 + 12 * k + 1 by omega, g1]
    rw [List.findIdx?_cons] at hQ
    -- what comes behind, being no hit
    have nx : hasId c q id = false → f_X4_runOf_2 r Q (l.length + 1) q id (k + 1) w := by
      intro e
      rw [e, if_neg (by simp)] at hQ
      rw [show (k : Int) + 1 = ((k + 1 : Nat) : Int) by omega]
      refine ih (k + 1) k2 (by omega) ?_
      rw [Option.map_map] at hQ
      have e2 : ((fun j => k + j) ∘ (· + 1) : Nat → Nat) = fun j => k + 1 + j := by funext j; simp only [Function.comp]; omega
      rw [e2] at hQ
      exact hQ
    have hit : hasId c q id = true → Q k w := by
      intro e
      rw [e, if_pos rfl] at hQ
      exact hQ
    have tl : ∀ b : Bool, (c 0 = q → hasId c q id = b) → rdA w r 844 (445 + 12 * (k : Int) + 0) (fun _ => br (w r (445 + 12 * (k : Int) + 0)) q (¬ w r (445 + 12 * (k : Int) + 0) = q) (f_X4_runOf_2 r Q (l.length + 1) q id (k + 1) w) (brB b (Q k w) (f_X4_runOf_2 r Q (l.length + 1) q id (k + 1) w))) := by
      intro b hb
      refine ⟨⟨by omega, by omega⟩, ?_⟩
      rw [g0]
      by_cases e0 : c 0 = q
      · refine br_F ⟨by omega, by omega⟩ ⟨by omega, by omega⟩ (by omega) ?_
        cases b with
        | true => exact brB_T (hit (hb e0))
        | false => exact brB_F (nx (hb e0))
      · exact br_T ⟨by omega, by omega⟩ ⟨by omega, by omega⟩ e0 (nx (by unfold hasId; simp [e0]))
    by_cases e1 : c 1 = id
    · exact br_T ⟨by omega, by omega⟩ hid e1 (tl true (fun e0 => by unfold hasId; simp [e0, e1]))
    · refine br_F ⟨by omega, by omega⟩ hid e1 ⟨⟨by omega, by omega⟩, ?_⟩
      rw [show (445 + 12 * (k : Int) + 6 + 1) = 445 + 12 * k + 7 by omega, g7]
      by_cases e7 : c 7 < 0
      · exact br0_T ⟨by omega, by omega⟩ e7 (brB_F (tl false (fun e0 => by unfold hasId; simp [e1]; omega)))
      · refine br0_F ⟨by omega, by omega⟩ e7 (brB_T ⟨⟨by omega, by omega⟩, ?_⟩)
        rw [show (445 + 12 * (k : Int) + 6 + 0) = 445 + 12 * k + 6 by omega, g 6 (by omega) (by omega) (by omega)]
        by_cases e6 : c 6 = id
        · exact br_F ⟨by omega, by omega⟩ hid (by omega) (tl true (fun e0 => by unfold hasId; simp [e0, e6]; omega))
        · exact br_T ⟨by omega, by omega⟩ hid e6 (tl false (fun e0 => by unfold hasId; simp [e1, e6]))
def runOf (d : DS) (q : Nat) (id : Int) : Int := ofi (d.run.findIdx? (fun v => hasId v q id))
theorem t_runOf {Q : Int → Tw → Prop} {id : Int} (h : TwA w r d) (hw : WF d B) (hq : q < 5) (hid : R32 id) (hQ : Q (runOf d q id) w) : f_X4_runOf r q id w Q := by
  refine ⟨d.run.length + 1, ?_⟩
  have k := t_runOf_2 (Q := Q) h hw hq hid d.run 0 rfl (by omega) (by
    rw [show ∀ o : Option Nat, o.map (fun j => 0 + j) = o from fun o => by cases o <;> simp]
    exact hQ)
  simpa using k
def isOut (q id : Int) (v : Rec) : Bool := decide (v 0 = q) && decide (v 1 = id)
theorem t_outOf_2 {Q : Int → Tw → Prop} {id : Int} (h : TwA w r d) (hw : WF d B) (hq : q < 5) (hid : R32 id) : ∀ (l : List Rec) (k : Nat), d.out.drop k = l → k ≤ d.out.length →
    Q (ofi ((l.findIdx? (isOut q id)).map (fun j => k + j))) w → f_X4_outOf_2 r Q (l.length + 1) q id k w := by
  intro l
  have hl := hw.outlen
  induction l with
  | nil =>
    intro k hk hk2 hQ
    have hk3 : d.out.length ≤ k := List.drop_eq_nil_iff.mp hk
    unfold f_X4_outOf_2 f_X4_outOf_2_b
    refine ⟨⟨by omega, by omega⟩, ?_⟩
    rw [h.1.2.2.1]
    exact br_T ⟨by omega, by omega⟩ ⟨by omega, by omega⟩ (by omega) hQ
  | cons c l ih =>
    intro k hk hk2 hQ
    obtain ⟨k1, k2, k3⟩ := drop_cons hk
    obtain ⟨o1, o2, o3⟩ := hw.2.2.2.1 c (get_mem k1)
    have hm := hw.many
    have g := h.1.2.2.2.2.2.2 k c k1
    unfold f_X4_outOf_2 f_X4_outOf_2_b f_X4_outOf_37 f_X4_outAt
    refine ⟨⟨by omega, by omega⟩, ?_⟩
    rw [h.1.2.2.1]
    refine br_F ⟨by omega, by omega⟩ ⟨by omega, by omega⟩ (by omega) ⟨⟨by omega, by omega⟩, ?_⟩
    rw [g 0 (by omega) (by omega)]
    rw [List.findIdx?_cons] at hQ
    have nx : isOut q id c = false → f_X4_outOf_2 r Q (l.length + 1) q id (k + 1) w := by
      intro e
      rw [e, if_neg (by simp)] at hQ
      rw [show (k : Int) + 1 = ((k + 1 : Nat) : Int) by omega]
      refine ih (k + 1) k2 (by omega) ?_
      rw [Option.map_map] at hQ
      have e2 : ((fun j => k + j) ∘ (· + 1) : Nat → Nat) = fun j => k + 1 + j := by funext j; simp only [Function.comp]; omega
      rw [e2] at hQ
      exact hQ
    by_cases e0 : c 0 = q
    · refine br_F ⟨by omega, by omega⟩ ⟨by omega, by omega⟩ (by omega) ⟨⟨by omega, by omega⟩, ?_⟩
      rw [g 1 (by omega) (by omega)]
      by_cases e1 : c 1 = id
      · rw [if_pos (by unfold isOut; simp [e0, e1])] at hQ
        exact br_F ⟨by omega, by omega⟩ hid (by omega) hQ
      · exact br_T ⟨by omega, by omega⟩ hid e1 (nx (by unfold isOut; simp [e1]))
    · exact br_T ⟨by omega, by omega⟩ ⟨by omega, by omega⟩ e0 (nx (by unfold isOut; simp [e0]))
def outOf (d : DS) (q : Nat) (id : Int) : Int := ofi (d.out.findIdx? (isOut q id))
theorem t_outOf {Q : Int → Tw → Prop} {id : Int} (h : TwA w r d) (hw : WF d B) (hq : q < 5) (hid : R32 id) (hQ : Q (outOf d q id) w) : f_X4_outOf r q id w Q := by
  refine ⟨d.out.length + 1, ?_⟩
  have k := t_outOf_2 (Q := Q) h hw hq hid d.out 0 rfl (by omega) (by
    rw [show ∀ o : Option Nat, o.map (fun j => 0 + j) = o from fun o => by cases o <;> simp]
    exact hQ)
  simpa using k
theorem t_isPosted_11 {Q : Bool → Tw → Prop} {id : Int} (h : TwA w r d) (hq : q < 5) (hw : WF d B) (hB : B ≤ 1000000000) (hid : R32 id) : ∀ (l : List Rec) (k : Nat) (b : Bool), (d.posts q).drop k = l → k ≤ (d.posts q).length →
    Q (b || l.any (isId id)) w → f_X4_isPosted_11 r Q (l.length + 1) q id b (d.s (89 * q + 6) + k) w := by
  intro l
  have hl := hw.postslen hq
  have hn := hw.nn hq
  have hb := hw.1.1 (89 * q + 6)
  have hlen := (hw.wl hq).2.2.1
  induction l with
  | nil =>
    intro k b hk hk2 hQ
    have hk3 : (d.posts q).length ≤ k := List.drop_eq_nil_iff.mp hk
    unfold f_X4_isPosted_11 f_X4_isPosted_11_b
    refine t_of h hq (by omega) (by omega) (br_T ⟨by omega, by omega⟩ (hw.r hB _) (by omega) ?_)
    simpa using hQ
  | cons c l ih =>
    intro k b hk hk2 hQ
    obtain ⟨k1, k2, k3⟩ := drop_cons hk
    unfold f_X4_isPosted_11 f_X4_isPosted_11_b f_X4_isPosted_40 f_X4_isPosted_45
    refine t_of h hq (by omega) (by omega) (br_F ⟨by omega, by omega⟩ (hw.r hB _) (by omega) ?_)
    have nx : ∀ b', Q (b' || l.any (isId id)) w → f_X4_isPosted_11 r Q (l.length + 1) q id b' (d.s (89 * q + 6) + k + 1) w := by
      intro b' hQ'
      rw [show d.s (89 * q + 6) + (k : Int) + 1 = d.s (89 * q + 6) + ((k + 1 : Nat) : Int) by omega]
      exact ih (k + 1) b' k2 (by omega) hQ'
    rw [List.any_cons] at hQ
    cases b with
    | true => exact brB_T (nx true (by simpa using hQ))
    | false =>
      refine brB_F ?_
      unfold f_X4_placeAt
      refine ⟨⟨by omega, by omega, by omega, by omega⟩, ⟨by omega, by omega⟩, ?_⟩
      rw [h.1.2.2.2.2.1 q hq k c k1 0 (by omega) (by omega)]
      have ci := ((hw.wl hq).2.2.2.2.1 c (get_mem k1)).1
      by_cases e : c 0 = id
      · exact br_F ⟨by omega, by omega⟩ hid (by omega) (nx true (by rw [show isId id c = true from decide_eq_true e] at hQ; simpa using hQ))
      · exact br_T ⟨by omega, by omega⟩ hid e (nx false (by rw [show isId id c = false from decide_eq_false e] at hQ; simpa using hQ))
theorem t_isPosted {Q : Bool → Tw → Prop} {id : Int} (h : TwA w r d) (hq : q < 5) (hw : WF d B) (hB : B ≤ 1000000000) (hid : R32 id) (hQ : Q ((d.posts q).any (isId id)) w) : f_X4_isPosted r q id w Q := by
  refine t_of h hq (by omega) (by omega) ⟨(d.posts q).length + 1, ?_⟩
  have k := t_isPosted_11 (Q := Q) h hq hw hB hid (d.posts q) 0 false rfl (by omega) (by simpa using hQ)
  simpa using k
end
