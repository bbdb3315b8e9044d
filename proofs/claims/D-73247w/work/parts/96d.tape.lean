/-! PURE PROOFS: the twin reads a rule -/
set_option maxRecDepth 100000
def TFp (w w' : Tw) : Prop := ∀ j, j ≠ 5 → j ≠ 7 → j ≠ 9 → j ≠ 11 → w' j = w j
theorem TFp.refl {w : Tw} : TFp w w := fun _ _ _ _ _ => rfl
theorem TFp.trans {w w1 w2 : Tw} (h : TFp w w1) (k : TFp w1 w2) : TFp w w2 := fun j h1 h2 h3 h4 => by rw [k j h1 h2 h3 h4, h j h1 h2 h3 h4]
/-- the twin at p of a text -/
def TA (x : Int → Int) (E : Int) (w : Tw) (p : Int) : Prop := w 5 0 = p ∧ w 6 0 = E ∧ ∀ i, 0 ≤ i → i < E → w 3 i = x i
def TS (x : Int → Int) (E : Int) (w : Tw) (p nest : Int) (l : List Int) : Prop := TA x E w p ∧ w 7 0 = nest ∧ w 11 0 = (l.length : Nat) ∧ ∀ (i : Nat) (c : Int), l[i]? = some c → w 9 i = c
section
variable {x : Int → Int} {E p nest : Int} {w : Tw} {l : List Int}
theorem TA.to {q : Int} (h : TA x E w p) : TA x E (tup w 5 0 q) q := ⟨by rw [tw_at, iup_at], by rw [tw_ne (by decide)]; exact h.2.1, by rw [tw_ne (by decide)]; exact h.2.2⟩
theorem TS.to {q : Int} (h : TS x E w p nest l) : TS x E (tup w 5 0 q) q nest l := ⟨h.1.to, by rw [tw_ne (by decide)]; exact h.2.1, by rw [tw_ne (by decide)]; exact h.2.2.1, by rw [tw_ne (by decide)]; exact h.2.2.2⟩
theorem TFp.to {i q : Int} : TFp w (tup w 5 i q) := fun j h1 _ _ _ => tw_ne h1
variable (hx : ∀ i, 0 ≤ i → i < 80 → 0 ≤ x i ∧ x i < 256) (hE : 0 ≤ E ∧ E ≤ 80)
theorem t_takesSign {Q : Bool → Tw → Prop} {c : Int} (hx : ∀ i, 0 ≤ i → i < 80 → 0 ≤ x i ∧ x i < 256) (hE : 0 ≤ E ∧ E ≤ 80) (h : TA x E w p) (hp : 0 ≤ p ∧ p ≤ E) (hc : 0 ≤ c ∧ c < 256) (h1 : hr x E p = c → p < E → Q true (tup w 5 0 (p + 1))) (h0 : hr x E p ≠ c → Q false (tup w 5 0 p)) : f_X4_takesSign c w Q := by
  obtain ⟨a1, a2, a3⟩ := h
  unfold f_X4_takesSign f_X4_takesSign_28 f_X4_takesSign_29 f_X4_flag tS
  rw [a1, a2]
  unfold hr at h1 h0
  by_cases z : E ≤ p
  · rw [if_neg (by omega)] at h0
    refine br_T ⟨by omega, by omega⟩ ⟨by omega, by omega⟩ z (brB_F ?_)
    have k0 := h0 (by omega)
    show Q false (tup w 5 0 (p + 0))
    rw [show p + 0 = p by omega]
    exact k0
  · rw [if_pos (by omega)] at h1 h0
    have hxp := hx p hp.1 (by omega)
    refine br_F ⟨by omega, by omega⟩ ⟨by omega, by omega⟩ z ⟨⟨by omega, by omega⟩, ?_⟩
    rw [a3 p hp.1 (by omega)]
    refine ⟨⟨⟨by omega, by omega⟩, ⟨by omega, by omega⟩⟩, fun y => brB_F ?_, fun y => brB_T ?_⟩
    · show Q false (tup w 5 0 (p + 0))
      rw [show p + 0 = p by omega]
      exact h0 y
    · exact h1 (Decidable.of_not_not y) (by omega)
theorem t_isDigit {Q : Bool → Tw → Prop} (hx : ∀ i, 0 ≤ i → i < 80 → 0 ≤ x i ∧ x i < 256) (hE : 0 ≤ E ∧ E ≤ 80) (h : TA x E w p) (hp : 0 ≤ p ∧ p ≤ E) (hQ : Q (dg x E p) w) : f_X4_isDigit w Q := by
  obtain ⟨a1, a2, a3⟩ := h
  unfold f_X4_isDigit f_X4_isDigit_37
  rw [a1, a2]
  unfold dg hr at hQ
  by_cases z : E ≤ p
  · rw [if_neg (by omega), decide_eq_false (by omega)] at hQ
    exact br_T ⟨by omega, by omega⟩ ⟨by omega, by omega⟩ z hQ
  · rw [if_pos (by omega)] at hQ
    have hxp := hx p hp.1 (by omega)
    refine br_F ⟨by omega, by omega⟩ ⟨by omega, by omega⟩ z ⟨⟨by omega, by omega⟩, ?_⟩
    rw [a3 p hp.1 (by omega)]
    refine ⟨⟨by omega, by omega⟩, t_in ⟨by omega, by omega⟩ ⟨by decide, by decide⟩ ⟨by decide, by decide⟩ ?_⟩
    cases hb : decide (48 ≤ x p ∧ x p ≤ 57) with
    | true => rw [hb] at hQ; exact brB_T hQ
    | false => rw [hb] at hQ; exact brB_F hQ
theorem t_takesOf {Q : Int → Tw → Prop} {cs : List Int} (hx : ∀ i, 0 ≤ i → i < 80 → 0 ≤ x i ∧ x i < 256) (hE : 0 ≤ E ∧ E ≤ 80) (h : TA x E w p) (hp : 0 ≤ p ∧ p ≤ E) (hcs : ∀ c ∈ cs, 0 ≤ c ∧ c < 256) (hl : cs.length < 1000) (h1 : ∀ k, ix cs (hr x E p) = some k → p < E → Q k (tup w 5 0 (p + 1))) (h0 : ix cs (hr x E p) = none → Q (-1) w) : f_X4_takesOf cs w Q := by
  obtain ⟨a1, a2, a3⟩ := h
  have lp : ∀ (l : List Int) (j : Nat), cs.drop j = l → j ≤ cs.length → (∀ k, (l.findIdx? (fun y => decide (y = hr x E p))) = some k → p < E → Q ((j + k : Nat) : Int) (tup w 5 0 (p + 1))) → ((l.findIdx? (fun y => decide (y = hr x E p))) = none → Q (-1) w) → f_X4_takesOf_2 Q (l.length + 1) cs j w := by
    intro l
    induction l with
    | nil =>
      intro j hj hj2 k1 k0
      have := List.drop_eq_nil_iff.mp hj
      unfold f_X4_takesOf_2 f_X4_takesOf_2_b
      exact br_T ⟨by omega, by omega⟩ ⟨by omega, by omega⟩ (by omega) (k0 rfl)
    | cons y l ih =>
      intro j hj hj2 k1 k0
      obtain ⟨m1, m2, m3⟩ := drop_cons hj
      have hy := hcs y (List.mem_of_getElem? m1)
      unfold f_X4_takesOf_2 f_X4_takesOf_2_b tS
      rw [a1, a2]
      refine br_F ⟨by omega, by omega⟩ ⟨by omega, by omega⟩ (by omega) ?_
      by_cases z : E ≤ p
      · refine br_T ⟨by omega, by omega⟩ ⟨by omega, by omega⟩ z (k0 ?_)
        rw [List.findIdx?_eq_none_iff]
        intro c hc
        have hm : c ∈ cs := by rw [← hj] at hc; exact List.mem_of_mem_drop hc
        have := hcs c hm
        unfold hr
        rw [if_neg (by omega)]
        exact decide_eq_false (by omega)
      · have hh : hr x E p = x p := by unfold hr; rw [if_pos (by omega)]
        have hxp := hx p hp.1 (by omega)
        have eg : cs.getD ((j : Int)).toNat 0 = y := by rw [Int.toNat_natCast, List.getD_eq_getElem?_getD, m1]; rfl
        refine br_F ⟨by omega, by omega⟩ ⟨by omega, by omega⟩ z ⟨⟨by omega, by omega⟩, ⟨⟨by omega, by omega⟩, ?_⟩⟩
        rw [eg, a3 p hp.1 (by omega)]
        rw [List.findIdx?_cons] at k1 k0
        rw [hh] at k1 k0
        by_cases e : y = x p
        · rw [if_pos (by simpa using e)] at k1
          refine br_F ⟨by omega, by omega⟩ ⟨by omega, by omega⟩ (by omega) ?_
          have := k1 0 rfl (by omega)
          simpa using this
        · rw [if_neg (by simpa using e)] at k1 k0
          refine br_T ⟨by omega, by omega⟩ ⟨by omega, by omega⟩ e ?_
          rw [show (j : Int) + 1 = ((j + 1 : Nat) : Int) by omega]
          refine ih (j + 1) m2 (by omega) (fun k hk hpE => ?_) (fun hk => ?_)
          · rw [hh] at hk
            have := k1 (k + 1) (by rw [hk]; rfl) hpE
            rw [show j + (k + 1) = j + 1 + k by omega] at this
            exact this
          · rw [hh] at hk
            exact k0 (by rw [hk]; rfl)
  exact ⟨cs.length + 1, lp cs 0 rfl (by omega) (fun k hk hpE => by have := h1 k hk hpE; simpa using this) h0⟩
theorem t_number {Q : Int → Tw → Prop} {d : Nat} (hx : ∀ i, 0 ≤ i → i < 80 → 0 ≤ x i ∧ x i < 256) (hE : 0 ≤ E ∧ E ≤ 80) (h : TA x E w p) (hp : 0 ≤ p ∧ p ≤ E) (hd : d < 10) (h0 : dg x E p = false → Q (-1) w) (h1 : dg x E p = true → ∀ w', TA x E w' (numF x E d p 0).1 → (∀ j, j ≠ 5 → w' j = w j) → Q (numF x E d p 0).2 w') : f_X4_number d w Q := by
  have lp : ∀ (m j : Nat) (q v : Int) (w1 : Tw), j + m = d → 0 ≤ q → q ≤ E → TA x E w1 q → (∀ w', TA x E w' (numF x E m q v).1 → (∀ j, j ≠ 5 → w' j = w1 j) → Q (numF x E m q v).2 w') → f_X4_number_13 Q (m + 1) d v j w1 := by
    intro m
    induction m with
    | zero =>
      intro j q v w1 hj hq0 hqE g1 hK
      unfold f_X4_number_13 f_X4_number_13_b
      exact br_T ⟨by omega, by omega⟩ ⟨by omega, by omega⟩ (by omega) (hK w1 g1 (fun _ _ => rfl))
    | succ m ih =>
      intro j q v w1 hj hq0 hqE g1 hK
      unfold f_X4_number_13 f_X4_number_13_b tS
      refine br_F ⟨by omega, by omega⟩ ⟨by omega, by omega⟩ (by omega) (t_isDigit hx hE g1 ⟨hq0, hqE⟩ ?_)
      unfold numF at hK
      cases hb : dg x E q with
      | false => rw [hb, if_neg (by simp)] at hK; exact brB_F (hK w1 g1 (fun _ _ => rfl))
      | true =>
        rw [hb, if_pos rfl] at hK
        obtain ⟨d1, d2, d3⟩ := dg_lt hb
        obtain ⟨b1, b2, b3⟩ := g1
        have hh : hr x E q = x q := by unfold hr; rw [if_pos d1]
        refine brB_T ?_
        rw [b1, b3 q hq0 d1]
        refine ⟨⟨by omega, by omega⟩, ?_⟩
        rw [show (j : Int) + 1 = ((j + 1 : Nat) : Int) by omega, show 10 * v + x q - 48 = 10 * v + (hr x E q - 48) by omega]
        exact ih (j + 1) (q + 1) _ _ (by omega) (by omega) (by omega) (TA.to ⟨b1, b2, b3⟩) (fun w' g' f' => hK w' g' (fun k hk => (f' k hk).trans (tw_ne hk)))
  unfold f_X4_number
  refine t_isDigit hx hE h hp ?_
  cases hb : dg x E p with
  | false => exact brB_F (h0 hb)
  | true => exact brB_T ⟨d + 1, lp d 0 p 0 w (by omega) hp.1 hp.2 h (h1 hb)⟩
theorem t_codes {Q : Tw → Prop} {c : Int} (h : w 11 0 = (l.length : Nat)) (hl : l.length < 80) (hc : ∀ (i : Nat) (c : Int), l[i]? = some c → w 9 i = c) (hQ : ∀ w' : Tw, w' 11 0 = (((l ++ [c]).length : Nat) : Int) → (∀ (i : Nat) (d : Int), (l ++ [c])[i]? = some d → w' 9 i = d) → (∀ j, j ≠ 9 → j ≠ 11 → w' j = w j) → Q w') : f_X4_codes c w Q := by
  unfold f_X4_codes tS
  rw [h]
  refine ⟨⟨by omega, by omega⟩, hQ _ ?_ (fun i d hd => ?_) (fun j j1 j2 => by rw [tw_ne j2, tw_ne j1])⟩
  · rw [tw_at, iup_at, tw_ne (by decide), h, List.length_append, List.length_singleton]; omega
  · rw [tw_ne (by decide), tw_at]
    have hi := get_lt hd
    rw [List.length_append, List.length_singleton] at hi
    by_cases e : i = l.length
    · subst e
      rw [List.getElem?_append_right (Nat.le_refl _), Nat.sub_self] at hd
      simp only [List.getElem?_cons_zero, Option.some.injEq] at hd
      rw [iup_at]; exact hd
    · rw [List.getElem?_append_left (by omega)] at hd
      rw [iup_ne (by omega)]; exact hc i d hd
/-- what a reading does -/
def TwC (x : Int → Int) (E : Int) (F : Tw → (Bool → Tw → Prop) → Prop) (p nest : Int) (r : PR) : Prop :=
  ∀ (w : Tw) (l : List Int) (Q : Bool → Tw → Prop), TS x E w p nest l → (l.length : Int) + (E - p) ≤ 60 → (r.1 = true → ∀ w', TS x E w' r.2.1 nest (l ++ r.2.2) → TFp w w' → Q true w') → (r.1 = false → ∀ w', w' 5 0 = r.2.1 → (0 ≤ w' 11 0 ∧ w' 11 0 ≤ (l.length : Nat) + (r.2.1 - p)) → TFp w w' → Q false w') → F w Q
theorem t_rank {T : Tw → (Bool → Tw → Prop) → Prop} {K : Int → Tw → (Bool → Tw → Prop) → Prop} {pt : Int → PR} {rank base : Int} {ops : List Int} (hx : ∀ i, 0 ≤ i → i < 80 → 0 ≤ x i ∧ x i < 256) (hE : 0 ≤ E ∧ E ≤ 49) (hrk : (rank = 1 ∧ ops = [43, 45] ∧ base = 2003) ∨ (rank = 2 ∧ ops = [42, 47] ∧ base = 2005)) (P : Int) (hP : 0 ≤ P) (hpt : ∀ q, P ≤ q → q ≤ E → POK E q (pt q)) (hK : ∀ q, P ≤ q → q ≤ E → TwC x E (K (rank + 1)) q nest (pt q)) :
    ∀ p, P ≤ p → p ≤ E → TwC x E (f_X4_readsRank_b T K rank) p nest (pRank x E ops base pt p) := by
  have hops : (∀ c ∈ ops, 0 ≤ c ∧ c < 256) ∧ ops.length = 2 := by rcases hrk with ⟨_, rfl, _⟩ | ⟨_, rfl, _⟩ <;> decide
  have lp : ∀ (m : Nat) (q P0 : Int) (cs l : List Int) (w0 w : Tw) (Q : Bool → Tw → Prop), E - q < m → P ≤ q → q ≤ E → P0 ≤ q → TS x E w q nest (l ++ cs) → TFp w0 w → (cs.length : Int) ≤ q - P0 → (l.length : Int) + (E - P0) ≤ 60 →
      ((pLoop x E ops base pt m q cs).1 = true → ∀ w', TS x E w' (pLoop x E ops base pt m q cs).2.1 nest (l ++ (pLoop x E ops base pt m q cs).2.2) → TFp w0 w' → Q true w') →
      ((pLoop x E ops base pt m q cs).1 = false → ∀ w', w' 5 0 = (pLoop x E ops base pt m q cs).2.1 → (0 ≤ w' 11 0 ∧ w' 11 0 ≤ (l.length : Nat) + ((pLoop x E ops base pt m q cs).2.1 - P0)) → TFp w0 w' → Q false w') →
      f_X4_readsRank_24 T K Q m rank true w := by
    intro m
    induction m with
    | zero => intro q P0 cs l w0 w Q hm h0 h1; omega
    | succ m ih =>
      intro q P0 cs l w0 w Q hm hPq hqE hP0 h f0 hcl hll h1 h0
      unfold pLoop at h1 h0
      unfold f_X4_readsRank_24 f_X4_readsRank_24_b
      refine brB_T ?_
      have main : f_X4_readsRank_50 T K (fun l1 l2 w => f_X4_readsRank_24 T K Q m l1 l2 w) rank ops w Q := by
        unfold f_X4_readsRank_50
        refine t_takesOf hx (by omega) h.1 (by omega) hops.1 (by omega) (fun j hj hqlt => ?_) (fun hn => ?_)
        · rw [hj] at h1 h0
          simp only at h1 h0
          have hj2 : j < 2 := by have := (ix_some hj).1; omega
          refine br0_T ⟨by omega, by omega⟩ (by omega) (hK (q + 1) (by omega) (by omega) _ (l ++ cs) _ h.to (by rw [List.length_append]; omega) (fun hok w1 g1 f1 => ?_) (fun hno w1 a1 b1 f1 => ?_))
          · rw [if_pos hok] at h1 h0
            obtain ⟨t1, t2, t3, t4⟩ := (hpt (q + 1) (by omega) (by omega)).1 hok
            have nx : f_X4_codes (base + j) w1 (fun w16 => f_X4_readsRank_24 T K Q m rank true w16) := by
              refine t_codes (l := (l ++ cs) ++ (pt (q + 1)).2.2) g1.2.2.1 (by rw [List.length_append, List.length_append]; omega) g1.2.2.2 (fun w2 c1 c2 f2 => ?_)
              have g2 : TS x E w2 (pt (q + 1)).2.1 nest (l ++ (cs ++ (pt (q + 1)).2.2 ++ [base + (j : Int)])) := by
                obtain ⟨⟨e1, e2, e3⟩, e4, e5, e6⟩ := g1
                refine ⟨⟨by rw [f2 5 (by decide) (by decide)]; exact e1, by rw [f2 6 (by decide) (by decide)]; exact e2, by rw [f2 3 (by decide) (by decide)]; exact e3⟩, by rw [f2 7 (by decide) (by decide)]; exact e4, ?_, ?_⟩
                · rw [c1]; simp [List.append_assoc]
                · have ea : l ++ (cs ++ (pt (q + 1)).2.2 ++ [base + (j : Int)]) = l ++ cs ++ (pt (q + 1)).2.2 ++ [base + (j : Int)] := by simp [List.append_assoc]
                  rw [ea]; exact c2
              refine ih (pt (q + 1)).2.1 P0 _ l w0 w2 Q (by omega) (by omega) t2 (by omega) g2 (f0.trans (TFp.to.trans (f1.trans (fun j j1 j2 j3 j4 => f2 j j3 j4)))) ?_ hll h1 h0
              rw [List.length_append, List.length_append, List.length_singleton]; omega
            have r96 : ∀ s1 s2 : Int, s1 + s2 = base + j → f_X4_readsRank_96 T K (fun l1 l2 w => f_X4_readsRank_24 T K Q m l1 l2 w) rank s1 s2 w1 Q := by
              intro s1 s2 e
              unfold f_X4_readsRank_96 f_X4_readsRank_109
              rw [e]
              have mono : ∀ (A B : Tw → Prop), (∀ w, A w → B w) → f_X4_codes (base + j) w1 A → f_X4_codes (base + j) w1 B := by
                intro A B hAB hA
                exact ⟨hA.1, hAB _ hA.2⟩
              refine mono _ _ (fun w16 hw16 => ?_) nx
              exact br0_F ⟨by omega, by omega⟩ (by omega) hw16
            rcases hrk with ⟨rfl, rfl, rfl⟩ | ⟨rfl, rfl, rfl⟩
            · exact brB_T (br0_T ⟨by decide, by decide⟩ (by decide) (br_F ⟨by decide, by decide⟩ ⟨by decide, by decide⟩ (by decide) (r96 _ _ (by omega))))
            · exact brB_T (br0_T ⟨by decide, by decide⟩ (by decide) (br_T ⟨by decide, by decide⟩ ⟨by decide, by decide⟩ (by decide) (r96 _ _ (by omega))))
          · rw [if_neg (by rw [hno]; simp)] at h0
            refine brB_F (h0 rfl w1 a1 ?_ (f0.trans (TFp.to.trans f1)))
            rw [List.length_append] at b1
            exact ⟨b1.1, by show w1 11 0 ≤ (l.length : Nat) + ((pt (q + 1)).2.1 - P0); omega⟩
        · rw [hn] at h1
          exact br0_F ⟨by decide, by decide⟩ (by decide) (h1 rfl w h f0)
      rcases hrk with ⟨rfl, rfl, rfl⟩ | ⟨rfl, rfl, rfl⟩
      · exact br0_T ⟨by decide, by decide⟩ (by decide) (br_F ⟨by decide, by decide⟩ ⟨by decide, by decide⟩ (by decide) main)
      · exact br0_T ⟨by decide, by decide⟩ (by decide) (br_T ⟨by decide, by decide⟩ ⟨by decide, by decide⟩ (by decide) main)
  intro p hPp hpE w l Q h hll h1 h0
  unfold pRank at h1 h0
  unfold f_X4_readsRank_b
  refine br_T ⟨by omega, by omega⟩ ⟨by decide, by decide⟩ (by omega) (hK p hPp hpE w l _ h hll (fun hok w1 g1 f1 => brB_T ?_) (fun hno w1 a1 b1 f1 => brB_F ?_))
  · rw [if_pos hok] at h1 h0
    obtain ⟨t1, t2, t3, t4⟩ := (hpt p hPp hpE).1 hok
    exact ⟨50, lp 50 (pt p).2.1 p (pt p).2.2 l w w1 Q (by omega) (by omega) t2 (by omega) g1 f1 t4 hll h1 h0⟩
  · rw [if_neg (by rw [hno]; simp)] at h0
    exact h0 rfl w1 a1 b1 f1
end
