/-! PURE PROOFS: the twin reads a rule: all of it; works by its codes -/
set_option maxRecDepth 100000
section
variable {x : Int → Int} {E p nest : Int} {w : Tw} {l : List Int}
theorem t_whole {T : Tw → (Bool → Tw → Prop) → Prop} {K : Int → Tw → (Bool → Tw → Prop) → Prop} {pt : Int → PR} (hx : ∀ i, 0 ≤ i → i < 80 → 0 ≤ x i ∧ x i < 256) (hE : 0 ≤ E ∧ E ≤ 49) (P : Int) (hP : 0 ≤ P) (hpt : ∀ q, P ≤ q → q ≤ E → POK E q (pt q)) (hK : ∀ q, P ≤ q → q ≤ E → TwC x E (K 1) q nest (pSum x E pt q)) :
    ∀ p, P ≤ p → p ≤ E → TwC x E (f_X4_readsRank_b T K 0) p nest (pWhole x E pt p) := by
  have hso : ∀ p, P ≤ p → p ≤ E → POK E p (pSum x E pt p) := fun p h1 h2 => pSum_ok (fun q k1 k2 => hpt q (by omega) k2) h2
  intro p hPp hpE w l Q h hll h1 h0
  unfold pWhole at h1 h0
  unfold f_X4_readsRank_b
  refine br_T r0 ⟨by decide, by decide⟩ (by decide) (hK p hPp hpE w l _ h hll (fun hok w1 g1 f1 => brB_T ⟨2, ?_⟩) (fun hno w1 a1 b1 f1 => brB_F ?_))
  · rw [if_pos hok] at h1 h0
    obtain ⟨t1, t2, t3, t4⟩ := (hso p hPp hpE).1 hok
    generalize hq : (pSum x E pt p).2.1 = q at h1 h0 t1 t2 t4 g1
    generalize hcs : (pSum x E pt p).2.2 = cs at h1 h0 t3 t4 g1
    unfold f_X4_readsRank_24 f_X4_readsRank_24_b f_X4_readsRank_50
    refine brB_T (br0_F r0 (by decide) (t_takesOf hx (by omega) g1.1 (by omega) (by decide) (by decide) (fun j hj hqlt => ?_) (fun hn => ?_)))
    · rw [hj] at h1 h0
      simp only at h1 h0
      have hj3 : j < 3 := (ix_some hj).1
      refine br0_T ⟨by omega, by omega⟩ (by omega) (hK (q + 1) (by omega) (by omega) _ (l ++ cs) _ g1.to (by rw [List.length_append]; omega) (fun hok2 w2 g2 f2 => ?_) (fun hno2 w2 a2 b2 f2 => ?_))
      · rw [if_pos hok2] at h1
        obtain ⟨u1, u2, u3, u4⟩ := (hso (q + 1) (by omega) (by omega)).1 hok2
        refine brB_T (br0_F r0 (by decide) ?_)
        unfold f_X4_readsRank_96 f_X4_readsRank_109
        rw [show (2000 + (j : Int) + 0) = 2000 + j by omega]
        refine t_codes (l := (l ++ cs) ++ (pSum x E pt (q + 1)).2.2) g2.2.2.1 (by rw [List.length_append, List.length_append]; omega) g2.2.2.2 (fun w3 c1 c2 f3 => br0_T r0 (by decide) ?_)
        unfold f_X4_readsRank_24 f_X4_readsRank_24_b
        refine brB_F (h1 rfl w3 ?_ (f1.trans (TFp.to.trans (f2.trans (fun j j1 j2 j3 j4 => f3 j j3 j4)))))
        obtain ⟨⟨e1, e2, e3⟩, e4, e5, e6⟩ := g2
        have ea : l ++ (cs ++ (pSum x E pt (q + 1)).2.2 ++ [2000 + (j : Int)]) = l ++ cs ++ (pSum x E pt (q + 1)).2.2 ++ [2000 + (j : Int)] := by simp [List.append_assoc]
        show TS x E w3 (pSum x E pt (q + 1)).2.1 nest (l ++ (cs ++ (pSum x E pt (q + 1)).2.2 ++ [2000 + (j : Int)]))
        rw [ea]
        exact ⟨⟨by rw [f3 5 (by decide) (by decide)]; exact e1, by rw [f3 6 (by decide) (by decide)]; exact e2, by rw [f3 3 (by decide) (by decide)]; exact e3⟩, by rw [f3 7 (by decide) (by decide)]; exact e4, c1, c2⟩
      · rw [if_neg (by rw [hno2]; simp)] at h0
        refine brB_F (h0 rfl w2 a2 ?_ (f1.trans (TFp.to.trans f2)))
        rw [List.length_append] at b2
        exact ⟨b2.1, by show w2 11 0 ≤ (l.length : Nat) + ((pSum x E pt (q + 1)).2.1 - p); omega⟩
    · rw [hn] at h1
      refine br0_F ⟨by decide, by decide⟩ (by decide) (h1 hok w1 ?_ f1)
      rw [hq, hcs]; exact g1
  · rw [if_neg (by rw [hno]; simp)] at h0
    exact h0 hno w1 a1 b1 f1
theorem t_chain {pt : Int → PR} {m : Nat} (hx : ∀ i, 0 ≤ i → i < 80 → 0 ≤ x i ∧ x i < 256) (hE : 0 ≤ E ∧ E ≤ 49) (P : Int) (hP : 0 ≤ P) (hpt : ∀ q, P ≤ q → q ≤ E → POK E q (pt q)) (hT : ∀ q, P ≤ q → q ≤ E → TwC x E (f_X4_rec m).1 q nest (pt q)) :
    ∀ p, P ≤ p → p ≤ E → TwC x E ((f_X4_rec (m + 4)).2 0) p nest (pWhole x E pt p) := by
  have k3 : ∀ q, P ≤ q → q ≤ E → TwC x E ((f_X4_rec (m + 1)).2 3) q nest (pt q) := by
    intro q q1 q2 w l Q h hl h1 h0
    show f_X4_readsRank_b (f_X4_rec m).1 (f_X4_rec m).2 3 w Q
    unfold f_X4_readsRank_b
    exact br_F ⟨by decide, by decide⟩ ⟨by decide, by decide⟩ (by decide) (hT q q1 q2 w l Q h hl h1 h0)
  have k2 : ∀ q, P ≤ q → q ≤ E → TwC x E ((f_X4_rec (m + 2)).2 2) q nest (pProd x E pt q) :=
    t_rank (T := (f_X4_rec (m + 1)).1) (K := (f_X4_rec (m + 1)).2) (rank := 2) (base := 2005) (ops := [42, 47]) hx hE (Or.inr ⟨rfl, rfl, rfl⟩) P hP hpt k3
  have k1 : ∀ q, P ≤ q → q ≤ E → TwC x E ((f_X4_rec (m + 3)).2 1) q nest (pSum x E pt q) :=
    t_rank (T := (f_X4_rec (m + 2)).1) (K := (f_X4_rec (m + 2)).2) (rank := 1) (base := 2003) (ops := [43, 45]) hx hE (Or.inl ⟨rfl, rfl, rfl⟩) P hP (fun q h1 h2 => pProd_ok (fun q' h1' h2' => hpt q' (by omega) h2') h2) k2
  exact t_whole (T := (f_X4_rec (m + 3)).1) (K := (f_X4_rec (m + 3)).2) hx hE P hP hpt k1
theorem TS.fld {w' : Tw} (h : TS x E w p nest l) (f : ∀ j, j = 3 ∨ j = 5 ∨ j = 6 ∨ j = 7 ∨ j = 9 ∨ j = 11 → w' j = w j) : TS x E w' p nest l := by
  obtain ⟨⟨e1, e2, e3⟩, e4, e5, e6⟩ := h
  exact ⟨⟨by rw [f 5 (by omega)]; exact e1, by rw [f 6 (by omega)]; exact e2, by rw [f 3 (by omega)]; exact e3⟩, by rw [f 7 (by omega)]; exact e4, by rw [f 11 (by omega)]; exact e5, by rw [f 9 (by omega)]; exact e6⟩
theorem t_thing (hx : ∀ i, 0 ≤ i → i < 80 → 0 ≤ x i ∧ x i < 256) (hE : 0 ≤ E ∧ E ≤ 49) : ∀ (f e : Nat) (deep p : Int), E - p < f → (f : Int) + 4 * (4 - deep) ≤ e → 0 ≤ p → p ≤ E → 0 ≤ deep → deep ≤ 4 → TwC x E (f_X4_rec e).1 p deep (pT x E f deep p) := by
  intro f
  induction f with
  | zero => intro e deep p he; omega
  | succ f ih =>
    intro e deep p hfp hef hp0 hpE hd0 hd4 w l Q h hll h1 h0
    obtain ⟨e, rfl⟩ : ∃ e', e = e' + 1 := ⟨e - 1, by omega⟩
    have h1 : (pThing x E (pT x E f) deep p).1 = true → ∀ w', TS x E w' (pThing x E (pT x E f) deep p).2.1 deep (l ++ (pThing x E (pT x E f) deep p).2.2) → TFp w w' → Q true w' := h1
    have h0 : (pThing x E (pT x E f) deep p).1 = false → ∀ w', w' 5 0 = (pThing x E (pT x E f) deep p).2.1 → (0 ≤ w' 11 0 ∧ w' 11 0 ≤ (l.length : Nat) + ((pThing x E (pT x E f) deep p).2.1 - p)) → TFp w w' → Q false w' := h0
    show f_X4_readsThing_b (f_X4_rec e).1 (f_X4_rec e).2 w Q
    unfold pThing at h1 h0
    unfold f_X4_readsThing_b
    refine t_takesSign hx (by omega) h.1 (by omega) (by omega) (fun e1 hpl => brB_T ?_) (fun e1 => brB_F ?_)
    · rw [if_pos e1] at h1 h0
      refine ih e deep (p + 1) (by omega) (by omega) (by omega) (by omega) hd0 hd4 _ l _ h.to (by omega) (fun hok w1 g1 f1 => ?_) (fun hno w1 a1 b1 f1 => ?_)
      · rw [if_pos hok] at h1
        obtain ⟨t1, t2, t3, t4⟩ := (pT_ok (x := x) f deep (p + 1) (by omega)).1 hok
        refine t_codes (l := l ++ (pT x E f deep (p + 1)).2.2) g1.2.2.1 (by rw [List.length_append]; omega) g1.2.2.2 (fun w2 c1 c2 f2 => h1 rfl w2 ?_ (TFp.to.trans (f1.trans (fun j j1 j2 j3 j4 => f2 j j3 j4))))
        obtain ⟨⟨q1, q2, q3⟩, q4, q5, q6⟩ := g1
        show TS x E w2 (pT x E f deep (p + 1)).2.1 deep (l ++ ((pT x E f deep (p + 1)).2.2 ++ [3000]))
        rw [← List.append_assoc]
        exact ⟨⟨by rw [f2 5 (by decide) (by decide)]; exact q1, by rw [f2 6 (by decide) (by decide)]; exact q2, by rw [f2 3 (by decide) (by decide)]; exact q3⟩, by rw [f2 7 (by decide) (by decide)]; exact q4, c1, c2⟩
      · rw [if_neg (by rw [hno]; simp)] at h0
        obtain ⟨t1, t2⟩ := (pT_ok (x := x) f deep (p + 1) (by omega)).2 hno
        unfold f_X4_codes tS
        refine ⟨⟨by omega, by omega⟩, h0 rfl _ ?_ ?_ (TFp.to.trans (f1.trans (fun j j1 j2 j3 j4 => by rw [tw_ne j4, tw_ne j3])))⟩
        · rw [tw_ne (by decide), tw_ne (by decide)]; exact a1
        · rw [tw_at, iup_at, tw_ne (by decide)]
          exact ⟨by omega, by show w1 11 0 + 1 ≤ (l.length : Nat) + ((pT x E f deep (p + 1)).2.1 - p); omega⟩
    · rw [if_neg e1] at h1 h0
      have hs := h.to (q := p)
      refine t_isDigit hx (by omega) hs.1 (by omega) ?_
      cases hd : dg x E p with
      | true =>
        obtain ⟨d1, d2, d3⟩ := dg_lt hd
        rw [if_neg (by omega), hd, if_pos rfl] at h1
        obtain ⟨n1, n2, n3, n4⟩ := num3_ok hd
        refine brB_T (t_number (d := 3) hx (by omega) hs.1 (by omega) (by omega) (fun z => by rw [hd] at z; cases z) (fun _ w1 g1 f1 => ?_))
        have g1' : TS x E w1 (numF x E 3 p 0).1 deep l := by
          obtain ⟨-, q4, q5, q6⟩ := hs
          exact ⟨g1, by rw [f1 7 (by decide)]; exact q4, by rw [f1 11 (by decide)]; exact q5, by rw [f1 9 (by decide)]; exact q6⟩
        refine t_codes (l := l) g1'.2.2.1 (by omega) g1'.2.2.2 (fun w2 c1 c2 f2 => h1 rfl w2 ?_ (TFp.to.trans (fun j j1 j2 j3 j4 => (f2 j j3 j4).trans (f1 j j1))))
        obtain ⟨⟨q1, q2, q3⟩, q4, q5, q6⟩ := g1'
        exact ⟨⟨by rw [f2 5 (by decide) (by decide)]; exact q1, by rw [f2 6 (by decide) (by decide)]; exact q2, by rw [f2 3 (by decide) (by decide)]; exact q3⟩, by rw [f2 7 (by decide) (by decide)]; exact q4, c1, c2⟩
      | false =>
        rw [hd] at h1 h0
        refine brB_F (t_takesOf (cs := letters) hx (by omega) hs.1 (by omega) (by decide) (by decide) (fun j hj hpl => ?_) (fun hn => ?_))
        · have hj7 : j < 7 := (ix_some hj).1
          have h40 : hr x E p ≠ 40 := by intro z; rw [z, show ix letters 40 = none by decide] at hj; cases hj
          rw [if_neg h40, if_neg (by simp), hj] at h1
          refine br0_F ⟨by omega, by omega⟩ (by omega) ?_
          have g1 := hs.to (q := p + 1)
          refine t_codes (l := l) g1.2.2.1 (by omega) g1.2.2.2 (fun w2 c1 c2 f2 => h1 rfl w2 ?_ (TFp.to.trans (TFp.to.trans (fun j j1 j2 j3 j4 => f2 j j3 j4))))
          obtain ⟨⟨q1, q2, q3⟩, q4, q5, q6⟩ := g1
          exact ⟨⟨by rw [f2 5 (by decide) (by decide)]; exact q1, by rw [f2 6 (by decide) (by decide)]; exact q2, by rw [f2 3 (by decide) (by decide)]; exact q3⟩, by rw [f2 7 (by decide) (by decide)]; exact q4, c1, c2⟩
        · refine br0_T ⟨by decide, by decide⟩ (by decide) ?_
          have e7 : tup w 5 0 p 7 0 = deep := hs.2.1
          have e11 : tup w 5 0 p 11 0 = (l.length : Nat) := hs.2.2.1
          rw [e7]
          by_cases c4 : deep = 4
          · refine br_T ⟨by omega, by omega⟩ ⟨by decide, by decide⟩ c4 ?_
            by_cases e2 : hr x E p = 40
            · rw [if_pos e2, if_neg (by omega)] at h0
              exact h0 rfl _ hs.1.1 (by rw [e11]; exact ⟨by omega, by show _ ≤ _ + (p - p); omega⟩) TFp.to
            · rw [if_neg e2, if_neg (by simp), hn] at h0
              exact h0 rfl _ hs.1.1 (by rw [e11]; exact ⟨by omega, by show _ ≤ _ + (p - p); omega⟩) TFp.to
          · refine br_F ⟨by omega, by omega⟩ ⟨by decide, by decide⟩ c4 (t_takesSign hx (by omega) hs.1 (by omega) (by omega) (fun e2 hpl => brB_T ?_) (fun e2 => brB_F ?_))
            · rw [if_pos e2, if_pos (by omega)] at h1 h0
              unfold tS
              obtain ⟨m, rfl⟩ : ∃ m, e = m + 4 := ⟨e - 4, by omega⟩
              have g1 : TS x E (tup (tup (tup w 5 0 p) 5 0 (p + 1)) 7 0 (tup (tup w 5 0 p) 5 0 (p + 1) 7 0 + 1)) (p + 1) (deep + 1) l := by
                obtain ⟨⟨q1, q2, q3⟩, q4, q5, q6⟩ := hs.to (q := p + 1)
                exact ⟨⟨by rw [tw_ne (by decide)]; exact q1, by rw [tw_ne (by decide)]; exact q2, by rw [tw_ne (by decide)]; exact q3⟩, by rw [tw_at, iup_at, q4], by rw [tw_ne (by decide)]; exact q5, by rw [tw_ne (by decide)]; exact q6⟩
              have fr1 : TFp w (tup (tup (tup w 5 0 p) 5 0 (p + 1)) 7 0 (tup (tup w 5 0 p) 5 0 (p + 1) 7 0 + 1)) := TFp.to.trans (TFp.to.trans (fun j j1 j2 j3 j4 => tw_ne j2))
              have hw := t_chain (pt := pT x E f (deep + 1)) (m := m) (nest := deep + 1) hx hE (p + 1) (by omega) (fun q _ h2 => pT_ok f (deep + 1) q h2) (fun q q1 q2 => ih m (deep + 1) q (by omega) (by omega) (by omega) q2 (by omega) (by omega)) (p + 1) (by omega) (by omega)
              refine hw _ l _ g1 (by omega) (fun hok w1 g2 f2 => brB_T ?_) (fun hno w1 a1 b1 f2 => brB_F ?_)
              · rw [if_pos hok] at h1 h0
                obtain ⟨t1, t2, t3, t4⟩ := (pWhole_ok (x := x) (T := pT x E f (deep + 1)) (p := p + 1) (fun q _ h2 => pT_ok f (deep + 1) q h2) (by omega)).1 hok
                refine t_takesSign hx (by omega) g2.1 (by omega) (by omega) (fun e3 hql => brB_T ?_) (fun e3 => brB_F ?_)
                · rw [if_pos e3] at h1
                  refine h1 rfl _ ?_ (fr1.trans (f2.trans (TFp.to.trans (fun j j1 j2 j3 j4 => tw_ne j2))))
                  obtain ⟨⟨q1, q2, q3⟩, q4, q5, q6⟩ := g2.to (q := (pWhole x E (pT x E f (deep + 1)) (p + 1)).2.1 + 1)
                  exact ⟨⟨by rw [tw_ne (by decide)]; exact q1, by rw [tw_ne (by decide)]; exact q2, by rw [tw_ne (by decide)]; exact q3⟩, by rw [tw_at, iup_at, q4]; omega, by rw [tw_ne (by decide)]; exact q5, by rw [tw_ne (by decide)]; exact q6⟩
                · rw [if_neg e3] at h0
                  obtain ⟨⟨q1, q2, q3⟩, q4, q5, q6⟩ := g2.to (q := (pWhole x E (pT x E f (deep + 1)) (p + 1)).2.1)
                  refine h0 rfl _ q1 ?_ (fr1.trans (f2.trans TFp.to))
                  rw [q5, List.length_append]
                  exact ⟨by omega, by show _ ≤ _ + ((pWhole x E (pT x E f (deep + 1)) (p + 1)).2.1 - p); omega⟩
              · rw [if_neg (by rw [hno]; simp)] at h0
                exact h0 rfl w1 a1 ⟨b1.1, by show w1 11 0 ≤ (l.length : Nat) + ((pWhole x E (pT x E f (deep + 1)) (p + 1)).2.1 - p); omega⟩ (fr1.trans f2)
            · rw [if_neg e2, if_neg (by simp), hn] at h0
              have hs2 := hs.to (q := p)
              exact h0 rfl _ hs2.1.1 (by rw [hs2.2.2.1]; exact ⟨by omega, by show _ ≤ _ + (p - p); omega⟩) (TFp.to.trans TFp.to)
theorem t_readsRank (hx : ∀ i, 0 ≤ i → i < 80 → 0 ≤ x i ∧ x i < 256) (hE : 0 ≤ E ∧ E ≤ 40) : TwC x E (f_X4_readsRank 150 0) 0 0 (pRule x E) :=
  t_chain (m := 146) (nest := 0) (pt := pT x E 50 0) hx (by omega) 0 (by omega) (fun q _ h2 => pT_ok 50 0 q h2) (fun q q1 q2 => t_thing hx (by omega) 50 146 0 q (by omega) (by omega) q1 q2 (by omega) (by omega)) 0 (by omega) hE.1
end
