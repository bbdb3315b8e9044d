/-! PURE PROOFS: a drive is emptied; all is taken -/
set_option maxRecDepth 100000
def takeQ (q : Nat) : Nat → DS → DS
  | 0, d => d
  | n + 1, d => match d.posts q with
    | [] => d
    | p :: _ => takeQ q n (takeD d q p)
def takeTo (d : DS) : Nat → DS
  | 0 => d
  | n + 1 => takeQ n ((takeTo d n).posts n).length (takeTo d n)
def takeCnt (d : DS) : Nat → Int
  | 0 => 0
  | n + 1 => takeCnt d n + (((takeTo d n).posts n).length : Nat)
def takeAllD (d : DS) : DS := takeTo d (d.s 900).toNat
section
variable {G : Wd} {D a q : Nat} {rf : Nat → Nat → Nat} {d : DS} {B : Int}
theorem takeD_9 {p : Rec} {i : Int} (hi : 445 ≤ i) (hq : q < 5) : (takeD d q p).s i = d.s i := by
  show iup (iup d.s (89 * q + 6) (d.s (89 * q + 6) + 1)) (89 * q + 4) (p 3) i = _
  rw [iup_ne (by omega), iup_ne (by omega)]
theorem takeQ_wf (h5 : q < 5) : ∀ (n : Nat) (d : DS) (B : Int), WF d B → (q : Int) < d.s 900 → WF (takeQ q n d) (B + n) ∧ (∀ i : Int, 445 ≤ i → (takeQ q n d).s i = d.s i)
  | 0, d, B, h, _ => ⟨h.mono (by omega), fun _ _ => rfl⟩
  | n + 1, d, B, h, hq => by
    unfold takeQ
    split
    · exact ⟨h.mono (by omega), fun _ _ => rfl⟩
    · rename_i p ps hp
      have e9 := fun i hi => takeD_9 (d := d) (q := q) (p := p) (i := i) hi h5
      obtain ⟨k1, k2⟩ := takeQ_wf h5 n (takeD d q p) (B + 1) (h.take hq hp) (by rw [e9 _ (by omega)]; exact hq)
      exact ⟨k1.mono (by omega), fun i hi => by rw [k2 i hi, e9 i hi]⟩
theorem takeTo_wf (h : WF d B) : ∀ n : Nat, (n : Int) ≤ d.s 900 → WF (takeTo d n) (B + 7 * n) ∧ (∀ i : Int, 445 ≤ i → (takeTo d n).s i = d.s i)
  | 0, _ => ⟨h.mono (by omega), fun _ _ => rfl⟩
  | n + 1, hn => by
    have hm := h.many
    obtain ⟨k1, k2⟩ := takeTo_wf h n (by omega)
    obtain ⟨k3, k4⟩ := takeQ_wf (q := n) (by omega) ((takeTo d n).posts n).length (takeTo d n) _ k1 (by rw [k2 _ (by omega)]; omega)
    have := k1.postslen (q := n) (by omega)
    exact ⟨k3.mono (by omega), fun i hi => (k4 i hi).trans (k2 i hi)⟩
theorem WF.takeAll (h : WF d B) : WF (takeAllD d) (B + 35) := by
  have hm := h.many
  exact (takeTo_wf h (d.s 900).toNat (by omega)).1.mono (by omega)
theorem p_X2_takeAll_12 {Q : Int → Wd → Prop} {k4 : Int → Int → Wd → Prop} (hD : 9 < D) (h5 : q < 5) : ∀ (n : Nat) (d : DS) (B : Int) (G : Wd) (l1 : Int), (d.posts q).length = n → DrA G D a rf d → WF d B → B + n ≤ 1000000000 → (q : Int) < d.s 900 →
    (∀ G', DrA G' D a rf (takeQ q n d) → FrR D (D + 100) G G' → k4 (l1 + n) ((q : Int) + 1) G') → f_X2_takeAll_12 a k4 Q (n + 1) l1 q G := by
  intro n
  induction n with
  | zero =>
    intro d B G l1 hn h hw hB hq hk
    have hl := (hw.wl h5).2.2.1
    unfold f_X2_takeAll_12 f_X2_takeAll_12_b
    refine gD_0 h (nn_of (xldL h h5 (nn_of (gL_12 h h5 (gD_0 h (nn_of (xldL h h5 (nn_of (gL_13 h h5 ?_)))))))))
    refine br_T (hw.r (by omega) _) (hw.r (by omega) _) (by omega) ?_
    have := hk G h FrR.refl
    simpa using this
  | succ n ih =>
    intro d B G l1 hn h hw hB hq hk
    have hl := (hw.wl h5).2.2.1
    cases hp : d.posts q with
    | nil => rw [hp] at hn; cases hn
    | cons p ps =>
      unfold f_X2_takeAll_12 f_X2_takeAll_12_b
      refine gD_0 h (nn_of (xldL h h5 (nn_of (gL_12 h h5 (gD_0 h (nn_of (xldL h h5 (nn_of (gL_13 h h5 ?_)))))))))
      refine br_F (hw.r (by omega) _) (hw.r (by omega) _) (by omega) (gD_0 h (nn_of (xldL h h5 (nn_of ⟨cL h h5, ?_⟩))))
      have p0 := ((hw.wl h5).2.2.2.2.1 p (by rw [hp]; exact List.mem_cons_self)).1
      refine p_X3_take h hD h5 hp p0 (fun x G1 x1 g1 f1 => ?_)
      refine ih (takeD d q p) (B + 1) G1 (l1 + 1) ?_ g1 (hw.take hq hp) (by omega) (by rw [takeD_9 (by omega) h5]; exact hq) (fun G2 g2 f2 => ?_)
      · show (nup d.posts q (d.posts q).tail q).length = n
        rw [nup_at, hp, List.tail_cons]
        rw [hp, List.length_cons] at hn
        omega
      · have e : takeQ q (n + 1) d = takeQ q n (takeD d q p) := by simp only [takeQ, hp]
        have := hk G2 (by rw [e]; exact g2) (f1.trans f2)
        rw [show l1 + 1 + (n : Int) = l1 + ((n + 1 : Nat) : Int) by omega]
        exact this
theorem p_X2_takeAll_4 {Q : Int → Wd → Prop} (hD : 9 < D) (hw : WF d B) (hB : B ≤ 999999000) : ∀ (m k : Nat) (G : Wd), k + m = (d.s 900).toNat → DrA G D a rf (takeTo d k) → (∀ G', DrA G' D a rf (takeAllD d) → FrR D (D + 100) G G' → Q (takeCnt d (d.s 900).toNat) G') → f_X2_takeAll_4 a Q (m + 1) (takeCnt d k) k G := by
  have hm := hw.many
  intro m
  induction m with
  | zero =>
    intro k G hk h hQ
    obtain ⟨hw1, e9⟩ := takeTo_wf hw k (by omega)
    unfold f_X2_takeAll_4 f_X2_takeAll_4_b
    refine gD_8 h (br_T ⟨by omega, by omega⟩ ?_ ?_ ?_)
    · rw [e9 _ (by omega)]; exact hw.r (by omega) _
    · rw [e9 _ (by omega)]; omega
    · have e : k = (d.s 900).toNat := by omega
      rw [e]
      refine hQ G ?_ FrR.refl
      unfold takeAllD
      rw [← e]; exact h
  | succ m ih =>
    intro k G hk h hQ
    obtain ⟨hw1, e9⟩ := takeTo_wf hw k (by omega)
    have hk5 : k < 5 := by omega
    have hpl := hw1.postslen hk5
    unfold f_X2_takeAll_4 f_X2_takeAll_4_b
    refine gD_8 h (br_F ⟨by omega, by omega⟩ ?_ ?_ ⟨((takeTo d k).posts k).length + 1, ?_⟩)
    · rw [e9 _ (by omega)]; exact hw.r (by omega) _
    · rw [e9 _ (by omega)]; omega
    · refine p_X2_takeAll_12 hD hk5 _ (takeTo d k) _ G _ rfl h hw1 (by omega) (by rw [e9 _ (by omega)]; omega) (fun G' g1 g2 => ?_)
      rw [show (k : Int) + 1 = ((k + 1 : Nat) : Int) by omega]
      exact ih (k + 1) G' (by omega) g1 (fun G2 g3 g4 => hQ G2 g3 (g2.trans g4))
theorem p_X2_takeAll {Q : Int → Wd → Prop} (h : DrA G D a rf d) (hD : 9 < D) (hw : WF d B) (hB : B ≤ 999999000) (hQ : ∀ G', DrA G' D a rf (takeAllD d) → FrR D (D + 100) G G' → Q (takeCnt d (d.s 900).toNat) G') : f_X2_takeAll a G Q :=
  ⟨(d.s 900).toNat + 1, p_X2_takeAll_4 hD hw hB (d.s 900).toNat 0 G (by omega) h hQ⟩
/-- the first k lines are emptied -/
def emptTo (d : DS) (k : Nat) : DS := (emptS d.s k, emptR d.ring k [], emptR d.posts k [], emptR d.us k 0, d.run, d.out)
theorem emptR_s {α : Type} {f : Nat → α} {x : α} {k : Nat} : nup (emptR f k x) k x = emptR f (k + 1) x := by
  funext j
  unfold nup emptR
  by_cases e : j = k
  · rw [if_pos e, if_pos (by omega)]
  · rw [if_neg e]
    by_cases e2 : j < k
    · rw [if_pos e2, if_pos (by omega)]
    · rw [if_neg e2, if_neg (by omega)]
theorem emptS_s {s : Rec} {k : Nat} : iup (iup (iup (iup (iup (iup (iup (iup (iup (emptS s k) (89 * k + 0) 0) (89 * k + 1) 0) (89 * k + 2) 0) (89 * k + 3) 0) (89 * k + 4) 0) (89 * k + 5) 0) (89 * k + 6) 0) (89 * k + 7) 0) (89 * k + 8) 0 = emptS s (k + 1) := by
  funext i
  by_cases e : 89 * (k : Int) ≤ i ∧ i < 89 * (k : Int) + 9
  · have : emptS s (k + 1) i = 0 := by unfold emptS; rw [if_pos ⟨by omega, by omega, by omega⟩]
    rw [this]
    unfold iup
    by_cases e8 : i = 89 * (k : Int) + 8
    · rw [if_pos e8]
    rw [if_neg e8]
    by_cases e7 : i = 89 * (k : Int) + 7
    · rw [if_pos e7]
    rw [if_neg e7]
    by_cases e6 : i = 89 * (k : Int) + 6
    · rw [if_pos e6]
    rw [if_neg e6]
    by_cases e5 : i = 89 * (k : Int) + 5
    · rw [if_pos e5]
    rw [if_neg e5]
    by_cases e4 : i = 89 * (k : Int) + 4
    · rw [if_pos e4]
    rw [if_neg e4]
    by_cases e3 : i = 89 * (k : Int) + 3
    · rw [if_pos e3]
    rw [if_neg e3]
    by_cases e2 : i = 89 * (k : Int) + 2
    · rw [if_pos e2]
    rw [if_neg e2]
    by_cases e1 : i = 89 * (k : Int) + 1
    · rw [if_pos e1]
    rw [if_neg e1, if_pos (by omega)]
  · rw [iup_ne (by omega), iup_ne (by omega), iup_ne (by omega), iup_ne (by omega), iup_ne (by omega), iup_ne (by omega), iup_ne (by omega), iup_ne (by omega), iup_ne (by omega)]
    unfold emptS
    by_cases c : 0 ≤ i ∧ i < 89 * (k : Int) ∧ i % 89 < 9
    · rw [if_pos c, if_pos ⟨by omega, by omega, by omega⟩]
    · rw [if_neg c, if_neg (fun z => by omega)]
def fillS (s : Rec) (b x : Int) (k : Nat) : Rec := fun i => if b ≤ i ∧ i < b + k then x else s i
theorem fillS_0 {s : Rec} {b x : Int} : fillS s b x 0 = s := by
  funext i
  unfold fillS
  rw [if_neg (by omega)]
theorem fillS_s {s : Rec} {b x : Int} {k : Nat} : iup (fillS s b x k) (b + k) x = fillS s b x (k + 1) := by
  funext i
  unfold iup fillS
  by_cases e : i = b + k
  · rw [if_pos e, if_pos ⟨by omega, by omega⟩]
  · rw [if_neg e]
    by_cases c : b ≤ i ∧ i < b + k
    · rw [if_pos c, if_pos ⟨by omega, by omega⟩]
    · rw [if_neg c, if_neg (by omega)]
theorem p_fillT {Q : Wd → Prop} {x : Int} (hD : 9 < D) : ∀ (m k : Nat) (G : Wd), k + m = 4 → DrA G D a rf (setS d (fillS d.s 822 x k)) → (∀ G', DrA G' D a rf (setS d (fillS d.s 822 x 4)) → FrR D (D + 100) G G' → Q G') → f_J16_fill_5 Q (m + 1) (some (rf 9 6)) x k (4 : Nat) G := by
  intro m
  induction m with
  | zero =>
    intro k G hk h hQ
    unfold f_J16_fill_5 f_J16_fill_5_b
    refine br_T ⟨by omega, by omega⟩ ⟨by omega, by omega⟩ (by omega) (hQ G ?_ FrR.refl)
    rw [show (4 : Nat) = k by omega]; exact h
  | succ m ih =>
    intro k G hk h hQ
    unfold f_J16_fill_5 f_J16_fill_5_b
    refine br_F ⟨by omega, by omega⟩ ⟨by omega, by omega⟩ (by omega) (nn_of (xstT h hD (by omega) (by omega) (fun G1 g1 f1 => ?_)))
    rw [show (k : Int) + 1 = ((k + 1 : Nat) : Int) by omega]
    refine ih (k + 1) G1 (by omega) ?_ (fun G2 g2 f2 => hQ G2 g2 (f1.trans f2))
    rw [← fillS_s]; exact g1
theorem p_fillV {Q : Wd → Prop} {x : Int} (hD : 9 < D) : ∀ (m k : Nat) (G : Wd), k + m = 4 → DrA G D a rf (setS d (fillS d.s 840 x k)) → (∀ G', DrA G' D a rf (setS d (fillS d.s 840 x 4)) → FrR D (D + 100) G G' → Q G') → f_J16_fill_5 Q (m + 1) (some (rf 9 7)) x k (4 : Nat) G := by
  intro m
  induction m with
  | zero =>
    intro k G hk h hQ
    unfold f_J16_fill_5 f_J16_fill_5_b
    refine br_T ⟨by omega, by omega⟩ ⟨by omega, by omega⟩ (by omega) (hQ G ?_ FrR.refl)
    rw [show (4 : Nat) = k by omega]; exact h
  | succ m ih =>
    intro k G hk h hQ
    unfold f_J16_fill_5 f_J16_fill_5_b
    refine br_F ⟨by omega, by omega⟩ ⟨by omega, by omega⟩ (by omega) (nn_of (xstS h hD (by omega) (by omega) (fun G1 g1 f1 => ?_)))
    rw [show (k : Int) + 1 = ((k + 1 : Nat) : Int) by omega]
    refine ih (k + 1) G1 (by omega) ?_ (fun G2 g2 f2 => hQ G2 g2 (f1.trans f2))
    rw [← fillS_s]; exact g1
theorem turnsS_eq {s : Rec} : fillS (fillS (refill s) 822 4 4) 840 0 4 = turnsS s := by
  funext i
  unfold fillS refill turnsS
  by_cases c1 : 818 ≤ i ∧ i < 822
  · rw [if_neg (by omega), if_neg (by omega), if_pos c1, if_pos c1]
  · by_cases c2 : 822 ≤ i ∧ i < 826
    · rw [if_neg (by omega), if_pos ⟨by omega, by omega⟩, if_neg c1, if_pos c2]
    · by_cases c3 : 840 ≤ i ∧ i < 844
      · rw [if_pos ⟨by omega, by omega⟩, if_neg c1, if_neg c2, if_pos c3]
      · rw [if_neg (by omega), if_neg (by omega), if_neg c1, if_neg c1, if_neg c2, if_neg c3]
theorem p_X2_empty_2 {Q : Wd → Prop} (hD : 9 < D) (hm : 0 ≤ d.s 900 ∧ d.s 900 ≤ 5) : ∀ (m k : Nat) (G : Wd), k + m = (d.s 900).toNat → DrA G D a rf (emptTo d k) → (∀ G', DrA G' D a rf (emptyD d) → FrR D (D + 100) G G' → Q G') → f_X2_empty_2 a Q (m + 1) k G := by
  intro m
  induction m with
  | zero =>
    intro k G hk h hQ
    have e9 : (emptTo d k).s 900 = d.s 900 := empt_lo (by omega) (by omega)
    unfold f_X2_empty_2 f_X2_empty_2_b
    refine gD_8 h (br_T ⟨by omega, by omega⟩ (by rw [e9]; exact ⟨by omega, by omega⟩) (by rw [e9]; omega) (gD_1 h (nn_of ⟨cRun h, x_runClear h hD (fun G1 g1 f1 => gD_2 g1 (nn_of ⟨cOut g1, x_outClear g1 hD (fun G2 g2 f2 => gD_4 g2 (gD_5 g2 (nn_of (nn_of ?_))))⟩))⟩)))
    have h0 := g2
    obtain ⟨-, -, -, -, -, ⟨f, k1, k2⟩, ⟨g, k3, k4⟩, -⟩ := g2
    have f3 : FrR (D + 8) (D + 9) G2 (wset G2 (D + 8) (rf 9 5) (aI 0 4 (icp f g 0 0 4))) := FrR.ws (by omega) (by omega) (by omega)
    refine ⟨D + 7, 4, f, D + 8, 4, g, ⟨by omega, by omega⟩, k1, k3, ⟨⟨by omega, by omega, by omega⟩, ⟨by omega, by omega⟩, by omega, by omega, by omega⟩, ?_⟩
    have g3 := h0.arr (s' := refill (emptS d.s k)) hD (j := 8) (b := 818) (n := 4) (by decide) f3 ⟨_, wset_at, fun i i0 i1 => by
      unfold icp
      rw [if_pos ⟨by omega, by omega⟩]
      unfold refill
      rw [if_pos ⟨by omega, by omega⟩, k2 _ (by omega) (by omega)]
      show emptS d.s k _ = _
      congr 1
      omega⟩ (fun i hi => refill_lo (by omega))
    generalize wset G2 (D + 8) (rf 9 5) (aI 0 4 (icp f g 0 0 4)) = G3 at f3 g3 ⊢
    refine gD_6 g3 (nn_of ?_)
    obtain ⟨f', k5, k6⟩ := g3.2.2.2.2.2.2.2.1
    refine lnI_of k5 ⟨5, p_fillT (d := setS (setOut (setRun (emptTo d k) []) []) (refill (emptS d.s k))) hD 4 0 G3 (by omega) (by rw [fillS_0]; exact g3) (fun G4 g4 f4 => gD_7 g4 (nn_of ?_))⟩
    obtain ⟨f'', k7, k8⟩ := g4.2.2.2.2.2.2.2.2.1
    refine lnI_of k7 ⟨5, p_fillV (d := setS (setOut (setRun (emptTo d k) []) []) (fillS (refill (emptS d.s k)) 822 4 4)) hD 4 0 G4 (by omega) (by rw [fillS_0]; exact g4) (fun G5 g5 f5 => hQ G5 ?_ (f1.trans (f2.trans ((f3.wide (by omega) (by omega)).trans (f4.trans f5)))))⟩
    unfold emptyD
    rw [← turnsS_eq, show (d.s 900).toNat = k by omega]
    exact g5
  | succ m ih =>
    intro k G hk h hQ
    have e9 : (emptTo d k).s 900 = d.s 900 := empt_lo (by omega) (by omega)
    have hk5 : k < 5 := by omega
    unfold f_X2_empty_2 f_X2_empty_2_b
    refine gD_8 h (br_F ⟨by omega, by omega⟩ (by rw [e9]; exact ⟨by omega, by omega⟩) (by rw [e9]; omega) (gD_0 h (nn_of (xldL h hk5 (nn_of ⟨cL h hk5, p_X3_empty h hD hk5 (fun G1 g1 f1 => ?_)⟩)))))
    rw [show (k : Int) + 1 = ((k + 1 : Nat) : Int) by omega]
    refine ih (k + 1) G1 (by omega) ?_ (fun G2 g2 f2 => hQ G2 g2 (f1.trans f2))
    unfold emptTo at g1 ⊢
    simp (disch := omega) only [setS, setRun, setOut, outD, s_mk, ring_mk, posts_mk, us_mk, run_mk, out_mk, ring_2, posts_2, us_2, run_2, out_2, iup_at, iup_ne, nup_at, nup_ne] at g1
    rw [emptS_s, emptR_s, emptR_s, emptR_s] at g1
    exact g1
theorem p_X2_empty {Q : Wd → Prop} (h : DrA G D a rf d) (hD : 9 < D) (hm : 0 ≤ d.s 900 ∧ d.s 900 ≤ 5) (hQ : ∀ G', DrA G' D a rf (emptyD d) → FrR D (D + 100) G G' → Q G') : f_X2_empty a G Q := by
  refine ⟨(d.s 900).toNat + 1, p_X2_empty_2 hD hm (d.s 900).toNat 0 G (by omega) ?_ hQ⟩
  have e1 : emptS d.s 0 = d.s := by funext i; unfold emptS; rw [if_neg (by omega)]
  have e2 : ∀ (α : Type) (f : Nat → α) (x : α), emptR f 0 x = f := fun α f x => by funext i; unfold emptR; rw [if_neg (by omega)]
  unfold emptTo
  rw [e1, e2, e2, e2]; exact h
end
