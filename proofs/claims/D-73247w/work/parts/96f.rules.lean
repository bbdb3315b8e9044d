/-! PURE PROOFS: rules of both sides tell the same times -/
set_option maxRecDepth 100000
def ruleA (x : Int → Int) (n : Int) : Int := if n = 0 then 0 else if (pRule x (min n 40)).1 = true ∧ (pRule x (min n 40)).2.1 = n then 0 else -1 - (pRule x (min n 40)).2.1
def ruleC (x : Int → Int) (n : Int) : List Int := if n = 0 then [] else (pRule x (min n 40)).2.2
def ask (o b v q c n m : Int) : Int → Int := fun j => if j = 0 then o else if j = 1 then b else if j = 2 then v else if j = 3 then q else if j = 4 then c else if j = 5 then n else m
def tmC (cs : List Int) : Tmf := fun o b v q c n m => if cs.isEmpty = true then 1 + (if 0 < o then 1 else 0) else wr (val (ask o b v q c n m) cs)
theorem tmC_nil : tmC [] = dflT := rfl
theorem tmC_r {cs : List Int} (o b v q c n m : Int) : R32 (tmC cs o b v q c n m) := by
  unfold tmC
  split
  · split <;> exact ⟨by decide, by decide⟩
  · exact wr_r _
theorem pRule_ok {x : Int → Int} {E : Int} (hE : 0 ≤ E) : POK E 0 (pRule x E) := pWhole_ok (fun q _ h2 => pT_ok 50 0 q h2) hE
theorem Gd.ne {cs : List Int} (h : Gd cs) : cs.isEmpty = false := by
  cases cs with
  | nil =>
    have := h.1 (fun _ => 0) []
    cases this
  | cons c cs => rfl
theorem RuleT.mk {G : Wd} {b tb : Nat} {size E : Int} {f : Int → Int} {v3 v4 v5 v6 : Value} (hb : G 5 b = some (oB 6 [vR (some tb), vI size, vI E, v3, v4, v5, v6])) (ht : G 1 tb = some (aI 1 80 f)) (hf : ∀ i, 0 ≤ i → i < 80 → -128 ≤ f i ∧ f i < 128) (hE : 0 ≤ E ∧ E ≤ 40) (hok : (pRule (xf f) E).1 = true) : RuleT G (some b) (tmC (pRule (xf f) E).2.2) := by
  have hgd := ((pRule_ok (x := xf f) hE.1).1 hok).2.2.1
  refine ⟨tmC_r, Or.inr ⟨b, rfl, ⟨_, _, _, _, _, _, _, hb⟩, ?_⟩⟩
  intro G' e1 e5 D a rf d q x c Q hD h hq hx hc hk hl htk hQ
  obtain ⟨w3, w4, w5, w6, hb'⟩ := e5 _ _ _ _ _ _ _ _ hb
  have ht' := e1 _ _ ht
  unfold f_X7_of
  refine pF_of hb' (by decide) (by decide) (by (exact Nat.le_of_ble_eq_true rfl)) (pF_of wset_at (by decide) (by decide) (by (exact Nat.le_of_ble_eq_true rfl)) ?_)
  rw [wset_wset]
  refine pF_of wset_at (by decide) (by decide) (by (exact Nat.le_of_ble_eq_true rfl)) ?_
  rw [wset_wset]
  refine pF_of wset_at (by decide) (by decide) (by (exact Nat.le_of_ble_eq_true rfl)) ?_
  rw [wset_wset]
  have hw : wset G' 5 b (oB 6 (((([vR (some tb), vI size, vI E, w3, w4, w5, w6].set 4 (vR (some a))).set 5 (vR (some x))).set 6 (vR (some (rf q 0)))).set 3 (vI 0))) = Wp G' 5 b 6 tb size E [vR (some a), vR (some x), vR (some (rf q 0))] 0 := rfl
  rw [hw]
  have htx : TxA G' 5 b 1 tb f := ⟨ht', Or.inl (by decide), hf⟩
  have aR : ∀ j, R32 (ask (c 1) (c 2) (c 3) q (d.s (89 * q + 22)) (d.run.length : Nat) (d.s 827 % 7) j) := by
    intro j
    obtain ⟨c0, c1, c2, c3, c4⟩ := hc
    unfold ask
    repeat' split
    all_goals exact ⟨by omega, by omega⟩
  have hv : HV G' 5 b tb size E [vR (some a), vR (some x), vR (some (rf q 0))] (ask (c 1) (c 2) (c 3) q (d.s (89 * q + 22)) (d.run.length : Nat) (d.s 827 % 7)) := by
    refine ⟨aR, Or.inr ⟨a, _, _, rfl, fun j ch p Q' hj hQ' => ?_⟩⟩
    have hd5 : DrA (Wp G' 5 b 6 tb size E [vR (some a), vR (some x), vR (some (rf q 0))] p) D a rf d := h.by5 hD (fun r hr => wset2 hr)
    have hx5 : Wp G' 5 b 6 tb size E [vR (some a), vR (some x), vR (some (rf q 0))] p 1 x = some (oB 7 [vI q, vI (c 0), vI (c 1), vI (c 2), vI (c 3), vB (decide (c 4 = 1))]) := by
      show wset G' 5 b _ 1 x = _
      rw [wset2 (by decide)]; exact hx
    unfold f_X7_value
    have hj7 : j < 7 := get_lt hj
    obtain rfl | rfl | rfl | rfl | rfl | rfl | rfl : j = 0 ∨ j = 1 ∨ j = 2 ∨ j = 3 ∨ j = 4 ∨ j = 5 ∨ j = 6 := by omega
    all_goals (simp only [letters, List.getElem?_cons_zero, List.getElem?_cons_succ, Option.some.injEq] at hj; subst hj)
    · refine ⟨⟨by decide, by decide⟩, fun z => absurd z (by decide), fun _ => ⟨fun z => absurd z (by decide), fun _ => ⟨fun z => absurd z (by decide), fun _ => ⟨fun _ => gR_of Wp_at (by decide) rfl (nn_of (gI_of hx5 (by decide) rfl hQ')), fun z => absurd rfl z⟩⟩⟩⟩
    · exact ⟨⟨by decide, by decide⟩, fun _ => gR_of Wp_at (by decide) rfl (nn_of (gI_of hx5 (by decide) rfl hQ')), fun z => absurd rfl z⟩
    · refine ⟨⟨by decide, by decide⟩, fun z => absurd z (by decide), fun _ => ⟨fun z => absurd z (by decide), fun _ => ⟨fun z => absurd z (by decide), fun _ => ⟨fun z => absurd z (by decide), fun _ => ⟨fun z => absurd z (by decide), fun _ => ⟨fun _ => gR_of Wp_at (by decide) rfl (nn_of (gI_of hx5 (by decide) rfl hQ')), fun z => absurd rfl z⟩⟩⟩⟩⟩⟩
    · refine ⟨⟨by decide, by decide⟩, fun z => absurd z (by decide), fun _ => ⟨fun z => absurd z (by decide), fun _ => ⟨fun z => absurd z (by decide), fun _ => ⟨fun z => absurd z (by decide), fun _ => ⟨fun _ => gR_of Wp_at (by decide) rfl (nn_of (gL_0 hd5 hq hQ')), fun z => absurd rfl z⟩⟩⟩⟩⟩
    · exact ⟨⟨by decide, by decide⟩, fun z => absurd z (by decide), fun _ => ⟨fun _ => gR_of Wp_at (by decide) rfl (nn_of (gL_6 hd5 hq hQ')), fun z => absurd rfl z⟩⟩
    · exact ⟨⟨by decide, by decide⟩, fun z => absurd z (by decide), fun _ => ⟨fun z => absurd z (by decide), fun _ => ⟨fun _ => gR_of Wp_at (by decide) rfl (nn_of (gD_1 hd5 (nn_of ⟨cRun hd5, x_runSize hd5 hQ'⟩))), fun z => absurd rfl z⟩⟩⟩
    · exact ⟨⟨by decide, by decide⟩, fun z => absurd z (by decide), fun _ => ⟨fun z => absurd z (by decide), fun _ => ⟨fun z => absurd z (by decide), fun _ => ⟨fun z => absurd z (by decide), fun _ => ⟨fun z => absurd z (by decide), fun _ => ⟨fun z => absurd z (by decide), fun _ => gR_of Wp_at (by decide) rfl (nn_of (gD_10 hd5 ⟨⟨by omega, by omega, by omega, by omega⟩, hQ'⟩))⟩⟩⟩⟩⟩⟩
  refine ⟨0, 0, ⟨by omega, by omega⟩, isC_of Wp_at, s_rule htx (by decide) hE hv 0 0 _ _ (fun _ hvr => ?_) (fun z => by rw [hok] at z; cases z)⟩
  refine pF_of Wp_at (by decide) (by decide) (by (exact Nat.le_of_ble_eq_true rfl)) ?_
  have e9 : tmC (pRule (xf f) E).2.2 (c 1) (c 2) (c 3) q (d.s (89 * q + 22)) (d.run.length : Nat) (d.s 827 % 7) = val (ask (c 1) (c 2) (c 3) q (d.s (89 * q + 22)) (d.run.length : Nat) (d.s 827 % 7)) (pRule (xf f) E).2.2 := by
    unfold tmC
    rw [hgd.ne, if_neg (by simp), wr_same hvr]
  rw [e9] at hQ
  refine hQ _ (fun r hr => by rw [wset2 hr]; exact wset2 hr) ?_
  intro b2 u0 u1 u2 u3 u4 u5 u6 hb2
  by_cases e : b2 = b
  · subst e
    rw [hb'] at hb2
    have : [vR (some tb), vI size, vI E, w3, w4, w5, w6] = [u0, u1, u2, u3, u4, u5, u6] := by
      injection hb2 with hb2; injection hb2 with hb2; injection hb2 with hb2; injection hb2 with hb2; injection hb2 with hb2 hb3
    injection this with z0 this; injection this with z1 this; injection this with z2 this
    subst z0 z1 z2
    exact ⟨_, _, _, _, wset_at⟩
  · refine ⟨u3, u4, u5, u6, ?_⟩
    rw [wset_ne e]
    show wset G' 5 b _ 5 b2 = _
    rw [wset_ne e]; exact hb2
/-! the twin -/
theorem evs_r {a : Int → Int} (ha : ∀ j, 0 ≤ j → j < 7 → R32 (a j)) : ∀ (cs st : List Int), (∀ c ∈ cs, (0 ≤ c ∧ c < 1000) ∨ (1000 ≤ c ∧ c < 1007) ∨ (2000 ≤ c ∧ c < 2007) ∨ c = 3000) → (∀ y ∈ st, R32 y) → ∀ y ∈ evs a cs st, R32 y
  | [], st, _, h => h
  | c :: cs, st, hc, h => by
    refine evs_r ha cs (ev1 a c st) (fun d hd => hc d (List.mem_cons_of_mem _ hd)) ?_
    have hc0 := hc c List.mem_cons_self
    unfold ev1
    split
    · cases st with
      | nil => intro y hy; cases hy
      | cons z s =>
        intro y hy
        rcases List.mem_cons.mp hy with rfl | hy
        · exact wr_r _
        · exact h y (List.mem_cons_of_mem _ hy)
    · split
      · cases st with
        | nil => intro y hy; cases hy
        | cons z s =>
          cases s with
          | nil => intro y hy; cases hy
          | cons z2 s =>
            intro y hy
            rcases List.mem_cons.mp hy with rfl | hy
            · exact work_r
            · exact h y (List.mem_cons_of_mem _ (List.mem_cons_of_mem _ hy))
      · intro y hy
        rcases List.mem_cons.mp hy with rfl | hy
        · split
          · exact ha _ (by omega) (by omega)
          · exact ⟨by omega, by omega⟩
        · exact h y hy
/-- the twin's codes -/
def CodeW (w : Tw) (cs : List Int) : Prop := w 10 0 = (cs.length : Nat) ∧ ∀ (i : Nat) (c : Int), cs[i]? = some c → w 8 i = c
theorem t_worked {w : Tw} {Q : Int → Tw → Prop} {k a b : Int} (hk : 0 ≤ k ∧ k < 7) (ha : R32 a) (hb : R32 b) (hQ : Q (work k a b) w) : f_X4_worked k a b w Q := by
  unfold f_X4_worked f_X4_worked_50 f_X4_worked_64 f_X4_worked_78 f_X4_flag
  unfold work bo1 at hQ
  refine ⟨⟨by omega, by omega⟩, fun z => ?_, fun z => ⟨fun z1 => ?_, fun z1 => ⟨fun z2 => ?_, fun z2 => ⟨fun z3 => ?_, fun z3 => ⟨fun z4 => ?_, fun z4 => ⟨fun z5 => ?_, fun z5 => ?_⟩⟩⟩⟩⟩⟩
  · rw [if_pos z] at hQ
    refine ⟨⟨ha, hb⟩, fun y => brB_F ?_, fun y => brB_T ?_⟩
    · rw [if_neg (by omega)] at hQ; exact hQ
    · rw [if_pos (by omega)] at hQ; exact hQ
  · rw [if_neg z, if_pos z1] at hQ
    refine ⟨⟨ha, hb⟩, fun y => brB_F ?_, fun y => brB_T ?_⟩
    · rw [if_neg (by omega)] at hQ; exact hQ
    · rw [if_pos (by omega)] at hQ; exact hQ
  · rw [if_neg z, if_neg z1, if_pos z2] at hQ
    refine ⟨⟨ha, hb⟩, fun y => brB_F ?_, fun y => brB_T ?_⟩
    · rw [if_neg y] at hQ; exact hQ
    · rw [if_pos (Decidable.of_not_not y)] at hQ; exact hQ
  · rw [if_neg z, if_neg z1, if_neg z2, if_pos z3] at hQ; exact hQ
  · rw [if_neg z, if_neg z1, if_neg z2, if_neg z3, if_pos z4] at hQ; exact hQ
  · rw [if_neg z, if_neg z1, if_neg z2, if_neg z3, if_neg z4, if_pos z5] at hQ; exact hQ
  · rw [if_neg z, if_neg z1, if_neg z2, if_neg z3, if_neg z4, if_neg z5] at hQ
    refine ⟨hb, fun y => ⟨⟨ha, hb, y⟩, ?_⟩, fun y => ?_⟩
    · rw [if_neg y] at hQ; exact hQ
    · rw [if_pos (Decidable.of_not_not y)] at hQ; exact hQ
/-- the stack, its top first -/
def StW (w : Tw) (st : List Int) : Prop := ∀ (i : Nat) (y : Int), st[i]? = some y → w 12 ((st.length : Nat) - 1 - (i : Int)) = y
theorem StW.push {w : Tw} {st : List Int} {y : Int} (h : StW w st) : StW (tup w 12 (st.length : Nat) y) (y :: st) := by
  intro i z hz
  rw [tw_at]
  cases i with
  | zero =>
    simp only [List.getElem?_cons_zero, Option.some.injEq] at hz
    rw [List.length_cons, show ((st.length + 1 : Nat) : Int) - 1 - ((0 : Nat) : Int) = (st.length : Nat) by omega, iup_at]; exact hz
  | succ i =>
    rw [List.getElem?_cons_succ] at hz
    have := get_lt hz
    rw [List.length_cons, show ((st.length + 1 : Nat) : Int) - 1 - ((i + 1 : Nat) : Int) = (st.length : Nat) - 1 - (i : Int) by omega, iup_ne (by omega)]
    exact h i z hz
theorem StW.top {w : Tw} {st : List Int} {y z : Int} (h : StW w (y :: st)) : StW (tup w 12 (st.length : Nat) z) (z :: st) := by
  intro i v hv
  rw [tw_at]
  cases i with
  | zero =>
    simp only [List.getElem?_cons_zero, Option.some.injEq] at hv
    rw [List.length_cons, show ((st.length + 1 : Nat) : Int) - 1 - ((0 : Nat) : Int) = (st.length : Nat) by omega, iup_at]; exact hv
  | succ i =>
    rw [List.getElem?_cons_succ] at hv
    have := get_lt hv
    rw [List.length_cons, show ((st.length + 1 : Nat) : Int) - 1 - ((i + 1 : Nat) : Int) = (st.length : Nat) - 1 - (i : Int) by omega, iup_ne (by omega)]
    have k := h (i + 1) v (by rw [List.getElem?_cons_succ]; exact hv)
    rw [List.length_cons, show ((st.length + 1 : Nat) : Int) - 1 - ((i + 1 : Nat) : Int) = (st.length : Nat) - 1 - (i : Int) by omega] at k
    exact k
theorem StW.tl {w : Tw} {st : List Int} {y : Int} (h : StW w (y :: st)) : StW w st := by
  intro i v hv
  have k := h (i + 1) v (by rw [List.getElem?_cons_succ]; exact hv)
  rw [List.length_cons, show ((st.length + 1 : Nat) : Int) - 1 - ((i + 1 : Nat) : Int) = (st.length : Nat) - 1 - (i : Int) by omega] at k
  exact k
theorem StW.hd {w : Tw} {st : List Int} {y : Int} (h : StW w (y :: st)) : w 12 (st.length : Nat) = y := by
  have k := h 0 y rfl
  rw [List.length_cons, show ((st.length + 1 : Nat) : Int) - 1 - ((0 : Nat) : Int) = (st.length : Nat) by omega] at k
  exact k
theorem RuleW.mk {w : Tw} {cs : List Int} (hc : CodeW w cs) (hl : cs.length ≤ 60) (hg : cs = [] ∨ Gd cs) : RuleW w (tmC cs) := by
  refine ⟨tmC_r, fun w0 e8 e10 hA Q hQ => ?_⟩
  have h10 : w0 10 0 = (cs.length : Nat) := by rw [e10]; exact hc.1
  have h8 : ∀ (i : Nat) (c : Int), cs[i]? = some c → w0 8 i = c := by rw [e8]; exact hc.2
  rcases hg with rfl | hg
  · refine ⟨1, ?_⟩
    unfold f_X4_ruled_4 f_X4_ruled_4_b f_X4_ruled_147 f_X4_flag
    have r13 := hA 0 (by omega) (by omega)
    rw [h10]
    refine br_T r0 ⟨by decide, by decide⟩ (by decide) (br0_F ⟨by decide, by decide⟩ (by decide) ⟨⟨by omega, by omega⟩, r13, fun z => brB_F ?_, fun z => brB_T ?_⟩)
    · have := hQ w0 (fun _ _ => rfl)
      unfold tmC at this
      rw [if_pos (show ([] : List Int).isEmpty = true from rfl), if_neg (by omega)] at this
      show Q (wr (b2i true + 0)) w0
      rw [show wr (b2i true + 0) = 1 by decide]
      exact this
    · have := hQ w0 (fun _ _ => rfl)
      unfold tmC at this
      rw [if_pos (show ([] : List Int).isEmpty = true from rfl), if_pos (by omega)] at this
      show Q (wr (b2i true + 1)) w0
      rw [show wr (b2i true + 1) = 2 by decide]
      exact this
  · let a : Int → Int := ask (w0 13 0) (w0 13 1) (w0 13 2) (w0 13 3) (w0 13 4) (w0 13 5) (w0 13 6)
    have ea : ∀ j : Int, 0 ≤ j → j < 7 → w0 13 j = a j := by
      intro j j0 j1
      show w0 13 j = ask (w0 13 0) (w0 13 1) (w0 13 2) (w0 13 3) (w0 13 4) (w0 13 5) (w0 13 6) j
      unfold ask
      obtain rfl | rfl | rfl | rfl | rfl | rfl | rfl : j = 0 ∨ j = 1 ∨ j = 2 ∨ j = 3 ∨ j = 4 ∨ j = 5 ∨ j = 6 := by omega
      all_goals rfl
    have haR : ∀ j, 0 ≤ j → j < 7 → R32 (a j) := fun j j0 j1 => by rw [← ea j j0 j1]; exact hA j j0 j1
    have hval : evs a cs [] = [val a cs] := hg.1 a []
    have hvr : R32 (val a cs) := evs_r haR cs [] hg.2.1 (fun y hy => by cases hy) _ (by rw [hval]; exact List.mem_singleton.mpr rfl)
    have hne : 0 < cs.length := by
      have := hg.ne
      cases cs with
      | nil => cases this
      | cons c l => simp
    have lp : ∀ (rs : List Int) (k : Nat) (st : List Int) (w1 : Tw), cs.drop k = rs → k ≤ cs.length → st.length ≤ k → stk st.length rs → StW w1 st → (∀ y ∈ st, R32 y) → evs a rs st = [val a cs] → (∀ j, j ≠ 12 → w1 j = w0 j) → f_X4_ruled_4 Q (rs.length + 1) (st.length : Nat) k w1 := by
      intro rs
      induction rs with
      | nil =>
        intro k st w1 hk hk2 hsk _ hst _ hev f1
        have hk3 := List.drop_eq_nil_iff.mp hk
        have hst1 : st = [val a cs] := hev
        subst hst1
        unfold f_X4_ruled_4 f_X4_ruled_4_b
        rw [f1 10 (by decide), h10]
        refine br_T ⟨by omega, by omega⟩ ⟨by omega, by omega⟩ (by omega) (br0_T ⟨by omega, by omega⟩ (by omega) ⟨⟨by omega, by omega⟩, ?_⟩)
        have e0 : w1 12 0 = val a cs := hst.hd
        rw [e0]
        have := hQ w1 f1
        unfold tmC at this
        rw [hg.ne, if_neg (by simp)] at this
        have e9 : wr (val (ask (w0 13 0) (w0 13 1) (w0 13 2) (w0 13 3) (w0 13 4) (w0 13 5) (w0 13 6)) cs) = val a cs := wr_same hvr
        rw [e9] at this
        exact this
      | cons c rs ih =>
        intro k st w1 hk hk2 hsk hstk hst hsr hev f1
        obtain ⟨k1, k2, k3⟩ := drop_cons hk
        have hcr := hg.2.1 c (get_mem k1)
        have e8' : w1 8 k = c := by rw [f1 8 (by decide)]; exact h8 k c k1
        unfold f_X4_ruled_4 f_X4_ruled_4_b f_X4_ruled_115 f_X4_ruled_119
        rw [f1 10 (by decide), h10, e8', show (k : Int) + 1 = ((k + 1 : Nat) : Int) by omega]
        refine br_F ⟨by omega, by omega⟩ ⟨by omega, by omega⟩ (by omega) ⟨⟨by omega, by omega⟩, ?_⟩
        have hev' : evs a rs (ev1 a c st) = [val a cs] := hev
        have fr : ∀ i y j, j ≠ 12 → tup w1 12 i y j = w0 j := fun i y j hj => by rw [tw_ne hj]; exact f1 j hj
        unfold stk at hstk
        unfold ev1 at hev'
        by_cases c3 : c = 3000
        · rw [if_pos c3] at hstk hev'
          cases st with
          | nil => simp at hstk
          | cons y s =>
            simp only at hev'
            rw [List.length_cons] at hstk hsk
            refine br_F ⟨by omega, by omega⟩ ⟨by decide, by decide⟩ (by omega) ?_
            rw [List.length_cons, show ((s.length + 1 : Nat) : Int) - 1 = (s.length : Nat) by omega, wr_same ⟨by omega, by omega⟩]
            refine ⟨⟨by omega, by omega⟩, ⟨by omega, by omega⟩, ?_⟩
            rw [hst.hd]
            exact ih (k + 1) (wr (-y) :: s) _ k2 (by omega) (by rw [List.length_cons]; omega) (by rw [List.length_cons]; exact hstk.2) hst.top (fun z hz => by
              rcases List.mem_cons.mp hz with rfl | hz
              · exact wr_r _
              · exact hsr z (List.mem_cons_of_mem _ hz)) hev' (fr _ _)
        · rw [if_neg c3] at hstk hev'
          refine br_T ⟨by omega, by omega⟩ ⟨by decide, by decide⟩ c3 ?_
          by_cases c2 : 2000 ≤ c
          · rw [if_pos c2] at hstk hev'
            refine br_F ⟨by omega, by omega⟩ ⟨by decide, by decide⟩ (by omega) ?_
            cases st with
            | nil => simp at hstk
            | cons y s =>
              cases s with
              | nil => simp at hstk
              | cons z s =>
                simp only at hev'
                rw [List.length_cons, List.length_cons] at hstk hsk
                have hy := hsr y List.mem_cons_self
                have hz := hsr z (List.mem_cons_of_mem _ List.mem_cons_self)
                have ht1 := hst.hd
                have ht2 := hst.tl.hd
                rw [List.length_cons] at ht1
                rw [List.length_cons, List.length_cons, show ((s.length + 1 + 1 : Nat) : Int) + (-1) = ((s.length + 1 : Nat) : Int) by omega, show ((s.length + 1 : Nat) : Int) - 1 = (s.length : Nat) by omega, wr_same (y := ((s.length : Nat) : Int)) ⟨by omega, by omega⟩, wr_same (y := c - 2000) ⟨by omega, by omega⟩]
                refine ⟨⟨by omega, by omega⟩, ⟨by omega, by omega⟩, ?_⟩
                rw [ht1, ht2]
                refine t_worked (by omega) hz hy ⟨⟨by omega, by omega⟩, ?_⟩
                have nx := ih (k + 1) (work (c - 2000) z y :: s) (tup w1 12 (s.length : Nat) (work (c - 2000) z y)) k2 (by omega) (by rw [List.length_cons]; omega) (by rw [List.length_cons]; exact hstk.2) hst.tl.top (fun v hv => by
                  rcases List.mem_cons.mp hv with rfl | hv
                  · exact work_r
                  · exact hsr v (List.mem_cons_of_mem _ (List.mem_cons_of_mem _ hv))) hev' (fr _ _)
                rw [List.length_cons] at nx
                exact nx
          · rw [if_neg c2] at hstk hev'
            refine br_T ⟨by omega, by omega⟩ ⟨by decide, by decide⟩ (by omega) ?_
            have nx : ∀ y, (if 1000 ≤ c then a (c - 1000) else c) = y → R32 y → f_X4_ruled_4 Q (rs.length + 1) ((st.length : Nat) + 1) ((k + 1 : Nat) : Int) (tup w1 12 (st.length : Nat) y) := by
              rintro y rfl hy
              have := ih (k + 1) _ _ k2 (by omega) (by rw [List.length_cons]; omega) (by rw [List.length_cons]; exact hstk) (hst.push (y := if 1000 ≤ c then a (c - 1000) else c)) (fun v hv => by
                rcases List.mem_cons.mp hv with rfl | hv
                · exact hy
                · exact hsr v hv) hev' (fr _ _)
              rw [List.length_cons] at this
              exact this
            by_cases c1 : c < 1000
            · exact br_T ⟨by omega, by omega⟩ ⟨by decide, by decide⟩ c1 ⟨⟨by omega, by omega⟩, nx c (by rw [if_neg (by omega)]) ⟨by omega, by omega⟩⟩
            · refine br_F ⟨by omega, by omega⟩ ⟨by decide, by decide⟩ c1 ?_
              rw [wr_same (y := c - 1000) ⟨by omega, by omega⟩, f1 13 (by decide), ea _ (by omega) (by omega)]
              exact ⟨⟨by omega, by omega⟩, ⟨by omega, by omega⟩, nx _ (by rw [if_pos (by omega)]) (haR _ (by omega) (by omega))⟩
    have h00 := lp cs 0 [] w0 rfl (by omega) (Nat.le_refl _) (by have := hg.2.2 0 [] trivial; rw [List.append_nil] at this; exact this) (fun i y hy => by simp at hy) (fun y hy => by cases hy) hval (fun _ _ => rfl)
    exact ⟨cs.length + 1, h00⟩
