/-! PURE PROOFS: resets on both -/
set_option maxRecDepth 100000
def zrow (ρ : Rec) (n : Int) : Rec := fun i => if 0 ≤ i ∧ i < n then 0 else ρ i
def trow (ρ : Rec) (k : Int) : Rec := fun i => if 818 ≤ i ∧ i < 818 + k then ρ (i - 4) else if 822 ≤ i ∧ i < 822 + k then 4 else if 840 ≤ i ∧ i < 840 + k then 0 else ρ i
def resA (d : DS) : Int := (sumI (fun q => (d.ring q).length) (d.s 900).toNat + (cmds d.run : Nat)) + ((d.out.length : Nat) + sumI (fun q => d.s (89 * q + 5) - d.s (89 * q + 6)) (d.s 900).toNat)
def resT (d : DS) : List Int := [sumI (fun q => (d.ring q).length) (d.s 900).toNat, (cmds d.run : Nat), (d.out.length : Nat) + sumI (fun q => d.s (89 * q + 5) - d.s (89 * q + 6)) (d.s 900).toNat]
theorem zrow_up {ρ : Rec} {n : Nat} : iup (zrow ρ n) n 0 = zrow ρ ((n + 1 : Nat) : Int) := by
  funext i
  unfold iup zrow
  by_cases e : i = n
  · rw [if_pos e, if_pos ⟨by omega, by omega⟩]
  · rw [if_neg e]
    by_cases c : 0 ≤ i ∧ i < n
    · rw [if_pos c, if_pos ⟨by omega, by omega⟩]
    · rw [if_neg c, if_neg (by omega)]
theorem trow_up {ρ : Rec} {k : Nat} (hk : k < 4) : iup (iup (iup (trow ρ k) (818 + k) (trow ρ k (814 + k))) (822 + k) 4) (840 + k) 0 = trow ρ ((k + 1 : Nat) : Int) := by
  have e0 : trow ρ k (814 + k) = ρ (814 + k) := by unfold trow; rw [if_neg (by omega), if_neg (by omega), if_neg (by omega)]
  rw [e0]
  funext i
  unfold iup trow
  by_cases e1 : i = 840 + k
  · rw [if_pos e1, if_neg (by omega), if_neg (by omega), if_pos ⟨by omega, by omega⟩]
  · rw [if_neg e1]
    by_cases e2 : i = 822 + k
    · rw [if_pos e2, if_neg (by omega), if_pos ⟨by omega, by omega⟩]
    · rw [if_neg e2]
      by_cases e3 : i = 818 + k
      · rw [if_pos e3, if_pos ⟨by omega, by omega⟩]
        congr 1; omega
      · rw [if_neg e3]
        by_cases c1 : 818 ≤ i ∧ i < 818 + k
        · rw [if_pos c1, if_pos ⟨by omega, by omega⟩]
        · rw [if_neg c1]
          by_cases c2 : 822 ≤ i ∧ i < 822 + k
          · rw [if_pos c2, if_neg (by omega), if_pos ⟨by omega, by omega⟩]
          · rw [if_neg c2]
            by_cases c3 : 840 ≤ i ∧ i < 840 + k
            · rw [if_pos c3, if_neg (by omega), if_neg (by omega), if_pos ⟨by omega, by omega⟩]
            · rw [if_neg c3, if_neg (by omega), if_neg (by omega), if_neg (by omega)]
theorem sumI_le {f : Nat → Int} {b : Int} (hb : 0 ≤ b) : ∀ n, (∀ i, i < n → 0 ≤ f i ∧ f i ≤ b) → 0 ≤ sumI f n ∧ sumI f n ≤ b * n
  | 0, _ => ⟨Int.le_refl _, by show (0 : Int) ≤ b * 0; omega⟩
  | n + 1, h => by
    have k := sumI_le hb n (fun i hi => h i (by omega))
    have k2 := h n (by omega)
    unfold sumI
    rw [show b * ((n + 1 : Nat) : Int) = b * n + b by rw [Int.natCast_add, Int.mul_add]; omega]
    omega
section
variable {G : Wd} {x : Nat} {w : Tw} {d : DS} {un : List DS} {pg : Nat → Option DS} {tx rw' hw ha cs : List Int} {B : Int} {r : Nat}
theorem res_r (h : WF d B) : (0 ≤ sumI (fun q => (d.ring q).length) (d.s 900).toNat ∧ sumI (fun q => (d.ring q).length) (d.s 900).toNat ≤ 100) ∧ cmds d.run ≤ 8 ∧ (0 ≤ sumI (fun q => d.s (89 * q + 5) - d.s (89 * q + 6)) (d.s 900).toNat ∧ sumI (fun q => d.s (89 * q + 5) - d.s (89 * q + 6)) (d.s 900).toNat ≤ 100) := by
  have hm := h.many
  have h1 := sumI_le (f := fun q => (d.ring q).length) (b := 7) (by omega) (d.s 900).toNat (fun i hi => by
    have := h.ringlen (q := i) (by omega)
    show 0 ≤ (((d.ring i).length : Nat) : Int) ∧ (((d.ring i).length : Nat) : Int) ≤ 7
    omega)
  have h2 := sumI_le (f := fun q => d.s (89 * q + 5) - d.s (89 * q + 6)) (b := 7) (by omega) (d.s 900).toNat (fun i hi => by
    have e := (h.wl (q := i) (by omega)).2.2.1
    have := h.postslen (q := i) (by omega)
    show 0 ≤ d.s (89 * i + 5) - d.s (89 * i + 6) ∧ d.s (89 * i + 5) - d.s (89 * i + 6) ≤ 7
    omega)
  have h3 := cmds_le d.run
  have h4 := h.2.2.1.1
  refine ⟨by omega, by omega, by omega⟩
theorem t_resetsAll {Q : Int → Tw → Prop} {tl : Bool} (h : TwA w r d) (hr : r = 20 ∨ r = 21) (hwf : WF d B) (hB : B ≤ 700000000)
    (hQ : ∀ w' : Tw, TwA w' r (emptyD d) → (∀ j, j ≠ r → j ≠ 1 → j ≠ 2 → w' j = w j) → (tl = true → TnR (w' 1 0) (w' 2) (resT d)) → (tl = false → w' 1 = w 1 ∧ w' 2 = w 2) → Q (resA d) w') : f_X4_resetsAll r tl w Q := by
  have hm := hwf.many
  have rr := res_r hwf
  have hol := hwf.outlen
  have e14 := h.2.1
  have e814 := h.1.2.2.1
  have e493 := h.1.2.1
  have hrl := hwf.2.2.1.1
  -- the last loop
  have lp144 : ∀ (m k : Nat) (w1 : Tw) (ρ : Rec), k + m = 4 → TFr r w w1 → w1 r = trow ρ k → (∀ w' : Tw, TFr r w w' → w' r = trow ρ 4 → brB tl (tS w' 1 0 0 (fun w64 => ok32 (sumI (fun q => (d.ring q).length) (d.s 900).toNat) (f_X4_enters (sumI (fun q => (d.ring q).length) (d.s 900).toNat) w64 (fun w65 => ok32 (cmds d.run : Nat) (f_X4_enters (cmds d.run : Nat) w65 (fun w66 => ok32 ((d.out.length : Nat) + sumI (fun q => d.s (89 * q + 5) - d.s (89 * q + 6)) (d.s 900).toNat) (f_X4_enters ((d.out.length : Nat) + sumI (fun q => d.s (89 * q + 5) - d.s (89 * q + 6)) (d.s 900).toNat) w66 (fun w67 => Q (resA d) w67)))))))) (Q (resA d) w')) →
      f_X4_resetsAll_144 r Q (m + 1) tl (sumI (fun q => (d.ring q).length) (d.s 900).toNat) (cmds d.run : Nat) ((d.out.length : Nat) + sumI (fun q => d.s (89 * q + 5) - d.s (89 * q + 6)) (d.s 900).toNat) k w1 := by
    intro m
    induction m with
    | zero =>
      intro k w1 ρ hk f1 e1 hK
      unfold f_X4_resetsAll_144 f_X4_resetsAll_144_b f_X4_resetsAll_219
      have : k = 4 := by omega
      subst this
      exact br_T ⟨by omega, by omega⟩ ⟨by omega, by omega⟩ (by omega) (hK w1 f1 e1)
    | succ m ih =>
      intro k w1 ρ hk f1 e1 hK
      unfold f_X4_resetsAll_144 f_X4_resetsAll_144_b
      refine br_F ⟨by omega, by omega⟩ ⟨by omega, by omega⟩ (by omega) ⟨⟨by omega, by omega⟩, ⟨by omega, by omega⟩, ⟨by omega, by omega⟩, ⟨by omega, by omega⟩, ?_⟩
      rw [show (k : Int) + 1 = ((k + 1 : Nat) : Int) by omega]
      refine ih (k + 1) _ ρ (by omega) (f1.trans ((TFr.tp.trans TFr.tp).trans TFr.tp)) ?_ hK
      rw [tw_at, tw_at, tw_at, e1]
      exact trow_up (by omega)
  have fin : ∀ w1 : Tw, TFr r w w1 → w1 r = zrow (w r) (89 * ((d.s 900).toNat : Nat)) → wrA w1 r 844 493 0 (fun w71 => wrA w71 r 844 814 0 (fun w72 => ∃ fl73, f_X4_resetsAll_144 r Q fl73 tl (sumI (fun q => (d.ring q).length) (d.s 900).toNat) (cmds d.run : Nat) ((d.out.length : Nat) + sumI (fun q => d.s (89 * q + 5) - d.s (89 * q + 6)) (d.s 900).toNat) 0 w72)) := by
    intro w1 f1 e1
    refine ⟨⟨by omega, by omega⟩, ⟨by omega, by omega⟩, 5, lp144 4 0 _ (iup (iup (zrow (w r) (89 * ((d.s 900).toNat : Nat))) 493 0) 814 0) (by omega) (f1.trans (TFr.tp.trans TFr.tp)) ?_ (fun w2 f2 e2 => ?_)⟩
    · rw [tw_at, tw_at, e1]
      funext i
      unfold trow
      rw [if_neg (by omega), if_neg (by omega), if_neg (by omega)]
    · have em : ∀ q : Nat, q < 5 → (emptyD d).ring q = [] ∧ (emptyD d).posts q = [] := by
        intro q hq
        obtain ⟨⟨y1, y2, y3, y4, y5, y6⟩, y7, y8, -⟩ := hwf.wl hq
        show emptR d.ring _ [] q = [] ∧ emptR d.posts _ [] q = []
        unfold emptR
        by_cases c : q < (d.s 900).toNat
        · rw [if_pos c, if_pos c]; exact ⟨rfl, rfl⟩
        · rw [if_neg c, if_neg c]
          have := y6 (by omega)
          exact ⟨List.length_eq_zero_iff.mp (by omega), List.length_eq_zero_iff.mp (by omega)⟩
      have sc := h.1.1
      have row : RowR (w2 r) (emptyD d) := by
        rw [e2]
        refine ⟨fun i hi => ?_, ?_, ?_, fun q hq => ?_, fun q hq => ?_, ?_, ?_⟩
        · show trow _ 4 i = turnsS (emptS d.s (d.s 900).toNat) i
          have hi' := hi
          unfold isSc at hi'
          unfold trow turnsS
          by_cases c1 : 818 ≤ i ∧ i < 818 + 4
          · rw [if_pos c1, if_pos ⟨by omega, by omega⟩, iup_ne (by omega), iup_ne (by omega), empt_lo (by omega) (by omega)]
            unfold zrow
            rw [if_neg (by omega)]
            exact sc _ (Or.inr ⟨by omega, by omega, by omega⟩)
          · rw [if_neg c1, if_neg (show ¬ (818 ≤ i ∧ i < 822) by omega)]
            by_cases c2 : 822 ≤ i ∧ i < 822 + 4
            · rw [if_pos c2, if_pos ⟨by omega, by omega⟩]
            · rw [if_neg c2, if_neg (show ¬ (822 ≤ i ∧ i < 826) by omega)]
              by_cases c3 : 840 ≤ i ∧ i < 840 + 4
              · rw [if_pos c3, if_pos ⟨by omega, by omega⟩]
              · rw [if_neg c3, if_neg (show ¬ (840 ≤ i ∧ i < 844) by omega), iup_ne (by omega), iup_ne (by omega)]
                unfold zrow emptS
                by_cases c4 : 0 ≤ i ∧ i < 89 * ((d.s 900).toNat : Nat)
                · rw [if_pos c4, if_pos ⟨c4.1, c4.2, by omega⟩]
                · rw [if_neg c4, if_neg (by omega)]
                  exact sc i hi
        · unfold trow
          rw [if_neg (by omega), if_neg (by omega), if_neg (by omega), iup_ne (by omega), iup_at]; rfl
        · unfold trow
          rw [if_neg (by omega), if_neg (by omega), if_neg (by omega), iup_at]; rfl
        · rw [(em q hq).1]
          exact fun k c hc => by simp at hc
        · rw [(em q hq).2]
          exact fun k c hc => by simp at hc
        · exact fun k c (hc : ([] : List Rec)[k]? = some c) => by simp at hc
        · exact fun k c (hc : ([] : List Rec)[k]? = some c) => by simp at hc
      have t2 : TwA w2 r (emptyD d) := by
        refine h.row hr f2 row ?_ (fun q hq f f0 f1 => ?_)
        · show turnsS (emptS d.s (d.s 900).toNat) 900 = _
          rw [turns_lo (by omega), empt_lo (by omega) (by omega)]
        · show turnsS (emptS d.s (d.s 900).toNat) _ = _
          rw [turns_lo (by omega), empt_k (by omega) (by omega) (by omega)]
      cases tl with
      | false => exact brB_F (hQ w2 t2 (fun j j1 _ _ => f2 j j1) (fun z => by cases z) (fun _ => ⟨f2 1 (by omega), f2 2 (by omega)⟩))
      | true =>
        have n0 : TnR (tup w2 1 0 0 1 0) (tup w2 1 0 0 2) [] := ⟨by rw [tw_at, iup_at]; rfl, fun i c hc => by simp at hc⟩
        refine brB_T ⟨⟨by omega, by omega⟩, t_enters n0 (by simp) (fun w3 n3 f3 => ⟨⟨by omega, by omega⟩, t_enters n3 (by simp) (fun w4 n4 f4 => ⟨⟨by omega, by omega⟩, t_enters n4 (by simp) (fun w5 n5 f5 => ?_)⟩)⟩)⟩
        have fr : ∀ j, j ≠ 1 → j ≠ 2 → w5 j = w2 j := fun j j1 j2 => by rw [f5 j j1 j2, f4 j j1 j2, f3 j j1 j2, tw_ne j1]
        exact hQ w5 (t2.oth hr (fun j hj => fr j (by omega) (by omega))) (fun j j0 j1 j2 => by rw [fr j j1 j2, f2 j j0]) (fun _ => n5) (fun z => by cases z)
  -- one line
  have lp101 : ∀ (k50 : Bool → Int → Int → Int → Int → Tw → Prop) (l3 l4 l5 : Int) (q : Nat) (m f : Nat) (w1 : Tw), q < 5 → f + m = 89 → TFr r w w1 → w1 r = zrow (w r) ((89 * q + f : Nat) : Int) → (∀ w', TFr r w w' → w' r = zrow (w r) (89 * ((q + 1 : Nat) : Int)) → k50 tl l3 l4 l5 ((q + 1 : Nat) : Int) w') → f_X4_resetsAll_101 r k50 Q (m + 1) tl l3 l4 l5 q f w1 := by
    intro k50 l3 l4 l5 q m
    induction m with
    | zero =>
      intro f w1 h5 hf f1 e1 hK
      unfold f_X4_resetsAll_101 f_X4_resetsAll_101_b
      refine br_T ⟨by omega, by omega⟩ ⟨by omega, by omega⟩ (by omega) ?_
      rw [show (q : Int) + 1 = ((q + 1 : Nat) : Int) by omega]
      exact hK w1 f1 (by rw [e1]; congr 1; omega)
    | succ m ih =>
      intro f w1 h5 hf f1 e1 hK
      unfold f_X4_resetsAll_101 f_X4_resetsAll_101_b f_X4_sets
      refine br_F ⟨by omega, by omega⟩ ⟨by omega, by omega⟩ (by omega) ⟨⟨by omega, by omega⟩, ?_⟩
      rw [show (f : Int) + 1 = ((f + 1 : Nat) : Int) by omega]
      refine ih (f + 1) _ h5 (by omega) (f1.trans TFr.tp) ?_ hK
      rw [tw_at, e1, show (89 * (q : Int) + f) = ((89 * q + f : Nat) : Int) by omega]
      exact zrow_up
  -- the lines
  have lp50 : ∀ (m q : Nat) (w1 : Tw), q + m = (d.s 900).toNat → TFr r w w1 → w1 r = zrow (w r) (89 * (q : Nat)) → f_X4_resetsAll_50 r Q (m + 1) tl (sumI (fun q => (d.ring q).length) q) (cmds d.run : Nat) ((d.out.length : Nat) + sumI (fun q => d.s (89 * q + 5) - d.s (89 * q + 6)) q) q w1 := by
    intro m
    induction m with
    | zero =>
      intro q w1 hq f1 e1
      have e2 : (d.s 900).toNat = q := by omega
      unfold f_X4_resetsAll_50 f_X4_resetsAll_50_b
      rw [f1 14 (by omega), e14]
      rw [e2] at fin
      exact br_T ⟨by omega, by omega⟩ ⟨by omega, by omega⟩ (by omega) (fin w1 f1 e1)
    | succ m ih =>
      intro q w1 hq f1 e1
      have h5 : q < 5 := by omega
      unfold f_X4_resetsAll_50 f_X4_resetsAll_50_b f_X4_of
      rw [f1 14 (by omega), e14]
      refine br_F ⟨by omega, by omega⟩ ⟨by omega, by omega⟩ (by omega) ⟨⟨by omega, by omega⟩, ⟨by omega, by omega⟩, ⟨by omega, by omega⟩, ⟨by omega, by omega⟩, 90, ?_⟩
      have rd : ∀ f : Int, 0 ≤ f → f < 9 → w1 r (89 * q + f) = d.s (89 * q + f) := fun f f0 f1 => by
        rw [e1]; unfold zrow; rw [if_neg (by omega)]
        exact h.1.1 _ (Or.inl ⟨by omega, by omega, by omega⟩)
      rw [rd 0 (by omega) (by omega), rd 3 (by omega) (by omega), rd 5 (by omega) (by omega), rd 6 (by omega) (by omega)]
      have el := (hwf.wl h5).2.1
      have es : sumI (fun q => (d.ring q).length) q + (d.s (89 * q + 0) - d.s (89 * q + 3)) = sumI (fun q => (d.ring q).length) (q + 1) := by
        show _ = sumI (fun q => (d.ring q).length) q + (((d.ring q).length : Nat) : Int)
        omega
      have es2 : (d.out.length : Nat) + sumI (fun q => d.s (89 * q + 5) - d.s (89 * q + 6)) q + (d.s (89 * q + 5) - d.s (89 * q + 6)) = (d.out.length : Nat) + sumI (fun q => d.s (89 * q + 5) - d.s (89 * q + 6)) (q + 1) := by
        show _ = (d.out.length : Nat) + (sumI (fun q => d.s (89 * q + 5) - d.s (89 * q + 6)) q + (d.s (89 * q + 5) - d.s (89 * q + 6)))
        omega
      rw [es, es2]
      exact lp101 _ _ _ _ q 89 0 w1 h5 (by omega) f1 (by rw [e1]; congr 1) (fun w2 f2 e2 => ih (q + 1) w2 (by omega) f2 e2)
  -- what runs
  have lp15 : ∀ (l : List Rec) (k : Nat) (c : Nat), d.run.drop k = l → k ≤ d.run.length → c + cmds l = cmds d.run → f_X4_resetsAll_15 r Q (l.length + 1) tl false (c : Nat) (d.out.length : Nat) k w := by
    intro l
    induction l with
    | nil =>
      intro k c hk hk2 hc
      have hk3 : d.run.length ≤ k := List.drop_eq_nil_iff.mp hk
      unfold f_X4_resetsAll_15 f_X4_resetsAll_15_b
      refine ⟨⟨by omega, by omega⟩, ?_⟩
      rw [e493]
      refine br_T ⟨by omega, by omega⟩ ⟨by omega, by omega⟩ (by omega) ⟨(d.s 900).toNat + 1, ?_⟩
      have := lp50 (d.s 900).toNat 0 w (by omega) TFr.refl (by funext i; unfold zrow; rw [if_neg (by omega)])
      have ec : c = cmds d.run := by simp only [cmds] at hc; omega
      rw [ec]
      rw [show ((d.out.length : Nat) : Int) + sumI (fun q => d.s (89 * q + 5) - d.s (89 * q + 6)) 0 = ((d.out.length : Nat) : Int) by show ((d.out.length : Nat) : Int) + 0 = _; omega] at this
      exact this
    | cons v l ih =>
      intro k c hk hk2 hc
      obtain ⟨k1, k2, k3⟩ := drop_cons hk
      have cell := h.1.2.2.2.2.2.1 k v k1 7 (by omega) (by omega) (by omega)
      have hok := hwf.2.2.1.2 _ (get_mem k1)
      unfold f_X4_resetsAll_15 f_X4_resetsAll_15_b f_X4_hasSecond f_X4_runAt f_X4_flag
      refine ⟨⟨by omega, by omega⟩, ?_⟩
      rw [e493]
      refine br_F ⟨by omega, by omega⟩ ⟨by omega, by omega⟩ (by omega) ⟨⟨by omega, by omega⟩, ?_⟩
      rw [show (445 + 12 * (k : Int) + 6 + 1) = 445 + 12 * k + 7 by omega, cell]
      simp only [cmds] at hc
      rw [show (k : Int) + 1 = ((k + 1 : Nat) : Int) by omega]
      have h7 : R32 (v 7) := by
        rcases hok.2.2.2.2.2.2 with z | z
        · exact ⟨by omega, by omega⟩
        · exact ⟨by omega, by omega⟩
      by_cases c7 : v 7 < 0
      · rw [if_pos c7] at hc
        refine br0_T h7 c7 (brB_F ?_)
        show f_X4_resetsAll_15 r Q (l.length + 1) tl false ((c : Int) + (1 + 0)) (d.out.length : Nat) ((k + 1 : Nat) : Int) w
        rw [show (c : Int) + (1 + 0) = ((c + 1 : Nat) : Int) by omega]
        exact ih (k + 1) (c + 1) k2 (by omega) (by omega)
      · rw [if_neg c7] at hc
        refine br0_F h7 c7 (brB_T ?_)
        show f_X4_resetsAll_15 r Q (l.length + 1) tl false ((c : Int) + (1 + 1)) (d.out.length : Nat) ((k + 1 : Nat) : Int) w
        rw [show (c : Int) + (1 + 1) = ((c + 2 : Nat) : Int) by omega]
        exact ih (k + 1) (c + 2) k2 (by omega) (by omega)
  unfold f_X4_resetsAll
  refine ⟨⟨by omega, by omega⟩, d.run.length + 1, ?_⟩
  rw [e814]
  exact lp15 d.run 0 0 rfl (by omega) (by omega)
theorem empty_9 (hwf : WF d B) : (emptyD d).s 900 = d.s 900 := by
  have hm := hwf.many
  show turnsS (emptS d.s (d.s 900).toNat) 900 = _
  rw [turns_lo (by omega), empt_lo (by omega) (by omega)]
theorem T_resets {Q : Int → Tw → Prop} (h : Tn w d un pg tx rw' hw ha cs) (hw' : Wl d un pg B) (hQ : ∀ w', Tn w' (emptyD d) (remU un d) pg tx (resT d) hw ha cs → Q (resA d) w') : f_X4_resets w Q := by
  have hwf := hw'.1
  have rr := res_r hwf.1
  have hol := hwf.1.outlen
  unfold f_X4_resets tS
  refine t_by (h.thr (i := 0) (v := 0)) hw' (fun w1 g1 r1 f1 => t_resetsAll g1.1 (Or.inl rfl) hwf.1 (by omega) (fun w2 t2 f2 n2 _ => ?_))
  have n2 := n2 rfl
  -- first the told row, then the drive
  let w3 : Tw := fun j => if j = 1 then w2 1 else if j = 2 then w2 2 else w1 j
  have g3 : Tn w3 d un pg tx (resT d) hw ha cs := g1.rw2 n2 (fun j j1 j2 => by show (if j = 1 then w2 1 else if j = 2 then w2 2 else w1 j) = _; rw [if_neg j1, if_neg j2])
  have g4 : Tn w2 (emptyD d) un pg tx (resT d) hw ha cs := g3.row t2 (empty_9 hwf.1) (fun j hj => by
    show w2 j = (if j = 1 then w2 1 else if j = 2 then w2 2 else w1 j)
    by_cases j1 : j = 1
    · rw [if_pos j1, j1]
    · rw [if_neg j1]
      by_cases j2 : j = 2
      · rw [if_pos j2, j2]
      · rw [if_neg j2]; exact f2 j (by omega) j1 j2)
  refine t_adds' g4 ?_ hw'.2.1 hw'.lens hwf.1.lens (by rw [f2 23 (by decide) (by decide) (by decide)]; exact r1) hwf.1.many.2 (by rw [f2 16 (by decide) (by decide) (by decide), f2 17 (by decide) (by decide) (by decide), f2 18 (by decide) (by decide) (by decide), f2 19 (by decide) (by decide) (by decide)]; exact g1.1.2.2) (fun w5 g5 f5 => hQ w5 g5)
  unfold resA
  exact ⟨by omega, by omega⟩
end
section
variable {G : Wd} {D a : Nat} {rf : Nat → Nat → Nat} {d : DS} {B : Int}
theorem p_X2_inWork_10 {Q : Int → Wd → Prop} {i b : Nat} (hD : 9 < D) : ∀ (l : List Rec) (G : Wd) (k n c : Nat) (nw : Bool) (ys xs : List Nat), ItAt G 7 i (D + 2) b nw ys xs → All2 (WorkAt (G 1)) xs l → (∀ G', (∀ r, r ≠ 7 → G' r = G r) → Q ((c + cmds l : Nat) : Int) G') → f_X2_inWork_10 a Q (l.length + 1) k n c (some i) G := by
  intro l
  induction l with
  | nil =>
    intro G k n c nw ys xs hi hx hQ
    have : xs = [] := hx.nil
    subst this
    obtain ⟨n1, n2, mc, lr, i1, i2, i3, i4, i5, i6, i7, i8⟩ := _root_.id hi
    unfold f_X2_inWork_10 f_X2_inWork_10_b
    refine nn_of ⟨isC_of (by assumption), p_J25_hasNext hi (brB_F ?_)⟩
    have := hQ G (fun _ _ => rfl)
    simp only [cmds, Nat.add_zero] at this
    exact this
  | cons v l ih =>
    intro G k n c nw ys xs hi hx hQ
    obtain ⟨y, xs, rfl, x1, x2⟩ := hx.cons
    obtain ⟨n1, n2, mc, lr, i1, i2, i3, i4, i5, i6, i7, i8⟩ := _root_.id hi
    unfold f_X2_inWork_10 f_X2_inWork_10_b f_X2_inWork_42
    refine nn_of ⟨isC_of (by assumption), p_J25_hasNext hi (brB_T ⟨isC_of (by assumption), p_J25_next hi (by omega) (by omega) (by omega) (fun G1 hi1 f1 f1' => ?_)⟩)⟩
    have e1 : G1 1 = G 1 := f1 1 (by decide)
    have x1' : WorkAt (G1 1) y v := by rw [e1]; exact x1
    obtain ⟨y1, y2, z1, z2, z3⟩ := x1'
    refine cst_of rfl z1 (by decide) (nn_of (gR_of z1 (by decide) rfl ?_))
    simp only [cmds] at hQ
    rcases z3 with ⟨n7, rfl⟩ | ⟨n7, b', rfl, z4⟩
    · rw [if_pos n7] at hQ
      rw [show (c : Int) + 1 = ((c + 1 : Nat) : Int) by omega]
      exact brN_N (ih G1 k n (c + 1) _ _ xs hi1 (by rw [e1]; exact x2) (fun G' f' => by
        have := hQ G' (fun r hr => (f' r hr).trans (f1 r hr))
        rw [← Nat.add_assoc] at this
        exact this))
    · rw [if_neg (by omega)] at hQ
      rw [show (c : Int) + 2 = ((c + 2 : Nat) : Int) by omega]
      exact brN_S (ih G1 k n (c + 2) _ _ xs hi1 (by rw [e1]; exact x2) (fun G' f' => by
        have := hQ G' (fun r hr => (f' r hr).trans (f1 r hr))
        rw [← Nat.add_assoc] at this
        exact this))
theorem p_X2_inWork {Q : Int → Wd → Prop} {k n : Nat} (h : DrA G D a rf d) (hD : 9 < D) (hk : 1 ≤ k) (hn : 8 ≤ n) (hQ : ∀ G', (∀ r, r ≠ 7 → G' r = G r) → Q (cmds d.run : Nat) G') : f_X2_inWork k n a G Q := by
  unfold f_X2_inWork
  obtain ⟨zs, m3, m4⟩ := h.2.2.1
  refine gD_1 h (nn_of ⟨1, 8, ⟨by omega, by omega⟩, cRun h, p_J2_iterator 7 m3 (by decide) (by omega) (by omega) (by omega) (by omega) (fun i' G4 hi4 f4 f4' => ⟨d.run.length + 1, ?_⟩)⟩)
  have e4 : G4 1 = G 1 := f4 1 (by decide)
  refine p_X2_inWork_10 hD d.run G4 _ _ 0 false [] zs hi4 (by rw [e4]; exact m4) (fun G' f' => ?_)
  rw [Nat.zero_add]
  exact hQ G' (fun r hr => (f' r hr).trans (f4 r hr))
end
section
variable {G : Wd} {x : Nat} {d : DS} {un : List DS} {pg : Nat → Option DS} {tx rw' hw ha cs : List Int} {B : Int}
theorem S_resets {Q : Int → Wd → Prop} {k n : Nat} (h : Sy G x d un pg tx rw' hw ha cs B) (hk : 9400 ≤ k) (hn : 75200 ≤ n) (hQ : ∀ G', Sy G' x (emptyD d) (remU un d) pg tx (resT d) hw ha cs B → FQ G G' → Q (resA d) G') : f_X1_resets k n x G Q := by
  obtain ⟨A, rf, E, dr, u, ru, ai, ar, ah, h1, h2, h3, h4, h5, h6⟩ := h
  have hwf := h2.2.2.2.2.1
  have rr := res_r hwf.1
  have hol := hwf.1.outlen
  unfold f_X1_resets
  refine gQ_0 h1 ⟨96, 768, ⟨by omega, by omega⟩, cQ h1, q_remember h1 h2 h3 h4 h5 h6 (by omega) (by omega) (fun G1 dr1 u1 ar1 ah1 g1 g2 g3 g4 g5 g6 f1 => ?_)⟩
  have d1 := g2.d0 g1
  refine gQ_0 g1 (nn_of ⟨cD d1, p_X2_inRings d1 hwf.1 (by omega) (gQ_0 g1 (nn_of ⟨1, 8, ⟨by omega, by omega⟩, cD d1, p_X2_inWork d1 (by omega) (by omega) (by omega) (fun G2 f2 => ?_)⟩))⟩)
  have w2 := g1.fr (FrX.by7 (lo := 8) (hi := 9) f2) (by omega)
  have d2 := g2.d0 w2
  refine gQ_0 w2 (nn_of (gD_2 d2 (nn_of ⟨cOut d2, x_outSize d2 (gQ_0 w2 (nn_of ⟨cD d2, p_X2_notTaken d2 hwf.1 (by omega) (gQ_0 w2 (nn_of ⟨cD d2, p_X2_empty d2 (by omega) hwf.1.many (fun G3 d3 f3 => ?_)⟩))⟩))⟩)))
  have s3 : Sy G3 x (emptyD d) (remU un d) pg tx rw' hw ha cs B := Sy.step w2 g2 g3 g4 g5 (g6.x (FrX.by7 (lo := 8) (hi := 9) f2)) f3.x d3 (hwf.1.empty (by omega)) (empty_9 hwf.1) (Int.le_refl _) (by omega)
  refine q_row0 s3 (fun G4 s4 f4 => ⟨⟨by omega, by omega⟩, s4.cq, q_tell s4 (by simp) (fun G5 s5 f5 => ⟨⟨by omega, by omega⟩, s5.cq, q_tell s5 (by simp) (fun G6 s6 f6 => ⟨⟨by omega, by omega⟩, s6.cq, q_tell s6 (by simp) (fun G7 s7 f7 => hQ G7 s7 ?_)⟩)⟩)⟩)
  exact f1.trans ((FrX.by7 f2).trans ((f3.x.wide (by omega) (by omega)).trans (f4.trans (f5.trans (f6.trans f7)))))
end
