/-! PURE PROOFS: the system reads a rule, works by it -/
set_option maxRecDepth 100000
theorem ishr0f : ∀ i : Fin 1000, ishr (i.val : Int) 0 = i.val := by decide +kernel
theorem ishr_0 {n : Nat} (h : n < 1000) : ishr (n : Int) 0 = n := ishr0f ⟨n, h⟩
section
variable {G0 : Wd} {g b ci tb h : Nat} {size E : Int} {rest : List Value} {f : Int → Int} {p : Int}
theorem p_digit {Q : Int → Wd → Prop} {X : Xt} {k n : Nat} {lo m : Int} (ht : TxA G0 g b h tb f) (hc : ci = 4 ∨ ci = 6 ∨ ci = 11) (hg : g ≠ 0) (hE : 0 ≤ E ∧ E ≤ 80) (hp : 0 ≤ p ∧ p ≤ 80) (hl : 0 ≤ lo ∧ 1 ≤ m ∧ lo + m ≤ 128)
    (h1 : lo ≤ hr (xf f) E p → hr (xf f) E p < lo + m → p < E → Q (hr (xf f) E p - lo) (Wp G0 g b ci tb size E rest (p + 1))) (h0 : ¬ (lo ≤ hr (xf f) E p ∧ hr (xf f) E p < lo + m) → (1 ≤ k ∧ 7 ≤ n) ∧ FX G0 g b ci tb size E rest X p) : f_X5_digit k n b lo m (Wp G0 g b ci tb size E rest p) Q X := by
  have hci : ci ∈ [4, 6, 11] := by rcases hc with rfl | rfl | rfl <;> decide
  unfold f_X5_digit
  have hrr := hr_r (E := E) (p := p) (xf_r (f := f)) hE.2 hp.1
  refine ⟨⟨ci, hci, isC_of Wp_at⟩, p_here ht hc hE (by omega) ⟨hrr.1, ⟨by omega, by omega⟩, ⟨by omega, by omega⟩, p_in hrr.1 ⟨by omega, by omega⟩ ⟨by omega, by omega⟩ ?_⟩⟩
  by_cases c : lo ≤ hr (xf f) E p ∧ hr (xf f) E p < lo + m
  · rw [decide_eq_true (show lo ≤ hr (xf f) E p ∧ hr (xf f) E p ≤ lo + m - 1 by omega)]
    have hpE : p < E := by
      have := c.1
      unfold hr at this
      by_cases z : p < E
      · exact z
      · rw [if_neg z] at this; omega
    refine ⟨0, 0, ⟨by omega, by omega⟩, ⟨ci, hci, isC_of Wp_at⟩, p_need hc (fun _ => gI_of Wp_at hci rfl (pF_of Wp_at hg hci (by show 3 < _ + 1 + 1 + 1 + 1; omega) ?_)) (fun z => by cases z)⟩
    have : (vR (some tb) :: vI size :: vI E :: vI p :: rest).set 3 (vI (p + 1)) = vR (some tb) :: vI size :: vI E :: vI (p + 1) :: rest := rfl
    rw [this, Wp_set]
    refine gR_of Wp_at hci rfl (gI_of Wp_at hci rfl (nn_of (ldI_of ht.at ⟨by omega, by omega, by omega⟩ ?_)))
    have hb := ht.2.2 p hp.1 (by omega)
    have e : hr (xf f) E p = f p % 256 := by unfold hr; rw [if_pos hpE]; rfl
    rw [show p + 1 - 1 = p by omega]
    have k1 := h1 c.1 c.2 hpE
    rw [show f p = hr (xf f) E p by omega]
    exact k1
  · rw [decide_eq_false (show ¬ (lo ≤ hr (xf f) E p ∧ hr (xf f) E p ≤ lo + m - 1) by omega)]
    obtain ⟨hk, hX⟩ := h0 c
    exact ⟨k, n, ⟨Nat.le_refl _, Nat.le_refl _⟩, ⟨ci, hci, isC_of Wp_at⟩, p_need hc (fun z => by cases z) (fun _ => ⟨hk, hX⟩)⟩
theorem p_number {Q : Int → Wd → Prop} {X : Xt} {k n : Nat} {d : Nat} (ht : TxA G0 g b h tb f) (hc : ci = 4 ∨ ci = 6 ∨ ci = 11) (hg : g ≠ 0) (hE : 0 ≤ E ∧ E ≤ 80) (hp : 0 ≤ p ∧ p ≤ 80) (hd : d < 5) (hdg : dg (xf f) E p = true) (hQ : Q (numF (xf f) E (d + 1) p 0).2 (Wp G0 g b ci tb size E rest (numF (xf f) E (d + 1) p 0).1)) : f_X5_number k n b ((d + 1 : Nat) : Int) (Wp G0 g b ci tb size E rest p) Q X := by
  have hci : ci ∈ [4, 6, 11] := by rcases hc with rfl | rfl | rfl <;> decide
  obtain ⟨d1, d2, d3⟩ := dg_lt hdg
  unfold f_X5_number
  refine ⟨0, 0, ⟨by omega, by omega⟩, ⟨ci, hci, isC_of Wp_at⟩, p_digit ht hc hg hE hp (by omega) (fun _ _ _ => ⟨d + 1, ?_⟩) (fun z => absurd ⟨d2, by omega⟩ z)⟩
  have e : numF (xf f) E (d + 1) p 0 = numF (xf f) E d (p + 1) (10 * 0 + (hr (xf f) E p - 48)) := by
    show (if dg (xf f) E p = true then _ else _) = _
    rw [if_pos hdg]
  rw [e, show 10 * 0 + (hr (xf f) E p - 48) = hr (xf f) E p - 48 by omega] at hQ
  have lp : ∀ (m j : Nat) (q v : Int) (k n : Nat), j + m = d + 1 → 0 ≤ q → q ≤ E → Q (numF (xf f) E m q v).2 (Wp G0 g b ci tb size E rest (numF (xf f) E m q v).1) → f_X5_number_11 b Q X (m + 1) k n ((d + 1 : Nat) : Int) v j (Wp G0 g b ci tb size E rest q) := by
    intro m
    induction m with
    | zero =>
      intro j q v k n hj h0 h1 hq
      unfold f_X5_number_11 f_X5_number_11_b
      exact br_T ⟨by omega, by omega⟩ ⟨by omega, by omega⟩ (by omega) hq
    | succ m ih =>
      intro j q v k n hj h0 h1 hq
      have hrr := hr_r (E := E) (p := q) (xf_r (f := f)) hE.2 h0
      unfold f_X5_number_11 f_X5_number_11_b
      refine br_F ⟨by omega, by omega⟩ ⟨by omega, by omega⟩ (by omega) ⟨⟨ci, hci, isC_of Wp_at⟩, p_here ht hc hE (by omega) ⟨hrr.1, p_in hrr.1 ⟨by decide, by decide⟩ ⟨by decide, by decide⟩ ?_⟩⟩
      unfold numF dg at hq
      by_cases c : 48 ≤ hr (xf f) E q ∧ hr (xf f) E q ≤ 57
      · rw [decide_eq_true c] at hq ⊢
        rw [if_pos rfl] at hq
        refine brB_T ⟨0, 0, ⟨by omega, by omega⟩, ⟨ci, hci, isC_of Wp_at⟩, p_digit ht hc hg hE (by omega) (by omega) (fun _ _ hlt => ?_) (fun z => absurd ⟨c.1, by omega⟩ z)⟩
        rw [show (j : Int) + 1 = ((j + 1 : Nat) : Int) by omega]
        exact ih (j + 1) (q + 1) _ _ _ (by omega) (by omega) (by omega) hq
      · rw [decide_eq_false c] at hq ⊢
        rw [if_neg (by simp)] at hq
        exact brB_F hq
  exact lp d 1 (p + 1) _ _ _ (by omega) (by omega) (by omega) hQ
/-- where a sign is in a string -/
theorem p_indexOf {Q : Int → Wd → Prop} {G : Wd} {a s : Nat} {bs : List Int} {c : Int} (h1 : G 0 a = some (oB 118 [vR (some s), vI 0])) (h2 : G 0 s = some (aI 11 bs.length (bytesOf bs))) (hb : ∀ y ∈ bs, 0 ≤ y ∧ y < 128) (hl : 0 < bs.length ∧ bs.length < 1000) (hc : 0 ≤ c ∧ c < 256) (hQ : Q (ofi (ix bs c)) G) : f_J12_indexOf a c G Q := by
  have rz : R32 0 := r0
  have lp : ∀ (l : List Int) (j : Nat), bs.drop j = l → j ≤ bs.length → Q (ofi ((l.findIdx? (fun y => decide (y = c))).map (fun m => j + m))) G → f_J18_indexOfChar_7 Q (l.length + 1) (some s) ((bs.length : Nat) : Int) (c.bmod 256) j G := by
    intro l
    induction l with
    | nil =>
      intro j hj hj2 hq
      have := List.drop_eq_nil_iff.mp hj
      unfold f_J18_indexOfChar_7 f_J18_indexOfChar_7_b
      exact br_T ⟨by omega, by omega⟩ ⟨by omega, by omega⟩ (by omega) hq
    | cons y l ih =>
      intro j hj hj2 hq
      obtain ⟨k1, k2, k3⟩ := drop_cons hj
      have hy := hb y (List.mem_of_getElem? k1)
      have eb : bytesOf bs j = y := by
        unfold bytesOf
        rw [Int.toNat_natCast, List.getD_eq_getElem?_getD, k1]; rfl
      unfold f_J18_indexOfChar_7 f_J18_indexOfChar_7_b
      refine br_F ⟨by omega, by omega⟩ ⟨by omega, by omega⟩ (by omega) (nn_of ⟨_, _, h2, ⟨by omega, by omega⟩, ?_⟩)
      rw [eb]
      have hbm : c.bmod 256 = if c < 128 then c else c - 256 := by
        rw [Int.bmod_def]
        split <;> omega
      rw [List.findIdx?_cons] at hq
      by_cases e : y = c
      · rw [if_pos (by simpa using e)] at hq
        exact br_F ⟨by omega, by omega⟩ ⟨by rw [hbm]; split <;> omega, by rw [hbm]; split <;> omega⟩ (by rw [hbm]; split <;> omega) hq
      · rw [if_neg (by simpa using e)] at hq
        refine br_T ⟨by omega, by omega⟩ ⟨by rw [hbm]; split <;> omega, by rw [hbm]; split <;> omega⟩ (by rw [hbm]; split <;> omega) ?_
        rw [show (j : Int) + 1 = ((j + 1 : Nat) : Int) by omega]
        refine ih (j + 1) k2 (by omega) ?_
        rw [Option.map_map] at hq
        have e2 : ((fun m => j + m) ∘ (· + 1) : Nat → Nat) = fun m => j + 1 + m := by funext m; simp only [Function.comp]; omega
        rw [e2] at hq
        exact hq
  unfold f_J12_indexOf f_J12_indexOf_2 f_J12_isLatin1 f_J12_isLatin1_17 f_J12_length f_J12_coder
  refine ⟨⟨s, h1⟩, ⟨s, h1⟩, br0_F r1 (by decide) ⟨⟨s, h1⟩, br0_F r0 (by decide) (brB_T ⟨s, h1, ⟨s, h1⟩, ?_⟩)⟩⟩
  refine ⟨s, h1, ⟨_, _, h2, ⟨s, h1⟩, br0_F r1 (by decide) ⟨⟨s, h1⟩, ⟨by decide, by decide⟩, ?_⟩⟩⟩
  simp only [ishr_0 hl.2]
  unfold f_J18_indexOf f_J18_canEncode f_J18_canEncode_15 f_J18_indexOfChar
  refine br0_F ⟨by omega, by omega⟩ (by omega) (br_F ⟨by omega, by omega⟩ ⟨by decide, by decide⟩ (by omega) (brB_T ⟨⟨r0, r0⟩, nn_of ⟨_, _, h2, ⟨⟨by omega, by omega⟩, ⟨by omega, by omega⟩⟩, ?_⟩⟩))
  rw [show max (0 : Int) 0 = 0 by decide, show min ((bs.length : Nat) : Int) (bs.length : Nat) = (bs.length : Nat) by omega]
  refine br_T ⟨by decide, by decide⟩ ⟨by omega, by omega⟩ (by omega) ⟨bs.length + 1, ?_⟩
  have := lp bs 0 rfl (by omega) (by
    rw [show ∀ o : Option Nat, o.map (fun j => 0 + j) = o from fun o => by cases o <;> simp]
    exact hQ)
  exact this
end
section
variable {G0 : Wd} {g b tb h : Nat} {size E : Int} {rest : List Value} {f : Int → Int} {a : Int → Int}
theorem s_whole {T : Nat → Nat → Nat → Int → Wd → (Int → Wd → Prop) → Xt → Prop} {deep : Int} {pt : Int → PR} (ht : TxA G0 g b h tb f) (hg : g ≠ 0) (hE : 0 ≤ E ∧ E ≤ 49) (P : Int) (hP : 0 ≤ P) (hpt : ∀ q, P ≤ q → q ≤ E → POK E q (pt q)) (hT : ∀ q, P ≤ q → q ≤ E → SysC G0 g b 6 tb size E rest a (fun k n G Q X => T k n b deep G Q X) q (pt q)) :
    ∀ p, P ≤ p → p ≤ E → SysC G0 g b 6 tb size E rest a (fun k n G Q X => f_X7_whole T k n b deep G Q X) p (pWhole (xf f) E pt p) := by
  have hs : ∀ p, P ≤ p → p ≤ E → SysC G0 g b 6 tb size E rest a (fun k n G Q X => f_X7_sum T k n b deep G Q X) p (pSum (xf f) E pt p) :=
    s_sum ht hg hE P hP (fun q h1 h2 => pProd_ok (fun q' h1' h2' => hpt q' (by omega) h2') h2) (s_product ht hg hE P hP hpt hT)
  have hso : ∀ p, P ≤ p → p ≤ E → POK E p (pSum (xf f) E pt p) := fun p h1 h2 => pSum_ok (fun q k1 k2 => hpt q (by omega) k2) h2
  intro p hPp hpE k n Q X h1 h0
  unfold pWhole at h1 h0
  unfold f_X7_whole
  refine (hs p hPp hpE).call (Q := fun k24 n25 x26 G23 => (isC G23 b 6 ∧ f_X5_passes b 60 G23 (fun x28 G27 => brB x28 ((∃ k42 n43, (k42 ≤ (k - k24) ∧ n43 ≤ (n - n25)) ∧ (isC G27 b 6 ∧ f_X7_sum T k42 n43 b deep G27 (fun x44 G41 => br x26 x44 (x44 ≤ x26) (Q 0 G41) (Q 1 G41)) X))) ((isC G27 b 6 ∧ f_X5_passes b 62 G27 (fun x30 G29 => brB x30 ((∃ k38 n39, (k38 ≤ (k - k24) ∧ n39 ≤ (n - n25)) ∧ (isC G29 b 6 ∧ f_X7_sum T k38 n39 b deep G29 (fun x40 G37 => br x26 x40 (x26 ≤ x40) (Q 0 G37) (Q 1 G37)) X))) ((isC G29 b 6 ∧ f_X5_passes b 61 G29 (fun x32 G31 => brB x32 ((∃ k34 n35, (k34 ≤ (k - k24) ∧ n35 ≤ (n - n25)) ∧ (isC G31 b 6 ∧ f_X7_sum T k34 n35 b deep G31 (fun x36 G33 => br x26 x36 (¬ x26 = x36) (Q 0 G33) (Q 1 G33)) X))) (Q x26 G31))))))))) ) (isC_of Wp_at) (fun hok hrx => ?_) (fun hno => ?_)
  · rw [if_pos hok] at h1 h0
    obtain ⟨t1, t2, t3, t4⟩ := (hso p hPp hpE).1 hok
    generalize hq : (pSum (xf f) E pt p).2.1 = q at h1 h0 t1 t2 t4 ⊢
    generalize hcs : (pSum (xf f) E pt p).2.2 = cs at h1 h0 t3 t4 hrx ⊢
    -- the second sum
    have two : ∀ (j : Nat), ix [60, 62, 61] (hr (xf f) E q) = some j → ∀ (K : Int → Wd → Prop), (∀ v G', R32 v → Q (work j (val a cs) v) G' → K v G') → ∃ k42 n43, (k42 ≤ k - 0 ∧ n43 ≤ n - 0) ∧ (isC (Wp G0 g b 6 tb size E rest (q + 1)) b 6 ∧ f_X7_sum T k42 n43 b deep (Wp G0 g b 6 tb size E rest (q + 1)) K X) := by
      intro j hj K hK
      rw [hj] at h1 h0
      simp only at h1 h0
      have hqlt := ix_lt hj (by decide)
      have hj3 : j < 3 := (ix_some hj).1
      refine (hs (q + 1) (by omega) (by omega)).call (Q := fun _ _ v G' => K v G') (isC_of Wp_at) (fun hok2 hrx2 => ?_) (fun hno2 => ?_)
      · rw [if_pos hok2] at h1
        obtain ⟨u1, u2, u3, u4⟩ := (hso (q + 1) (by omega) (by omega)).1 hok2
        obtain ⟨g1, g2⟩ := t3.op (k := (j : Int)) u3 (by omega)
        refine hK _ _ hrx2 ?_
        have := h1 rfl (by rw [g2 a]; exact work_r)
        rw [g2 a] at this
        exact this
      · rw [if_neg (by rw [hno2]; simp)] at h0
        exact h0 rfl
    have r60 : R32 60 := ⟨by decide, by decide⟩
    have r61 : R32 61 := ⟨by decide, by decide⟩
    have r62 : R32 62 := ⟨by decide, by decide⟩
    refine ⟨isC_of Wp_at, p_passes ht (by omega) hg (by omega) (by omega) r60 (fun e => brB_T (two 0 (by rw [e]; decide) _ (fun v G' hv hq' => ?_))) (fun e => brB_F ⟨isC_of Wp_at, p_passes ht (by omega) hg (by omega) (by omega) r62 (fun e2 => brB_T (two 1 (by rw [e2]; decide) _ (fun v G' hv hq' => ?_))) (fun e2 => brB_F ⟨isC_of Wp_at, p_passes ht (by omega) hg (by omega) (by omega) r61 (fun e3 => brB_T (two 2 (by rw [e3]; decide) _ (fun v G' hv hq' => ?_))) (fun e3 => brB_F ?_)⟩)⟩)⟩
    · refine ⟨⟨hrx, hv⟩, fun z => ?_, fun z => ?_⟩
      · rw [show work ((0 : Nat) : Int) (val a cs) v = 0 by unfold work bo1; rw [if_pos (by decide), if_neg (by omega)]] at hq'; exact hq'
      · rw [show work ((0 : Nat) : Int) (val a cs) v = 1 by unfold work bo1; rw [if_pos (by decide), if_pos (by omega)]] at hq'; exact hq'
    · refine ⟨⟨hrx, hv⟩, fun z => ?_, fun z => ?_⟩
      · rw [show work ((1 : Nat) : Int) (val a cs) v = 0 by unfold work bo1; rw [if_neg (by decide), if_pos (by decide), if_neg (by omega)]] at hq'; exact hq'
      · rw [show work ((1 : Nat) : Int) (val a cs) v = 1 by unfold work bo1; rw [if_neg (by decide), if_pos (by decide), if_pos (by omega)]] at hq'; exact hq'
    · refine ⟨⟨hrx, hv⟩, fun z => ?_, fun z => ?_⟩
      · rw [show work ((2 : Nat) : Int) (val a cs) v = 0 by unfold work bo1; rw [if_neg (by decide), if_neg (by decide), if_pos (by decide), if_neg z]] at hq'; exact hq'
      · rw [show work ((2 : Nat) : Int) (val a cs) v = 1 by unfold work bo1; rw [if_neg (by decide), if_neg (by decide), if_pos (by decide), if_pos (Decidable.of_not_not z)]] at hq'; exact hq'
    · have : ix [60, 62, 61] (hr (xf f) E q) = none := by
        unfold ix
        rw [List.findIdx?_eq_none_iff]
        intro y hy
        rcases List.mem_cons.mp hy with rfl | hy
        · exact decide_eq_false (fun z => e z.symm)
        · rcases List.mem_cons.mp hy with rfl | hy
          · exact decide_eq_false (fun z => e2 z.symm)
          · rw [List.mem_singleton.mp hy]; exact decide_eq_false (fun z => e3 z.symm)
      rw [this] at h1
      have := h1 hok (by rw [hcs]; exact hrx)
      rw [hcs, hq] at this
      exact this
  · rw [if_neg (by rw [hno]; simp)] at h0
    exact h0 hno
/-- what letters tell -/
def HV (G0 : Wd) (g b tb : Nat) (size E : Int) (rest : List Value) (a : Int → Int) : Prop := (∀ j, R32 (a j)) ∧ ((∃ v1 v2, rest = [vR none, v1, v2] ∧ ∀ j, a j = 0) ∨ ∃ dr v1 v2, rest = [vR (some dr), v1, v2] ∧ ∀ (j : Nat) (c p : Int) (Q : Int → Wd → Prop), letters[j]? = some c → Q (a j) (Wp G0 g b 6 tb size E rest p) → f_X7_value b c (Wp G0 g b 6 tb size E rest p) Q)
theorem s_thing (ht : TxA G0 g b h tb f) (hg : g ≠ 0) (hE : 0 ≤ E ∧ E ≤ 49) (hv : HV G0 g b tb size E rest a) : ∀ (e : Nat) (deep p : Int), E - p < e → 0 ≤ p → p ≤ E → 0 ≤ deep → deep ≤ 4 → SysC G0 g b 6 tb size E rest a (fun k n G Q X => f_X7_thing e k n b deep G Q X) p (pT (xf f) E e deep p) := by
  intro e
  induction e with
  | zero => intro deep p he; omega
  | succ e ih =>
    intro deep p he hp0 hpE hd0 hd4 k n Q X h1 h0
    have h1 : (pThing (xf f) E (pT (xf f) E e) deep p).1 = true → R32 (val a (pThing (xf f) E (pT (xf f) E e) deep p).2.2) → Q (val a (pThing (xf f) E (pT (xf f) E e) deep p).2.2) (Wp G0 g b 6 tb size E rest (pThing (xf f) E (pT (xf f) E e) deep p).2.1) := h1
    have h0 : (pThing (xf f) E (pT (xf f) E e) deep p).1 = false → (1 ≤ k ∧ 7 ≤ n) ∧ FX G0 g b 6 tb size E rest X (pThing (xf f) E (pT (xf f) E e) deep p).2.1 := h0
    have hrr := hr_r (E := E) (p := p) (xf_r (f := f)) (by omega) hp0
    have hlt : ∀ c : Int, 0 ≤ c → hr (xf f) E p = c → p < E := by
      intro c c0 hh
      unfold hr at hh
      by_cases z : p < E
      · exact z
      · rw [if_neg z] at hh; omega
    unfold f_X7_thing f_X7_thing_b
    unfold pThing at h1 h0
    refine ⟨isC_of Wp_at, p_passes ht (by omega) hg (by omega) (by omega) ⟨by decide, by decide⟩ (fun e1 => ?_) (fun e1 => ?_)⟩
    · rw [if_pos e1] at h1 h0
      have hpl := hlt _ (by omega) e1
      refine brB_T ((ih deep (p + 1) (by omega) (by omega) (by omega) hd0 hd4).call (Q := fun _ _ x88 G85 => Q (wr (-x88)) G85) (isC_of Wp_at) (fun hok hrx => ?_) (fun hno => ?_))
      · rw [if_pos hok] at h1
        obtain ⟨t1, t2, t3, t4⟩ := (pT_ok (x := xf f) e deep (p + 1) (by omega)).1 hok
        have := h1 rfl (by show R32 (val a ((pT (xf f) E e deep (p + 1)).2.2 ++ [3000])); rw [t3.neg.2 a]; exact wr_r _)
        have this : Q (val a ((pT (xf f) E e deep (p + 1)).2.2 ++ [3000])) (Wp G0 g b 6 tb size E rest (pT (xf f) E e deep (p + 1)).2.1) := this
        rw [t3.neg.2 a] at this
        exact this
      · rw [if_neg (by rw [hno]; simp)] at h0
        exact h0 rfl
    · rw [if_neg e1] at h1 h0
      refine brB_F ⟨isC_of Wp_at, p_here ht (by omega) (by omega) (by omega) ⟨⟨hrr.1, ⟨by decide, by decide⟩⟩, fun e2 => ?_, fun e2 => ?_⟩⟩
      · rw [if_neg e2] at h1 h0
        refine ⟨isC_of Wp_at, p_here ht (by omega) (by omega) (by omega) ⟨hrr.1, p_in hrr.1 ⟨by decide, by decide⟩ ⟨by decide, by decide⟩ ?_⟩⟩
        by_cases e3 : dg (xf f) E p = true
        · rw [if_pos e3] at h1
          rw [show decide (48 ≤ hr (xf f) E p ∧ hr (xf f) E p ≤ 57) = true from e3]
          obtain ⟨n1, n2, n3, n4⟩ := num3_ok e3
          refine brB_T ⟨0, 0, ⟨by omega, by omega⟩, isC_of Wp_at, p_number (d := 2) ht (by omega) hg (by omega) (by omega) (by omega) e3 ?_⟩
          have := h1 rfl (by show R32 (val a [(numF (xf f) E 3 p 0).2]); rw [(Gd.num ⟨n3, n4⟩).2 a]; exact ⟨by omega, by omega⟩)
          have this : Q (val a [(numF (xf f) E 3 p 0).2]) (Wp G0 g b 6 tb size E rest (numF (xf f) E 3 p 0).1) := this
          rw [(Gd.num ⟨n3, n4⟩).2 a] at this
          exact this
        · rw [if_neg e3] at h1 h0
          rw [show decide (48 ≤ hr (xf f) E p ∧ hr (xf f) E p ≤ 57) = false by unfold dg at e3; simpa using e3]
          -- no letter
          have no : ix letters (hr (xf f) E p) = none → ∀ c : Int, f_X7_thing_116 (f_X7_thing e) b k n c (Wp G0 g b 6 tb size E rest p) Q X := by
            intro hk c
            rw [hk] at h0
            unfold f_X7_thing_116 f_X7_thing_117
            exact ⟨k, n, ⟨Nat.le_refl _, Nat.le_refl _⟩, isC_of Wp_at, p_need (by omega) (fun z => by cases z) (fun _ => h0 rfl)⟩
          refine brB_F ⟨isC_of Wp_at, p_here ht (by omega) (by omega) (by omega) ⟨⟨hrr.1, ⟨by decide, by decide⟩⟩, fun e4 => no (by rw [e4]; decide) _, fun e4 => ?_⟩⟩
          intro sa sb k1 k2
          refine ⟨⟨sb, k1⟩, p_indexOf (bs := letters) k1 k2 (by decide) (by decide) (by omega) ?_⟩
          cases hk : ix letters (hr (xf f) E p) with
          | none => rw [ofi_none]; exact br0_T ⟨by decide, by decide⟩ (by decide) (no hk _)
          | some j =>
            have hj7 : j < 7 := (ix_some hk).1
            have hpl := ix_lt hk (by decide)
            rw [hk] at h1
            have hj := (Gd.let (k := (j : Int)) (by omega)).2 a
            have h1' : R32 (a j) → Q (a j) (Wp G0 g b 6 tb size E rest (p + 1)) := by
              intro hr'
              have := h1 rfl (by show R32 (val a [1000 + (j : Int)]); rw [hj]; exact hr')
              have this : Q (val a [1000 + (j : Int)]) (Wp G0 g b 6 tb size E rest (p + 1)) := this
              rw [hj] at this; exact this
            rw [ofi_some]
            refine br0_F ⟨by omega, by omega⟩ (by omega) ?_
            unfold f_X7_thing_117
            refine ⟨0, 0, ⟨by omega, by omega⟩, isC_of Wp_at, p_need (by omega) (fun _ => pF_at hg ?_) (fun z => by cases z)⟩
            rcases hv.2 with ⟨v1, v2, er, ea⟩ | ⟨dr, v1, v2, er, hval⟩
            · subst er
              refine gR_of Wp_at (by decide) rfl (brN_N ?_)
              have := h1' (hv.1 _)
              rw [ea] at this; exact this
            · have hval' := hval j (hr (xf f) E p) (p + 1) Q (ix_some hk).2 (h1' (hv.1 _))
              subst er
              exact gR_of Wp_at (by decide) rfl (brN_S ⟨isC_of Wp_at, hval'⟩)
      · have e2 : hr (xf f) E p = 40 := Decidable.of_not_not e2
        rw [if_pos e2] at h1 h0
        have hpl := hlt _ (by omega) e2
        refine ⟨⟨⟨by omega, by omega⟩, ⟨by decide, by decide⟩⟩, fun e3 => ?_, fun e3 => ?_⟩
        · rw [if_neg (by omega)] at h0
          unfold f_X7_thing_36
          exact ⟨k, n, ⟨Nat.le_refl _, Nat.le_refl _⟩, isC_of Wp_at, p_need (by omega) (fun z => by cases z) (fun _ => h0 rfl)⟩
        · rw [if_pos (by omega)] at h1 h0
          unfold f_X7_thing_36
          refine ⟨0, 0, ⟨by omega, by omega⟩, isC_of Wp_at, p_need (by omega) (fun _ => pF_at hg ?_) (fun z => by cases z)⟩
          rw [wr_same (show R32 (deep + 1) from ⟨by omega, by omega⟩)]
          have hw := s_whole (T := f_X7_thing e) (deep := deep + 1) (pt := pT (xf f) E e (deep + 1)) ht hg hE (p + 1) (by omega) (fun q _ h2 => pT_ok e (deep + 1) q h2) (fun q q1 q2 => ih (deep + 1) q (by omega) (by omega) q2 (by omega) (by omega)) (p + 1) (by omega) (by omega)
          refine hw.call (Q := fun k51 n52 x53 G50 => (isC G50 b 6 ∧ f_X5_passes b 41 G50 (fun x55 G54 => (∃ k57 n58, (k57 ≤ ((k - 0) - k51) ∧ n58 ≤ ((n - 0) - n52)) ∧ (isC G54 b 6 ∧ f_X5_need k57 n58 b x55 G54 (fun G56 => Q x53 G56) X))))) (isC_of Wp_at) (fun hok hrx => ?_) (fun hno => ?_)
          · rw [if_pos hok] at h1 h0
            obtain ⟨t1, t2, t3, t4⟩ := (pWhole_ok (x := xf f) (T := pT (xf f) E e (deep + 1)) (p := p + 1) (fun q _ h2 => pT_ok e (deep + 1) q h2) (by omega)).1 hok
            refine ⟨isC_of Wp_at, p_passes ht (by omega) hg (by omega) (by omega) ⟨by decide, by decide⟩ (fun e4 => ?_) (fun e4 => ?_)⟩
            · rw [if_pos e4] at h1
              exact ⟨0, 0, ⟨by omega, by omega⟩, isC_of Wp_at, p_need (by omega) (fun _ => h1 rfl hrx) (fun z => by cases z)⟩
            · rw [if_neg e4] at h0
              obtain ⟨hk, hX⟩ := h0 rfl
              exact ⟨1, 7, ⟨by omega, by omega⟩, isC_of Wp_at, p_need (by omega) (fun z => by cases z) (fun _ => ⟨⟨by omega, by omega⟩, hX⟩)⟩
          · rw [if_neg (by rw [hno]; simp)] at h0
            exact h0 rfl
/-- all of it: read, or worked -/
theorem s_rule (ht : TxA G0 g b h tb f) (hg : g ≠ 0) (hE : 0 ≤ E ∧ E ≤ 40) (hv : HV G0 g b tb size E rest a) : SysC G0 g b 6 tb size E rest a (fun k n G Q X => f_X7_whole (f_X7_thing 50) k n b 0 G Q X) 0 (pRule (xf f) E) :=
  s_whole ht hg (by omega) 0 (by omega) (fun q _ h2 => pT_ok 50 0 q h2) (fun q q1 q2 => s_thing ht hg (by omega) hv 50 0 q (by omega) q1 q2 (by omega) (by omega)) 0 (by omega) hE.1
end
