/-! PURE PROOFS: a new Drive (printed in part) -/
set_option maxRecDepth 100000
def newS : Rec := fun i => if i = 815 then 3 else if i = 816 then 2 else if i = 817 then 1 else if i = 819 then 3 else if i = 820 then 2 else if i = 821 then 1 else if 822 ≤ i ∧ i < 826 then 4 else if i = 826 then 2 else 0
def newD : DS := (newS, fun _ => [], fun _ => [], fun _ => 0, [], [])
theorem newS_lo {i : Int} (h : i < 815 ∨ (827 ≤ i)) : newS i = 0 := by
  unfold newS
  rw [if_neg (by omega), if_neg (by omega), if_neg (by omega), if_neg (by omega), if_neg (by omega), if_neg (by omega), if_neg (by omega), if_neg (by omega)]
section
variable {G : Wd} {D a : Nat}
theorem p_J4_init {r k n : Nat} {Q : Wd → Prop} (h : G r a = some (oB 13 zJ4)) (hr : r ≠ 0) (hk : 1 ≤ k) (hn : 17 ≤ n) (hq : ∀ G', Dq G' r a [] → Fr2 r G G' → Q G') : f_J4_init k n a G Q := by
  have ne : r ≠ r + 1 := by omega
  unfold f_J4_init f_J0_init
  refine nA_of (r + 1) (by decide) (by decide) hk (by simpa using hn) (by omega) (fun b hb => ?_)
  refine pF_of (r := r) (show wset G (r + 1) b _ r a = _ by rw [wset2 ne]; exact h) hr (by decide) (by decide) (hq _ ⟨b, 0, fun _ => none, ?_, ?_, by decide, by decide, by decide, fun j hj => rfl⟩ (fun q q1 q2 => by rw [wset2 q1, wset2 q2]))
  · rw [wset_at]; rfl
  · rw [wset2 (by omega), wset_at]; rfl
theorem p_J3_init {r : Nat} {Q : Wd → Prop} (h : G r a = some (oB 12 zJ3)) (hr : r ≠ 0) (hq : ∀ G', Ll G' r a [] → (∀ q, q ≠ r → G' q = G q) → Q G') : f_J3_init a G Q := by
  unfold f_J3_init f_J2_init f_J1_init f_J0_init
  refine pF_of h hr (by decide) (by decide) (pF_of (r := r) wset_at hr (by decide) (by decide) (hq _ ⟨[], 0, ⟨by decide, by decide⟩, ?_, List.nodup_nil, ?_, by decide⟩ (fun q q1 => by rw [wset2 q1, wset2 q1])))
  · rw [wset_at]; rfl
  · simp [Seg]
theorem p_X3_init {L q k n : Nat} {Q : Wd → Prop} (h : G L a = some (oB 2 zX3)) (hL : 9 < L) (h5 : q < 5) (hk : 6 ≤ k) (hn : 44 ≤ n) (hq : ∀ G' f, f 0 = a → LineA G' L q f newS [] [] 0 → (∀ r, (r < L ∨ L + 7 ≤ r) → G' r = G r) → (∀ r b e, (r < L ∨ L + 7 ≤ r) → G r b = some e → f 3 ≠ b) → Q G') : f_X3_init k n a q G Q := by
  unfold f_X3_init
  refine nO_of (L + 1) (by omega) (by omega) (by omega) (fun b1 hb1 => ⟨1, 17, ⟨by omega, by omega⟩, p_J4_init wset_at (by omega) (by omega) (by omega) (fun G1 q1 f1 => ?_)⟩)
  have c1 : G1 L a = some (oB 2 zX3) := by rw [f1 L (by omega) (by omega), wset2 (by omega)]; exact h
  refine pF_of c1 (by omega) (by decide) (by decide) (nO_of (L + 3) (by omega) (by omega) (by omega) (fun b2 hb2 => ⟨1, 17, ⟨by omega, by omega⟩, p_J4_init wset_at (by omega) (by omega) (by omega) (fun G2 q2 f2 => ?_)⟩))
  have c2 : G2 L a = some (oB 2 (zX3.set 1 (vR (some b1)))) := by rw [f2 L (by omega) (by omega), wset2 (by omega), wset_at]
  refine pF_of c2 (by omega) (by decide) (by simp only [List.length_set]; decide) (nO_of (L + 5) (by omega) (by omega) (by omega) (fun b3 hb3 => ⟨1, 1, ⟨by omega, by omega⟩, p_J5_init (v0 := vR none) (v1 := vI 0) (v2 := vB false) (r := L + 5) wset_at (by omega) (by omega) (by omega) (fun G3 q3 f3 => ?_)⟩))
  have c3 : G3 L a = some (oB 2 ((zX3.set 1 (vR (some b1))).set 2 (vR (some b2)))) := by rw [f3 L (by omega) (by omega), wset2 (by omega), wset_at]
  refine pF_of c3 (by omega) (by decide) (by simp only [List.length_set]; decide) (pF_of (r := L) wset_at (by omega) (by decide) (by simp only [List.length_set]; decide) ?_)
  have fr : ∀ r, (r < L ∨ L + 7 ≤ r) → G3 r = G r := fun r hr => by rw [f3 r (by omega) (by omega), wset2 (by omega), wset2 (by omega), f2 r (by omega) (by omega), wset2 (by omega), wset2 (by omega), f1 r (by omega) (by omega), wset2 (by omega)]
  refine hq _ (fun j => if j = 0 then a else if j = 1 then b1 else if j = 2 then b2 else b3) rfl ⟨?_, ⟨[], q1.congr ?_ ?_, trivial⟩, ⟨[], q2.congr ?_ ?_, trivial⟩, q3.congr ?_ ?_⟩ (fun r hr => by rw [wset2 (by omega), wset2 (by omega)]; exact fr r hr) (fun r b e hr hb => ?_)
  · show wset _ L a _ L a = _
    rw [wset_at]
    have z : ∀ f : Int, 0 ≤ f → f < 89 → newS (89 * q + f) = 0 := fun f f0 f1 => newS_lo (by omega)
    rw [z 20 (by omega) (by omega), z 21 (by omega) (by omega), z 22 (by omega) (by omega), z 0 (by omega) (by omega), z 1 (by omega) (by omega), z 2 (by omega) (by omega), z 3 (by omega) (by omega), z 4 (by omega) (by omega), z 5 (by omega) (by omega), z 6 (by omega) (by omega), z 7 (by omega) (by omega), z 23 (by omega) (by omega), z 8 (by omega) (by omega)]
    rfl
  · rw [wset2 (by omega), wset2 (by omega), f3 _ (by omega) (by omega), wset2 (by omega), wset2 (by omega), f2 _ (by omega) (by omega), wset2 (by omega), wset2 (by omega)]
  · rw [wset2 (by omega), wset2 (by omega), f3 _ (by omega) (by omega), wset2 (by omega), wset2 (by omega), f2 _ (by omega) (by omega), wset2 (by omega), wset2 (by omega)]
  · rw [wset2 (by omega), wset2 (by omega), f3 _ (by omega) (by omega), wset2 (by omega), wset2 (by omega)]
  · rw [wset2 (by omega), wset2 (by omega), f3 _ (by omega) (by omega), wset2 (by omega), wset2 (by omega)]
  · rw [wset2 (by omega), wset2 (by omega)]
  · rw [wset2 (by omega), wset2 (by omega)]
  · show b3 ≠ b
    refine fun z => fr_ne hb3 (r := r) (b := b) (e := e) ?_ z.symm
    rw [wset2 (by omega), f2 r (by omega) (by omega), wset2 (by omega), wset2 (by omega), f1 r (by omega) (by omega), wset2 (by omega)]
    exact hb
/-- an int row of the drive's: all zero -/
theorem i_arr {K : Nat → Wd → Prop} {R f k n : Nat} {len : Int} {fs : List Value} (h : G D a = some (oB 1 fs)) (hR : R ≠ D) (hR0 : R ≠ 0) (hD : D ≠ 0) (h0 : 0 ≤ len) (h1 : len ≤ 100) (hf : f < fs.length) (hk : 1 ≤ k) (hn : len.toNat ≤ n)
    (hK : ∀ b G2, G2 D a = some (oB 1 (fs.set f (vR (some b)))) → G2 R b = some (aI 0 len.toNat (fun _ => 0)) → (∀ r, r ≠ R → r ≠ D → G2 r = G r) → K b G2) : nA G k n len (fun l => aI 0 l (fun _ => 0)) (fun b G1 => pF G1 a [1] f (vR (some b)) (fun G2 => K b G2)) := by
  refine nA_of R h0 (by omega) hk hn hR0 (fun b hb => ?_)
  refine pF_of (r := D) (show wset G R b _ D a = _ by rw [wset2 (by omega)]; exact h) hD (by decide) hf (hK b _ wset_at (by rw [wset2 hR, wset_at]) (fun r r1 r2 => by rw [wset2 r2, wset2 r1]))
/-- an int row of the drive's with four numbers -/
theorem i_arr4 {K : Nat → Wd → Prop} {R f k n : Nat} {v0 v1 v2 v3 : Int} {fs : List Value} (h : G D a = some (oB 1 fs)) (hR : R ≠ D) (hR0 : R ≠ 0) (hD : D ≠ 0) (hf : f < fs.length) (hk : 1 ≤ k) (hn : 4 ≤ n)
    (hK : ∀ b G2, G2 D a = some (oB 1 (fs.set f (vR (some b)))) → G2 R b = some (aI 0 4 (iup (iup (iup (iup (fun _ => 0) 0 v0) 1 v1) 2 v2) 3 v3)) → (∀ r, r ≠ R → r ≠ D → G2 r = G r) → K b G2) :
    nA G k n 4 (fun l => aI 0 l (fun _ => 0)) (fun b G1 => (stI G1 b 0 0 v0 (fun G2 => (stI G2 b 0 1 v1 (fun G3 => (stI G3 b 0 2 v2 (fun G4 => (stI G4 b 0 3 v3 (fun G5 => pF G5 a [1] f (vR (some b)) (fun G6 => K b G6)))))))))) := by
  refine nA_of R (by decide) (by decide) hk (by simpa using hn) hR0 (fun b hb => ?_)
  refine stI_of wset_at hR0 ⟨by decide, by decide, by decide⟩ (stI_of wset_at hR0 ⟨by decide, by decide, by decide⟩ (stI_of wset_at hR0 ⟨by decide, by decide, by decide⟩ (stI_of wset_at hR0 ⟨by decide, by decide, by decide⟩ ?_)))
  rw [wset_wset, wset_wset, wset_wset, wset_wset]
  refine pF_of (r := D) (show wset G R b _ D a = _ by rw [wset2 (by omega)]; exact h) hD (by decide) hf (hK b _ wset_at (by rw [wset2 hR, wset_at]; rfl) (fun r r1 r2 => by rw [wset2 r2, wset2 r1]))
theorem i_list {K : Nat → Wd → Prop} {R f k n : Nat} {fs : List Value} (h : G D a = some (oB 1 fs)) (hR : R ≠ D) (hR0 : R ≠ 0) (hD : D ≠ 0) (hf : f < fs.length) (hk : 1 ≤ k) (hn : 4 ≤ n)
    (hK : ∀ b G2, G2 D a = some (oB 1 (fs.set f (vR (some b)))) → (∀ G3 : Wd, G3 R = G2 R → G3 (R + 1) = G2 (R + 1) → Ll G3 R b []) → (∀ r, r ≠ R → r ≠ D → G2 r = G r) → K b G2) :
    nO G k n 12 4 zJ3 (fun b G1 => f_J3_init b G1 (fun G2 => pF G2 a [1] f (vR (some b)) (fun G3 => K b G3))) := by
  refine nO_of R hk hn hR0 (fun b hb => p_J3_init wset_at hR0 (fun G1 l1 f1 => ?_))
  refine pF_of (r := D) (by rw [f1 D (by omega), wset2 (by omega)]; exact h) hD (by decide) hf (hK b _ wset_at (fun G3 e3 e4 => ?_) (fun r r1 r2 => by rw [wset2 r2, f1 r r1, wset2 r1]))
  rw [wset2 hR] at e3
  obtain ⟨ns, mc, m1, m2, m3, m4, m5⟩ := l1
  have hns : ns = [] := by
    cases ns with
    | nil => rfl
    | cons y ys => simp [Seg] at m4
  subst hns
  exact ⟨[], mc, m1, by rw [e3]; exact m2, m3, by simp [Seg], m5⟩

/-- the drive as far as it is made: m lines -/
def PI (G : Wd) (D a : Nat) (rf : Nat → Nat → Nat) (m : Nat) : Prop :=
  G D a = some (oB 1 [vR (some (rf 9 0)), vR (some (rf 9 1)), vR (some (rf 9 2)), vR (some (rf 9 3)), vR (some (rf 9 4)), vR (some (rf 9 5)), vR (some (rf 9 6)), vR (some (rf 9 7)), vI 0, vI 2, vI 0, vI 0, vI 0, vI 0, vI 0]) ∧
  (∃ lf, G (D + 1) (rf 9 0) = some (aR 7 5 lf) ∧ ∀ q : Nat, q < m → lf q = some (rf q 0)) ∧ Ll G (D + 2) (rf 9 1) [] ∧ Ll G (D + 4) (rf 9 2) [] ∧
  IA G (D + 6) (rf 9 3) 10 828 newS ∧ IA G (D + 7) (rf 9 4) 4 814 newS ∧ IA G (D + 8) (rf 9 5) 4 818 newS ∧ IA G (D + 9) (rf 9 6) 4 822 newS ∧ IA G (D + 10) (rf 9 7) 4 840 newS ∧
  ∀ q : Nat, q < m → LineA G (D + 20 + 10 * q) q (rf q) newS [] [] 0
theorem PI.dr {rf : Nat → Nat → Nat} (h : PI G D a rf 5) : DrA G D a rf newD := by
  obtain ⟨h1, h2, h3, h4, h5, h6, h7, h8, h9, h10⟩ := h
  exact ⟨h1, h2, ⟨[], h3, trivial⟩, ⟨[], h4, trivial⟩, h5, h6, h7, h8, h9, h10⟩
theorem p_X2_init_125 {Q : Wd → Prop} (hD : 9 < D) (G0 : Wd) : ∀ (j m : Nat) (G : Wd) (rf : Nat → Nat → Nat) (k n : Nat), m + j = 5 → PI G D a rf m → rf 8 0 = a → (∀ r, (r < D ∨ D + 100 ≤ r) → G r = G0 r) → (∀ q r b e, q < m → (r < D ∨ D + 100 ≤ r) → G0 r b = some e → rf q 3 ≠ b) → 7 * j ≤ k → 61 * j ≤ n →
    (∀ G' rf', DrA G' D a rf' newD → rf' 8 0 = a → (∀ r, (r < D ∨ D + 100 ≤ r) → G' r = G0 r) → (∀ q r b e, q < 5 → (r < D ∨ D + 100 ≤ r) → G0 r b = some e → rf' q 3 ≠ b) → Q G') → f_X2_init_125 a Q (j + 1) k n m G := by
  intro j
  induction j with
  | zero =>
    intro m G rf k n hm h h8 hf hd hk hn hQ
    have : m = 5 := by omega
    subst this
    unfold f_X2_init_125 f_X2_init_125_b
    exact br_T ⟨by decide, by decide⟩ ⟨by decide, by decide⟩ (by decide) (hQ G rf h.dr h8 hf hd)
  | succ j ih =>
    intro m G rf k n hm h h8 hf hd hk hn hQ
    have h5 : m < 5 := by omega
    obtain ⟨c, ⟨lf, a0, a1⟩, l1, l2, i3, i4, i5, i6, i7, ls⟩ := h
    unfold f_X2_init_125 f_X2_init_125_b
    refine br_F ⟨by omega, by omega⟩ ⟨by decide, by decide⟩ (by omega) (gR_of c (by decide) rfl (nO_of (D + 20 + 10 * m) (by omega) (by omega) (by omega) (fun b hb => ⟨6, 44, ⟨by omega, by omega⟩, p_X3_init (L := D + 20 + 10 * m) wset_at (by omega) h5 (by omega) (by omega) (fun G1 f ef lm f1 d1 => nn_of ?_)⟩)))
    have e1 : ∀ r, (r < D + 20 + 10 * m ∨ D + 20 + 10 * m + 7 ≤ r) → G1 r = G r := fun r hr => by rw [f1 r hr, wset2 (by omega)]
    rw [← ef]
    refine stR_of (r := D + 1) (n := 5) (f := lf) (by rw [e1 _ (by omega)]; exact a0) (by omega) ⟨by omega, by omega, by omega⟩ (fun y hy => ?_) ?_
    · injection hy with hy
      exact ⟨D + 20 + 10 * m, 2, _, by omega, by rw [← hy]; exact lm.1, by decide⟩
    rw [show (m : Int) + 1 = ((m + 1 : Nat) : Int) by omega]
    have e2 : ∀ r, r ≠ D + 1 → (r < D + 20 + 10 * m ∨ D + 20 + 10 * m + 7 ≤ r) → wset G1 (D + 1) (rf 9 0) (aR 7 5 (rup lf m (some (f 0)))) r = G r := fun r h1 h2 => by rw [wset2 h1, e1 r h2]
    have rn : ∀ q, q ≠ m → (fun q => if q = m then f else rf q) q = rf q := fun q hq => if_neg hq
    refine ih (m + 1) _ (fun q => if q = m then f else rf q) _ _ (by omega) ⟨?_, ⟨rup lf m (some (f 0)), ?_, fun q hq => ?_⟩, ?_, ?_, ?_, ?_, ?_, ?_, ?_, fun q hq => ?_⟩ ?_ (fun r hr => by rw [e2 r (by omega) (by omega)]; exact hf r hr) (fun q r b' e hq hr hb' => ?_) (by omega) (by omega) hQ
    · rw [rn 9 (by omega), e2 _ (by omega) (by omega)]; exact c
    · rw [rn 9 (by omega)]; exact wset_at
    · unfold rup
      by_cases e : q = m
      · subst e; rw [if_pos rfl]; simp only [if_pos]
      · rw [if_neg (by omega), rn q e]; exact a1 q (by omega)
    · rw [rn 9 (by omega)]; exact l1.congr (e2 _ (by omega) (by omega)) (e2 _ (by omega) (by omega))
    · rw [rn 9 (by omega)]; exact l2.congr (e2 _ (by omega) (by omega)) (e2 _ (by omega) (by omega))
    · rw [rn 9 (by omega)]; exact i3.congr (e2 _ (by omega) (by omega))
    · rw [rn 9 (by omega)]; exact i4.congr (e2 _ (by omega) (by omega))
    · rw [rn 9 (by omega)]; exact i5.congr (e2 _ (by omega) (by omega))
    · rw [rn 9 (by omega)]; exact i6.congr (e2 _ (by omega) (by omega))
    · rw [rn 9 (by omega)]; exact i7.congr (e2 _ (by omega) (by omega))
    · by_cases e : q = m
      · subst e
        simp only [if_pos]
        exact lm.congr (fun r r1 r2 => wset2 (by omega)) (by rw [wset2 (by omega)]; exact Ext.refl)
      · rw [rn q e]
        exact (ls q (by omega)).congr (fun r r1 r2 => e2 r (by omega) (by omega)) (by rw [e2 1 (by omega) (by omega)]; exact Ext.refl)
    · show (if 8 = m then f else rf 8) 0 = a
      rw [if_neg (by omega)]; exact h8
    · by_cases e : q = m
      · subst e
        simp only [if_pos]
        exact d1 r b' _ (by omega) (by rw [wset2 (by omega), hf r hr]; exact hb')
      · show (if q = m then f else rf q) 3 ≠ b'
        rw [if_neg e]; exact hd q r b' _ (by omega) hr hb'

theorem p_X2_init {Q : Wd → Prop} {k n : Nat} (h : G D a = some (oB 1 zX2)) (hD : 9 < D) (hk : 43 ≤ k) (hn : 344 ≤ n)
    (hQ : ∀ G' rf', DrA G' D a rf' newD → rf' 8 0 = a → (∀ r, (r < D ∨ D + 100 ≤ r) → G' r = G r) → (∀ q r b e, q < 5 → (r < D ∨ D + 100 ≤ r) → G r b = some e → rf' q 3 ≠ b) → Q G') : f_X2_init k n a G Q := by
  unfold f_X2_init
  refine nA_of (D + 1) (by decide) (by decide) (by omega) (by simpa using (show 5 ≤ n by omega)) (by omega) (fun b0 hb0 => ?_)
  refine pF_of (r := D) (by rw [wset2 (by omega)]; exact h) (by omega) (by decide) (by decide) ?_
  generalize hG1 : wset (wset G (D + 1) b0 (aR 7 (5 : Int).toNat (fun _ => none))) D a (oB 1 (zX2.set 0 (vR (some b0)))) = G1
  have c1 : G1 D a = some (oB 1 (zX2.set 0 (vR (some b0)))) := by rw [← hG1]; exact wset_at
  have a1 : G1 (D + 1) b0 = some (aR 7 5 (fun _ => none)) := by rw [← hG1, wset2 (by omega), wset_at]; rfl
  have f1 : ∀ r, r ≠ D + 1 → r ≠ D → G1 r = G r := fun r r1 r2 => by rw [← hG1, wset2 r2, wset2 r1]
  refine i_list (R := D + 2) c1 (by omega) (by omega) (by omega) (by simp only [List.length_set]; decide) (by omega) (by omega) (fun b1 G2 c2 a2 f2 => ?_)
  refine i_list (R := D + 4) c2 (by omega) (by omega) (by omega) (by simp only [List.length_set]; decide) (by omega) (by omega) (fun b2 G3 c3 a3 f3 => ?_)
  refine i_arr (R := D + 6) c3 (by omega) (by omega) (by omega) (by decide) (by decide) (by simp only [List.length_set]; decide) (by omega) (by omega) (fun b3 G4 c4 a4 f4 => ?_)
  refine i_arr4 (R := D + 7) c4 (by omega) (by omega) (by omega) (by simp only [List.length_set]; decide) (by omega) (by omega) (fun b4 G5 c5 a5 f5 => ?_)
  refine i_arr4 (R := D + 8) c5 (by omega) (by omega) (by omega) (by simp only [List.length_set]; decide) (by omega) (by omega) (fun b5 G6 c6 a6 f6 => ?_)
  refine i_arr4 (R := D + 9) c6 (by omega) (by omega) (by omega) (by simp only [List.length_set]; decide) (by omega) (by omega) (fun b6 G7 c7 a7 f7 => ?_)
  refine i_arr (R := D + 10) c7 (by omega) (by omega) (by omega) (by decide) (by decide) (by simp only [List.length_set]; decide) (by omega) (by omega) (fun b7 G8 c8 a8 f8 => ?_)
  refine pF_of (r := D) c8 (by omega) (by decide) (by simp only [List.length_set]; decide) ⟨6, ?_⟩
  generalize hG9 : wset G8 D a _ = G9
  have c9 : G9 D a = some (oB 1 [vR (some b0), vR (some b1), vR (some b2), vR (some b3), vR (some b4), vR (some b5), vR (some b6), vR (some b7), vI 0, vI 2, vI 0, vI 0, vI 0, vI 0, vI 0]) := by rw [← hG9, wset_at]; rfl
  have f9 : ∀ r, r ≠ D → G9 r = G8 r := fun r r2 => by rw [← hG9, wset2 r2]

  have iz : ∀ (b len : Nat) (R : Nat) (g : Rec) (base : Int), G9 R b = some (aI 0 len g) → (∀ i : Int, 0 ≤ i → i < len → g i = newS (base + i)) → IA G9 R b len base newS := fun b len R g base e z => ⟨g, e, z⟩
  refine p_X2_init_125 hD G 5 0 G9 (fun q j => if q = 9 then (if j = 0 then b0 else if j = 1 then b1 else if j = 2 then b2 else if j = 3 then b3 else if j = 4 then b4 else if j = 5 then b5 else if j = 6 then b6 else b7) else a) _ _ (by omega) ⟨c9, ⟨fun _ => none, ?_, fun q hq => by omega⟩, ?_, ?_, ?_, ?_, ?_, ?_, ?_, fun q hq => by omega⟩ rfl (fun r hr => ?_) (fun q r b e hq => by omega) (by omega) (by omega) hQ
  · show G9 (D + 1) b0 = _
    rw [f9 _ (by omega), f8 _ (by omega) (by omega), f7 _ (by omega) (by omega), f6 _ (by omega) (by omega), f5 _ (by omega) (by omega), f4 _ (by omega) (by omega), f3 _ (by omega) (by omega), f2 _ (by omega) (by omega)]; exact a1
  · exact a2 G9 (by rw [f9 _ (by omega), f8 _ (by omega) (by omega), f7 _ (by omega) (by omega), f6 _ (by omega) (by omega), f5 _ (by omega) (by omega), f4 _ (by omega) (by omega), f3 _ (by omega) (by omega)]) (by rw [f9 _ (by omega), f8 _ (by omega) (by omega), f7 _ (by omega) (by omega), f6 _ (by omega) (by omega), f5 _ (by omega) (by omega), f4 _ (by omega) (by omega), f3 _ (by omega) (by omega)])
  · exact a3 G9 (by rw [f9 _ (by omega), f8 _ (by omega) (by omega), f7 _ (by omega) (by omega), f6 _ (by omega) (by omega), f5 _ (by omega) (by omega), f4 _ (by omega) (by omega)]) (by rw [f9 _ (by omega), f8 _ (by omega) (by omega), f7 _ (by omega) (by omega), f6 _ (by omega) (by omega), f5 _ (by omega) (by omega), f4 _ (by omega) (by omega)])
  · refine iz _ _ _ _ _ (by rw [f9 _ (by omega), f8 _ (by omega) (by omega), f7 _ (by omega) (by omega), f6 _ (by omega) (by omega), f5 _ (by omega) (by omega)]; exact a4) (fun i i0 i1 => ?_)
    show (0 : Int) = newS _
    rw [newS_lo (by omega)]
  · refine iz _ _ _ _ _ (by rw [f9 _ (by omega), f8 _ (by omega) (by omega), f7 _ (by omega) (by omega), f6 _ (by omega) (by omega)]; exact a5) (fun i i0 i1 => ?_)
    rcases (show i = 0 ∨ i = 1 ∨ i = 2 ∨ i = 3 by omega) with rfl | rfl | rfl | rfl <;> decide
  · refine iz _ _ _ _ _ (by rw [f9 _ (by omega), f8 _ (by omega) (by omega), f7 _ (by omega) (by omega)]; exact a6) (fun i i0 i1 => ?_)
    rcases (show i = 0 ∨ i = 1 ∨ i = 2 ∨ i = 3 by omega) with rfl | rfl | rfl | rfl <;> decide
  · refine iz _ _ _ _ _ (by rw [f9 _ (by omega), f8 _ (by omega) (by omega)]; exact a7) (fun i i0 i1 => ?_)
    rcases (show i = 0 ∨ i = 1 ∨ i = 2 ∨ i = 3 by omega) with rfl | rfl | rfl | rfl <;> decide
  · refine iz _ _ _ _ _ (by rw [f9 _ (by omega)]; exact a8) (fun i i0 i1 => ?_)
    show (0 : Int) = newS _
    rw [newS_lo (by omega)]
  · rw [f9 _ (by omega), f8 _ (by omega) (by omega), f7 _ (by omega) (by omega), f6 _ (by omega) (by omega), f5 _ (by omega) (by omega), f4 _ (by omega) (by omega), f3 _ (by omega) (by omega), f2 _ (by omega) (by omega), f1 _ (by omega) (by omega)]
end
