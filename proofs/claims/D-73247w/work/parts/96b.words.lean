/-! PURE PROOFS: the system goes through a text -/
set_option maxRecDepth 100000
theorem iand255f : ∀ i : Fin 256, iand ((i.val : Int) - 128) 255 = ((i.val : Int) - 128) % 256 := by decide +kernel
theorem iand255b {y : Int} (h : -128 ≤ y ∧ y < 128) : iand y 255 = y % 256 := by
  have := iand255f ⟨(y + 128).toNat, by omega⟩
  rw [show (((y + 128).toNat : Nat) : Int) - 128 = y by omega] at this
  exact this
theorem wr_same {y : Int} (h : R32 y) : wr y = y := ti h
/-- the world with a text's reader at p -/
def Wp (G0 : Wd) (g b ci tb : Nat) (size E : Int) (rest : List Value) (p : Int) : Wd := wset G0 g b (oB ci (vR (some tb) :: vI size :: vI E :: vI p :: rest))
section
variable {G0 : Wd} {g b ci tb h : Nat} {size E : Int} {rest : List Value} {f : Int → Int} {p : Int}
theorem Wp_at : Wp G0 g b ci tb size E rest p g b = some (oB ci (vR (some tb) :: vI size :: vI E :: vI p :: rest)) := wset_at
theorem Wp_set {q : Int} : wset (Wp G0 g b ci tb size E rest p) g b (oB ci (vR (some tb) :: vI size :: vI E :: vI q :: rest)) = Wp G0 g b ci tb size E rest q := wset_wset
def TxA (G0 : Wd) (g b h tb : Nat) (f : Int → Int) : Prop := G0 h tb = some (aI 1 80 f) ∧ (h ≠ g ∨ tb ≠ b) ∧ ∀ i, 0 ≤ i → i < 80 → -128 ≤ f i ∧ f i < 128
theorem TxA.at (ht : TxA G0 g b h tb f) : Wp G0 g b ci tb size E rest p h tb = some (aI 1 80 f) := wset_skip ht.1 ht.2.1
def xf (f : Int → Int) : Int → Int := fun i => f i % 256
theorem hr_r {x : Int → Int} (hx : ∀ i, 0 ≤ i → i < 80 → 0 ≤ x i ∧ x i < 256) (hE : E ≤ 80) (hp : 0 ≤ p) : R32 (hr x E p) ∧ -1 ≤ hr x E p ∧ hr x E p < 256 := by
  unfold hr
  split
  · have := hx p hp (by omega)
    exact ⟨⟨by omega, by omega⟩, by omega, by omega⟩
  · exact ⟨⟨by decide, by decide⟩, by decide, by decide⟩
theorem xf_r : ∀ i, 0 ≤ i → i < 80 → 0 ≤ xf f i ∧ xf f i < 256 := fun i _ _ => by unfold xf; omega
theorem p_here {Q : Int → Wd → Prop} (ht : TxA G0 g b h tb f) (hc : ci = 4 ∨ ci = 6 ∨ ci = 11) (hE : 0 ≤ E ∧ E ≤ 80) (hp : 0 ≤ p ∧ p ≤ 80) (hQ : Q (hr (xf f) E p) (Wp G0 g b ci tb size E rest p)) : f_X5_here b (Wp G0 g b ci tb size E rest p) Q := by
  have hci : ci ∈ [4, 6, 11] := by rcases hc with rfl | rfl | rfl <;> decide
  unfold f_X5_here
  refine gI_of Wp_at hci rfl (gI_of Wp_at hci rfl ?_)
  unfold hr at hQ
  by_cases c : E ≤ p
  · rw [if_neg (by omega)] at hQ
    exact br_T ⟨by omega, by omega⟩ ⟨by omega, by omega⟩ c hQ
  · rw [if_pos (by omega)] at hQ
    refine br_F ⟨by omega, by omega⟩ ⟨by omega, by omega⟩ c (gR_of Wp_at hci rfl (gI_of Wp_at hci rfl (nn_of (ldI_of ht.at ⟨by omega, by omega, by omega⟩ ?_))))
    rw [iand255b (ht.2.2 p hp.1 (by omega))]
    exact hQ
theorem p_passes {Q : Bool → Wd → Prop} {c : Int} (ht : TxA G0 g b h tb f) (hc : ci = 4 ∨ ci = 6 ∨ ci = 11) (hg : g ≠ 0) (hE : 0 ≤ E ∧ E ≤ 80) (hp : 0 ≤ p ∧ p < 80) (hcr : R32 c) (h1 : hr (xf f) E p = c → Q true (Wp G0 g b ci tb size E rest (p + 1))) (h0 : hr (xf f) E p ≠ c → Q false (Wp G0 g b ci tb size E rest p)) : f_X5_passes b c (Wp G0 g b ci tb size E rest p) Q := by
  have hci : ci ∈ [4, 6, 11] := by rcases hc with rfl | rfl | rfl <;> decide
  unfold f_X5_passes
  have hrr := (hr_r (E := E) (p := p) (xf_r (f := f)) hE.2 hp.1).1
  refine ⟨⟨ci, hci, isC_of Wp_at⟩, p_here ht hc hE (by omega) ⟨⟨hrr, hcr⟩, fun e => gI_of Wp_at hci rfl (pF_of Wp_at hg hci (by show 3 < _ + 1 + 1 + 1 + 1; omega) ?_), fun e => h0 e⟩⟩
  have : (vR (some tb) :: vI size :: vI E :: vI p :: rest).set 3 (vI (p + 1)) = vR (some tb) :: vI size :: vI E :: vI (p + 1) :: rest := rfl
  rw [this, Wp_set]
  exact h1 e
/-- a fault at p -/
def FX (G0 : Wd) (g b ci tb : Nat) (size E : Int) (rest : List Value) (X : Xt) (p : Int) : Prop := ∀ q, fr (Wp G0 g b ci tb size E rest p) q → X "QueueDrive$Fault" q (wset (Wp G0 g b ci tb size E rest p) 3 q (oB 5 [vI p]))
theorem p_need {Q : Wd → Prop} {X : Xt} {k n : Nat} {c : Bool} (hc : ci = 4 ∨ ci = 6 ∨ ci = 11) (h1 : c = true → Q (Wp G0 g b ci tb size E rest p)) (h0 : c = false → (1 ≤ k ∧ 7 ≤ n) ∧ FX G0 g b ci tb size E rest X p) : f_X5_need k n b c (Wp G0 g b ci tb size E rest p) Q X := by
  have hci : ci ∈ [4, 6, 11] := by rcases hc with rfl | rfl | rfl <;> decide
  unfold f_X5_need
  refine ⟨h1, fun e => ?_⟩
  obtain ⟨hk, hX⟩ := h0 e
  refine ⟨g, ci, _, p, ⟨Wp_at, hci, rfl⟩, hk, fun a ha => ⟨3, by decide, ?_⟩⟩
  rw [wset_wset]
  exact ⟨isC_of wset_at, hX a ha⟩
/-- what a reading function does at p -/
def SysC (G0 : Wd) (g b ci tb : Nat) (size E : Int) (rest : List Value) (a : Int → Int) (F : Nat → Nat → Wd → (Int → Wd → Prop) → Xt → Prop) (p : Int) (r : PR) : Prop :=
  ∀ (k n : Nat) (Q : Int → Wd → Prop) (X : Xt), (r.1 = true → R32 (val a r.2.2) → Q (val a r.2.2) (Wp G0 g b ci tb size E rest r.2.1)) → (r.1 = false → (1 ≤ k ∧ 7 ≤ n) ∧ FX G0 g b ci tb size E rest X r.2.1) → F k n (Wp G0 g b ci tb size E rest p) Q X
/-- it is called: cells are given only where it fails -/
theorem SysC.call {a : Int → Int} {F : Nat → Nat → Wd → (Int → Wd → Prop) → Xt → Prop} {r : PR} {C : Prop} {k n : Nat} {Q : Nat → Nat → Int → Wd → Prop} {X : Xt} (hF : SysC G0 g b ci tb size E rest a F p r) (hC : C) (h1 : r.1 = true → R32 (val a r.2.2) → Q 0 0 (val a r.2.2) (Wp G0 g b ci tb size E rest r.2.1)) (h0 : r.1 = false → (1 ≤ k ∧ 7 ≤ n) ∧ FX G0 g b ci tb size E rest X r.2.1) :
    ∃ k20 n21, (k20 ≤ k ∧ n21 ≤ n) ∧ (C ∧ F k20 n21 (Wp G0 g b ci tb size E rest p) (fun x G => Q k20 n21 x G) X) := by
  cases hr : r.1 with
  | true => exact ⟨0, 0, ⟨by omega, by omega⟩, hC, hF 0 0 _ X h1 (fun z => by rw [hr] at z; cases z)⟩
  | false =>
    obtain ⟨hk, hX⟩ := h0 hr
    exact ⟨1, 7, ⟨hk.1, hk.2⟩, hC, hF 1 7 _ X (fun z => by rw [hr] at z; cases z) (fun _ => ⟨⟨by omega, by omega⟩, hX⟩)⟩
end
/-! rules: objects 6 in region 5 -/
theorem R32.bo1 {c : Prop} [Decidable c] : R32 (bo1 c) := by unfold Jvm.Pilot.N0.bo1; split; exact r1; exact r0
theorem work_r {k a b : Int} : R32 (work k a b) := by
  unfold work
  split
  · exact R32.bo1
  · split
    · exact R32.bo1
    · split
      · exact R32.bo1
      · split
        · exact wr_r _
        · split
          · exact wr_r _
          · split
            · exact wr_r _
            · split
              · exact r0
              · exact wr_r _
section
variable {G0 : Wd} {g b tb h : Nat} {size E : Int} {rest : List Value} {f : Int → Int} {a : Int → Int}
theorem pF_at {p : Int} {K : Wd → Prop} (hg : g ≠ 0) (hK : K (Wp G0 g b 6 tb size E rest (p + 1))) : gI (Wp G0 g b 6 tb size E rest p) b [6] 3 (fun x => pF (Wp G0 g b 6 tb size E rest p) b [6] 3 (vI (wr (x + 1))) K) := by
  refine gI_of Wp_at (by decide) rfl (pF_of Wp_at hg (by decide) (by show 3 < _ + 1 + 1 + 1 + 1; omega) ?_)
  have : (vR (some tb) :: vI size :: vI E :: vI p :: rest).set 3 (vI (wr (p + 1))) = vR (some tb) :: vI size :: vI E :: vI (p + 1) :: rest := by
    rw [vI_wr]; rfl
  rw [this, Wp_set]
  exact hK
/-- products -/
theorem s_product {T : Nat → Nat → Nat → Int → Wd → (Int → Wd → Prop) → Xt → Prop} {deep : Int} {pt : Int → PR} (ht : TxA G0 g b h tb f) (hg : g ≠ 0) (hE : 0 ≤ E ∧ E ≤ 49) (P : Int) (hP : 0 ≤ P) (hpt : ∀ q, P ≤ q → q ≤ E → POK E q (pt q)) (hT : ∀ q, P ≤ q → q ≤ E → SysC G0 g b 6 tb size E rest a (fun k n G Q X => T k n b deep G Q X) q (pt q)) :
    ∀ p, P ≤ p → p ≤ E → SysC G0 g b 6 tb size E rest a (fun k n G Q X => f_X7_product T k n b deep G Q X) p (pProd (xf f) E pt p) := by
  have lp : ∀ (m : Nat) (q : Int) (cs : List Int) (k n : Nat) (Q : Int → Wd → Prop) (X : Xt), E - q < m → P ≤ q → q ≤ E → Gd cs → R32 (val a cs) →
      ((pLoop (xf f) E [42, 47] 2005 pt m q cs).1 = true → R32 (val a (pLoop (xf f) E [42, 47] 2005 pt m q cs).2.2) → Q (val a (pLoop (xf f) E [42, 47] 2005 pt m q cs).2.2) (Wp G0 g b 6 tb size E rest (pLoop (xf f) E [42, 47] 2005 pt m q cs).2.1)) →
      ((pLoop (xf f) E [42, 47] 2005 pt m q cs).1 = false → (1 ≤ k ∧ 7 ≤ n) ∧ FX G0 g b 6 tb size E rest X (pLoop (xf f) E [42, 47] 2005 pt m q cs).2.1) →
      f_X7_product_6 T b Q X m k n deep (val a cs) (Wp G0 g b 6 tb size E rest q) := by
    intro m
    induction m with
    | zero => intro q cs k n Q X hm h0 h1; omega
    | succ m ih =>
      intro q cs k n Q X hm hPq hqE hcs hrv h1 h0
      have hrr := hr_r (E := E) (p := q) (xf_r (f := f)) (by omega) (by omega)
      unfold pLoop at h1 h0
      unfold f_X7_product_6 f_X7_product_6_b
      have r42 : R32 42 := ⟨by decide, by decide⟩
      have r47 : R32 47 := ⟨by decide, by decide⟩
      have go : ∀ (j : Nat) (s0 : Bool), ix [42, 47] (hr (xf f) E q) = some j → (s0 = true ↔ j = 0) → f_X7_product_38 T b (fun k n l1 l2 G => f_X7_product_6 T b Q X m k n l1 l2 G) k n deep (val a cs) s0 (Wp G0 g b 6 tb size E rest q) Q X := by
        intro j s0 hj hs0
        rw [hj] at h1 h0
        simp only at h1 h0
        have hqlt := ix_lt hj (by decide)
        have hj2 : j < 2 := (ix_some hj).1
        unfold f_X7_product_38 f_X7_product_80
        refine pF_at hg ?_
        refine (hT (q + 1) (by omega) (by omega)).call (C := isC (Wp G0 g b 6 tb size E rest (q + 1)) b 6) (Q := fun k20 n21 x22 G19 => brB s0 (f_X7_product_6 T b Q X m (k - k20) (n - n21) deep (wr (val a cs * x22)) G19) (br0 x22 (¬ x22 = 0) (okd (val a cs) x22 (f_X7_product_6 T b Q X m (k - k20) (n - n21) deep (wr ((val a cs).tdiv x22)) G19)) (f_X7_product_6 T b Q X m (k - k20) (n - n21) deep 0 G19))) (isC_of Wp_at) (fun hok hrx => ?_) (fun hno => ?_)
        · rw [if_pos hok] at h1 h0
          obtain ⟨t1, t2, t3, t4⟩ := (hpt (q + 1) (by omega) (by omega)).1 hok
          obtain ⟨g1, g2⟩ := hcs.op (k := (5 + j : Int)) t3 (by omega)
          have e5 : (2005 + (j : Int)) = 2000 + (5 + j) := by omega
          rw [e5] at h1 h0
          have nx := ih (pt (q + 1)).2.1 _ (k - 0) (n - 0) Q X (by omega) (by omega) t2 g1 (by rw [g2 a]; exact work_r) h1 h0
          rw [g2 a] at nx
          cases s0 with
          | true =>
            have : j = 0 := hs0.mp rfl
            subst this
            exact brB_T nx
          | false =>
            have : j = 1 := by
              have : j ≠ 0 := fun z => by have := hs0.mpr z; cases this
              omega
            subst this
            refine brB_F ⟨hrx, fun z => ⟨⟨hrv, hrx, z⟩, ?_⟩, fun z => ?_⟩
            · have ew : work (5 + ((1 : Nat) : Int)) (val a cs) (val a (pt (q + 1)).2.2) = wr ((val a cs).tdiv (val a (pt (q + 1)).2.2)) := by
                unfold work
                rw [if_neg (by decide), if_neg (by decide), if_neg (by decide), if_neg (by decide), if_neg (by decide), if_neg (by decide), if_neg z]
              rw [ew] at nx; exact nx
            · have z : val a (pt (q + 1)).2.2 = 0 := Decidable.of_not_not z
              have ew : work (5 + ((1 : Nat) : Int)) (val a cs) (val a (pt (q + 1)).2.2) = 0 := by
                unfold work
                rw [if_neg (by decide), if_neg (by decide), if_neg (by decide), if_neg (by decide), if_neg (by decide), if_neg (by decide), if_pos z]
              rw [ew] at nx; exact nx
        · rw [if_neg (by rw [hno]; simp)] at h1 h0
          exact h0 rfl
      refine ⟨isC_of Wp_at, p_here ht (by omega) (by omega) (by omega) ⟨⟨hrr.1, r42⟩, fun e => ?_, fun e => ⟨isC_of Wp_at, p_here ht (by omega) (by omega) (by omega) ⟨⟨hrr.1, r47⟩, fun e2 => ?_, fun e2 => ?_⟩⟩⟩⟩
      · unfold f_X7_product_24
        refine ⟨isC_of Wp_at, p_here ht (by omega) (by omega) (by omega) ⟨⟨hrr.1, r42⟩, fun z => absurd e z, fun _ => go 0 true (by rw [e]; decide) (by simp)⟩⟩
      · have : ix [42, 47] (hr (xf f) E q) = none := by
          unfold ix
          rw [List.findIdx?_eq_none_iff]
          intro y hy
          rcases List.mem_cons.mp hy with rfl | hy
          · exact decide_eq_false (fun z => e z.symm)
          · rw [List.mem_singleton.mp hy]; exact decide_eq_false (fun z => e2 z.symm)
        rw [this] at h1
        exact h1 rfl hrv
      · have e2 : hr (xf f) E q = 47 := Decidable.of_not_not e2
        unfold f_X7_product_24
        refine ⟨isC_of Wp_at, p_here ht (by omega) (by omega) (by omega) ⟨⟨hrr.1, r42⟩, fun _ => go 1 false (by rw [e2]; decide) (by simp), fun z => absurd (Decidable.of_not_not z) e⟩⟩
  intro p hPp hpE k n Q X h1 h0
  unfold pProd pRank at h1 h0
  unfold f_X7_product
  refine (hT p hPp hpE).call (Q := fun k30 n31 x32 G29 => ∃ fl33, f_X7_product_6 T b Q X fl33 (k - k30) (n - n31) deep x32 G29) (isC_of Wp_at) (fun hok hrx => ?_) (fun hno => ?_)
  · rw [if_pos hok] at h1 h0
    obtain ⟨t1, t2, t3, t4⟩ := (hpt p hPp hpE).1 hok
    exact ⟨50, lp 50 (pt p).2.1 (pt p).2.2 (k - 0) (n - 0) Q X (by omega) (by omega) t2 t3 hrx h1 h0⟩
  · rw [if_neg (by rw [hno]; simp)] at h1 h0
    exact h0 rfl
/-- sums -/
theorem s_sum {T : Nat → Nat → Nat → Int → Wd → (Int → Wd → Prop) → Xt → Prop} {deep : Int} {pt : Int → PR} (ht : TxA G0 g b h tb f) (hg : g ≠ 0) (hE : 0 ≤ E ∧ E ≤ 49) (P : Int) (hP : 0 ≤ P) (hpt : ∀ q, P ≤ q → q ≤ E → POK E q (pt q)) (hT : ∀ q, P ≤ q → q ≤ E → SysC G0 g b 6 tb size E rest a (fun k n G Q X => f_X7_product T k n b deep G Q X) q (pt q)) :
    ∀ p, P ≤ p → p ≤ E → SysC G0 g b 6 tb size E rest a (fun k n G Q X => f_X7_sum T k n b deep G Q X) p (pRank (xf f) E [43, 45] 2003 pt p) := by
  have lp : ∀ (m : Nat) (q : Int) (cs : List Int) (k n : Nat) (Q : Int → Wd → Prop) (X : Xt), E - q < m → P ≤ q → q ≤ E → Gd cs → R32 (val a cs) →
      ((pLoop (xf f) E [43, 45] 2003 pt m q cs).1 = true → R32 (val a (pLoop (xf f) E [43, 45] 2003 pt m q cs).2.2) → Q (val a (pLoop (xf f) E [43, 45] 2003 pt m q cs).2.2) (Wp G0 g b 6 tb size E rest (pLoop (xf f) E [43, 45] 2003 pt m q cs).2.1)) →
      ((pLoop (xf f) E [43, 45] 2003 pt m q cs).1 = false → (1 ≤ k ∧ 7 ≤ n) ∧ FX G0 g b 6 tb size E rest X (pLoop (xf f) E [43, 45] 2003 pt m q cs).2.1) →
      f_X7_sum_6 T b Q X m k n deep (val a cs) (Wp G0 g b 6 tb size E rest q) := by
    intro m
    induction m with
    | zero => intro q cs k n Q X hm h0 h1; omega
    | succ m ih =>
      intro q cs k n Q X hm hPq hqE hcs hrv h1 h0
      have hrr := hr_r (E := E) (p := q) (xf_r (f := f)) (by omega) (by omega)
      unfold pLoop at h1 h0
      unfold f_X7_sum_6 f_X7_sum_6_b
      have r42 : R32 43 := ⟨by decide, by decide⟩
      have r47 : R32 45 := ⟨by decide, by decide⟩
      have go : ∀ (j : Nat) (s0 : Bool), ix [43, 45] (hr (xf f) E q) = some j → (s0 = true ↔ j = 0) → f_X7_sum_38 T b (fun k n l1 l2 G => f_X7_sum_6 T b Q X m k n l1 l2 G) k n deep (val a cs) s0 (Wp G0 g b 6 tb size E rest q) Q X := by
        intro j s0 hj hs0
        rw [hj] at h1 h0
        simp only at h1 h0
        have hqlt := ix_lt hj (by decide)
        have hj2 : j < 2 := (ix_some hj).1
        unfold f_X7_sum_38 f_X7_sum_71
        refine pF_at hg ?_
        refine (hT (q + 1) (by omega) (by omega)).call (C := isC (Wp G0 g b 6 tb size E rest (q + 1)) b 6) (Q := fun k20 n21 x22 G19 => brB s0 (f_X7_sum_6 T b Q X m (k - k20) (n - n21) deep (wr (val a cs + x22)) G19) (f_X7_sum_6 T b Q X m (k - k20) (n - n21) deep (wr (val a cs - x22)) G19)) (isC_of Wp_at) (fun hok hrx => ?_) (fun hno => ?_)
        · rw [if_pos hok] at h1 h0
          obtain ⟨t1, t2, t3, t4⟩ := (hpt (q + 1) (by omega) (by omega)).1 hok
          obtain ⟨g1, g2⟩ := hcs.op (k := (3 + j : Int)) t3 (by omega)
          have e5 : (2003 + (j : Int)) = 2000 + (3 + j) := by omega
          rw [e5] at h1 h0
          have nx := ih (pt (q + 1)).2.1 _ (k - 0) (n - 0) Q X (by omega) (by omega) t2 g1 (by rw [g2 a]; exact work_r) h1 h0
          rw [g2 a] at nx
          cases s0 with
          | true =>
            have : j = 0 := hs0.mp rfl
            subst this
            exact brB_T nx
          | false =>
            have : j = 1 := by
              have : j ≠ 0 := fun z => by have := hs0.mpr z; cases this
              omega
            subst this
            exact brB_F nx
        · rw [if_neg (by rw [hno]; simp)] at h1 h0
          exact h0 rfl
      refine ⟨isC_of Wp_at, p_here ht (by omega) (by omega) (by omega) ⟨⟨hrr.1, r42⟩, fun e => ?_, fun e => ⟨isC_of Wp_at, p_here ht (by omega) (by omega) (by omega) ⟨⟨hrr.1, r47⟩, fun e2 => ?_, fun e2 => ?_⟩⟩⟩⟩
      · unfold f_X7_sum_24
        refine ⟨isC_of Wp_at, p_here ht (by omega) (by omega) (by omega) ⟨⟨hrr.1, r42⟩, fun z => absurd e z, fun _ => go 0 true (by rw [e]; decide) (by simp)⟩⟩
      · have : ix [43, 45] (hr (xf f) E q) = none := by
          unfold ix
          rw [List.findIdx?_eq_none_iff]
          intro y hy
          rcases List.mem_cons.mp hy with rfl | hy
          · exact decide_eq_false (fun z => e z.symm)
          · rw [List.mem_singleton.mp hy]; exact decide_eq_false (fun z => e2 z.symm)
        rw [this] at h1
        exact h1 rfl hrv
      · have e2 : hr (xf f) E q = 45 := Decidable.of_not_not e2
        unfold f_X7_sum_24
        refine ⟨isC_of Wp_at, p_here ht (by omega) (by omega) (by omega) ⟨⟨hrr.1, r42⟩, fun _ => go 1 false (by rw [e2]; decide) (by simp), fun z => absurd (Decidable.of_not_not z) e⟩⟩
  intro p hPp hpE k n Q X h1 h0
  unfold pRank at h1 h0
  unfold f_X7_sum
  refine (hT p hPp hpE).call (Q := fun k30 n31 x32 G29 => ∃ fl33, f_X7_sum_6 T b Q X fl33 (k - k30) (n - n31) deep x32 G29) (isC_of Wp_at) (fun hok hrx => ?_) (fun hno => ?_)
  · rw [if_pos hok] at h1 h0
    obtain ⟨t1, t2, t3, t4⟩ := (hpt p hPp hpE).1 hok
    exact ⟨50, lp 50 (pt p).2.1 (pt p).2.2 (k - 0) (n - 0) Q X (by omega) (by omega) t2 t3 hrx h1 h0⟩
  · rw [if_neg (by rw [hno]; simp)] at h1 h0
    exact h0 rfl
end
