/-! PURE PROOFS: the world of a QueueDrive: its cell in region 2000, its rows in 2000 + field, drives i in 100 i + 10 (printed by genq.py) -/
set_option maxRecDepth 100000
def Wo (G : Wd) (x : Nat) (A : Nat → Nat) (rf : Nat → Nat → Nat → Nat) (E : Nat → Bool) (dr : Nat → DS) (u : Nat → Int) (ru : Option Nat) (ai : Nat → Int → Int) (ar : Nat → Int → Option Nat) : Prop :=
  G 2000 x = some (oB 0 [vR (some (rf 0 8 0)), vR (some (rf 1 8 0)), vR (some (rf 2 8 0)), vR (some (A 3)), vI (u 4), vI (u 5), vR (some (A 6)), vI (u 7), vR (some (A 8)), vI (u 9), vR ru, vI (u 11), vI (u 12), vI (u 13), vR (some (A 14)), vR (some (A 15)), vI (u 16), vR (some (A 17)), vR (some (A 18)), vI (u 19), vR (some (A 20)), vR (some (A 21))]) ∧ (∀ i, i < 13 → E i = true → DrA G (100 * i + 10) (rf i 8 0) (rf i) (dr i)) ∧
  G 2003 (A 3) = some (aR 6 8 (ar 3)) ∧ G 2006 (A 6) = some (aI 1 80 (ai 6)) ∧ G 2008 (A 8) = some (aJ 16 (ai 8)) ∧ G 2014 (A 14) = some (aI 0 12 (ai 14)) ∧ G 2015 (A 15) = some (aI 0 12 (ai 15)) ∧ G 2017 (A 17) = some (aR 8 80 (ar 17)) ∧ G 2018 (A 18) = some (aI 2 80 (ai 18)) ∧ G 2020 (A 20) = some (aR 6 2 (ar 20)) ∧ G 2021 (A 21) = some (aI 0 2 (ai 21))
abbrev FQ (G G' : Wd) : Prop := FrX 10 2100 G G'
section
variable {G G' : Wd} {x : Nat} {A : Nat → Nat} {rf : Nat → Nat → Nat → Nat} {E : Nat → Bool} {dr : Nat → DS} {u : Nat → Int} {ru : Option Nat} {ai : Nat → Int → Int} {ar : Nat → Int → Option Nat}
theorem Wo.cell (h : Wo G x A rf E dr u ru ai ar) : G 2000 x = some (oB 0 [vR (some (rf 0 8 0)), vR (some (rf 1 8 0)), vR (some (rf 2 8 0)), vR (some (A 3)), vI (u 4), vI (u 5), vR (some (A 6)), vI (u 7), vR (some (A 8)), vI (u 9), vR ru, vI (u 11), vI (u 12), vI (u 13), vR (some (A 14)), vR (some (A 15)), vI (u 16), vR (some (A 17)), vR (some (A 18)), vI (u 19), vR (some (A 20)), vR (some (A 21))]) := h.1
theorem Wo.drv (h : Wo G x A rf E dr u ru ai ar) {i : Nat} (hi : i < 13) (he : E i = true) : DrA G (100 * i + 10) (rf i 8 0) (rf i) (dr i) := h.2.1 i hi he
theorem Wo.a3 (h : Wo G x A rf E dr u ru ai ar) : G 2003 (A 3) = some (aR 6 8 (ar 3)) := h.2.2.1
theorem Wo.a6 (h : Wo G x A rf E dr u ru ai ar) : G 2006 (A 6) = some (aI 1 80 (ai 6)) := h.2.2.2.1
theorem Wo.a8 (h : Wo G x A rf E dr u ru ai ar) : G 2008 (A 8) = some (aJ 16 (ai 8)) := h.2.2.2.2.1
theorem Wo.a14 (h : Wo G x A rf E dr u ru ai ar) : G 2014 (A 14) = some (aI 0 12 (ai 14)) := h.2.2.2.2.2.1
theorem Wo.a15 (h : Wo G x A rf E dr u ru ai ar) : G 2015 (A 15) = some (aI 0 12 (ai 15)) := h.2.2.2.2.2.2.1
theorem Wo.a17 (h : Wo G x A rf E dr u ru ai ar) : G 2017 (A 17) = some (aR 8 80 (ar 17)) := h.2.2.2.2.2.2.2.1
theorem Wo.a18 (h : Wo G x A rf E dr u ru ai ar) : G 2018 (A 18) = some (aI 2 80 (ai 18)) := h.2.2.2.2.2.2.2.2.1
theorem Wo.a20 (h : Wo G x A rf E dr u ru ai ar) : G 2020 (A 20) = some (aR 6 2 (ar 20)) := h.2.2.2.2.2.2.2.2.2.1
theorem Wo.a21 (h : Wo G x A rf E dr u ru ai ar) : G 2021 (A 21) = some (aI 0 2 (ai 21)) := h.2.2.2.2.2.2.2.2.2.2
/-- what is written elsewhere -/
theorem Wo.fr {lo hi : Nat} (h : Wo G x A rf E dr u ru ai ar) (f : FrX lo hi G G') (hl : hi ≤ 10 ∨ 2100 ≤ lo) : Wo G' x A rf E dr u ru ai ar := by
  have e : ∀ r, 1999 < r → r < 2100 → G' r = G r := fun r r1 r2 => f.1 r (by omega) (by omega) (by omega) (by omega) (by omega)
  refine ⟨by rw [e _ (by omega) (by omega)]; exact h.1, fun i hi he => (h.drv hi he).otherX f (by omega) (by omega), by rw [e _ (by omega) (by omega)]; exact h.a3, by rw [e _ (by omega) (by omega)]; exact h.a6, by rw [e _ (by omega) (by omega)]; exact h.a8, by rw [e _ (by omega) (by omega)]; exact h.a14, by rw [e _ (by omega) (by omega)]; exact h.a15, by rw [e _ (by omega) (by omega)]; exact h.a17, by rw [e _ (by omega) (by omega)]; exact h.a18, by rw [e _ (by omega) (by omega)]; exact h.a20, by rw [e _ (by omega) (by omega)]; exact h.a21⟩
/-- drive i is another one -/
theorem Wo.upd {i : Nat} {d' : DS} (h : Wo G x A rf E dr u ru ai ar) (f : FrX (100 * i + 10) (100 * i + 110) G G') (hi : i < 13) (hd : DrA G' (100 * i + 10) (rf i 8 0) (rf i) d') : Wo G' x A rf E (nup dr i d') u ru ai ar := by
  have e : ∀ r, 1999 < r → r < 2100 → G' r = G r := fun r r1 r2 => f.1 r (by omega) (by omega) (by omega) (by omega) (by omega)
  refine ⟨by rw [e _ (by omega) (by omega)]; exact h.1, fun j hj he => ?_, by rw [e _ (by omega) (by omega)]; exact h.a3, by rw [e _ (by omega) (by omega)]; exact h.a6, by rw [e _ (by omega) (by omega)]; exact h.a8, by rw [e _ (by omega) (by omega)]; exact h.a14, by rw [e _ (by omega) (by omega)]; exact h.a15, by rw [e _ (by omega) (by omega)]; exact h.a17, by rw [e _ (by omega) (by omega)]; exact h.a18, by rw [e _ (by omega) (by omega)]; exact h.a20, by rw [e _ (by omega) (by omega)]; exact h.a21⟩
  by_cases ej : j = i
  · subst ej; rw [nup_at]; exact hd
  · rw [nup_ne ej]; exact (h.drv hj he).otherX f (by omega) (by omega)
theorem FrX.q {i : Nat} (f : FrX (100 * i + 10) (100 * i + 110) G G') (hi : i < 13) : FQ G G' := f.wide (by omega) (by omega)
theorem FrX.ws {r a lo hi : Nat} {e : QE} (h1 : 7 < r) (hlo : lo ≤ r) (hhi : r < hi) : FrX lo hi G (wset G r a e) := (FrR.ws (by omega) hlo hhi).x
theorem gQ_4 {K : Int → Prop} (h : Wo G x A rf E dr u ru ai ar) (hk : K (u 4)) : gI G x [0] 4 K := gI_of h.cell (by decide) rfl hk
theorem gQ_5 {K : Int → Prop} (h : Wo G x A rf E dr u ru ai ar) (hk : K (u 5)) : gI G x [0] 5 K := gI_of h.cell (by decide) rfl hk
theorem gQ_7 {K : Int → Prop} (h : Wo G x A rf E dr u ru ai ar) (hk : K (u 7)) : gI G x [0] 7 K := gI_of h.cell (by decide) rfl hk
theorem gQ_9 {K : Int → Prop} (h : Wo G x A rf E dr u ru ai ar) (hk : K (u 9)) : gI G x [0] 9 K := gI_of h.cell (by decide) rfl hk
theorem gQ_11 {K : Int → Prop} (h : Wo G x A rf E dr u ru ai ar) (hk : K (u 11)) : gI G x [0] 11 K := gI_of h.cell (by decide) rfl hk
theorem gQ_12 {K : Int → Prop} (h : Wo G x A rf E dr u ru ai ar) (hk : K (u 12)) : gI G x [0] 12 K := gI_of h.cell (by decide) rfl hk
theorem gQ_13 {K : Int → Prop} (h : Wo G x A rf E dr u ru ai ar) (hk : K (u 13)) : gI G x [0] 13 K := gI_of h.cell (by decide) rfl hk
theorem gQ_16 {K : Int → Prop} (h : Wo G x A rf E dr u ru ai ar) (hk : K (u 16)) : gI G x [0] 16 K := gI_of h.cell (by decide) rfl hk
theorem gQ_19 {K : Int → Prop} (h : Wo G x A rf E dr u ru ai ar) (hk : K (u 19)) : gI G x [0] 19 K := gI_of h.cell (by decide) rfl hk
theorem gQ_0 {K : Option Nat → Prop} (h : Wo G x A rf E dr u ru ai ar) (hk : K (some (rf 0 8 0))) : gR G x [0] 0 K := gR_of h.cell (by decide) rfl hk
theorem gQ_1 {K : Option Nat → Prop} (h : Wo G x A rf E dr u ru ai ar) (hk : K (some (rf 1 8 0))) : gR G x [0] 1 K := gR_of h.cell (by decide) rfl hk
theorem gQ_2 {K : Option Nat → Prop} (h : Wo G x A rf E dr u ru ai ar) (hk : K (some (rf 2 8 0))) : gR G x [0] 2 K := gR_of h.cell (by decide) rfl hk
theorem gQ_3 {K : Option Nat → Prop} (h : Wo G x A rf E dr u ru ai ar) (hk : K (some (A 3))) : gR G x [0] 3 K := gR_of h.cell (by decide) rfl hk
theorem gQ_6 {K : Option Nat → Prop} (h : Wo G x A rf E dr u ru ai ar) (hk : K (some (A 6))) : gR G x [0] 6 K := gR_of h.cell (by decide) rfl hk
theorem gQ_8 {K : Option Nat → Prop} (h : Wo G x A rf E dr u ru ai ar) (hk : K (some (A 8))) : gR G x [0] 8 K := gR_of h.cell (by decide) rfl hk
theorem gQ_14 {K : Option Nat → Prop} (h : Wo G x A rf E dr u ru ai ar) (hk : K (some (A 14))) : gR G x [0] 14 K := gR_of h.cell (by decide) rfl hk
theorem gQ_15 {K : Option Nat → Prop} (h : Wo G x A rf E dr u ru ai ar) (hk : K (some (A 15))) : gR G x [0] 15 K := gR_of h.cell (by decide) rfl hk
theorem gQ_17 {K : Option Nat → Prop} (h : Wo G x A rf E dr u ru ai ar) (hk : K (some (A 17))) : gR G x [0] 17 K := gR_of h.cell (by decide) rfl hk
theorem gQ_18 {K : Option Nat → Prop} (h : Wo G x A rf E dr u ru ai ar) (hk : K (some (A 18))) : gR G x [0] 18 K := gR_of h.cell (by decide) rfl hk
theorem gQ_20 {K : Option Nat → Prop} (h : Wo G x A rf E dr u ru ai ar) (hk : K (some (A 20))) : gR G x [0] 20 K := gR_of h.cell (by decide) rfl hk
theorem gQ_21 {K : Option Nat → Prop} (h : Wo G x A rf E dr u ru ai ar) (hk : K (some (A 21))) : gR G x [0] 21 K := gR_of h.cell (by decide) rfl hk
theorem gQ_10 {K : Option Nat → Prop} (h : Wo G x A rf E dr u ru ai ar) (hk : K ru) : gR G x [0] 10 K := gR_of h.cell (by decide) rfl hk
theorem cQ (h : Wo G x A rf E dr u ru ai ar) : isC G x 0 := isC_of h.cell
theorem pQ_4 {K : Wd → Prop} {y : Int} (h : Wo G x A rf E dr u ru ai ar) (hk : ∀ G', Wo G' x A rf E dr (nup u 4 y) ru ai ar → FrX 2000 2001 G G' → K G') : pF G x [0] 4 (vI y) K := by
  have f : ∀ e, FrX 2000 2001 G (wset G 2000 x e) := fun e => FrX.ws (by decide) (by decide) (by decide)
  refine pF_of h.cell (by decide) (by decide) (by (exact Nat.le_of_ble_eq_true rfl)) (hk _ ⟨?_, fun i hi he => (h.drv hi he).otherX (f _) (by omega) (by omega), by rw [wset2 (by decide)]; exact h.a3, by rw [wset2 (by decide)]; exact h.a6, by rw [wset2 (by decide)]; exact h.a8, by rw [wset2 (by decide)]; exact h.a14, by rw [wset2 (by decide)]; exact h.a15, by rw [wset2 (by decide)]; exact h.a17, by rw [wset2 (by decide)]; exact h.a18, by rw [wset2 (by decide)]; exact h.a20, by rw [wset2 (by decide)]; exact h.a21⟩ (f _))
  rw [wset_at, nup_at]
  rw [nup_ne (j := 5) (by decide), nup_ne (j := 7) (by decide), nup_ne (j := 9) (by decide), nup_ne (j := 11) (by decide), nup_ne (j := 12) (by decide), nup_ne (j := 13) (by decide), nup_ne (j := 16) (by decide), nup_ne (j := 19) (by decide)]
  rfl
theorem pQ_5 {K : Wd → Prop} {y : Int} (h : Wo G x A rf E dr u ru ai ar) (hk : ∀ G', Wo G' x A rf E dr (nup u 5 y) ru ai ar → FrX 2000 2001 G G' → K G') : pF G x [0] 5 (vI y) K := by
  have f : ∀ e, FrX 2000 2001 G (wset G 2000 x e) := fun e => FrX.ws (by decide) (by decide) (by decide)
  refine pF_of h.cell (by decide) (by decide) (by (exact Nat.le_of_ble_eq_true rfl)) (hk _ ⟨?_, fun i hi he => (h.drv hi he).otherX (f _) (by omega) (by omega), by rw [wset2 (by decide)]; exact h.a3, by rw [wset2 (by decide)]; exact h.a6, by rw [wset2 (by decide)]; exact h.a8, by rw [wset2 (by decide)]; exact h.a14, by rw [wset2 (by decide)]; exact h.a15, by rw [wset2 (by decide)]; exact h.a17, by rw [wset2 (by decide)]; exact h.a18, by rw [wset2 (by decide)]; exact h.a20, by rw [wset2 (by decide)]; exact h.a21⟩ (f _))
  rw [wset_at, nup_at]
  rw [nup_ne (j := 4) (by decide), nup_ne (j := 7) (by decide), nup_ne (j := 9) (by decide), nup_ne (j := 11) (by decide), nup_ne (j := 12) (by decide), nup_ne (j := 13) (by decide), nup_ne (j := 16) (by decide), nup_ne (j := 19) (by decide)]
  rfl
theorem pQ_7 {K : Wd → Prop} {y : Int} (h : Wo G x A rf E dr u ru ai ar) (hk : ∀ G', Wo G' x A rf E dr (nup u 7 y) ru ai ar → FrX 2000 2001 G G' → K G') : pF G x [0] 7 (vI y) K := by
  have f : ∀ e, FrX 2000 2001 G (wset G 2000 x e) := fun e => FrX.ws (by decide) (by decide) (by decide)
  refine pF_of h.cell (by decide) (by decide) (by (exact Nat.le_of_ble_eq_true rfl)) (hk _ ⟨?_, fun i hi he => (h.drv hi he).otherX (f _) (by omega) (by omega), by rw [wset2 (by decide)]; exact h.a3, by rw [wset2 (by decide)]; exact h.a6, by rw [wset2 (by decide)]; exact h.a8, by rw [wset2 (by decide)]; exact h.a14, by rw [wset2 (by decide)]; exact h.a15, by rw [wset2 (by decide)]; exact h.a17, by rw [wset2 (by decide)]; exact h.a18, by rw [wset2 (by decide)]; exact h.a20, by rw [wset2 (by decide)]; exact h.a21⟩ (f _))
  rw [wset_at, nup_at]
  rw [nup_ne (j := 4) (by decide), nup_ne (j := 5) (by decide), nup_ne (j := 9) (by decide), nup_ne (j := 11) (by decide), nup_ne (j := 12) (by decide), nup_ne (j := 13) (by decide), nup_ne (j := 16) (by decide), nup_ne (j := 19) (by decide)]
  rfl
theorem pQ_9 {K : Wd → Prop} {y : Int} (h : Wo G x A rf E dr u ru ai ar) (hk : ∀ G', Wo G' x A rf E dr (nup u 9 y) ru ai ar → FrX 2000 2001 G G' → K G') : pF G x [0] 9 (vI y) K := by
  have f : ∀ e, FrX 2000 2001 G (wset G 2000 x e) := fun e => FrX.ws (by decide) (by decide) (by decide)
  refine pF_of h.cell (by decide) (by decide) (by (exact Nat.le_of_ble_eq_true rfl)) (hk _ ⟨?_, fun i hi he => (h.drv hi he).otherX (f _) (by omega) (by omega), by rw [wset2 (by decide)]; exact h.a3, by rw [wset2 (by decide)]; exact h.a6, by rw [wset2 (by decide)]; exact h.a8, by rw [wset2 (by decide)]; exact h.a14, by rw [wset2 (by decide)]; exact h.a15, by rw [wset2 (by decide)]; exact h.a17, by rw [wset2 (by decide)]; exact h.a18, by rw [wset2 (by decide)]; exact h.a20, by rw [wset2 (by decide)]; exact h.a21⟩ (f _))
  rw [wset_at, nup_at]
  rw [nup_ne (j := 4) (by decide), nup_ne (j := 5) (by decide), nup_ne (j := 7) (by decide), nup_ne (j := 11) (by decide), nup_ne (j := 12) (by decide), nup_ne (j := 13) (by decide), nup_ne (j := 16) (by decide), nup_ne (j := 19) (by decide)]
  rfl
theorem pQ_11 {K : Wd → Prop} {y : Int} (h : Wo G x A rf E dr u ru ai ar) (hk : ∀ G', Wo G' x A rf E dr (nup u 11 y) ru ai ar → FrX 2000 2001 G G' → K G') : pF G x [0] 11 (vI y) K := by
  have f : ∀ e, FrX 2000 2001 G (wset G 2000 x e) := fun e => FrX.ws (by decide) (by decide) (by decide)
  refine pF_of h.cell (by decide) (by decide) (by (exact Nat.le_of_ble_eq_true rfl)) (hk _ ⟨?_, fun i hi he => (h.drv hi he).otherX (f _) (by omega) (by omega), by rw [wset2 (by decide)]; exact h.a3, by rw [wset2 (by decide)]; exact h.a6, by rw [wset2 (by decide)]; exact h.a8, by rw [wset2 (by decide)]; exact h.a14, by rw [wset2 (by decide)]; exact h.a15, by rw [wset2 (by decide)]; exact h.a17, by rw [wset2 (by decide)]; exact h.a18, by rw [wset2 (by decide)]; exact h.a20, by rw [wset2 (by decide)]; exact h.a21⟩ (f _))
  rw [wset_at, nup_at]
  rw [nup_ne (j := 4) (by decide), nup_ne (j := 5) (by decide), nup_ne (j := 7) (by decide), nup_ne (j := 9) (by decide), nup_ne (j := 12) (by decide), nup_ne (j := 13) (by decide), nup_ne (j := 16) (by decide), nup_ne (j := 19) (by decide)]
  rfl
theorem pQ_12 {K : Wd → Prop} {y : Int} (h : Wo G x A rf E dr u ru ai ar) (hk : ∀ G', Wo G' x A rf E dr (nup u 12 y) ru ai ar → FrX 2000 2001 G G' → K G') : pF G x [0] 12 (vI y) K := by
  have f : ∀ e, FrX 2000 2001 G (wset G 2000 x e) := fun e => FrX.ws (by decide) (by decide) (by decide)
  refine pF_of h.cell (by decide) (by decide) (by (exact Nat.le_of_ble_eq_true rfl)) (hk _ ⟨?_, fun i hi he => (h.drv hi he).otherX (f _) (by omega) (by omega), by rw [wset2 (by decide)]; exact h.a3, by rw [wset2 (by decide)]; exact h.a6, by rw [wset2 (by decide)]; exact h.a8, by rw [wset2 (by decide)]; exact h.a14, by rw [wset2 (by decide)]; exact h.a15, by rw [wset2 (by decide)]; exact h.a17, by rw [wset2 (by decide)]; exact h.a18, by rw [wset2 (by decide)]; exact h.a20, by rw [wset2 (by decide)]; exact h.a21⟩ (f _))
  rw [wset_at, nup_at]
  rw [nup_ne (j := 4) (by decide), nup_ne (j := 5) (by decide), nup_ne (j := 7) (by decide), nup_ne (j := 9) (by decide), nup_ne (j := 11) (by decide), nup_ne (j := 13) (by decide), nup_ne (j := 16) (by decide), nup_ne (j := 19) (by decide)]
  rfl
theorem pQ_13 {K : Wd → Prop} {y : Int} (h : Wo G x A rf E dr u ru ai ar) (hk : ∀ G', Wo G' x A rf E dr (nup u 13 y) ru ai ar → FrX 2000 2001 G G' → K G') : pF G x [0] 13 (vI y) K := by
  have f : ∀ e, FrX 2000 2001 G (wset G 2000 x e) := fun e => FrX.ws (by decide) (by decide) (by decide)
  refine pF_of h.cell (by decide) (by decide) (by (exact Nat.le_of_ble_eq_true rfl)) (hk _ ⟨?_, fun i hi he => (h.drv hi he).otherX (f _) (by omega) (by omega), by rw [wset2 (by decide)]; exact h.a3, by rw [wset2 (by decide)]; exact h.a6, by rw [wset2 (by decide)]; exact h.a8, by rw [wset2 (by decide)]; exact h.a14, by rw [wset2 (by decide)]; exact h.a15, by rw [wset2 (by decide)]; exact h.a17, by rw [wset2 (by decide)]; exact h.a18, by rw [wset2 (by decide)]; exact h.a20, by rw [wset2 (by decide)]; exact h.a21⟩ (f _))
  rw [wset_at, nup_at]
  rw [nup_ne (j := 4) (by decide), nup_ne (j := 5) (by decide), nup_ne (j := 7) (by decide), nup_ne (j := 9) (by decide), nup_ne (j := 11) (by decide), nup_ne (j := 12) (by decide), nup_ne (j := 16) (by decide), nup_ne (j := 19) (by decide)]
  rfl
theorem pQ_16 {K : Wd → Prop} {y : Int} (h : Wo G x A rf E dr u ru ai ar) (hk : ∀ G', Wo G' x A rf E dr (nup u 16 y) ru ai ar → FrX 2000 2001 G G' → K G') : pF G x [0] 16 (vI y) K := by
  have f : ∀ e, FrX 2000 2001 G (wset G 2000 x e) := fun e => FrX.ws (by decide) (by decide) (by decide)
  refine pF_of h.cell (by decide) (by decide) (by (exact Nat.le_of_ble_eq_true rfl)) (hk _ ⟨?_, fun i hi he => (h.drv hi he).otherX (f _) (by omega) (by omega), by rw [wset2 (by decide)]; exact h.a3, by rw [wset2 (by decide)]; exact h.a6, by rw [wset2 (by decide)]; exact h.a8, by rw [wset2 (by decide)]; exact h.a14, by rw [wset2 (by decide)]; exact h.a15, by rw [wset2 (by decide)]; exact h.a17, by rw [wset2 (by decide)]; exact h.a18, by rw [wset2 (by decide)]; exact h.a20, by rw [wset2 (by decide)]; exact h.a21⟩ (f _))
  rw [wset_at, nup_at]
  rw [nup_ne (j := 4) (by decide), nup_ne (j := 5) (by decide), nup_ne (j := 7) (by decide), nup_ne (j := 9) (by decide), nup_ne (j := 11) (by decide), nup_ne (j := 12) (by decide), nup_ne (j := 13) (by decide), nup_ne (j := 19) (by decide)]
  rfl
theorem pQ_19 {K : Wd → Prop} {y : Int} (h : Wo G x A rf E dr u ru ai ar) (hk : ∀ G', Wo G' x A rf E dr (nup u 19 y) ru ai ar → FrX 2000 2001 G G' → K G') : pF G x [0] 19 (vI y) K := by
  have f : ∀ e, FrX 2000 2001 G (wset G 2000 x e) := fun e => FrX.ws (by decide) (by decide) (by decide)
  refine pF_of h.cell (by decide) (by decide) (by (exact Nat.le_of_ble_eq_true rfl)) (hk _ ⟨?_, fun i hi he => (h.drv hi he).otherX (f _) (by omega) (by omega), by rw [wset2 (by decide)]; exact h.a3, by rw [wset2 (by decide)]; exact h.a6, by rw [wset2 (by decide)]; exact h.a8, by rw [wset2 (by decide)]; exact h.a14, by rw [wset2 (by decide)]; exact h.a15, by rw [wset2 (by decide)]; exact h.a17, by rw [wset2 (by decide)]; exact h.a18, by rw [wset2 (by decide)]; exact h.a20, by rw [wset2 (by decide)]; exact h.a21⟩ (f _))
  rw [wset_at, nup_at]
  rw [nup_ne (j := 4) (by decide), nup_ne (j := 5) (by decide), nup_ne (j := 7) (by decide), nup_ne (j := 9) (by decide), nup_ne (j := 11) (by decide), nup_ne (j := 12) (by decide), nup_ne (j := 13) (by decide), nup_ne (j := 16) (by decide)]
  rfl
theorem pQ_10 {K : Wd → Prop} {y : Option Nat} (h : Wo G x A rf E dr u ru ai ar) (hk : ∀ G', Wo G' x A rf E dr u y ai ar → FrX 2000 2001 G G' → K G') : pF G x [0] 10 (vR y) K := by
  have f : ∀ e, FrX 2000 2001 G (wset G 2000 x e) := fun e => FrX.ws (by decide) (by decide) (by decide)
  refine pF_of h.cell (by decide) (by decide) (by (exact Nat.le_of_ble_eq_true rfl)) (hk _ ⟨?_, fun i hi he => (h.drv hi he).otherX (f _) (by omega) (by omega), by rw [wset2 (by decide)]; exact h.a3, by rw [wset2 (by decide)]; exact h.a6, by rw [wset2 (by decide)]; exact h.a8, by rw [wset2 (by decide)]; exact h.a14, by rw [wset2 (by decide)]; exact h.a15, by rw [wset2 (by decide)]; exact h.a17, by rw [wset2 (by decide)]; exact h.a18, by rw [wset2 (by decide)]; exact h.a20, by rw [wset2 (by decide)]; exact h.a21⟩ (f _))
  rw [wset_at]; rfl
theorem Wo.w3 {y : Int → Option Nat} (h : Wo G x A rf E dr u ru ai ar) : Wo (wset G 2003 (A 3) (aR 6 8 y)) x A rf E dr u ru ai (nup ar 3 y) ∧ FrX 2003 2004 G (wset G 2003 (A 3) (aR 6 8 y)) := by
  have f : FrX 2003 2004 G (wset G 2003 (A 3) (aR 6 8 y)) := FrX.ws (by decide) (by decide) (by decide)
  refine ⟨⟨by rw [wset2 (by decide)]; exact h.1, fun i hi he => (h.drv hi he).otherX f (by omega) (by omega), ?_, by rw [wset2 (by decide)]; exact h.a6, by rw [wset2 (by decide)]; exact h.a8, by rw [wset2 (by decide)]; exact h.a14, by rw [wset2 (by decide)]; exact h.a15, by rw [wset2 (by decide), nup_ne (by decide)]; exact h.a17, by rw [wset2 (by decide)]; exact h.a18, by rw [wset2 (by decide), nup_ne (by decide)]; exact h.a20, by rw [wset2 (by decide)]; exact h.a21⟩, f⟩
  rw [wset_at, nup_at]
theorem ldQ_3 {K : Option Nat → Prop} {i : Int} (h : Wo G x A rf E dr u ru ai ar) (h0 : 0 ≤ i) (h1 : i < 8) (hk : K (ar 3 i)) : ldR G (A 3) 6 i K := ldR_of h.a3 ⟨by omega, by omega, by omega⟩ hk
theorem stQ_3 {K : Wd → Prop} {i : Int} {y : Option Nat} {cs : List Nat} (h : Wo G x A rf E dr u ru ai ar) (h0 : 0 ≤ i) (h1 : i < 8) (hy : ∀ z, y = some z → ∃ r' ci fs, r' ≠ 0 ∧ G r' z = some (oB ci fs) ∧ ci ∈ cs) (hk : ∀ G', Wo G' x A rf E dr u ru ai (nup ar 3 (rup (ar 3) i y)) → FrX 2003 2004 G G' → K G') : stR G (A 3) 6 i y cs K := stR_of h.a3 (by decide) ⟨by omega, by omega, by omega⟩ hy (hk _ h.w3.1 h.w3.2)
theorem Wo.w6 {y : Int → Int} (h : Wo G x A rf E dr u ru ai ar) : Wo (wset G 2006 (A 6) (aI 1 80 y)) x A rf E dr u ru (nup ai 6 y) ar ∧ FrX 2006 2007 G (wset G 2006 (A 6) (aI 1 80 y)) := by
  have f : FrX 2006 2007 G (wset G 2006 (A 6) (aI 1 80 y)) := FrX.ws (by decide) (by decide) (by decide)
  refine ⟨⟨by rw [wset2 (by decide)]; exact h.1, fun i hi he => (h.drv hi he).otherX f (by omega) (by omega), by rw [wset2 (by decide)]; exact h.a3, ?_, by rw [wset2 (by decide), nup_ne (by decide)]; exact h.a8, by rw [wset2 (by decide), nup_ne (by decide)]; exact h.a14, by rw [wset2 (by decide), nup_ne (by decide)]; exact h.a15, by rw [wset2 (by decide)]; exact h.a17, by rw [wset2 (by decide), nup_ne (by decide)]; exact h.a18, by rw [wset2 (by decide)]; exact h.a20, by rw [wset2 (by decide), nup_ne (by decide)]; exact h.a21⟩, f⟩
  rw [wset_at, nup_at]
theorem ldQ_6 {K : Int → Prop} {i : Int} (h : Wo G x A rf E dr u ru ai ar) (h0 : 0 ≤ i) (h1 : i < 80) (hk : K (ai 6 i)) : ldI G (A 6) 1 i K := ldI_of h.a6 ⟨by omega, by omega, by omega⟩ hk
theorem stQ_6 {K : Wd → Prop} {i y : Int} (h : Wo G x A rf E dr u ru ai ar) (h0 : 0 ≤ i) (h1 : i < 80) (hk : ∀ G', Wo G' x A rf E dr u ru (nup ai 6 (iup (ai 6) i y)) ar → FrX 2006 2007 G G' → K G') : stI G (A 6) 1 i y K := stI_of h.a6 (by decide) ⟨by omega, by omega, by omega⟩ (hk _ h.w6.1 h.w6.2)
theorem Wo.w8 {y : Int → Int} (h : Wo G x A rf E dr u ru ai ar) : Wo (wset G 2008 (A 8) (aJ 16 y)) x A rf E dr u ru (nup ai 8 y) ar ∧ FrX 2008 2009 G (wset G 2008 (A 8) (aJ 16 y)) := by
  have f : FrX 2008 2009 G (wset G 2008 (A 8) (aJ 16 y)) := FrX.ws (by decide) (by decide) (by decide)
  refine ⟨⟨by rw [wset2 (by decide)]; exact h.1, fun i hi he => (h.drv hi he).otherX f (by omega) (by omega), by rw [wset2 (by decide)]; exact h.a3, by rw [wset2 (by decide), nup_ne (by decide)]; exact h.a6, ?_, by rw [wset2 (by decide), nup_ne (by decide)]; exact h.a14, by rw [wset2 (by decide), nup_ne (by decide)]; exact h.a15, by rw [wset2 (by decide)]; exact h.a17, by rw [wset2 (by decide), nup_ne (by decide)]; exact h.a18, by rw [wset2 (by decide)]; exact h.a20, by rw [wset2 (by decide), nup_ne (by decide)]; exact h.a21⟩, f⟩
  rw [wset_at, nup_at]
theorem ldQ_8 {K : Int → Prop} {i : Int} (h : Wo G x A rf E dr u ru ai ar) (h0 : 0 ≤ i) (h1 : i < 16) (hk : K (ai 8 i)) : ldJ G (A 8) i K := ldJ_of h.a8 ⟨by omega, by omega, by omega⟩ hk
theorem stQ_8 {K : Wd → Prop} {i y : Int} (h : Wo G x A rf E dr u ru ai ar) (h0 : 0 ≤ i) (h1 : i < 16) (hk : ∀ G', Wo G' x A rf E dr u ru (nup ai 8 (iup (ai 8) i y)) ar → FrX 2008 2009 G G' → K G') : stJ G (A 8) i y K := stJ_of h.a8 (by decide) ⟨by omega, by omega, by omega⟩ (hk _ h.w8.1 h.w8.2)
theorem Wo.w14 {y : Int → Int} (h : Wo G x A rf E dr u ru ai ar) : Wo (wset G 2014 (A 14) (aI 0 12 y)) x A rf E dr u ru (nup ai 14 y) ar ∧ FrX 2014 2015 G (wset G 2014 (A 14) (aI 0 12 y)) := by
  have f : FrX 2014 2015 G (wset G 2014 (A 14) (aI 0 12 y)) := FrX.ws (by decide) (by decide) (by decide)
  refine ⟨⟨by rw [wset2 (by decide)]; exact h.1, fun i hi he => (h.drv hi he).otherX f (by omega) (by omega), by rw [wset2 (by decide)]; exact h.a3, by rw [wset2 (by decide), nup_ne (by decide)]; exact h.a6, by rw [wset2 (by decide), nup_ne (by decide)]; exact h.a8, ?_, by rw [wset2 (by decide), nup_ne (by decide)]; exact h.a15, by rw [wset2 (by decide)]; exact h.a17, by rw [wset2 (by decide), nup_ne (by decide)]; exact h.a18, by rw [wset2 (by decide)]; exact h.a20, by rw [wset2 (by decide), nup_ne (by decide)]; exact h.a21⟩, f⟩
  rw [wset_at, nup_at]
theorem ldQ_14 {K : Int → Prop} {i : Int} (h : Wo G x A rf E dr u ru ai ar) (h0 : 0 ≤ i) (h1 : i < 12) (hk : K (ai 14 i)) : ldI G (A 14) 0 i K := ldI_of h.a14 ⟨by omega, by omega, by omega⟩ hk
theorem stQ_14 {K : Wd → Prop} {i y : Int} (h : Wo G x A rf E dr u ru ai ar) (h0 : 0 ≤ i) (h1 : i < 12) (hk : ∀ G', Wo G' x A rf E dr u ru (nup ai 14 (iup (ai 14) i y)) ar → FrX 2014 2015 G G' → K G') : stI G (A 14) 0 i y K := stI_of h.a14 (by decide) ⟨by omega, by omega, by omega⟩ (hk _ h.w14.1 h.w14.2)
theorem Wo.w15 {y : Int → Int} (h : Wo G x A rf E dr u ru ai ar) : Wo (wset G 2015 (A 15) (aI 0 12 y)) x A rf E dr u ru (nup ai 15 y) ar ∧ FrX 2015 2016 G (wset G 2015 (A 15) (aI 0 12 y)) := by
  have f : FrX 2015 2016 G (wset G 2015 (A 15) (aI 0 12 y)) := FrX.ws (by decide) (by decide) (by decide)
  refine ⟨⟨by rw [wset2 (by decide)]; exact h.1, fun i hi he => (h.drv hi he).otherX f (by omega) (by omega), by rw [wset2 (by decide)]; exact h.a3, by rw [wset2 (by decide), nup_ne (by decide)]; exact h.a6, by rw [wset2 (by decide), nup_ne (by decide)]; exact h.a8, by rw [wset2 (by decide), nup_ne (by decide)]; exact h.a14, ?_, by rw [wset2 (by decide)]; exact h.a17, by rw [wset2 (by decide), nup_ne (by decide)]; exact h.a18, by rw [wset2 (by decide)]; exact h.a20, by rw [wset2 (by decide), nup_ne (by decide)]; exact h.a21⟩, f⟩
  rw [wset_at, nup_at]
theorem ldQ_15 {K : Int → Prop} {i : Int} (h : Wo G x A rf E dr u ru ai ar) (h0 : 0 ≤ i) (h1 : i < 12) (hk : K (ai 15 i)) : ldI G (A 15) 0 i K := ldI_of h.a15 ⟨by omega, by omega, by omega⟩ hk
theorem stQ_15 {K : Wd → Prop} {i y : Int} (h : Wo G x A rf E dr u ru ai ar) (h0 : 0 ≤ i) (h1 : i < 12) (hk : ∀ G', Wo G' x A rf E dr u ru (nup ai 15 (iup (ai 15) i y)) ar → FrX 2015 2016 G G' → K G') : stI G (A 15) 0 i y K := stI_of h.a15 (by decide) ⟨by omega, by omega, by omega⟩ (hk _ h.w15.1 h.w15.2)
theorem Wo.w17 {y : Int → Option Nat} (h : Wo G x A rf E dr u ru ai ar) : Wo (wset G 2017 (A 17) (aR 8 80 y)) x A rf E dr u ru ai (nup ar 17 y) ∧ FrX 2017 2018 G (wset G 2017 (A 17) (aR 8 80 y)) := by
  have f : FrX 2017 2018 G (wset G 2017 (A 17) (aR 8 80 y)) := FrX.ws (by decide) (by decide) (by decide)
  refine ⟨⟨by rw [wset2 (by decide)]; exact h.1, fun i hi he => (h.drv hi he).otherX f (by omega) (by omega), by rw [wset2 (by decide), nup_ne (by decide)]; exact h.a3, by rw [wset2 (by decide)]; exact h.a6, by rw [wset2 (by decide)]; exact h.a8, by rw [wset2 (by decide)]; exact h.a14, by rw [wset2 (by decide)]; exact h.a15, ?_, by rw [wset2 (by decide)]; exact h.a18, by rw [wset2 (by decide), nup_ne (by decide)]; exact h.a20, by rw [wset2 (by decide)]; exact h.a21⟩, f⟩
  rw [wset_at, nup_at]
theorem ldQ_17 {K : Option Nat → Prop} {i : Int} (h : Wo G x A rf E dr u ru ai ar) (h0 : 0 ≤ i) (h1 : i < 80) (hk : K (ar 17 i)) : ldR G (A 17) 8 i K := ldR_of h.a17 ⟨by omega, by omega, by omega⟩ hk
theorem stQ_17 {K : Wd → Prop} {i : Int} {y : Option Nat} {cs : List Nat} (h : Wo G x A rf E dr u ru ai ar) (h0 : 0 ≤ i) (h1 : i < 80) (hy : ∀ z, y = some z → ∃ r' ci fs, r' ≠ 0 ∧ G r' z = some (oB ci fs) ∧ ci ∈ cs) (hk : ∀ G', Wo G' x A rf E dr u ru ai (nup ar 17 (rup (ar 17) i y)) → FrX 2017 2018 G G' → K G') : stR G (A 17) 8 i y cs K := stR_of h.a17 (by decide) ⟨by omega, by omega, by omega⟩ hy (hk _ h.w17.1 h.w17.2)
theorem Wo.w18 {y : Int → Int} (h : Wo G x A rf E dr u ru ai ar) : Wo (wset G 2018 (A 18) (aI 2 80 y)) x A rf E dr u ru (nup ai 18 y) ar ∧ FrX 2018 2019 G (wset G 2018 (A 18) (aI 2 80 y)) := by
  have f : FrX 2018 2019 G (wset G 2018 (A 18) (aI 2 80 y)) := FrX.ws (by decide) (by decide) (by decide)
  refine ⟨⟨by rw [wset2 (by decide)]; exact h.1, fun i hi he => (h.drv hi he).otherX f (by omega) (by omega), by rw [wset2 (by decide)]; exact h.a3, by rw [wset2 (by decide), nup_ne (by decide)]; exact h.a6, by rw [wset2 (by decide), nup_ne (by decide)]; exact h.a8, by rw [wset2 (by decide), nup_ne (by decide)]; exact h.a14, by rw [wset2 (by decide), nup_ne (by decide)]; exact h.a15, by rw [wset2 (by decide)]; exact h.a17, ?_, by rw [wset2 (by decide)]; exact h.a20, by rw [wset2 (by decide), nup_ne (by decide)]; exact h.a21⟩, f⟩
  rw [wset_at, nup_at]
theorem ldQ_18 {K : Int → Prop} {i : Int} (h : Wo G x A rf E dr u ru ai ar) (h0 : 0 ≤ i) (h1 : i < 80) (hk : K (ai 18 i)) : ldI G (A 18) 2 i K := ldI_of h.a18 ⟨by omega, by omega, by omega⟩ hk
theorem stQ_18 {K : Wd → Prop} {i y : Int} (h : Wo G x A rf E dr u ru ai ar) (h0 : 0 ≤ i) (h1 : i < 80) (hk : ∀ G', Wo G' x A rf E dr u ru (nup ai 18 (iup (ai 18) i y)) ar → FrX 2018 2019 G G' → K G') : stI G (A 18) 2 i y K := stI_of h.a18 (by decide) ⟨by omega, by omega, by omega⟩ (hk _ h.w18.1 h.w18.2)
theorem Wo.w20 {y : Int → Option Nat} (h : Wo G x A rf E dr u ru ai ar) : Wo (wset G 2020 (A 20) (aR 6 2 y)) x A rf E dr u ru ai (nup ar 20 y) ∧ FrX 2020 2021 G (wset G 2020 (A 20) (aR 6 2 y)) := by
  have f : FrX 2020 2021 G (wset G 2020 (A 20) (aR 6 2 y)) := FrX.ws (by decide) (by decide) (by decide)
  refine ⟨⟨by rw [wset2 (by decide)]; exact h.1, fun i hi he => (h.drv hi he).otherX f (by omega) (by omega), by rw [wset2 (by decide), nup_ne (by decide)]; exact h.a3, by rw [wset2 (by decide)]; exact h.a6, by rw [wset2 (by decide)]; exact h.a8, by rw [wset2 (by decide)]; exact h.a14, by rw [wset2 (by decide)]; exact h.a15, by rw [wset2 (by decide), nup_ne (by decide)]; exact h.a17, by rw [wset2 (by decide)]; exact h.a18, ?_, by rw [wset2 (by decide)]; exact h.a21⟩, f⟩
  rw [wset_at, nup_at]
theorem ldQ_20 {K : Option Nat → Prop} {i : Int} (h : Wo G x A rf E dr u ru ai ar) (h0 : 0 ≤ i) (h1 : i < 2) (hk : K (ar 20 i)) : ldR G (A 20) 6 i K := ldR_of h.a20 ⟨by omega, by omega, by omega⟩ hk
theorem stQ_20 {K : Wd → Prop} {i : Int} {y : Option Nat} {cs : List Nat} (h : Wo G x A rf E dr u ru ai ar) (h0 : 0 ≤ i) (h1 : i < 2) (hy : ∀ z, y = some z → ∃ r' ci fs, r' ≠ 0 ∧ G r' z = some (oB ci fs) ∧ ci ∈ cs) (hk : ∀ G', Wo G' x A rf E dr u ru ai (nup ar 20 (rup (ar 20) i y)) → FrX 2020 2021 G G' → K G') : stR G (A 20) 6 i y cs K := stR_of h.a20 (by decide) ⟨by omega, by omega, by omega⟩ hy (hk _ h.w20.1 h.w20.2)
theorem Wo.w21 {y : Int → Int} (h : Wo G x A rf E dr u ru ai ar) : Wo (wset G 2021 (A 21) (aI 0 2 y)) x A rf E dr u ru (nup ai 21 y) ar ∧ FrX 2021 2022 G (wset G 2021 (A 21) (aI 0 2 y)) := by
  have f : FrX 2021 2022 G (wset G 2021 (A 21) (aI 0 2 y)) := FrX.ws (by decide) (by decide) (by decide)
  refine ⟨⟨by rw [wset2 (by decide)]; exact h.1, fun i hi he => (h.drv hi he).otherX f (by omega) (by omega), by rw [wset2 (by decide)]; exact h.a3, by rw [wset2 (by decide), nup_ne (by decide)]; exact h.a6, by rw [wset2 (by decide), nup_ne (by decide)]; exact h.a8, by rw [wset2 (by decide), nup_ne (by decide)]; exact h.a14, by rw [wset2 (by decide), nup_ne (by decide)]; exact h.a15, by rw [wset2 (by decide)]; exact h.a17, by rw [wset2 (by decide), nup_ne (by decide)]; exact h.a18, by rw [wset2 (by decide)]; exact h.a20, ?_⟩, f⟩
  rw [wset_at, nup_at]
theorem ldQ_21 {K : Int → Prop} {i : Int} (h : Wo G x A rf E dr u ru ai ar) (h0 : 0 ≤ i) (h1 : i < 2) (hk : K (ai 21 i)) : ldI G (A 21) 0 i K := ldI_of h.a21 ⟨by omega, by omega, by omega⟩ hk
theorem stQ_21 {K : Wd → Prop} {i y : Int} (h : Wo G x A rf E dr u ru ai ar) (h0 : 0 ≤ i) (h1 : i < 2) (hk : ∀ G', Wo G' x A rf E dr u ru (nup ai 21 (iup (ai 21) i y)) ar → FrX 2021 2022 G G' → K G') : stI G (A 21) 0 i y K := stI_of h.a21 (by decide) ⟨by omega, by omega, by omega⟩ (hk _ h.w21.1 h.w21.2)
end
