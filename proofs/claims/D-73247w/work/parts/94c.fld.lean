/-! PURE PROOFS: fields of a drive, of its lines (printed by genfld.py) -/
set_option maxRecDepth 100000
theorem LineA.body {G G' : Wd} {L q : Nat} {f : Nat → Nat} {ring posts : List Rec} {u : Nat} (h : (∃ xs, Dq G (L + 1) (f 1) xs ∧ All2 (CmdAt (G 1) q) xs ring) ∧ (∃ ys, Dq G (L + 3) (f 2) ys ∧ All2 (PostAt (G 1) q) ys posts) ∧ Bs G (L + 5) (f 3) u)
    (h1 : ∀ r, L < r → r < L + 7 → G' r = G r) (h2 : Ext (G 1) (G' 1)) : (∃ xs, Dq G' (L + 1) (f 1) xs ∧ All2 (CmdAt (G' 1) q) xs ring) ∧ (∃ ys, Dq G' (L + 3) (f 2) ys ∧ All2 (PostAt (G' 1) q) ys posts) ∧ Bs G' (L + 5) (f 3) u := by
  obtain ⟨⟨xs, k2, k3⟩, ⟨ys, k4, k5⟩, k6⟩ := h
  exact ⟨⟨xs, k2.congr (h1 _ (by omega) (by omega)) (h1 _ (by omega) (by omega)), k3.imp (fun _ _ => CmdAt.ext h2)⟩, ⟨ys, k4.congr (h1 _ (by omega) (by omega)) (h1 _ (by omega) (by omega)), k5.imp (fun _ _ => PostAt.ext h2)⟩, k6.congr (h1 _ (by omega) (by omega)) (h1 _ (by omega) (by omega))⟩
theorem gL_0 {G : Wd} {D a q : Nat} {rf : Nat → Nat → Nat} {d : DS} {K : Int → Prop} (h : DrA G D a rf d) (hq : q < 5) (hk : K q) : gI G (rf q 0) [2] 0 K := gI_of (h.2.2.2.2.2.2.2.2.2 q hq).1 (by decide) rfl hk
theorem gL_4 {G : Wd} {D a q : Nat} {rf : Nat → Nat → Nat} {d : DS} {K : Int → Prop} (h : DrA G D a rf d) (hq : q < 5) (hk : K (d.s (89 * q + 20))) : gI G (rf q 0) [2] 4 K := gI_of (h.2.2.2.2.2.2.2.2.2 q hq).1 (by decide) rfl hk
theorem gL_5 {G : Wd} {D a q : Nat} {rf : Nat → Nat → Nat} {d : DS} {K : Int → Prop} (h : DrA G D a rf d) (hq : q < 5) (hk : K (d.s (89 * q + 21))) : gI G (rf q 0) [2] 5 K := gI_of (h.2.2.2.2.2.2.2.2.2 q hq).1 (by decide) rfl hk
theorem gL_6 {G : Wd} {D a q : Nat} {rf : Nat → Nat → Nat} {d : DS} {K : Int → Prop} (h : DrA G D a rf d) (hq : q < 5) (hk : K (d.s (89 * q + 22))) : gI G (rf q 0) [2] 6 K := gI_of (h.2.2.2.2.2.2.2.2.2 q hq).1 (by decide) rfl hk
theorem gL_7 {G : Wd} {D a q : Nat} {rf : Nat → Nat → Nat} {d : DS} {K : Int → Prop} (h : DrA G D a rf d) (hq : q < 5) (hk : K (d.s (89 * q + 0))) : gI G (rf q 0) [2] 7 K := gI_of (h.2.2.2.2.2.2.2.2.2 q hq).1 (by decide) rfl hk
theorem gL_8 {G : Wd} {D a q : Nat} {rf : Nat → Nat → Nat} {d : DS} {K : Int → Prop} (h : DrA G D a rf d) (hq : q < 5) (hk : K (d.s (89 * q + 1))) : gI G (rf q 0) [2] 8 K := gI_of (h.2.2.2.2.2.2.2.2.2 q hq).1 (by decide) rfl hk
theorem gL_9 {G : Wd} {D a q : Nat} {rf : Nat → Nat → Nat} {d : DS} {K : Int → Prop} (h : DrA G D a rf d) (hq : q < 5) (hk : K (d.s (89 * q + 2))) : gI G (rf q 0) [2] 9 K := gI_of (h.2.2.2.2.2.2.2.2.2 q hq).1 (by decide) rfl hk
theorem gL_10 {G : Wd} {D a q : Nat} {rf : Nat → Nat → Nat} {d : DS} {K : Int → Prop} (h : DrA G D a rf d) (hq : q < 5) (hk : K (d.s (89 * q + 3))) : gI G (rf q 0) [2] 10 K := gI_of (h.2.2.2.2.2.2.2.2.2 q hq).1 (by decide) rfl hk
theorem gL_11 {G : Wd} {D a q : Nat} {rf : Nat → Nat → Nat} {d : DS} {K : Int → Prop} (h : DrA G D a rf d) (hq : q < 5) (hk : K (d.s (89 * q + 4))) : gI G (rf q 0) [2] 11 K := gI_of (h.2.2.2.2.2.2.2.2.2 q hq).1 (by decide) rfl hk
theorem gL_12 {G : Wd} {D a q : Nat} {rf : Nat → Nat → Nat} {d : DS} {K : Int → Prop} (h : DrA G D a rf d) (hq : q < 5) (hk : K (d.s (89 * q + 5))) : gI G (rf q 0) [2] 12 K := gI_of (h.2.2.2.2.2.2.2.2.2 q hq).1 (by decide) rfl hk
theorem gL_13 {G : Wd} {D a q : Nat} {rf : Nat → Nat → Nat} {d : DS} {K : Int → Prop} (h : DrA G D a rf d) (hq : q < 5) (hk : K (d.s (89 * q + 6))) : gI G (rf q 0) [2] 13 K := gI_of (h.2.2.2.2.2.2.2.2.2 q hq).1 (by decide) rfl hk
theorem gL_14 {G : Wd} {D a q : Nat} {rf : Nat → Nat → Nat} {d : DS} {K : Int → Prop} (h : DrA G D a rf d) (hq : q < 5) (hk : K (d.s (89 * q + 7))) : gI G (rf q 0) [2] 14 K := gI_of (h.2.2.2.2.2.2.2.2.2 q hq).1 (by decide) rfl hk
theorem gL_15 {G : Wd} {D a q : Nat} {rf : Nat → Nat → Nat} {d : DS} {K : Bool → Prop} (h : DrA G D a rf d) (hq : q < 5) (hk : K (decide (d.s (89 * q + 23) = 1))) : gZ G (rf q 0) [2] 15 K := gZ_of (h.2.2.2.2.2.2.2.2.2 q hq).1 (by decide) rfl hk
theorem gL_16 {G : Wd} {D a q : Nat} {rf : Nat → Nat → Nat} {d : DS} {K : Bool → Prop} (h : DrA G D a rf d) (hq : q < 5) (hk : K (decide (d.s (89 * q + 8) = 1))) : gZ G (rf q 0) [2] 16 K := gZ_of (h.2.2.2.2.2.2.2.2.2 q hq).1 (by decide) rfl hk
theorem gL_1 {G : Wd} {D a q : Nat} {rf : Nat → Nat → Nat} {d : DS} {K : Option Nat → Prop} (h : DrA G D a rf d) (hq : q < 5) (hk : K (some (rf q 1))) : gR G (rf q 0) [2] 1 K := gR_of (h.2.2.2.2.2.2.2.2.2 q hq).1 (by decide) rfl hk
theorem gL_2 {G : Wd} {D a q : Nat} {rf : Nat → Nat → Nat} {d : DS} {K : Option Nat → Prop} (h : DrA G D a rf d) (hq : q < 5) (hk : K (some (rf q 2))) : gR G (rf q 0) [2] 2 K := gR_of (h.2.2.2.2.2.2.2.2.2 q hq).1 (by decide) rfl hk
theorem gL_3 {G : Wd} {D a q : Nat} {rf : Nat → Nat → Nat} {d : DS} {K : Option Nat → Prop} (h : DrA G D a rf d) (hq : q < 5) (hk : K (some (rf q 3))) : gR G (rf q 0) [2] 3 K := gR_of (h.2.2.2.2.2.2.2.2.2 q hq).1 (by decide) rfl hk
theorem pL_4 {G : Wd} {D a q : Nat} {rf : Nat → Nat → Nat} {d : DS} {K : Wd → Prop} {x : Int} (h : DrA G D a rf d) (hq : q < 5) (hD : 9 < D) (hk : ∀ G', DrA G' D a rf (setS d (iup d.s (89 * q + 20) x)) → FrR D (D + 100) G G' → K G') : pF G (rf q 0) [2] 4 (vI x) K := by
  have h0 := h
  obtain ⟨-, -, -, -, -, -, -, -, -, k⟩ := h
  obtain ⟨k1, k2⟩ := k q hq
  refine pF_of k1 (by omega) (by decide) (by (exact Nat.le_of_ble_eq_true rfl)) ?_
  have hf : ∀ e, FrR (D + 20 + 10 * q) (D + 27 + 10 * q) G (wset G (D + 20 + 10 * q) (rf q 0) e) := fun e => FrR.ws (by omega) (by omega) (by omega)
  refine hk _ (h0.line0 hD hq (hf _) ⟨?_, ?_⟩ (fun j hj => iup_ne (by omega))) ((hf _).wide (by omega) (by omega))
  · rw [wset_at, iup_at]
    rw [iup_ne (j := 89 * q + 21) (by omega), iup_ne (j := 89 * q + 22) (by omega), iup_ne (j := 89 * q + 0) (by omega), iup_ne (j := 89 * q + 1) (by omega), iup_ne (j := 89 * q + 2) (by omega), iup_ne (j := 89 * q + 3) (by omega), iup_ne (j := 89 * q + 4) (by omega), iup_ne (j := 89 * q + 5) (by omega), iup_ne (j := 89 * q + 6) (by omega), iup_ne (j := 89 * q + 7) (by omega), iup_ne (j := 89 * q + 23) (by omega), iup_ne (j := 89 * q + 8) (by omega)]
    rfl
  · exact LineA.body k2 (fun r r1 r2 => wset2 (by omega)) (fun b e hb _ => by rw [wset2 (by omega)]; exact hb)
theorem pL_5 {G : Wd} {D a q : Nat} {rf : Nat → Nat → Nat} {d : DS} {K : Wd → Prop} {x : Int} (h : DrA G D a rf d) (hq : q < 5) (hD : 9 < D) (hk : ∀ G', DrA G' D a rf (setS d (iup d.s (89 * q + 21) x)) → FrR D (D + 100) G G' → K G') : pF G (rf q 0) [2] 5 (vI x) K := by
  have h0 := h
  obtain ⟨-, -, -, -, -, -, -, -, -, k⟩ := h
  obtain ⟨k1, k2⟩ := k q hq
  refine pF_of k1 (by omega) (by decide) (by (exact Nat.le_of_ble_eq_true rfl)) ?_
  have hf : ∀ e, FrR (D + 20 + 10 * q) (D + 27 + 10 * q) G (wset G (D + 20 + 10 * q) (rf q 0) e) := fun e => FrR.ws (by omega) (by omega) (by omega)
  refine hk _ (h0.line0 hD hq (hf _) ⟨?_, ?_⟩ (fun j hj => iup_ne (by omega))) ((hf _).wide (by omega) (by omega))
  · rw [wset_at, iup_at]
    rw [iup_ne (j := 89 * q + 20) (by omega), iup_ne (j := 89 * q + 22) (by omega), iup_ne (j := 89 * q + 0) (by omega), iup_ne (j := 89 * q + 1) (by omega), iup_ne (j := 89 * q + 2) (by omega), iup_ne (j := 89 * q + 3) (by omega), iup_ne (j := 89 * q + 4) (by omega), iup_ne (j := 89 * q + 5) (by omega), iup_ne (j := 89 * q + 6) (by omega), iup_ne (j := 89 * q + 7) (by omega), iup_ne (j := 89 * q + 23) (by omega), iup_ne (j := 89 * q + 8) (by omega)]
    rfl
  · exact LineA.body k2 (fun r r1 r2 => wset2 (by omega)) (fun b e hb _ => by rw [wset2 (by omega)]; exact hb)
theorem pL_6 {G : Wd} {D a q : Nat} {rf : Nat → Nat → Nat} {d : DS} {K : Wd → Prop} {x : Int} (h : DrA G D a rf d) (hq : q < 5) (hD : 9 < D) (hk : ∀ G', DrA G' D a rf (setS d (iup d.s (89 * q + 22) x)) → FrR D (D + 100) G G' → K G') : pF G (rf q 0) [2] 6 (vI x) K := by
  have h0 := h
  obtain ⟨-, -, -, -, -, -, -, -, -, k⟩ := h
  obtain ⟨k1, k2⟩ := k q hq
  refine pF_of k1 (by omega) (by decide) (by (exact Nat.le_of_ble_eq_true rfl)) ?_
  have hf : ∀ e, FrR (D + 20 + 10 * q) (D + 27 + 10 * q) G (wset G (D + 20 + 10 * q) (rf q 0) e) := fun e => FrR.ws (by omega) (by omega) (by omega)
  refine hk _ (h0.line0 hD hq (hf _) ⟨?_, ?_⟩ (fun j hj => iup_ne (by omega))) ((hf _).wide (by omega) (by omega))
  · rw [wset_at, iup_at]
    rw [iup_ne (j := 89 * q + 20) (by omega), iup_ne (j := 89 * q + 21) (by omega), iup_ne (j := 89 * q + 0) (by omega), iup_ne (j := 89 * q + 1) (by omega), iup_ne (j := 89 * q + 2) (by omega), iup_ne (j := 89 * q + 3) (by omega), iup_ne (j := 89 * q + 4) (by omega), iup_ne (j := 89 * q + 5) (by omega), iup_ne (j := 89 * q + 6) (by omega), iup_ne (j := 89 * q + 7) (by omega), iup_ne (j := 89 * q + 23) (by omega), iup_ne (j := 89 * q + 8) (by omega)]
    rfl
  · exact LineA.body k2 (fun r r1 r2 => wset2 (by omega)) (fun b e hb _ => by rw [wset2 (by omega)]; exact hb)
theorem pL_7 {G : Wd} {D a q : Nat} {rf : Nat → Nat → Nat} {d : DS} {K : Wd → Prop} {x : Int} (h : DrA G D a rf d) (hq : q < 5) (hD : 9 < D) (hk : ∀ G', DrA G' D a rf (setS d (iup d.s (89 * q + 0) x)) → FrR D (D + 100) G G' → K G') : pF G (rf q 0) [2] 7 (vI x) K := by
  have h0 := h
  obtain ⟨-, -, -, -, -, -, -, -, -, k⟩ := h
  obtain ⟨k1, k2⟩ := k q hq
  refine pF_of k1 (by omega) (by decide) (by (exact Nat.le_of_ble_eq_true rfl)) ?_
  have hf : ∀ e, FrR (D + 20 + 10 * q) (D + 27 + 10 * q) G (wset G (D + 20 + 10 * q) (rf q 0) e) := fun e => FrR.ws (by omega) (by omega) (by omega)
  refine hk _ (h0.line0 hD hq (hf _) ⟨?_, ?_⟩ (fun j hj => iup_ne (by omega))) ((hf _).wide (by omega) (by omega))
  · rw [wset_at, iup_at]
    rw [iup_ne (j := 89 * q + 20) (by omega), iup_ne (j := 89 * q + 21) (by omega), iup_ne (j := 89 * q + 22) (by omega), iup_ne (j := 89 * q + 1) (by omega), iup_ne (j := 89 * q + 2) (by omega), iup_ne (j := 89 * q + 3) (by omega), iup_ne (j := 89 * q + 4) (by omega), iup_ne (j := 89 * q + 5) (by omega), iup_ne (j := 89 * q + 6) (by omega), iup_ne (j := 89 * q + 7) (by omega), iup_ne (j := 89 * q + 23) (by omega), iup_ne (j := 89 * q + 8) (by omega)]
    rfl
  · exact LineA.body k2 (fun r r1 r2 => wset2 (by omega)) (fun b e hb _ => by rw [wset2 (by omega)]; exact hb)
theorem pL_8 {G : Wd} {D a q : Nat} {rf : Nat → Nat → Nat} {d : DS} {K : Wd → Prop} {x : Int} (h : DrA G D a rf d) (hq : q < 5) (hD : 9 < D) (hk : ∀ G', DrA G' D a rf (setS d (iup d.s (89 * q + 1) x)) → FrR D (D + 100) G G' → K G') : pF G (rf q 0) [2] 8 (vI x) K := by
  have h0 := h
  obtain ⟨-, -, -, -, -, -, -, -, -, k⟩ := h
  obtain ⟨k1, k2⟩ := k q hq
  refine pF_of k1 (by omega) (by decide) (by (exact Nat.le_of_ble_eq_true rfl)) ?_
  have hf : ∀ e, FrR (D + 20 + 10 * q) (D + 27 + 10 * q) G (wset G (D + 20 + 10 * q) (rf q 0) e) := fun e => FrR.ws (by omega) (by omega) (by omega)
  refine hk _ (h0.line0 hD hq (hf _) ⟨?_, ?_⟩ (fun j hj => iup_ne (by omega))) ((hf _).wide (by omega) (by omega))
  · rw [wset_at, iup_at]
    rw [iup_ne (j := 89 * q + 20) (by omega), iup_ne (j := 89 * q + 21) (by omega), iup_ne (j := 89 * q + 22) (by omega), iup_ne (j := 89 * q + 0) (by omega), iup_ne (j := 89 * q + 2) (by omega), iup_ne (j := 89 * q + 3) (by omega), iup_ne (j := 89 * q + 4) (by omega), iup_ne (j := 89 * q + 5) (by omega), iup_ne (j := 89 * q + 6) (by omega), iup_ne (j := 89 * q + 7) (by omega), iup_ne (j := 89 * q + 23) (by omega), iup_ne (j := 89 * q + 8) (by omega)]
    rfl
  · exact LineA.body k2 (fun r r1 r2 => wset2 (by omega)) (fun b e hb _ => by rw [wset2 (by omega)]; exact hb)
theorem pL_9 {G : Wd} {D a q : Nat} {rf : Nat → Nat → Nat} {d : DS} {K : Wd → Prop} {x : Int} (h : DrA G D a rf d) (hq : q < 5) (hD : 9 < D) (hk : ∀ G', DrA G' D a rf (setS d (iup d.s (89 * q + 2) x)) → FrR D (D + 100) G G' → K G') : pF G (rf q 0) [2] 9 (vI x) K := by
  have h0 := h
  obtain ⟨-, -, -, -, -, -, -, -, -, k⟩ := h
  obtain ⟨k1, k2⟩ := k q hq
  refine pF_of k1 (by omega) (by decide) (by (exact Nat.le_of_ble_eq_true rfl)) ?_
  have hf : ∀ e, FrR (D + 20 + 10 * q) (D + 27 + 10 * q) G (wset G (D + 20 + 10 * q) (rf q 0) e) := fun e => FrR.ws (by omega) (by omega) (by omega)
  refine hk _ (h0.line0 hD hq (hf _) ⟨?_, ?_⟩ (fun j hj => iup_ne (by omega))) ((hf _).wide (by omega) (by omega))
  · rw [wset_at, iup_at]
    rw [iup_ne (j := 89 * q + 20) (by omega), iup_ne (j := 89 * q + 21) (by omega), iup_ne (j := 89 * q + 22) (by omega), iup_ne (j := 89 * q + 0) (by omega), iup_ne (j := 89 * q + 1) (by omega), iup_ne (j := 89 * q + 3) (by omega), iup_ne (j := 89 * q + 4) (by omega), iup_ne (j := 89 * q + 5) (by omega), iup_ne (j := 89 * q + 6) (by omega), iup_ne (j := 89 * q + 7) (by omega), iup_ne (j := 89 * q + 23) (by omega), iup_ne (j := 89 * q + 8) (by omega)]
    rfl
  · exact LineA.body k2 (fun r r1 r2 => wset2 (by omega)) (fun b e hb _ => by rw [wset2 (by omega)]; exact hb)
theorem pL_10 {G : Wd} {D a q : Nat} {rf : Nat → Nat → Nat} {d : DS} {K : Wd → Prop} {x : Int} (h : DrA G D a rf d) (hq : q < 5) (hD : 9 < D) (hk : ∀ G', DrA G' D a rf (setS d (iup d.s (89 * q + 3) x)) → FrR D (D + 100) G G' → K G') : pF G (rf q 0) [2] 10 (vI x) K := by
  have h0 := h
  obtain ⟨-, -, -, -, -, -, -, -, -, k⟩ := h
  obtain ⟨k1, k2⟩ := k q hq
  refine pF_of k1 (by omega) (by decide) (by (exact Nat.le_of_ble_eq_true rfl)) ?_
  have hf : ∀ e, FrR (D + 20 + 10 * q) (D + 27 + 10 * q) G (wset G (D + 20 + 10 * q) (rf q 0) e) := fun e => FrR.ws (by omega) (by omega) (by omega)
  refine hk _ (h0.line0 hD hq (hf _) ⟨?_, ?_⟩ (fun j hj => iup_ne (by omega))) ((hf _).wide (by omega) (by omega))
  · rw [wset_at, iup_at]
    rw [iup_ne (j := 89 * q + 20) (by omega), iup_ne (j := 89 * q + 21) (by omega), iup_ne (j := 89 * q + 22) (by omega), iup_ne (j := 89 * q + 0) (by omega), iup_ne (j := 89 * q + 1) (by omega), iup_ne (j := 89 * q + 2) (by omega), iup_ne (j := 89 * q + 4) (by omega), iup_ne (j := 89 * q + 5) (by omega), iup_ne (j := 89 * q + 6) (by omega), iup_ne (j := 89 * q + 7) (by omega), iup_ne (j := 89 * q + 23) (by omega), iup_ne (j := 89 * q + 8) (by omega)]
    rfl
  · exact LineA.body k2 (fun r r1 r2 => wset2 (by omega)) (fun b e hb _ => by rw [wset2 (by omega)]; exact hb)
theorem pL_11 {G : Wd} {D a q : Nat} {rf : Nat → Nat → Nat} {d : DS} {K : Wd → Prop} {x : Int} (h : DrA G D a rf d) (hq : q < 5) (hD : 9 < D) (hk : ∀ G', DrA G' D a rf (setS d (iup d.s (89 * q + 4) x)) → FrR D (D + 100) G G' → K G') : pF G (rf q 0) [2] 11 (vI x) K := by
  have h0 := h
  obtain ⟨-, -, -, -, -, -, -, -, -, k⟩ := h
  obtain ⟨k1, k2⟩ := k q hq
  refine pF_of k1 (by omega) (by decide) (by (exact Nat.le_of_ble_eq_true rfl)) ?_
  have hf : ∀ e, FrR (D + 20 + 10 * q) (D + 27 + 10 * q) G (wset G (D + 20 + 10 * q) (rf q 0) e) := fun e => FrR.ws (by omega) (by omega) (by omega)
  refine hk _ (h0.line0 hD hq (hf _) ⟨?_, ?_⟩ (fun j hj => iup_ne (by omega))) ((hf _).wide (by omega) (by omega))
  · rw [wset_at, iup_at]
    rw [iup_ne (j := 89 * q + 20) (by omega), iup_ne (j := 89 * q + 21) (by omega), iup_ne (j := 89 * q + 22) (by omega), iup_ne (j := 89 * q + 0) (by omega), iup_ne (j := 89 * q + 1) (by omega), iup_ne (j := 89 * q + 2) (by omega), iup_ne (j := 89 * q + 3) (by omega), iup_ne (j := 89 * q + 5) (by omega), iup_ne (j := 89 * q + 6) (by omega), iup_ne (j := 89 * q + 7) (by omega), iup_ne (j := 89 * q + 23) (by omega), iup_ne (j := 89 * q + 8) (by omega)]
    rfl
  · exact LineA.body k2 (fun r r1 r2 => wset2 (by omega)) (fun b e hb _ => by rw [wset2 (by omega)]; exact hb)
theorem pL_12 {G : Wd} {D a q : Nat} {rf : Nat → Nat → Nat} {d : DS} {K : Wd → Prop} {x : Int} (h : DrA G D a rf d) (hq : q < 5) (hD : 9 < D) (hk : ∀ G', DrA G' D a rf (setS d (iup d.s (89 * q + 5) x)) → FrR D (D + 100) G G' → K G') : pF G (rf q 0) [2] 12 (vI x) K := by
  have h0 := h
  obtain ⟨-, -, -, -, -, -, -, -, -, k⟩ := h
  obtain ⟨k1, k2⟩ := k q hq
  refine pF_of k1 (by omega) (by decide) (by (exact Nat.le_of_ble_eq_true rfl)) ?_
  have hf : ∀ e, FrR (D + 20 + 10 * q) (D + 27 + 10 * q) G (wset G (D + 20 + 10 * q) (rf q 0) e) := fun e => FrR.ws (by omega) (by omega) (by omega)
  refine hk _ (h0.line0 hD hq (hf _) ⟨?_, ?_⟩ (fun j hj => iup_ne (by omega))) ((hf _).wide (by omega) (by omega))
  · rw [wset_at, iup_at]
    rw [iup_ne (j := 89 * q + 20) (by omega), iup_ne (j := 89 * q + 21) (by omega), iup_ne (j := 89 * q + 22) (by omega), iup_ne (j := 89 * q + 0) (by omega), iup_ne (j := 89 * q + 1) (by omega), iup_ne (j := 89 * q + 2) (by omega), iup_ne (j := 89 * q + 3) (by omega), iup_ne (j := 89 * q + 4) (by omega), iup_ne (j := 89 * q + 6) (by omega), iup_ne (j := 89 * q + 7) (by omega), iup_ne (j := 89 * q + 23) (by omega), iup_ne (j := 89 * q + 8) (by omega)]
    rfl
  · exact LineA.body k2 (fun r r1 r2 => wset2 (by omega)) (fun b e hb _ => by rw [wset2 (by omega)]; exact hb)
theorem pL_13 {G : Wd} {D a q : Nat} {rf : Nat → Nat → Nat} {d : DS} {K : Wd → Prop} {x : Int} (h : DrA G D a rf d) (hq : q < 5) (hD : 9 < D) (hk : ∀ G', DrA G' D a rf (setS d (iup d.s (89 * q + 6) x)) → FrR D (D + 100) G G' → K G') : pF G (rf q 0) [2] 13 (vI x) K := by
  have h0 := h
  obtain ⟨-, -, -, -, -, -, -, -, -, k⟩ := h
  obtain ⟨k1, k2⟩ := k q hq
  refine pF_of k1 (by omega) (by decide) (by (exact Nat.le_of_ble_eq_true rfl)) ?_
  have hf : ∀ e, FrR (D + 20 + 10 * q) (D + 27 + 10 * q) G (wset G (D + 20 + 10 * q) (rf q 0) e) := fun e => FrR.ws (by omega) (by omega) (by omega)
  refine hk _ (h0.line0 hD hq (hf _) ⟨?_, ?_⟩ (fun j hj => iup_ne (by omega))) ((hf _).wide (by omega) (by omega))
  · rw [wset_at, iup_at]
    rw [iup_ne (j := 89 * q + 20) (by omega), iup_ne (j := 89 * q + 21) (by omega), iup_ne (j := 89 * q + 22) (by omega), iup_ne (j := 89 * q + 0) (by omega), iup_ne (j := 89 * q + 1) (by omega), iup_ne (j := 89 * q + 2) (by omega), iup_ne (j := 89 * q + 3) (by omega), iup_ne (j := 89 * q + 4) (by omega), iup_ne (j := 89 * q + 5) (by omega), iup_ne (j := 89 * q + 7) (by omega), iup_ne (j := 89 * q + 23) (by omega), iup_ne (j := 89 * q + 8) (by omega)]
    rfl
  · exact LineA.body k2 (fun r r1 r2 => wset2 (by omega)) (fun b e hb _ => by rw [wset2 (by omega)]; exact hb)
theorem pL_14 {G : Wd} {D a q : Nat} {rf : Nat → Nat → Nat} {d : DS} {K : Wd → Prop} {x : Int} (h : DrA G D a rf d) (hq : q < 5) (hD : 9 < D) (hk : ∀ G', DrA G' D a rf (setS d (iup d.s (89 * q + 7) x)) → FrR D (D + 100) G G' → K G') : pF G (rf q 0) [2] 14 (vI x) K := by
  have h0 := h
  obtain ⟨-, -, -, -, -, -, -, -, -, k⟩ := h
  obtain ⟨k1, k2⟩ := k q hq
  refine pF_of k1 (by omega) (by decide) (by (exact Nat.le_of_ble_eq_true rfl)) ?_
  have hf : ∀ e, FrR (D + 20 + 10 * q) (D + 27 + 10 * q) G (wset G (D + 20 + 10 * q) (rf q 0) e) := fun e => FrR.ws (by omega) (by omega) (by omega)
  refine hk _ (h0.line0 hD hq (hf _) ⟨?_, ?_⟩ (fun j hj => iup_ne (by omega))) ((hf _).wide (by omega) (by omega))
  · rw [wset_at, iup_at]
    rw [iup_ne (j := 89 * q + 20) (by omega), iup_ne (j := 89 * q + 21) (by omega), iup_ne (j := 89 * q + 22) (by omega), iup_ne (j := 89 * q + 0) (by omega), iup_ne (j := 89 * q + 1) (by omega), iup_ne (j := 89 * q + 2) (by omega), iup_ne (j := 89 * q + 3) (by omega), iup_ne (j := 89 * q + 4) (by omega), iup_ne (j := 89 * q + 5) (by omega), iup_ne (j := 89 * q + 6) (by omega), iup_ne (j := 89 * q + 23) (by omega), iup_ne (j := 89 * q + 8) (by omega)]
    rfl
  · exact LineA.body k2 (fun r r1 r2 => wset2 (by omega)) (fun b e hb _ => by rw [wset2 (by omega)]; exact hb)
theorem pL_15 {G : Wd} {D a q : Nat} {rf : Nat → Nat → Nat} {d : DS} {K : Wd → Prop} {b : Bool} (x : Int) (hx : decide (x = 1) = b) (h : DrA G D a rf d) (hq : q < 5) (hD : 9 < D) (hk : ∀ G', DrA G' D a rf (setS d (iup d.s (89 * q + 23) x)) → FrR D (D + 100) G G' → K G') : pF G (rf q 0) [2] 15 (vB b) K := by
  have h0 := h
  obtain ⟨-, -, -, -, -, -, -, -, -, k⟩ := h
  obtain ⟨k1, k2⟩ := k q hq
  refine pF_of k1 (by omega) (by decide) (by (exact Nat.le_of_ble_eq_true rfl)) ?_
  have hf : ∀ e, FrR (D + 20 + 10 * q) (D + 27 + 10 * q) G (wset G (D + 20 + 10 * q) (rf q 0) e) := fun e => FrR.ws (by omega) (by omega) (by omega)
  refine hk _ (h0.line0 hD hq (hf _) ⟨?_, ?_⟩ (fun j hj => iup_ne (by omega))) ((hf _).wide (by omega) (by omega))
  · rw [wset_at, iup_at]
    rw [iup_ne (j := 89 * q + 20) (by omega), iup_ne (j := 89 * q + 21) (by omega), iup_ne (j := 89 * q + 22) (by omega), iup_ne (j := 89 * q + 0) (by omega), iup_ne (j := 89 * q + 1) (by omega), iup_ne (j := 89 * q + 2) (by omega), iup_ne (j := 89 * q + 3) (by omega), iup_ne (j := 89 * q + 4) (by omega), iup_ne (j := 89 * q + 5) (by omega), iup_ne (j := 89 * q + 6) (by omega), iup_ne (j := 89 * q + 7) (by omega), iup_ne (j := 89 * q + 8) (by omega), hx]
    rfl
  · exact LineA.body k2 (fun r r1 r2 => wset2 (by omega)) (fun b e hb _ => by rw [wset2 (by omega)]; exact hb)
theorem pL_16 {G : Wd} {D a q : Nat} {rf : Nat → Nat → Nat} {d : DS} {K : Wd → Prop} {b : Bool} (x : Int) (hx : decide (x = 1) = b) (h : DrA G D a rf d) (hq : q < 5) (hD : 9 < D) (hk : ∀ G', DrA G' D a rf (setS d (iup d.s (89 * q + 8) x)) → FrR D (D + 100) G G' → K G') : pF G (rf q 0) [2] 16 (vB b) K := by
  have h0 := h
  obtain ⟨-, -, -, -, -, -, -, -, -, k⟩ := h
  obtain ⟨k1, k2⟩ := k q hq
  refine pF_of k1 (by omega) (by decide) (by (exact Nat.le_of_ble_eq_true rfl)) ?_
  have hf : ∀ e, FrR (D + 20 + 10 * q) (D + 27 + 10 * q) G (wset G (D + 20 + 10 * q) (rf q 0) e) := fun e => FrR.ws (by omega) (by omega) (by omega)
  refine hk _ (h0.line0 hD hq (hf _) ⟨?_, ?_⟩ (fun j hj => iup_ne (by omega))) ((hf _).wide (by omega) (by omega))
  · rw [wset_at, iup_at]
    rw [iup_ne (j := 89 * q + 20) (by omega), iup_ne (j := 89 * q + 21) (by omega), iup_ne (j := 89 * q + 22) (by omega), iup_ne (j := 89 * q + 0) (by omega), iup_ne (j := 89 * q + 1) (by omega), iup_ne (j := 89 * q + 2) (by omega), iup_ne (j := 89 * q + 3) (by omega), iup_ne (j := 89 * q + 4) (by omega), iup_ne (j := 89 * q + 5) (by omega), iup_ne (j := 89 * q + 6) (by omega), iup_ne (j := 89 * q + 7) (by omega), iup_ne (j := 89 * q + 23) (by omega), hx]
    rfl
  · exact LineA.body k2 (fun r r1 r2 => wset2 (by omega)) (fun b e hb _ => by rw [wset2 (by omega)]; exact hb)
theorem gD_0 {G : Wd} {D a : Nat} {rf : Nat → Nat → Nat} {d : DS} {K : Option Nat → Prop} (h : DrA G D a rf d) (hk : K (some (rf 9 0))) : gR G a [1] 0 K := gR_of h.1 (by decide) rfl hk
theorem gD_1 {G : Wd} {D a : Nat} {rf : Nat → Nat → Nat} {d : DS} {K : Option Nat → Prop} (h : DrA G D a rf d) (hk : K (some (rf 9 1))) : gR G a [1] 1 K := gR_of h.1 (by decide) rfl hk
theorem gD_2 {G : Wd} {D a : Nat} {rf : Nat → Nat → Nat} {d : DS} {K : Option Nat → Prop} (h : DrA G D a rf d) (hk : K (some (rf 9 2))) : gR G a [1] 2 K := gR_of h.1 (by decide) rfl hk
theorem gD_3 {G : Wd} {D a : Nat} {rf : Nat → Nat → Nat} {d : DS} {K : Option Nat → Prop} (h : DrA G D a rf d) (hk : K (some (rf 9 3))) : gR G a [1] 3 K := gR_of h.1 (by decide) rfl hk
theorem gD_4 {G : Wd} {D a : Nat} {rf : Nat → Nat → Nat} {d : DS} {K : Option Nat → Prop} (h : DrA G D a rf d) (hk : K (some (rf 9 4))) : gR G a [1] 4 K := gR_of h.1 (by decide) rfl hk
theorem gD_5 {G : Wd} {D a : Nat} {rf : Nat → Nat → Nat} {d : DS} {K : Option Nat → Prop} (h : DrA G D a rf d) (hk : K (some (rf 9 5))) : gR G a [1] 5 K := gR_of h.1 (by decide) rfl hk
theorem gD_6 {G : Wd} {D a : Nat} {rf : Nat → Nat → Nat} {d : DS} {K : Option Nat → Prop} (h : DrA G D a rf d) (hk : K (some (rf 9 6))) : gR G a [1] 6 K := gR_of h.1 (by decide) rfl hk
theorem gD_7 {G : Wd} {D a : Nat} {rf : Nat → Nat → Nat} {d : DS} {K : Option Nat → Prop} (h : DrA G D a rf d) (hk : K (some (rf 9 7))) : gR G a [1] 7 K := gR_of h.1 (by decide) rfl hk
theorem gD_8 {G : Wd} {D a : Nat} {rf : Nat → Nat → Nat} {d : DS} {K : Int → Prop} (h : DrA G D a rf d) (hk : K (d.s 900)) : gI G a [1] 8 K := gI_of h.1 (by decide) rfl hk
theorem pD_8 {G : Wd} {D a : Nat} {rf : Nat → Nat → Nat} {d : DS} {K : Wd → Prop} {x : Int} (h : DrA G D a rf d) (hD : 9 < D) (hk : ∀ G', DrA G' D a rf (setS d (iup d.s 900 x)) → FrR D (D + 100) G G' → K G') : pF G a [1] 8 (vI x) K := by
  refine pF_of h.1 (by omega) (by decide) (by (exact Nat.le_of_ble_eq_true rfl)) ?_
  have hf : ∀ e, FrR D (D + 1) G (wset G D a e) := fun e => FrR.ws (by omega) (by omega) (by omega)
  refine hk _ (h.top hD (hf _) ?_ (fun j hj => iup_ne (by omega))) ((hf _).wide (by omega) (by omega))
  rw [wset_at, iup_at]
  rw [iup_ne (j := 826) (by omega), iup_ne (j := 827) (by omega), iup_ne (j := 838) (by omega), iup_ne (j := 839) (by omega), iup_ne (j := 901) (by omega), iup_ne (j := 902) (by omega)]
  rfl
theorem gD_9 {G : Wd} {D a : Nat} {rf : Nat → Nat → Nat} {d : DS} {K : Int → Prop} (h : DrA G D a rf d) (hk : K (d.s 826)) : gI G a [1] 9 K := gI_of h.1 (by decide) rfl hk
theorem pD_9 {G : Wd} {D a : Nat} {rf : Nat → Nat → Nat} {d : DS} {K : Wd → Prop} {x : Int} (h : DrA G D a rf d) (hD : 9 < D) (hk : ∀ G', DrA G' D a rf (setS d (iup d.s 826 x)) → FrR D (D + 100) G G' → K G') : pF G a [1] 9 (vI x) K := by
  refine pF_of h.1 (by omega) (by decide) (by (exact Nat.le_of_ble_eq_true rfl)) ?_
  have hf : ∀ e, FrR D (D + 1) G (wset G D a e) := fun e => FrR.ws (by omega) (by omega) (by omega)
  refine hk _ (h.top hD (hf _) ?_ (fun j hj => iup_ne (by omega))) ((hf _).wide (by omega) (by omega))
  rw [wset_at, iup_at]
  rw [iup_ne (j := 900) (by omega), iup_ne (j := 827) (by omega), iup_ne (j := 838) (by omega), iup_ne (j := 839) (by omega), iup_ne (j := 901) (by omega), iup_ne (j := 902) (by omega)]
  rfl
theorem gD_10 {G : Wd} {D a : Nat} {rf : Nat → Nat → Nat} {d : DS} {K : Int → Prop} (h : DrA G D a rf d) (hk : K (d.s 827)) : gI G a [1] 10 K := gI_of h.1 (by decide) rfl hk
theorem pD_10 {G : Wd} {D a : Nat} {rf : Nat → Nat → Nat} {d : DS} {K : Wd → Prop} {x : Int} (h : DrA G D a rf d) (hD : 9 < D) (hk : ∀ G', DrA G' D a rf (setS d (iup d.s 827 x)) → FrR D (D + 100) G G' → K G') : pF G a [1] 10 (vI x) K := by
  refine pF_of h.1 (by omega) (by decide) (by (exact Nat.le_of_ble_eq_true rfl)) ?_
  have hf : ∀ e, FrR D (D + 1) G (wset G D a e) := fun e => FrR.ws (by omega) (by omega) (by omega)
  refine hk _ (h.top hD (hf _) ?_ (fun j hj => iup_ne (by omega))) ((hf _).wide (by omega) (by omega))
  rw [wset_at, iup_at]
  rw [iup_ne (j := 900) (by omega), iup_ne (j := 826) (by omega), iup_ne (j := 838) (by omega), iup_ne (j := 839) (by omega), iup_ne (j := 901) (by omega), iup_ne (j := 902) (by omega)]
  rfl
theorem gD_11 {G : Wd} {D a : Nat} {rf : Nat → Nat → Nat} {d : DS} {K : Int → Prop} (h : DrA G D a rf d) (hk : K (d.s 838)) : gI G a [1] 11 K := gI_of h.1 (by decide) rfl hk
theorem pD_11 {G : Wd} {D a : Nat} {rf : Nat → Nat → Nat} {d : DS} {K : Wd → Prop} {x : Int} (h : DrA G D a rf d) (hD : 9 < D) (hk : ∀ G', DrA G' D a rf (setS d (iup d.s 838 x)) → FrR D (D + 100) G G' → K G') : pF G a [1] 11 (vI x) K := by
  refine pF_of h.1 (by omega) (by decide) (by (exact Nat.le_of_ble_eq_true rfl)) ?_
  have hf : ∀ e, FrR D (D + 1) G (wset G D a e) := fun e => FrR.ws (by omega) (by omega) (by omega)
  refine hk _ (h.top hD (hf _) ?_ (fun j hj => iup_ne (by omega))) ((hf _).wide (by omega) (by omega))
  rw [wset_at, iup_at]
  rw [iup_ne (j := 900) (by omega), iup_ne (j := 826) (by omega), iup_ne (j := 827) (by omega), iup_ne (j := 839) (by omega), iup_ne (j := 901) (by omega), iup_ne (j := 902) (by omega)]
  rfl
theorem gD_12 {G : Wd} {D a : Nat} {rf : Nat → Nat → Nat} {d : DS} {K : Int → Prop} (h : DrA G D a rf d) (hk : K (d.s 839)) : gI G a [1] 12 K := gI_of h.1 (by decide) rfl hk
theorem pD_12 {G : Wd} {D a : Nat} {rf : Nat → Nat → Nat} {d : DS} {K : Wd → Prop} {x : Int} (h : DrA G D a rf d) (hD : 9 < D) (hk : ∀ G', DrA G' D a rf (setS d (iup d.s 839 x)) → FrR D (D + 100) G G' → K G') : pF G a [1] 12 (vI x) K := by
  refine pF_of h.1 (by omega) (by decide) (by (exact Nat.le_of_ble_eq_true rfl)) ?_
  have hf : ∀ e, FrR D (D + 1) G (wset G D a e) := fun e => FrR.ws (by omega) (by omega) (by omega)
  refine hk _ (h.top hD (hf _) ?_ (fun j hj => iup_ne (by omega))) ((hf _).wide (by omega) (by omega))
  rw [wset_at, iup_at]
  rw [iup_ne (j := 900) (by omega), iup_ne (j := 826) (by omega), iup_ne (j := 827) (by omega), iup_ne (j := 838) (by omega), iup_ne (j := 901) (by omega), iup_ne (j := 902) (by omega)]
  rfl
theorem gD_13 {G : Wd} {D a : Nat} {rf : Nat → Nat → Nat} {d : DS} {K : Int → Prop} (h : DrA G D a rf d) (hk : K (d.s 901)) : gI G a [1] 13 K := gI_of h.1 (by decide) rfl hk
theorem pD_13 {G : Wd} {D a : Nat} {rf : Nat → Nat → Nat} {d : DS} {K : Wd → Prop} {x : Int} (h : DrA G D a rf d) (hD : 9 < D) (hk : ∀ G', DrA G' D a rf (setS d (iup d.s 901 x)) → FrR D (D + 100) G G' → K G') : pF G a [1] 13 (vI x) K := by
  refine pF_of h.1 (by omega) (by decide) (by (exact Nat.le_of_ble_eq_true rfl)) ?_
  have hf : ∀ e, FrR D (D + 1) G (wset G D a e) := fun e => FrR.ws (by omega) (by omega) (by omega)
  refine hk _ (h.top hD (hf _) ?_ (fun j hj => iup_ne (by omega))) ((hf _).wide (by omega) (by omega))
  rw [wset_at, iup_at]
  rw [iup_ne (j := 900) (by omega), iup_ne (j := 826) (by omega), iup_ne (j := 827) (by omega), iup_ne (j := 838) (by omega), iup_ne (j := 839) (by omega), iup_ne (j := 902) (by omega)]
  rfl
theorem gD_14 {G : Wd} {D a : Nat} {rf : Nat → Nat → Nat} {d : DS} {K : Int → Prop} (h : DrA G D a rf d) (hk : K (d.s 902)) : gI G a [1] 14 K := gI_of h.1 (by decide) rfl hk
theorem pD_14 {G : Wd} {D a : Nat} {rf : Nat → Nat → Nat} {d : DS} {K : Wd → Prop} {x : Int} (h : DrA G D a rf d) (hD : 9 < D) (hk : ∀ G', DrA G' D a rf (setS d (iup d.s 902 x)) → FrR D (D + 100) G G' → K G') : pF G a [1] 14 (vI x) K := by
  refine pF_of h.1 (by omega) (by decide) (by (exact Nat.le_of_ble_eq_true rfl)) ?_
  have hf : ∀ e, FrR D (D + 1) G (wset G D a e) := fun e => FrR.ws (by omega) (by omega) (by omega)
  refine hk _ (h.top hD (hf _) ?_ (fun j hj => iup_ne (by omega))) ((hf _).wide (by omega) (by omega))
  rw [wset_at, iup_at]
  rw [iup_ne (j := 900) (by omega), iup_ne (j := 826) (by omega), iup_ne (j := 827) (by omega), iup_ne (j := 838) (by omega), iup_ne (j := 839) (by omega), iup_ne (j := 901) (by omega)]
  rfl
theorem xldL {G : Wd} {D a q : Nat} {rf : Nat → Nat → Nat} {d : DS} {K : Option Nat → Prop} (h : DrA G D a rf d) (hq : q < 5) (hk : K (some (rf q 0))) : ldR G (rf 9 0) 7 q K := by
  obtain ⟨-, ⟨lf, k1, k2⟩, -⟩ := h
  refine ldR_of k1 ⟨by omega, by omega, by omega⟩ ?_
  rw [k2 q hq]; exact hk
theorem xldB {G : Wd} {D a : Nat} {rf : Nat → Nat → Nat} {d : DS} {K : Int → Prop} {i : Int} (h : DrA G D a rf d) (h0 : 0 ≤ i) (h1 : i < 10) (hk : K (d.s (828 + i))) : ldI G (rf 9 3) 0 i K := by
  obtain ⟨f, k1, k2⟩ := h.2.2.2.2.1
  refine ldI_of k1 ⟨by omega, by omega, by omega⟩ ?_
  rw [k2 i h0 h1]; exact hk
theorem xstB {G : Wd} {D a : Nat} {rf : Nat → Nat → Nat} {d : DS} {K : Wd → Prop} {i x : Int} (h : DrA G D a rf d) (hD : 9 < D) (h0 : 0 ≤ i) (h1 : i < 10) (hk : ∀ G', DrA G' D a rf (setS d (iup d.s (828 + i) x)) → FrR D (D + 100) G G' → K G') : stI G (rf 9 3) 0 i x K := by
  obtain ⟨f, k1, k2⟩ := h.2.2.2.2.1
  refine stI_of k1 (by omega) ⟨by omega, by omega, by omega⟩ ?_
  have hf : FrR (D + 6) (D + 6 + 1) G (wset G (D + 6) (rf 9 3) (aI 0 10 (iup f i x))) := FrR.ws (by omega) (by omega) (by omega)
  refine hk _ (h.arr (j := 6) (b := 828) (n := 10) hD (by decide) hf ⟨_, wset_at, fun m m0 m1 => ?_⟩ (fun m hm => iup_ne (by omega))) (hf.wide (by omega) (by omega))
  unfold iup
  by_cases e : m = i
  · rw [if_pos e, if_pos (by omega)]
  · rw [if_neg e, if_neg (by omega), k2 m m0 m1]
theorem xldW {G : Wd} {D a : Nat} {rf : Nat → Nat → Nat} {d : DS} {K : Int → Prop} {i : Int} (h : DrA G D a rf d) (h0 : 0 ≤ i) (h1 : i < 4) (hk : K (d.s (814 + i))) : ldI G (rf 9 4) 0 i K := by
  obtain ⟨f, k1, k2⟩ := h.2.2.2.2.2.1
  refine ldI_of k1 ⟨by omega, by omega, by omega⟩ ?_
  rw [k2 i h0 h1]; exact hk
theorem xstW {G : Wd} {D a : Nat} {rf : Nat → Nat → Nat} {d : DS} {K : Wd → Prop} {i x : Int} (h : DrA G D a rf d) (hD : 9 < D) (h0 : 0 ≤ i) (h1 : i < 4) (hk : ∀ G', DrA G' D a rf (setS d (iup d.s (814 + i) x)) → FrR D (D + 100) G G' → K G') : stI G (rf 9 4) 0 i x K := by
  obtain ⟨f, k1, k2⟩ := h.2.2.2.2.2.1
  refine stI_of k1 (by omega) ⟨by omega, by omega, by omega⟩ ?_
  have hf : FrR (D + 7) (D + 7 + 1) G (wset G (D + 7) (rf 9 4) (aI 0 4 (iup f i x))) := FrR.ws (by omega) (by omega) (by omega)
  refine hk _ (h.arr (j := 7) (b := 814) (n := 4) hD (by decide) hf ⟨_, wset_at, fun m m0 m1 => ?_⟩ (fun m hm => iup_ne (by omega))) (hf.wide (by omega) (by omega))
  unfold iup
  by_cases e : m = i
  · rw [if_pos e, if_pos (by omega)]
  · rw [if_neg e, if_neg (by omega), k2 m m0 m1]
theorem xldC {G : Wd} {D a : Nat} {rf : Nat → Nat → Nat} {d : DS} {K : Int → Prop} {i : Int} (h : DrA G D a rf d) (h0 : 0 ≤ i) (h1 : i < 4) (hk : K (d.s (818 + i))) : ldI G (rf 9 5) 0 i K := by
  obtain ⟨f, k1, k2⟩ := h.2.2.2.2.2.2.1
  refine ldI_of k1 ⟨by omega, by omega, by omega⟩ ?_
  rw [k2 i h0 h1]; exact hk
theorem xstC {G : Wd} {D a : Nat} {rf : Nat → Nat → Nat} {d : DS} {K : Wd → Prop} {i x : Int} (h : DrA G D a rf d) (hD : 9 < D) (h0 : 0 ≤ i) (h1 : i < 4) (hk : ∀ G', DrA G' D a rf (setS d (iup d.s (818 + i) x)) → FrR D (D + 100) G G' → K G') : stI G (rf 9 5) 0 i x K := by
  obtain ⟨f, k1, k2⟩ := h.2.2.2.2.2.2.1
  refine stI_of k1 (by omega) ⟨by omega, by omega, by omega⟩ ?_
  have hf : FrR (D + 8) (D + 8 + 1) G (wset G (D + 8) (rf 9 5) (aI 0 4 (iup f i x))) := FrR.ws (by omega) (by omega) (by omega)
  refine hk _ (h.arr (j := 8) (b := 818) (n := 4) hD (by decide) hf ⟨_, wset_at, fun m m0 m1 => ?_⟩ (fun m hm => iup_ne (by omega))) (hf.wide (by omega) (by omega))
  unfold iup
  by_cases e : m = i
  · rw [if_pos e, if_pos (by omega)]
  · rw [if_neg e, if_neg (by omega), k2 m m0 m1]
theorem xldT {G : Wd} {D a : Nat} {rf : Nat → Nat → Nat} {d : DS} {K : Int → Prop} {i : Int} (h : DrA G D a rf d) (h0 : 0 ≤ i) (h1 : i < 4) (hk : K (d.s (822 + i))) : ldI G (rf 9 6) 0 i K := by
  obtain ⟨f, k1, k2⟩ := h.2.2.2.2.2.2.2.1
  refine ldI_of k1 ⟨by omega, by omega, by omega⟩ ?_
  rw [k2 i h0 h1]; exact hk
theorem xstT {G : Wd} {D a : Nat} {rf : Nat → Nat → Nat} {d : DS} {K : Wd → Prop} {i x : Int} (h : DrA G D a rf d) (hD : 9 < D) (h0 : 0 ≤ i) (h1 : i < 4) (hk : ∀ G', DrA G' D a rf (setS d (iup d.s (822 + i) x)) → FrR D (D + 100) G G' → K G') : stI G (rf 9 6) 0 i x K := by
  obtain ⟨f, k1, k2⟩ := h.2.2.2.2.2.2.2.1
  refine stI_of k1 (by omega) ⟨by omega, by omega, by omega⟩ ?_
  have hf : FrR (D + 9) (D + 9 + 1) G (wset G (D + 9) (rf 9 6) (aI 0 4 (iup f i x))) := FrR.ws (by omega) (by omega) (by omega)
  refine hk _ (h.arr (j := 9) (b := 822) (n := 4) hD (by decide) hf ⟨_, wset_at, fun m m0 m1 => ?_⟩ (fun m hm => iup_ne (by omega))) (hf.wide (by omega) (by omega))
  unfold iup
  by_cases e : m = i
  · rw [if_pos e, if_pos (by omega)]
  · rw [if_neg e, if_neg (by omega), k2 m m0 m1]
theorem xldS {G : Wd} {D a : Nat} {rf : Nat → Nat → Nat} {d : DS} {K : Int → Prop} {i : Int} (h : DrA G D a rf d) (h0 : 0 ≤ i) (h1 : i < 4) (hk : K (d.s (840 + i))) : ldI G (rf 9 7) 0 i K := by
  obtain ⟨f, k1, k2⟩ := h.2.2.2.2.2.2.2.2.1
  refine ldI_of k1 ⟨by omega, by omega, by omega⟩ ?_
  rw [k2 i h0 h1]; exact hk
theorem xstS {G : Wd} {D a : Nat} {rf : Nat → Nat → Nat} {d : DS} {K : Wd → Prop} {i x : Int} (h : DrA G D a rf d) (hD : 9 < D) (h0 : 0 ≤ i) (h1 : i < 4) (hk : ∀ G', DrA G' D a rf (setS d (iup d.s (840 + i) x)) → FrR D (D + 100) G G' → K G') : stI G (rf 9 7) 0 i x K := by
  obtain ⟨f, k1, k2⟩ := h.2.2.2.2.2.2.2.2.1
  refine stI_of k1 (by omega) ⟨by omega, by omega, by omega⟩ ?_
  have hf : FrR (D + 10) (D + 10 + 1) G (wset G (D + 10) (rf 9 7) (aI 0 4 (iup f i x))) := FrR.ws (by omega) (by omega) (by omega)
  refine hk _ (h.arr (j := 10) (b := 840) (n := 4) hD (by decide) hf ⟨_, wset_at, fun m m0 m1 => ?_⟩ (fun m hm => iup_ne (by omega))) (hf.wide (by omega) (by omega))
  unfold iup
  by_cases e : m = i
  · rw [if_pos e, if_pos (by omega)]
  · rw [if_neg e, if_neg (by omega), k2 m m0 m1]
theorem cD {G : Wd} {D a : Nat} {rf : Nat → Nat → Nat} {d : DS} (h : DrA G D a rf d) : isC G a 1 := isC_of h.1
theorem cL {G : Wd} {D a q : Nat} {rf : Nat → Nat → Nat} {d : DS} (h : DrA G D a rf d) (hq : q < 5) : isC G (rf q 0) 2 := isC_of (h.2.2.2.2.2.2.2.2.2 q hq).1
theorem cRun {G : Wd} {D a : Nat} {rf : Nat → Nat → Nat} {d : DS} (h : DrA G D a rf d) : isC G (rf 9 1) 12 := by
  obtain ⟨xs, ⟨ns, mc, hm, h1, h2⟩, -⟩ := h.2.2.1
  exact isC_of h1
theorem cOut {G : Wd} {D a : Nat} {rf : Nat → Nat → Nat} {d : DS} (h : DrA G D a rf d) : isC G (rf 9 2) 12 := by
  obtain ⟨xs, ⟨ns, mc, hm, h1, h2⟩, -⟩ := h.2.2.2.1
  exact isC_of h1
theorem cRing {G : Wd} {D a q : Nat} {rf : Nat → Nat → Nat} {d : DS} (h : DrA G D a rf d) (hq : q < 5) : isC G (rf q 1) 13 := by
  obtain ⟨xs, ⟨e, i, f, h1, h2⟩, -⟩ := (h.2.2.2.2.2.2.2.2.2 q hq).2.1
  exact isC_of h1
theorem cPosts {G : Wd} {D a q : Nat} {rf : Nat → Nat → Nat} {d : DS} (h : DrA G D a rf d) (hq : q < 5) : isC G (rf q 2) 13 := by
  obtain ⟨xs, ⟨e, i, f, h1, h2⟩, -⟩ := (h.2.2.2.2.2.2.2.2.2 q hq).2.2.1
  exact isC_of h1
theorem cUsed {G : Wd} {D a q : Nat} {rf : Nat → Nat → Nat} {d : DS} (h : DrA G D a rf d) (hq : q < 5) : isC G (rf q 3) 14 := by
  obtain ⟨e, i, f, h1, h2⟩ := (h.2.2.2.2.2.2.2.2.2 q hq).2.2.2
  exact isC_of h1
