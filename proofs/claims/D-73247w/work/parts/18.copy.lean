/-! ARRAYCOPY, XOR, NULL TESTS, STATICS -/
set_option maxRecDepth 100000
section
variable {M : Mt} {d k n pc : Nat} {L : List (Option Value)} {st : List Value} {G : Wd} {Q : Qt} {X : Xt}
def ixor (x y : Int) : Int := (Int32.ofInt x ^^^ Int32.ofInt y).toInt
theorem r_ixor {x y : Int} (hd : decode M.2.1 pc = .ok (.ixor, 1)) (h : wp M d k n (pc + 1) L (vI (ixor x y) :: st) G Q X) : wp M d k n pc L (vI y :: vI x :: st) G Q X := by
  unfold vI ixor at h
  rw [i32b] at h
  exact wp.step (fun hx hb hl q => lv_ixor hx hb hd q) h
theorem r_ifnullV {r : Option Nat} {off : Int} {tgt : Nat} {A : Prop} {B : Nat → Prop} (hd : decode M.2.1 pc = .ok (.ifnull off, 3)) (ht : (pc : Int) + off = (tgt : Int)) (ho : brN r A B) (ha : r = none → A → wp M d k n tgt L st G Q X) (hb' : ∀ a, r = some a → B a → wp M d k n (pc + 3) L st G Q X) : wp M d k n pc L (vR r :: st) G Q X := by
  cases r with
  | none => exact wp.step (fun hx hb hl q => lv_ifnullN hx hb hd ht q) (ha rfl (ho.1 rfl))
  | some a => exact wp.step (fun hx hb hl q => lv_ifnull hx hb hd q) (hb' a rfl (ho.2 a rfl))
theorem r_ifnonnullV {r : Option Nat} {off : Int} {tgt : Nat} {A : Prop} {B : Nat → Prop} (hd : decode M.2.1 pc = .ok (.ifnonnull off, 3)) (ht : (pc : Int) + off = (tgt : Int)) (ho : brN r A B) (hb' : ∀ a, r = some a → B a → wp M d k n tgt L st G Q X) (ha : r = none → A → wp M d k n (pc + 3) L st G Q X) : wp M d k n pc L (vR r :: st) G Q X := by
  cases r with
  | none => exact wp.step (fun hx hb hl q => lv_ifnonnullN hx hb hd q) (ha rfl (ho.1 rfl))
  | some a => exact wp.step (fun hx hb hl q => lv_ifnonnull hx hb hd ht q) (hb' a rfl (ho.2 a rfl))
def icp {α : Type} (f g : Int → α) (sp dp n : Int) : Int → α := fun j => if dp ≤ j ∧ j < dp + n then f (sp + (j - dp)) else g j
def cpOK (sp dp n : Int) (n0 n1 : Nat) : Prop := (0 ≤ sp ∧ 0 ≤ dp ∧ 0 ≤ n) ∧ (sp + n ≤ (n0 : Int) ∧ dp + n ≤ (n1 : Int)) ∧ (sp < 2147483648 ∧ dp < 2147483648 ∧ n < 2147483648)
def cpI (G : Wd) (src : Nat) (sp : Int) (dst : Nat) (dp n : Int) (K : Wd → Prop) : Prop := ∃ r0 n0 f r1 n1 g, (r0 ≠ 0 ∧ r1 ≠ 0) ∧ G r0 src = some (aI 0 n0 f) ∧ G r1 dst = some (aI 0 n1 g) ∧ cpOK sp dp n n0 n1 ∧ K (wset G r1 dst (aI 0 n1 (icp f g sp dp n)))
def cpJ (G : Wd) (src : Nat) (sp : Int) (dst : Nat) (dp n : Int) (K : Wd → Prop) : Prop := ∃ r0 n0 f r1 n1 g, (r0 ≠ 0 ∧ r1 ≠ 0) ∧ G r0 src = some (aJ n0 f) ∧ G r1 dst = some (aJ n1 g) ∧ cpOK sp dp n n0 n1 ∧ K (wset G r1 dst (aJ n1 (icp f g sp dp n)))
/-- within arrays of drives -/
def cpD (G : Wd) (src : Nat) (sp : Int) (dst : Nat) (dp n : Int) (K : Wd → Prop) : Prop := ∃ r0 n0 f r1 n1 g, (r0 ≠ 0 ∧ r1 ≠ 0) ∧ G r0 src = some (aR 6 n0 f) ∧ G r1 dst = some (aR 6 n1 g) ∧ cpOK sp dp n n0 n1 ∧ (∀ i y, f i = some y → isC G y 1) ∧ K (wset G r1 dst (aR 6 n1 (icp f g sp dp n)))
theorem cpy_icp {α β : Type} (c : β → α) {f g : Int → β} {sp dp n : Int} (h : 0 ≤ sp ∧ 0 ≤ dp ∧ 0 ≤ n) : va_cpy (fun j : Nat => c (f j)) (fun j : Nat => c (g j)) sp.toNat dp.toNat n.toNat = fun j : Nat => c (icp f g sp dp n j) := by
  funext j
  unfold va_cpy icp
  by_cases hj : dp.toNat ≤ j ∧ j < dp.toNat + n.toNat
  · rw [if_pos hj, if_pos (by omega)]
    have e : ((sp.toNat + (j - dp.toNat) : Nat) : Int) = sp + ((j : Int) - dp) := by omega
    show c (f _) = _; rw [e]
  · rw [if_neg hj, if_neg (by omega)]
theorem nfw : nativeFrameWords "java/lang/System" "arraycopy" 5 + 11 ≤ 40 := by decide +kernel
section
variable {index mr src dst : Nat} {sp dp nn : Int} {K : Wd → Prop}
theorem r_cpI (hd : decode M.2.1 pc = .ok (.invokestatic index, 3)) (h1 : Cond.methodLink M.1 index arraycopyName ∈ lw_all) (hrc : RC st mr) (hm : mr ≤ 8) (hd1 : 1 ≤ d) (ho : cpI G src sp dst dp nn K) (h : ∀ G', K G' → wp M d k n (pc + 3) L st G' Q X) : wp M d k n pc L (vI nn :: vI dp :: vR (some dst) :: vI sp :: vR (some src) :: st) G Q X := by
  obtain ⟨r0, n0, f, r1, n1, g, ⟨hr0, hr1⟩, g0, g1, ⟨c1, c2, c3⟩, hk⟩ := ho
  refine wp.write hr1 g1 (fun {z p e R s m args below meth c H locs cells slots Q' ls ws q1} hz cx hR hl hP hK hPw hD hS hq hw3 kk => ?_) (h _ hk)
  obtain ⟨q0, hq0⟩ := hw3 r0 src _ hr0 g0
  have hW := cx.2.2.2.2.2.2.2.2.1
  have hrc : (st.map fun v => v.category).sum ≤ mr := hrc
  have e1 := clampI c1.1 c3.1
  have e2 := clampI c1.2.1 c3.2.1
  have e3 := clampI c1.2.2 c3.2.2
  refine va_copyi (ty := .int) cx.1 cx.2.1 (cx.2.2.2.2.1.trans hl.1.symm) cx.2.2.2.2.2.1 (zw hz hW h1) (zw hz hW q362) (zw hz hW q361) (zw hz hW q112) hK hPw hD hS q0 q1 0 0 hq0 hq rfl rfl rfl (oi_nneg c1.1 c3.1) (oi_nneg c1.2.1 c3.2.1) (oi_nneg c1.2.2 c3.2.2) (by rw [e1, e3]; omega) (by rw [e2, e3]; omega) (fun _ _ => rfl) (by have := hR.1; omega) (by have := hR.2.1; have := nfw; omega) hd (fun H1 l1 a1 a2 a3 => ?_)
  rw [e1, e2, e3, cpy_icp (fun x : Int => Int32.ofInt x) c1] at a1 a2
  exact kk H1 l1 a1 a2 a3
theorem r_cpJ (hd : decode M.2.1 pc = .ok (.invokestatic index, 3)) (h1 : Cond.methodLink M.1 index arraycopyName ∈ lw_all) (hrc : RC st mr) (hm : mr ≤ 8) (hd1 : 1 ≤ d) (ho : cpJ G src sp dst dp nn K) (h : ∀ G', K G' → wp M d k n (pc + 3) L st G' Q X) : wp M d k n pc L (vI nn :: vI dp :: vR (some dst) :: vI sp :: vR (some src) :: st) G Q X := by
  obtain ⟨r0, n0, f, r1, n1, g, ⟨hr0, hr1⟩, g0, g1, ⟨c1, c2, c3⟩, hk⟩ := ho
  refine wp.write hr1 g1 (fun {z p e R s m args below meth c H locs cells slots Q' ls ws q1} hz cx hR hl hP hK hPw hD hS hq hw3 kk => ?_) (h _ hk)
  obtain ⟨q0, hq0⟩ := hw3 r0 src _ hr0 g0
  have hW := cx.2.2.2.2.2.2.2.2.1
  have hrc : (st.map fun v => v.category).sum ≤ mr := hrc
  have e1 := clampI c1.1 c3.1
  have e2 := clampI c1.2.1 c3.2.1
  have e3 := clampI c1.2.2 c3.2.2
  refine va_copyl (ty := .long) cx.1 cx.2.1 (cx.2.2.2.2.1.trans hl.1.symm) cx.2.2.2.2.2.1 (zw hz hW h1) (zw hz hW q362) (zw hz hW q361) (zw hz hW q112) hK hPw hD hS q0 q1 5 5 hq0 hq rfl rfl rfl (oi_nneg c1.1 c3.1) (oi_nneg c1.2.1 c3.2.1) (oi_nneg c1.2.2 c3.2.2) (by rw [e1, e3]; omega) (by rw [e2, e3]; omega) (fun _ _ => rfl) (by have := hR.1; omega) (by have := hR.2.1; have := nfw; omega) hd (fun H1 l1 a1 a2 a3 => ?_)
  rw [e1, e2, e3, cpy_icp (fun x : Int => Int64.ofInt x) c1] at a1 a2
  exact kk H1 l1 a1 a2 a3
theorem r_cpD (hd : decode M.2.1 pc = .ok (.invokestatic index, 3)) (h1 : Cond.methodLink M.1 index arraycopyName ∈ lw_all) (hrc : RC st mr) (hm : mr ≤ 8) (hd1 : 1 ≤ d) (ho : cpD G src sp dst dp nn K) (h : ∀ G', K G' → wp M d k n (pc + 3) L st G' Q X) : wp M d k n pc L (vI nn :: vI dp :: vR (some dst) :: vI sp :: vR (some src) :: st) G Q X := by
  obtain ⟨r0, n0, f, r1, n1, g, ⟨hr0, hr1⟩, g0, g1, ⟨c1, c2, c3⟩, hel, hk⟩ := ho
  refine wp.write hr1 g1 (fun {z p e R s m args below meth c H locs cells slots Q' ls ws q1} hz cx hR hl hP hK hPw hD hS hq hw3 kk => ?_) (h _ hk)
  obtain ⟨q0, hq0⟩ := hw3 r0 src _ hr0 g0
  have hW := cx.2.2.2.2.2.2.2.2.1
  have hrc : (st.map fun v => v.category).sum ≤ mr := hrc
  have e1 := clampI c1.1 c3.1
  have e2 := clampI c1.2.1 c3.2.1
  have e3 := clampI c1.2.2 c3.2.2
  refine va_copyq (C := "QueueDrive$Drive") cx.1 cx.2.1 (cx.2.2.2.2.1.trans hl.1.symm) cx.2.2.2.2.2.1 (zw hz hW h1) (zw hz hW q362) (zw hz hW q361) (zw hz hW q112) hK hPw hD hS q0 q1 6 6 hq0 hq rfl rfl (oi_nneg c1.1 c3.1) (oi_nneg c1.2.1 c3.2.1) (oi_nneg c1.2.2 c3.2.2) (by rw [e1, e3]; omega) (by rw [e2, e3]; omega) (fun i _ y hy => recv (q := (RX2, TX2, 15)) hz hW hP (hel _ y hy) rfl) (fun comp c0 hc hc0 => ?_) (by have := hR.1; omega) (by have := hR.2.1; have := nfw; omega) hd (fun H1 l1 a1 a2 a3 => ?_)
  · cases Option.some.inj (hc.symm.trans hc0)
    exact Vm.assignable_self _ _
  · rw [e1, e2, e3, cpy_icp (fun x : Option Nat => x) c1] at a1 a2
    exact kk H1 l1 a1 a2 a3
end
theorem st_CS : ∀ z, Zok z → (Term.static "java/lang/String" "COMPACT_STRINGS" "Z").eval #[Value.ref (zb z)] (zs z) none [] (zs z) = some (.int 1) := by
  intro z hz
  exact va_eqi (flat_of_before _ hz.2.2.1 _ (by decide +kernel))
theorem st_BA : ∀ z, Zok z → (Term.static "java/util/BitSet" "$assertionsDisabled" "Z").eval #[Value.ref (zb z)] (zs z) none [] (zs z) = some (.int 1) := by
  intro z hz
  exact va_eqi (flat_of_before _ hz.2.2.1 _ (by decide +kernel))
end
