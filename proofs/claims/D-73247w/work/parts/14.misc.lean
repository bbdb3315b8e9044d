/-! CONSTANTS, SWITCHES, CASTS -/
set_option maxRecDepth 100000
section
variable {M : Mt} {d k n pc : Nat} {L : List (Option Value)} {st : List Value} {G : Wd} {Q : Qt} {X : Xt}
theorem r_ldc {index : Nat} {v : Int32} {x : Int} (hd : decode M.2.1 pc = .ok (.ldc index, 2)) (hw : Cond.constant M.1 index v ∈ lw_all) (hv : v = Int32.ofInt x) (h : wp M d k n (pc + 2) L (vI x :: st) G Q X) : wp M d k n pc L st G Q X := by
  subst hv
  intro z hz p e R s m args below meth c H locs cells slots ls cx hR hP hS hl
  exact lv_ldc cx.1 cx.2.1 cx.2.2.2.2.2.1 (zw hz cx.2.2.2.2.2.2.2.2.1 hw) hd (h z hz p e R s m args below meth c H locs cells slots ls cx hR hP hS hl)
theorem r_ldcw {index : Nat} {v : Int32} {x : Int} (hd : decode M.2.1 pc = .ok (.ldc_w index, 3)) (hw : Cond.constant M.1 index v ∈ lw_all) (hv : v = Int32.ofInt x) (h : wp M d k n (pc + 3) L (vI x :: st) G Q X) : wp M d k n pc L st G Q X := by
  subst hv
  intro z hz p e R s m args below meth c H locs cells slots ls cx hR hP hS hl
  exact lv_ldcw cx.1 cx.2.1 cx.2.2.2.2.2.1 (zw hz cx.2.2.2.2.2.2.2.2.1 hw) hd (h z hz p e R s m args below meth c H locs cells slots ls cx hR hP hS hl)
theorem r_ldc2 {index : Nat} {v : Int64} {x : Int} (hd : decode M.2.1 pc = .ok (.ldc2_w index, 3)) (hw : Cond.constantLong M.1 index v ∈ lw_all) (hv : v = Int64.ofInt x) (h : wp M d k n (pc + 3) L (vJ x :: st) G Q X) : wp M d k n pc L st G Q X := by
  subst hv
  intro z hz p e R s m args below meth c H locs cells slots ls cx hR hP hS hl
  exact lv_ldc2 cx.1 cx.2.1 cx.2.2.2.2.2.1 (zw hz cx.2.2.2.2.2.2.2.2.1 hw) hd (h z hz p e R s m args below meth c H locs cells slots ls cx hR hP hS hl)
/-- a case of a switch -/
def swc (x c : Int) (A B : Prop) : Prop := (x = c → A) ∧ (¬ x = c → B)
theorem r_swc {x c : Int} {A B : Prop} (ho : swc x c A B) (ha : x = c → A → wp M d k n pc L st G Q X) (hb : ¬ x = c → B → wp M d k n pc L st G Q X) : wp M d k n pc L st G Q X := by
  by_cases h : x = c
  · exact ha h (ho.1 h)
  · exact hb h (ho.2 h)
theorem r_tsIn {x : Int} {dflt lo hi : Int} {offs : Array Int} {len tgt : Nat} {off c : Int} (hd : decode M.2.1 pc = .ok (.tableswitch dflt lo hi offs, len)) (hx : R32 x) (e : x = c) (hi1 : lo ≤ c) (hi2 : c ≤ hi) (ho : offs[(c - lo).toNat]? = some off) (ht : (pc : Int) + off = (tgt : Int)) (h : wp M d k n tgt L st G Q X) : wp M d k n pc L (vI x :: st) G Q X := by
  subst e
  exact wp.step (fun hx1 hb hl q => lv_tableIn hx1 hb hd (by rw [ti hx]; omega) (by rw [ti hx]; omega) (by rw [ti hx]; exact ho) ht q) h
theorem r_tsOut {x : Int} {dflt lo hi : Int} {offs : Array Int} {len tgt : Nat} (hd : decode M.2.1 pc = .ok (.tableswitch dflt lo hi offs, len)) (hx : R32 x) (e : x < lo ∨ hi < x) (ht : (pc : Int) + dflt = (tgt : Int)) (h : wp M d k n tgt L st G Q X) : wp M d k n pc L (vI x :: st) G Q X :=
  wp.step (fun hx1 hb hl q => lv_tableOut hx1 hb hd (by rw [ti hx]; exact e) ht q) h
theorem r_ls {x : Int} {dflt : Int} {ps : Array (Int × Int)} {len tgt : Nat} {off : Int} (hd : decode M.2.1 pc = .ok (.lookupswitch dflt ps, len)) (hp : (ps.toList.zip (ps.toList.drop 1)).all (fun (a, next) => a.1 < next.1) = true) (hx : R32 x) (ho : Op.lookupswitch.offset ps.toList dflt x = off) (ht : (pc : Int) + off = (tgt : Int)) (h : wp M d k n tgt L st G Q X) : wp M d k n pc L (vI x :: st) G Q X :=
  wp.step (fun hx1 hb hl q => lv_lookup hx1 hb hd hp (by rw [ti hx]; exact ho) ht q) h
/-- the same state, spelt otherwise -/
theorem wp.cast {L' : List (Option Value)} {st' : List Value} (hL : L = L') (hs : st = st') (h : wp M d k n pc L' st' G Q X) : wp M d k n pc L st G Q X := by
  subst hL; subst hs; exact h
theorem vI0 : vI 0 = vB false := rfl
theorem vI1 : vI 1 = vB true := rfl
def b2i (b : Bool) : Int := if b then 1 else 0
theorem vBI (b : Bool) : vB b = vI (b2i b) := by cases b <;> rfl
theorem vIB {x : Int} {b : Bool} (h : x = b2i b) : vI x = vB b := by subst h; exact (vBI b).symm
/-- not null -/
def nn (r : Option Nat) (K : Nat → Prop) : Prop := ∃ a, r = some a ∧ K a
end
/-! fewer locals, slot by slot -/
theorem ls_0 {L : List (Option Value)} : ∀ (k : Nat) (v : Value), ([] : List (Option Value))[k]? = some (some v) → L[k]? = some (some v) := fun k v h => by simp at h
theorem ls_n {L L' : List (Option Value)} {x : Option Value} (h : ∀ (k : Nat) (v : Value), L'[k]? = some (some v) → L[k]? = some (some v)) : ∀ (k : Nat) (v : Value), (none :: L')[k]? = some (some v) → (x :: L)[k]? = some (some v) := fun k v q => by
  cases k with
  | zero => simp at q
  | succ k => simpa using h k v (by simpa using q)
theorem ls_s {L L' : List (Option Value)} {x : Option Value} (h : ∀ (k : Nat) (v : Value), L'[k]? = some (some v) → L[k]? = some (some v)) : ∀ (k : Nat) (v : Value), (x :: L')[k]? = some (some v) → (x :: L)[k]? = some (some v) := fun k v q => by
  cases k with
  | zero => simpa using q
  | succ k => simpa using h k v (by simpa using q)
section
variable {M : Mt} {d k n pc : Nat} {L : List (Option Value)} {st : List Value} {G : Wd} {Q : Qt} {X : Xt}
theorem oi_max {x y : Int} (hx : R32 x) (hy : R32 y) : (if Int32.ofInt x < Int32.ofInt y then Int32.ofInt y else Int32.ofInt x) = Int32.ofInt (max x y) := by
  by_cases h : x < y
  · rw [if_pos ((oi_lt hx hy).mpr h), Int.max_eq_right (by omega)]
  · rw [if_neg (fun q => h ((oi_lt hx hy).mp q)), Int.max_eq_left (by omega)]
theorem oi_min {x y : Int} (hx : R32 x) (hy : R32 y) : (if Int32.ofInt y < Int32.ofInt x then Int32.ofInt y else Int32.ofInt x) = Int32.ofInt (min x y) := by
  by_cases h : y < x
  · rw [if_pos ((oi_lt hy hx).mpr h), Int.min_eq_right (by omega)]
  · rw [if_neg (fun q => h ((oi_lt hy hx).mp q)), Int.min_eq_left (by omega)]
theorem r_mmax {x y : Int} {A : Prop} {index mr : Nat} (hd : decode M.2.1 pc = .ok (.invokestatic index, 3)) (h1 : Cond.methodLink M.1 index Lib.Math.max.name ∈ lw_all) (hrc : RC st mr) (hm : mr ≤ 8) (hd1 : 1 ≤ d) (ho : (R32 x ∧ R32 y) ∧ A) (h : A → wp M d k n (pc + 3) L (vI (max x y) :: st) G Q X) : wp M d k n pc L (vI y :: vI x :: st) G Q X := by
  intro z hz p e R s m args below meth c H locs cells slots ls cx hR hP hS hl
  have q := h ho.2 z hz p e R s m args below meth c H locs cells slots ls cx hR hP hS hl
  have hW := cx.2.2.2.2.2.2.2.2.1
  unfold vI at q
  rw [← oi_max ho.1.1 ho.1.2] at q
  have hrc : (st.map fun v => v.category).sum ≤ mr := hrc
  exact va_mmax cx.1 cx.2.1 (cx.2.2.2.2.1.trans hl.1.symm) cx.2.2.2.2.2.1 (zw hz hW h1) (zw hz hW q340) (zw hz hW q110) (zw hz hW q341) (by have := hR.1; omega) (by have := hR.2.1; omega) (by have := hR.2.2.1; omega) (by have := hR.2.2.2; omega) hd q
theorem r_mmin {x y : Int} {A : Prop} {index mr : Nat} (hd : decode M.2.1 pc = .ok (.invokestatic index, 3)) (h1 : Cond.methodLink M.1 index Lib.Math.min.name ∈ lw_all) (hrc : RC st mr) (hm : mr ≤ 8) (hd1 : 1 ≤ d) (ho : (R32 x ∧ R32 y) ∧ A) (h : A → wp M d k n (pc + 3) L (vI (min x y) :: st) G Q X) : wp M d k n pc L (vI y :: vI x :: st) G Q X := by
  intro z hz p e R s m args below meth c H locs cells slots ls cx hR hP hS hl
  have q := h ho.2 z hz p e R s m args below meth c H locs cells slots ls cx hR hP hS hl
  have hW := cx.2.2.2.2.2.2.2.2.1
  unfold vI at q
  rw [← oi_min ho.1.1 ho.1.2] at q
  have hrc : (st.map fun v => v.category).sum ≤ mr := hrc
  exact va_mmin cx.1 cx.2.1 (cx.2.2.2.2.1.trans hl.1.symm) cx.2.2.2.2.2.1 (zw hz hW h1) (zw hz hW q358) (zw hz hW q110) (zw hz hW q359) (by have := hR.1; omega) (by have := hR.2.1; omega) (by have := hR.2.2.1; omega) (by have := hR.2.2.2; omega) hd q
end
