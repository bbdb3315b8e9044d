/-! THE TWIN: its state, its rows (printed by tw.py) -/
set_option maxRecDepth 100000
abbrev Tw : Type := Nat → Int → Int
def twF (ad : Nat → Nat) (w : Tw) : List Value := [vI (w 0 0), vI (w 1 0), vR (some (ad 2)), vR (some (ad 3)), vI (w 4 0), vI (w 5 0), vI (w 6 0), vI (w 7 0), vR (some (ad 8)), vR (some (ad 9)), vI (w 10 0), vI (w 11 0), vR (some (ad 12)), vR (some (ad 13)), vI (w 14 0), vI (w 15 0), vR (some (ad 16)), vR (some (ad 17)), vR (some (ad 18)), vR (some (ad 19)), vR (some (ad 20)), vR (some (ad 21)), vI (w 22 0), vR (some (ad 23)), vI (w 24 0), vI (w 25 0), vI (w 26 0), vR (some (ad 27)), vR (some (ad 28)), vR (some (ad 29)), vR (some (ad 30)), vR (some (ad 31)), vI (w 32 0), vR (some (ad 33)), vR (some (ad 34)), vI (w 35 0), vI (w 36 0), vR (some (ad 37)), vR (some (ad 38)), vR (some (ad 39)), vR (some (ad 40)), vI (w 41 0), vR (some (ad 42)), vR (some (ad 43)), vR (some (ad 44))]
def twA : List (Nat × Nat × Nat) := [(2, 5, 24), (3, 0, 80), (8, 0, 80), (9, 0, 80), (12, 0, 80), (13, 0, 7), (16, 0, 5), (17, 0, 5), (18, 0, 5), (19, 0, 5), (20, 0, 844), (21, 0, 844), (23, 0, 7596), (27, 0, 80), (28, 0, 80), (29, 0, 80), (30, 0, 80), (31, 0, 80), (33, 0, 4), (34, 0, 5), (37, 0, 12), (38, 0, 12), (39, 0, 41), (40, 0, 80), (42, 2, 2), (43, 0, 2), (44, 0, 1688)]
def twC (kd len : Nat) (f : Int → Int) : QE := if kd = 5 then aJ len f else aI kd len f
def tup (w : Tw) (j : Nat) (i x : Int) : Tw := va_up w j (iup (w j) i x)
/-- the region R holds the twin's object at t, its arrays at ad j -/
def TwAt (t : Nat) (ad : Nat → Nat) (w : Tw) (R : Nat → Option QE) : Prop :=
  R t = some (oB 3 (twF ad w)) ∧ (∀ j kd len, (j, kd, len) ∈ twA → R (ad j) = some (twC kd len (w j))) ∧ (∀ j kd len, (j, kd, len) ∈ twA → ad j ≠ t) ∧ (∀ j kd len j' kd' len', (j, kd, len) ∈ twA → (j', kd', len') ∈ twA → ad j = ad j' → j = j')
abbrev twQ (t : Nat) (ad : Nat → Nat) (G0 : Wd) (Q : Option Value → Tw → Prop) : Qt := fun v G' => ∃ w', TwAt t ad w' (G' 2) ∧ (∀ r, r ≠ 2 → G' r = G0 r) ∧ Q v w'
theorem twA_inj {j kd len kd' len' : Nat} (h1 : (j, kd, len) ∈ twA) (h2 : (j, kd', len') ∈ twA) : kd = kd' ∧ len = len' := by
  have key : ∀ p ∈ twA, ∀ q ∈ twA, p.1 = q.1 → p = q := by decide +kernel
  have := key _ h1 _ h2 rfl
  exact ⟨congrArg (fun x => x.2.1) this, congrArg (fun x => x.2.2) this⟩
def twS : List Nat := [0, 1, 4, 5, 6, 7, 10, 11, 14, 15, 22, 24, 25, 26, 32, 35, 36, 41]
theorem twS_arr {j k kd len : Nat} (h1 : j ∈ twS) (h2 : (k, kd, len) ∈ twA) : k ≠ j := by
  have key : ∀ j ∈ twS, ∀ q ∈ twA, q.1 ≠ j := by decide +kernel
  exact key j h1 _ h2
theorem twF_set0 (ad : Nat → Nat) (w : Tw) (x : Int) : (twF ad w).set 0 (vI x) = twF ad (tup w 0 0 x) := rfl
theorem twF_set1 (ad : Nat → Nat) (w : Tw) (x : Int) : (twF ad w).set 1 (vI x) = twF ad (tup w 1 0 x) := rfl
theorem twF_set4 (ad : Nat → Nat) (w : Tw) (x : Int) : (twF ad w).set 4 (vI x) = twF ad (tup w 4 0 x) := rfl
theorem twF_set5 (ad : Nat → Nat) (w : Tw) (x : Int) : (twF ad w).set 5 (vI x) = twF ad (tup w 5 0 x) := rfl
theorem twF_set6 (ad : Nat → Nat) (w : Tw) (x : Int) : (twF ad w).set 6 (vI x) = twF ad (tup w 6 0 x) := rfl
theorem twF_set7 (ad : Nat → Nat) (w : Tw) (x : Int) : (twF ad w).set 7 (vI x) = twF ad (tup w 7 0 x) := rfl
theorem twF_set10 (ad : Nat → Nat) (w : Tw) (x : Int) : (twF ad w).set 10 (vI x) = twF ad (tup w 10 0 x) := rfl
theorem twF_set11 (ad : Nat → Nat) (w : Tw) (x : Int) : (twF ad w).set 11 (vI x) = twF ad (tup w 11 0 x) := rfl
theorem twF_set14 (ad : Nat → Nat) (w : Tw) (x : Int) : (twF ad w).set 14 (vI x) = twF ad (tup w 14 0 x) := rfl
theorem twF_set15 (ad : Nat → Nat) (w : Tw) (x : Int) : (twF ad w).set 15 (vI x) = twF ad (tup w 15 0 x) := rfl
theorem twF_set22 (ad : Nat → Nat) (w : Tw) (x : Int) : (twF ad w).set 22 (vI x) = twF ad (tup w 22 0 x) := rfl
theorem twF_set24 (ad : Nat → Nat) (w : Tw) (x : Int) : (twF ad w).set 24 (vI x) = twF ad (tup w 24 0 x) := rfl
theorem twF_set25 (ad : Nat → Nat) (w : Tw) (x : Int) : (twF ad w).set 25 (vI x) = twF ad (tup w 25 0 x) := rfl
theorem twF_set26 (ad : Nat → Nat) (w : Tw) (x : Int) : (twF ad w).set 26 (vI x) = twF ad (tup w 26 0 x) := rfl
theorem twF_set32 (ad : Nat → Nat) (w : Tw) (x : Int) : (twF ad w).set 32 (vI x) = twF ad (tup w 32 0 x) := rfl
theorem twF_set35 (ad : Nat → Nat) (w : Tw) (x : Int) : (twF ad w).set 35 (vI x) = twF ad (tup w 35 0 x) := rfl
theorem twF_set36 (ad : Nat → Nat) (w : Tw) (x : Int) : (twF ad w).set 36 (vI x) = twF ad (tup w 36 0 x) := rfl
theorem twF_set41 (ad : Nat → Nat) (w : Tw) (x : Int) : (twF ad w).set 41 (vI x) = twF ad (tup w 41 0 x) := rfl
theorem twF_set {j : Nat} (hj : j ∈ twS) (ad : Nat → Nat) (w : Tw) (x : Int) : (twF ad w).set j (vI x) = twF ad (tup w j 0 x) := by
  have h : j = 0 ∨ j = 1 ∨ j = 4 ∨ j = 5 ∨ j = 6 ∨ j = 7 ∨ j = 10 ∨ j = 11 ∨ j = 14 ∨ j = 15 ∨ j = 22 ∨ j = 24 ∨ j = 25 ∨ j = 26 ∨ j = 32 ∨ j = 35 ∨ j = 36 ∨ j = 41 := by simpa [twS] using hj
  rcases h with rfl | rfl | rfl | rfl | rfl | rfl | rfl | rfl | rfl | rfl | rfl | rfl | rfl | rfl | rfl | rfl | rfl | rfl
  · exact twF_set0 ad w x
  · exact twF_set1 ad w x
  · exact twF_set4 ad w x
  · exact twF_set5 ad w x
  · exact twF_set6 ad w x
  · exact twF_set7 ad w x
  · exact twF_set10 ad w x
  · exact twF_set11 ad w x
  · exact twF_set14 ad w x
  · exact twF_set15 ad w x
  · exact twF_set22 ad w x
  · exact twF_set24 ad w x
  · exact twF_set25 ad w x
  · exact twF_set26 ad w x
  · exact twF_set32 ad w x
  · exact twF_set35 ad w x
  · exact twF_set36 ad w x
  · exact twF_set41 ad w x
theorem twF_arr {j kd len : Nat} (hj : (j, kd, len) ∈ twA) (ad : Nat → Nat) (w : Tw) (i x : Int) : twF ad (tup w j i x) = twF ad w := by
  have h : j = 2 ∨ j = 3 ∨ j = 8 ∨ j = 9 ∨ j = 12 ∨ j = 13 ∨ j = 16 ∨ j = 17 ∨ j = 18 ∨ j = 19 ∨ j = 20 ∨ j = 21 ∨ j = 23 ∨ j = 27 ∨ j = 28 ∨ j = 29 ∨ j = 30 ∨ j = 31 ∨ j = 33 ∨ j = 34 ∨ j = 37 ∨ j = 38 ∨ j = 39 ∨ j = 40 ∨ j = 42 ∨ j = 43 ∨ j = 44 := by
    have key : ∀ p ∈ twA, p.1 = 2 ∨ p.1 = 3 ∨ p.1 = 8 ∨ p.1 = 9 ∨ p.1 = 12 ∨ p.1 = 13 ∨ p.1 = 16 ∨ p.1 = 17 ∨ p.1 = 18 ∨ p.1 = 19 ∨ p.1 = 20 ∨ p.1 = 21 ∨ p.1 = 23 ∨ p.1 = 27 ∨ p.1 = 28 ∨ p.1 = 29 ∨ p.1 = 30 ∨ p.1 = 31 ∨ p.1 = 33 ∨ p.1 = 34 ∨ p.1 = 37 ∨ p.1 = 38 ∨ p.1 = 39 ∨ p.1 = 40 ∨ p.1 = 42 ∨ p.1 = 43 ∨ p.1 = 44 := by decide +kernel
    exact key _ hj
  rcases h with rfl | rfl | rfl | rfl | rfl | rfl | rfl | rfl | rfl | rfl | rfl | rfl | rfl | rfl | rfl | rfl | rfl | rfl | rfl | rfl | rfl | rfl | rfl | rfl | rfl | rfl | rfl <;> rfl
theorem twF_len (ad : Nat → Nat) (w : Tw) : (twF ad w).length = 45 := rfl
theorem tup_ne {w : Tw} {j k : Nat} {i x : Int} (h : k ≠ j) : tup w j i x k = w k := by unfold tup va_up; rw [if_neg h]
theorem tup_eq {w : Tw} {j : Nat} {i x : Int} : tup w j i x j = iup (w j) i x := by unfold tup va_up; rw [if_pos rfl]
def tS (w : Tw) (j : Nat) (i x : Int) (K : Tw → Prop) : Prop := K (tup w j i x)
def rdA (w : Tw) (j len : Nat) (i : Int) (K : Int → Prop) : Prop := (0 ≤ i ∧ i < (len : Int)) ∧ K (w j i)
def wrA (w : Tw) (j len : Nat) (i x : Int) (K : Tw → Prop) : Prop := (0 ≤ i ∧ i < (len : Int)) ∧ K (tup w j i x)
theorem wset2 {G : Wd} {r a : Nat} {e : QE} {r' : Nat} (h : r' ≠ r) : wset G r a e r' = G r' := by unfold wset va_up; rw [if_neg h]
theorem wset_at {G : Wd} {r a : Nat} {e : QE} : wset G r a e r a = some e := by unfold wset va_up; rw [if_pos rfl, if_pos rfl]
theorem wset_ne {G : Wd} {r a b : Nat} {e : QE} (h : b ≠ a) : wset G r a e r b = G r b := by unfold wset va_up; rw [if_pos rfl, if_neg h]
section
variable {M : Mt} {d k n pc : Nat} {L : List (Option Value)} {st : List Value} {G G0 : Wd} {Q : Qt} {X : Xt} {t : Nat} {ad : Nat → Nat} {w : Tw}
theorem fX4 : clsOK 3 RX4 TX4 45 tyX4 := ⟨rfl, in_X4, nmX4, tyX4_ok⟩
/-- a number's field is read -/
theorem t_getI {j index : Nat} (hT : TwAt t ad w (G 2)) (hd : decode M.2.1 pc = .ok (.getfield index, 3)) (hf : fGet M.1 index [3] j) (hv : (twF ad w)[j]? = some (vI (w j 0))) (h : wp M d k n (pc + 3) L (vI (w j 0) :: st) G Q X) : wp M d k n pc L (vR (some t) :: st) G Q X :=
  wp.get hd hf hT.1 (List.mem_singleton_self _) hv h
theorem t_getA {j index : Nat} (hT : TwAt t ad w (G 2)) (hd : decode M.2.1 pc = .ok (.getfield index, 3)) (hf : fGet M.1 index [3] j) (hv : (twF ad w)[j]? = some (vR (some (ad j)))) (h : wp M d k n (pc + 3) L (vR (some (ad j)) :: st) G Q X) : wp M d k n pc L (vR (some t) :: st) G Q X :=
  wp.get hd hf hT.1 (List.mem_singleton_self _) hv h
theorem t_put {j index : Nat} {x : Int} {K : Tw → Prop} (hT : TwAt t ad w (G 2)) (hG : ∀ r, r ≠ 2 → G r = G0 r) (hd : decode M.2.1 pc = .ok (.putfield index, 3)) (hf : fPut M.1 M.2.2.2.2.2 index [3] j .int) (hj : j ∈ twS) (hj2 : j < 45) (ho : tS w j 0 x K)
    (h : ∀ w' G', K w' → TwAt t ad w' (G' 2) → (∀ r, r ≠ 2 → G' r = G0 r) → wp M d k n (pc + 3) L st G' Q X) : wp M d k n pc L (vI x :: vR (some t) :: st) G Q X := by
  refine r_put (K := fun G' => TwAt t ad (tup w j 0 x) (G' 2) ∧ ∀ r, r ≠ 2 → G' r = G0 r) hd hf fvI ⟨2, 3, _, by decide, hT.1, List.mem_singleton_self _, by rw [twF_len]; exact hj2, ?_, fun r hr => ?_⟩ (fun G' hk => h _ G' ho hk.1 hk.2)
  · obtain ⟨h1, h2, h3, h4⟩ := hT
    refine ⟨by rw [wset_at, twF_set hj], fun k kd len hk => ?_, h3, h4⟩
    rw [wset_ne (h3 k kd len hk), h2 k kd len hk, tup_ne (twS_arr hj hk)]
  · rw [wset2 hr]; exact hG r hr
theorem tw_cell {j kd len : Nat} (hT : TwAt t ad w (G 2)) (hj : (j, kd, len) ∈ twA) (hk : kd ≠ 5) : G 2 (ad j) = some (aI kd len (w j)) := by
  rw [hT.2.1 j kd len hj]; unfold twC; rw [if_neg hk]
theorem tw_cellJ {j len : Nat} (hT : TwAt t ad w (G 2)) (hj : (j, 5, len) ∈ twA) : G 2 (ad j) = some (aJ len (w j)) := by
  rw [hT.2.1 j 5 len hj]; unfold twC; rw [if_pos rfl]
theorem TwAt.arr {j kd len : Nat} {i x : Int} (hT : TwAt t ad w (G 2)) (hj : (j, kd, len) ∈ twA) {e : QE} (he : e = twC kd len (iup (w j) i x)) : TwAt t ad (tup w j i x) (wset G 2 (ad j) e 2) := by
  obtain ⟨h1, h2, h3, h4⟩ := hT
  refine ⟨by rw [wset_ne (fun q => h3 j kd len hj q.symm), twF_arr hj]; exact h1, fun k kd' len' hk => ?_, h3, h4⟩
  by_cases hkj : k = j
  · subst hkj
    obtain ⟨e1, e2⟩ := twA_inj hj hk
    subst e1; subst e2
    rw [wset_at, he, tup_eq]
  · rw [wset_ne (fun q => hkj (h4 k kd' len' j kd len hk hj q)), h2 k kd' len' hk, tup_ne hkj]
theorem t_iald {j len : Nat} {i : Int} {K : Int → Prop} (hT : TwAt t ad w (G 2)) (hd : decode M.2.1 pc = .ok (.iaload, 1)) (hj : (j, 0, len) ∈ twA) (hl : len < 2147483648) (ho : rdA w j len i K) (h : K (w j i) → wp M d k n (pc + 1) L (vI (w j i) :: st) G Q X) : wp M d k n pc L (vI i :: vR (some (ad j)) :: st) G Q X :=
  r_iald (K := fun x => x = w j i) hd ⟨2, len, w j, tw_cell hT hj (by decide), ⟨ho.1.1, ho.1.2, by have := ho.1.2; omega⟩, rfl⟩ (fun x hx => by subst hx; exact h ho.2)
theorem t_zald {j len : Nat} {i : Int} {K : Int → Prop} (hT : TwAt t ad w (G 2)) (hd : decode M.2.1 pc = .ok (.baload, 1)) (hj : (j, 2, len) ∈ twA) (hl : len < 2147483648) (ho : rdA w j len i K) (h : K (w j i) → wp M d k n (pc + 1) L (vI (w j i) :: st) G Q X) : wp M d k n pc L (vI i :: vR (some (ad j)) :: st) G Q X :=
  r_zald (K := fun x => x = w j i) hd ⟨2, len, w j, tw_cell hT hj (by decide), ⟨ho.1.1, ho.1.2, by have := ho.1.2; omega⟩, rfl⟩ (fun x hx => by subst hx; exact h ho.2)
theorem t_lald {j len : Nat} {i : Int} {K : Int → Prop} (hT : TwAt t ad w (G 2)) (hd : decode M.2.1 pc = .ok (.laload, 1)) (hj : (j, 5, len) ∈ twA) (hl : len < 2147483648) (ho : rdA w j len i K) (h : K (w j i) → wp M d k n (pc + 1) L (vJ (w j i) :: st) G Q X) : wp M d k n pc L (vI i :: vR (some (ad j)) :: st) G Q X :=
  r_lald (K := fun x => x = w j i) hd ⟨2, len, w j, tw_cellJ hT hj, ⟨ho.1.1, ho.1.2, by have := ho.1.2; omega⟩, rfl⟩ (fun x hx => by subst hx; exact h ho.2)
theorem t_iast {j len : Nat} {i x : Int} {K : Tw → Prop} (hT : TwAt t ad w (G 2)) (hG : ∀ r, r ≠ 2 → G r = G0 r) (hd : decode M.2.1 pc = .ok (.iastore, 1)) (hj : (j, 0, len) ∈ twA) (hl : len < 2147483648) (ho : wrA w j len i x K)
    (h : ∀ w' G', K w' → TwAt t ad w' (G' 2) → (∀ r, r ≠ 2 → G' r = G0 r) → wp M d k n (pc + 1) L st G' Q X) : wp M d k n pc L (vI x :: vI i :: vR (some (ad j)) :: st) G Q X :=
  r_iast (K := fun G' => TwAt t ad (tup w j i x) (G' 2) ∧ ∀ r, r ≠ 2 → G' r = G0 r) hd ⟨2, len, w j, by decide, tw_cell hT hj (by decide), ⟨ho.1.1, ho.1.2, by have := ho.1.2; omega⟩, hT.arr hj rfl, fun r hr => by rw [wset2 hr]; exact hG r hr⟩ (fun G' hk => h _ G' ho.2 hk.1 hk.2)
theorem t_zast {j len : Nat} {i x : Int} {K : Tw → Prop} (hT : TwAt t ad w (G 2)) (hG : ∀ r, r ≠ 2 → G r = G0 r) (hd : decode M.2.1 pc = .ok (.bastore, 1)) (hj : (j, 2, len) ∈ twA) (hl : len < 2147483648) (hx : x = 0 ∨ x = 1) (ho : wrA w j len i x K)
    (h : ∀ w' G', K w' → TwAt t ad w' (G' 2) → (∀ r, r ≠ 2 → G' r = G0 r) → wp M d k n (pc + 1) L st G' Q X) : wp M d k n pc L (vI x :: vI i :: vR (some (ad j)) :: st) G Q X :=
  r_zast (K := fun G' => TwAt t ad (tup w j i x) (G' 2) ∧ ∀ r, r ≠ 2 → G' r = G0 r) hd ⟨hx, 2, len, w j, by decide, tw_cell hT hj (by decide), ⟨ho.1.1, ho.1.2, by have := ho.1.2; omega⟩, hT.arr hj rfl, fun r hr => by rw [wset2 hr]; exact hG r hr⟩ (fun G' hk => h _ G' ho.2 hk.1 hk.2)
theorem t_last {j len : Nat} {i x : Int} {K : Tw → Prop} (hT : TwAt t ad w (G 2)) (hG : ∀ r, r ≠ 2 → G r = G0 r) (hd : decode M.2.1 pc = .ok (.lastore, 1)) (hj : (j, 5, len) ∈ twA) (hl : len < 2147483648) (ho : wrA w j len i x K)
    (h : ∀ w' G', K w' → TwAt t ad w' (G' 2) → (∀ r, r ≠ 2 → G' r = G0 r) → wp M d k n (pc + 1) L st G' Q X) : wp M d k n pc L (vJ x :: vI i :: vR (some (ad j)) :: st) G Q X :=
  r_last (K := fun G' => TwAt t ad (tup w j i x) (G' 2) ∧ ∀ r, r ≠ 2 → G' r = G0 r) hd ⟨2, len, w j, by decide, tw_cellJ hT hj, ⟨ho.1.1, ho.1.2, by have := ho.1.2; omega⟩, hT.arr hj rfl, fun r hr => by rw [wset2 hr]; exact hG r hr⟩ (fun G' hk => h _ G' ho.2 hk.1 hk.2)
/-- answers of the twin's methods -/
abbrev uI (K : Int → Tw → Prop) : Option Value → Tw → Prop := fun v w => ∃ x, v = some (vI x) ∧ K x w
abbrev uB (K : Bool → Tw → Prop) : Option Value → Tw → Prop := fun v w => ∃ x, v = some (vB x) ∧ K x w
abbrev uJ (K : Int → Tw → Prop) : Option Value → Tw → Prop := fun v w => ∃ x, v = some (vJ x) ∧ K x w
abbrev uV (K : Tw → Prop) : Option Value → Tw → Prop := fun v w => v = none ∧ K w
theorem tofI {K : Int → Tw → Prop} {rest : List Value} (h : ∀ x w' G', K x w' → TwAt t ad w' (G' 2) → (∀ r, r ≠ 2 → G' r = G0 r) → wp M d k n pc L (vI x :: rest) G' Q X) : ∀ v G', twQ t ad G0 (uI K) v G' → wp M d k n pc L (v.toList ++ rest) G' Q X := by
  rintro v G' ⟨w', h1, h2, x, rfl, h3⟩; exact h x w' G' h3 h1 h2
theorem tofB {K : Bool → Tw → Prop} {rest : List Value} (h : ∀ x w' G', K x w' → TwAt t ad w' (G' 2) → (∀ r, r ≠ 2 → G' r = G0 r) → wp M d k n pc L (vB x :: rest) G' Q X) : ∀ v G', twQ t ad G0 (uB K) v G' → wp M d k n pc L (v.toList ++ rest) G' Q X := by
  rintro v G' ⟨w', h1, h2, x, rfl, h3⟩; exact h x w' G' h3 h1 h2
theorem tofJ {K : Int → Tw → Prop} {rest : List Value} (h : ∀ x w' G', K x w' → TwAt t ad w' (G' 2) → (∀ r, r ≠ 2 → G' r = G0 r) → wp M d k n pc L (vJ x :: rest) G' Q X) : ∀ v G', twQ t ad G0 (uJ K) v G' → wp M d k n pc L (v.toList ++ rest) G' Q X := by
  rintro v G' ⟨w', h1, h2, x, rfl, h3⟩; exact h x w' G' h3 h1 h2
theorem tofV {K : Tw → Prop} {rest : List Value} (h : ∀ w' G', K w' → TwAt t ad w' (G' 2) → (∀ r, r ≠ 2 → G' r = G0 r) → wp M d k n pc L rest G' Q X) : ∀ v G', twQ t ad G0 (uV K) v G' → wp M d k n pc L (v.toList ++ rest) G' Q X := by
  rintro v G' ⟨w', h1, h2, rfl, h3⟩; exact h w' G' h3 h1 h2
theorem tisC (hT : TwAt t ad w (G 2)) : isC G t 3 := ⟨2, _, hT.1⟩
end
theorem tA2 : (2, 5, 24) ∈ twA := by decide +kernel
theorem tA3 : (3, 0, 80) ∈ twA := by decide +kernel
theorem tA8 : (8, 0, 80) ∈ twA := by decide +kernel
theorem tA9 : (9, 0, 80) ∈ twA := by decide +kernel
theorem tA12 : (12, 0, 80) ∈ twA := by decide +kernel
theorem tA13 : (13, 0, 7) ∈ twA := by decide +kernel
theorem tA16 : (16, 0, 5) ∈ twA := by decide +kernel
theorem tA17 : (17, 0, 5) ∈ twA := by decide +kernel
theorem tA18 : (18, 0, 5) ∈ twA := by decide +kernel
theorem tA19 : (19, 0, 5) ∈ twA := by decide +kernel
theorem tA20 : (20, 0, 844) ∈ twA := by decide +kernel
theorem tA21 : (21, 0, 844) ∈ twA := by decide +kernel
theorem tA23 : (23, 0, 7596) ∈ twA := by decide +kernel
theorem tA27 : (27, 0, 80) ∈ twA := by decide +kernel
theorem tA28 : (28, 0, 80) ∈ twA := by decide +kernel
theorem tA29 : (29, 0, 80) ∈ twA := by decide +kernel
theorem tA30 : (30, 0, 80) ∈ twA := by decide +kernel
theorem tA31 : (31, 0, 80) ∈ twA := by decide +kernel
theorem tA33 : (33, 0, 4) ∈ twA := by decide +kernel
theorem tA34 : (34, 0, 5) ∈ twA := by decide +kernel
theorem tA37 : (37, 0, 12) ∈ twA := by decide +kernel
theorem tA38 : (38, 0, 12) ∈ twA := by decide +kernel
theorem tA39 : (39, 0, 41) ∈ twA := by decide +kernel
theorem tA40 : (40, 0, 80) ∈ twA := by decide +kernel
theorem tA42 : (42, 2, 2) ∈ twA := by decide +kernel
theorem tA43 : (43, 0, 2) ∈ twA := by decide +kernel
theorem tA44 : (44, 0, 1688) ∈ twA := by decide +kernel
theorem tF0 : 0 ∈ twS := by decide
theorem tF1 : 1 ∈ twS := by decide
theorem tF4 : 4 ∈ twS := by decide
theorem tF5 : 5 ∈ twS := by decide
theorem tF6 : 6 ∈ twS := by decide
theorem tF7 : 7 ∈ twS := by decide
theorem tF10 : 10 ∈ twS := by decide
theorem tF11 : 11 ∈ twS := by decide
theorem tF14 : 14 ∈ twS := by decide
theorem tF15 : 15 ∈ twS := by decide
theorem tF22 : 22 ∈ twS := by decide
theorem tF24 : 24 ∈ twS := by decide
theorem tF25 : 25 ∈ twS := by decide
theorem tF26 : 26 ∈ twS := by decide
theorem tF32 : 32 ∈ twS := by decide
theorem tF35 : 35 ∈ twS := by decide
theorem tF36 : 36 ∈ twS := by decide
theorem tF41 : 41 ∈ twS := by decide
