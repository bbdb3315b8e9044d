/-! PURE PROOFS: a command is looked for, to be called back -/
set_option maxRecDepth 100000
def recF (d : DS) (q id : Int) : Int := if recA d q id = 0 then ringOf d q.toNat id else runOf d q.toNat id
def recL (d : DS) (q id : Int) : Int := if recA d q id = 0 then 0 else match d.run.find? (fun v => hasId v q id) with
  | none => 0
  | some v => v 11
section
variable {G : Wd} {x : Nat} {d : DS} {un : List DS} {pg : Nat → Option DS} {tx rw' hw ha cs : List Int} {B : Int} {q : Nat}
variable {A : Nat → Nat} {rf : Nat → Nat → Nat → Nat} {E : Nat → Bool} {dr : Nat → DS} {u : Nat → Int} {ru : Option Nat} {ai : Nat → Int → Int} {ar : Nat → Int → Option Nat} {ah : Nat → Nat}
theorem pQe_11 {K : Wd → Prop} {y : Int} (h : Wo G x A rf E dr u ru ai ar) (hk : ∀ G', Wo G' x A rf E dr (nup u 11 y) ru ai ar → (∀ r, r ≠ 2000 → G' r = G r) → K G') : pF G x [0] 11 (vI y) K := by
  have f : ∀ e, FrX 2000 2001 G (wset G 2000 x e) := fun e => FrX.ws (by decide) (by decide) (by decide)
  refine pF_of h.cell (by decide) (by decide) (by (exact Nat.le_of_ble_eq_true rfl)) (hk _ ⟨?_, fun i hi he => (h.drv hi he).otherX (f _) (by omega) (by omega), by rw [wset2 (by decide)]; exact h.a3, by rw [wset2 (by decide)]; exact h.a6, by rw [wset2 (by decide)]; exact h.a8, by rw [wset2 (by decide)]; exact h.a14, by rw [wset2 (by decide)]; exact h.a15, by rw [wset2 (by decide)]; exact h.a17, by rw [wset2 (by decide)]; exact h.a18, by rw [wset2 (by decide)]; exact h.a20, by rw [wset2 (by decide)]; exact h.a21⟩ (fun r hr => wset2 hr))
  rw [wset_at, nup_at]
  rw [nup_ne (j := 4) (by decide), nup_ne (j := 5) (by decide), nup_ne (j := 7) (by decide), nup_ne (j := 9) (by decide), nup_ne (j := 12) (by decide), nup_ne (j := 13) (by decide), nup_ne (j := 16) (by decide), nup_ne (j := 19) (by decide)]
  rfl
theorem FrX.byq {G' : Wd} (h : ∀ r, r ≠ 2000 → G' r = G r) : FrX 2000 2001 G G' := ⟨fun r _ _ _ _ hr => h r (by omega), fun b e hb => by rw [h 1 (by decide)]; exact hb, by rw [h 5 (by decide)]; exact Ex5.refl⟩
theorem q_recallOf_71 {Q : Int → Wd → Prop} {i r b : Nat} {id : Int} (hr : 7 < r) (hid : R32 id) : ∀ (l : List Rec) (G : Wd) (k n : Nat) (ys xs : List Nat), DiAt G 7 i r b ys xs → All2 (CmdAt (G 1) q) xs l → All CmdOK l →
    (∀ G', (∀ r, r ≠ 7 → G' r = G r) → Q (if l.any (fun c => isId id c && decide (c 4 = 1)) = true then -3 else 0) G') → f_X1_recallOf_71 x Q (l.length + 1) k n id (some i) G := by
  intro l
  induction l with
  | nil =>
    intro G k n ys xs hi hx hc hQ
    have : xs = [] := hx.nil
    subst this
    obtain ⟨e, hh, lr, i1, i2⟩ := _root_.id hi
    unfold f_X1_recallOf_71 f_X1_recallOf_71_b
    exact nn_of ⟨isC_of i2, p_J23_hasNext hi (brB_F (hQ G (fun _ _ => rfl)))⟩
  | cons c l ih =>
    intro G k n ys xs hi hx hc hQ
    obtain ⟨y, xs, rfl, x1, x2⟩ := hx.cons
    obtain ⟨e, hh, lr, i1, i2⟩ := _root_.id hi
    obtain ⟨c0, -⟩ := hc.hd
    unfold f_X1_recallOf_71 f_X1_recallOf_71_b f_X1_recallOf_113
    refine nn_of ⟨isC_of i2, p_J23_hasNext hi (brB_T ⟨isC_of i2, p_J23_next hi (by omega) (by omega) (by omega) (fun G1 hi1 f1 f1' => ?_)⟩)⟩
    have e1 : G1 1 = G 1 := f1 1 (by decide)
    have x1' : CmdAt (G1 1) q y c := by rw [e1]; exact x1
    have rest : (isId id c && decide (c 4 = 1)) = false → f_X1_recallOf_71 x Q (l.length + 1) k n id (some i) G1 := by
      intro z
      refine ih G1 k n _ xs hi1 (by rw [e1]; exact x2) hc.tl (fun G' f' => ?_)
      have := hQ G' (fun r hr => (f' r hr).trans (f1 r hr))
      rw [List.any_cons, z, Bool.false_or] at this
      exact this
    refine cst_of rfl x1' (by decide) (nn_of (gI_of x1' (by decide) rfl ?_))
    by_cases c1 : c 0 = id
    · refine br_F ⟨by omega, by omega⟩ hid (by omega) (gZ_of x1' (by decide) rfl ?_)
      by_cases c4 : c 4 = 1
      · rw [decide_eq_true c4]
        have := hQ G1 f1
        rw [List.any_cons] at this
        unfold isId at this
        rw [decide_eq_true c1, decide_eq_true c4, Bool.true_and, Bool.true_or, if_pos rfl] at this
        exact brB_T this
      · rw [decide_eq_false c4]
        exact brB_F (rest (by rw [decide_eq_false c4, Bool.and_false]))
    · exact br_T ⟨by omega, by omega⟩ hid c1 (rest (by unfold isId; rw [decide_eq_false c1, Bool.false_and]))
theorem q_recallOf_127 {Q : Int → Wd → Prop} {i i0 : Nat} {m q id : Int} (hm : m ≤ 5) (hq : R32 q) (hid : R32 id) (hi0 : i0 < 13) : ∀ (l : List Rec) (G : Wd) (k n j : Nat) (u : Nat → Int) (nw : Bool) (ys xs : List Nat), Wo G x A rf E dr u ru ai ar → ItAt G 7 i (100 * i0 + 12) (rf i0 9 1) nw ys xs → All2 (WorkAt (G 1)) xs l → All (WkOK m) l → (j + l.length ≤ 100) → u 11 = (j : Int) - 1 →
    (∀ G' u', Wo G' x A rf E dr u' ru ai ar → (∀ j, j ≠ 11 → j ≠ 12 → u' j = u j) → FQ G G' → (∀ v, l.find? (fun v => hasId v q id) = some v → u' 11 = ofi ((l.findIdx? (fun v => hasId v q id)).map (fun m => j + m)) ∧ u' 12 = v 11) → Q (match l.find? (fun v => hasId v q id) with
      | none => -2
      | some v => if v 11 = 1 then -4 else 1) G') → f_X1_recallOf_127 x Q (l.length + 1) k n q id (some i) G := by
  intro l
  induction l with
  | nil =>
    intro G k n j u nw ys xs h hi hx hc hj hu hQ
    have : xs = [] := hx.nil
    subst this
    obtain ⟨n1, n2, mc, lr, i1, i2, i3, i4, i5, i6, i7, i8⟩ := _root_.id hi
    unfold f_X1_recallOf_127 f_X1_recallOf_127_b
    exact nn_of ⟨isC_of (by assumption), p_J25_hasNext hi (brB_F (hQ G u h (fun _ _ _ => rfl) FrX.refl (fun v hv => by simp at hv)))⟩
  | cons c l ih =>
    intro G k n j u nw ys xs h hi hx hc hj hu hQ
    obtain ⟨y, xs, rfl, x1, x2⟩ := hx.cons
    rw [List.length_cons] at hj
    obtain ⟨n1, n2, mc, lr, i1, i2, i3, i4, i5, i6, i7, i8⟩ := _root_.id hi
    unfold f_X1_recallOf_127 f_X1_recallOf_127_b
    refine nn_of ⟨isC_of (by assumption), p_J25_hasNext hi (brB_T ⟨isC_of (by assumption), p_J25_next hi (by omega) (by omega) (by omega) (fun G1 hi1 f1 f1' => ?_)⟩)⟩
    have e1 : G1 1 = G 1 := f1 1 (by decide)
    have h1 := h.fr (FrX.by7 (lo := 8) (hi := 9) f1) (by omega)
    have x1' : WorkAt (G1 1) y c := by rw [e1]; exact x1
    obtain ⟨y1, y2, z1, z2, z3⟩ := _root_.id x1'
    refine cst_of rfl z1 (by decide) (gQ_11 h1 (pQe_11 h1 (fun G2 h2 f2 => ?_)))
    have e2 : G2 1 = G 1 := by rw [f2 1 (by decide), e1]
    have fq : FQ G G2 := (FrX.by7 f1).trans ((FrX.byq f2).wide (by omega) (by omega))
    have hi2 : ItAt G2 7 i (100 * i0 + 12) (rf i0 9 1) true (ys ++ [y]) xs := hi1.congr (by rw [f2 _ (by decide)]) (f2 _ (by omega)) (f2 _ (by omega))
    have x1'' : WorkAt (G2 1) y c := by rw [e2]; exact x1
    have z1' := z1
    rw [← f2 1 (by decide)] at z1'
    have hu2 : nup u 11 (u 11 + 1) 11 = (j : Int) := by rw [nup_at]; omega
    refine nn_of ⟨isC_of z1', p_X9_hasId x1'' hc.hd hm hq hid ?_⟩
    cases hh : hasId c q id with
    | false =>
      refine brB_F (ih G2 k n (j + 1) _ true _ xs h2 hi2 (by rw [e2]; exact x2) hc.tl (by omega) (by rw [hu2]; omega) (fun G' u' g' eu f' ev => ?_))
      have := hQ G' u' g' (fun j j1 j2 => by rw [eu j j1 j2, nup_ne j1]) (fq.trans f')
      rw [List.find?_cons, hh] at this
      refine this (fun v hv => ?_)
      rw [List.findIdx?_cons, hh]
      have := ev v hv
      refine ⟨this.1.trans ?_, this.2⟩
      cases l.findIdx? (fun v => hasId v q id) with
      | none => rfl
      | some m => show ((j + 1 + m : Nat) : Int) = ((j + (m + 1) : Nat) : Int); omega
    | true =>
      refine brB_T (gI_of z1' (by decide) rfl (pQ_12 h2 (fun G3 h3 f3 => ?_)))
      have z1'' := f3.2.1 _ _ z1'
      have hok := hc.hd.2.2.2.2.2.1
      have := hQ G3 _ h3 (fun j j1 j2 => by rw [nup_ne j2, nup_ne j1]) (fq.trans (f3.wide (by omega) (by omega)))
      rw [List.find?_cons, hh] at this
      have := this (fun v hv => by
        injection hv with hv
        subst hv
        rw [List.findIdx?_cons, hh]
        refine ⟨?_, nup_at⟩
        rw [nup_ne (by decide), hu2]
        show (j : Int) = ((j + 0 : Nat) : Int)
        omega)
      refine gI_of z1'' (by decide) rfl ?_
      by_cases c11 : c 11 = 1
      · have this : Q (if c 11 = 1 then -4 else 1) G3 := this
        rw [if_pos c11] at this
        exact br_F ⟨by omega, by omega⟩ r1 (by omega) this
      · have this : Q (if c 11 = 1 then -4 else 1) G3 := this
        rw [if_neg c11] at this
        exact br_T ⟨by omega, by omega⟩ r1 c11 this
/-- drive i -/
theorem q_recallOf {Q : Int → Wd → Prop} {k n i : Nat} {q id : Int} (h : Wo G x A rf E dr u ru ai ar) (hi : i < 13) (hE : E i = true) (hwf : WF (dr i) B) (hq : R32 q) (hid : R32 id) (hk : 2 ≤ k) (hn : 16 ≤ n)
    (hQ : ∀ G' u', Wo G' x A rf E dr u' ru ai ar → (∀ j, j ≠ 11 → j ≠ 12 → u' j = u j) → FQ G G' → (0 ≤ recA (dr i) q id → u' 11 = recF (dr i) q id ∧ u' 12 = recL (dr i) q id) → Q (recA (dr i) q id) G') : f_X1_recallOf k n x (some (rf i 8 0)) q id G Q := by
  have hd := h.drv hi hE
  have hm := hwf.many
  unfold f_X1_recallOf
  refine ⟨hq, nn_of (gD_8 hd ⟨⟨by omega, by omega⟩, p_inq hq hm ?_⟩)⟩
  by_cases c1 : 0 ≤ q ∧ q < (dr i).s 900
  · rw [decide_eq_true c1]
    refine brB_T ⟨hid, p_in hid r0 ⟨by decide, by decide⟩ ?_⟩
    by_cases c2 : 0 ≤ id ∧ id ≤ 15
    · rw [decide_eq_true c2]
      obtain ⟨m, rfl⟩ : ∃ m : Nat, q = m := ⟨q.toNat, by omega⟩
      have h5 : m < 5 := hwf.hq c1.2
      have eA : recA (dr i) m id = if (((dr i).ring m).findIdx? (isId id)).isSome = true then (if ((dr i).ring m).any (fun c => isId id c && decide (c 4 = 1)) = true then -3 else 0)
          else match (dr i).run.find? (fun v => hasId v m id) with
            | none => -2
            | some v => if v 11 = 1 then -4 else 1 := by unfold recA; rw [if_pos ⟨c1, c2⟩, Int.toNat_natCast]; rfl
      refine brB_T (gD_0 hd (nn_of (xldL hd h5 ⟨1, 4, ⟨by omega, by omega⟩, p_placeOf hd (by omega) hwf h5 hid (by omega) (by omega) (fun G1 f1 => ?_)⟩)))
      have h1 := h.fr (FrX.by7 (lo := 8) (hi := 9) f1) (by omega)
      refine pQ_11 h1 (fun G2 h2 f2 => pQ_12 h2 (fun G3 h3 f3 => gQ_11 h3 ?_))
      have fq : FQ G G3 := (FrX.by7 f1).trans ((f2.wide (by omega) (by omega)).trans (f3.wide (by omega) (by omega)))
      have hd3 := h3.drv hi hE
      have eu : nup (nup u 11 (ringOf (dr i) m id)) 12 0 11 = ringOf (dr i) m id := by rw [nup_ne (by decide), nup_at]
      rw [eu]
      have rl := hwf.ringlen h5
      cases hf : ((dr i).ring m).findIdx? (isId id) with
      | none =>
        rw [hf, if_neg (by simp)] at eA
        have er : ringOf (dr i) m id = -1 := by unfold ringOf; rw [hf]; rfl
        rw [er]
        obtain ⟨zs, m3, m4⟩ := hd3.2.2.1
        refine br_T ⟨by decide, by decide⟩ ⟨by decide, by decide⟩ rfl (gD_1 hd3 (nn_of ⟨1, 8, ⟨by omega, by omega⟩, cRun hd3, p_J2_iterator 7 m3 (by decide) (by omega) (by omega) (by omega) (by omega) (fun i' G4 hi4 f4 f4' => ⟨(dr i).run.length + 1, ?_⟩)⟩))
        have e4 : G4 1 = G3 1 := f4 1 (by decide)
        have hrl := hwf.2.2.1.1
        refine q_recallOf_127 hm.2 hq hid hi (dr i).run G4 _ _ 0 _ false [] zs (h3.fr (FrX.by7 (lo := 8) (hi := 9) f4) (by omega)) hi4 (by rw [e4]; exact m4) hwf.2.2.1.2 (by omega) (by rw [eu, er]; rfl) (fun G' u' g' eu' f' ev => ?_)
        rw [← eA]
        refine hQ G' u' g' (fun j j1 j2 => by rw [eu' j j1 j2, nup_ne j2, nup_ne j1]) (fq.trans ((FrX.by7 f4).trans f')) (fun z => ?_)
        rw [eA] at z
        unfold recF recL
        rw [eA]
        cases hfd : (dr i).run.find? (fun v => hasId v m id) with
        | none => rw [hfd] at z; exact absurd z (by decide)
        | some v =>
          rw [hfd] at z
          have ne : ¬ (if v 11 = 1 then (-4 : Int) else 1) = 0 := by split <;> decide
          have := ev v hfd
          refine ⟨?_, ?_⟩
          · show u' 11 = if (if v 11 = 1 then (-4 : Int) else 1) = 0 then _ else _
            rw [if_neg ne, this.1, Int.toNat_natCast]
            unfold runOf
            rw [show ∀ o : Option Nat, o.map (fun j => 0 + j) = o from fun o => by cases o <;> simp]
          · show u' 12 = if (if v 11 = 1 then (-4 : Int) else 1) = 0 then _ else _
            rw [if_neg ne, this.2]
      | some p =>
        have hp := fi_lt hf
        rw [hf, if_pos (show (some p).isSome = true from rfl)] at eA
        have er : ringOf (dr i) m id = p := by unfold ringOf; rw [hf]; rfl
        rw [er]
        obtain ⟨m1, ⟨zs, m3, m4⟩, m5, m6⟩ := hd3.lineq h5
        refine br_F ⟨by omega, by omega⟩ ⟨by decide, by decide⟩ (by omega) (nn_of (gL_1 hd3 h5 (nn_of ⟨1, 4, ⟨by omega, by omega⟩, cRing hd3 h5, p_J4_iterator 7 m3 (by decide) (by omega) (by omega) (by omega) (by omega) (fun i' G4 hi4 f4 f4' => ⟨((dr i).ring m).length + 1, ?_⟩)⟩)))
        have e4 : G4 1 = G3 1 := f4 1 (by decide)
        refine q_recallOf_71 (q := m) (by omega) hid ((dr i).ring m) G4 _ _ [] zs hi4 (by rw [e4]; exact m4) (hwf.wl h5).2.2.2.1 (fun G' f' => ?_)
        rw [← eA]
        refine hQ G' _ ((h3.fr (FrX.by7 (lo := 8) (hi := 9) f4) (by omega)).fr (FrX.by7 (lo := 8) (hi := 9) f') (by omega)) (fun j j1 j2 => by rw [nup_ne j2, nup_ne j1]) (fq.trans ((FrX.by7 f4).trans (FrX.by7 f'))) (fun z => ?_)
        rw [eA] at z
        have e0 : recA (dr i) m id = 0 := by
          rw [eA]
          split at z
          · exact absurd z (by decide)
          · rename_i y; rw [if_neg y]
        unfold recF recL
        rw [if_pos e0, if_pos e0, Int.toNat_natCast]
        exact ⟨eu, nup_at⟩
    · rw [decide_eq_false c2]
      have eA : recA (dr i) q id = -1 := by unfold recA; rw [if_neg (fun z => c2 z.2)]
      rw [eA] at hQ
      exact brB_F (hQ G u h (fun _ _ _ => rfl) FrX.refl (fun z => absurd z (by decide)))
  · rw [decide_eq_false c1]
    have eA : recA (dr i) q id = -1 := by unfold recA; rw [if_neg (fun z => c1 z.1)]
    rw [eA] at hQ
    exact brB_F (hQ G u h (fun _ _ _ => rfl) FrX.refl (fun z => absurd z (by decide)))
theorem AbD.uu {r3 r20 : Int → Option Nat} {a21 : Int → Int} {u u' : Nat → Int} (h : AbD rf E dr ah r3 r20 a21 (u 4) (u 5) d un pg B) (e : ∀ j, j ≠ 11 → j ≠ 12 → u' j = u j) : AbD rf E dr ah r3 r20 a21 (u' 4) (u' 5) d un pg B := by
  rw [e 4 (by decide) (by decide), e 5 (by decide) (by decide)]; exact h
theorem S_calls {Q : Int → Wd → Prop} {k n : Nat} {q id : Int} (h : Sy G x d un pg tx rw' hw ha cs B) (hB : B + 20 ≤ 70000000) (h1' : R32 q) (h2' : R32 id) (hk : 9400 ≤ k) (hn : 75200 ≤ n) (hQ : ∀ G', Sy G' x (calM d q id) (if recA d q id < 0 then un else remU un d) pg tx rw' hw ha cs (B + 20) → FQ G G' → Q (recA d q id) G') : f_X1_calls k n x q id G Q := by
  obtain ⟨A, rf, E, dr, u, ru, ai, ar, ah, h1, h2, h3, h4, h5, h6⟩ := h
  have hwf := h2.2.2.2.2.1
  have e0 := h2.2.1
  unfold f_X1_calls
  refine gQ_0 h1 ⟨2, 16, ⟨by omega, by omega⟩, cQ h1, q_recallOf (i := 0) (B := B) h1 (by omega) (h2.1 0 (by omega)) (by rw [e0]; exact hwf.1) h1' h2' (by omega) (by omega) (fun G1 u1 w1 eu f1 er => ?_)⟩
  rw [e0] at er ⊢
  have b2 := h2.uu eu
  have b3 : AbT (u1 7) (ai 6) tx := by rw [eu 7 (by decide) (by decide)]; exact h3
  have b4 : AbR (u1 9) (ai 8) rw' := by rw [eu 9 (by decide) (by decide)]; exact h4
  have b5 : AbH (u1 16) (ai 14) (ai 15) hw ha := by rw [eu 16 (by decide) (by decide)]; exact h5
  have b6 := h6.x f1
  have hr := recA_r (d := d) (q := q) (id := id)
  by_cases c : recA d q id < 0
  · rw [if_pos c] at hQ
    have eM : calM d q id = d := by unfold calM; rw [if_pos c]
    rw [eM] at hQ
    exact br0_F ⟨by omega, by omega⟩ (by omega) (hQ G1 (Sy.mono ⟨A, rf, E, dr, u1, ru, ai, ar, ah, w1, b2, b3, b4, b5, b6⟩ (by omega) hB) f1)
  · rw [if_neg c] at hQ
    have eM : calM d q id = callD d q.toNat id := by unfold calM; rw [if_neg c]
    obtain ⟨hin, -⟩ := recA_0 (show 0 ≤ recA d q id by omega)
    obtain ⟨m, rfl⟩ : ∃ m : Nat, q = m := ⟨q.toNat, by omega⟩
    rw [Int.toNat_natCast] at eM
    have hm5 : m < 5 := hwf.1.hq hin.2
    refine br0_T ⟨by omega, by omega⟩ (by omega) (gQ_0 w1 ⟨96, 768, ⟨by omega, by omega⟩, cQ w1, q_remember w1 b2 b3 b4 b5 b6 (by omega) (by omega) (fun G2 dr2 u2 ar2 ah2 g1 g2 g3 g4 g5 g6 f2 => ?_)⟩)
    refine gQ_0 g1 ⟨24, 192, ⟨by omega, by omega⟩, p_goCall (g2.d0 g1) (by omega) hwf.1 hm5 h2' (by omega) (by omega) (fun G3 d3 f3 => ?_)⟩
    have e9 : (callD d m id).s 900 = d.s 900 := by rw [← eM, calM_9]
    rw [eM] at hQ
    exact hQ G3 (Sy.step g1 g2 g3 g4 g5 g6 f3.x d3 ((hwf.1.call hm5).mono (by omega)) e9 (by omega) hB) (f1.trans (f2.trans (f3.x.wide (by omega) (by omega))))
/-- a number is told, seen from nearer -/
theorem w_tell {K : Wd → Prop} {v : Int} (h1 : Wo G x A rf E dr u ru ai ar) (h4 : AbR (u 9) (ai 8) rw') (hl : rw'.length < 16) (hk : ∀ G' u' ai', Wo G' x A rf E dr u' ru ai' ar → AbR (u' 9) (ai' 8) (rw' ++ [v]) → (∀ j, j ≠ 9 → u' j = u j) → (∀ j, j ≠ 8 → ai' j = ai j) → FQ G G' → K G') : f_X1_tell x v G K := by
  have hu := h4.1
  unfold f_X1_tell
  refine gQ_8 h1 (gQ_9 h1 (nn_of (stQ_8 h1 (by omega) (by omega) (fun G1 g1 f1 => gQ_9 g1 (pQ_9 g1 (fun G2 g2 f2 => hk G2 _ _ g2 ?_ (fun j hj => nup_ne hj) (fun j hj => nup_ne hj) ((f1.wide (by omega) (by omega)).trans (f2.wide (by omega) (by omega)))))))))
  rw [nup_at, nup_at]
  exact h4.tell hl
theorem recL_r {q id : Int} (hw' : WF d B) : 0 ≤ recL d q id ∧ recL d q id ≤ 100000 := by
  unfold recL
  split
  · decide
  · cases hf : d.run.find? (fun v => hasId v q id) with
    | none => decide
    | some v =>
      have := hw'.2.2.1.2 _ (List.mem_of_find?_eq_some hf)
      have := this.2.2.2.2.2.1
      show 0 ≤ v 11 ∧ v 11 ≤ _
      omega
theorem S_recall {Q : Int → Wd → Prop} {k n : Nat} {q id : Int} (h : Sy G x d un pg tx rw' hw ha cs B) (h1' : R32 q) (h2' : R32 id) (hk : 9400 ≤ k) (hn : 75200 ≤ n) (hQ : ∀ G', Sy G' x d un pg tx (if recA d q id < 0 then rw' else [recL d q id, recF d q id]) hw ha cs B → FQ G G' → Q (recA d q id) G') : f_X1_recall k n x q id G Q := by
  obtain ⟨A, rf, E, dr, u, ru, ai, ar, ah, h1, h2, h3, h4, h5, h6⟩ := h
  have hwf := h2.2.2.2.2.1
  have e0 := h2.2.1
  unfold f_X1_recall
  refine gQ_0 h1 ⟨2, 16, ⟨by omega, by omega⟩, cQ h1, q_recallOf (i := 0) (B := B) h1 (by omega) (h2.1 0 (by omega)) (by rw [e0]; exact hwf.1) h1' h2' (by omega) (by omega) (fun G1 u1 w1 eu f1 er => ?_)⟩
  rw [e0] at er ⊢
  have b2 := h2.uu eu
  have b3 : AbT (u1 7) (ai 6) tx := by rw [eu 7 (by decide) (by decide)]; exact h3
  have b4 : AbR (u1 9) (ai 8) rw' := by rw [eu 9 (by decide) (by decide)]; exact h4
  have b5 : AbH (u1 16) (ai 14) (ai 15) hw ha := by rw [eu 16 (by decide) (by decide)]; exact h5
  have b6 := h6.x f1
  have hr := recA_r (d := d) (q := q) (id := id)
  by_cases c : recA d q id < 0
  · rw [if_pos c] at hQ
    exact br0_F ⟨by omega, by omega⟩ (by omega) (hQ G1 ⟨A, rf, E, dr, u1, ru, ai, ar, ah, w1, b2, b3, b4, b5, b6⟩ f1)
  · rw [if_neg c] at hQ
    obtain ⟨er1, er2⟩ := er (by omega)
    have hL := recL_r (q := q) (id := id) hwf.1
    have hrl := hwf.1.2.2.1.1
    have hF : R32 (recF d q id) := by
      have hof : ∀ {l : List Rec} {p : Rec → Bool}, l.length ≤ 100 → R32 (ofi (l.findIdx? p)) := by
        intro l p hl
        cases hf : l.findIdx? p with
        | none => exact ⟨by decide, by decide⟩
        | some m => have := fi_lt hf; rw [ofi_some]; exact ⟨by omega, by omega⟩
      obtain ⟨hin, -⟩ := recA_0 (show 0 ≤ recA d q id by omega)
      have hm5 : q.toNat < 5 := hwf.1.hq (by omega)
      have := hwf.1.ringlen hm5
      unfold recF ringOf runOf
      split <;> exact hof (by omega)
    refine br0_T ⟨by omega, by omega⟩ (by omega) (pQ_9 w1 (fun G2 w2 f2 => gQ_12 w2 ?_))
    rw [nup_ne (by decide), er2]
    refine ⟨⟨by omega, by omega⟩, cQ w2, w_tell (rw' := []) w2 ⟨⟨by rw [nup_at]; rfl, by simp⟩, fun i c hc => by simp at hc⟩ (by simp) (fun G3 u3 ai3 w3 a3 eu3 ea3 f3 => gQ_11 w3 ?_)⟩
    rw [eu3 11 (by decide), nup_ne (by decide), er1]
    refine ⟨hF, cQ w3, w_tell w3 a3 (by simp) (fun G4 u4 ai4 w4 a4 eu4 ea4 f4 => ?_)⟩
    have ff : FQ G1 G4 := (f2.wide (by omega) (by omega)).trans (f3.trans f4)
    have eu' : ∀ j, j ≠ 9 → u4 j = u1 j := fun j hj => by rw [eu4 j hj, eu3 j hj, nup_ne hj]
    have ea' : ∀ j, j ≠ 8 → ai4 j = ai j := fun j hj => by rw [ea4 j hj, ea3 j hj]
    refine hQ G4 ⟨A, rf, E, dr, u4, ru, ai4, ar, ah, w4, ?_, ?_, a4, ?_, b6.x ff⟩ (f1.trans ff)
    · rw [eu' 4 (by decide), eu' 5 (by decide), ea' 21 (by decide)]; exact b2
    · rw [eu' 7 (by decide), ea' 6 (by decide)]; exact b3
    · rw [eu' 16 (by decide), ea' 14 (by decide), ea' 15 (by decide)]; exact b5
end
