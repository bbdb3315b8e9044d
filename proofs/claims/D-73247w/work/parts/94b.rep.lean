/-! PURE PROOFS: how a drive lies in the world. Region 1: what is never changed, it only grows; region 3: what is dropped -/
set_option maxRecDepth 100000
def raw (e : QE) : Prop := ∃ v1 v2, e = oB 8 [vR none, v1, v2]
def Ext (R R' : Nat → Option QE) : Prop := ∀ b e, R b = some e → ¬ raw e → R' b = some e
theorem Ext.refl {R : Nat → Option QE} : Ext R R := fun _ _ h _ => h
theorem Ext.trans {R S T : Nat → Option QE} (h : Ext R S) (k : Ext S T) : Ext R T := fun b e x y => k b e (h b e x y) y
def ExS (R R' : Nat → Option QE) : Prop := ∀ b e, R b = some e → R' b = some e
/-- the rules: what they read is as it was -/
def Ex5 (R R' : Nat → Option QE) : Prop := ∀ b v0 v1 v2 v3 v4 v5 v6, R b = some (oB 6 [v0, v1, v2, v3, v4, v5, v6]) → ∃ v3' v4' v5' v6', R' b = some (oB 6 [v0, v1, v2, v3', v4', v5', v6'])
theorem Ex5.refl {R : Nat → Option QE} : Ex5 R R := fun _ _ _ _ v3 v4 v5 v6 h => ⟨v3, v4, v5, v6, h⟩
/-- all but lo .. hi and what is dropped is as it was -/
def FrR (lo hi : Nat) (G G' : Wd) : Prop := (∀ r, r ≠ 1 → r ≠ 3 → r ≠ 5 → (r < lo ∨ hi ≤ r) → G' r = G r) ∧ ExS (G 1) (G' 1) ∧ Ex5 (G 5) (G' 5)
theorem FrR.e {lo hi : Nat} {G G' : Wd} (h : FrR lo hi G G') : Ext (G 1) (G' 1) := fun b e x _ => h.2.1 b e x
theorem FrR.refl {lo hi : Nat} {G : Wd} : FrR lo hi G G := ⟨fun _ _ _ _ _ => rfl, fun _ _ h => h, Ex5.refl⟩
theorem FrR.trans {lo hi : Nat} {G G1 G2 : Wd} (h : FrR lo hi G G1) (k : FrR lo hi G1 G2) : FrR lo hi G G2 := ⟨fun r h1 h2 h3 h4 => by rw [k.1 r h1 h2 h3 h4, h.1 r h1 h2 h3 h4], fun b e x => k.2.1 b e (h.2.1 b e x), fun b v0 v1 v2 v3 v4 v5 v6 x => by
  obtain ⟨w3, w4, w5, w6, y⟩ := h.2.2 b v0 v1 v2 v3 v4 v5 v6 x
  exact k.2.2 b v0 v1 v2 w3 w4 w5 w6 y⟩
theorem FrR.wide {lo hi lo' hi' : Nat} {G G' : Wd} (h : FrR lo hi G G') (h1 : lo' ≤ lo) (h2 : hi ≤ hi') : FrR lo' hi' G G' := ⟨fun r k1 k2 k3 k4 => h.1 r k1 k2 k3 (by omega), h.2⟩
theorem FrR.at {lo hi r a : Nat} {G G' : Wd} {e : QE} (h : FrR lo hi G G') (h1 : G r a = some e) (h2 : 5 < r) (h4 : r < lo ∨ hi ≤ r) : G' r a = some e := by rw [h.1 r (by omega) (by omega) (by omega) h4]; exact h1
theorem FrR.ws {r a lo hi : Nat} {e : QE} {G : Wd} (h1 : 5 < r) (hlo : lo ≤ r) (hhi : r < hi) : FrR lo hi G (wset G r a e) := ⟨fun r' _ _ _ h4 => wset2 (by omega), fun b e' h => by rw [wset2 (by omega)]; exact h, by rw [wset2 (by omega)]; exact Ex5.refl⟩
theorem FrR.new {a lo hi : Nat} {e : QE} {G : Wd} (h : fr G a) : FrR lo hi G (wset G 1 a e) := ⟨fun r' h1 _ _ _ => wset2 h1, fun b e' hb => by rw [wset_ne (fr_ne h hb)]; exact hb, by rw [wset2 (by decide)]; exact Ex5.refl⟩
theorem FrR.renew {a lo hi : Nat} {e : QE} {G G1 : Wd} (h : fr G a) (k : FrR lo hi G G1) : FrR lo hi G (wset G1 1 a e) := ⟨fun r' h1 h2 h3 h4 => by rw [wset2 h1]; exact k.1 r' h1 h2 h3 h4, fun b e' hb => by rw [wset_ne (fr_ne h hb)]; exact k.2.1 b e' hb, by rw [wset2 (by decide)]; exact k.2.2⟩
theorem FrR.new3 {a lo hi : Nat} {e : QE} {G : Wd} : FrR lo hi G (wset G 3 a e) := ⟨fun r' _ h1 _ _ => wset2 h1, fun b e' hb => by rw [wset2 (by decide)]; exact hb, by rw [wset2 (by decide)]; exact Ex5.refl⟩
theorem FrR.fr2 {r lo hi : Nat} {G G' : Wd} (h : Fr2 r G G') (h1 : 5 < r) (hlo : lo ≤ r) (hhi : r + 1 < hi) : FrR lo hi G G' := ⟨fun r' _ _ _ h4 => h r' (by omega) (by omega), fun b e hb => by rw [h 1 (by omega) (by omega)]; exact hb, by rw [h 5 (by omega) (by omega)]; exact Ex5.refl⟩
theorem FrR.by3 {lo hi : Nat} {G G' : Wd} (h : ∀ r, r ≠ 3 → G' r = G r) : FrR lo hi G G' := ⟨fun r _ h2 _ _ => h r h2, fun b e hb => by rw [h 1 (by decide)]; exact hb, by rw [h 5 (by decide)]; exact Ex5.refl⟩
def All2 (P : Nat → Rec → Prop) : List Nat → List Rec → Prop
  | [], [] => True
  | x :: xs, c :: cs => P x c ∧ All2 P xs cs
  | _, _ => False
theorem All2.len {P : Nat → Rec → Prop} : ∀ {xs : List Nat} {cs : List Rec}, All2 P xs cs → xs.length = cs.length
  | [], [], _ => rfl
  | _ :: _, _ :: _, h => by simp [All2.len h.2]
  | [], _ :: _, h => h.elim
  | _ :: _, [], h => h.elim
theorem All2.imp {P P' : Nat → Rec → Prop} (hp : ∀ x c, P x c → P' x c) : ∀ {xs : List Nat} {cs : List Rec}, All2 P xs cs → All2 P' xs cs
  | [], [], _ => trivial
  | _ :: _, _ :: _, h => ⟨hp _ _ h.1, All2.imp hp h.2⟩
  | [], _ :: _, h => h.elim
  | _ :: _, [], h => h.elim
theorem All2.app {P : Nat → Rec → Prop} : ∀ {xs ys : List Nat} {cs ds : List Rec}, All2 P xs cs → All2 P ys ds → All2 P (xs ++ ys) (cs ++ ds)
  | [], _, [], _, _, k => k
  | _ :: _, _, _ :: _, _, h, k => ⟨h.1, All2.app h.2 k⟩
  | [], _, _ :: _, _, h, _ => h.elim
  | _ :: _, _, [], _, h, _ => h.elim
theorem All2.split {P : Nat → Rec → Prop} : ∀ {cs ds : List Rec} {zs : List Nat}, All2 P zs (cs ++ ds) → ∃ xs ys, zs = xs ++ ys ∧ All2 P xs cs ∧ All2 P ys ds
  | [], _, zs, h => ⟨[], zs, rfl, trivial, h⟩
  | _ :: _, _, [], h => h.elim
  | _ :: _, _, z :: _, h => by
    obtain ⟨xs, ys, e, h1, h2⟩ := All2.split h.2
    exact ⟨z :: xs, ys, by rw [e]; rfl, ⟨h.1, h1⟩, h2⟩
theorem All2.cons {P : Nat → Rec → Prop} {zs : List Nat} {c : Rec} {cs : List Rec} (h : All2 P zs (c :: cs)) : ∃ x xs, zs = x :: xs ∧ P x c ∧ All2 P xs cs := by
  cases zs with
  | nil => exact h.elim
  | cons x xs => exact ⟨x, xs, rfl, h.1, h.2⟩
theorem All2.nil {P : Nat → Rec → Prop} {zs : List Nat} (h : All2 P zs []) : zs = [] := by
  cases zs with
  | nil => rfl
  | cons x xs => exact h.elim
def CmdAt (R : Nat → Option QE) (q : Int) (x : Nat) (c : Rec) : Prop := R x = some (oB 7 [vI q, vI (c 0), vI (c 1), vI (c 2), vI (c 3), vB (decide (c 4 = 1))])
def WordAt (R : Nat → Option QE) (x : Nat) (w : Rec) : Prop := R x = some (oB 9 [vI (w 0), vI (w 1), vI (w 2), vI (w 3)])
def PostAt (R : Nat → Option QE) (q : Int) (x : Nat) (p : Rec) : Prop := ∃ y, R x = some (oB 10 [vR (some y), vI (p 3), vI (p 4)]) ∧ R y = some (oB 9 [vI q, vI (p 0), vI (p 1), vI (p 2)])
def WorkAt (R : Nat → Option QE) (x : Nat) (w : Rec) : Prop := ∃ y z, R x = some (oB 8 [vR (some y), vR z, vI (w 11)]) ∧ R y = some (oB 7 [vI (w 0), vI (w 1), vI (w 2), vI (w 3), vI (w 4), vB (decide (w 5 = 1))]) ∧
  ((w 7 < 0 ∧ z = none) ∨ (0 ≤ w 7 ∧ ∃ b, z = some b ∧ R b = some (oB 7 [vI (w 0), vI (w 6), vI (w 7), vI (w 8), vI (w 9), vB (decide (w 10 = 1))])))
theorem vR_ne {y : Nat} : vR (some y) ≠ vR none := by intro h; cases h
theorem nraw {ci : Nat} {fs : List Value} (h : ci ≠ 8) : ¬ raw (oB ci fs) := by
  rintro ⟨v1, v2, e⟩
  injection e with e; injection e with e; injection e with e; injection e with e1 e2
  exact h e1
theorem nraw8 {y : Nat} {v1 v2 : Value} : ¬ raw (oB 8 [vR (some y), v1, v2]) := by
  rintro ⟨w1, w2, e⟩
  injection e with e; injection e with e; injection e with e; injection e with e1 e2
  injection e2 with e3 e4
  exact vR_ne e3
theorem CmdAt.ext {R R' : Nat → Option QE} (e : Ext R R') {q : Int} {x : Nat} {c : Rec} (h : CmdAt R q x c) : CmdAt R' q x c := e _ _ h (nraw (by decide))
theorem WordAt.ext {R R' : Nat → Option QE} (e : Ext R R') {x : Nat} {c : Rec} (h : WordAt R x c) : WordAt R' x c := e _ _ h (nraw (by decide))
theorem PostAt.ext {R R' : Nat → Option QE} (e : Ext R R') {q : Int} {x : Nat} {c : Rec} (h : PostAt R q x c) : PostAt R' q x c := by
  obtain ⟨y, h1, h2⟩ := h
  exact ⟨y, e _ _ h1 (nraw (by decide)), e _ _ h2 (nraw (by decide))⟩
theorem WorkAt.ext {R R' : Nat → Option QE} (e : Ext R R') {x : Nat} {c : Rec} (h : WorkAt R x c) : WorkAt R' x c := by
  obtain ⟨y, z, h1, h2, h3⟩ := h
  refine ⟨y, z, e _ _ h1 nraw8, e _ _ h2 (nraw (by decide)), ?_⟩
  rcases h3 with h3 | ⟨h3, b, h4, h5⟩
  · exact Or.inl h3
  · exact Or.inr ⟨h3, b, h4, e _ _ h5 (nraw (by decide))⟩
/-- line q in the regions L .. L + 6; f: where its objects lie -/
def LineA (G : Wd) (L : Nat) (q : Nat) (f : Nat → Nat) (s : Rec) (ring posts : List Rec) (u : Nat) : Prop :=
  G L (f 0) = some (oB 2 [vI q, vR (some (f 1)), vR (some (f 2)), vR (some (f 3)), vI (s (89 * q + 20)), vI (s (89 * q + 21)), vI (s (89 * q + 22)), vI (s (89 * q + 0)), vI (s (89 * q + 1)), vI (s (89 * q + 2)), vI (s (89 * q + 3)), vI (s (89 * q + 4)), vI (s (89 * q + 5)), vI (s (89 * q + 6)), vI (s (89 * q + 7)), vB (decide (s (89 * q + 23) = 1)), vB (decide (s (89 * q + 8) = 1))]) ∧
  (∃ xs, Dq G (L + 1) (f 1) xs ∧ All2 (CmdAt (G 1) q) xs ring) ∧ (∃ ys, Dq G (L + 3) (f 2) ys ∧ All2 (PostAt (G 1) q) ys posts) ∧ Bs G (L + 5) (f 3) u
theorem LineA.congr {G G' : Wd} {L q : Nat} {f : Nat → Nat} {s : Rec} {ring posts : List Rec} {u : Nat} (h : LineA G L q f s ring posts u) (h1 : ∀ r, L ≤ r → r < L + 7 → G' r = G r) (h2 : Ext (G 1) (G' 1)) : LineA G' L q f s ring posts u := by
  obtain ⟨k1, ⟨xs, k2, k3⟩, ⟨ys, k4, k5⟩, k6⟩ := h
  refine ⟨?_, ⟨xs, k2.congr (h1 _ (by omega) (by omega)) (h1 _ (by omega) (by omega)), k3.imp (fun _ _ => CmdAt.ext h2)⟩, ⟨ys, k4.congr (h1 _ (by omega) (by omega)) (h1 _ (by omega) (by omega)), k5.imp (fun _ _ => PostAt.ext h2)⟩, k6.congr (h1 _ (by omega) (by omega)) (h1 _ (by omega) (by omega))⟩
  rw [h1 _ (by omega) (by omega)]; exact k1
theorem LineA.same {G : Wd} {L q : Nat} {f : Nat → Nat} {s s' : Rec} {ring posts : List Rec} {u : Nat} (h : LineA G L q f s ring posts u) (hs : ∀ i, 89 * (q : Int) ≤ i → i < 89 * (q : Int) + 89 → s' i = s i) : LineA G L q f s' ring posts u := by
  obtain ⟨k1, k2⟩ := h
  refine ⟨?_, k2⟩
  rw [k1]
  rw [hs _ (by omega) (by omega), hs _ (by omega) (by omega), hs _ (by omega) (by omega), hs _ (by omega) (by omega), hs _ (by omega) (by omega), hs _ (by omega) (by omega), hs _ (by omega) (by omega), hs _ (by omega) (by omega), hs _ (by omega) (by omega), hs _ (by omega) (by omega), hs _ (by omega) (by omega), hs _ (by omega) (by omega), hs _ (by omega) (by omega)]
def IA (G : Wd) (r a n : Nat) (b : Int) (s : Rec) : Prop := ∃ f, G r a = some (aI 0 n f) ∧ ∀ i : Int, 0 ≤ i → i < n → f i = s (b + i)
theorem IA.congr {G G' : Wd} {r a n : Nat} {b : Int} {s : Rec} (h : IA G r a n b s) (h1 : G' r = G r) : IA G' r a n b s := by
  obtain ⟨f, k⟩ := h
  exact ⟨f, by rw [h1]; exact k⟩
theorem IA.same {G : Wd} {r a n : Nat} {b : Int} {s s' : Rec} (h : IA G r a n b s) (hs : ∀ i, b ≤ i → i < b + n → s' i = s i) : IA G r a n b s' := by
  obtain ⟨f, k1, k2⟩ := h
  exact ⟨f, k1, fun i h0 h1 => by rw [k2 i h0 h1, hs _ (by omega) (by omega)]⟩
/-- drive in the regions D .. D + 99; rf 9 j: its own objects, rf q j: those of line q -/
def DrA (G : Wd) (D a : Nat) (rf : Nat → Nat → Nat) (d : DS) : Prop :=
  G D a = some (oB 1 [vR (some (rf 9 0)), vR (some (rf 9 1)), vR (some (rf 9 2)), vR (some (rf 9 3)), vR (some (rf 9 4)), vR (some (rf 9 5)), vR (some (rf 9 6)), vR (some (rf 9 7)), vI (d.s 900), vI (d.s 826), vI (d.s 827), vI (d.s 838), vI (d.s 839), vI (d.s 901), vI (d.s 902)]) ∧
  (∃ lf, G (D + 1) (rf 9 0) = some (aR 7 5 lf) ∧ ∀ q : Nat, q < 5 → lf q = some (rf q 0)) ∧
  (∃ xs, Ll G (D + 2) (rf 9 1) xs ∧ All2 (WorkAt (G 1)) xs d.run) ∧ (∃ ys, Ll G (D + 4) (rf 9 2) ys ∧ All2 (WordAt (G 1)) ys d.out) ∧
  IA G (D + 6) (rf 9 3) 10 828 d.s ∧ IA G (D + 7) (rf 9 4) 4 814 d.s ∧ IA G (D + 8) (rf 9 5) 4 818 d.s ∧ IA G (D + 9) (rf 9 6) 4 822 d.s ∧ IA G (D + 10) (rf 9 7) 4 840 d.s ∧
  ∀ q : Nat, q < 5 → LineA G (D + 20 + 10 * q) q (rf q) d.s (d.ring q) (d.posts q) (d.us q)
theorem DrA.congr {G G' : Wd} {D a : Nat} {rf : Nat → Nat → Nat} {d : DS} (h : DrA G D a rf d) (h1 : ∀ r, D ≤ r → r < D + 100 → G' r = G r) (h2 : Ext (G 1) (G' 1)) : DrA G' D a rf d := by
  obtain ⟨k1, ⟨lf, k2, k3⟩, ⟨xs, k4, k5⟩, ⟨ys, k6, k7⟩, k8, k9, k10, k11, k12, k13⟩ := h
  refine ⟨?_, ⟨lf, ?_, k3⟩, ⟨xs, k4.congr (h1 _ (by omega) (by omega)) (h1 _ (by omega) (by omega)), k5.imp (fun _ _ => WorkAt.ext h2)⟩, ⟨ys, k6.congr (h1 _ (by omega) (by omega)) (h1 _ (by omega) (by omega)), k7.imp (fun _ _ => WordAt.ext h2)⟩,
    k8.congr (h1 _ (by omega) (by omega)), k9.congr (h1 _ (by omega) (by omega)), k10.congr (h1 _ (by omega) (by omega)), k11.congr (h1 _ (by omega) (by omega)), k12.congr (h1 _ (by omega) (by omega)),
    fun q hq => (k13 q hq).congr (fun r r1 r2 => h1 r (by omega) (by omega)) h2⟩
  · rw [h1 _ (by omega) (by omega)]; exact k1
  · rw [h1 _ (by omega) (by omega)]; exact k2
theorem DrA.other {G G' : Wd} {D a lo hi : Nat} {rf : Nat → Nat → Nat} {d : DS} (h : DrA G D a rf d) (hf : FrR lo hi G G') (h1 : 9 < D) (h2 : D + 100 ≤ lo ∨ hi ≤ D) : DrA G' D a rf d :=
  h.congr (fun r r1 r2 => hf.1 r (by omega) (by omega) (by omega) (by omega)) hf.e
theorem DrA.new {G : Wd} {D a x : Nat} {rf : Nat → Nat → Nat} {d : DS} {e : QE} (h : DrA G D a rf d) (hx : fr G x) (h1 : 9 < D) : DrA (wset G 1 x e) D a rf d :=
  h.congr (fun r r1 r2 => wset2 (by omega)) (FrR.new (lo := 0) (hi := 0) hx).e
theorem DrA.by3 {G G' : Wd} {D a : Nat} {rf : Nat → Nat → Nat} {d : DS} (h : DrA G D a rf d) (h1 : 9 < D) (h2 : ∀ r, r ≠ 3 → G' r = G r) : DrA G' D a rf d :=
  h.congr (fun r r1 r2 => h2 r (by omega)) (FrR.by3 (lo := 0) (hi := 0) h2).e
/-- line q has changed -/
theorem DrA.line {G G' : Wd} {D a q : Nat} {rf : Nat → Nat → Nat} {d : DS} {s' : Rec} {rg ps : List Rec} {u : Nat} (h : DrA G D a rf d) (hD : 9 < D) (hq : q < 5) (hf : FrR (D + 20 + 10 * q) (D + 27 + 10 * q) G G')
    (hl : LineA G' (D + 20 + 10 * q) q (rf q) s' rg ps u) (hs : ∀ i, (i < 89 * (q : Int) ∨ 89 * (q : Int) + 89 ≤ i) → s' i = d.s i) : DrA G' D a rf (s', nup d.ring q rg, nup d.posts q ps, nup d.us q u, d.run, d.out) := by
  obtain ⟨k1, ⟨lf, k2, k3⟩, ⟨xs, k4, k5⟩, ⟨ys, k6, k7⟩, k8, k9, k10, k11, k12, k13⟩ := h
  have e : ∀ r, D ≤ r → r < D + 20 → G' r = G r := fun r r1 r2 => hf.1 r (by omega) (by omega) (by omega) (by omega)
  refine ⟨?_, ⟨lf, ?_, k3⟩, ⟨xs, k4.congr (e _ (by omega) (by omega)) (e _ (by omega) (by omega)), k5.imp (fun _ _ => WorkAt.ext hf.e)⟩, ⟨ys, k6.congr (e _ (by omega) (by omega)) (e _ (by omega) (by omega)), k7.imp (fun _ _ => WordAt.ext hf.e)⟩,
    (k8.congr (e _ (by omega) (by omega))).same (fun i _ _ => hs i (by omega)), (k9.congr (e _ (by omega) (by omega))).same (fun i _ _ => hs i (by omega)), (k10.congr (e _ (by omega) (by omega))).same (fun i _ _ => hs i (by omega)),
    (k11.congr (e _ (by omega) (by omega))).same (fun i _ _ => hs i (by omega)), (k12.congr (e _ (by omega) (by omega))).same (fun i _ _ => hs i (by omega)), fun p hp => ?_⟩
  · rw [e _ (by omega) (by omega), k1]
    show _ = some (oB 1 [vR (some (rf 9 0)), vR (some (rf 9 1)), vR (some (rf 9 2)), vR (some (rf 9 3)), vR (some (rf 9 4)), vR (some (rf 9 5)), vR (some (rf 9 6)), vR (some (rf 9 7)), vI (s' 900), vI (s' 826), vI (s' 827), vI (s' 838), vI (s' 839), vI (s' 901), vI (s' 902)])
    rw [hs 900 (by omega), hs 826 (by omega), hs 827 (by omega), hs 838 (by omega), hs 839 (by omega), hs 901 (by omega), hs 902 (by omega)]
  · rw [e _ (by omega) (by omega)]; exact k2
  · by_cases ep : p = q
    · subst ep
      show LineA G' _ _ _ s' (nup d.ring p rg p) (nup d.posts p ps p) (nup d.us p u p)
      rw [nup_at, nup_at, nup_at]; exact hl
    · show LineA G' _ _ _ s' (nup d.ring q rg p) (nup d.posts q ps p) (nup d.us q u p)
      rw [nup_ne ep, nup_ne ep, nup_ne ep]
      exact ((k13 p hp).congr (fun r r1 r2 => hf.1 r (by omega) (by omega) (by omega) (by omega)) hf.e).same (fun i i1 i2 => hs i (by omega))
theorem nup_self {α : Type} {f : Nat → α} {q : Nat} : nup f q (f q) = f := by
  funext j
  unfold nup
  split
  · rename_i h; rw [h]
  · rfl
theorem DrA.line0 {G G' : Wd} {D a q : Nat} {rf : Nat → Nat → Nat} {d : DS} {s' : Rec} (h : DrA G D a rf d) (hD : 9 < D) (hq : q < 5) (hf : FrR (D + 20 + 10 * q) (D + 27 + 10 * q) G G')
    (hl : LineA G' (D + 20 + 10 * q) q (rf q) s' (d.ring q) (d.posts q) (d.us q)) (hs : ∀ i, (i < 89 * (q : Int) ∨ 89 * (q : Int) + 89 ≤ i) → s' i = d.s i) : DrA G' D a rf (setS d s') := by
  have k := h.line hD hq hf hl hs
  rw [nup_self, nup_self, nup_self] at k
  exact k
/-- the drive's own numbers have changed -/
theorem DrA.top {G G' : Wd} {D a : Nat} {rf : Nat → Nat → Nat} {d : DS} {s' : Rec} (h : DrA G D a rf d) (hD : 9 < D) (hf : FrR D (D + 1) G G')
    (hc : G' D a = some (oB 1 [vR (some (rf 9 0)), vR (some (rf 9 1)), vR (some (rf 9 2)), vR (some (rf 9 3)), vR (some (rf 9 4)), vR (some (rf 9 5)), vR (some (rf 9 6)), vR (some (rf 9 7)), vI (s' 900), vI (s' 826), vI (s' 827), vI (s' 838), vI (s' 839), vI (s' 901), vI (s' 902)]))
    (hs : ∀ i, i < 826 ∨ (828 ≤ i ∧ i < 838) ∨ (840 ≤ i ∧ i < 900) → s' i = d.s i) : DrA G' D a rf (setS d s') := by
  obtain ⟨k1, ⟨lf, k2, k3⟩, ⟨xs, k4, k5⟩, ⟨ys, k6, k7⟩, k8, k9, k10, k11, k12, k13⟩ := h
  have e : ∀ r, D < r → r < D + 100 → G' r = G r := fun r r1 r2 => hf.1 r (by omega) (by omega) (by omega) (by omega)
  refine ⟨hc, ⟨lf, ?_, k3⟩, ⟨xs, k4.congr (e _ (by omega) (by omega)) (e _ (by omega) (by omega)), k5.imp (fun _ _ => WorkAt.ext hf.e)⟩, ⟨ys, k6.congr (e _ (by omega) (by omega)) (e _ (by omega) (by omega)), k7.imp (fun _ _ => WordAt.ext hf.e)⟩,
    (k8.congr (e _ (by omega) (by omega))).same (fun i _ _ => hs i (by omega)), (k9.congr (e _ (by omega) (by omega))).same (fun i _ _ => hs i (by omega)), (k10.congr (e _ (by omega) (by omega))).same (fun i _ _ => hs i (by omega)),
    (k11.congr (e _ (by omega) (by omega))).same (fun i _ _ => hs i (by omega)), (k12.congr (e _ (by omega) (by omega))).same (fun i _ _ => hs i (by omega)),
    fun p hp => ((k13 p hp).congr (fun r r1 r2 => e r (by omega) (by omega)) hf.e).same (fun i i1 i2 => hs i (by omega))⟩
  rw [e _ (by omega) (by omega)]; exact k2
/-- one of its rows has changed: 6 blocks, 7 weight, 8 credit, 9 last, 10 served -/
theorem DrA.arr {G G' : Wd} {D a j : Nat} {rf : Nat → Nat → Nat} {d : DS} {s' : Rec} {b : Int} {n : Nat} (h : DrA G D a rf d) (hD : 9 < D) (hj : (j, b, n) ∈ [(6, (828 : Int), 10), (7, 814, 4), (8, 818, 4), (9, 822, 4), (10, 840, 4)]) (hf : FrR (D + j) (D + j + 1) G G')
    (hc : IA G' (D + j) (rf 9 (j - 3)) n b s') (hs : ∀ i, i < b ∨ b + n ≤ i → s' i = d.s i) : DrA G' D a rf (setS d s') := by
  obtain ⟨k1, ⟨lf, k2, k3⟩, ⟨xs, k4, k5⟩, ⟨ys, k6, k7⟩, k8, k9, k10, k11, k12, k13⟩ := h
  have hj' : 6 ≤ j ∧ j ≤ 10 := by
    simp only [List.mem_cons, Prod.mk.injEq, List.not_mem_nil, or_false] at hj
    omega
  have hb : (j = 6 ∧ b = 828 ∧ n = 10) ∨ (j = 7 ∧ b = 814 ∧ n = 4) ∨ (j = 8 ∧ b = 818 ∧ n = 4) ∨ (j = 9 ∧ b = 822 ∧ n = 4) ∨ (j = 10 ∧ b = 840 ∧ n = 4) := by
    simpa only [List.mem_cons, Prod.mk.injEq, List.not_mem_nil, or_false] using hj
  have e : ∀ r, D ≤ r → r < D + 100 → r ≠ D + j → G' r = G r := fun r r1 r2 r3 => hf.1 r (by omega) (by omega) (by omega) (by omega)
  have k8' : IA G' (D + 6) (rf 9 3) 10 828 s' := by
    by_cases ej : j = 6
    · obtain ⟨-, rfl, rfl⟩ : j = 6 ∧ b = 828 ∧ n = 10 := by omega
      subst ej; exact hc
    · exact (k8.congr (e _ (by omega) (by omega) (by omega))).same (fun i _ _ => hs i (by omega))
  have k9' : IA G' (D + 7) (rf 9 4) 4 814 s' := by
    by_cases ej : j = 7
    · obtain ⟨-, rfl, rfl⟩ : j = 7 ∧ b = 814 ∧ n = 4 := by omega
      subst ej; exact hc
    · exact (k9.congr (e _ (by omega) (by omega) (by omega))).same (fun i _ _ => hs i (by omega))
  have k10' : IA G' (D + 8) (rf 9 5) 4 818 s' := by
    by_cases ej : j = 8
    · obtain ⟨-, rfl, rfl⟩ : j = 8 ∧ b = 818 ∧ n = 4 := by omega
      subst ej; exact hc
    · exact (k10.congr (e _ (by omega) (by omega) (by omega))).same (fun i _ _ => hs i (by omega))
  have k11' : IA G' (D + 9) (rf 9 6) 4 822 s' := by
    by_cases ej : j = 9
    · obtain ⟨-, rfl, rfl⟩ : j = 9 ∧ b = 822 ∧ n = 4 := by omega
      subst ej; exact hc
    · exact (k11.congr (e _ (by omega) (by omega) (by omega))).same (fun i _ _ => hs i (by omega))
  have k12' : IA G' (D + 10) (rf 9 7) 4 840 s' := by
    by_cases ej : j = 10
    · obtain ⟨-, rfl, rfl⟩ : j = 10 ∧ b = 840 ∧ n = 4 := by omega
      subst ej; exact hc
    · exact (k12.congr (e _ (by omega) (by omega) (by omega))).same (fun i _ _ => hs i (by omega))
  refine ⟨?_, ⟨lf, ?_, k3⟩, ⟨xs, k4.congr (e _ (by omega) (by omega) (by omega)) (e _ (by omega) (by omega) (by omega)), k5.imp (fun _ _ => WorkAt.ext hf.e)⟩, ⟨ys, k6.congr (e _ (by omega) (by omega) (by omega)) (e _ (by omega) (by omega) (by omega)), k7.imp (fun _ _ => WordAt.ext hf.e)⟩,
    k8', k9', k10', k11', k12', fun p hp => ((k13 p hp).congr (fun r r1 r2 => e r (by omega) (by omega) (by omega)) hf.e).same (fun i i1 i2 => hs i (by omega))⟩
  · rw [e _ (by omega) (by omega) (by omega), k1]
    show _ = some (oB 1 [vR (some (rf 9 0)), vR (some (rf 9 1)), vR (some (rf 9 2)), vR (some (rf 9 3)), vR (some (rf 9 4)), vR (some (rf 9 5)), vR (some (rf 9 6)), vR (some (rf 9 7)), vI (s' 900), vI (s' 826), vI (s' 827), vI (s' 838), vI (s' 839), vI (s' 901), vI (s' 902)])
    rw [hs 900 (by omega), hs 826 (by omega), hs 827 (by omega), hs 838 (by omega), hs 839 (by omega), hs 901 (by omega), hs 902 (by omega)]
  · rw [e _ (by omega) (by omega) (by omega)]; exact k2
/-- its list of works, its list of words has changed -/
theorem DrA.runs {G G' : Wd} {D a : Nat} {rf : Nat → Nat → Nat} {d : DS} {l : List Rec} {xs : List Nat} (h : DrA G D a rf d) (hD : 9 < D) (hf : FrR (D + 2) (D + 4) G G') (h1 : Ll G' (D + 2) (rf 9 1) xs) (h2 : All2 (WorkAt (G' 1)) xs l) : DrA G' D a rf (setRun d l) := by
  obtain ⟨k1, ⟨lf, k2, k3⟩, k4, ⟨ys, k6, k7⟩, k8, k9, k10, k11, k12, k13⟩ := h
  have e : ∀ r, D ≤ r → r < D + 100 → (r < D + 2 ∨ D + 4 ≤ r) → G' r = G r := fun r r1 r2 r3 => hf.1 r (by omega) (by omega) (by omega) (by omega)
  refine ⟨?_, ⟨lf, ?_, k3⟩, ⟨xs, h1, h2⟩, ⟨ys, k6.congr (e _ (by omega) (by omega) (by omega)) (e _ (by omega) (by omega) (by omega)), k7.imp (fun _ _ => WordAt.ext hf.e)⟩,
    k8.congr (e _ (by omega) (by omega) (by omega)), k9.congr (e _ (by omega) (by omega) (by omega)), k10.congr (e _ (by omega) (by omega) (by omega)), k11.congr (e _ (by omega) (by omega) (by omega)), k12.congr (e _ (by omega) (by omega) (by omega)),
    fun p hp => (k13 p hp).congr (fun r r1 r2 => e r (by omega) (by omega) (by omega)) hf.e⟩
  · rw [e _ (by omega) (by omega) (by omega)]; exact k1
  · rw [e _ (by omega) (by omega) (by omega)]; exact k2
theorem DrA.outs {G G' : Wd} {D a : Nat} {rf : Nat → Nat → Nat} {d : DS} {l : List Rec} {ys : List Nat} (h : DrA G D a rf d) (hD : 9 < D) (hf : FrR (D + 4) (D + 6) G G') (h1 : Ll G' (D + 4) (rf 9 2) ys) (h2 : All2 (WordAt (G' 1)) ys l) : DrA G' D a rf (setOut d l) := by
  obtain ⟨k1, ⟨lf, k2, k3⟩, ⟨xs, k4, k5⟩, k6, k8, k9, k10, k11, k12, k13⟩ := h
  have e : ∀ r, D ≤ r → r < D + 100 → (r < D + 4 ∨ D + 6 ≤ r) → G' r = G r := fun r r1 r2 r3 => hf.1 r (by omega) (by omega) (by omega) (by omega)
  refine ⟨?_, ⟨lf, ?_, k3⟩, ⟨xs, k4.congr (e _ (by omega) (by omega) (by omega)) (e _ (by omega) (by omega) (by omega)), k5.imp (fun _ _ => WorkAt.ext hf.e)⟩, ⟨ys, h1, h2⟩,
    k8.congr (e _ (by omega) (by omega) (by omega)), k9.congr (e _ (by omega) (by omega) (by omega)), k10.congr (e _ (by omega) (by omega) (by omega)), k11.congr (e _ (by omega) (by omega) (by omega)), k12.congr (e _ (by omega) (by omega) (by omega)),
    fun p hp => (k13 p hp).congr (fun r r1 r2 => e r (by omega) (by omega) (by omega)) hf.e⟩
  · rw [e _ (by omega) (by omega) (by omega)]; exact k1
  · rw [e _ (by omega) (by omega) (by omega)]; exact k2

/-- a work that was raw is made -/
theorem DrA.raw {G : Wd} {D a x : Nat} {rf : Nat → Nat → Nat} {d : DS} {e : QE} {v1 v2 : Value} (h : DrA G D a rf d) (h1 : 9 < D) (hx : G 1 x = some (oB 8 [vR none, v1, v2])) : DrA (wset G 1 x e) D a rf d :=
  h.congr (fun r r1 r2 => wset2 (by omega)) (fun b e' hb hn => by
    by_cases e9 : b = x
    · subst e9
      rw [hx] at hb
      injection hb with hb
      exact absurd ⟨v1, v2, hb.symm⟩ hn
    · rw [wset_ne e9]; exact hb)
