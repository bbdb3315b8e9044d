/-! NEW CELLS AND CALLS -/
set_option maxRecDepth 100000
section
variable {M : Mt} {d k n pc : Nat} {L : List (Option Value)} {st : List Value} {G : Wd} {Q : Qt} {X : Xt}
def nO (G : Wd) (k n ci N : Nat) (fs : List Value) (K : Nat → Wd → Prop) : Prop := (1 ≤ k ∧ N ≤ n) ∧ ∀ a, fr G a → ∃ r, r ≠ 0 ∧ K a (wset G r a (oB ci fs))
theorem r_new {ci N index : Nat} {C : String} {T : u_T} {ty : Nat → FieldType} {fs : List Value} {K : Nat → Wd → Prop} (hd : decode M.2.1 pc = .ok (.new index, 3)) (hc : clsOK ci C T N ty)
    (h1 : Cond.classLink M.1 index C ∈ lw_all) (h2 : Cond.instantiable C N ∈ lw_all) (h3 : Cond.initialized C ∈ lw_all) (hfs : ∀ j, j < N → defaultValue (ty j) = vp_V fs j)
    (ho : nO G k n ci N fs K) (h : ∀ a G', K a G' → wp M d (k - 1) (n - N) (pc + 3) L (vR (some a) :: st) G' Q X) : wp M d k n pc L st G Q X := by
  intro z hz p e R s m args below meth c H locs cells slots ls cx hR hP hS hl
  have hP' := hP
  obtain ⟨⟨p0, p1, p2⟩, ws, w1, w2, w3, w4⟩ := hP'
  obtain ⟨⟨g1, g2⟩, g3⟩ := ho
  have hW := cx.2.2.2.2.2.2.2.2.1
  refine va_new (Ts := lw_all) cx.1 cx.2.1 (fun w h => zw hz hW h) hc.2.1 ty hc.2.2.2 cx.2.2.2.2.2.1 (zw hz hW h1) (zw hz hW h2) (zw hz hW h3) (zk hz hW) w1 w2 hS (fun q hq => Nat.le_trans cx.2.2.2.2.2.2.2.2.2 hq) hc.1 hfs (by have := hR.2.2.1; omega) (by have := hR.2.2.2; omega) hd (fun a H1 a1 a2 a3 => ?_)
  have ho := old1 hP cx.2.2.2.2.2.2.2.2.2 hS a3
  obtain ⟨f1, -⟩ := Rp.push (r := 1) (e := oB ci fs) hz (by decide) p2 ho w3 w4 rfl a1 a2
  obtain ⟨r, hr, hk⟩ := g3 a f1
  obtain ⟨-, f2⟩ := Rp.push (r := r) (e := oB ci fs) hz hr p2 ho w3 w4 rfl a1 a2
  exact h a _ hk z hz p e R s m args below meth c H1 locs (cells + 1) (slots + N) ls cx ⟨hR.1, hR.2.1, by have := hR.2.2.1; omega, by have := hR.2.2.2; omega⟩ f2 a3 hl
/-- an array of len cells is made; kd: 0 int, 1 byte, 2 boolean, 3 char, 4 short, 5 long, 6 .. references -/
def nA (G : Wd) (k n : Nat) (len : Int) (e : Nat → QE) (K : Nat → Wd → Prop) : Prop := (0 ≤ len ∧ len ≤ 1000000 ∧ 1 ≤ k ∧ len.toNat ≤ n) ∧ ∀ a, fr G a → ∃ r, r ≠ 0 ∧ K a (wset G r a (e len.toNat))
theorem wp.newa {kd : Nat} {len : Int} {e1 : Nat → QE} {st' : List Value} {K : Nat → Wd → Prop} {pc' : Nat}
    (f : ∀ {z : Zt} {p : Program} {e : Env} {R : Room} {s : State} {m : MethodId} {args : Array Value} {below : List Frame} {meth : Method} {c : Code} {H : Heap} {locs : List Loc} {cells slots : Nat} {Q' : State → Prop} {ls : Array Slot} {ws : va_W},
      Zok z → Cx M z p s m meth c → va_K (zD z) qCl (tyK (zK z)) s → va_P (zD z) qCl ws H → va_D (zA z) ws → va_S (zA z) s.heap H locs → (∀ q, s.heap.size ≤ q → zA z q) → cells + 1 ≤ R.cells → slots + len.toNat ≤ R.slots →
      (∀ (q : Nat) (cA : ClassId) (H1 : Heap) , cA = zK z kd → va_P (zD z) qCl (ws ++ [(q, qE (zK z) (e1 len.toNat))]) H1 → va_D (zA z) (ws ++ [(q, qE (zK z) (e1 len.toNat))]) → va_S (zA z) s.heap H1 locs → W p z.1 e R s m args below meth c H1 locs (cells + 1) (slots + len.toNat) Q' (F0 m pc' ls (.ref q :: st'))) →
      W p z.1 e R s m args below meth c H locs cells slots Q' (F0 m pc ls st))
    (ho : nA G k n len e1 K) (h : ∀ a G', K a G' → wp M d (k - 1) (n - len.toNat) pc' L (vR (some a) :: st') G' Q X) : wp M d k n pc L st G Q X := by
  intro z hz p e R s m args below meth c H locs cells slots ls cx hR hP hS hl
  have hP' := hP
  obtain ⟨⟨p0, p1, p2⟩, ws, w1, w2, w3, w4⟩ := hP'
  obtain ⟨⟨g0, g0', g1, g2⟩, g3⟩ := ho
  refine f hz cx (zk hz cx.2.2.2.2.2.2.2.2.1) w1 w2 hS (fun q hq => Nat.le_trans cx.2.2.2.2.2.2.2.2.2 hq) (by have := hR.2.2.1; omega) (by have := hR.2.2.2; omega) (fun a cA H1 hcA a1 a2 a3 => ?_)
  have ho := old1 hP cx.2.2.2.2.2.2.2.2.2 hS a3
  obtain ⟨f1, -⟩ := Rp.push (r := 1) (e := e1 len.toNat) hz (by decide) p2 ho w3 w4 rfl a1 a2
  obtain ⟨r, hr, hk⟩ := g3 a f1
  obtain ⟨-, f2⟩ := Rp.push (r := r) (e := e1 len.toNat) hz hr p2 ho w3 w4 rfl a1 a2
  exact h a _ hk z hz p e R s m args below meth c H1 locs (cells + 1) (slots + len.toNat) ls cx ⟨hR.1, hR.2.1, by have := hR.2.2.1; omega, by have := hR.2.2.2; omega⟩ f2 a3 hl
theorem oi_nneg {x : Int} (h : 0 ≤ x) (h2 : x < 2147483648) : ¬ Int32.ofInt x < 0 := by rw [oi_0, oi_lt ⟨by omega, h2⟩ r0]; omega
theorem RA_inj {U : State} {a b : ClassId} {ty : FieldType} (h1 : va_RA U a ty) (h2 : va_RA U b ty) : a = b := by
  cases ty with
  | object C =>
    obtain ⟨_, _, _, _, _, q1⟩ := h1
    obtain ⟨_, _, _, _, _, q2⟩ := h2
    exact Option.some.inj (q1.symm.trans q2)
  | _ => exact Option.some.inj ((show U.vm.findClass _ = some a from h1).symm.trans h2)
theorem K_inj {D : va_G} {cl : List vw_C} {tys : List (ClassId × FieldType)} {U : State} {cA cB : ClassId} {ty : FieldType} {j : Nat} (h1 : va_K D cl (tys ++ [(cA, ty)]) U) (hj : tys[j]? = some (cB, ty)) : cA = cB := by
  have q1 := (h1.2 tys.length (cA, ty) (by simp)).2
  have q2 := (h1.2 j (cB, ty) (by rw [List.getElem?_append_left (List.getElem?_eq_some_iff.mp hj).1]; exact hj)).2
  exact RA_inj q1 q2
theorem r_newI {len : Int} {K : Nat → Wd → Prop} (hd : decode M.2.1 pc = .ok (.newarray .int, 2)) (ho : nA G k n len (fun l => aI 0 l (fun _ => 0)) K) (h : ∀ a G', K a G' → wp M d (k - 1) (n - len.toNat) (pc + 2) L (vR (some a) :: st) G' Q X) : wp M d k n pc L (vI len :: st) G Q X := by
  obtain ⟨b1, b2, b3, b4⟩ := ho.1
  refine wp.newa (kd := 0) (fun {z p e R s m args below meth c H locs cells slots Q' ls ws} hz cx hK hPw hD hS hA hc hs kk => ?_) ho h
  refine va_newa (a0 := (len.toNat, .inl (fun _ => Int32.ofInt 0))) (ty := .int) (atype := .int) cx.1 cx.2.1 (zw hz cx.2.2.2.2.2.2.2.2.1 q210) rfl hK hPw hD hS hA (fun _ => rfl) (oi_nneg b1 (by omega)) (clampI b1 (by omega)) (by show len.toNat * 4 ≤ _; omega) hc hs hd (fun q cA H1 a0 a1 a2 a3 => ?_)
  have e1 : cA = zK z 0 := K_inj a0 (j := 0) rfl
  subst e1
  exact kk q _ H1 rfl a1 a2 a3
theorem r_newB {len : Int} {K : Nat → Wd → Prop} (hd : decode M.2.1 pc = .ok (.newarray .byte, 2)) (ho : nA G k n len (fun l => aI 1 l (fun _ => 0)) K) (h : ∀ a G', K a G' → wp M d (k - 1) (n - len.toNat) (pc + 2) L (vR (some a) :: st) G' Q X) : wp M d k n pc L (vI len :: st) G Q X := by
  obtain ⟨b1, b2, b3, b4⟩ := ho.1
  refine wp.newa (kd := 1) (fun {z p e R s m args below meth c H locs cells slots Q' ls ws} hz cx hK hPw hD hS hA hc hs kk => ?_) ho h
  refine va_newa (a0 := (len.toNat, .inl (fun _ => Int32.ofInt 0))) (ty := .byte) (atype := .byte) cx.1 cx.2.1 (zw hz cx.2.2.2.2.2.2.2.2.1 q301) rfl hK hPw hD hS hA (fun _ => rfl) (oi_nneg b1 (by omega)) (clampI b1 (by omega)) (by show len.toNat * 1 ≤ _; omega) hc hs hd (fun q cA H1 a0 a1 a2 a3 => ?_)
  have e1 : cA = zK z 1 := K_inj a0 (j := 1) rfl
  subst e1
  exact kk q _ H1 rfl a1 a2 a3
theorem r_newZ {len : Int} {K : Nat → Wd → Prop} (hd : decode M.2.1 pc = .ok (.newarray .boolean, 2)) (ho : nA G k n len (fun l => aI 2 l (fun _ => 0)) K) (h : ∀ a G', K a G' → wp M d (k - 1) (n - len.toNat) (pc + 2) L (vR (some a) :: st) G' Q X) : wp M d k n pc L (vI len :: st) G Q X := by
  obtain ⟨b1, b2, b3, b4⟩ := ho.1
  refine wp.newa (kd := 2) (fun {z p e R s m args below meth c H locs cells slots Q' ls ws} hz cx hK hPw hD hS hA hc hs kk => ?_) ho h
  refine va_newa (a0 := (len.toNat, .inl (fun _ => Int32.ofInt 0))) (ty := .boolean) (atype := .boolean) cx.1 cx.2.1 (zw hz cx.2.2.2.2.2.2.2.2.1 q767) rfl hK hPw hD hS hA (fun _ => rfl) (oi_nneg b1 (by omega)) (clampI b1 (by omega)) (by show len.toNat * 1 ≤ _; omega) hc hs hd (fun q cA H1 a0 a1 a2 a3 => ?_)
  have e1 : cA = zK z 2 := K_inj a0 (j := 2) rfl
  subst e1
  exact kk q _ H1 rfl a1 a2 a3
theorem r_newC {len : Int} {K : Nat → Wd → Prop} (hd : decode M.2.1 pc = .ok (.newarray .char, 2)) (ho : nA G k n len (fun l => aI 3 l (fun _ => 0)) K) (h : ∀ a G', K a G' → wp M d (k - 1) (n - len.toNat) (pc + 2) L (vR (some a) :: st) G' Q X) : wp M d k n pc L (vI len :: st) G Q X := by
  obtain ⟨b1, b2, b3, b4⟩ := ho.1
  refine wp.newa (kd := 3) (fun {z p e R s m args below meth c H locs cells slots Q' ls ws} hz cx hK hPw hD hS hA hc hs kk => ?_) ho h
  refine va_newa (a0 := (len.toNat, .inl (fun _ => Int32.ofInt 0))) (ty := .char) (atype := .char) cx.1 cx.2.1 (zw hz cx.2.2.2.2.2.2.2.2.1 q1901) rfl hK hPw hD hS hA (fun _ => rfl) (oi_nneg b1 (by omega)) (clampI b1 (by omega)) (by show len.toNat * 2 ≤ _; omega) hc hs hd (fun q cA H1 a0 a1 a2 a3 => ?_)
  have e1 : cA = zK z 3 := K_inj a0 (j := 3) rfl
  subst e1
  exact kk q _ H1 rfl a1 a2 a3
theorem r_newS {len : Int} {K : Nat → Wd → Prop} (hd : decode M.2.1 pc = .ok (.newarray .short, 2)) (ho : nA G k n len (fun l => aI 4 l (fun _ => 0)) K) (h : ∀ a G', K a G' → wp M d (k - 1) (n - len.toNat) (pc + 2) L (vR (some a) :: st) G' Q X) : wp M d k n pc L (vI len :: st) G Q X := by
  obtain ⟨b1, b2, b3, b4⟩ := ho.1
  refine wp.newa (kd := 4) (fun {z p e R s m args below meth c H locs cells slots Q' ls ws} hz cx hK hPw hD hS hA hc hs kk => ?_) ho h
  refine va_newa (a0 := (len.toNat, .inl (fun _ => Int32.ofInt 0))) (ty := .short) (atype := .short) cx.1 cx.2.1 (zw hz cx.2.2.2.2.2.2.2.2.1 q1042) rfl hK hPw hD hS hA (fun _ => rfl) (oi_nneg b1 (by omega)) (clampI b1 (by omega)) (by show len.toNat * 2 ≤ _; omega) hc hs hd (fun q cA H1 a0 a1 a2 a3 => ?_)
  have e1 : cA = zK z 4 := K_inj a0 (j := 4) rfl
  subst e1
  exact kk q _ H1 rfl a1 a2 a3
theorem r_newJ {len : Int} {K : Nat → Wd → Prop} (hd : decode M.2.1 pc = .ok (.newarray .long, 2)) (ho : nA G k n len (fun l => aJ l (fun _ => 0)) K) (h : ∀ a G', K a G' → wp M d (k - 1) (n - len.toNat) (pc + 2) L (vR (some a) :: st) G' Q X) : wp M d k n pc L (vI len :: st) G Q X := by
  obtain ⟨b1, b2, b3, b4⟩ := ho.1
  refine wp.newa (kd := 5) (fun {z p e R s m args below meth c H locs cells slots Q' ls ws} hz cx hK hPw hD hS hA hc hs kk => ?_) ho h
  refine va_newa (a0 := (len.toNat, .inr (.inl (fun _ => Int64.ofInt 0)))) (ty := .long) (atype := .long) cx.1 cx.2.1 (zw hz cx.2.2.2.2.2.2.2.2.1 q551) rfl hK hPw hD hS hA (fun _ => rfl) (oi_nneg b1 (by omega)) (clampI b1 (by omega)) (by show len.toNat * 8 ≤ _; omega) hc hs hd (fun q cA H1 a0 a1 a2 a3 => ?_)
  have e1 : cA = zK z 5 := K_inj a0 (j := 5) rfl
  subst e1
  exact kk q _ H1 rfl a1 a2 a3
theorem r_newR {len : Int} {K : Nat → Wd → Prop} {kd index : Nat} {C : String} (hd : decode M.2.1 pc = .ok (.anewarray index, 3)) (hkd : ∀ K : Nat → ClassId, (tyK K)[kd]? = some (K kd, .object C)) (h1 : Cond.classLink M.1 index C ∈ lw_all) (h2 : Cond.arrayOver (.object C) ∈ lw_tbl)
    (ho : nA G k n len (fun l => aR kd l (fun _ => none)) K) (h : ∀ a G', K a G' → wp M d (k - 1) (n - len.toNat) (pc + 3) L (vR (some a) :: st) G' Q X) : wp M d k n pc L (vI len :: st) G Q X := by
  obtain ⟨b1, b2, b3, b4⟩ := ho.1
  refine wp.newa (kd := kd) (fun {z p e R s m args below meth c H locs cells slots Q' ls ws} hz cx hK hPw hD hS hA hc hs kk => ?_) ho h
  refine va_newq cx.1 cx.2.1 cx.2.2.2.2.2.1 (zw hz cx.2.2.2.2.2.2.2.2.1 h1) (va_AO.moved cx.2.2.2.2.2.2.2.2.1.alike (va_AO.of (hz.2.1 _ h2))) hK hPw hD hS hA (oi_nneg b1 (by omega)) (clampI b1 (by omega)) (by omega) hc hs hd (fun q cA H1 a0 a1 a2 a3 => ?_)
  have e1 : cA = zK z kd := K_inj a0 (hkd _)
  subst e1
  exact kk q _ H1 rfl a1 a2 a3
/-! calls -/
def call (y : MethodName) (cw : Cond) (d k n : Nat) (args : List Value) (G : Wd) (Q : Qt) (X : Xt) : Prop :=
  ∀ z, Zok z → vx_Met z.1 y (cw :: lw_all) { frames := d, cells := k, slots := n, locals := 64 * d } (va_Pc args (fun U => (zs z).WarmedH U.vm ∧ Rp z G U.heap)) (qQ z Q) (qX z X) k n (zA z)
def LA (i : Nat) (vs : List Value) (L : List (Option Value)) : Prop := lvs i L = lv_args i vs ∧ (lg_sl vs).length ≤ L.length
theorem la_nil {i : Nat} {L : List (Option Value)} (h : lvs i L = []) : LA i [] L := ⟨h, Nat.zero_le _⟩
theorem la_1 {i : Nat} {v : Value} {vs : List Value} {L : List (Option Value)} (hc : c1 v) (h : LA (i + 1) vs L) : LA i (v :: vs) (some v :: L) := by
  have hc : v.category = 1 := hc
  refine ⟨by simp only [lvs, lv_args, hc]; rw [h.1]; rfl, ?_⟩
  have e : lg_sl (v :: vs) = .val v :: lg_sl vs := by simp [lg_sl, hc]
  rw [e]; simp; exact h.2
theorem la_2 {i : Nat} {x : Int} {vs : List Value} {L : List (Option Value)} (h : LA (i + 2) vs L) : LA i (vJ x :: vs) (some (vJ x) :: none :: L) := by
  refine ⟨by simp only [lvs, lv_args, vJ_cat]; rw [h.1]; rfl, ?_⟩
  have e : lg_sl (vJ x :: vs) = .val (vJ x) :: .second :: lg_sl vs := by simp [lg_sl, vJ_cat]
  rw [e]; simp; exact h.2
theorem call.enter {y : MethodName} {cc : ByteArray} {maxL : Nat} {ret : Option FieldType} {args : List Value} {L0 : List (Option Value)} (hy : plainName y.cls = true) (hL : LA 0 args L0) (hl : L0.length = maxL)
    (h : wp (y.cls, cc, maxL, ret, [], y.name) d k n 0 L0 [] G Q X) : call y (Cond.code y cc maxL ret) d k n args G Q X := by
  intro z hz
  refine vx_ofW (cc := cc) (maxL := maxL) (ret := ret) hy rfl ?_
  intro p e s m args' below meth c s₁ B hml htab hv
  obtain ⟨rfl, hW, hP⟩ := hv
  rw [lg_entry_eq]
  refine h z hz p e _ s m _ below meth c s.heap [] 0 0 _ ⟨B.exec, B.bytes, B.returns, B.notSynchronized, hml, findClass_of_methodNamed B.named, ?_, (name_of_methodNamed B.named B.method).1, hW, hP.1.1⟩ ⟨Nat.le_refl _, Nat.le_refl _, by show 0 + k ≤ k; omega, by show 0 + n ≤ n; omega⟩ hP va_S.rf ?_
  · show c.exceptionTable.toList = []
    exact List.eq_nil_iff_forall_not_mem.mpr (fun x hx => htab x hx)
  · have h1 := lv_entry args (n := maxL) (by have := hL.2; omega)
    unfold lh
    rw [hL.1]
    exact h1
theorem call.enterW {y : MethodName} {cc : ByteArray} {maxL : Nat} {ret : Option FieldType} {hh : List (Nat × Nat × Nat × Nat)} {args : List Value} {L0 : List (Option Value)} (hy : plainName y.cls = true) (hL : LA 0 args L0) (hl : L0.length = maxL)
    (h : wp (y.cls, cc, maxL, ret, hh, y.name) d k n 0 L0 [] G Q X) : call y (Cond.codeWith y cc maxL ret hh) d k n args G Q X := by
  intro z hz
  refine vx_ofWH (cc := cc) (maxL := maxL) (ret := ret) hy rfl ?_
  intro p e s m args' below meth c s₁ B hml hv
  obtain ⟨rfl, hW, hP⟩ := hv
  rw [lg_entry_eq]
  refine h z hz p e _ s m _ below meth c s.heap [] 0 0 _ ⟨B.exec, B.bytes, B.returns, B.notSynchronized, hml, findClass_of_methodNamed B.named, ?_, (name_of_methodNamed B.named B.method).1, hW, hP.1.1⟩ ⟨Nat.le_refl _, Nat.le_refl _, by show 0 + k ≤ k; omega, by show 0 + n ≤ n; omega⟩ hP va_S.rf ?_
  · exact vx_table (x := y) B (atoms_spec (ws := Cond.codeWith y cc maxL ret hh :: lw_all) B.pre _ List.mem_cons_self)
  · have h1 := lv_entry args (n := maxL) (by have := hL.2; omega)
    unfold lh
    rw [hL.1]
    exact h1
/-- q, of the class E, is thrown at pc -/
def wpX (M : Mt) (d k n : Nat) (pc : Nat) (L : List (Option Value)) (st : List Value) (G : Wd) (E : String) (q : Nat) (Q : Qt) (X : Xt) : Prop :=
  ∀ z, Zok z → ∀ (p : Program) (e : Env) (R : Room) (s : State) (m : MethodId) (args : Array Value) (below : List Frame) (meth : Method) (c : Code) (H : Heap) (locs : List Loc) (cells slots : Nat) (ls : Array Slot) (ce : Cell),
    Cx M z p s m meth c → Rm R d k n cells slots → Rp z G H → va_S (zA z) s.heap H locs → lh ls M.2.2.1 L → H[q]? = some ce → ce.vm = .none → s.vm.findClass E = some ce.cls →
    vx_W p z.1 e R s m args below meth c H locs cells slots (vx_MQ below (qQ z Q) (qX z X) args s R.cells R.slots (zA z)) (F0 m pc ls st) q
theorem wpX.out {E : String} {q : Nat} (hout : ∀ x ∈ tableOf M.2.2.2.2.1, covers x pc = false) (h : X E q G) : wpX M d k n pc L st G E q Q X := by
  intro z hz p e R s m args below meth c H locs cells slots ls ce cx hR hP hS hl h1 h2 h3
  exact vx_out (E := E) (ce := ce) (by rw [cx.2.2.2.2.2.2.1]; exact hout) cx.2.2.2.1 h1 h2 h3 (fun t ht _ => ⟨G, by rw [ht]; exact hP, hS.F ht, h⟩) hS.2.2 (by have := hR.2.2.1; omega) (by have := hR.2.2.2; omega)
theorem wp.call {kc nc pc3 : Nat} {As rest : List Value} {Qc : Qt} {Xc : Xt} (hk : kc ≤ k) (hn : nc ≤ n)
    (f : ∀ {z : Zt} {p : Program} {e : Env} {R : Room} {s : State} {m : MethodId} {args : Array Value} {below : List Frame} {meth : Method} {c : Code} {H : Heap} {locs : List Loc} {cells slots : Nat} {ls : Array Slot},
      Zok z → Cx M z p s m meth c → Rm R d k n cells slots → Rp z G H → lh ls M.2.2.1 L → vx_Run p z.1 e R s m args below meth c H locs cells slots kc nc (F0 m pc ls st) rest (qQ z Qc #[]) (qX z Xc) (zA z))
    (hQ : ∀ v G', Qc v G' → wp M d (k - kc) (n - nc) (pc + 3) L (v.toList ++ rest) G' Q X) (hX : ∀ E q G', Xc E q G' → wpX M d (k - kc) (n - nc) pc L rest G' E q Q X) : wp M d k n pc L st G Q X := by
  intro z hz p e R s m args below meth c H locs cells slots ls cx hR hP hS hl T hT X0
  have hR' : Rm R d (k - kc) (n - nc) (cells + kc) (slots + nc) := ⟨hR.1, hR.2.1, by have := hR.2.2.1; omega, by have := hR.2.2.2; omega⟩
  have hrun := f (e := e) (args := args) (below := below) (locs := locs) hz cx hR hP hl
  rcases hrun T hT X0 with ⟨v, st₀, t, T', L', h0, X', hL, e1, e2, ⟨v', G', hv, hP', hF, hq⟩, stp⟩ | ⟨q, st₀, t, T', L', E, ce, h0, X', hL, e1, e2, ⟨G', hP', hF, hq⟩, hce, hcv, hcl, stp⟩
  · cases hv
    obtain ⟨k1, k2, k3⟩ := vx_keep h0 e1 hS (A1 := zA z) (free := zA z) (fun q _ h => h) (fun q h => h) hL hF
    obtain ⟨t2, a1, b1⟩ := hQ v G' hq z hz p e R s m args below meth c T'.heap (locs ++ L') (cells + kc) (slots + nc) ls cx hR' (by rw [e1]; exact hP') k3 hl T' rfl X'
    exact ⟨t2, stp t2 a1, b1⟩
  · obtain ⟨k1, k2, k3⟩ := vx_keep h0 e1 hS (A1 := zA z) (free := zA z) (fun q _ h => h) (fun q h => h) hL hF
    obtain ⟨t2, a1, b1⟩ := hX E q G' hq z hz p e R s m args below meth c T'.heap (locs ++ L') (cells + kc) (slots + nc) ls ce cx hR' (by rw [e1]; exact hP') k3 hl (by rw [e1]; exact hce) hcv hcl T' rfl X'
    exact ⟨t2, stp.trans a1, b1⟩
def RC (st : List Value) (m : Nat) : Prop := (st.map fun v => v.category).sum ≤ m
theorem rc0 : RC [] 0 := Nat.le_refl _
theorem rc1 {v : Value} {st : List Value} {m : Nat} (h : c1 v) (t : RC st m) : RC (v :: st) (m + 1) := by
  have h : v.category = 1 := h
  have t : (st.map fun v => v.category).sum ≤ m := t
  show ((v :: st).map fun v => v.category).sum ≤ m + 1
  rw [List.map_cons, List.sum_cons, h]; omega
theorem rc2 {x : Int} {st : List Value} {m : Nat} (t : RC st m) : RC (vJ x :: st) (m + 2) := by
  have t : (st.map fun v => v.category).sum ≤ m := t
  show ((vJ x :: st).map fun v => v.category).sum ≤ m + 2
  rw [List.map_cons, List.sum_cons, vJ_cat]; omega
/-- a method's name can be called: its class is no handle, so many parameters -/
def yOK (y : MethodName) (n : Nat) : Prop := y.cls ≠ "java/lang/invoke/MethodHandle" ∧ y.cls ≠ "java/lang/invoke/VarHandle" ∧ (parseMethodDescriptor y.desc).map (fun d => d.parameters.length) = some n
theorem blind {z : Zt} {args : List Value} {G : Wd} : FrameBlind (va_Pc args (fun U => (zs z).WarmedH U.vm ∧ Rp z G U.heap)) := fun a U g mk h => h
theorem rm_ok {R : Room} {d d' k n kc nc cells slots maxL : Nat} (hR : Rm R d k n cells slots) (hd : d' + 1 ≤ d) (hm : maxL ≤ 45) : ({ frames := d', cells := kc, slots := nc, locals := 64 * d' } : Room).frames + 1 ≤ R.frames ∧ 8 + (maxL + 11) + ({ frames := d', cells := kc, slots := nc, locals := 64 * d' } : Room).locals ≤ R.locals := by
  have h1 := hR.1
  have h2 := hR.2.1
  exact ⟨by show d' + 1 ≤ _; omega, by show 8 + (maxL + 11) + 64 * d' ≤ _; omega⟩
section
variable {y : MethodName} {cc : ByteArray} {maxL : Nat} {ret : Option FieldType} {d' kc nc index N mr : Nat} {As rest : List Value} {Qc : Qt} {Xc : Xt} {hh : List (Nat × Nat × Nat × Nat)}
theorem r_callS (hd : decode M.2.1 pc = .ok (.invokestatic index, 3)) (hM : call y (Cond.code y cc maxL ret) d' kc nc As G Qc Xc) (h1 : Cond.methodLink M.1 index y ∈ lw_all) (h2 : Cond.static y ∈ lw_all) (h3 : Cond.initialized y.cls ∈ lw_all) (h4 : Cond.code y cc maxL ret ∈ lw_all) (hy : yOK y N) (hN : As.length = N)
    (hdd : d' + 1 ≤ d) (hm : maxL ≤ 45) (hst : st = As.reverse ++ rest) (hrc : RC rest mr) (hm8 : mr ≤ 8) (hk : kc ≤ k) (hn : nc ≤ n)
    (hQ : ∀ v G', Qc v G' → wp M d (k - kc) (n - nc) (pc + 3) L (v.toList ++ rest) G' Q X) (hX : ∀ E q G', Xc E q G' → wpX M d (k - kc) (n - nc) pc L rest G' E q Q X) : wp M d k n pc L st G Q X := by
  subst hst
  refine wp.call (pc3 := pc) (As := As) hk hn (fun {z p e R s m args below meth c H locs cells slots ls} hz cx hR hP hl => ?_) hQ hX
  have hW := cx.2.2.2.2.2.2.2.2.1
  have hts : ∀ w ∈ lw_all, w.before args s = true := fun w h => zw hz hW h
  exact vx_runS (As := As) (rest := rest) ⟨cx.1, cx.2.1, cx.2.2.2.2.1, cx.2.2.2.2.2.1, hts⟩ (hM z hz) (va_cwS N hts (lw_S h1 h2 h3 h4) rfl rfl rfl hy (rm_ok hR hdd hm)) ⟨blind, fun U hU hWU => ⟨rfl, hW.trans hWU, by rw [hU]; exact hP⟩⟩ rfl hN hl.1 rfl (lv_room (Nat.le_trans hrc hm8)) hd ⟨by have := hR.2.2.1; omega, by have := hR.2.2.2; omega⟩
theorem r_callSX (hd : decode M.2.1 pc = .ok (.invokestatic index, 3)) (hM : call y (Cond.codeWith y cc maxL ret hh) d' kc nc As G Qc Xc) (h1 : Cond.methodLink M.1 index y ∈ lw_all) (h2 : Cond.static y ∈ lw_all) (h3 : Cond.initialized y.cls ∈ lw_all) (h4 : Cond.codeWith y cc maxL ret hh ∈ lw_all) (hy : yOK y N) (hN : As.length = N)
    (hdd : d' + 1 ≤ d) (hm : maxL ≤ 45) (hst : st = As.reverse ++ rest) (hrc : RC rest mr) (hm8 : mr ≤ 8) (hk : kc ≤ k) (hn : nc ≤ n)
    (hQ : ∀ v G', Qc v G' → wp M d (k - kc) (n - nc) (pc + 3) L (v.toList ++ rest) G' Q X) (hX : ∀ E q G', Xc E q G' → wpX M d (k - kc) (n - nc) pc L rest G' E q Q X) : wp M d k n pc L st G Q X := by
  subst hst
  refine wp.call (pc3 := pc) (As := As) hk hn (fun {z p e R s m args below meth c H locs cells slots ls} hz cx hR hP hl => ?_) hQ hX
  have hW := cx.2.2.2.2.2.2.2.2.1
  have hts : ∀ w ∈ lw_all, w.before args s = true := fun w h => zw hz hW h
  exact vx_runSX (As := As) (rest := rest) ⟨cx.1, cx.2.1, cx.2.2.2.2.1, cx.2.2.2.2.2.1, hts⟩ (hM z hz) (vx_cwSW N hts (lw_SW h1 h2 h3 h4) rfl rfl rfl hy (rm_ok hR hdd hm)) ⟨blind, fun U hU hWU => ⟨rfl, hW.trans hWU, by rw [hU]; exact hP⟩⟩ rfl hN hl.1 rfl (lv_room (Nat.le_trans hrc hm8)) hd ⟨by have := hR.2.2.1; omega, by have := hR.2.2.2; omega⟩
/-- the receiver is an object of the class number ci -/
def isC (G : Wd) (a ci : Nat) : Prop := ∃ r fs, G r a = some (oB ci fs)
theorem recv {z : Zt} {s : State} {H : Heap} {b ci : Nat} {q : vw_C} (hz : Zok z) (hW : (zs z).WarmedH s.vm) (hP : Rp z G H) (hb : isC G b ci) (hc : qCl[ci]? = some q) : ∃ cell : Cell, H[b]? = some cell ∧ cell.vm.isStatics = false ∧ s.vm.findClass q.1 = some cell.cls := by
  obtain ⟨r, fs, hg⟩ := hb
  exact va_recv (zk hz hW) (Rp.one hz hP (tr_o hc) hg) hc (q0 := 0) rfl
theorem r_callV {b ci : Nat} {T : u_T} {N0 : Nat} (hd : decode M.2.1 pc = .ok (.invokevirtual index, 3)) (hb : isC G b ci) (hM : call y (Cond.code y cc maxL ret) d' kc nc (vR (some b) :: As) G Qc Xc) (h1 : Cond.methodLink M.1 index y ∈ lw_all) (h2 : Cond.instanceMethod y ∈ lw_all) (h3 : Cond.selects y.cls y y ∈ lw_all) (h4 : Cond.initialized y.cls ∈ lw_all) (h5 : Cond.code y cc maxL ret ∈ lw_all)
    (hc : qCl[ci]? = some (y.cls, T, N0)) (hy : yOK y N) (hN : As.length = N) (hdd : d' + 1 ≤ d) (hm : maxL ≤ 45) (hst : st = As.reverse ++ vR (some b) :: rest) (hrc : RC rest mr) (hm8 : mr ≤ 8) (hk : kc ≤ k) (hn : nc ≤ n)
    (hQ : ∀ v G', Qc v G' → wp M d (k - kc) (n - nc) (pc + 3) L (v.toList ++ rest) G' Q X) (hX : ∀ E q G', Xc E q G' → wpX M d (k - kc) (n - nc) pc L rest G' E q Q X) : wp M d k n pc L st G Q X := by
  subst hst
  refine wp.call (pc3 := pc) (As := As) hk hn (fun {z p e R s m args below meth c H locs cells slots ls} hz cx hR hP hl => ?_) hQ hX
  have hW := cx.2.2.2.2.2.2.2.2.1
  have hts : ∀ w ∈ lw_all, w.before args s = true := fun w h => zw hz hW h
  exact vx_runV (As := As) (rest := rest) ⟨cx.1, cx.2.1, cx.2.2.2.2.1, cx.2.2.2.2.2.1, hts⟩ (hM z hz) (cwV N hts (lw_V h1 h2 h3 h4 h5) rfl rfl rfl ⟨rfl, hy⟩ (rm_ok hR hdd hm)) ⟨blind, recv (q := (y.cls, T, N0)) hz hW hP hb hc, fun U hU hWU => ⟨rfl, hW.trans hWU, by rw [hU]; exact hP⟩⟩ rfl hN hl.1 rfl (lv_room (Nat.le_trans hrc hm8)) hd ⟨by have := hR.2.2.1; omega, by have := hR.2.2.2; omega⟩
theorem r_callVX {b ci : Nat} {T : u_T} {N0 : Nat} (hd : decode M.2.1 pc = .ok (.invokevirtual index, 3)) (hb : isC G b ci) (hM : call y (Cond.codeWith y cc maxL ret hh) d' kc nc (vR (some b) :: As) G Qc Xc) (h1 : Cond.methodLink M.1 index y ∈ lw_all) (h2 : Cond.instanceMethod y ∈ lw_all) (h3 : Cond.selects y.cls y y ∈ lw_all) (h4 : Cond.initialized y.cls ∈ lw_all) (h5 : Cond.codeWith y cc maxL ret hh ∈ lw_all)
    (hc : qCl[ci]? = some (y.cls, T, N0)) (hy : yOK y N) (hN : As.length = N) (hdd : d' + 1 ≤ d) (hm : maxL ≤ 45) (hst : st = As.reverse ++ vR (some b) :: rest) (hrc : RC rest mr) (hm8 : mr ≤ 8) (hk : kc ≤ k) (hn : nc ≤ n)
    (hQ : ∀ v G', Qc v G' → wp M d (k - kc) (n - nc) (pc + 3) L (v.toList ++ rest) G' Q X) (hX : ∀ E q G', Xc E q G' → wpX M d (k - kc) (n - nc) pc L rest G' E q Q X) : wp M d k n pc L st G Q X := by
  subst hst
  refine wp.call (pc3 := pc) (As := As) hk hn (fun {z p e R s m args below meth c H locs cells slots ls} hz cx hR hP hl => ?_) hQ hX
  have hW := cx.2.2.2.2.2.2.2.2.1
  have hts : ∀ w ∈ lw_all, w.before args s = true := fun w h => zw hz hW h
  exact vx_runVX (As := As) (rest := rest) ⟨cx.1, cx.2.1, cx.2.2.2.2.1, cx.2.2.2.2.2.1, hts⟩ (hM z hz) (vx_cwVW N hts (lw_VW h1 h2 h3 h4 h5) rfl rfl rfl ⟨rfl, hy⟩ (rm_ok hR hdd hm)) ⟨blind, recv (q := (y.cls, T, N0)) hz hW hP hb hc, fun U hU hWU => ⟨rfl, hW.trans hWU, by rw [hU]; exact hP⟩⟩ rfl hN hl.1 rfl (lv_room (Nat.le_trans hrc hm8)) hd ⟨by have := hR.2.2.1; omega, by have := hR.2.2.2; omega⟩
theorem r_callI {b : Nat} (hd : decode M.2.1 pc = .ok (.invokespecial index, 3)) (hM : call y (Cond.code y cc maxL none) d' kc nc (vR (some b) :: As) G Qc Xc) (hnm : y.name = "<init>") (h1 : Cond.methodLink M.1 index y ∈ lw_all) (h2 : Cond.instanceMethod y ∈ lw_all) (h4 : Cond.initialized y.cls ∈ lw_all) (h5 : Cond.code y cc maxL none ∈ lw_all)
    (hy : yOK y N) (hN : As.length = N) (hdd : d' + 1 ≤ d) (hm : maxL ≤ 45) (hst : st = As.reverse ++ vR (some b) :: rest) (hrc : RC rest mr) (hm8 : mr ≤ 8) (hk : kc ≤ k) (hn : nc ≤ n)
    (hQ : ∀ v G', Qc v G' → wp M d (k - kc) (n - nc) (pc + 3) L (v.toList ++ rest) G' Q X) (hX : ∀ E q G', Xc E q G' → wpX M d (k - kc) (n - nc) pc L rest G' E q Q X) : wp M d k n pc L st G Q X := by
  subst hst
  refine wp.call (pc3 := pc) (As := As) hk hn (fun {z p e R s m args below meth c H locs cells slots ls} hz cx hR hP hl => ?_) hQ hX
  have hW := cx.2.2.2.2.2.2.2.2.1
  have hts : ∀ w ∈ lw_all, w.before args s = true := fun w h => zw hz hW h
  exact vx_runI (As := As) (rest := rest) ⟨cx.1, cx.2.1, cx.2.2.2.2.1, cx.2.2.2.2.2.1, hts⟩ (hM z hz) (cwI N hts (lw_meth h5) rfl rfl rfl (hts _ h4) (hts _ h1) (hts _ h2) hnm hy (rm_ok hR hdd hm)) ⟨blind, fun U hU hWU => ⟨rfl, hW.trans hWU, by rw [hU]; exact hP⟩⟩ rfl hN hl.1 rfl (lv_room (Nat.le_trans hrc hm8)) hd ⟨by have := hR.2.2.1; omega, by have := hR.2.2.2; omega⟩
end
/-! answers by their kinds -/
def qI (K : Int → Wd → Prop) : Qt := fun v G => ∃ x, v = some (vI x) ∧ K x G
def qB (K : Bool → Wd → Prop) : Qt := fun v G => ∃ x, v = some (vB x) ∧ K x G
def qJ (K : Int → Wd → Prop) : Qt := fun v G => ∃ x, v = some (vJ x) ∧ K x G
def qR (K : Option Nat → Wd → Prop) : Qt := fun v G => ∃ x, v = some (vR x) ∧ K x G
def qV (K : Wd → Prop) : Qt := fun v G => v = none ∧ K G
def noX : Xt := fun _ _ _ => False
theorem ofI {K : Int → Wd → Prop} {rest : List Value} (h : ∀ x G', K x G' → wp M d k n pc L (vI x :: rest) G' Q X) : ∀ v G', qI K v G' → wp M d k n pc L (v.toList ++ rest) G' Q X := by
  rintro v G' ⟨x, rfl, hk⟩; exact h x G' hk
theorem ofB {K : Bool → Wd → Prop} {rest : List Value} (h : ∀ x G', K x G' → wp M d k n pc L (vB x :: rest) G' Q X) : ∀ v G', qB K v G' → wp M d k n pc L (v.toList ++ rest) G' Q X := by
  rintro v G' ⟨x, rfl, hk⟩; exact h x G' hk
theorem ofJ {K : Int → Wd → Prop} {rest : List Value} (h : ∀ x G', K x G' → wp M d k n pc L (vJ x :: rest) G' Q X) : ∀ v G', qJ K v G' → wp M d k n pc L (v.toList ++ rest) G' Q X := by
  rintro v G' ⟨x, rfl, hk⟩; exact h x G' hk
theorem ofR {K : Option Nat → Wd → Prop} {rest : List Value} (h : ∀ x G', K x G' → wp M d k n pc L (vR x :: rest) G' Q X) : ∀ v G', qR K v G' → wp M d k n pc L (v.toList ++ rest) G' Q X := by
  rintro v G' ⟨x, rfl, hk⟩; exact h x G' hk
theorem ofV {K : Wd → Prop} {rest : List Value} (h : ∀ G', K G' → wp M d k n pc L rest G' Q X) : ∀ v G', qV K v G' → wp M d k n pc L (v.toList ++ rest) G' Q X := by
  rintro v G' ⟨rfl, hk⟩; exact h G' hk
theorem nox {rest : List Value} : ∀ E q G', noX E q G' → wpX M d k n pc L rest G' E q Q X := fun _ _ _ h => h.elim
end
