/-! ROWS FOR RETURNS, FIELDS, ARRAYS, NEW CELLS (printed by rows2.py) -/
set_option maxRecDepth 100000
theorem zw {z : Zt} {s : State} {args : Array Value} (hz : Zok z) (hW : (zs z).WarmedH s.vm) {w : Cond} (h : w ∈ lw_all) : w.before args s = true :=
  word_at hW (lw_self w h).2 (hz.2.1 w (lw_all_tbl h))
theorem zk {z : Zt} {s : State} (hz : Zok z) (hW : (zs z).WarmedH s.vm) : va_K (zD z) qCl (tyK (zK z)) s := va_K.moved hW.alike hz.2.2.2.1
theorem old1 {z : Zt} {G : Wd} {s : State} {H H1 : Heap} {locs locs1 : List Loc} (hP : Rp z G H) (hs : (zs z).heap.size ≤ s.heap.size) (hS : va_S (zA z) s.heap H locs) (hS1 : va_S (zA z) s.heap H1 locs1) :
    (zs z).heap.size ≤ H1.size ∧ ∀ q : Nat, q < (zs z).heap.size → H1[q]? = (zs z).heap[q]? := by
  refine ⟨Nat.le_trans hs hS1.1, fun q hq => ?_⟩
  have hn : ¬ zA z q := by unfold zA; omega
  rw [hS1.2.1 q (by omega) hn, ← hP.1.2.1 q hq, hS.2.1 q (by omega) hn]
section
variable {M : Mt} {d k n pc : Nat} {L : List (Option Value)} {st : List Value} {G : Wd} {Q : Qt} {X : Xt}

theorem r_iret {x : Int} (hr : M.2.2.2.1 = some .int) (hd : decode M.2.1 pc = .ok (.ireturn, 1)) (h : Q (some (vI x)) G) : wp M d k n pc L [vI x] G Q X := by
  intro z hz p e R s m args below meth c H locs cells slots ls cx hR hP hS hl
  refine W.widen (k := R.cells) (n := R.slots) (by have := hR.2.2.1; omega) (by have := hR.2.2.2; omega) (vx_ret ?_)
  exact W.iret cx.1 cx.2.1 (cx.2.2.1.trans hr) (fun t ht hW => ⟨_, _, rfl, by rw [ht]; exact hP, hS.F ht, h⟩) hS.2.2 hd cx.2.2.2.1
theorem r_lret {x : Int} (hr : M.2.2.2.1 = some .long) (hd : decode M.2.1 pc = .ok (.lreturn, 1)) (h : Q (some (vJ x)) G) : wp M d k n pc L [vJ x] G Q X := by
  intro z hz p e R s m args below meth c H locs cells slots ls cx hR hP hS hl
  refine W.widen (k := R.cells) (n := R.slots) (by have := hR.2.2.1; omega) (by have := hR.2.2.2; omega) (vx_ret ?_)
  exact W.lret cx.1 cx.2.1 (cx.2.2.1.trans hr) (fun t ht hW => ⟨_, _, rfl, by rw [ht]; exact hP, hS.F ht, h⟩) hS.2.2 hd cx.2.2.2.1
theorem r_zret {b : Bool} (hr : M.2.2.2.1 = some .boolean) (hd : decode M.2.1 pc = .ok (.ireturn, 1)) (h : Q (some (vB b)) G) : wp M d k n pc L [vB b] G Q X := by
  intro z hz p e R s m args below meth c H locs cells slots ls cx hR hP hS hl
  refine W.widen (k := R.cells) (n := R.slots) (by have := hR.2.2.1; omega) (by have := hR.2.2.2; omega) (vx_ret ?_)
  exact W.zret cx.1 cx.2.1 (cx.2.2.1.trans hr) (by cases b <;> rfl) (fun t ht hW => ⟨_, _, rfl, by rw [ht]; exact hP, hS.F ht, h⟩) hS.2.2 hd cx.2.2.2.1
theorem r_zretI {x : Int} {b : Bool} (hx : x = if b then 1 else 0) (hr : M.2.2.2.1 = some .boolean) (hd : decode M.2.1 pc = .ok (.ireturn, 1)) (h : Q (some (vB b)) G) : wp M d k n pc L [vI x] G Q X := by
  have e : vI x = vB b := by subst hx; cases b <;> rfl
  rw [e]; exact r_zret hr hd h
theorem r_cret {x : Int} (hx : 0 ≤ x ∧ x < 65536) (hr : M.2.2.2.1 = some .char) (hd : decode M.2.1 pc = .ok (.ireturn, 1)) (h : Q (some (vI x)) G) : wp M d k n pc L [vI x] G Q X := by
  intro z hz p e R s m args below meth c H locs cells slots ls cx hR hP hS hl
  refine W.widen (k := R.cells) (n := R.slots) (by have := hR.2.2.1; omega) (by have := hR.2.2.2; omega) (vx_ret ?_)
  exact W.zret cx.1 cx.2.1 (cx.2.2.1.trans hr) (by rw [oi_nI hx.1]; exact (pk_charN (by have := hx.2; omega)).1) (fun t ht hW => ⟨_, _, rfl, by rw [ht]; exact hP, hS.F ht, h⟩) hS.2.2 hd cx.2.2.2.1
def refTy (t : Option FieldType) : Prop := ∃ rt, t = some rt ∧ ((∃ n, rt = .object n) ∨ ∃ u, rt = .array u)
theorem rtO {C : String} : refTy (some (.object C)) := ⟨_, rfl, Or.inl ⟨_, rfl⟩⟩
theorem rtA {t : FieldType} : refTy (some (.array t)) := ⟨_, rfl, Or.inr ⟨_, rfl⟩⟩
theorem r_aret {r : Option Nat} (hr : refTy M.2.2.2.1) (hd : decode M.2.1 pc = .ok (.areturn, 1)) (h : Q (some (vR r)) G) : wp M d k n pc L [vR r] G Q X := by
  intro z hz p e R s m args below meth c H locs cells slots ls cx hR hP hS hl
  obtain ⟨rt, h1, h2⟩ := hr
  refine W.widen (k := R.cells) (n := R.slots) (by have := hR.2.2.1; omega) (by have := hR.2.2.2; omega) (vx_ret ?_)
  exact W.aret cx.1 cx.2.1 (cx.2.2.1.trans h1) h2 (by cases r with | none => exact Or.inl rfl | some a => exact Or.inr ⟨a, rfl⟩) (fun t ht hW => ⟨_, _, rfl, by rw [ht]; exact hP, hS.F ht, h⟩) hS.2.2 hd cx.2.2.2.1
theorem r_vret (hr : M.2.2.2.1 = none) (hd : decode M.2.1 pc = .ok (.return_, 1)) (h : Q none G) : wp M d k n pc L [] G Q X := by
  intro z hz p e R s m args below meth c H locs cells slots ls cx hR hP hS hl
  refine W.widen (k := R.cells) (n := R.slots) (by have := hR.2.2.1; omega) (by have := hR.2.2.2; omega) (vx_ret ?_)
  exact W.vret cx.1 cx.2.1 (cx.2.2.1.trans hr) (fun t ht hW => ⟨_, _, rfl, by rw [ht]; exact hP, hS.F ht, h⟩) hS.2.2 hd cx.2.2.2.1
/-! fields -/
def clsOK (ci : Nat) (C : String) (T : u_T) (N : Nat) (ty : Nat → FieldType) : Prop := qCl[ci]? = some (C, T, N) ∧ (∀ w ∈ u_ws C T N, w ∈ lw_all) ∧ (∀ a, a < N → ∀ b, b < N → a ≠ b → (T a).2.1 ≠ (T b).2.1) ∧ (∀ k, k < N → parseFieldDescriptor (T k).2.2.1 = some (ty k))
def fGet (own : String) (index : Nat) (cs : List Nat) (f : Nat) : Prop := ∀ ci ∈ cs, ∃ C T N ty ref, clsOK ci C T N ty ∧ f < N ∧ Cond.fieldLink own index ref (T f).2.1 (T f).2.2.1 ∈ lw_all ∧ ((T f).1 = ref ∨ Cond.sameField ref (T f).1 (T f).2.1 (T f).2.2.1 ∈ lw_all)
theorem fg1 {own ref C : String} {index ci f N : Nat} {T : u_T} {ty : Nat → FieldType} (hc : clsOK ci C T N ty) (hf : f < N) (hl : Cond.fieldLink own index ref (T f).2.1 (T f).2.2.1 ∈ lw_all) (hs : (T f).1 = ref) : fGet own index [ci] f := by
  intro c h
  rw [List.mem_singleton] at h
  subst h
  exact ⟨C, T, N, ty, ref, hc, hf, hl, Or.inl hs⟩
theorem fg1s {own ref C : String} {index ci f N : Nat} {T : u_T} {ty : Nat → FieldType} (hc : clsOK ci C T N ty) (hf : f < N) (hl : Cond.fieldLink own index ref (T f).2.1 (T f).2.2.1 ∈ lw_all) (hs : Cond.sameField ref (T f).1 (T f).2.1 (T f).2.2.1 ∈ lw_all) : fGet own index [ci] f := by
  intro c h
  rw [List.mem_singleton] at h
  subst h
  exact ⟨C, T, N, ty, ref, hc, hf, hl, Or.inr hs⟩
theorem fgc {own : String} {index ci f : Nat} {cs : List Nat} (h1 : fGet own index [ci] f) (h2 : fGet own index cs f) : fGet own index (ci :: cs) f := by
  intro c h
  rcases List.mem_cons.mp h with h | h
  · exact h1 c (by rw [h]; exact List.mem_singleton_self _)
  · exact h2 c h
def gI (G : Wd) (a : Nat) (cs : List Nat) (f : Nat) (K : Int → Prop) : Prop := ∃ r ci fs x, G r a = some (oB ci fs) ∧ ci ∈ cs ∧ fs[f]? = some (vI x) ∧ K x
def gZ (G : Wd) (a : Nat) (cs : List Nat) (f : Nat) (K : Bool → Prop) : Prop := ∃ r ci fs x, G r a = some (oB ci fs) ∧ ci ∈ cs ∧ fs[f]? = some (vB x) ∧ K x
def gR (G : Wd) (a : Nat) (cs : List Nat) (f : Nat) (K : Option Nat → Prop) : Prop := ∃ r ci fs x, G r a = some (oB ci fs) ∧ ci ∈ cs ∧ fs[f]? = some (vR x) ∧ K x
theorem wp.get {a r ci f index : Nat} {cs : List Nat} {fs : List Value} {v : Value} (hd : decode M.2.1 pc = .ok (.getfield index, 3)) (hf : fGet M.1 index cs f) (hg : G r a = some (oB ci fs)) (hc : ci ∈ cs) (hv : fs[f]? = some v) (h : wp M d k n (pc + 3) L (v :: st) G Q X) : wp M d k n pc L (vR (some a) :: st) G Q X := by
  intro z hz p e R s m args below meth c H locs cells slots ls cx hR hP hS hl
  obtain ⟨C, T, N, ty, ref, ⟨k1, k2, k3, k4⟩, hN, hw, hs⟩ := hf ci hc
  refine va_get (Ts := lw_all) cx.1 cx.2.1 (fun w h => zw hz cx.2.2.2.2.2.2.2.2.1 h) k2 cx.2.2.2.2.2.1 (zk hz cx.2.2.2.2.2.2.2.2.1) (Rp.one hz hP (tr_o k1) hg) 0 rfl k1 f hN (zw hz cx.2.2.2.2.2.2.2.2.1 hw) ?_ hv hd (h z hz p e R s m args below meth c H locs cells slots ls cx hR hP hS hl)
  rcases hs with hs | hs
  · intro x hx; rw [← hs]; exact hx
  · exact fun x hx => u_same (zw (args := args) hz cx.2.2.2.2.2.2.2.2.1 hs) x hx
theorem r_getI {a f index : Nat} {cs : List Nat} {K : Int → Prop} (hd : decode M.2.1 pc = .ok (.getfield index, 3)) (hf : fGet M.1 index cs f) (ho : gI G a cs f K) (h : ∀ x, K x → wp M d k n (pc + 3) L (vI x :: st) G Q X) : wp M d k n pc L (vR (some a) :: st) G Q X := by
  obtain ⟨r, ci, fs, x, h1, h2, h3, h4⟩ := ho
  exact wp.get hd hf h1 h2 h3 (h x h4)
theorem r_getZ {a f index : Nat} {cs : List Nat} {K : Bool → Prop} (hd : decode M.2.1 pc = .ok (.getfield index, 3)) (hf : fGet M.1 index cs f) (ho : gZ G a cs f K) (h : ∀ x, K x → wp M d k n (pc + 3) L (vB x :: st) G Q X) : wp M d k n pc L (vR (some a) :: st) G Q X := by
  obtain ⟨r, ci, fs, x, h1, h2, h3, h4⟩ := ho
  exact wp.get hd hf h1 h2 h3 (h x h4)
theorem r_getR {a f index : Nat} {cs : List Nat} {K : Option Nat → Prop} (hd : decode M.2.1 pc = .ok (.getfield index, 3)) (hf : fGet M.1 index cs f) (ho : gR G a cs f K) (h : ∀ x, K x → wp M d k n (pc + 3) L (vR x :: st) G Q X) : wp M d k n pc L (vR (some a) :: st) G Q X := by
  obtain ⟨r, ci, fs, x, h1, h2, h3, h4⟩ := ho
  exact wp.get hd hf h1 h2 h3 (h x h4)
/-- one cell is written -/
theorem wp.write {r a pc' : Nat} {st' : List Value} {e0 e1 : QE} (hr : r ≠ 0) (h0 : G r a = some e0)
    (f : ∀ {z : Zt} {p : Program} {e : Env} {R : Room} {s : State} {m : MethodId} {args : Array Value} {below : List Frame} {meth : Method} {c : Code} {H : Heap} {locs : List Loc} {cells slots : Nat} {Q' : State → Prop} {ls : Array Slot} {ws : va_W} {q0 : Nat},
      Zok z → Cx M z p s m meth c → Rm R d k n cells slots → lh ls M.2.2.1 L → Rp z G H → va_K (zD z) qCl (tyK (zK z)) s → va_P (zD z) qCl ws H → va_D (zA z) ws → va_S (zA z) s.heap H locs → ws[q0]? = some (a, qE (zK z) e0) → (∀ r a e, r ≠ 0 → G r a = some e → ∃ k : Nat, ws[k]? = some (a, qE (zK z) e)) →
      (∀ (H1 : Heap) (locs1 : List Loc), va_P (zD z) qCl (ws.set q0 (a, qE (zK z) e1)) H1 → va_D (zA z) (ws.set q0 (a, qE (zK z) e1)) → va_S (zA z) s.heap H1 locs1 → W p z.1 e R s m args below meth c H1 locs1 cells slots Q' (F0 m pc' ls st')) →
      W p z.1 e R s m args below meth c H locs cells slots Q' (F0 m pc ls st))
    (h : wp M d k n pc' L st' (wset G r a e1) Q X) : wp M d k n pc L st G Q X := by
  intro z hz p e R s m args below meth c H locs cells slots ls cx hR hP hS hl
  have hP' := hP
  obtain ⟨⟨p0, p1, p2⟩, ws, w1, w2, w3, w4⟩ := hP'
  obtain ⟨q0, hq⟩ := w3 r a e0 hr h0
  refine f hz cx hR hl hP (zk hz cx.2.2.2.2.2.2.2.2.1) w1 w2 hS hq w3 (fun H1 locs1 a1 a2 a3 => ?_)
  exact h z hz p e R s m args below meth c H1 locs1 cells slots ls cx hR (Rp.set hr p2 (old1 hP cx.2.2.2.2.2.2.2.2.2 hS a3) w3 w4 h0 hq rfl a1 w2 a2) a3 hl
def fPut (own : String) (nm : String) (index : Nat) (cs : List Nat) (f : Nat) (T0 : FieldType) : Prop := ∀ ci ∈ cs, ∃ C T N ty ref, clsOK ci C T N ty ∧ f < N ∧ Cond.fieldLink own index ref (T f).2.1 (T f).2.2.1 ∈ lw_all ∧ ((T f).1 = ref ∨ Cond.sameField ref (T f).1 (T f).2.1 (T f).2.2.1 ∈ lw_all) ∧ ((T f).2.2.2 = false ∨ ((T f).2.2.2 = true ∧ nm = "<init>" ∧ (T f).1 = own)) ∧ ty f = T0
theorem fp1 {own nm ref C : String} {index ci f N : Nat} {T : u_T} {ty : Nat → FieldType} {T0 : FieldType} (hc : clsOK ci C T N ty) (hf : f < N) (hl : Cond.fieldLink own index ref (T f).2.1 (T f).2.2.1 ∈ lw_all) (hs : (T f).1 = ref) (hn : (T f).2.2.2 = false) (ht : ty f = T0) : fPut own nm index [ci] f T0 := by
  intro c h
  rw [List.mem_singleton] at h
  subst h
  exact ⟨C, T, N, ty, ref, hc, hf, hl, Or.inl hs, Or.inl hn, ht⟩
theorem fp1s {own nm ref C : String} {index ci f N : Nat} {T : u_T} {ty : Nat → FieldType} {T0 : FieldType} (hc : clsOK ci C T N ty) (hf : f < N) (hl : Cond.fieldLink own index ref (T f).2.1 (T f).2.2.1 ∈ lw_all) (hs : Cond.sameField ref (T f).1 (T f).2.1 (T f).2.2.1 ∈ lw_all) (hn : (T f).2.2.2 = false) (ht : ty f = T0) : fPut own nm index [ci] f T0 := by
  intro c h
  rw [List.mem_singleton] at h
  subst h
  exact ⟨C, T, N, ty, ref, hc, hf, hl, Or.inr hs, Or.inl hn, ht⟩
theorem fp1F {own ref C : String} {index ci f N : Nat} {T : u_T} {ty : Nat → FieldType} {T0 : FieldType} (hc : clsOK ci C T N ty) (hf : f < N) (hl : Cond.fieldLink own index ref (T f).2.1 (T f).2.2.1 ∈ lw_all) (hs : (T f).1 = ref) (hn : (T f).2.2.2 = true) (ho : (T f).1 = own) (ht : ty f = T0) : fPut own "<init>" index [ci] f T0 := by
  intro c h
  rw [List.mem_singleton] at h
  subst h
  exact ⟨C, T, N, ty, ref, hc, hf, hl, Or.inl hs, Or.inr ⟨hn, rfl, ho⟩, ht⟩
theorem fpc {own nm : String} {index ci f : Nat} {cs : List Nat} {T0 : FieldType} (h1 : fPut own nm index [ci] f T0) (h2 : fPut own nm index cs f T0) : fPut own nm index (ci :: cs) f T0 := by
  intro c h
  rcases List.mem_cons.mp h with h | h
  · exact h1 c (by rw [h]; exact List.mem_singleton_self _)
  · exact h2 c h
def fitV (t : FieldType) (v : Value) : Prop := narrow t v = v ∧ fits t v = true
theorem fvI {x : Int} : fitV .int (vI x) := ⟨rfl, rfl⟩
theorem fvB {b : Bool} : fitV .boolean (vB b) := by cases b <;> exact ⟨rfl, rfl⟩
theorem fvO {C : String} {r : Option Nat} : fitV (.object C) (vR r) := by cases r <;> exact ⟨rfl, rfl⟩
theorem fvA {t : FieldType} {r : Option Nat} : fitV (.array t) (vR r) := by cases r <;> exact ⟨rfl, rfl⟩
def pF (G : Wd) (a : Nat) (cs : List Nat) (f : Nat) (v : Value) (K : Wd → Prop) : Prop := ∃ r ci fs, r ≠ 0 ∧ G r a = some (oB ci fs) ∧ ci ∈ cs ∧ f < fs.length ∧ K (wset G r a (oB ci (fs.set f v)))
theorem r_put {a f index : Nat} {cs : List Nat} {v : Value} {T0 : FieldType} {K : Wd → Prop} (hd : decode M.2.1 pc = .ok (.putfield index, 3)) (hf : fPut M.1 M.2.2.2.2.2 index cs f T0) (hv : fitV T0 v) (ho : pF G a cs f v K) (h : ∀ G', K G' → wp M d k n (pc + 3) L st G' Q X) : wp M d k n pc L (v :: vR (some a) :: st) G Q X := by
  obtain ⟨r, ci, fs, hr, hg, hc, hl0, hk⟩ := ho
  obtain ⟨C, T, N, ty, ref, ⟨k1, k2, k3, k4⟩, hN, hw, hs, hfin, ht⟩ := hf ci hc
  subst ht
  refine wp.write hr hg (fun {z p e R s m args below meth c H locs cells slots Q' ls ws q0} hz cx hR hl hP hK hPw hD hS hq hw3 kk => ?_) (h _ hk)
  have hsame : ∀ x, s.fieldFound? (T f).1 (T f).2.1 (T f).2.2.1 = some x → s.fieldFound? ref (T f).2.1 (T f).2.2.1 = some x := by
    rcases hs with hs | hs
    · intro x hx; rw [← hs]; exact hx
    · exact fun x hx => u_same (zw (args := args) hz cx.2.2.2.2.2.2.2.2.1 hs) x hx
  rcases hfin with hfin | ⟨hfin, hnm, hown⟩
  · exact va_put (Ts := lw_all) cx.1 cx.2.1 (fun w h => zw hz cx.2.2.2.2.2.2.2.2.1 h) k2 ty k4 k3 cx.2.2.2.2.2.1 hK hPw hD hS q0 hq k1 f hN (zw hz cx.2.2.2.2.2.2.2.2.1 hw) hsame hfin (k4 f hN) hv.1 hv.2 hl0 hd kk
  · exact va_putF (Ts := lw_all) cx.1 cx.2.1 (fun w h => zw hz cx.2.2.2.2.2.2.2.2.1 h) k2 ty k4 k3 cx.2.2.2.2.2.1 hK hPw hD hS q0 hq k1 f hN (zw hz cx.2.2.2.2.2.2.2.2.1 hw) hsame hfin (cx.2.2.2.2.2.2.2.1.trans hnm) hown (k4 f hN) hv.1 hv.2 hl0 hd kk
/-! arrays -/
def inb (i : Int) (n : Nat) : Prop := 0 ≤ i ∧ i < (n : Int) ∧ i < 2147483648
theorem clampI {i : Int} (h0 : 0 ≤ i) (h1 : i < 2147483648) : (Int32.ofInt i).toNatClampNeg = i.toNat := by
  rw [oi_nI h0, nI_clamp (by omega)]
theorem inb_vp {i : Int} {n : Nat} (h : inb i n) : vp_in (Int32.ofInt i) n := by
  obtain ⟨h0, h1, h2⟩ := h
  rw [vp_in_iff, ti ⟨by omega, h2⟩]
  exact ⟨h0, h1⟩
def iup (f : Int → Int) (i x : Int) : Int → Int := fun j => if j = i then x else f j
def rup (f : Int → Option Nat) (i : Int) (x : Option Nat) : Int → Option Nat := fun j => if j = i then x else f j
theorem upd_iup {f : Int → Int} {i x : Int} (h0 : 0 ≤ i) (h1 : i < 2147483648) : upd (fun j : Nat => Int32.ofInt (f j)) (Int32.ofInt i).toNatClampNeg (Int32.ofInt x) = fun j : Nat => Int32.ofInt (iup f i x j) := by
  rw [clampI h0 h1]
  funext j
  unfold upd iup
  by_cases hj : j = i.toNat
  · rw [if_pos hj, if_pos (by omega)]
  · rw [if_neg hj, if_neg (by omega)]
theorem updL_iup {f : Int → Int} {i x : Int} (h0 : 0 ≤ i) (h1 : i < 2147483648) : vp_updL (fun j : Nat => Int64.ofInt (f j)) (Int32.ofInt i).toNatClampNeg (Int64.ofInt x) = fun j : Nat => Int64.ofInt (iup f i x j) := by
  rw [clampI h0 h1]
  funext j
  unfold vp_updL iup
  by_cases hj : j = i.toNat
  · rw [if_pos hj, if_pos (by omega)]
  · rw [if_neg hj, if_neg (by omega)]
theorem up_rup {f : Int → Option Nat} {i : Int} {x : Option Nat} (h0 : 0 ≤ i) (h1 : i < 2147483648) : va_up (fun j : Nat => f j) (Int32.ofInt i).toNatClampNeg x = fun j : Nat => rup f i x j := by
  rw [clampI h0 h1]
  funext j
  unfold va_up rup
  by_cases hj : j = i.toNat
  · rw [if_pos hj, if_pos (by omega)]
  · rw [if_neg hj, if_neg (by omega)]
def ldI (G : Wd) (a : Nat) (kd : Nat) (i : Int) (K : Int → Prop) : Prop := ∃ r n f, G r a = some (aI kd n f) ∧ inb i n ∧ K (f i)
def ldJ (G : Wd) (a : Nat) (i : Int) (K : Int → Prop) : Prop := ∃ r n f, G r a = some (aJ n f) ∧ inb i n ∧ K (f i)
def ldR (G : Wd) (a : Nat) (kd : Nat) (i : Int) (K : Option Nat → Prop) : Prop := ∃ r n f, G r a = some (aR kd n f) ∧ inb i n ∧ K (f i)

theorem r_iald {a : Nat} {i : Int} {K : Int → Prop} (hd : decode M.2.1 pc = .ok (.iaload, 1)) (ho : ldI G a 0 i K) (h : ∀ x, K x → wp M d k n (pc + 1) L (vI x :: st) G Q X) : wp M d k n pc L (vI i :: vR (some a) :: st) G Q X := by
  obtain ⟨r, N, f, hg, hi, hk⟩ := ho
  intro z hz p e R s m args below meth c H locs cells slots ls cx hR hP hS hl
  have q := h _ hk z hz p e R s m args below meth c H locs cells slots ls cx hR hP hS hl
  refine va_iald cx.1 cx.2.1 (zk hz cx.2.2.2.2.2.2.2.2.1) (Rp.one hz hP (tr_i (by decide)) hg) 0 0 rfl rfl (inb_vp hi) hd ?_
  rw [clampI hi.1 hi.2.2, Int.toNat_of_nonneg hi.1]
  exact q
theorem r_bald {a : Nat} {i : Int} {K : Int → Prop} (hd : decode M.2.1 pc = .ok (.baload, 1)) (ho : ldI G a 1 i K) (h : ∀ x, K x → wp M d k n (pc + 1) L (vI x :: st) G Q X) : wp M d k n pc L (vI i :: vR (some a) :: st) G Q X := by
  obtain ⟨r, N, f, hg, hi, hk⟩ := ho
  intro z hz p e R s m args below meth c H locs cells slots ls cx hR hP hS hl
  have q := h _ hk z hz p e R s m args below meth c H locs cells slots ls cx hR hP hS hl
  refine va_bald cx.1 cx.2.1 (zk hz cx.2.2.2.2.2.2.2.2.1) (Rp.one hz hP (tr_i (by decide)) hg) 0 1 rfl rfl (inb_vp hi) hd ?_
  rw [clampI hi.1 hi.2.2, Int.toNat_of_nonneg hi.1]
  exact q
theorem r_zald {a : Nat} {i : Int} {K : Int → Prop} (hd : decode M.2.1 pc = .ok (.baload, 1)) (ho : ldI G a 2 i K) (h : ∀ x, K x → wp M d k n (pc + 1) L (vI x :: st) G Q X) : wp M d k n pc L (vI i :: vR (some a) :: st) G Q X := by
  obtain ⟨r, N, f, hg, hi, hk⟩ := ho
  intro z hz p e R s m args below meth c H locs cells slots ls cx hR hP hS hl
  have q := h _ hk z hz p e R s m args below meth c H locs cells slots ls cx hR hP hS hl
  refine va_zald cx.1 cx.2.1 (zk hz cx.2.2.2.2.2.2.2.2.1) (Rp.one hz hP (tr_i (by decide)) hg) 0 2 rfl rfl (inb_vp hi) hd ?_
  rw [clampI hi.1 hi.2.2, Int.toNat_of_nonneg hi.1]
  exact q
theorem r_cald {a : Nat} {i : Int} {K : Int → Prop} (hd : decode M.2.1 pc = .ok (.caload, 1)) (ho : ldI G a 3 i K) (h : ∀ x, K x → wp M d k n (pc + 1) L (vI x :: st) G Q X) : wp M d k n pc L (vI i :: vR (some a) :: st) G Q X := by
  obtain ⟨r, N, f, hg, hi, hk⟩ := ho
  intro z hz p e R s m args below meth c H locs cells slots ls cx hR hP hS hl
  have q := h _ hk z hz p e R s m args below meth c H locs cells slots ls cx hR hP hS hl
  refine va_cald cx.1 cx.2.1 (zk hz cx.2.2.2.2.2.2.2.2.1) (Rp.one hz hP (tr_i (by decide)) hg) 0 3 rfl rfl (inb_vp hi) hd ?_
  rw [clampI hi.1 hi.2.2, Int.toNat_of_nonneg hi.1]
  exact q
theorem r_sald {a : Nat} {i : Int} {K : Int → Prop} (hd : decode M.2.1 pc = .ok (.saload, 1)) (ho : ldI G a 4 i K) (h : ∀ x, K x → wp M d k n (pc + 1) L (vI x :: st) G Q X) : wp M d k n pc L (vI i :: vR (some a) :: st) G Q X := by
  obtain ⟨r, N, f, hg, hi, hk⟩ := ho
  intro z hz p e R s m args below meth c H locs cells slots ls cx hR hP hS hl
  have q := h _ hk z hz p e R s m args below meth c H locs cells slots ls cx hR hP hS hl
  refine va_sald cx.1 cx.2.1 (zk hz cx.2.2.2.2.2.2.2.2.1) (Rp.one hz hP (tr_i (by decide)) hg) 0 4 rfl rfl (inb_vp hi) hd ?_
  rw [clampI hi.1 hi.2.2, Int.toNat_of_nonneg hi.1]
  exact q
theorem r_lald {a : Nat} {i : Int} {K : Int → Prop} (hd : decode M.2.1 pc = .ok (.laload, 1)) (ho : ldJ G a i K) (h : ∀ x, K x → wp M d k n (pc + 1) L (vJ x :: st) G Q X) : wp M d k n pc L (vI i :: vR (some a) :: st) G Q X := by
  obtain ⟨r, N, f, hg, hi, hk⟩ := ho
  intro z hz p e R s m args below meth c H locs cells slots ls cx hR hP hS hl
  have q := h _ hk z hz p e R s m args below meth c H locs cells slots ls cx hR hP hS hl
  refine va_lald cx.1 cx.2.1 (zk hz cx.2.2.2.2.2.2.2.2.1) (Rp.one hz hP tr_j hg) 0 5 rfl rfl (inb_vp hi) hd ?_
  rw [clampI hi.1 hi.2.2, Int.toNat_of_nonneg hi.1]
  exact q
theorem tyK_ref (K : Nat → ClassId) {kd : Nat} (h1 : 6 ≤ kd) (h2 : kd ≤ 9) : ∃ C, (tyK K)[kd]? = some (K kd, .object C) := by
  have : kd = 6 ∨ kd = 7 ∨ kd = 8 ∨ kd = 9 := by omega
  rcases this with rfl | rfl | rfl | rfl <;> exact ⟨_, rfl⟩
theorem r_aald {a : Nat} {kd : Nat} {i : Int} {K : Option Nat → Prop} (hd : decode M.2.1 pc = .ok (.aaload, 1)) (h1 : 6 ≤ kd) (h2 : kd ≤ 9) (ho : ldR G a kd i K) (h : ∀ x, K x → wp M d k n (pc + 1) L (vR x :: st) G Q X) : wp M d k n pc L (vI i :: vR (some a) :: st) G Q X := by
  obtain ⟨r, N, f, hg, hi, hk⟩ := ho
  intro z hz p e R s m args below meth c H locs cells slots ls cx hR hP hS hl
  have q := h _ hk z hz p e R s m args below meth c H locs cells slots ls cx hR hP hS hl
  obtain ⟨C, hC⟩ := tyK_ref (zK z) h1 h2
  refine va_aldq cx.1 cx.2.1 (zk hz cx.2.2.2.2.2.2.2.2.1) (Rp.one hz hP tr_r hg) 0 kd rfl hC (inb_vp hi) hd ?_
  rw [clampI hi.1 hi.2.2, Int.toNat_of_nonneg hi.1]
  exact q
def lnI (G : Wd) (a : Nat) (kd : Nat) (K : Int → Prop) : Prop := ∃ r n f, G r a = some (aI kd n f) ∧ K (n : Int)
def lnJ (G : Wd) (a : Nat) (K : Int → Prop) : Prop := ∃ r n f, G r a = some (aJ n f) ∧ K (n : Int)
def lnR (G : Wd) (a : Nat) (kd : Nat) (K : Int → Prop) : Prop := ∃ r n f, G r a = some (aR kd n f) ∧ K (n : Int)
theorem ofNat_vI (n : Nat) : Value.int (Int32.ofNat n) = vI (n : Int) := by unfold vI; rw [Int32.ofInt_eq_ofNat]
theorem tyK_at (K : Nat → ClassId) {kd : Nat} (h2 : kd ≤ 9) : ∃ C, (tyK K)[kd]? = some (K kd, C) := by
  have : kd = 0 ∨ kd = 1 ∨ kd = 2 ∨ kd = 3 ∨ kd = 4 ∨ kd = 5 ∨ kd = 6 ∨ kd = 7 ∨ kd = 8 ∨ kd = 9 := by omega
  rcases this with rfl | rfl | rfl | rfl | rfl | rfl | rfl | rfl | rfl | rfl <;> exact ⟨_, rfl⟩
theorem r_lenI {a : Nat} {kd : Nat} (h2 : kd ≤ 9) {K : Int → Prop} (hd : decode M.2.1 pc = .ok (.arraylength, 1)) (ho : lnI G a kd K) (h : ∀ x, K x → wp M d k n (pc + 1) L (vI x :: st) G Q X) : wp M d k n pc L (vR (some a) :: st) G Q X := by
  obtain ⟨r, N, f, hg, hk⟩ := ho
  intro z hz p e R s m args below meth c H locs cells slots ls cx hR hP hS hl
  have q := h _ hk z hz p e R s m args below meth c H locs cells slots ls cx hR hP hS hl
  obtain ⟨C, hC⟩ := tyK_at (zK z) (kd := kd) h2
  rw [← ofNat_vI] at q
  exact va_alen cx.1 cx.2.1 (zk hz cx.2.2.2.2.2.2.2.2.1) (Rp.one hz hP (tr_i (by omega)) hg) 0 kd rfl hC rfl hd q
theorem r_lenJ {a : Nat}  {K : Int → Prop} (hd : decode M.2.1 pc = .ok (.arraylength, 1)) (ho : lnJ G a K) (h : ∀ x, K x → wp M d k n (pc + 1) L (vI x :: st) G Q X) : wp M d k n pc L (vR (some a) :: st) G Q X := by
  obtain ⟨r, N, f, hg, hk⟩ := ho
  intro z hz p e R s m args below meth c H locs cells slots ls cx hR hP hS hl
  have q := h _ hk z hz p e R s m args below meth c H locs cells slots ls cx hR hP hS hl
  obtain ⟨C, hC⟩ := tyK_at (zK z) (kd := 5) (by decide)
  rw [← ofNat_vI] at q
  exact va_alen cx.1 cx.2.1 (zk hz cx.2.2.2.2.2.2.2.2.1) (Rp.one hz hP tr_j hg) 0 5 rfl hC rfl hd q
theorem r_lenR {a : Nat} {kd : Nat} (h2 : kd ≤ 9) {K : Int → Prop} (hd : decode M.2.1 pc = .ok (.arraylength, 1)) (ho : lnR G a kd K) (h : ∀ x, K x → wp M d k n (pc + 1) L (vI x :: st) G Q X) : wp M d k n pc L (vR (some a) :: st) G Q X := by
  obtain ⟨r, N, f, hg, hk⟩ := ho
  intro z hz p e R s m args below meth c H locs cells slots ls cx hR hP hS hl
  have q := h _ hk z hz p e R s m args below meth c H locs cells slots ls cx hR hP hS hl
  obtain ⟨C, hC⟩ := tyK_at (zK z) (kd := kd) h2
  rw [← ofNat_vI] at q
  exact va_alen cx.1 cx.2.1 (zk hz cx.2.2.2.2.2.2.2.2.1) (Rp.one hz hP tr_r hg) 0 kd rfl hC rfl hd q
def stI (G : Wd) (a : Nat) (kd : Nat) (i x : Int) (K : Wd → Prop) : Prop := ∃ r n f, r ≠ 0 ∧ G r a = some (aI kd n f) ∧ inb i n ∧ K (wset G r a (aI kd n (iup f i x)))
def stJ (G : Wd) (a : Nat) (i x : Int) (K : Wd → Prop) : Prop := ∃ r n f, r ≠ 0 ∧ G r a = some (aJ n f) ∧ inb i n ∧ K (wset G r a (aJ n (iup f i x)))
theorem nar_byte {x : Int} (h : -128 ≤ x ∧ x < 128) : vp_nar .byte (Int32.ofInt x) = Int32.ofInt x := by
  rw [vp_nar_byte, ← Int32.toInt_inj, Int8.toInt_toInt32, Int32.toInt8_ofInt, Int8.toInt_ofInt, ti ⟨by omega, by omega⟩]
  exact Int.bmod_eq_of_le (n := x) (m := 256) (by omega) (by omega)
theorem nar_short {x : Int} (h : -32768 ≤ x ∧ x < 32768) : vp_nar .short (Int32.ofInt x) = Int32.ofInt x := by
  rw [vp_nar_short, ← Int32.toInt_inj, Int16.toInt_toInt32, Int32.toInt16_ofInt, Int16.toInt_ofInt, ti ⟨by omega, by omega⟩]
  exact Int.bmod_eq_of_le (n := x) (m := 65536) (by omega) (by omega)
theorem nar_char {x : Int} (h : 0 ≤ x ∧ x < 65536) : vp_nar .char (Int32.ofInt x) = Int32.ofInt x := by
  unfold vp_nar
  rw [oi_nI h.1, (pk_charN (by have := h.2; omega)).1]
theorem nar_bool {x : Int} (h : x = 0 ∨ x = 1) : vp_nar .boolean (Int32.ofInt x) = Int32.ofInt x := by
  rcases h with rfl | rfl <;> rfl
theorem r_iast {a : Nat} {i x : Int} {K : Wd → Prop} (hd : decode M.2.1 pc = .ok (.iastore, 1)) (ho : stI G a 0 i x K) (h : ∀ G', K G' → wp M d k n (pc + 1) L st G' Q X) : wp M d k n pc L (vI x :: vI i :: vR (some a) :: st) G Q X := by
  obtain ⟨r, N, f, hr, hg, hi, hk⟩ := ho
  refine wp.write hr hg (fun {z p e R s m args below meth c H locs cells slots Q' ls ws q0} hz cx hR hl hP hK hPw hD hS hq hw3 kk => ?_) (h _ hk)
  refine va_iast cx.1 cx.2.1 hK hPw hD hS q0 0 hq rfl (inb_vp hi) hd (fun H1 l1 a1 a2 a3 => ?_)
  rw [upd_iup hi.1 hi.2.2] at a1 a2
  exact kk H1 l1 a1 a2 a3
theorem r_bast {a : Nat} {i x : Int} {K : Wd → Prop} (hd : decode M.2.1 pc = .ok (.bastore, 1)) (ho : (-128 ≤ x ∧ x < 128) ∧ stI G a 1 i x K) (h : ∀ G', K G' → wp M d k n (pc + 1) L st G' Q X) : wp M d k n pc L (vI x :: vI i :: vR (some a) :: st) G Q X := by
  obtain ⟨hx, r, N, f, hr, hg, hi, hk⟩ := ho
  refine wp.write hr hg (fun {z p e R s m args below meth c H locs cells slots Q' ls ws q0} hz cx hR hl hP hK hPw hD hS hq hw3 kk => ?_) (h _ hk)
  refine va_bast cx.1 cx.2.1 hK hPw hD hS q0 1 hq rfl (inb_vp hi) hd (fun H1 l1 a1 a2 a3 => ?_)
  rw [nar_byte hx, upd_iup hi.1 hi.2.2] at a1 a2
  exact kk H1 l1 a1 a2 a3
theorem r_zast {a : Nat} {i x : Int} {K : Wd → Prop} (hd : decode M.2.1 pc = .ok (.bastore, 1)) (ho : (x = 0 ∨ x = 1) ∧ stI G a 2 i x K) (h : ∀ G', K G' → wp M d k n (pc + 1) L st G' Q X) : wp M d k n pc L (vI x :: vI i :: vR (some a) :: st) G Q X := by
  obtain ⟨hx, r, N, f, hr, hg, hi, hk⟩ := ho
  refine wp.write hr hg (fun {z p e R s m args below meth c H locs cells slots Q' ls ws q0} hz cx hR hl hP hK hPw hD hS hq hw3 kk => ?_) (h _ hk)
  refine va_zast cx.1 cx.2.1 hK hPw hD hS q0 2 hq rfl (inb_vp hi) hd (fun H1 l1 a1 a2 a3 => ?_)
  rw [nar_bool hx, upd_iup hi.1 hi.2.2] at a1 a2
  exact kk H1 l1 a1 a2 a3
theorem r_cast {a : Nat} {i x : Int} {K : Wd → Prop} (hd : decode M.2.1 pc = .ok (.castore, 1)) (ho : (0 ≤ x ∧ x < 65536) ∧ stI G a 3 i x K) (h : ∀ G', K G' → wp M d k n (pc + 1) L st G' Q X) : wp M d k n pc L (vI x :: vI i :: vR (some a) :: st) G Q X := by
  obtain ⟨hx, r, N, f, hr, hg, hi, hk⟩ := ho
  refine wp.write hr hg (fun {z p e R s m args below meth c H locs cells slots Q' ls ws q0} hz cx hR hl hP hK hPw hD hS hq hw3 kk => ?_) (h _ hk)
  refine va_cast cx.1 cx.2.1 hK hPw hD hS q0 3 hq rfl (inb_vp hi) hd (fun H1 l1 a1 a2 a3 => ?_)
  rw [nar_char hx, upd_iup hi.1 hi.2.2] at a1 a2
  exact kk H1 l1 a1 a2 a3
theorem r_sast {a : Nat} {i x : Int} {K : Wd → Prop} (hd : decode M.2.1 pc = .ok (.sastore, 1)) (ho : (-32768 ≤ x ∧ x < 32768) ∧ stI G a 4 i x K) (h : ∀ G', K G' → wp M d k n (pc + 1) L st G' Q X) : wp M d k n pc L (vI x :: vI i :: vR (some a) :: st) G Q X := by
  obtain ⟨hx, r, N, f, hr, hg, hi, hk⟩ := ho
  refine wp.write hr hg (fun {z p e R s m args below meth c H locs cells slots Q' ls ws q0} hz cx hR hl hP hK hPw hD hS hq hw3 kk => ?_) (h _ hk)
  refine va_sast cx.1 cx.2.1 hK hPw hD hS q0 4 hq rfl (inb_vp hi) hd (fun H1 l1 a1 a2 a3 => ?_)
  rw [nar_short hx, upd_iup hi.1 hi.2.2] at a1 a2
  exact kk H1 l1 a1 a2 a3
theorem r_last {a : Nat} {i x : Int} {K : Wd → Prop} (hd : decode M.2.1 pc = .ok (.lastore, 1)) (ho : stJ G a i x K) (h : ∀ G', K G' → wp M d k n (pc + 1) L st G' Q X) : wp M d k n pc L (vJ x :: vI i :: vR (some a) :: st) G Q X := by
  obtain ⟨r, N, f, hr, hg, hi, hk⟩ := ho
  refine wp.write hr hg (fun {z p e R s m args below meth c H locs cells slots Q' ls ws q0} hz cx hR hl hP hK hPw hD hS hq hw3 kk => ?_) (h _ hk)
  refine va_last cx.1 cx.2.1 hK hPw hD hS q0 5 hq rfl (inb_vp hi) hd (fun H1 l1 a1 a2 a3 => ?_)
  rw [updL_iup hi.1 hi.2.2] at a1 a2
  exact kk H1 l1 a1 a2 a3
/-- a reference is stored: null, or an object of a class that the array may hold -/
def stR (G : Wd) (a : Nat) (kd : Nat) (i : Int) (x : Option Nat) (cs : List Nat) (K : Wd → Prop) : Prop := ∃ r n f, r ≠ 0 ∧ G r a = some (aR kd n f) ∧ inb i n ∧ (∀ y, x = some y → ∃ r' ci fs, r' ≠ 0 ∧ G r' y = some (oB ci fs) ∧ ci ∈ cs) ∧ K (wset G r a (aR kd n (rup f i x)))
def kdOK (kd : Nat) (cs : List Nat) : Prop := ∃ E : String, (∀ K : Nat → ClassId, (tyK K)[kd]? = some (K kd, .object E)) ∧ ∀ ci ∈ cs, ∃ q : vw_C, qCl[ci]? = some q ∧ (q.1 = E ∨ Cond.castable q.1 E ∈ lw_tbl)
theorem zc {z : Zt} {s : State} (hz : Zok z) (hW : (zs z).WarmedH s.vm) {A B : String} (h : Cond.castable A B ∈ lw_tbl) : va_Nw (.castable A B) s := va_Nw.warmC hW (va_Nw.of rfl (hz.2.1 _ h))
theorem r_aast {a : Nat} {kd : Nat} {i : Int} {x : Option Nat} {cs : List Nat} {K : Wd → Prop} (hd : decode M.2.1 pc = .ok (.aastore, 1)) (hk : kdOK kd cs) (ho : stR G a kd i x cs K) (h : ∀ G', K G' → wp M d k n (pc + 1) L st G' Q X) : wp M d k n pc L (vR x :: vI i :: vR (some a) :: st) G Q X := by
  obtain ⟨r, N, f, hr, hg, hi, hx, hkk⟩ := ho
  obtain ⟨E, hE, hcs⟩ := hk
  refine wp.write hr hg (fun {z p e R s m args below meth c H locs cells slots Q' ls ws q0} hz cx hR hl hP hK hPw hD hS hq hw3 kk => ?_) (h _ hkk)
  cases x with
  | none =>
    refine va_astqN cx.1 cx.2.1 hK hPw hD hS q0 kd hq (hE _) (inb_vp hi) hd (fun H1 l1 a1 a2 a3 => ?_)
    rw [up_rup hi.1 hi.2.2] at a1 a2
    exact kk H1 l1 a1 a2 a3
  | some y =>
    obtain ⟨r', ci, fs, hr', hy, hc⟩ := hx y rfl
    obtain ⟨q, hq1, hq2⟩ := hcs ci hc
    obtain ⟨qk, hqk⟩ := hw3 r' y _ hr' hy
    rcases hq2 with hq2 | hq2
    · refine va_astq cx.1 cx.2.1 hK hPw hD hS q0 kd qk ci (r := q) hq (by rw [hq2]; exact hE _) hqk hq1 (inb_vp hi) hd (fun H1 l1 a1 a2 a3 => ?_)
      rw [up_rup hi.1 hi.2.2] at a1 a2
      exact kk H1 l1 a1 a2 a3
    · refine va_astqO cx.1 cx.2.1 hK hPw hD hS q0 kd qk ci hq (hE _) (zc hz cx.2.2.2.2.2.2.2.2.1 hq2) hqk hq1 (inb_vp hi) hd (fun H1 l1 a1 a2 a3 => ?_)
      rw [up_rup hi.1 hi.2.2] at a1 a2
      exact kk H1 l1 a1 a2 a3
end
