/-! THE JUDGEMENT wp AND ITS PLAIN ROWS (printed by rows1.py) -/
set_option maxRecDepth 100000
abbrev Mt : Type := String × ByteArray × Nat × Option FieldType × List (Nat × Nat × Nat × Nat) × String
abbrev Qt : Type := Option Value → Wd → Prop
abbrev Xt : Type := String → Nat → Wd → Prop
def qQ (z : Zt) (Q : Qt) : Array Value → State → Outcome → State → Prop := fun _ st o t => ∃ v G', o = .returned v ∧ Rp z G' t.heap ∧ va_F (zA z) st t ∧ Q v G'
def qX (z : Zt) (X : Xt) : String → Addr → State → State → Prop := fun E q st t => ∃ G', Rp z G' t.heap ∧ va_F (zA z) st t ∧ X E q G'
def Cx (M : Mt) (z : Zt) (p : Program) (s : State) (m : MethodId) (meth : Method) (c : Code) : Prop :=
  p.tables.exec = Jvm.exec ∧ c.code = M.2.1 ∧ meth.sig.returnType = M.2.2.2.1 ∧ meth.locks = false ∧ c.maxLocals = M.2.2.1 ∧ s.vm.findClass M.1 = some m.cls ∧
  c.exceptionTable.toList = tableOf M.2.2.2.2.1 ∧ meth.name = M.2.2.2.2.2 ∧ (zs z).WarmedH s.vm ∧ (zs z).heap.size ≤ s.heap.size
def Rm (R : Room) (d k n cells slots : Nat) : Prop := d ≤ R.frames ∧ 64 * d ≤ R.locals ∧ cells + k ≤ R.cells ∧ slots + n ≤ R.slots
/-- from the frame at pc with locals L, stack st and world G the method ends in Q, or throws in X; it has d frames, k cells, n slots -/
def wp (M : Mt) (d k n : Nat) (pc : Nat) (L : List (Option Value)) (st : List Value) (G : Wd) (Q : Qt) (X : Xt) : Prop :=
  ∀ z, Zok z → ∀ (p : Program) (e : Env) (R : Room) (s : State) (m : MethodId) (args : Array Value) (below : List Frame) (meth : Method) (c : Code) (H : Heap) (locs : List Loc) (cells slots : Nat) (ls : Array Slot),
    Cx M z p s m meth c → Rm R d k n cells slots → Rp z G H → va_S (zA z) s.heap H locs → lh ls M.2.2.1 L →
    W p z.1 e R s m args below meth c H locs cells slots (vx_MQ below (qQ z Q) (qX z X) args s R.cells R.slots (zA z)) (F0 m pc ls st)
section
variable {M : Mt} {d k n pc : Nat} {L : List (Option Value)} {st : List Value} {G : Wd} {Q : Qt} {X : Xt}
theorem wp.step {pc' : Nat} {st' : List Value}
    (f : ∀ {p : Program} {l : Launch} {e : Env} {R : Room} {s : State} {m : MethodId} {args : Array Value} {below : List Frame} {meth : Method} {c : Code} {H : Heap} {locs : List Loc} {cells slots : Nat} {Q' : State → Prop} {ls : Array Slot},
      p.tables.exec = Jvm.exec → c.code = M.2.1 → lh ls M.2.2.1 L → W p l e R s m args below meth c H locs cells slots Q' (F0 m pc' ls st') → W p l e R s m args below meth c H locs cells slots Q' (F0 m pc ls st))
    (h : wp M d k n pc' L st' G Q X) : wp M d k n pc L st G Q X :=
  fun z hz p e R s m args below meth c H locs cells slots ls cx hR hP hS hl => f cx.1 cx.2.1 hl (h z hz p e R s m args below meth c H locs cells slots ls cx hR hP hS hl)
theorem wp.branch {A B : Prop} {pa pb : Nat} {sa sb : List Value}
    (f : ∀ {p : Program} {l : Launch} {e : Env} {R : Room} {s : State} {m : MethodId} {args : Array Value} {below : List Frame} {meth : Method} {c : Code} {H : Heap} {locs : List Loc} {cells slots : Nat} {Q' : State → Prop} {ls : Array Slot},
      p.tables.exec = Jvm.exec → c.code = M.2.1 → lh ls M.2.2.1 L → (A → W p l e R s m args below meth c H locs cells slots Q' (F0 m pa ls sa)) → (B → W p l e R s m args below meth c H locs cells slots Q' (F0 m pb ls sb)) → W p l e R s m args below meth c H locs cells slots Q' (F0 m pc ls st))
    (ha : A → wp M d k n pa L sa G Q X) (hb : B → wp M d k n pb L sb G Q X) : wp M d k n pc L st G Q X :=
  fun z hz p e R s m args below meth c H locs cells slots ls cx hR hP hS hl => f cx.1 cx.2.1 hl (fun q => ha q z hz p e R s m args below meth c H locs cells slots ls cx hR hP hS hl) (fun q => hb q z hz p e R s m args below meth c H locs cells slots ls cx hR hP hS hl)
theorem wp.store {pc' : Nat} {st' : List Value} {L' : List (Option Value)}
    (f : ∀ {p : Program} {l : Launch} {e : Env} {R : Room} {s : State} {m : MethodId} {args : Array Value} {below : List Frame} {meth : Method} {c : Code} {H : Heap} {locs : List Loc} {cells slots : Nat} {Q' : State → Prop} {ls : Array Slot},
      p.tables.exec = Jvm.exec → c.code = M.2.1 → lh ls M.2.2.1 L → (∀ ls' : Array Slot, lh ls' M.2.2.1 L' → W p l e R s m args below meth c H locs cells slots Q' (F0 m pc' ls' st')) → W p l e R s m args below meth c H locs cells slots Q' (F0 m pc ls st))
    (h : wp M d k n pc' L' st' G Q X) : wp M d k n pc L st G Q X :=
  fun z hz p e R s m args below meth c H locs cells slots ls cx hR hP hS hl => f cx.1 cx.2.1 hl (fun ls' hl' => h z hz p e R s m args below meth c H locs cells slots ls' cx hR hP hS hl')
/-- fewer locals -/
theorem wp.locals {L' : List (Option Value)} (hs : ∀ (k : Nat) (v : Value), L'[k]? = some (some v) → L[k]? = some (some v)) (h : wp M d k n pc L' st G Q X) : wp M d k n pc L st G Q X :=
  fun z hz p e R s m args below meth c H locs cells slots ls cx hR hP hS hl => h z hz p e R s m args below meth c H locs cells slots ls cx hR hP hS (hl.sub L' hs)
theorem wp.mono {d' k' n' : Nat} (hd : d' ≤ d) (hk : k' ≤ k) (hn : n' ≤ n) (h : wp M d' k' n' pc L st G Q X) : wp M d k n pc L st G Q X :=
  fun z hz p e R s m args below meth c H locs cells slots ls cx hR hP hS hl => h z hz p e R s m args below meth c H locs cells slots ls cx ⟨by have := hR.1; omega, by have := hR.2.1; omega, by have := hR.2.2.1; omega, by have := hR.2.2.2; omega⟩ hP hS hl
/-! numbers -/
def vB (b : Bool) : Value := .int (if b then 1 else 0)
def isI (v : Value) : Prop := ∃ w : Int32, v = .int w
def isJ (v : Value) : Prop := ∃ w : Int64, v = .long w
def isR (v : Value) : Prop := ∃ r : Option Nat, v = va_rf r
theorem iI {x : Int} : isI (vI x) := ⟨_, rfl⟩
theorem iB {b : Bool} : isI (vB b) := ⟨_, rfl⟩
theorem iJ {x : Int} : isJ (vJ x) := ⟨_, rfl⟩
theorem iR {r : Option Nat} : isR (vR r) := ⟨_, rfl⟩
theorem cB {b : Bool} : cat1 (some (vB b)) := fun v h => by cases h; rfl
def c1 (v : Value) : Prop := v.category = 1
theorem c1I {x : Int} : c1 (vI x) := rfl
theorem c1B {b : Bool} : c1 (vB b) := rfl
theorem c1R {r : Option Nat} : c1 (vR r) := vR_cat r
def R32 (x : Int) : Prop := -2147483648 ≤ x ∧ x < 2147483648
def R64 (x : Int) : Prop := -9223372036854775808 ≤ x ∧ x < 9223372036854775808
theorem ti {x : Int} (h : R32 x) : (Int32.ofInt x).toInt = x := Int32.toInt_ofInt_of_le (by have := h.1; exact this) (by have := h.2; exact this)
theorem tj {x : Int} (h : R64 x) : (Int64.ofInt x).toInt = x := Int64.toInt_ofInt_of_le (by have := h.1; exact this) (by have := h.2; exact this)
theorem oi_lt {x y : Int} (hx : R32 x) (hy : R32 y) : Int32.ofInt x < Int32.ofInt y ↔ x < y := by rw [Int32.lt_iff_toInt_lt, ti hx, ti hy]
theorem oi_le {x y : Int} (hx : R32 x) (hy : R32 y) : Int32.ofInt x ≤ Int32.ofInt y ↔ x ≤ y := by rw [Int32.le_iff_toInt_le, ti hx, ti hy]
theorem oi_eq {x y : Int} (hx : R32 x) (hy : R32 y) : Int32.ofInt x = Int32.ofInt y ↔ x = y := by rw [← Int32.toInt_inj, ti hx, ti hy]
theorem oi_0 : (0 : Int32) = Int32.ofInt 0 := rfl
theorem r0 : R32 0 := ⟨by decide, by decide⟩
/-- a branch by ints -/
def br (x y : Int) (c A B : Prop) : Prop := (R32 x ∧ R32 y) ∧ (c → A) ∧ (¬ c → B)
def br0 (x : Int) (c A B : Prop) : Prop := R32 x ∧ (c → A) ∧ (¬ c → B)
def brB (b : Bool) (A B : Prop) : Prop := (b = true → A) ∧ (b = false → B)
def sg (x y : Int) : Int := if x < y then -1 else if x = y then 0 else 1
def iand (x y : Int) : Int := (Int32.ofInt x &&& Int32.ofInt y).toInt
def ior (x y : Int) : Int := (Int32.ofInt x ||| Int32.ofInt y).toInt
def ishl (x y : Int) : Int := (Int32.ofInt x <<< (Int32.ofInt y &&& 31)).toInt
def ishr (x y : Int) : Int := (Int32.ofInt x >>> (Int32.ofInt y &&& 31)).toInt
def iushr (x y : Int) : Int := ((Int32.ofInt x).toUInt32 >>> ((Int32.ofInt y).toUInt32 &&& Int32.toUInt32 31)).toInt32.toInt
def jand (x y : Int) : Int := (Int64.ofInt x &&& Int64.ofInt y).toInt
def jor (x y : Int) : Int := (Int64.ofInt x ||| Int64.ofInt y).toInt
def jxor (x y : Int) : Int := (Int64.ofInt x ^^^ Int64.ofInt y).toInt
def jshl (x y : Int) : Int := (Int64.ofInt x <<< ((Int32.ofInt y).toInt64 &&& 63)).toInt
def jushr (x y : Int) : Int := ((Int64.ofInt x).toUInt64 >>> ((Int32.ofInt y).toInt64.toUInt64 &&& Int64.toUInt64 63)).toInt64.toInt

theorem r_iconst {x : Int} (hd : decode M.2.1 pc = .ok (.iconst x, 1)) (h : wp M d k n (pc + 1) L (vI x :: st) G Q X) : wp M d k n pc L (st) G Q X :=
  wp.step (fun hx hb hl q => lv_iconst hx hb hd rfl q) h
theorem r_bipush {x : Int} (hd : decode M.2.1 pc = .ok (.bipush x, 2)) (hv : (Int8.ofInt x).toInt32 = Int32.ofInt x) (h : wp M d k n (pc + 2) L (vI x :: st) G Q X) : wp M d k n pc L (st) G Q X :=
  wp.step (fun hx hb hl q => lv_bipush hx hb hd hv q) h
theorem r_sipush {x : Int} (hd : decode M.2.1 pc = .ok (.sipush x, 3)) (hv : (Int16.ofInt x).toInt32 = Int32.ofInt x) (h : wp M d k n (pc + 3) L (vI x :: st) G Q X) : wp M d k n pc L (st) G Q X :=
  wp.step (fun hx hb hl q => lv_sipush hx hb hd hv q) h
theorem r_lconst {x : Fin 2} (hd : decode M.2.1 pc = .ok (.lconst x, 1)) {y : Int} (hv : Int64.ofNat (x : Nat) = Int64.ofInt y) (h : wp M d k n (pc + 1) L (vJ y :: st) G Q X) : wp M d k n pc L (st) G Q X :=
  wp.step (fun hx hb hl q => lv_lconst hx hb hd hv q) h
theorem r_null  (hd : decode M.2.1 pc = .ok (.aconst_null, 1)) (h : wp M d k n (pc + 1) L (vR none :: st) G Q X) : wp M d k n pc L (st) G Q X :=
  wp.step (fun hx hb hl q => lv_null hx hb hd q) h
theorem r_iload_n {i : Fin 4} {j : Nat} {v : Value} (hd : decode M.2.1 pc = .ok (.iload_n i, 1)) (hi : (i : Nat) = j) (hv : L[j]? = some (some v)) (hc : isI v) (h : wp M d k n (pc + 1) L (v :: st) G Q X) : wp M d k n pc L st G Q X := by
  obtain ⟨w, rfl⟩ := hc
  exact wp.step (fun hx hb hl q => lv_iload_n hx hb hd hi (hl.at hv) q) h
theorem r_iload {i : Nat} {v : Value} (hd : decode M.2.1 pc = .ok (.iload i, 2)) (hv : L[i]? = some (some v)) (hc : isI v) (h : wp M d k n (pc + 2) L (v :: st) G Q X) : wp M d k n pc L st G Q X := by
  obtain ⟨w, rfl⟩ := hc
  exact wp.step (fun hx hb hl q => lv_iload hx hb hd (hl.at hv) q) h
theorem r_lload_n {i : Fin 4} {j : Nat} {v : Value} (hd : decode M.2.1 pc = .ok (.lload_n i, 1)) (hi : (i : Nat) = j) (hv : L[j]? = some (some v)) (hc : isJ v) (h : wp M d k n (pc + 1) L (v :: st) G Q X) : wp M d k n pc L st G Q X := by
  obtain ⟨w, rfl⟩ := hc
  exact wp.step (fun hx hb hl q => lv_lload_n hx hb hd hi (hl.at hv) q) h
theorem r_lload {i : Nat} {v : Value} (hd : decode M.2.1 pc = .ok (.lload i, 2)) (hv : L[i]? = some (some v)) (hc : isJ v) (h : wp M d k n (pc + 2) L (v :: st) G Q X) : wp M d k n pc L st G Q X := by
  obtain ⟨w, rfl⟩ := hc
  exact wp.step (fun hx hb hl q => lv_lload hx hb hd (hl.at hv) q) h
theorem r_aload_n {i : Fin 4} {j : Nat} {v : Value} (hd : decode M.2.1 pc = .ok (.aload_n i, 1)) (hi : (i : Nat) = j) (hv : L[j]? = some (some v)) (hc : isR v) (h : wp M d k n (pc + 1) L (v :: st) G Q X) : wp M d k n pc L st G Q X := by
  obtain ⟨r, rfl⟩ := hc
  cases r with
  | none => exact wp.step (fun hx hb hl q => lv_aload_nN hx hb hd hi (hl.at hv) q) h
  | some x => exact wp.step (fun hx hb hl q => lv_aload_n hx hb hd hi (hl.at hv) q) h
theorem r_aload {i : Nat} {v : Value} (hd : decode M.2.1 pc = .ok (.aload i, 2)) (hv : L[i]? = some (some v)) (hc : isR v) (h : wp M d k n (pc + 2) L (v :: st) G Q X) : wp M d k n pc L st G Q X := by
  obtain ⟨r, rfl⟩ := hc
  cases r with
  | none => exact wp.step (fun hx hb hl q => lv_aloadN hx hb hd (hl.at hv) q) h
  | some x => exact wp.step (fun hx hb hl q => lv_aload hx hb hd (hl.at hv) q) h
theorem r_istore_n {i : Fin 4} {j : Nat} {v : Value} {L' : List (Option Value)} (hd : decode M.2.1 pc = .ok (.istore_n i, 1)) (hi : (i : Nat) = j) (hL : L.set j (some v) = L') (hc : isI v) (hp : cat1 (pred1 L j)) (hn : j < M.2.2.1) (h : wp M d k n (pc + 1) L' st G Q X) : wp M d k n pc L (v :: st) G Q X := by
  obtain ⟨w, rfl⟩ := hc
  exact wp.store (fun hx hb hl q => lv_istore_n hx hb hd hi hl hn rfl (fun ls' hq => q ls' (hL ▸ lh.set1 hp hq))) h
theorem r_istore {j : Nat} {v : Value} {L' : List (Option Value)} (hd : decode M.2.1 pc = .ok (.istore j, 2))  (hL : L.set j (some v) = L') (hc : isI v) (hp : cat1 (pred1 L j)) (hn : j < M.2.2.1) (h : wp M d k n (pc + 2) L' st G Q X) : wp M d k n pc L (v :: st) G Q X := by
  obtain ⟨w, rfl⟩ := hc
  exact wp.store (fun hx hb hl q => lv_istore hx hb hd  hl hn rfl (fun ls' hq => q ls' (hL ▸ lh.set1 hp hq))) h
theorem r_lstore_n {i : Fin 4} {j : Nat} {v : Value} {L' : List (Option Value)} (hd : decode M.2.1 pc = .ok (.lstore_n i, 1)) (hi : (i : Nat) = j) (hL : (L.set j (some v)).set (j + 1) none = L') (hc : isJ v) (hp : cat1 (pred1 L j)) (hn : j + 1 < M.2.2.1) (h : wp M d k n (pc + 1) L' st G Q X) : wp M d k n pc L (v :: st) G Q X := by
  obtain ⟨w, rfl⟩ := hc
  exact wp.store (fun hx hb hl q => lv_lstore_n hx hb hd hi hl hn rfl (fun ls' hq => q ls' (hL ▸ lh.set2 hp hq))) h
theorem r_lstore {j : Nat} {v : Value} {L' : List (Option Value)} (hd : decode M.2.1 pc = .ok (.lstore j, 2))  (hL : (L.set j (some v)).set (j + 1) none = L') (hc : isJ v) (hp : cat1 (pred1 L j)) (hn : j + 1 < M.2.2.1) (h : wp M d k n (pc + 2) L' st G Q X) : wp M d k n pc L (v :: st) G Q X := by
  obtain ⟨w, rfl⟩ := hc
  exact wp.store (fun hx hb hl q => lv_lstore hx hb hd  hl hn rfl (fun ls' hq => q ls' (hL ▸ lh.set2 hp hq))) h
theorem r_astore_n {i : Fin 4} {j : Nat} {v : Value} {L' : List (Option Value)} (hd : decode M.2.1 pc = .ok (.astore_n i, 1)) (hi : (i : Nat) = j) (hL : L.set j (some v) = L') (hc : isR v) (hp : cat1 (pred1 L j)) (hn : j < M.2.2.1) (h : wp M d k n (pc + 1) L' st G Q X) : wp M d k n pc L (v :: st) G Q X := by
  obtain ⟨r, rfl⟩ := hc
  cases r with
  | none => exact wp.store (fun hx hb hl q => lv_astore_nN hx hb hd hi hl hn rfl (fun ls' hq => q ls' (hL ▸ lh.set1 hp hq))) h
  | some x => exact wp.store (fun hx hb hl q => lv_astore_n hx hb hd hi hl hn rfl (fun ls' hq => q ls' (hL ▸ lh.set1 hp hq))) h
theorem r_astore {j : Nat} {v : Value} {L' : List (Option Value)} (hd : decode M.2.1 pc = .ok (.astore j, 2))  (hL : L.set j (some v) = L') (hc : isR v) (hp : cat1 (pred1 L j)) (hn : j < M.2.2.1) (h : wp M d k n (pc + 2) L' st G Q X) : wp M d k n pc L (v :: st) G Q X := by
  obtain ⟨r, rfl⟩ := hc
  cases r with
  | none => exact wp.store (fun hx hb hl q => lv_astoreN hx hb hd  hl hn rfl (fun ls' hq => q ls' (hL ▸ lh.set1 hp hq))) h
  | some x => exact wp.store (fun hx hb hl q => lv_astore hx hb hd  hl hn rfl (fun ls' hq => q ls' (hL ▸ lh.set1 hp hq))) h
theorem lvs_idx {L : List (Option Value)} {j : Nat} {v : Value} (h : L[j]? = some (some v)) : ∃ i : Nat, (lvs 0 L)[i]? = some (j, v) :=
  List.getElem?_of_mem ((lvs_mem L 0 (j, v)).mpr ⟨j, by simp, h⟩)
theorem r_iinc {j : Nat} {x y : Int} {L' : List (Option Value)} (hd : decode M.2.1 pc = .ok (.iinc j y, 3)) (hv : L[j]? = some (some (vI x))) (hL : L.set j (some (vI (x + y))) = L') (hp : cat1 (pred1 L j)) (hn : j < M.2.2.1) (h : wp M d k n (pc + 3) L' st G Q X) : wp M d k n pc L st G Q X := by
  obtain ⟨i, hi⟩ := lvs_idx hv
  exact wp.store (fun hx hb hl q => lv_iinc (v := Int32.ofInt (x + y)) hx hb hd hl hi (by rw [Int32.ofInt_add]) hn rfl (fun ls' hq => q ls' (hL ▸ lh.set1 hp hq))) h
theorem i32b (x : Int32) : Int32.ofInt x.toInt = x := Int32.ofInt_toInt x
theorem i64b (x : Int64) : Int64.ofInt x.toInt = x := Int64.ofInt_toInt x
theorem r_iadd {x y : Int} (hd : decode M.2.1 pc = .ok (.iadd, 1)) (h : wp M d k n (pc + 1) L (vI (x + y) :: st) G Q X) : wp M d k n pc L (vI y :: vI x :: st) G Q X := by
  unfold vI at h ⊢
  rw [Int32.ofInt_add] at h
  exact wp.step (fun hx hb hl q => lv_iadd hx hb hd q) h
theorem r_isub {x y : Int} (hd : decode M.2.1 pc = .ok (.isub, 1)) (h : wp M d k n (pc + 1) L (vI (x - y) :: st) G Q X) : wp M d k n pc L (vI y :: vI x :: st) G Q X := by
  unfold vI at h ⊢
  rw [Int32.ofInt_sub] at h
  exact wp.step (fun hx hb hl q => lv_isub hx hb hd q) h
theorem r_imul {x y : Int} (hd : decode M.2.1 pc = .ok (.imul, 1)) (h : wp M d k n (pc + 1) L (vI (x * y) :: st) G Q X) : wp M d k n pc L (vI y :: vI x :: st) G Q X := by
  unfold vI at h ⊢
  rw [Int32.ofInt_mul] at h
  exact wp.step (fun hx hb hl q => lv_imul hx hb hd q) h
theorem r_ineg {x : Int} (hd : decode M.2.1 pc = .ok (.ineg, 1)) (h : wp M d k n (pc + 1) L (vI (-x) :: st) G Q X) : wp M d k n pc L (vI x :: st) G Q X := by
  unfold vI at h ⊢
  rw [Int32.ofInt_neg] at h
  exact wp.step (fun hx hb hl q => lv_ineg hx hb hd q) h
def okd (x y : Int) (A : Prop) : Prop := (R32 x ∧ R32 y ∧ y ≠ 0) ∧ A
def okm (x y : Int) (A : Prop) : Prop := (0 ≤ x ∧ x < 2147483648 ∧ 0 < y ∧ y < 2147483648) ∧ A
theorem oi_div {x y : Int} (hx : R32 x) (hy : R32 y) : Int32.ofInt x / Int32.ofInt y = Int32.ofInt (x.tdiv y) := by
  rw [Int32.ofInt_tdiv (by have := hx.1; exact this) (by have := hx.2; exact Int.le_of_lt_add_one this) (by have := hy.1; exact this) (by have := hy.2; exact Int.le_of_lt_add_one this)]
theorem r_idiv {x y : Int} {A : Prop} (hd : decode M.2.1 pc = .ok (.idiv, 1)) (ho : okd x y A) (h : A → wp M d k n (pc + 1) L (vI (x.tdiv y) :: st) G Q X) : wp M d k n pc L (vI y :: vI x :: st) G Q X := by
  obtain ⟨⟨hx', hy', h0⟩, ha⟩ := ho
  have h := h ha
  unfold vI at h ⊢
  rw [← oi_div hx' hy'] at h
  refine wp.step (fun hx hb hl q => lv_idiv hx hb hd ?_ q) h
  rw [oi_0, oi_eq hy' r0]; exact h0
theorem r_irem {x y : Int} {A : Prop} (hd : decode M.2.1 pc = .ok (.irem, 1)) (ho : okm x y A) (h : A → wp M d k n (pc + 1) L (vI (x % y) :: st) G Q X) : wp M d k n pc L (vI y :: vI x :: st) G Q X := by
  obtain ⟨⟨h1, h2, h3, h4⟩, ha⟩ := ho
  have h := h ha
  have hx' : R32 x := ⟨by omega, h2⟩
  have hy' : R32 y := ⟨by omega, h4⟩
  unfold vI at h ⊢
  have e : Int32.ofInt x - Int32.ofInt x / Int32.ofInt y * Int32.ofInt y = Int32.ofInt (x % y) := by
    rw [oi_div hx' hy', ← Int32.ofInt_mul, ← Int32.ofInt_sub, Int.tdiv_eq_ediv_of_nonneg h1, Int.mul_comm, ← Int.emod_def]
  rw [← e] at h
  refine wp.step (fun hx hb hl q => lv_irem hx hb hd ?_ q) h
  rw [oi_0, oi_eq hy' r0]; omega
theorem r_iand {x y : Int} (hd : decode M.2.1 pc = .ok (.iand, 1)) (h : wp M d k n (pc + 1) L (vI (iand x y) :: st) G Q X) : wp M d k n pc L (vI y :: vI x :: st) G Q X := by
  unfold vI iand at h
  rw [i32b] at h
  exact wp.step (fun hx hb hl q => lv_iand hx hb hd q) h
theorem r_ior {x y : Int} (hd : decode M.2.1 pc = .ok (.ior, 1)) (h : wp M d k n (pc + 1) L (vI (ior x y) :: st) G Q X) : wp M d k n pc L (vI y :: vI x :: st) G Q X := by
  unfold vI ior at h
  rw [i32b] at h
  exact wp.step (fun hx hb hl q => lv_ior hx hb hd q) h
theorem r_ishl {x y : Int} (hd : decode M.2.1 pc = .ok (.ishl, 1)) (h : wp M d k n (pc + 1) L (vI (ishl x y) :: st) G Q X) : wp M d k n pc L (vI y :: vI x :: st) G Q X := by
  unfold vI ishl at h
  rw [i32b] at h
  exact wp.step (fun hx hb hl q => lv_ishl hx hb hd q) h
theorem r_ishr {x y : Int} (hd : decode M.2.1 pc = .ok (.ishr, 1)) (h : wp M d k n (pc + 1) L (vI (ishr x y) :: st) G Q X) : wp M d k n pc L (vI y :: vI x :: st) G Q X := by
  unfold vI ishr at h
  rw [i32b] at h
  exact wp.step (fun hx hb hl q => lv_ishr hx hb hd q) h
theorem r_iushr {x y : Int} (hd : decode M.2.1 pc = .ok (.iushr, 1)) (h : wp M d k n (pc + 1) L (vI (iushr x y) :: st) G Q X) : wp M d k n pc L (vI y :: vI x :: st) G Q X := by
  unfold vI iushr at h
  rw [i32b] at h
  exact wp.step (fun hx hb hl q => lv_iushr hx hb hd rfl q) h
theorem r_lushr {x y : Int} (hd : decode M.2.1 pc = .ok (.lushr, 1)) (h : wp M d k n (pc + 1) L (vJ (jushr x y) :: st) G Q X) : wp M d k n pc L (vI y :: vJ x :: st) G Q X := by
  unfold vJ jushr at h
  rw [i64b] at h
  exact wp.step (fun hx hb hl q => lv_lushr hx hb hd rfl q) h
theorem r_lshl {x y : Int} (hd : decode M.2.1 pc = .ok (.lshl, 1)) (h : wp M d k n (pc + 1) L (vJ (jshl x y) :: st) G Q X) : wp M d k n pc L (vI y :: vJ x :: st) G Q X := by
  unfold vJ jshl at h
  rw [i64b] at h
  exact wp.step (fun hx hb hl q => lv_lshl hx hb hd rfl q) h
theorem r_land {x y : Int} (hd : decode M.2.1 pc = .ok (.land, 1)) (h : wp M d k n (pc + 1) L (vJ (jand x y) :: st) G Q X) : wp M d k n pc L (vJ y :: vJ x :: st) G Q X := by
  unfold vJ jand at h
  rw [i64b] at h
  exact wp.step (fun hx hb hl q => lv_land hx hb hd q) h
theorem r_lor {x y : Int} (hd : decode M.2.1 pc = .ok (.lor, 1)) (h : wp M d k n (pc + 1) L (vJ (jor x y) :: st) G Q X) : wp M d k n pc L (vJ y :: vJ x :: st) G Q X := by
  unfold vJ jor at h
  rw [i64b] at h
  exact wp.step (fun hx hb hl q => lv_lor hx hb hd q) h
theorem r_lxor {x y : Int} (hd : decode M.2.1 pc = .ok (.lxor, 1)) (h : wp M d k n (pc + 1) L (vJ (jxor x y) :: st) G Q X) : wp M d k n pc L (vJ y :: vJ x :: st) G Q X := by
  unfold vJ jxor at h
  rw [i64b] at h
  exact wp.step (fun hx hb hl q => lv_lxor hx hb hd q) h
theorem r_ladd {x y : Int} (hd : decode M.2.1 pc = .ok (.ladd, 1)) (h : wp M d k n (pc + 1) L (vJ (x + y) :: st) G Q X) : wp M d k n pc L (vJ y :: vJ x :: st) G Q X := by
  unfold vJ at h ⊢
  rw [Int64.ofInt_add] at h
  exact wp.step (fun hx hb hl q => lv_ladd hx hb hd q) h
theorem r_lsub {x y : Int} (hd : decode M.2.1 pc = .ok (.lsub, 1)) (h : wp M d k n (pc + 1) L (vJ (x - y) :: st) G Q X) : wp M d k n pc L (vJ y :: vJ x :: st) G Q X := by
  unfold vJ at h ⊢
  rw [Int64.ofInt_sub] at h
  exact wp.step (fun hx hb hl q => lv_lsub hx hb hd q) h
def ok32 (x : Int) (A : Prop) : Prop := R32 x ∧ A
theorem r_i2l {x : Int} {A : Prop} (hd : decode M.2.1 pc = .ok (.i2l, 1)) (ho : ok32 x A) (h : A → wp M d k n (pc + 1) L (vJ x :: st) G Q X) : wp M d k n pc L (vI x :: st) G Q X := by
  have h := h ho.2
  refine wp.step (fun hx hb hl q => lv_i2l (v := Int64.ofInt x) hx hb hd ?_ q) h
  rw [← Int64.toInt_inj, Int32.toInt_toInt64, ti ho.1, tj ⟨by have := ho.1.1; omega, by have := ho.1.2; omega⟩]
theorem r_l2i {x : Int} (hd : decode M.2.1 pc = .ok (.l2i, 1)) (h : wp M d k n (pc + 1) L (vI x :: st) G Q X) : wp M d k n pc L (vJ x :: st) G Q X :=
  wp.step (fun hx hb hl q => lv_l2i (v := Int32.ofInt x) hx hb hd (Int64.toInt32_ofInt) q) h
theorem r_i2b {x : Int} (hd : decode M.2.1 pc = .ok (.i2b, 1)) (h : wp M d k n (pc + 1) L (vI (x.bmod 256) :: st) G Q X) : wp M d k n pc L (vI x :: st) G Q X := by
  refine wp.step (fun hx hb hl q => lv_i2b (v := Int32.ofInt (x.bmod 256)) hx hb hd ?_ q) h
  rw [← Int32.toInt_inj, Int8.toInt_toInt32, Int32.toInt8_ofInt, Int8.toInt_ofInt, ti]
  have := Int.bmod_lt (x := x) (m := 256) (by decide); have := Int.le_bmod (x := x) (m := 256) (by decide)
  constructor <;> omega
theorem r_i2s {x : Int} (hd : decode M.2.1 pc = .ok (.i2s, 1)) (h : wp M d k n (pc + 1) L (vI (x.bmod 65536) :: st) G Q X) : wp M d k n pc L (vI x :: st) G Q X := by
  refine wp.step (fun hx hb hl q => lv_i2s (v := Int32.ofInt (x.bmod 65536)) hx hb hd ?_ q) h
  rw [← Int32.toInt_inj, Int16.toInt_toInt32, Int32.toInt16_ofInt, Int16.toInt_ofInt, ti]
  have := Int.bmod_lt (x := x) (m := 65536) (by decide); have := Int.le_bmod (x := x) (m := 65536) (by decide)
  constructor <;> omega
def okc (x : Int) (A : Prop) : Prop := (0 ≤ x ∧ x < 65536) ∧ A
theorem oi_nI {x : Int} (h : 0 ≤ x) : Int32.ofInt x = nI x.toNat := by
  unfold nI
  rw [← Int32.ofInt_eq_ofNat, Int.toNat_of_nonneg h]
theorem r_i2c {x : Int} {A : Prop} (hd : decode M.2.1 pc = .ok (.i2c, 1)) (ho : okc x A) (h : A → wp M d k n (pc + 1) L (vI x :: st) G Q X) : wp M d k n pc L (vI x :: st) G Q X := by
  have h := h ho.2
  refine wp.step (fun hx hb hl q => lv_i2c (v := Int32.ofInt x) hx hb hd ?_ q) h
  have h1 := ho.1.1
  have h2 := ho.1.2
  rw [pk_char, oi_nI h1, pk_tn (by omega), Nat.mod_eq_of_lt (by omega)]
theorem r_lcmp {x y : Int} {A : Prop} (hd : decode M.2.1 pc = .ok (.lcmp, 1)) (ho : (R64 x ∧ R64 y) ∧ A) (h : A → wp M d k n (pc + 1) L (vI (sg x y) :: st) G Q X) : wp M d k n pc L (vJ y :: vJ x :: st) G Q X := by
  have h := h ho.2
  have e : lg_cmp (Int64.ofInt x) (Int64.ofInt y) = Int32.ofInt (sg x y) := by
    have l1 : Int64.ofInt x > Int64.ofInt y ↔ x > y := by show Int64.ofInt y < Int64.ofInt x ↔ y < x; rw [Int64.lt_iff_toInt_lt, tj ho.1.1, tj ho.1.2]
    have l2 : Int64.ofInt x = Int64.ofInt y ↔ x = y := by rw [← Int64.toInt_inj, tj ho.1.1, tj ho.1.2]
    unfold lg_cmp sg
    by_cases h1 : x < y
    · rw [if_neg (by rw [l1]; omega), if_neg (by rw [l2]; omega), if_pos h1]; rfl
    · rw [if_neg h1]
      by_cases h2 : x = y
      · rw [if_neg (by rw [l1]; omega), if_pos (l2.mpr h2), if_pos h2]; rfl
      · rw [if_pos (by rw [l1]; omega), if_neg h2]; rfl
  unfold vI at h
  rw [← e] at h
  exact wp.step (fun hx hb hl q => W.lcmp hx hb hd q) h
theorem r_dup {v : Value} (hd : decode M.2.1 pc = .ok (.dup, 1)) (hv : c1 v) (h : wp M d k n (pc + 1) L (v :: v :: st) G Q X) : wp M d k n pc L (v :: st) G Q X := wp.step (fun hx hb hl q => lv_dup hx hb hd hv q) h
theorem r_pop {v : Value} (hd : decode M.2.1 pc = .ok (.pop, 1)) (hv : c1 v) (h : wp M d k n (pc + 1) L st G Q X) : wp M d k n pc L (v :: st) G Q X := wp.step (fun hx hb hl q => lv_pop hx hb hd hv q) h
theorem r_dup_x1 {v w : Value} (hd : decode M.2.1 pc = .ok (.dup_x1, 1)) (hv : c1 v) (hw : c1 w) (h : wp M d k n (pc + 1) L (v :: w :: v :: st) G Q X) : wp M d k n pc L (v :: w :: st) G Q X := wp.step (fun hx hb hl q => lv_dup_x1 hx hb hd hv hw q) h
theorem r_dup2 {v w : Value} (hd : decode M.2.1 pc = .ok (.dup2, 1)) (hv : c1 v) (hw : c1 w) (h : wp M d k n (pc + 1) L (v :: w :: v :: w :: st) G Q X) : wp M d k n pc L (v :: w :: st) G Q X := wp.step (fun hx hb hl q => lv_dup2_11 hx hb hd hv hw q) h
theorem r_goto {off : Int} {tgt : Nat} (hd : decode M.2.1 pc = .ok (.goto off, 3)) (ht : (pc : Int) + off = (tgt : Int)) (h : wp M d k n tgt L st G Q X) : wp M d k n pc L st G Q X := wp.step (fun hx hb hl q => lv_goto hx hb hd ht q) h
theorem r_icmp_eq {x y : Int} {off : Int} {tgt : Nat} {A B : Prop} (hd : decode M.2.1 pc = .ok (.if_icmp .eq off, 3)) (ht : (pc : Int) + off = (tgt : Int)) (ho : br x y (x = y) A B) (ha : A → wp M d k n tgt L st G Q X) (hb' : B → wp M d k n (pc + 3) L st G Q X) : wp M d k n pc L (vI y :: vI x :: st) G Q X := by
  obtain ⟨⟨A1, A2⟩, o1, o2⟩ := ho
  have e := oi_eq A1 A2
  exact wp.branch (fun hx hb hl qa qb => lv_icmp_eq hx hb hd ht (fun t => qa (e.mp t)) (fun t => qb (fun u => t (e.mpr u)))) (fun t => ha (o1 t)) (fun t => hb' (o2 t))
theorem r_if_eq {x : Int} {off : Int} {tgt : Nat} {A B : Prop} (hd : decode M.2.1 pc = .ok (.ifCond .eq off, 3)) (ht : (pc : Int) + off = (tgt : Int)) (ho : br0 x (x = 0) A B) (ha : A → wp M d k n tgt L st G Q X) (hb' : B → wp M d k n (pc + 3) L st G Q X) : wp M d k n pc L (vI x :: st) G Q X := by
  obtain ⟨A1, o1, o2⟩ := ho
  have e := oi_eq A1 r0
  exact wp.branch (fun hx hb hl qa qb => lv_if_eq hx hb hd ht (fun t => qa (e.mp t)) (fun t => qb (fun u => t (e.mpr u)))) (fun t => ha (o1 t)) (fun t => hb' (o2 t))
theorem r_icmp_ne {x y : Int} {off : Int} {tgt : Nat} {A B : Prop} (hd : decode M.2.1 pc = .ok (.if_icmp .ne off, 3)) (ht : (pc : Int) + off = (tgt : Int)) (ho : br x y (¬ x = y) A B) (ha : A → wp M d k n tgt L st G Q X) (hb' : B → wp M d k n (pc + 3) L st G Q X) : wp M d k n pc L (vI y :: vI x :: st) G Q X := by
  obtain ⟨⟨A1, A2⟩, o1, o2⟩ := ho
  have e := not_congr (oi_eq A1 A2)
  exact wp.branch (fun hx hb hl qa qb => lv_icmp_ne hx hb hd ht (fun t => qa (e.mp t)) (fun t => qb (fun u => (e.mpr u) t))) (fun t => ha (o1 t)) (fun t => hb' (o2 t))
theorem r_if_ne {x : Int} {off : Int} {tgt : Nat} {A B : Prop} (hd : decode M.2.1 pc = .ok (.ifCond .ne off, 3)) (ht : (pc : Int) + off = (tgt : Int)) (ho : br0 x (¬ x = 0) A B) (ha : A → wp M d k n tgt L st G Q X) (hb' : B → wp M d k n (pc + 3) L st G Q X) : wp M d k n pc L (vI x :: st) G Q X := by
  obtain ⟨A1, o1, o2⟩ := ho
  have e := not_congr (oi_eq A1 r0)
  exact wp.branch (fun hx hb hl qa qb => lv_if_ne hx hb hd ht (fun t => qa (e.mp t)) (fun t => qb (fun u => (e.mpr u) t))) (fun t => ha (o1 t)) (fun t => hb' (o2 t))
theorem r_icmp_lt {x y : Int} {off : Int} {tgt : Nat} {A B : Prop} (hd : decode M.2.1 pc = .ok (.if_icmp .lt off, 3)) (ht : (pc : Int) + off = (tgt : Int)) (ho : br x y (x < y) A B) (ha : A → wp M d k n tgt L st G Q X) (hb' : B → wp M d k n (pc + 3) L st G Q X) : wp M d k n pc L (vI y :: vI x :: st) G Q X := by
  obtain ⟨⟨A1, A2⟩, o1, o2⟩ := ho
  have e := oi_lt A1 A2
  exact wp.branch (fun hx hb hl qa qb => lv_icmp_lt hx hb hd ht (fun t => qa (e.mp t)) (fun t => qb (fun u => t (e.mpr u)))) (fun t => ha (o1 t)) (fun t => hb' (o2 t))
theorem r_if_lt {x : Int} {off : Int} {tgt : Nat} {A B : Prop} (hd : decode M.2.1 pc = .ok (.ifCond .lt off, 3)) (ht : (pc : Int) + off = (tgt : Int)) (ho : br0 x (x < 0) A B) (ha : A → wp M d k n tgt L st G Q X) (hb' : B → wp M d k n (pc + 3) L st G Q X) : wp M d k n pc L (vI x :: st) G Q X := by
  obtain ⟨A1, o1, o2⟩ := ho
  have e := oi_lt A1 r0
  exact wp.branch (fun hx hb hl qa qb => lv_if_lt hx hb hd ht (fun t => qa (e.mp t)) (fun t => qb (fun u => t (e.mpr u)))) (fun t => ha (o1 t)) (fun t => hb' (o2 t))
theorem r_icmp_ge {x y : Int} {off : Int} {tgt : Nat} {A B : Prop} (hd : decode M.2.1 pc = .ok (.if_icmp .ge off, 3)) (ht : (pc : Int) + off = (tgt : Int)) (ho : br x y (y ≤ x) A B) (ha : A → wp M d k n tgt L st G Q X) (hb' : B → wp M d k n (pc + 3) L st G Q X) : wp M d k n pc L (vI y :: vI x :: st) G Q X := by
  obtain ⟨⟨A1, A2⟩, o1, o2⟩ := ho
  have e := oi_le A2 A1
  exact wp.branch (fun hx hb hl qa qb => lv_icmp_ge hx hb hd ht (fun t => qa (e.mp t)) (fun t => qb (fun u => t (e.mpr u)))) (fun t => ha (o1 t)) (fun t => hb' (o2 t))
theorem r_if_ge {x : Int} {off : Int} {tgt : Nat} {A B : Prop} (hd : decode M.2.1 pc = .ok (.ifCond .ge off, 3)) (ht : (pc : Int) + off = (tgt : Int)) (ho : br0 x (0 ≤ x) A B) (ha : A → wp M d k n tgt L st G Q X) (hb' : B → wp M d k n (pc + 3) L st G Q X) : wp M d k n pc L (vI x :: st) G Q X := by
  obtain ⟨A1, o1, o2⟩ := ho
  have e := oi_le r0 A1
  exact wp.branch (fun hx hb hl qa qb => lv_if_ge hx hb hd ht (fun t => qa (e.mp t)) (fun t => qb (fun u => t (e.mpr u)))) (fun t => ha (o1 t)) (fun t => hb' (o2 t))
theorem r_icmp_gt {x y : Int} {off : Int} {tgt : Nat} {A B : Prop} (hd : decode M.2.1 pc = .ok (.if_icmp .gt off, 3)) (ht : (pc : Int) + off = (tgt : Int)) (ho : br x y (y < x) A B) (ha : A → wp M d k n tgt L st G Q X) (hb' : B → wp M d k n (pc + 3) L st G Q X) : wp M d k n pc L (vI y :: vI x :: st) G Q X := by
  obtain ⟨⟨A1, A2⟩, o1, o2⟩ := ho
  have e := oi_lt A2 A1
  exact wp.branch (fun hx hb hl qa qb => lv_icmp_gt hx hb hd ht (fun t => qa (e.mp t)) (fun t => qb (fun u => t (e.mpr u)))) (fun t => ha (o1 t)) (fun t => hb' (o2 t))
theorem r_if_gt {x : Int} {off : Int} {tgt : Nat} {A B : Prop} (hd : decode M.2.1 pc = .ok (.ifCond .gt off, 3)) (ht : (pc : Int) + off = (tgt : Int)) (ho : br0 x (0 < x) A B) (ha : A → wp M d k n tgt L st G Q X) (hb' : B → wp M d k n (pc + 3) L st G Q X) : wp M d k n pc L (vI x :: st) G Q X := by
  obtain ⟨A1, o1, o2⟩ := ho
  have e := oi_lt r0 A1
  exact wp.branch (fun hx hb hl qa qb => lv_if_gt hx hb hd ht (fun t => qa (e.mp t)) (fun t => qb (fun u => t (e.mpr u)))) (fun t => ha (o1 t)) (fun t => hb' (o2 t))
theorem r_icmp_le {x y : Int} {off : Int} {tgt : Nat} {A B : Prop} (hd : decode M.2.1 pc = .ok (.if_icmp .le off, 3)) (ht : (pc : Int) + off = (tgt : Int)) (ho : br x y (x ≤ y) A B) (ha : A → wp M d k n tgt L st G Q X) (hb' : B → wp M d k n (pc + 3) L st G Q X) : wp M d k n pc L (vI y :: vI x :: st) G Q X := by
  obtain ⟨⟨A1, A2⟩, o1, o2⟩ := ho
  have e := oi_le A1 A2
  exact wp.branch (fun hx hb hl qa qb => lv_icmp_le hx hb hd ht (fun t => qa (e.mp t)) (fun t => qb (fun u => t (e.mpr u)))) (fun t => ha (o1 t)) (fun t => hb' (o2 t))
theorem r_if_le {x : Int} {off : Int} {tgt : Nat} {A B : Prop} (hd : decode M.2.1 pc = .ok (.ifCond .le off, 3)) (ht : (pc : Int) + off = (tgt : Int)) (ho : br0 x (x ≤ 0) A B) (ha : A → wp M d k n tgt L st G Q X) (hb' : B → wp M d k n (pc + 3) L st G Q X) : wp M d k n pc L (vI x :: st) G Q X := by
  obtain ⟨A1, o1, o2⟩ := ho
  have e := oi_le A1 r0
  exact wp.branch (fun hx hb hl qa qb => lv_if_le hx hb hd ht (fun t => qa (e.mp t)) (fun t => qb (fun u => t (e.mpr u)))) (fun t => ha (o1 t)) (fun t => hb' (o2 t))
theorem b01 (b : Bool) : (if b = true then (1 : Int32) else 0) = 0 ↔ b = false := by cases b <;> decide
theorem r_ifZ_eq {b : Bool} {off : Int} {tgt : Nat} {A B : Prop} (hd : decode M.2.1 pc = .ok (.ifCond .eq off, 3)) (ht : (pc : Int) + off = (tgt : Int)) (ho : brB b B A) (ha : A → wp M d k n tgt L st G Q X) (hb' : B → wp M d k n (pc + 3) L st G Q X) : wp M d k n pc L (vB b :: st) G Q X :=
  wp.branch (fun hx hb hl qa qb => lv_if_eq hx hb hd ht (fun t => qa ((b01 b).mp t)) (fun t => qb (by cases b with | true => rfl | false => exact absurd rfl t))) (fun t => ha (ho.2 t)) (fun t => hb' (ho.1 t))
theorem r_ifZ_ne {b : Bool} {off : Int} {tgt : Nat} {A B : Prop} (hd : decode M.2.1 pc = .ok (.ifCond .ne off, 3)) (ht : (pc : Int) + off = (tgt : Int)) (ho : brB b A B) (ha : A → wp M d k n tgt L st G Q X) (hb' : B → wp M d k n (pc + 3) L st G Q X) : wp M d k n pc L (vB b :: st) G Q X :=
  wp.branch (fun hx hb hl qa qb => lv_if_ne hx hb hd ht (fun t => qa (by cases b with | true => rfl | false => exact absurd rfl t)) (fun t => qb ((b01 b).mp t))) (fun t => ha (ho.1 t)) (fun t => hb' (ho.2 t))
/-- a branch by null -/
def brN (r : Option Nat) (A : Prop) (B : Nat → Prop) : Prop := (r = none → A) ∧ (∀ a, r = some a → B a)
theorem r_ifnull {r : Option Nat} {off : Int} {tgt : Nat} {A : Prop} {B : Nat → Prop} (hd : decode M.2.1 pc = .ok (.ifnull off, 3)) (ht : (pc : Int) + off = (tgt : Int)) (ho : brN r A B) (ha : A → wp M d k n tgt L st G Q X) (hb' : ∀ a, r = some a → B a → wp M d k n (pc + 3) L st G Q X) : wp M d k n pc L (vR r :: st) G Q X := by
  cases r with
  | none => exact wp.step (fun hx hb hl q => lv_ifnullN hx hb hd ht q) (ha (ho.1 rfl))
  | some a => exact wp.step (fun hx hb hl q => lv_ifnull hx hb hd q) (hb' a rfl (ho.2 a rfl))
theorem r_ifnonnull {r : Option Nat} {off : Int} {tgt : Nat} {A : Prop} {B : Nat → Prop} (hd : decode M.2.1 pc = .ok (.ifnonnull off, 3)) (ht : (pc : Int) + off = (tgt : Int)) (ho : brN r A B) (hb' : ∀ a, r = some a → B a → wp M d k n tgt L st G Q X) (ha : A → wp M d k n (pc + 3) L st G Q X) : wp M d k n pc L (vR r :: st) G Q X := by
  cases r with
  | none => exact wp.step (fun hx hb hl q => lv_ifnonnullN hx hb hd q) (ha (ho.1 rfl))
  | some a => exact wp.step (fun hx hb hl q => lv_ifnonnull hx hb hd ht q) (hb' a rfl (ho.2 a rfl))
theorem r_acmp_ne {r1 r2 : Option Nat} {off : Int} {tgt : Nat} {A B : Prop} (hd : decode M.2.1 pc = .ok (.if_acmp .ne off, 3)) (ht : (pc : Int) + off = (tgt : Int)) (ho : (¬ r1 = r2 → A) ∧ (r1 = r2 → B)) (ha : A → wp M d k n tgt L st G Q X) (hb' : B → wp M d k n (pc + 3) L st G Q X) : wp M d k n pc L (vR r2 :: vR r1 :: st) G Q X :=
  wp.branch (fun hx hb hl qa qb => lv_acmp_ne hx hb hd ht (fun t => qa t) (fun t => qb t)) (fun t => ha (ho.1 t)) (fun t => hb' (ho.2 t))
end
