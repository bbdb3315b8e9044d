/-! THE FRAME: a judgement over the kit's W with the context hidden; ints are Int, the heap is a map of regions -/
set_option maxRecDepth 100000
def vI (x : Int) : Value := .int (Int32.ofInt x)
def vJ (x : Int) : Value := .long (Int64.ofInt x)
def vR (r : Option Nat) : Value := va_rf r
/-- a cell: an array of 32-bit things (its kind, length, contents), of longs, of references, an object (class, fields) -/
abbrev QE : Type := (Nat × Nat × (Int → Int)) ⊕ (Nat × (Int → Int)) ⊕ (Nat × Nat × (Int → Option Nat)) ⊕ (Nat × List Value)
abbrev aI (k n : Nat) (f : Int → Int) : QE := .inl (k, n, f)
abbrev aJ (n : Nat) (f : Int → Int) : QE := .inr (.inl (n, f))
abbrev aR (k n : Nat) (f : Int → Option Nat) : QE := .inr (.inr (.inl (k, n, f)))
abbrev oB (c : Nat) (fs : List Value) : QE := .inr (.inr (.inr (c, fs)))
def qE (K : Nat → ClassId) : QE → va_E
  | .inl (k, n, f) => .inl (K k, n, .inl (fun j => Int32.ofInt (f j)))
  | .inr (.inl (n, f)) => .inl (K 5, n, .inr (.inl (fun j => Int64.ofInt (f j))))
  | .inr (.inr (.inl (k, n, f))) => .inl (K k, n, .inr (.inr (.inr (.inr (fun j => f j)))))
  | .inr (.inr (.inr (c, fs))) => .inr (c, fs)
/-- the heap by regions; region 0 is the start's own, read alone -/
abbrev Wd : Type := Nat → Nat → Option QE
def wset (G : Wd) (r a : Nat) (e : QE) : Wd := va_up G r (va_up (G r) a (some e))
/-- of the system's exception its own field alone is kept -/
def TF6 : u_T := fun _ => ("QueueDrive$Fault", "at", "I", true)
def qCl : List vw_C := [(RX1, TX1, 22), (RX2, TX2, 15), (RX3, TX3, 17), (RX4, TX4, 45), (RX5, TX5, 4), (RX6, TF6, 1), (RX7, TX7, 7), (RX8, TX8, 6), (RX9, TX9, 3), (RX10, TX10, 4), (RX11, TX11, 3), (RX12, TX12, 10), (RJ3, TJ3, 4), (RJ4, TJ4, 3), (RJ5, TJ5, 3), (RJ23, TJ23, 4), (RJ25, TJ25, 5), (RJ26, TJ26, 3)]
def tyK (K : Nat → ClassId) : List (ClassId × FieldType) := [(K 0, .int), (K 1, .byte), (K 2, .boolean), (K 3, .char), (K 4, .short), (K 5, .long), (K 6, .object "QueueDrive$Drive"), (K 7, .object "QueueDrive$Line"), (K 8, .object "QueueDrive$Command"), (K 9, .object "java/lang/Object")]
/-- what is fixed at the claim's start: launch, state, classes, array classes, the script's cell, the start's own region -/
abbrev Zt : Type := Launch × State × va_G × (Nat → ClassId) × Nat × (Nat → Option QE)
abbrev zs (z : Zt) : State := z.2.1
abbrev zD (z : Zt) : va_G := z.2.2.1
abbrev zK (z : Zt) : Nat → ClassId := z.2.2.2.1
abbrev zb (z : Zt) : Nat := z.2.2.2.2.1
abbrev zR (z : Zt) : Nat → Option QE := z.2.2.2.2.2
def zA (z : Zt) : Nat → Prop := fun q => (zs z).heap.size ≤ q
/-- a constant String of the start: its cell, its bytes -/
def StrO (z : Zt) (a b : Nat) : Prop := va_O "java/lang/String" a (zA z) (zs z) (zs z).heap ∧ va_OF "java/lang/String" "coder" "B" (.int 0) a (zA z) (zs z) (zs z).heap ∧ va_OF "java/lang/String" "value" "[B" (.ref b) a (zA z) (zs z) (zs z).heap
def StrB (z : Zt) (b n : Nat) (f : Int → Int) : Prop := n < 2147483648 ∧ va_T .byte b n (fun j => .int (Int32.ofInt (f j))) (zA z) (zs z) (zs z).heap
/-- the law's script -/
def ScrB (z : Zt) (b n : Nat) (f : Int → Int) : Prop := n ≤ 320 ∧ (∀ i, -2147483648 ≤ f i ∧ f i < 2147483648) ∧ va_X b n (fun j => Int32.ofInt (f j)) (zs z) (zs z).heap
/-- the Strings that the code loads: class, entry, text, bytes -/
def strs : List (String × Nat × String × List Int) := [("QueueDrive", 88, "uhml", [117, 104, 109, 108]), ("QueueDrive$Order", 53, "prtkcx", [112, 114, 116, 107, 99, 120]), ("QueueDriveModel", 83, "obvqcdn", [111, 98, 118, 113, 99, 100, 110]), ("QueueDriveModel", 92, "<>=", [60, 62, 61]), ("QueueDriveModel", 94, "+-", [43, 45]), ("QueueDriveModel", 96, "*/", [42, 47]), ("QueueDriveModel", 204, "uhml", [117, 104, 109, 108]), ("QueueDriveModel", 392, "xrtkcp", [120, 114, 116, 107, 99, 112]), ("QueueDrive$Rule", 69, "obvqcdn", [111, 98, 118, 113, 99, 100, 110])]
def bytesOf (l : List Int) : Int → Int := fun j => l.getD j.toNat 0
def Zok (z : Zt) : Prop :=
  z.1.flags = flags0 ∧ (∀ w ∈ lw_tbl, w.before #[Value.ref (zb z)] (zs z) = true) ∧ (Jvm.Cond.and given_1 narrow_1).before #[Value.ref (zb z)] (zs z) = true ∧
  va_K (zD z) qCl (tyK (zK z)) (zs z) ∧ (∀ a e, zR z a = some e → a < (zs z).heap.size ∧ ((∃ b, e = oB 118 [vR (some b), vI 0] ∧ StrO z a b) ∨ (∃ n f, e = aI 11 n f ∧ StrB z a n f) ∨ ∃ n f, e = aI 12 n f ∧ ScrB z a n f)) ∧
  (∀ q ∈ strs, ∃ a b, vk_R q.1 q.2.1 q.2.2.1 a (zs z) ∧ zR z a = some (oB 118 [vR (some b), vI 0]) ∧ zR z b = some (aI 11 q.2.2.2.length (bytesOf q.2.2.2)))
/-- no String of the start -/
def tr (e : QE) : Prop := (∀ fs, e ≠ oB 118 fs) ∧ ∀ n f, e ≠ aI 11 n f ∧ e ≠ aI 12 n f
theorem tr_o {ci : Nat} {fs : List Value} {q : vw_C} (h : qCl[ci]? = some q) : tr (oB ci fs) := by
  refine ⟨fun fs' e => ?_, fun n f => ⟨fun e => (by cases e), fun e => (by cases e)⟩⟩
  have e1 : ci = 118 := by injection e with e; injection e with e; injection e with e; exact congrArg Prod.fst e
  subst e1
  cases h
theorem tr_i {kd n : Nat} {f : Int → Int} (h : kd < 11) : tr (aI kd n f) := by
  refine ⟨fun fs' e => (by cases e), fun n' f' => ⟨fun e => ?_, fun e => ?_⟩⟩
  · injection e with e
    have : kd = 11 := congrArg Prod.fst e
    omega
  · injection e with e
    have : kd = 12 := congrArg Prod.fst e
    omega
theorem tr_j {n : Nat} {f : Int → Int} : tr (aJ n f) := ⟨fun _ e => (by cases e), fun _ _ => ⟨fun e => (by cases e), fun e => (by cases e)⟩⟩
theorem tr_r {kd n : Nat} {f : Int → Option Nat} : tr (aR kd n f) := ⟨fun _ e => (by cases e), fun _ _ => ⟨fun e => (by cases e), fun e => (by cases e)⟩⟩
/-- the heap H holds the world G -/
def Rp (z : Zt) (G : Wd) (H : Heap) : Prop :=
  ((zs z).heap.size ≤ H.size ∧ (∀ q : Nat, q < (zs z).heap.size → H[q]? = (zs z).heap[q]?) ∧ G 0 = zR z) ∧
  ∃ ws : va_W, va_P (zD z) qCl ws H ∧ va_D (zA z) ws ∧ (∀ r a e, r ≠ 0 → G r a = some e → ∃ k : Nat, ws[k]? = some (a, qE (zK z) e)) ∧
    (∀ r r' a e e', r ≠ 0 → r' ≠ 0 → G r a = some e → G r' a = some e' → r = r')
theorem Rp.at {z : Zt} {G : Wd} {H : Heap} (hz : Zok z) (h : Rp z G H) {r a : Nat} {e : QE} (ht : tr e) (he : G r a = some e) : va_at (zD z) qCl (a, qE (zK z) e) H := by
  obtain ⟨⟨h0, h1, h2⟩, ws, hP, hD, hw, -⟩ := h
  by_cases hr : r = 0
  · subst hr
    rw [h2] at he
    rcases (hz.2.2.2.2.1 a e he).2 with ⟨b, e1, -⟩ | ⟨n, f, e1, -⟩ | ⟨n, f, e1, -⟩
    · exact absurd e1 (ht.1 _)
    · exact absurd e1 (ht.2 _ _).1
    · exact absurd e1 (ht.2 _ _).2
  · obtain ⟨k, hk⟩ := hw r a e hr he
    exact hP k _ hk
theorem Rp.one {z : Zt} {G : Wd} {H : Heap} (hz : Zok z) (h : Rp z G H) {r a : Nat} {e : QE} (ht : tr e) (he : G r a = some e) : va_P (zD z) qCl [(a, qE (zK z) e)] H := by
  intro k q hk
  have h1 := Rp.at hz h ht he
  cases k with
  | zero => cases hk; exact h1
  | succ k => cases hk
theorem Rp.lt {z : Zt} {G : Wd} {H : Heap} (hz : Zok z) (h : Rp z G H) {r a : Nat} {e : QE} (he : G r a = some e) : a < H.size := by
  obtain ⟨⟨h0, h1, h2⟩, ws, hP, hD, hw, -⟩ := h
  by_cases hr : r = 0
  · subst hr
    rw [h2] at he
    exact Nat.lt_of_lt_of_le (hz.2.2.2.2.1 a e he).1 h0
  · obtain ⟨k, hk⟩ := hw r a e hr he
    exact (hP k _ hk).lt
/-- a cell is written -/
theorem Rp.set {z : Zt} {G : Wd} {H1 : Heap} {r a k : Nat} {e : QE} {ws : va_W} {E1 : va_E} (hr : r ≠ 0) (hg : G 0 = zR z)
    (hz1 : (zs z).heap.size ≤ H1.size ∧ ∀ q : Nat, q < (zs z).heap.size → H1[q]? = (zs z).heap[q]?)
    (hw : ∀ r a e, r ≠ 0 → G r a = some e → ∃ k : Nat, ws[k]? = some (a, qE (zK z) e)) (hd : ∀ r r' a e e', r ≠ 0 → r' ≠ 0 → G r a = some e → G r' a = some e' → r = r')
    {e0 : QE} (h0 : G r a = some e0) (hk : ws[k]? = some (a, qE (zK z) e0)) (hE : E1 = qE (zK z) e)
    (hP : va_P (zD z) qCl (ws.set k (a, E1)) H1) (hD0 : va_D (zA z) ws) (hD : va_D (zA z) (ws.set k (a, E1))) : Rp z (wset G r a e) H1 := by
  subst hE
  have key : ∀ r' a' e', wset G r a e r' a' = some e' → (r' = r ∧ a' = a ∧ e' = e) ∨ (G r' a' = some e' ∧ ¬ (r' = r ∧ a' = a)) := by
    intro r' a' e' h
    unfold wset va_up at h
    by_cases h1 : r' = r
    · rw [if_pos h1] at h
      by_cases h2 : a' = a
      · rw [if_pos h2] at h
        exact Or.inl ⟨h1, h2, (Option.some.inj h).symm⟩
      · rw [if_neg h2] at h
        exact Or.inr ⟨by rw [h1]; exact h, fun q => h2 q.2⟩
    · rw [if_neg h1] at h
      exact Or.inr ⟨h, fun q => h1 q.1⟩
  have hl := (List.getElem?_eq_some_iff.mp hk).1
  refine ⟨⟨hz1.1, hz1.2, ?_⟩, _, hP, hD, fun r' a' e' hr' h => ?_, fun r1 r2 a' e1 e2 n1 n2 h1 h2 => ?_⟩
  · unfold wset va_up
    rw [if_neg (fun q => hr q.symm)]
    exact hg
  · rcases key r' a' e' h with ⟨-, rfl, rfl⟩ | ⟨h1, h2⟩
    · exact ⟨k, by rw [List.getElem?_set_self hl]⟩
    · obtain ⟨j, hj⟩ := hw r' a' e' hr' h1
      refine ⟨j, ?_⟩
      rw [List.getElem?_set_ne]
      · exact hj
      · rintro rfl
        have e1 := Option.some.inj (hk.symm.trans hj)
        have e2 : a = a' := congrArg Prod.fst e1
        subst e2
        exact h2 ⟨hd _ _ _ _ _ hr' hr h1 h0, rfl⟩
  · rcases key _ _ _ h1 with ⟨rfl, rfl, rfl⟩ | ⟨g1, g2⟩ <;> rcases key _ _ _ h2 with ⟨rfl, q2, rfl⟩ | ⟨k1, k2⟩
    · rfl
    · exact hd _ _ _ _ _ n1 n2 h0 k1
    · subst q2; exact hd _ _ _ _ _ n1 n2 g1 h0
    · exact hd _ _ _ _ _ n1 n2 g1 k1
/-- no region has the address -/
def fr (G : Wd) (a : Nat) : Prop := ∀ r, G r a = none
/-- a cell is made -/
theorem Rp.push {z : Zt} {G : Wd} {H1 : Heap} {r a : Nat} {e : QE} {ws : va_W} {E1 : va_E} (hz : Zok z) (hr : r ≠ 0) (hg : G 0 = zR z)
    (hz1 : (zs z).heap.size ≤ H1.size ∧ ∀ q : Nat, q < (zs z).heap.size → H1[q]? = (zs z).heap[q]?)
    (hw : ∀ r a e, r ≠ 0 → G r a = some e → ∃ k : Nat, ws[k]? = some (a, qE (zK z) e)) (hd : ∀ r r' a e e', r ≠ 0 → r' ≠ 0 → G r a = some e → G r' a = some e' → r = r')
    (hE : E1 = qE (zK z) e) (hP : va_P (zD z) qCl (ws ++ [(a, E1)]) H1) (hD : va_D (zA z) (ws ++ [(a, E1)])) : fr G a ∧ Rp z (wset G r a e) H1 := by
  subst hE
  have hlast : (ws ++ [(a, qE (zK z) e)])[ws.length]? = some (a, qE (zK z) e) := by simp
  have hfr : fr G a := by
    intro r'
    cases h : G r' a with
    | none => rfl
    | some e' =>
      exfalso
      by_cases h0 : r' = 0
      · subst h0
        rw [hg] at h
        have g1 := (hz.2.2.2.2.1 a e' h).1
        have g2 : (zs z).heap.size ≤ a := hD.2 _ _ hlast
        omega
      · obtain ⟨k, hk⟩ := hw r' a e' h0 h
        have hl := (List.getElem?_eq_some_iff.mp hk).1
        have h1 : (ws ++ [(a, qE (zK z) e)])[k]? = some (a, qE (zK z) e') := by rw [List.getElem?_append_left hl]; exact hk
        have := hD.1 _ _ _ _ h1 hlast rfl
        omega
  have key : ∀ r' a' e', wset G r a e r' a' = some e' → (r' = r ∧ a' = a ∧ e' = e) ∨ (G r' a' = some e' ∧ ¬ a' = a) := by
    intro r' a' e' h
    unfold wset va_up at h
    by_cases h1 : r' = r
    · rw [if_pos h1] at h
      by_cases h2 : a' = a
      · rw [if_pos h2] at h
        exact Or.inl ⟨h1, h2, (Option.some.inj h).symm⟩
      · rw [if_neg h2] at h
        exact Or.inr ⟨by rw [h1]; exact h, h2⟩
    · rw [if_neg h1] at h
      refine Or.inr ⟨h, ?_⟩
      rintro rfl
      rw [hfr r'] at h
      cases h
  refine ⟨hfr, ⟨hz1.1, hz1.2, ?_⟩, _, hP, hD, fun r' a' e' hr' h => ?_, fun r1 r2 a' e1 e2 n1 n2 h1 h2 => ?_⟩
  · unfold wset va_up
    rw [if_neg (fun q => hr q.symm)]
    exact hg
  · rcases key r' a' e' h with ⟨-, rfl, rfl⟩ | ⟨h1, h2⟩
    · exact ⟨_, hlast⟩
    · obtain ⟨j, hj⟩ := hw r' a' e' hr' h1
      exact ⟨j, by rw [List.getElem?_append_left (List.getElem?_eq_some_iff.mp hj).1]; exact hj⟩
  · rcases key _ _ _ h1 with ⟨rfl, rfl, rfl⟩ | ⟨g1, g2⟩ <;> rcases key _ _ _ h2 with ⟨rfl, q2, rfl⟩ | ⟨k1, k2⟩
    · rfl
    · exact absurd rfl k2
    · exact absurd q2 g2
    · exact hd _ _ _ _ _ n1 n2 g1 k1
/-! locals: by slots -/
def lvs : Nat → List (Option Value) → List (Nat × Value)
  | _, [] => []
  | i, none :: t => lvs (i + 1) t
  | i, some v :: t => (i, v) :: lvs (i + 1) t
theorem lvs_mem : ∀ (L : List (Option Value)) (i : Nat) (q : Nat × Value), q ∈ lvs i L ↔ ∃ k, q.1 = i + k ∧ L[k]? = some (some q.2)
  | [], i, q => by simp [lvs]
  | none :: t, i, q => by
    rw [lvs, lvs_mem t (i + 1) q]
    constructor
    · rintro ⟨k, h1, h2⟩; exact ⟨k + 1, by omega, by simpa using h2⟩
    · rintro ⟨k, h1, h2⟩
      cases k with
      | zero => simp at h2
      | succ k => exact ⟨k, by omega, by simpa using h2⟩
  | some v :: t, i, q => by
    rw [lvs, List.mem_cons, lvs_mem t (i + 1) q]
    constructor
    · rintro (h | ⟨k, h1, h2⟩)
      · subst h; exact ⟨0, by simp, by simp⟩
      · exact ⟨k + 1, by omega, by simpa using h2⟩
    · rintro ⟨k, h1, h2⟩
      cases k with
      | zero => left; simp at h2; simp at h1; exact Prod.ext (by omega) (by rw [h2])
      | succ k => right; exact ⟨k, by omega, by simpa using h2⟩
def lh (ls : Array Slot) (nL : Nat) (L : List (Option Value)) : Prop := lv_has ls nL (lvs 0 L)
theorem lh.at {ls : Array Slot} {nL : Nat} {L : List (Option Value)} (h : lh ls nL L) {i : Nat} {v : Value} (hv : L[i]? = some (some v)) : ls[i]? = some (.val v) :=
  h.2.2 (i, v) ((lvs_mem L 0 (i, v)).mpr ⟨i, by simp, hv⟩)
def cat1 (o : Option Value) : Prop := ∀ v, o = some v → v.category = 1
theorem vI_cat (x : Int) : (vI x).category = 1 := rfl
theorem vJ_cat (x : Int) : (vJ x).category = 2 := rfl
theorem vR_cat (r : Option Nat) : (vR r).category = 1 := by cases r <;> rfl
theorem cI {x : Int} : cat1 (some (vI x)) := fun v h => by cases h; rfl
theorem cR {r : Option Nat} : cat1 (some (vR r)) := fun v h => by cases h; exact vR_cat r
theorem cN : cat1 none := fun v h => by cases h
def pred1 (L : List (Option Value)) (i : Nat) : Option Value := match i with | 0 => none | i + 1 => (L[i]?).getD none
theorem lh.set1 {ls' : Array Slot} {nL : Nat} {L : List (Option Value)} {i : Nat} {v : Value} (hc : cat1 (pred1 L i))
    (h : lv_has ls' nL ((i, v) :: (lvs 0 L).filter (fun q => !(q.1 == i) && !(q.1 + 1 == i && q.2.category == 2)))) : lh ls' nL (L.set i (some v)) := by
  refine ⟨h.1, h.2.1, fun q hq => h.2.2 q ?_⟩
  obtain ⟨k, h1, h2⟩ := (lvs_mem _ _ _).mp hq
  rw [Nat.zero_add] at h1
  rw [List.getElem?_set] at h2
  split at h2
  · rename_i hik
    split at h2
    · have := Option.some.inj (Option.some.inj h2)
      rw [List.mem_cons]; left; exact Prod.ext (by omega) this.symm
    · cases h2
  · rename_i hik
    refine List.mem_cons_of_mem _ (List.mem_filter.mpr ⟨(lvs_mem _ _ _).mpr ⟨k, by omega, h2⟩, ?_⟩)
    have g1 : (q.1 == i) = false := by simp; omega
    have g2 : (q.1 + 1 == i && q.2.category == 2) = false := by
      by_cases hh : q.1 + 1 = i
      · have : q.2.category = 1 := by
          refine hc q.2 ?_
          subst hh
          simp only [pred1]
          rw [h1, h2]; rfl
        simp [this]
      · simp [hh]
    rw [g1, g2]; rfl
theorem lh.set2 {ls' : Array Slot} {nL : Nat} {L : List (Option Value)} {i : Nat} {v : Value} (hc : cat1 (pred1 L i))
    (h : lv_has ls' nL ((i, v) :: (lvs 0 L).filter (fun q => !(q.1 == i) && (!(q.1 == i + 1) && !(q.1 + 1 == i && q.2.category == 2))))) : lh ls' nL ((L.set i (some v)).set (i + 1) none) := by
  refine ⟨h.1, h.2.1, fun q hq => h.2.2 q ?_⟩
  obtain ⟨k, h1, h2⟩ := (lvs_mem _ _ _).mp hq
  rw [Nat.zero_add] at h1
  rw [List.getElem?_set] at h2
  split at h2
  · split at h2 <;> cases h2
  · rename_i hk1
    rw [List.getElem?_set] at h2
    split at h2
    · rename_i hik
      split at h2
      · have := Option.some.inj (Option.some.inj h2)
        rw [List.mem_cons]; left; exact Prod.ext (by omega) this.symm
      · cases h2
    · rename_i hik
      refine List.mem_cons_of_mem _ (List.mem_filter.mpr ⟨(lvs_mem _ _ _).mpr ⟨k, by omega, h2⟩, ?_⟩)
      have g1 : (q.1 == i) = false := by simp; omega
      have g3 : (q.1 == i + 1) = false := by simp; omega
      have g2 : (q.1 + 1 == i && q.2.category == 2) = false := by
        by_cases hh : q.1 + 1 = i
        · have : q.2.category = 1 := by
            refine hc q.2 ?_
            subst hh
            simp only [pred1]
            rw [h1, h2]; rfl
          simp [this]
        · simp [hh]
      rw [g1, g2, g3]; rfl
theorem lh.sub {ls : Array Slot} {nL : Nat} {L : List (Option Value)} (h : lh ls nL L) (L' : List (Option Value)) (hs : ∀ (k : Nat) (v : Value), L'[k]? = some (some v) → L[k]? = some (some v)) : lh ls nL L' := by
  refine ⟨h.1, h.2.1, fun q hq => ?_⟩
  obtain ⟨k, h1, h2⟩ := (lvs_mem _ _ _).mp hq
  rw [Nat.zero_add] at h1
  rw [h1]
  exact lh.at h (hs k _ h2)
