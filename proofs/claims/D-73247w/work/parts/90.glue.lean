/-! GLUE: the claim out of f_L_law (the last rows are the SKELETON's, a starting text) -/
set_option maxRecDepth 100000
def R_law : String := "QueueDriveLaw"
def lw_P (b : Addr) (xs : List Int32) (args : Array Value) (s : State) : Prop := args = #[.ref b] ∧ s.IntsAt b xs ∧ xs.length ≤ 320 ∧ (Jvm.Cond.and given_1 narrow_1).before args s = true
def lw_Q (_ : Array Value) (s : State) (o : Outcome) (t : State) : Prop := o = .returned (some (.int 1)) ∧ Framed s o t [] 603072 7096426
def lw_Z (below : List Frame) (a : Array Value) (s : State) : State → Prop := fun t => ∃ o, t.status = .running ∧ Ended t below o ∧ lw_Q a s o t
def lw_At (p : Program) (s : State) (m : MethodId) (meth : Method) (c : Code) (b L : Nat) (xs : Nat → Int32) : Prop :=
  p.tables.exec = Jvm.exec ∧ c.code = code ∧ meth.sig.returnType = ret ∧ c.maxLocals = 8 ∧ s.vm.findClass R_law = some m.cls ∧ (∀ w ∈ lw_tbl, w.before #[Value.ref b] s = true) ∧ va_X b L xs s s.heap ∧ b < s.heap.size ∧ meth.locks = false ∧ (Jvm.Cond.and given_1 narrow_1).before #[Value.ref b] s = true ∧ c.exceptionTable.toList = [] ∧ meth.name = "law"
/-- the world at the law's start -/
def G00 (R0 : Nat → Option QE) : Wd := fun r => if r = 0 then R0 else fun _ => none
/-- what is left to show, in plain Lean -/
def LawOK : Prop := ∀ (b L : Nat) (f : Int → Int) (R0 : Nat → Option QE), L ≤ 320 → (∀ i, R32 (f i)) → R0 b = some (aI 12 L f) → f_L_law 603072 7096426 b (G00 R0) (fun r _ => r = true)
/-! the classes -/
theorem gl_classes {s : State} {b : Nat} (ht : ∀ w ∈ lw_tbl, w.before #[Value.ref b] s = true) : ∃ D : va_G, ∀ (c : Nat) (q : vw_C), qCl[c]? = some q → u_Kn s q.1 q.2.1 q.2.2 (D.1 c) (D.2 c) := by
  have key : ∀ (C : String) (T : u_T) (N n : Nat), (∀ w ∈ u_ws C T N, w ∈ lw_all) → Cond.instantiable C n ∈ lw_all → ∃ q : ClassId × (Nat → Nat), u_Kn s C T N q.1 q.2 := by
    intro C T N n h1 h2
    obtain ⟨c, i, h⟩ := u_known (n := n) ht (fun w h => lw_all_tbl (h1 w h)) (ht _ (lw_all_tbl h2))
    exact ⟨(c, i), h⟩
  have h0 : ∀ c : Nat, ∃ x : ClassId × (Nat → Nat), ∀ q : vw_C, qCl[c]? = some q → u_Kn s q.1 q.2.1 q.2.2 x.1 x.2 := by
    intro c
    match c with
    | 0 => obtain ⟨x, h⟩ := key RX1 TX1 22 22 in_X1 q137; exact ⟨x, fun q hq => by cases hq; exact h⟩
    | 1 => obtain ⟨x, h⟩ := key RX2 TX2 15 15 in_X2 q145; exact ⟨x, fun q hq => by cases hq; exact h⟩
    | 2 => obtain ⟨x, h⟩ := key RX3 TX3 17 17 in_X3 q185; exact ⟨x, fun q hq => by cases hq; exact h⟩
    | 3 => obtain ⟨x, h⟩ := key RX4 TX4 45 45 in_X4 q2143; exact ⟨x, fun q hq => by cases hq; exact h⟩
    | 4 => obtain ⟨x, h⟩ := key RX5 TX5 4 4 in_X5 q789; exact ⟨x, fun q hq => by cases hq; exact h⟩
    | 5 => obtain ⟨x, h⟩ := key RX6 TF6 1 7 in_F6 q838; exact ⟨x, fun q hq => by cases hq; exact h⟩
    | 6 => obtain ⟨x, h⟩ := key RX7 TX7 7 7 in_X7 q945; exact ⟨x, fun q hq => by cases hq; exact h⟩
    | 7 => obtain ⟨x, h⟩ := key RX8 TX8 6 6 in_X8 q1453; exact ⟨x, fun q hq => by cases hq; exact h⟩
    | 8 => obtain ⟨x, h⟩ := key RX9 TX9 3 3 in_X9 q1538; exact ⟨x, fun q hq => by cases hq; exact h⟩
    | 9 => obtain ⟨x, h⟩ := key RX10 TX10 4 4 in_X10 q1567; exact ⟨x, fun q hq => by cases hq; exact h⟩
    | 10 => obtain ⟨x, h⟩ := key RX11 TX11 3 3 in_X11 q1603; exact ⟨x, fun q hq => by cases hq; exact h⟩
    | 11 => obtain ⟨x, h⟩ := key RX12 TX12 10 10 in_X12 q1867; exact ⟨x, fun q hq => by cases hq; exact h⟩
    | 12 => obtain ⟨x, h⟩ := key RJ3 TJ3 4 4 in_J3 q153; exact ⟨x, fun q hq => by cases hq; exact h⟩
    | 13 => obtain ⟨x, h⟩ := key RJ4 TJ4 3 3 in_J4 q191; exact ⟨x, fun q hq => by cases hq; exact h⟩
    | 14 => obtain ⟨x, h⟩ := key RJ5 TJ5 3 3 in_J5 q212; exact ⟨x, fun q hq => by cases hq; exact h⟩
    | 15 => obtain ⟨x, h⟩ := key RJ23 TJ23 4 4 in_J23 q1089; exact ⟨x, fun q hq => by cases hq; exact h⟩
    | 16 => obtain ⟨x, h⟩ := key RJ25 TJ25 5 5 in_J25 q1367; exact ⟨x, fun q hq => by cases hq; exact h⟩
    | 17 => obtain ⟨x, h⟩ := key RJ26 TJ26 3 3 in_J26 q1404; exact ⟨x, fun q hq => by cases hq; exact h⟩
    | c + 18 => exact ⟨(default, fun _ => 0), fun q hq => by simp [qCl] at hq⟩
  obtain ⟨D, hD⟩ := Classical.axiomOfChoice h0
  exact ⟨(fun c => (D c).1, fun c => (D c).2), fun c q hq => hD c q hq⟩
theorem gl_prim {s : State} {args : Array Value} {ty : FieldType} (hne : ∀ C, ty ≠ .object C) (h : (Cond.arrayClass ty).before args s = true) : ∃ cA : ClassId, ArrOfT s cA ty ∧ va_RA s cA ty := by
  obtain ⟨c, k, comp, h1, h2, h3⟩ := Cond.arrayClass_spec h
  refine ⟨c, fun n z => ⟨fun k h => (by cases h), k, h2, comp, h3⟩, ?_⟩
  cases ty with
  | object C => exact absurd rfl (hne C)
  | _ => exact h1
theorem gl_obj {s : State} {args : Array Value} {C : String} (h : (Cond.arrayOver (.object C)).before args s = true) : ∃ cA : ClassId, ArrOfT s cA (.object C) ∧ va_RA s cA (.object C) := by
  obtain ⟨comp, c, k, h1, h2, h3, h4, h5⟩ := Cond.arrayOver_spec h
  exact ⟨c, fun n z => ⟨fun k h => (by cases h), k, h3, comp, h4⟩, k, comp, h3, h4, h1, h5⟩
theorem gl_arrays {s : State} {b : Nat} (ht : ∀ w ∈ lw_tbl, w.before #[Value.ref b] s = true) : ∃ K : Nat → ClassId, ∀ (k : Nat) (q : ClassId × FieldType), (tyK K)[k]? = some q → ArrOfT s q.1 q.2 ∧ va_RA s q.1 q.2 := by
  have hp : ∀ ty, (∀ C, ty ≠ .object C) → Cond.arrayClass ty ∈ lw_tbl → ∃ cA : ClassId, ArrOfT s cA ty ∧ va_RA s cA ty := fun ty h1 h2 => gl_prim h1 (ht _ h2)
  have ho : ∀ C, Cond.arrayOver (.object C) ∈ lw_tbl → ∃ cA : ClassId, ArrOfT s cA (.object C) ∧ va_RA s cA (.object C) := fun C h2 => gl_obj (ht _ h2)
  obtain ⟨k0, a0⟩ := hp .int (fun C h => (by cases h)) (by decide +kernel)
  obtain ⟨k1, a1⟩ := hp .byte (fun C h => (by cases h)) (by decide +kernel)
  obtain ⟨k2, a2⟩ := hp .boolean (fun C h => (by cases h)) (by decide +kernel)
  obtain ⟨k3, a3⟩ := hp .char (fun C h => (by cases h)) (by decide +kernel)
  obtain ⟨k4, a4⟩ := hp .short (fun C h => (by cases h)) (by decide +kernel)
  obtain ⟨k5, a5⟩ := hp .long (fun C h => (by cases h)) (by decide +kernel)
  obtain ⟨k6, a6⟩ := ho "QueueDrive$Drive" (by decide +kernel)
  obtain ⟨k7, a7⟩ := ho "QueueDrive$Line" (by decide +kernel)
  obtain ⟨k8, a8⟩ := ho "QueueDrive$Command" (by decide +kernel)
  obtain ⟨k9, a9⟩ := ho "java/lang/Object" (by decide +kernel)
  refine ⟨fun k => [k0, k1, k2, k3, k4, k5, k6, k7, k8, k9].getD k k0, fun k q hq => ?_⟩
  match k with
  | 0 => cases hq; exact a0
  | 1 => cases hq; exact a1
  | 2 => cases hq; exact a2
  | 3 => cases hq; exact a3
  | 4 => cases hq; exact a4
  | 5 => cases hq; exact a5
  | 6 => cases hq; exact a6
  | 7 => cases hq; exact a7
  | 8 => cases hq; exact a8
  | 9 => cases hq; exact a9
  | k + 10 => simp [tyK] at hq
/-! the Strings -/
def gl_need (own : String) (k : Nat) (bs : List Int) : List Cond :=
  [Cond.exactly (.string own k) "java/lang/String", Cond.eq (.field (.string own k) "java/lang/String" "coder" "B") (.int 0), Cond.arrayOf (.field (.string own k) "java/lang/String" "value" "[B") .byte, Cond.eq (.length (.field (.string own k) "java/lang/String" "value" "[B")) (.int (Int32.ofNat bs.length))] ++
    (List.range bs.length).map (fun j => Cond.eq (.elem (.field (.string own k) "java/lang/String" "value" "[B") (.int (Int32.ofNat j))) (.int ((bs.map Int32.ofInt).getD j 0)))
def gl_at : List Nat := [463, 494, 508, 524, 537, 550, 564, 581, 472]
theorem gl_needs0 : ∀ q ∈ strs, ∃ i ∈ gl_at, gl_need q.1 q.2.1 q.2.2.2 = ((flatC (Jvm.Cond.and given_1 narrow_1)).drop i).take (4 + q.2.2.2.length) := by decide +kernel
theorem gl_needs : ∀ q ∈ strs, ∀ w ∈ gl_need q.1 q.2.1 q.2.2.2, w ∈ flatC (Jvm.Cond.and given_1 narrow_1) := by
  intro q hq w hw
  obtain ⟨i, -, e⟩ := gl_needs0 q hq
  rw [e] at hw
  exact List.mem_of_mem_drop (List.mem_of_mem_take hw)
theorem gl_refs : ∀ q ∈ strs, Cond.stringRef q.1 q.2.1 q.2.2.1 ∈ lw_tbl := by decide +kernel
def gl_S (s : State) (a v : Nat) (bs : List Int) : Prop :=
  va_O "java/lang/String" a (fun q => s.heap.size ≤ q) s s.heap ∧ va_OF "java/lang/String" "coder" "B" (.int 0) a (fun q => s.heap.size ≤ q) s s.heap ∧ va_OF "java/lang/String" "value" "[B" (.ref v) a (fun q => s.heap.size ≤ q) s s.heap ∧
    va_T .byte v bs.length (fun j => .int (Int32.ofInt (bytesOf bs j))) (fun q => s.heap.size ≤ q) s s.heap
theorem gl_map (bs : List Int) (j : Nat) (hj : j < bs.length) : (bs.map Int32.ofInt).getD j 0 = Int32.ofInt (bytesOf bs j) := by
  unfold bytesOf
  simp [List.getD, hj]
theorem gl_one {s : State} {args : Array Value} {own : String} {k : Nat} {bs : List Int} (hl : bs.length < 2 ^ 31) (h : ∀ w ∈ gl_need own k bs, w.before args s = true) : ∃ a v, (Term.string own k).eval args s none [] s = some (.ref a) ∧ gl_S s a v bs := by
  have hm : ∀ w, w ∈ gl_need own k bs → w.before args s = true := h
  obtain ⟨adK, adV, ⟨h1, -⟩, h2⟩ := vk_Sof (args := args) (s := s) (N := 1) (tm := fun _ => .string own k) (len := [bs.length]) (byt := [bs.map Int32.ofInt]) (A := fun q => s.heap.size ≤ q)
    (fun i hi => by cases (show i = 0 by omega); exact hl) (fun i hi => hm _ (by simp [gl_need])) (fun i hi => hm _ (by simp [gl_need])) (fun i hi => hm _ (by simp [gl_need]))
    (fun i hi => by cases (show i = 0 by omega); exact hm _ (by simp [gl_need])) (fun i hi j hj => by
      cases (show i = 0 by omega)
      exact hm _ (List.mem_append_right _ (List.mem_map.mpr ⟨j, List.mem_range.mpr hj, rfl⟩)))
    (fun i j hi hj hij => absurd (show i = j by omega) hij) (fun a ha => Nat.not_le.mpr ha)
  obtain ⟨g1, g2, g3, cell, g4, g5, g6, g7, g8, g9, g10⟩ := h1 0 (by decide)
  exact ⟨adK 0, adV 0, h2 0 (by decide), g1, g2, g3, cell, g4, g5, g6, g7, g8, fun j hj => by rw [g9 j hj]; exact congrArg some (congrArg Value.int (gl_map bs j hj)), g10⟩
theorem gl_bs : ∀ p ∈ strs, ∀ q ∈ strs, p.2.2.2.length = q.2.2.2.length → (∀ j, j < p.2.2.2.length → Int32.ofInt (bytesOf p.2.2.2 j) = Int32.ofInt (bytesOf q.2.2.2 j)) → p.2.2.2 = q.2.2.2 := by decide +kernel
theorem gl_len : ∀ p ∈ strs, p.2.2.2.length < 256 := by decide +kernel
