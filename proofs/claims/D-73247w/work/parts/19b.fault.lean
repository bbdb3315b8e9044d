/-! A FAULT IS MADE AND THROWN -/
set_option maxRecDepth 100000
/-- as Rp, and no cell of the world lies at a -/
def Rq (z : Zt) (G : Wd) (H : Heap) (a : Nat) : Prop :=
  ((zs z).heap.size ≤ H.size ∧ (∀ q : Nat, q < (zs z).heap.size → H[q]? = (zs z).heap[q]?) ∧ G 0 = zR z) ∧
  ∃ ws : va_W, va_P (zD z) qCl ws H ∧ va_D (zA z) ws ∧ (∀ r a e, r ≠ 0 → G r a = some e → ∃ k : Nat, ws[k]? = some (a, qE (zK z) e)) ∧
    (∀ r r' a e e', r ≠ 0 → r' ≠ 0 → G r a = some e → G r' a = some e' → r = r') ∧ ∀ (k : Nat) (q : Nat × va_E), ws[k]? = some q → q.1 ≠ a
theorem Rq.rp {z : Zt} {G : Wd} {H : Heap} {a : Nat} (h : Rq z G H a) : Rp z G H := by
  obtain ⟨h0, ws, h1, h2, h3, h4, -⟩ := h
  exact ⟨h0, ws, h1, h2, h3, h4⟩
/-- an untracked cell is made -/
theorem Rp.new {z : Zt} {G : Wd} {H : Heap} (h : Rp z G H) (x : Cell) : Rq z G (H.push x) H.size := by
  obtain ⟨⟨p0, p1, p2⟩, ws, w1, w2, w3, w4⟩ := h
  have hk : ∀ q : Nat, q < H.size → (H.push x)[q]? = H[q]? := fun q hq => by rw [Array.getElem?_push, if_neg (by omega)]
  refine ⟨⟨by rw [Array.size_push]; omega, fun q hq => ?_, p2⟩, ws, fun k q hq => (w1 k q hq).kept (hk _ (w1 k q hq).lt), w2, w3, w4, fun k q hq e => ?_⟩
  · rw [hk q (by omega)]; exact p1 q hq
  · have := (w1 k q hq).lt
    omega
/-- the cell at a comes into the world -/
theorem Rq.put {z : Zt} {G : Wd} {H H1 : Heap} {a r : Nat} {e : QE} (hz : Zok z) (h : Rq z G H a) (hr : r ≠ 0) (ha : (zs z).heap.size ≤ a) (hs : H1.size = H.size) (hk : ∀ q : Nat, q ≠ a → H1[q]? = H[q]?) (he : va_at (zD z) qCl (a, qE (zK z) e) H1) : fr G a ∧ Rp z (wset G r a e) H1 := by
  obtain ⟨⟨p0, p1, p2⟩, ws, w1, w2, w3, w4, w5⟩ := h
  have hP : va_P (zD z) qCl (ws ++ [(a, qE (zK z) e)]) H1 := va_P.app (fun k q hq => (w1 k q hq).kept (hk _ (w5 k q hq))) (fun k q hq => by
    cases k with
    | zero => cases hq; exact he
    | succ k => cases hq)
  have hD : va_D (zA z) (ws ++ [(a, qE (zK z) e)]) := va_D.app w2 ⟨fun i j p q hi hj _ => by
    have := (List.getElem?_eq_some_iff.mp hi).1; have := (List.getElem?_eq_some_iff.mp hj).1; simp at *; omega, fun k q hq => by
    cases k with
    | zero => cases hq; exact ha
    | succ k => cases hq⟩ (fun i j p q hp hq e => by
    cases j with
    | zero => cases hq; exact w5 i p hp e
    | succ j => cases hq)
  exact Rp.push hz hr p2 ⟨by rw [hs]; exact p0, fun q hq => by rw [hk q (by omega)]; exact p1 q hq⟩ w3 w4 rfl hP hD
theorem zT {z : Zt} (hz : Zok z) : z.1.stackTraces = false := by
  unfold Launch.stackTraces
  rw [hz.1]
  decide +kernel
abbrev m_X6_init : Mt := (yX6_init.cls, cX6_init, 2, none, [], yX6_init.name)
theorem yo_X6_init : yOK yX6_init 1 := ⟨by decide +kernel, by decide +kernel, by decide +kernel⟩
theorem fault_rest {G : Wd} {r a : Nat} {x : Int} (hr : r ≠ 0) : wp m_X6_init 8 0 0 4 [some (vR (some a)), some (vI x)] [] (wset G r a (oB 5 [vI 0])) (qV (fun G' => G' = wset (wset G r a (oB 5 [vI 0])) r a (oB 5 [vI x]))) noX := by
  refine r_aload_n dX6_init_4 rfl rfl iR ?_
  refine r_iload_n dX6_init_5 rfl rfl iI ?_
  refine r_put (K := fun G' => G' = wset (wset G r a (oB 5 [vI 0])) r a (oB 5 [vI x])) dX6_init_6 (fp1F (f := 0) fX6 (by decide) q850 rfl rfl rfl rfl) fvI ⟨r, 5, [vI 0], hr, wset_at, List.mem_singleton_self _, by decide, rfl⟩ (fun G' h => ?_)
  exact r_vret rfl dX6_init_9 ⟨rfl, h⟩
theorem fault_init {z : Zt} (hz : Zok z) {a : Nat} {x : Int} {G : Wd} {r : Nat} (hr : r ≠ 0) (ha : (zs z).heap.size ≤ a) : vx_Met z.1 yX6_init (ws_ yX6_init cX6_init 2 none) { frames := 8, cells := 0, slots := 0, locals := 64 * 8 }
    (va_Pc [.ref a, vI x] (fun U => (zs z).WarmedH U.vm ∧ Rq z G U.heap a ∧ ∃ cX kX, U.vm.findClass RX6 = some cX ∧ U.vm.classes[cX]? = some kX ∧ kX.kind = .ordinary ∧ U.heap[a]? = some (freshCell cX kX)))
    (qQ z (qV (fun G' => G' = wset (wset G r a (oB 5 [vI 0])) r a (oB 5 [vI x])))) (qX z noX) 0 0 (zA z) := by
  refine vx_ofW (cc := cX6_init) (maxL := 2) (ret := none) (by decide +kernel) rfl ?_
  intro p e s m args' below meth c s₁ B hml htab hv
  obtain ⟨rfl, hW, hP, cX, kX, h1, h2, h3, h4⟩ := hv
  rw [lg_entry_eq]
  have hl0 : lh ((lg_sl [.ref a, vI x] ++ List.replicate (2 - (lg_sl [.ref a, vI x]).length) Slot.unset).toArray) 2 [some (vR (some a)), some (vI x)] := by
    have := lv_entry [.ref a, vI x] (n := 2) (Nat.le_of_ble_eq_true rfl)
    exact this
  generalize (lg_sl [.ref a, vI x] ++ List.replicate (2 - (lg_sl [.ref a, vI x]).length) Slot.unset).toArray = ls at hl0 ⊢
  refine lv_aload_n B.exec B.bytes dX6_init_0 rfl (hl0.at (i := 0) (v := .ref a) rfl) ?_
  intro T hT X0
  have hown : s.vm.findClass RX6 = some m.cls := findClass_of_methodNamed B.named
  have htr : e.platform.stackTraces = false := (show e.platform.stackTraces = z.1.stackTraces by rw [X0.admits.platform]).trans (zT hz)
  have hold : Old z s := fun q hq => hP.1.2.1 q hq
  have hfat := fault_at (args := (#[Value.ref a, vI x])) hz hW hold
  obtain ⟨vm', ce, L, f1, f2, f3, X1, hL, hc1, hc2, ⟨q1, q2, q3, q4, q5, q6, q7, q8, q9, g1, g2, g3⟩, hsl, stp⟩ := fault_super (a := a) X0 B.exec htr hown hfat h1 h2 h3 (by rw [hT]; exact h4) h4 (g := F0 m 1 ls [.ref a]) rfl (hl0.1.trans hml.symm) (rest := []) rfl (by rw [B.bytes]; exact dX6_init_1) (by show 3 < 8; omega) (by show 2 * 0 + 0 + 54 ≤ 64 * 8; omega)
  have hsz : a < T.heap.size := by rw [hT]; exact (Array.getElem?_eq_some_iff.mp h4).1
  have hH1 : ((T.setVm vm').setCell a ce).heap = T.heap.setIfInBounds a ce := rfl
  have hone : (T.heap.setIfInBounds a ce)[a]? = some ce := by rw [Array.getElem?_setIfInBounds, if_pos rfl, if_pos hsz]
  have hoth : ∀ q : Nat, q ≠ a → (T.heap.setIfInBounds a ce)[q]? = s.heap[q]? := fun q hq => by rw [Array.getElem?_setIfInBounds, if_neg (Ne.symm hq), hT]
  have hkn := (zk hz hW).1 5 (RX6, TF6, 1) rfl
  have hat : va_at (zD z) qCl (a, qE (zK z) (oB 5 [vI 0])) (T.heap.setIfInBounds a ce) := by
    refine ⟨(RX6, TF6, 1), rfl, ce, hone, ?_, hc2, fun k hk => ?_⟩
    · rw [hc1]
      exact Option.some.inj (h1.symm.trans hkn.2.1)
    · have hk0 : k = 0 := by have : k < 1 := hk; omega
      subst hk0
      obtain ⟨cf, kf, fi, fd, hi, hsl0⟩ := hkn.1 0 (Nat.zero_lt_one)
      have hlF : (Cond.laysFinal RX6 "QueueDrive$Fault" "at" "I").before (#[Value.ref a, vI x]) s = true := zw hz hW q852
      have hty := (u_facts h1 h2 (Or.inr hlF) hi).2.2
      have hnm : fd.name = "at" := (State.fieldFound?_type hi (by decide +kernel : parseFieldDescriptor "I" = some .int)).1
      have hft : fd.type = .int := (State.fieldFound?_type hi (by decide +kernel : parseFieldDescriptor "I" = some .int)).2
      have lC : (Cond.lays RX6 Bundle.tN "cause" "Ljava/lang/Throwable;").before (#[Value.ref a, vI x]) s = true := zw hz hW q841
      have lS : (Cond.lays RX6 Bundle.tN "stackTrace" Bundle.steD).before (#[Value.ref a, vI x]) s = true := zw hz hW q842
      have lP : (Cond.lays RX6 Bundle.tN "suppressedExceptions" Bundle.listD).before (#[Value.ref a, vI x]) s = true := zw hz hW q843
      have n1 := u_apart (Or.inr hlF) (Or.inl lC) hi g1 (by rw [hnm, (State.fieldFound?_type g1 (by decide +kernel : parseFieldDescriptor "Ljava/lang/Throwable;" = some (.object "java/lang/Throwable"))).1]; decide)
      have n2 := u_apart (Or.inr hlF) (Or.inl lS) hi g2 (by rw [hnm, (State.fieldFound?_type g2 (by decide +kernel : parseFieldDescriptor Bundle.steD = some (.array (.object "java/lang/StackTraceElement")))).1]; decide)
      have n3 := u_apart (Or.inr hlF) (Or.inl lP) hi g3 (by rw [hnm, (State.fieldFound?_type g3 (by decide +kernel : parseFieldDescriptor Bundle.listD = some (.object "java/util/List"))).1]; decide)
      have hd := fresh_default (c := cX) hty
      rw [← hsl0, hsl _ n1 n2 n3, hd, hft]
      rfl
  obtain ⟨-, hR1⟩ := Rq.put (r := r) (e := oB 5 [vI 0]) (H1 := T.heap.setIfInBounds a ce) hz hP hr ha (by rw [Array.size_setIfInBounds, hT]) hoth hat
  have hS1 : va_S (zA z) s.heap ((T.setVm vm').setCell a ce).heap L := by
    refine ⟨by rw [hH1, Array.size_setIfInBounds, hT]; exact Nat.le_refl _, fun q hq hn => ?_, fun y hy => by rw [hL y hy]; exact ha⟩
    rw [hH1]
    exact hoth q (fun e0 => hn (by rw [e0]; exact ha))
  have hw := fault_rest (G := G) (x := x) (a := a) hr z hz p e (headSpec (ws_ yX6_init cX6_init 2 none) { frames := 8, cells := 0, slots := 0, locals := 64 * 8 }).room s m (#[Value.ref a, vI x]) below meth c ((T.setVm vm').setCell a ce).heap L 0 0 ls ⟨B.exec, B.bytes, B.returns, B.notSynchronized, hml, hown, List.eq_nil_iff_forall_not_mem.mpr (fun x hx => htab x hx), (name_of_methodNamed B.named B.method).1, hW, hP.1.1⟩ ⟨Nat.le_refl _, Nat.le_refl _, Nat.le_refl _, Nat.le_refl _⟩ hR1 hS1 hl0
  obtain ⟨t, a1, b1⟩ := hw _ rfl X1
  exact ⟨t, stp t a1, b1⟩
section
variable {M : Mt} {d k n pc : Nat} {L : List (Option Value)} {st : List Value} {G : Wd} {Q : Qt} {X : Xt}
/-- 'new Fault(at)' in one of the readers: new, dup, aload_0, getfield at, invokespecial -/
def nF (G : Wd) (k n a0 : Nat) (K : Nat → Wd → Prop) : Prop := ∃ r0 ci fs x, (G r0 a0 = some (oB ci fs) ∧ ci ∈ [4, 6, 11] ∧ fs[3]? = some (vI x)) ∧ (1 ≤ k ∧ 7 ≤ n) ∧ ∀ a, fr G a → ∃ r, r ≠ 0 ∧ K a (wset (wset G r a (oB 5 [vI 0])) r a (oB 5 [vI x]))
theorem r_newFault {a0 index ig ic : Nat} {K : Nat → Wd → Prop} (d0 : decode M.2.1 pc = .ok (.new index, 3)) (d1 : decode M.2.1 (pc + 3) = .ok (.dup, 1)) (d2 : decode M.2.1 (pc + 4) = .ok (.aload_n 0, 1)) (d3 : decode M.2.1 (pc + 5) = .ok (.getfield ig, 3)) (d4 : decode M.2.1 (pc + 8) = .ok (.invokespecial ic, 3))
    (w0 : Cond.classLink M.1 index RX6 ∈ lw_all) (w1 : Cond.methodLink M.1 ic yX6_init ∈ lw_all) (hf : fGet M.1 ig [4, 6, 11] 3) (hv : L[0]? = some (some (vR (some a0)))) (hrc : (st.map fun v => v.category).sum ≤ 6) (hd9 : 9 ≤ d)
    (ho : nF G k n a0 K) (h : ∀ a G', K a G' → wp M d (k - 1) (n - 7) (pc + 11) L (vR (some a) :: st) G' Q X) : wp M d k n pc L st G Q X := by
  obtain ⟨r0, ci, fs, x, ⟨f1, f2, f3⟩, ⟨g1, g2⟩, g3⟩ := ho
  intro z hz p e R s m args below meth c H locs cells slots ls cx hR hP hS hl
  have hW := cx.2.2.2.2.2.2.2.2.1
  have hts : ∀ w ∈ lw_all, w.before args s = true := fun w h => zw hz hW h
  refine W.newc (n := 7) (C := RX6) cx.1 cx.2.1 cx.2.2.2.2.2.1 (hts _ w0) (hts _ q838) (hts _ q119) rfl d0 (by have := hR.2.2.1; omega) (by have := hR.2.2.2; omega) (fun cC kC h1 h2 h3 h4 => ?_)
  have hq := hP.new { cls := cC, slots := kC.instanceTypes.map defaultValue, vm := .none }
  have hcell : (H.push ({ cls := cC, slots := kC.instanceTypes.map defaultValue, vm := .none } : Cell))[H.size]? = some (freshCell cC kC) := by rw [Array.getElem?_push, if_pos rfl]
  generalize hH1 : H.push ({ cls := cC, slots := kC.instanceTypes.map defaultValue, vm := .none } : Cell) = H1 at hq hcell ⊢
  have hS1 : va_S (zA z) s.heap H1 locs := by
    refine ⟨by rw [← hH1, Array.size_push]; have := hS.1; omega, fun q hq hn => ?_, hS.2.2⟩
    rw [← hH1, Array.getElem?_push, if_neg (by have := hS.1; omega)]
    exact hS.2.1 q hq hn
  have hbase : (zs z).heap.size ≤ H.size := hP.1.1
  refine lv_dup cx.1 cx.2.1 d1 rfl ?_
  refine lv_aload_n cx.1 cx.2.1 d2 rfl (hl.at (i := 0) (v := .ref a0) hv) ?_
  obtain ⟨C, T, N, ty, ref, ⟨k1, k2, k3, k4⟩, hN, hw, hs⟩ := hf ci f2
  refine va_get (Ts := lw_all) (v := vI x) cx.1 cx.2.1 hts k2 cx.2.2.2.2.2.1 (zk hz hW) (Rp.one hz hq.rp (tr_o k1) f1) 0 rfl k1 3 hN (hts _ hw) ?_ f3 d3 ?_
  · rcases hs with hs | hs
    · intro x hx; rw [← hs]; exact hx
    · exact fun x hx => u_same (hts _ hs) x hx
  have hfr : fr G H.size := fun r => by
    cases hg : G r H.size with
    | none => rfl
    | some e0 => exact absurd (Rp.lt hz hP hg) (Nat.lt_irrefl _)
  obtain ⟨r, hr, hk⟩ := g3 H.size hfr
  have hM := fault_init hz (a := H.size) (x := x) (G := G) hr hbase
  have hrun := vx_runI (e := e) (below := below) (locs := locs) (cells := cells + 1) (slots := slots + 7) (meth := meth) (g := F0 m (pc + 8) ls (vI x :: .ref H.size :: .ref H.size :: st)) (As := [vI x]) (rest := .ref H.size :: st) (R := R) (H := H1) ⟨cx.1, cx.2.1, cx.2.2.2.2.1, cx.2.2.2.2.2.1, hts⟩ hM
    (cwI 1 hts (lw_meth q848) rfl rfl rfl (hts _ q119) (hts _ w1) (hts _ q847) rfl yo_X6_init (rm_ok (n := n) (k := k) hR (d' := 8) (by omega) (by decide))) ⟨fun a U g mk q => q, fun U hU hWU => ⟨rfl, hW.trans hWU, by rw [hU]; exact hq, cC, ?_⟩⟩ rfl rfl hl.1 rfl (lv_room (by rw [List.map_cons, List.sum_cons]; show 1 + _ ≤ 8; omega)) d4 ⟨by have := hR.2.2.1; omega, by have := hR.2.2.2; omega⟩
  · intro T hT X0
    rcases hrun T hT X0 with ⟨v, st₀, t, T', L', h0, X', hL, e1, e2, ⟨v', G', hv', hP', hF, hq'⟩, stp⟩ | ⟨q, st₀, t, T', L', E, ce, h0, X', hL, e1, e2, ⟨G', hP', hF, hq'⟩, hce, hcv, hcl, stp⟩
    · cases hv'
      obtain ⟨rfl, rfl⟩ := hq'
      obtain ⟨u1, u2, u3⟩ := vx_keep h0 e1 hS1 (A1 := zA z) (free := zA z) (fun q _ h => h) (fun q h => h) hL hF
      obtain ⟨t2, a1, b1⟩ := h _ _ hk z hz p e R s m args below meth c T'.heap (locs ++ L') (cells + 1 + 0) (slots + 7 + 0) ls cx ⟨hR.1, hR.2.1, by have := hR.2.2.1; omega, by have := hR.2.2.2; omega⟩ (by rw [e1]; exact hP') u3 hl T' rfl X'
      exact ⟨t2, stp t2 a1, b1⟩
    · exact hq'.elim
  · obtain ⟨k', hk', he⟩ := hWU.alike.2.2 _ _ h2
    exact ⟨k', by rw [hWU.alike.findClass]; exact h1, hk', by rw [he]; exact h3, by rw [hU, hcell, he]⟩
theorem r_athrow {q : Nat} {E : String} {T : u_T} {ci N0 : Nat} (hd : decode M.2.1 pc = .ok (.athrow, 1)) (hq : isC G q ci) (hc : qCl[ci]? = some (E, T, N0)) (h : wpX M d k n pc L st G E q Q X) : wp M d k n pc L (vR (some q) :: st) G Q X := by
  intro z hz p e R s m args below meth c H locs cells slots ls cx hR hP hS hl
  have hW := cx.2.2.2.2.2.2.2.2.1
  obtain ⟨r, fs, hg⟩ := hq
  obtain ⟨r9, h1, cell, h2, h3, h4, -⟩ := Rp.at hz hP (tr_o hc) hg
  cases Option.some.inj (h1.symm.trans hc)
  have hcl : s.vm.findClass E = some cell.cls := by rw [h3]; exact ((zk hz hW).1 ci _ hc).2.1
  exact vx_athrow cx.1 cx.2.1 hd (h z hz p e R s m args below meth c H locs cells slots ls cell cx hR hP hS hl h2 h4 hcl)
theorem wpX.catch {E nm : String} {q : Nat} (pre : List ExceptionTableEntry) (x : ExceptionTableEntry) (suf : List ExceptionTableEntry) (hsplit : tableOf M.2.2.2.2.1 = pre ++ x :: suf) (hpass : ∀ z ∈ pre, covers z pc = false) (hx : covers x pc = true) (h0 : x.catchType ≠ 0)
    (h1 : Cond.classLink M.1 x.catchType nm ∈ lw_all) (h2 : Cond.castable E nm ∈ lw_tbl) (h : wp M d k n x.handlerPc L [vR (some q)] G Q X) : wpX M d k n pc L st G E q Q X := by
  intro z hz p e R s m args below meth c H locs cells slots ls ce cx hR hP hS hl g1 g2 g3
  have hW := cx.2.2.2.2.2.2.2.2.1
  exact vx_catch cx.2.2.2.2.2.1 pre x suf (cx.2.2.2.2.2.2.1.trans hsplit) (fun z hz => Or.inl (hpass z hz)) hx h0 (zw hz hW h1) (va_Nw.use rfl (zc hz hW h2)) g1 g2 g3 (h z hz p e R s m args below meth c H locs cells slots ls cx hR hP hS hl)
end
