/-! THE SYSTEM'S OWN EXCEPTION; THROWS AND CATCHES (printed by exc2.py) -/
set_option maxRecDepth 100000
section
variable {M : Mt} {d k n pc : Nat} {L : List (Option Value)} {st : List Value} {G : Wd} {Q : Qt} {X : Xt}
/-- the old cells, at a method's start -/
def Old (z : Zt) (s : State) : Prop := ∀ a : Nat, a < (zs z).heap.size → s.heap[a]? = (zs z).heap[a]?
theorem old_s {z : Zt} {s : State} {H : Heap} {locs : List Loc} (hP : Rp z G H) (hs : (zs z).heap.size ≤ s.heap.size) (hS : va_S (zA z) s.heap H locs) : Old z s := fun a ha => by
  have hn : ¬ zA z a := by unfold zA; omega
  rw [← hP.1.2.1 a ha, hS.2.1 a (by omega) hn]
theorem zZq {z : Zt} {s : State} (hz : Zok z) (hW : (zs z).WarmedH s.vm) (ho : Old z s) {C nm ds : String} (h1 : Cond.laysStatic C nm ds ∈ lw_tbl) (h2 : Cond.initialized C ∈ lw_all) (h3 : (Cond.isRef (.static C nm ds)).before #[Value.ref (zb z)] (zs z) = true) : vx_Zq C nm ds (zA z) s s.heap := by
  have z0 : vx_Zq C nm ds (zA z) (zs z) (zs z).heap := vx_Zqof (hz.2.1 _ h1) (hz.2.1 _ (lw_all_tbl h2)) h3 (fun a ha => by unfold zA; omega)
  exact vx_Zq.kept (vx_Zq.moved hW.alike z0) (fun a ha _ => ho a ha)
theorem zU {z : Zt} {s : State} (hz : Zok z) (hW : (zs z).WarmedH s.vm) (ho : Old z s) : vx_Zq Bundle.tN "UNASSIGNED_STACK" Bundle.steD (zA z) s s.heap := zZq hz hW ho q244 q101 (flat_of_before _ hz.2.2.1 _ (by decide +kernel))
theorem zN {z : Zt} {s : State} (hz : Zok z) (hW : (zs z).WarmedH s.vm) (ho : Old z s) : vx_Zq Bundle.tN "SUPPRESSED_SENTINEL" Bundle.listD (zA z) s s.heap := zZq hz hW ho q246 q101 (flat_of_before _ hz.2.2.1 _ (by decide +kernel))
def faultAtoms : List Cond := Bundle.throwableAtoms ++ Bundle.chain0Atoms "java/lang/Exception" [] ++ [.methodLink "QueueDrive$Fault" 1 (Bundle.init0 "java/lang/Exception"), .selects "QueueDrive$Fault" Bundle.tFill0 Bundle.tFill0, .selects "QueueDrive$Fault" Bundle.tFill Bundle.tFill, .lays "QueueDrive$Fault" Bundle.tN "cause" "Ljava/lang/Throwable;", .lays "QueueDrive$Fault" Bundle.tN "stackTrace" Bundle.steD, .lays "QueueDrive$Fault" Bundle.tN "suppressedExceptions" Bundle.listD, .lays "QueueDrive$Fault" Bundle.tN "detailMessage" "Ljava/lang/String;",
   .isRef (.static Bundle.tN "UNASSIGNED_STACK" Bundle.steD), .isRef (.static Bundle.tN "SUPPRESSED_SENTINEL" Bundle.listD), .fieldLink Bundle.tN 198 Bundle.tN "backtrace" "Ljava/lang/Object;", .lays Bundle.tN Bundle.tN "backtrace" "Ljava/lang/Object;", .lays "QueueDrive$Fault" Bundle.tN "backtrace" "Ljava/lang/Object;"]
theorem fault_at {z : Zt} {s : State} {args : Array Value} (hz : Zok z) (hW : (zs z).WarmedH s.vm) (ho : Old z s) : ∀ w ∈ faultAtoms, w.before args s = true := by
  have hUNASSIGNED_STACK := zU hz hW ho
  have hSUPPRESSED_SENTINEL := zN hz hW ho
  exact vx_c (zw hz hW q101) (vx_c (zw hz hW q239) (vx_c (zw hz hW q248) (vx_c (zw hz hW q254) (vx_c (zw hz hW q257) (vx_c (zw hz hW q259) (vx_c (zw hz hW q240) (vx_c (zw hz hW q241) (vx_c (zw hz hW q142) (vx_c (zw hz hW q143) (vx_c (zw hz hW q242) (vx_c (zw hz hW q247) (vx_c (zw hz hW q255) (vx_c (zw hz hW q290) (vx_c (zw hz hW q229) (vx_c (zw hz hW q291) (vx_c (zw hz hW q231) (vx_c (zw hz hW q292) (vx_c (zw hz hW q233) (vx_c (zw hz hW q243) (vx_c hUNASSIGNED_STACK.2.word (vx_c (zw hz hW q245) (vx_c hSUPPRESSED_SENTINEL.2.word (vx_c (zw hz hW q235) (vx_c (zw hz hW q285) (vx_c (zw hz hW q286) (vx_c (zw hz hW q287) (vx_c (zw hz hW q240) (vx_c (va_Nw.use rfl (va_Nw.warmD hW (va_Nw.of rfl (hz.2.1 _ q224)))) (vx_c (zw hz hW q849) (vx_c (zw hz hW q840) (vx_c (zw hz hW q250) (vx_c (zw hz hW q841) (vx_c (zw hz hW q842) (vx_c (zw hz hW q843) (vx_c (zw hz hW q844) (vx_c (vx_isRefq hUNASSIGNED_STACK.1) (vx_c (vx_isRefq hSUPPRESSED_SENTINEL.1) (vx_c (zw hz hW q288) (vx_c (zw hz hW q237) (vx_c (zw hz hW q845) (vx_n)))))))))))))))))))))))))))))))))))))))))

end
section VXF
variable {p : Program} {l : Launch} {e : Env} {R : Room} {s : State} {m₀ : MethodId} {args : Array Value} {below : List Frame} {meth : Method} {c : Code} {W : State} {locs : List Loc} {cells slots : Nat}
set_option maxHeartbeats 1000000 in
/-- Exception.<init>() over a fresh Fault -/
theorem fault_super (X : Stand p l e R s m₀ args below meth c W [] cells slots) (hexec : p.tables.exec = Jvm.exec) (htr : e.platform.stackTraces = false)
    (hown : s.vm.findClass "QueueDrive$Fault" = some m₀.cls) (h : ∀ a ∈ faultAtoms, a.before args s = true)
    {a : Addr} {cX : ClassId} {kX : Class} (hfound : s.vm.findClass "QueueDrive$Fault" = some cX) (hk : s.vm.classes[cX]? = some kX) (hord : kX.kind = .ordinary) (hcell : W.heap[a]? = some (freshCell cX kX)) (hsame : s.heap[a]? = some (freshCell cX kX))
    {g : JFrame} (hg : g.method = m₀) (hsize : g.locals.size = c.maxLocals) {rest : List Value} (hstack : g.stack = .ref a :: rest)
    (hd6 : decode c.code g.pc = .ok (.invokespecial 1, 3))
    (hRframes : 3 < R.frames) (hRlocals : 2 * g.monitorRoom + (rest.map fun v => v.category).sum + 54 ≤ R.locals) :
    ∃ (vm' : Vm) (ce : Cell) (L : List Loc) (f1 f2 f3 : Field), Stand p l e R s m₀ args below meth c ((W.setVm vm').setCell a ce) L cells slots ∧ (∀ y ∈ L, y.base = a) ∧ ce.cls = cX ∧ ce.vm = .none ∧
      (∃ q1 q2 q3 q4 q5 q6 q7 q8 q9, s.fieldFound? Bundle.tN "cause" "Ljava/lang/Throwable;" = some (q1, q2, q3, f1) ∧ s.fieldFound? Bundle.tN "stackTrace" Bundle.steD = some (q4, q5, q6, f2) ∧ s.fieldFound? Bundle.tN "suppressedExceptions" Bundle.listD = some (q7, q8, q9, f3)) ∧
      (∀ j : Nat, j ≠ f1.slot → j ≠ f2.slot → j ≠ f3.slot → ce.slots[j]? = (freshCell cX kX).slots[j]?) ∧
      ∀ target, Steps p.tables e below (((W.setVm vm').setCell a ce).setTop { g with stack := rest, pc := g.pc + 3 }) target → Steps p.tables e below (W.setTop g) target := by
  have howns : e.platform.frameOwnsMonitors = true := by rw [X.admits.platform]
  have hfin : e.platform.finalization = false := by rw [X.admits.platform]
  have hpl : e.platform.magicAccessors = ({} : Platform).magicAccessors := by rw [X.admits.platform]
  have a' : ∀ x, x ∈ faultAtoms → x.holds args s none s [] = true := fun x hx => h x hx
  obtain ⟨T, Z, L, LZ, Y⟩ := ThrowableC.of_atoms (args := args) howns hfin hpl (fun x hx => h x (by simp [faultAtoms, hx]))
  obtain ⟨P1, Ps, hlen, L1, hL, hP1m, hlink1, hlink⟩ := Bundle.chain0 (args := args) hpl Y.init0 [] "java/lang/Exception" (by decide) (fun n hn => nomatch hn) (fun x hx => h x (by simp [faultAtoms, hx]))
  have hsel0 : selectMethod e.platform s.vm cX T.fill0 = .method T.fill0 := by
    obtain ⟨c2, r2, m2, q1, q2, q3, q4, -⟩ := Cond.selects_spec (a' (.selects "QueueDrive$Fault" Bundle.tFill0 Bundle.tFill0) (by simp [faultAtoms]))
    cases Option.some.inj (q1.symm.trans hfound)
    cases Option.some.inj (q2.symm.trans (State.methodFound?_of_named Y.fill0 (by decide)))
    cases Option.some.inj (q3.symm.trans Y.fill0)
    rw [Launch.admits_selectMethod X.admits]; exact q4
  have hselF : selectMethod e.platform s.vm cX T.fill = .method T.fill := by
    obtain ⟨c2, r2, m2, q1, q2, q3, q4, -⟩ := Cond.selects_spec (a' (.selects "QueueDrive$Fault" Bundle.tFill Bundle.tFill) (by simp [faultAtoms]))
    cases Option.some.inj (q1.symm.trans hfound)
    cases Option.some.inj (q2.symm.trans (State.methodFound?_of_named Y.fill (by decide)))
    cases Option.some.inj (q3.symm.trans Y.fill)
    rw [Launch.admits_selectMethod X.admits]; exact q4
  obtain ⟨cellS0, hcS0, hiss⟩ := Y.statics
  obtain ⟨u0, hu0⟩ := Cond.staticRefV Y.unassigned L.unassignedStatic L.statics hcS0 hiss (a' (.isRef (.static Bundle.tN "UNASSIGNED_STACK" Bundle.steD)) (by simp [faultAtoms]))
  obtain ⟨sen, hsen⟩ := Cond.staticRefV Y.sentinel L.sentinelStatic L.statics hcS0 hiss (a' (.isRef (.static Bundle.tN "SUPPRESSED_SENTINEL" Bundle.listD)) (by simp [faultAtoms]))
  obtain ⟨ci198, i198, fB, hk198, hg198, ha198, hsB, -, hnB, htB, hffB⟩ := Cond.ownField (t := .object "java/lang/Object") Y.found L.cls (by decide +kernel) (a' (.fieldLink Bundle.tN 198 Bundle.tN "backtrace" "Ljava/lang/Object;") (by simp [faultAtoms])) (a' (.lays Bundle.tN Bundle.tN "backtrace" "Ljava/lang/Object;") (by simp [faultAtoms])) e.platform hpl
  obtain ⟨cellS, hcS', heS, -, hkeep⟩ := X.same.2.2.2.2.2 T.aS cellS0 hcS0
  have hcellS : W.heap[T.aS]? = some cellS := hcS'
  have hknownS : cellS.vm ≠ .unknown := by
    rw [heS]; intro hu
    rw [show cellS0.vm = .unknown from hu] at hiss
    cases hiss
  have hneS : T.aS ≠ a := by
    intro e0
    rw [e0, hsame] at hcS0
    cases hcS0
    cases hiss
  obtain ⟨tyC, dC, hdC, hdnC⟩ := Cond.laysAt hfound hk Y.cause (a' (.lays "QueueDrive$Fault" Bundle.tN "cause" "Ljava/lang/Throwable;") (by simp [faultAtoms]))
  obtain ⟨tyS, dS, hdS, hdnS⟩ := Cond.laysAt hfound hk Y.stack (a' (.lays "QueueDrive$Fault" Bundle.tN "stackTrace" Bundle.steD) (by simp [faultAtoms]))
  obtain ⟨tyP, dP, hdP, hdnP⟩ := Cond.laysAt hfound hk Y.supp (a' (.lays "QueueDrive$Fault" Bundle.tN "suppressedExceptions" Bundle.listD) (by simp [faultAtoms]))
  obtain ⟨tyB, dB, hdB, hdnB⟩ := Cond.laysAt hfound hk hffB (a' (.lays "QueueDrive$Fault" Bundle.tN "backtrace" "Ljava/lang/Object;") (by simp [faultAtoms]))
  have bC := Cond.laysApart hdB hdC hdnB hdnC (by rw [hnB, Y.causeName]; decide)
  have bS := Cond.laysApart hdB hdS hdnB hdnS (by rw [hnB, Y.stackName]; decide)
  have bP := Cond.laysApart hdB hdP hdnB hdnP (by rw [hnB, Y.suppName]; decide)
  have hskip : SkipFacts T e.platform s (fun u => u) u0 ((preparedCellV T.toThrowableT (freshCell cX kX) a u0 sen).withEntry W.cur) :=
    ⟨{ ci198 := ci198, i198 := i198, fBack := fB }, ⟨hk198, hg198, ha198, hsB⟩, by
      have := fresh_default (c := cX) tyB
      rw [htB] at this
      simpa [preparedCellV, Cell.setSlot, Cell.withEntry, Array.getElem?_setIfInBounds, bC, bS, bP, bC.symm, bS.symm, bP.symm, defaultValue] using this, fun _ _ => rfl⟩
  obtain ⟨tm, methC, cdC, kC, vm₁, hnC, -, -, -, -, -, -, -, hW₁, st1⟩ := Steps.initCold (tb := p.tables) (e := e) (below := below) (s := s) (U := W) X.here hexec X.warmed hpl hown (t := Bundle.init0 "java/lang/Exception") rfl rfl (by decide)
    (a' (.methodLink "QueueDrive$Fault" 1 (Bundle.init0 "java/lang/Exception")) (by simp [faultAtoms])) (h (.instanceMethod (Bundle.init0 "java/lang/Exception")) (by simp [faultAtoms, Bundle.chain0Atoms, Bundle.passAtoms])) (bytes := Bundle.five) (maxL := 1) (h (.code (Bundle.init0 "java/lang/Exception") Bundle.five 1 none) (by simp [faultAtoms, Bundle.chain0Atoms, Bundle.passAtoms]))
    (f := g) hg (a := a) (rest := rest) hstack hd6
  cases Option.some.inj (hnC.symm.trans hP1m)
  have X₁ := X.noted hW₁
  obtain ⟨vm₂, X₂, st2⟩ := X₁.ctorPlainOffV hexec (g := { g with stack := rest }) hg hsize T L Z LZ (P1 :: Ps)
    (fun P hP => by rcases List.mem_cons.mp hP with rfl | hP; exact L1; exact hL P hP) ⟨hlink1, hlink⟩ (u0 := u0) (sen := sen) (self := a) (cell := freshCell cX kX) (cellS := cellS)
    hcell (fun _ => by simp) (by simp) rfl rfl hsel0 hselF hcellS hneS hknownS (by rw [hkeep _ (fun q => nomatch q)]; exact hu0) (by rw [hkeep _ (fun q => nomatch q)]; exact hsen)
    (Takes.of_laid hk hord tyC (by rw [Y.causeType]; rfl)) (Takes.of_laid hk hord tyS (by rw [Y.stackType]; exact fits_refV_array _ u0)) (Takes.of_laid hk hord tyP (by rw [Y.suppType]; exact fits_refV_object _ sen)) Y.objLocals hskip htr [] hd6
    (by simp only [List.length_cons, hlen, List.length_nil]; omega) (by simp only [List.length_cons, hlen, List.length_nil]; exact hRlocals)
  refine ⟨vm₂, _, _, T.fCause, T.fStack, T.fSupp, X₂, fun y hy => ?_, rfl, rfl, ⟨_, _, _, _, _, _, _, _, _, Y.cause, Y.stack, Y.supp⟩, fun j n1 n2 n3 => ?_, fun target hwalk => st1 _ (fun acts => ?_)⟩
  · simp only [List.nil_append, List.mem_cons, List.not_mem_nil, or_false] at hy
    rcases hy with rfl | rfl | rfl | rfl <;> rfl
  · simp [preparedCellV, Cell.setSlot, Array.getElem?_setIfInBounds, Ne.symm n1, Ne.symm n2, Ne.symm n3]
  · rw [doInvoke_state]
    exact st2 _ hwalk
end VXF
