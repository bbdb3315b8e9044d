/-! STRINGS: loaded, their bytes read (constants of the start) -/
set_option maxRecDepth 100000
section
variable {M : Mt} {d k n pc : Nat} {L : List (Option Value)} {st : List Value} {G : Wd} {Q : Qt} {X : Xt}
def ldS (G : Wd) (bs : List Int) (K : Nat → Prop) : Prop := ∀ a b, G 0 a = some (oB 118 [vR (some b), vI 0]) → G 0 b = some (aI 11 bs.length (bytesOf bs)) → K a
theorem r_ldcS {index : Nat} {tx : String} {bs : List Int} {K : Nat → Prop} (hd : decode M.2.1 pc = .ok (.ldc index, 2)) (hs : (M.1, index, tx, bs) ∈ strs) (ho : ldS G bs K) (h : ∀ a, K a → wp M d k n (pc + 2) L (vR (some a) :: st) G Q X) : wp M d k n pc L st G Q X := by
  intro z hz p e R s m args below meth c H locs cells slots ls cx hR hP hS hl
  have hW := cx.2.2.2.2.2.2.2.2.1
  obtain ⟨a, b, h1, h2, h3⟩ := hz.2.2.2.2.2 _ hs
  have h0 := hP.1.2.2
  exact va_ldcS cx.1 cx.2.1 cx.2.2.2.2.2.1 (vk_R.warm hW h1) hd (h a (ho a b (by rw [h0]; exact h2) (by rw [h0]; exact h3)) z hz p e R s m args below meth c H locs cells slots ls cx hR hP hS hl)
theorem str_o {z : Zt} {H : Heap} {a b : Nat} {fs : List Value} (hz : Zok z) (hP : Rp z G H) (h : G 0 a = some (oB 118 fs)) : ∃ b, fs = [vR (some b), vI 0] ∧ StrO z a b := by
  rw [hP.1.2.2] at h
  rcases (hz.2.2.2.2.1 a _ h).2 with ⟨b', e1, h1⟩ | ⟨n, f, e1, -⟩ | ⟨n, f, e1, -⟩
  · refine ⟨b', ?_, h1⟩
    injection e1 with e1; injection e1 with e1; injection e1 with e1
    exact congrArg Prod.snd e1
  · cases e1
  · cases e1
theorem str_b {z : Zt} {H : Heap} {b m : Nat} {f : Int → Int} (hz : Zok z) (hP : Rp z G H) (h : G 0 b = some (aI 11 m f)) : StrB z b m f := by
  rw [hP.1.2.2] at h
  rcases (hz.2.2.2.2.1 b _ h).2 with ⟨b', e1, -⟩ | ⟨n, f', e1, h1⟩ | ⟨n, f', e1, -⟩
  · cases e1
  · injection e1 with e1
    have e2 : m = n := congrArg (fun x => x.2.1) e1
    have e3 : f = f' := congrArg (fun x => x.2.2) e1
    subst e2; subst e3; exact h1
  · injection e1 with e1
    have e2 : 11 = 12 := congrArg Prod.fst e1
    cases e2
theorem scr_b {z : Zt} {H : Heap} {b m : Nat} {f : Int → Int} (hz : Zok z) (hP : Rp z G H) (h : G 0 b = some (aI 12 m f)) : ScrB z b m f := by
  rw [hP.1.2.2] at h
  rcases (hz.2.2.2.2.1 b _ h).2 with ⟨b', e1, -⟩ | ⟨n, f', e1, -⟩ | ⟨n, f', e1, h1⟩
  · cases e1
  · injection e1 with e1
    have e2 : 12 = 11 := congrArg Prod.fst e1
    cases e2
  · injection e1 with e1
    have e2 : m = n := congrArg (fun x => x.2.1) e1
    have e3 : f = f' := congrArg (fun x => x.2.2) e1
    subst e2; subst e3; exact h1
/-- the script: its length, its ints -/
def lnC (G : Wd) (b : Nat) (K : Int → Prop) : Prop := ∃ n f, G 0 b = some (aI 12 n f) ∧ K (n : Int)
def ldC (G : Wd) (b : Nat) (i : Int) (K : Int → Prop) : Prop := ∃ n f, G 0 b = some (aI 12 n f) ∧ (0 ≤ i ∧ i < (n : Int) ∧ i < 2147483648) ∧ K (f i)
theorem r_lenC {b : Nat} {K : Int → Prop} (hd : decode M.2.1 pc = .ok (.arraylength, 1)) (ho : lnC G b K) (h : ∀ x, K x → wp M d k n (pc + 1) L (vI x :: st) G Q X) : wp M d k n pc L (vR (some b) :: st) G Q X := by
  obtain ⟨m9, f, h1, hk⟩ := ho
  intro z hz p e R s m args below meth c H locs cells slots ls cx hR hP hS hl
  have hW := cx.2.2.2.2.2.2.2.2.1
  obtain ⟨-, -, h3⟩ := scr_b hz hP h1
  have ho := old_s hP cx.2.2.2.2.2.2.2.2.2 hS
  have hbl : b < (zs z).heap.size := by obtain ⟨scr, q1, -⟩ := h3; exact (Array.getElem?_eq_some_iff.mp q1).1
  have h4 : va_X b m9 (fun j => Int32.ofInt (f j)) s s.heap := va_X.kept (va_X.moved hW.alike h3) (ho b hbl)
  have q := h _ hk z hz p e R s m args below meth c H locs cells slots ls cx hR hP hS hl
  rw [← ofNat_vI] at q
  exact va_slen cx.1 cx.2.1 h4 (Nat.lt_of_lt_of_le hbl cx.2.2.2.2.2.2.2.2.2) (by unfold zA; omega) hS hd q
theorem r_ialdC {b : Nat} {i : Int} {K : Int → Prop} (hd : decode M.2.1 pc = .ok (.iaload, 1)) (ho : ldC G b i K) (h : ∀ x, K x → wp M d k n (pc + 1) L (vI x :: st) G Q X) : wp M d k n pc L (vI i :: vR (some b) :: st) G Q X := by
  obtain ⟨m9, f, h1, hi, hk⟩ := ho
  intro z hz p e R s m args below meth c H locs cells slots ls cx hR hP hS hl
  have hW := cx.2.2.2.2.2.2.2.2.1
  obtain ⟨-, -, h3⟩ := scr_b hz hP h1
  have ho := old_s hP cx.2.2.2.2.2.2.2.2.2 hS
  have hbl : b < (zs z).heap.size := by obtain ⟨scr, q1, -⟩ := h3; exact (Array.getElem?_eq_some_iff.mp q1).1
  have h4 : va_X b m9 (fun j => Int32.ofInt (f j)) s s.heap := va_X.kept (va_X.moved hW.alike h3) (ho b hbl)
  have q := h _ hk z hz p e R s m args below meth c H locs cells slots ls cx hR hP hS hl
  refine va_sld cx.1 cx.2.1 h4 (Nat.lt_of_lt_of_le hbl cx.2.2.2.2.2.2.2.2.2) (by unfold zA; omega) hS (inb_vp hi) hd ?_
  rw [clampI hi.1 hi.2.2, Int.toNat_of_nonneg hi.1]
  exact q
/-- the bytes' array; the coder is 0 -/
def gSv (G : Wd) (a : Nat) (K : Nat → Prop) : Prop := ∃ b, G 0 a = some (oB 118 [vR (some b), vI 0]) ∧ K b
def gSc (G : Wd) (a : Nat) (A : Prop) : Prop := (∃ b, G 0 a = some (oB 118 [vR (some b), vI 0])) ∧ A
def isS (G : Wd) (a : Nat) : Prop := ∃ b, G 0 a = some (oB 118 [vR (some b), vI 0])
theorem r_getSv {a index : Nat} {K : Nat → Prop} (hd : decode M.2.1 pc = .ok (.getfield index, 3)) (hw : Cond.fieldLink M.1 index "java/lang/String" "value" "[B" ∈ lw_all) (ho : gSv G a K) (h : ∀ b, K b → wp M d k n (pc + 3) L (vR (some b) :: st) G Q X) : wp M d k n pc L (vR (some a) :: st) G Q X := by
  obtain ⟨b, h1, hk⟩ := ho
  intro z hz p e R s m args below meth c H locs cells slots ls cx hR hP hS hl
  have hW := cx.2.2.2.2.2.2.2.2.1
  obtain ⟨b', e1, -, -, h2⟩ := str_o (b := b) hz hP h1
  have e2 : b = b' := Value.ref.inj (List.cons.inj e1).1
  subst e2
  have ho := old_s hP cx.2.2.2.2.2.2.2.2.2 hS
  have h3 : va_OF "java/lang/String" "value" "[B" (.ref b) a (zA z) s s.heap := va_OF.kept (va_OF.moved hW.alike h2) (fun q hq _ => ho q hq)
  exact vk_getf cx.1 cx.2.1 h3 hS cx.2.2.2.2.2.1 (zw hz hW hw) (fun _ hx => hx) hd (h b hk z hz p e R s m args below meth c H locs cells slots ls cx hR hP hS hl)
theorem r_getSc {a index : Nat} {A : Prop} (hd : decode M.2.1 pc = .ok (.getfield index, 3)) (hw : Cond.fieldLink M.1 index "java/lang/String" "coder" "B" ∈ lw_all) (ho : gSc G a A) (h : A → wp M d k n (pc + 3) L (vI 0 :: st) G Q X) : wp M d k n pc L (vR (some a) :: st) G Q X := by
  obtain ⟨⟨b, h1⟩, hk⟩ := ho
  intro z hz p e R s m args below meth c H locs cells slots ls cx hR hP hS hl
  have hW := cx.2.2.2.2.2.2.2.2.1
  obtain ⟨b', e1, -, h2, -⟩ := str_o (b := b) hz hP h1
  have ho := old_s hP cx.2.2.2.2.2.2.2.2.2 hS
  have h3 : va_OF "java/lang/String" "coder" "B" (.int 0) a (zA z) s s.heap := va_OF.kept (va_OF.moved hW.alike h2) (fun q hq _ => ho q hq)
  exact vk_getf cx.1 cx.2.1 h3 hS cx.2.2.2.2.2.1 (zw hz hW hw) (fun _ hx => hx) hd (h hk z hz p e R s m args below meth c H locs cells slots ls cx hR hP hS hl)
def lnS (G : Wd) (b : Nat) (K : Int → Prop) : Prop := ∃ n f, G 0 b = some (aI 11 n f) ∧ K (n : Int)
def ldSb (G : Wd) (b : Nat) (i : Int) (K : Int → Prop) : Prop := ∃ n f, G 0 b = some (aI 11 n f) ∧ (0 ≤ i ∧ i < (n : Int)) ∧ K (f i)
theorem r_lenS {b : Nat} {K : Int → Prop} (hd : decode M.2.1 pc = .ok (.arraylength, 1)) (ho : lnS G b K) (h : ∀ x, K x → wp M d k n (pc + 1) L (vI x :: st) G Q X) : wp M d k n pc L (vR (some b) :: st) G Q X := by
  obtain ⟨m9, f, h1, hk⟩ := ho
  intro z hz p e R s m args below meth c H locs cells slots ls cx hR hP hS hl
  have hW := cx.2.2.2.2.2.2.2.2.1
  obtain ⟨h2, h3⟩ := str_b hz hP h1
  have ho := old_s hP cx.2.2.2.2.2.2.2.2.2 hS
  have h4 := va_T.kept (va_T.moved hW.alike h3) (fun q hq _ => ho q hq)
  have q := h _ hk z hz p e R s m args below meth c H locs cells slots ls cx hR hP hS hl
  rw [← ofNat_vI] at q
  exact va_tlen cx.1 cx.2.1 h4 hS rfl hd q
theorem r_baldS {b : Nat} {i : Int} {K : Int → Prop} (hd : decode M.2.1 pc = .ok (.baload, 1)) (ho : ldSb G b i K) (h : ∀ x, K x → wp M d k n (pc + 1) L (vI x :: st) G Q X) : wp M d k n pc L (vI i :: vR (some b) :: st) G Q X := by
  obtain ⟨m9, f, h1, hi, hk⟩ := ho
  intro z hz p e R s m args below meth c H locs cells slots ls cx hR hP hS hl
  have hW := cx.2.2.2.2.2.2.2.2.1
  obtain ⟨h2, h3⟩ := str_b hz hP h1
  have ho := old_s hP cx.2.2.2.2.2.2.2.2.2 hS
  have h4 := va_T.kept (va_T.moved hW.alike h3) (fun q hq _ => ho q hq)
  have q := h _ hk z hz p e R s m args below meth c H locs cells slots ls cx hR hP hS hl
  refine va_tb (v := vI (f i)) cx.1 cx.2.1 h4 hS (inb_vp ⟨hi.1, hi.2, by omega⟩) ?_ hd q
  rw [clampI hi.1 (by omega), Int.toNat_of_nonneg hi.1]; rfl
theorem r_callVS {y : MethodName} {cc : ByteArray} {maxL : Nat} {ret : Option FieldType} {d' kc nc index N mr : Nat} {As rest : List Value} {Qc : Qt} {Xc : Xt} {b : Nat} (hd : decode M.2.1 pc = .ok (.invokevirtual index, 3)) (hb : isS G b) (hM : call y (Cond.code y cc maxL ret) d' kc nc (vR (some b) :: As) G Qc Xc) (h1 : Cond.methodLink M.1 index y ∈ lw_all) (h2 : Cond.instanceMethod y ∈ lw_all) (h3 : Cond.selects y.cls y y ∈ lw_all) (h4 : Cond.initialized y.cls ∈ lw_all) (h5 : Cond.code y cc maxL ret ∈ lw_all)
    (hc : y.cls = "java/lang/String") (hy : yOK y N) (hN : As.length = N) (hdd : d' + 1 ≤ d) (hm : maxL ≤ 45) (hst : st = As.reverse ++ vR (some b) :: rest) (hrc : RC rest mr) (hm8 : mr ≤ 8) (hk : kc ≤ k) (hn : nc ≤ n)
    (hQ : ∀ v G', Qc v G' → wp M d (k - kc) (n - nc) (pc + 3) L (v.toList ++ rest) G' Q X) (hX : ∀ E q G', Xc E q G' → wpX M d (k - kc) (n - nc) pc L rest G' E q Q X) : wp M d k n pc L st G Q X := by
  subst hst
  intro z hz p e R s m args below meth c H locs cells slots ls cx hR hP hS hl
  have hW := cx.2.2.2.2.2.2.2.2.1
  have hts : ∀ w ∈ lw_all, w.before args s = true := fun w h => zw hz hW h
  obtain ⟨b', hb'⟩ := hb
  obtain ⟨_, -, ho1, -⟩ := str_o (b := b') hz hP hb'
  have ho := old_s hP cx.2.2.2.2.2.2.2.2.2 hS
  have h6 : ∃ cell : Cell, H[b]? = some cell ∧ cell.vm.isStatics = false ∧ s.vm.findClass y.cls = some cell.cls := by
    obtain ⟨cell, g1, g2, g3, g4⟩ := va_O.kept (va_O.moved hW.alike ho1) (fun q hq _ => ho q hq)
    refine ⟨cell, ?_, g2, by rw [hc]; exact g3⟩
    rw [hS.2.1 b (Array.getElem?_eq_some_iff.mp g1).1 g4]; exact g1
  have K : W p z.1 e R s m args below meth c H locs cells slots (vx_MQ below (qQ z Q) (qX z X) args s R.cells R.slots (zA z)) (F0 m pc ls (As.reverse ++ vR (some b) :: rest)) := by
    intro T hT X0
    have hR' : Rm R d (k - kc) (n - nc) (cells + kc) (slots + nc) := ⟨hR.1, hR.2.1, by have := hR.2.2.1; omega, by have := hR.2.2.2; omega⟩
    have hrun := vx_runV (e := e) (below := below) (locs := locs) (cells := cells) (slots := slots) (meth := meth) (g := F0 m pc ls (As.reverse ++ vR (some b) :: rest)) (As := As) (rest := rest) ⟨cx.1, cx.2.1, cx.2.2.2.2.1, cx.2.2.2.2.2.1, hts⟩ (hM z hz) (cwV N hts (lw_V h1 h2 h3 h4 h5) rfl rfl rfl ⟨rfl, hy⟩ (rm_ok hR hdd hm)) ⟨blind, h6, fun U hU hWU => ⟨rfl, hW.trans hWU, by rw [hU]; exact hP⟩⟩ rfl hN hl.1 rfl (lv_room (Nat.le_trans hrc hm8)) hd ⟨by have := hR.2.2.1; omega, by have := hR.2.2.2; omega⟩
    rcases hrun T hT X0 with ⟨v, st₀, t, T1, L', h0, X', hL, e1, e2, ⟨v', G', hv, hP', hF', hq⟩, stp⟩ | ⟨q, st₀, t, T1, L', E, ce, h0, X', hL, e1, e2, ⟨G', hP', hF', hq⟩, hce, hcv, hcl, stp⟩
    · cases hv
      obtain ⟨k1, k2, k3⟩ := vx_keep h0 e1 hS (A1 := zA z) (free := zA z) (fun q _ h => h) (fun q h => h) hL hF'
      obtain ⟨t2, a1, b1⟩ := hQ v G' hq z hz p e R s m args below meth c T1.heap (locs ++ L') (cells + kc) (slots + nc) ls cx hR' (by rw [e1]; exact hP') k3 hl T1 rfl X'
      exact ⟨t2, stp t2 a1, b1⟩
    · obtain ⟨k1, k2, k3⟩ := vx_keep h0 e1 hS (A1 := zA z) (free := zA z) (fun q _ h => h) (fun q h => h) hL hF'
      obtain ⟨t2, a1, b1⟩ := hX E q G' hq z hz p e R s m args below meth c T1.heap (locs ++ L') (cells + kc) (slots + nc) ls ce cx hR' (by rw [e1]; exact hP') k3 hl (by rw [e1]; exact hce) hcv hcl T1 rfl X'
      exact ⟨t2, stp.trans a1, b1⟩
  exact K
/-- a static reference of which nothing is known -/
theorem r_getsR {C nm ds : String} {index : Nat} (hd : decode M.2.1 pc = .ok (.getstatic index, 3)) (hw : Cond.fieldLink M.1 index C nm ds ∈ lw_all) (hl : Cond.laysStatic C nm ds ∈ lw_tbl) (hi : Cond.initialized C ∈ lw_all)
    (hv : ∀ z, Zok z → (Cond.isRef (.static C nm ds)).before #[Value.ref (zb z)] (zs z) = true) (h : ∀ r, wp M d k n (pc + 3) L (vR r :: st) G Q X) : wp M d k n pc L st G Q X := by
  intro z hz p e R s m args below meth c H locs cells slots ls cx hR hP hS hl'
  have hW := cx.2.2.2.2.2.2.2.2.1
  have z0 := zZq hz hW (old_s hP cx.2.2.2.2.2.2.2.2.2 hS) hl hi (hv z hz)
  rcases z0.1 with z1 | ⟨t, z1⟩
  · exact va_gets cx.1 cx.2.1 z1 hS cx.2.2.2.2.2.1 (zw hz hW hw) (fun x h => h) hd (h none z hz p e R s m args below meth c H locs cells slots ls cx hR hP hS hl')
  · exact va_gets cx.1 cx.2.1 z1 hS cx.2.2.2.2.2.1 (zw hz hW hw) (fun x h => h) hd (h (some t) z hz p e R s m args below meth c H locs cells slots ls cx hR hP hS hl')
theorem st_SF : ∀ z, Zok z → (Cond.isRef (.static "jdk/internal/util/Preconditions" "SIOOBE_FORMATTER" "Ljava/util/function/BiFunction;")).before #[Value.ref (zb z)] (zs z) = true := fun z hz => flat_of_before _ hz.2.2.1 _ (by decide +kernel)
end
