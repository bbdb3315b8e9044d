/-! MORE ROWS: a nest mate's field, clone, a plain exception thrown -/
set_option maxRecDepth 100000
section
variable {M : Mt} {d k n pc : Nat} {L : List (Option Value)} {st : List Value} {G : Wd} {Q : Qt} {X : Xt}
theorem zF {z : Zt} {s : State} (hz : Zok z) (hW : (zs z).WarmedH s.vm) {a b nm ds h : String} {i : Nat} (hw : Cond.fieldLinkNest a i b nm ds h ∈ lw_tbl) : va_Nw (.fieldLinkNest a i b nm ds h) s := va_Nw.warmF hW (va_Nw.of rfl (hz.2.1 _ hw))
theorem r_getN {a index : Nat} {host : String} {K : Int → Prop} (hd : decode M.2.1 pc = .ok (.getfield index, 3)) (hw : Cond.fieldLinkNest M.1 index "QueueDrive$Fault" "at" "I" host ∈ lw_tbl) (ho : gI G a [5] 0 K) (h : ∀ x, K x → wp M d k n (pc + 3) L (vI x :: st) G Q X) : wp M d k n pc L (vR (some a) :: st) G Q X := by
  obtain ⟨r, ci, fs, x, h1, h2, h3, h4⟩ := ho
  rw [List.mem_singleton] at h2
  subst h2
  intro z hz p e R s m args below meth c H locs cells slots ls cx hR hP hS hl
  have hW := cx.2.2.2.2.2.2.2.2.1
  exact va_getN (Ts := lw_all) cx.1 cx.2.1 (fun w h => zw hz hW h) fX6.2.1 cx.2.2.2.2.2.1 (zk hz hW) (Rp.one hz hP (tr_o fX6.1) h1) 0 rfl fX6.1 0 (by decide) (va_Nw.use rfl (zF hz hW hw)) (fun _ hx => hx) h3 hd (h x h4 z hz p e R s m args below meth c H locs cells slots ls cx hR hP hS hl)
/-- a copy of an array of bytes -/
def clB (G : Wd) (k n a : Nat) (K : Nat → Nat → Wd → Prop) : Prop := ∃ r m f, (r ≠ 0 ∧ G r a = some (aI 1 m f)) ∧ (∀ i, 0 ≤ i → i < (m : Int) → -128 ≤ f i ∧ f i < 128) ∧ (1 ≤ k ∧ m ≤ n) ∧ ∀ b, fr G b → ∃ r', r' ≠ 0 ∧ K m b (wset G r' b (aI 1 m f))
theorem fits_b {x : Int} (h : -128 ≤ x ∧ x < 128) : fits .byte (.int (Int32.ofInt x)) = true := by
  have e := nar_byte h
  rw [vp_nar_byte] at e
  rw [← e]
  exact pk_fb _
theorem r_clone {a index mr : Nat} {K : Nat → Nat → Wd → Prop} (hd : decode M.2.1 pc = .ok (.invokevirtual index, 3)) (hw : Cond.methodLink M.1 index ⟨"[B", "clone", "()Ljava/lang/Object;"⟩ ∈ lw_all) (hrc : RC st mr) (hm : mr ≤ 8) (hd1 : 1 ≤ d) (ho : clB G k n a K) (h : ∀ m b G', K m b G' → wp M d (k - 1) (n - m) (pc + 3) L (vR (some b) :: st) G' Q X) : wp M d k n pc L (vR (some a) :: st) G Q X := by
  obtain ⟨r, m9, f, ⟨hr, hg⟩, hf, ⟨g1, g2⟩, g3⟩ := ho
  intro z hz p e R s m args below meth c H locs cells slots ls cx hR hP hS hl
  have hW := cx.2.2.2.2.2.2.2.2.1
  have hP' := hP
  obtain ⟨⟨p0, p1, p2⟩, ws, w1, w2, w3, w4⟩ := hP'
  obtain ⟨q0, hq⟩ := w3 r a _ hr hg
  have hrc : (st.map fun v => v.category).sum ≤ mr := hrc
  have hnm : s.vm.findClass "[B" = some (zK z 1) := ((zk hz hW).2 1 (zK z 1, .byte) rfl).2
  refine va_clone (ad := "[B") (ty := .byte) (x := (m9, .inl (fun j => Int32.ofInt (f j)))) cx.1 cx.2.1 (cx.2.2.2.2.1.trans hl.1.symm) cx.2.2.2.2.2.1 (zw hz hW hw) (zw hz hW q351) (zw hz hW q352) (zw hz hW q353) (zw hz hW q354) (zc hz hW q355) (zk hz hW) w1 w2 hS (fun q hq => Nat.le_trans cx.2.2.2.2.2.2.2.2.2 hq) q0 1 hq rfl hnm (fun i v hv => ?_) (by have := hR.1; omega) (by have := hR.2.1; omega) (by have := hR.2.2.1; omega) (by have := hR.2.2.2; show slots + m9 ≤ _; omega) hd (fun b H1 _ a1 a2 a3 => ?_)
  · have hi : i < m9 := by
      have := (Array.getElem?_eq_some_iff.mp hv).1
      rw [show (vp_cell (zK z 1) (m9, .inl (fun j => Int32.ofInt (f j)))) = arrV (zK z 1) m9 (fun j => .int (Int32.ofInt (f j))) from rfl, arrV_size] at this
      exact this
    rw [show (vp_cell (zK z 1) (m9, .inl (fun j => Int32.ofInt (f j)))) = arrV (zK z 1) m9 (fun j => .int (Int32.ofInt (f j))) from rfl, arrV_read _ _ hi] at hv
    cases hv
    exact fits_b (hf _ (by omega) (by omega))
  · have ho := old1 hP cx.2.2.2.2.2.2.2.2.2 hS a3
    obtain ⟨f1, -⟩ := Rp.push (r := 1) (e := aI 1 m9 f) hz (by decide) p2 ho w3 w4 rfl a1 a2
    obtain ⟨r', hr', hk⟩ := g3 b f1
    obtain ⟨-, f2⟩ := Rp.push (r := r') (e := aI 1 m9 f) hz hr' p2 ho w3 w4 rfl a1 a2
    exact h _ b _ hk z hz p e R s m args below meth c H1 locs (cells + 1) (slots + m9) ls cx ⟨hR.1, hR.2.1, by have := hR.2.2.1; omega, by have := hR.2.2.2; omega⟩ f2 a3 hl
/-- checkcast to an array class -/
theorem r_castA {a index kd : Nat} {nm : String} {A : Prop} (hd : decode M.2.1 pc = .ok (.checkcast index, 3)) (hw : Cond.classLink M.1 index nm ∈ lw_all) (hnm : ∀ (z : Zt) (s : State), Zok z → (zs z).WarmedH s.vm → s.vm.findClass nm = some (zK z kd)) (hkd : kd < 11) (ho : (∃ r n f, G r a = some (aI kd n f)) ∧ A) (h : A → wp M d k n (pc + 3) L (vR (some a) :: st) G Q X) : wp M d k n pc L (vR (some a) :: st) G Q X := by
  obtain ⟨⟨r, m9, f, hg⟩, hA⟩ := ho
  intro z hz p e R s m args below meth c H locs cells slots ls cx hR hP hS hl
  have hW := cx.2.2.2.2.2.2.2.2.1
  exact va_castA cx.1 cx.2.1 cx.2.2.2.2.2.1 (zw hz hW hw) (Rp.one hz hP (tr_i hkd) hg) 0 rfl (hnm z s hz hW) hd (h hA z hz p e R s m args below meth c H locs cells slots ls cx hR hP hS hl)
theorem nmB : ∀ (z : Zt) (s : State), Zok z → (zs z).WarmedH s.vm → s.vm.findClass "[B" = some (zK z 1) := fun z s hz hW => ((zk hz hW).2 1 (zK z 1, .byte) rfl).2
theorem nmS : ∀ (z : Zt) (s : State), Zok z → (zs z).WarmedH s.vm → s.vm.findClass "[S" = some (zK z 4) := fun z s hz hW => ((zk hz hW).2 4 (zK z 4, .short) rfl).2
theorem nmI : ∀ (z : Zt) (s : State), Zok z → (zs z).WarmedH s.vm → s.vm.findClass "[I" = some (zK z 0) := fun z s hz hW => ((zk hz hW).2 0 (zK z 0, .int) rfl).2
theorem nse_at {z : Zt} {s : State} {args : Array Value} (hz : Zok z) (hW : (zs z).WarmedH s.vm) (ho : Old z s) : ∀ w ∈ Bundle.ownAtoms0 "QueueDrive" 165 "java/util/NoSuchElementException" ["java/lang/RuntimeException", "java/lang/Exception"], w.before args s = true := by
  have hUNASSIGNED_STACK := zU hz hW ho
  have hSUPPRESSED_SENTINEL := zN hz hW ho
  exact vx_c (zw hz hW q101) (vx_c (zw hz hW q239) (vx_c (zw hz hW q248) (vx_c (zw hz hW q254) (vx_c (zw hz hW q257) (vx_c (zw hz hW q259) (vx_c (zw hz hW q240) (vx_c (zw hz hW q241) (vx_c (zw hz hW q142) (vx_c (zw hz hW q143) (vx_c (zw hz hW q242) (vx_c (zw hz hW q247) (vx_c (zw hz hW q255) (vx_c (zw hz hW q290) (vx_c (zw hz hW q229) (vx_c (zw hz hW q291) (vx_c (zw hz hW q231) (vx_c (zw hz hW q292) (vx_c (zw hz hW q233) (vx_c (zw hz hW q243) (vx_c hUNASSIGNED_STACK.2.word (vx_c (zw hz hW q245) (vx_c hSUPPRESSED_SENTINEL.2.word (vx_c (zw hz hW q235) (vx_c (zw hz hW q1263) (vx_c (zw hz hW q1264) (vx_c (zw hz hW q1265) (vx_c (zw hz hW q282) (vx_c (va_Nw.use rfl (va_Nw.warmD hW (va_Nw.of rfl (hz.2.1 _ q220)))) (vx_c (zw hz hW q282) (vx_c (zw hz hW q283) (vx_c (zw hz hW q284) (vx_c (zw hz hW q285) (vx_c (va_Nw.use rfl (va_Nw.warmD hW (va_Nw.of rfl (hz.2.1 _ q222)))) (vx_c (zw hz hW q285) (vx_c (zw hz hW q286) (vx_c (zw hz hW q287) (vx_c (zw hz hW q240) (vx_c (va_Nw.use rfl (va_Nw.warmD hW (va_Nw.of rfl (hz.2.1 _ q224)))) (vx_c (zw hz hW q2113) (vx_c (zw hz hW q1173) (vx_c (va_Nw.use rfl (zc hz hW q1174)) (vx_c (zw hz hW q1175) (vx_c (zw hz hW q253) (vx_c (zw hz hW q1176) (vx_c (zw hz hW q1177) (vx_c (zw hz hW q1178) (vx_c (zw hz hW q1179) (vx_c (vx_isRefq hUNASSIGNED_STACK.1) (vx_c (vx_isRefq hSUPPRESSED_SENTINEL.1) (vx_c (zw hz hW q288) (vx_c (zw hz hW q237) (vx_c (zw hz hW q1180) (vx_n)))))))))))))))))))))))))))))))))))))))))))))))))))))
theorem r_bret {x : Int} (hx : -128 ≤ x ∧ x < 128) (hr : M.2.2.2.1 = some .byte) (hd : decode M.2.1 pc = .ok (.ireturn, 1)) (h : Q (some (vI x)) G) : wp M d k n pc L [vI x] G Q X := by
  intro z hz p e R s m args below meth c H locs cells slots ls cx hR hP hS hl
  refine W.widen (k := R.cells) (n := R.slots) (by have := hR.2.2.1; omega) (by have := hR.2.2.2; omega) (vx_ret ?_)
  refine W.zret cx.1 cx.2.1 (cx.2.2.1.trans hr) ?_ (fun t ht hW => ⟨_, _, rfl, by rw [ht]; exact hP, hS.F ht, h⟩) hS.2.2 hd cx.2.2.2.1
  have e := nar_byte hx
  rw [vp_nar_byte] at e
  rw [← e]
  exact pk_nb _
/-- more cells at the end -/
theorem Rp.ext {z : Zt} {G : Wd} {H H1 : Heap} (h : Rp z G H) (hs : H.size ≤ H1.size) (hk : ∀ q : Nat, q < H.size → H1[q]? = H[q]?) : Rp z G H1 := by
  obtain ⟨⟨p0, p1, p2⟩, ws, w1, w2, w3, w4⟩ := h
  exact ⟨⟨by omega, fun q hq => by rw [hk q (by omega)]; exact p1 q hq, p2⟩, ws, fun k q hq => (w1 k q hq).kept (hk _ (w1 k q hq).lt), w2, w3, w4⟩
def thN (k n : Nat) (G : Wd) (X : Xt) : Prop := (1 ≤ k ∧ 6 ≤ n) ∧ ∀ q, X "java/util/NoSuchElementException" q G
theorem r_throwN {mr : Nat} (hown : M.1 = "QueueDrive") (d0 : decode M.2.1 pc = .ok (.new 163, 3)) (d3 : decode M.2.1 (pc + 3) = .ok (.dup, 1)) (d4 : decode M.2.1 (pc + 4) = .ok (.invokespecial 165, 3)) (d7 : decode M.2.1 (pc + 7) = .ok (.athrow, 1)) (hout : ∀ x ∈ tableOf M.2.2.2.2.1, covers x (pc + 7) = false) (hrc : RC st mr) (hm : mr ≤ 8) (hd1 : 6 ≤ d) (ho : thN k n G X) : wp M d k n pc L st G Q X := by
  intro z hz p e R s m args below meth c H locs cells slots ls cx hR hP hS hl
  have hW := cx.2.2.2.2.2.2.2.2.1
  have hrc : (st.map fun v => v.category).sum ≤ mr := hrc
  have hold := old_s hP cx.2.2.2.2.2.2.2.2.2 hS
  refine vx_throw0 (own := "QueueDrive") (cls := "java/util/NoSuchElementException") (names := ["java/lang/RuntimeException", "java/lang/Exception"]) cx.1 cx.2.1 (zT hz) (by rw [← hown]; exact cx.2.2.2.2.2.1) (by decide +kernel) (by decide +kernel) (zw hz hW q2112) (zw hz hW q122) (fun w hw => nse_at hz hW hold w (List.mem_filter.mp hw).1) (by decide +kernel) (zU hz hW hold) (zN hz hW hold) hS (hl.1.trans cx.2.2.2.2.1.symm) d0 d3 d4 d7 (by rw [cx.2.2.2.2.2.2.1]; exact hout) (by have := hR.1; simp; omega) (by have := hR.2.1; simp; omega) (by have := hR.2.2.1; have := ho.1.1; omega) (by have := hR.2.2.2; have := ho.1.2; omega) cx.2.2.2.1 (fun q9 t _ h1 h2 => ⟨G, hP.ext h1 h2, ?_, ho.2 q9⟩) hS.2.2 (by have := hR.2.2.1; have := ho.1.1; omega) (by have := hR.2.2.2; have := ho.1.2; omega)
  refine ⟨Nat.le_trans hS.1 h1, fun q hq hn => ?_⟩
  rw [h2 q (by have := hS.1; omega)]
  exact hS.2.1 q hq hn
end

/-! wrapped sums (rules, sheets) -/
def wr (x : Int) : Int := (Int32.ofInt x).toInt
theorem vI_wr (x : Int) : vI (wr x) = vI x := by unfold vI wr; rw [Int32.ofInt_toInt]
theorem wr_r (x : Int) : R32 (wr x) := ⟨Int32.le_toInt _, Int32.toInt_lt _⟩
theorem wr_id {x : Int} (h : R32 x) : wr x = x := ti h
section
variable {M : Mt} {d k n pc : Nat} {L : List (Option Value)} {st : List Value} {G : Wd} {Q : Qt} {X : Xt}
theorem r_iaddW {x y : Int} (hd : decode M.2.1 pc = .ok (.iadd, 1)) (h : wp M d k n (pc + 1) L (vI (wr (x + y)) :: st) G Q X) : wp M d k n pc L (vI y :: vI x :: st) G Q X := by
  rw [vI_wr] at h; exact r_iadd hd h
theorem r_isubW {x y : Int} (hd : decode M.2.1 pc = .ok (.isub, 1)) (h : wp M d k n (pc + 1) L (vI (wr (x - y)) :: st) G Q X) : wp M d k n pc L (vI y :: vI x :: st) G Q X := by
  rw [vI_wr] at h; exact r_isub hd h
theorem r_imulW {x y : Int} (hd : decode M.2.1 pc = .ok (.imul, 1)) (h : wp M d k n (pc + 1) L (vI (wr (x * y)) :: st) G Q X) : wp M d k n pc L (vI y :: vI x :: st) G Q X := by
  rw [vI_wr] at h; exact r_imul hd h
theorem r_inegW {x : Int} (hd : decode M.2.1 pc = .ok (.ineg, 1)) (h : wp M d k n (pc + 1) L (vI (wr (-x)) :: st) G Q X) : wp M d k n pc L (vI x :: st) G Q X := by
  rw [vI_wr] at h; exact r_ineg hd h
theorem r_idivW {x y : Int} {A : Prop} (hd : decode M.2.1 pc = .ok (.idiv, 1)) (ho : okd x y A) (h : A → wp M d k n (pc + 1) L (vI (wr (x.tdiv y)) :: st) G Q X) : wp M d k n pc L (vI y :: vI x :: st) G Q X := by
  rw [vI_wr] at h; exact r_idiv hd ho h
end
