/-! CALLS BY INTERFACES, STATICS, ARRAYCOPY -/
set_option maxRecDepth 100000
section
variable {M : Mt} {d k n pc : Nat} {L : List (Option Value)} {st : List Value} {G : Wd} {Q : Qt} {X : Xt}
section
variable {x y : MethodName} {cc : ByteArray} {maxL : Nat} {ret : Option FieldType} {d' kc nc index N mr : Nat} {As rest : List Value} {Qc : Qt} {Xc : Xt}
theorem lw_F {own C : String} {idx : Nat} {b : ByteArray} {L : Nat} {r : Option FieldType} (h1 : Cond.methodLink own idx x ∈ lw_all) (h3 : Cond.selects C x y ∈ lw_all) (h4 : Cond.instanceMethod y ∈ lw_all) (h5 : Cond.initialized y.cls ∈ lw_all) (h6 : Cond.code y b L r ∈ lw_all) : GoodIn lw_all (va_wsF own idx C x y (ws_ y b L r)) := by
  refine lw_app ?_ (lw_meth h6)
  intro w hw
  simp only [List.mem_cons, List.not_mem_nil, or_false] at hw
  rcases hw with rfl | rfl | rfl | rfl
  · exact h1
  · exact h3
  · exact h4
  · exact h5
theorem r_callF {b ci count : Nat} {C : String} {T : u_T} {N0 : Nat} (hd : decode M.2.1 pc = .ok (.invokeinterface index count, 5)) (hb : isC G b ci) (hM : call y (Cond.code y cc maxL ret) d' kc nc (vR (some b) :: As) G Qc Xc) (h1 : Cond.methodLink M.1 index x ∈ lw_all) (h3 : Cond.selects C x y ∈ lw_all) (h4 : Cond.instanceMethod y ∈ lw_all) (h5 : Cond.initialized y.cls ∈ lw_all) (h6 : Cond.code y cc maxL ret ∈ lw_all)
    (g1 : Cond.declares x ∈ lw_tbl) (g2 : Cond.interfaceMethod x.cls x.cls x.name x.desc ∈ lw_tbl) (g3 : Cond.publicMethod y ∈ lw_tbl) (g4 : Cond.unhidden C x.name x.desc ∈ lw_tbl) (g5 : Cond.castable C x.cls ∈ lw_tbl)
    (hc : qCl[ci]? = some (C, T, N0)) (hy : yOK x N) (hN : As.length = N) (hdd : d' + 1 ≤ d) (hm : maxL ≤ 45) (hst : st = As.reverse ++ vR (some b) :: rest) (hrc : RC rest mr) (hm8 : mr ≤ 8) (hk : kc ≤ k) (hn : nc ≤ n)
    (hQ : ∀ v G', Qc v G' → wp M d (k - kc) (n - nc) (pc + 5) L (v.toList ++ rest) G' Q X) (hX : ∀ E q G', Xc E q G' → wpX M d (k - kc) (n - nc) pc L rest G' E q Q X) : wp M d k n pc L st G Q X := by
  subst hst
  intro z hz p e R s m args below meth c H locs cells slots ls cx hR hP hS hl T' hT X0
  have hW := cx.2.2.2.2.2.2.2.2.1
  have hts : ∀ w ∈ lw_all, w.before args s = true := fun w h => zw hz hW h
  have hR' : Rm R d (k - kc) (n - nc) (cells + kc) (slots + nc) := ⟨hR.1, hR.2.1, by have := hR.2.2.1; omega, by have := hR.2.2.2; omega⟩
  have hF : va_Fw C x y s := va_Fw.moved ⟨hy.1, hy.2.1⟩ hW.alike (va_Fw.of (hz.2.1 _ g1) (hz.2.1 _ g2) (hz.2.1 _ g3) (hz.2.1 _ g4) (hz.2.1 _ g5))
  have hrun := vx_runF (e := e) (below := below) (locs := locs) (cells := cells) (slots := slots) (meth := meth) (g := F0 m pc ls (As.reverse ++ vR (some b) :: rest)) (As := As) (rest := rest) ((zk hz hW).1 ci _ hc).2 ⟨cx.1, cx.2.1, cx.2.2.2.2.1, cx.2.2.2.2.2.1, hts⟩ (hM z hz) (va_cwF N hts (lw_F h1 h3 h4 h5 h6) rfl rfl rfl hF hy (rm_ok hR hdd hm)) ⟨blind, recv (q := (C, T, N0)) hz hW hP hb hc, fun U hU hWU => ⟨rfl, hW.trans hWU, by rw [hU]; exact hP⟩⟩ rfl hN hl.1 rfl (lv_room (Nat.le_trans hrc hm8)) hd ⟨by have := hR.2.2.1; omega, by have := hR.2.2.2; omega⟩
  rcases hrun T' hT X0 with ⟨v, st₀, t, T1, L', h0, X', hL, e1, e2, ⟨v', G', hv, hP', hF', hq⟩, stp⟩ | ⟨q, st₀, t, T1, L', E, ce, h0, X', hL, e1, e2, ⟨G', hP', hF', hq⟩, hce, hcv, hcl, stp⟩
  · cases hv
    obtain ⟨k1, k2, k3⟩ := vx_keep h0 e1 hS (A1 := zA z) (free := zA z) (fun q _ h => h) (fun q h => h) hL hF'
    obtain ⟨t2, a1, b1⟩ := hQ v G' hq z hz p e R s m args below meth c T1.heap (locs ++ L') (cells + kc) (slots + nc) ls cx hR' (by rw [e1]; exact hP') k3 hl T1 rfl X'
    exact ⟨t2, stp t2 a1, b1⟩
  · obtain ⟨k1, k2, k3⟩ := vx_keep h0 e1 hS (A1 := zA z) (free := zA z) (fun q _ h => h) (fun q h => h) hL hF'
    obtain ⟨t2, a1, b1⟩ := hX E q G' hq z hz p e R s m args below meth c T1.heap (locs ++ L') (cells + kc) (slots + nc) ls ce cx hR' (by rw [e1]; exact hP') k3 hl (by rw [e1]; exact hce) hcv hcl T1 rfl X'
    exact ⟨t2, stp.trans a1, b1⟩
end
/-- a static number that the Statement gives -/
theorem r_getsI {C nm ds : String} {index : Nat} {v : Int32} {x : Int} (hd : decode M.2.1 pc = .ok (.getstatic index, 3)) (hw : Cond.fieldLink M.1 index C nm ds ∈ lw_all) (hl : Cond.laysStatic C nm ds ∈ lw_tbl) (hi : Cond.initialized C ∈ lw_all)
    (hv : ∀ z, Zok z → (Term.static C nm ds).eval #[Value.ref (zb z)] (zs z) none [] (zs z) = some (.int v)) (hx : v = Int32.ofInt x) (h : wp M d k n (pc + 3) L (vI x :: st) G Q X) : wp M d k n pc L st G Q X := by
  subst hx
  intro z hz p e R s m args below meth c H locs cells slots ls cx hR hP hS hl'
  have hW := cx.2.2.2.2.2.2.2.2.1
  have q := h z hz p e R s m args below meth c H locs cells slots ls cx hR hP hS hl'
  have z0 : va_Z C nm ds (.int (Int32.ofInt x)) (zA z) (zs z) (zs z).heap := va_Zof (hz.2.1 _ hl) (hz.2.1 _ (lw_all_tbl hi)) (hv z hz) (fun a ha => by unfold zA; omega)
  have z1 := va_Z.moved hW.alike z0
  have hold : ∀ a : Nat, a < (zs z).heap.size → s.heap[a]? = (zs z).heap[a]? := fun a ha => by
    have hn : ¬ zA z a := by unfold zA; omega
    rw [← hP.1.2.1 a ha, hS.2.1 a (by have := cx.2.2.2.2.2.2.2.2.2; omega) hn]
  have z2 : va_Z C nm ds (.int (Int32.ofInt x)) (zA z) s s.heap := by
    obtain ⟨cf, kf, fi, f, a, cell, q1, q2, q3, q4, q5, q6⟩ := z1
    exact ⟨cf, kf, fi, f, a, cell, q1, q2, q3, q4, by rw [hold a (Array.getElem?_eq_some_iff.mp q5).1]; exact q5, q6⟩
  exact va_gets cx.1 cx.2.1 z2 hS cx.2.2.2.2.2.1 (zw hz hW hw) (fun x h => h) hd q
end
