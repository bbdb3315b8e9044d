/-! CLASS FACTS, OTHER CALLS, CASTS (printed by world.py) -/
set_option maxRecDepth 100000
theorem fX1 : clsOK 0 RX1 TX1 22 tyX1 := ⟨rfl, in_X1, nmX1, tyX1_ok⟩
def zX1 : List Value := [vR none, vR none, vR none, vR none, vI 0, vI 0, vR none, vI 0, vR none, vI 0, vR none, vI 0, vI 0, vI 0, vR none, vR none, vI 0, vR none, vR none, vI 0, vR none, vR none]
theorem dfX1 : ∀ j, j < 22 → defaultValue (tyX1 j) = vp_V zX1 j := by
  intro j hj
  match j, hj with
  | 0, _ => rfl
  | 1, _ => rfl
  | 2, _ => rfl
  | 3, _ => rfl
  | 4, _ => rfl
  | 5, _ => rfl
  | 6, _ => rfl
  | 7, _ => rfl
  | 8, _ => rfl
  | 9, _ => rfl
  | 10, _ => rfl
  | 11, _ => rfl
  | 12, _ => rfl
  | 13, _ => rfl
  | 14, _ => rfl
  | 15, _ => rfl
  | 16, _ => rfl
  | 17, _ => rfl
  | 18, _ => rfl
  | 19, _ => rfl
  | 20, _ => rfl
  | 21, _ => rfl
  | _ + 22, h => exact absurd h (by omega)
theorem fX2 : clsOK 1 RX2 TX2 15 tyX2 := ⟨rfl, in_X2, nmX2, tyX2_ok⟩
def zX2 : List Value := [vR none, vR none, vR none, vR none, vR none, vR none, vR none, vR none, vI 0, vI 0, vI 0, vI 0, vI 0, vI 0, vI 0]
theorem dfX2 : ∀ j, j < 15 → defaultValue (tyX2 j) = vp_V zX2 j := by
  intro j hj
  match j, hj with
  | 0, _ => rfl
  | 1, _ => rfl
  | 2, _ => rfl
  | 3, _ => rfl
  | 4, _ => rfl
  | 5, _ => rfl
  | 6, _ => rfl
  | 7, _ => rfl
  | 8, _ => rfl
  | 9, _ => rfl
  | 10, _ => rfl
  | 11, _ => rfl
  | 12, _ => rfl
  | 13, _ => rfl
  | 14, _ => rfl
  | _ + 15, h => exact absurd h (by omega)
theorem fX3 : clsOK 2 RX3 TX3 17 tyX3 := ⟨rfl, in_X3, nmX3, tyX3_ok⟩
def zX3 : List Value := [vI 0, vR none, vR none, vR none, vI 0, vI 0, vI 0, vI 0, vI 0, vI 0, vI 0, vI 0, vI 0, vI 0, vI 0, vB false, vB false]
theorem dfX3 : ∀ j, j < 17 → defaultValue (tyX3 j) = vp_V zX3 j := by
  intro j hj
  match j, hj with
  | 0, _ => rfl
  | 1, _ => rfl
  | 2, _ => rfl
  | 3, _ => rfl
  | 4, _ => rfl
  | 5, _ => rfl
  | 6, _ => rfl
  | 7, _ => rfl
  | 8, _ => rfl
  | 9, _ => rfl
  | 10, _ => rfl
  | 11, _ => rfl
  | 12, _ => rfl
  | 13, _ => rfl
  | 14, _ => rfl
  | 15, _ => rfl
  | 16, _ => rfl
  | _ + 17, h => exact absurd h (by omega)
def zX4 : List Value := [vI 0, vI 0, vR none, vR none, vI 0, vI 0, vI 0, vI 0, vR none, vR none, vI 0, vI 0, vR none, vR none, vI 0, vI 0, vR none, vR none, vR none, vR none, vR none, vR none, vI 0, vR none, vI 0, vI 0, vI 0, vR none, vR none, vR none, vR none, vR none, vI 0, vR none, vR none, vI 0, vI 0, vR none, vR none, vR none, vR none, vI 0, vR none, vR none, vR none]
theorem dfX4 : ∀ j, j < 45 → defaultValue (tyX4 j) = vp_V zX4 j := by
  intro j hj
  match j, hj with
  | 0, _ => rfl
  | 1, _ => rfl
  | 2, _ => rfl
  | 3, _ => rfl
  | 4, _ => rfl
  | 5, _ => rfl
  | 6, _ => rfl
  | 7, _ => rfl
  | 8, _ => rfl
  | 9, _ => rfl
  | 10, _ => rfl
  | 11, _ => rfl
  | 12, _ => rfl
  | 13, _ => rfl
  | 14, _ => rfl
  | 15, _ => rfl
  | 16, _ => rfl
  | 17, _ => rfl
  | 18, _ => rfl
  | 19, _ => rfl
  | 20, _ => rfl
  | 21, _ => rfl
  | 22, _ => rfl
  | 23, _ => rfl
  | 24, _ => rfl
  | 25, _ => rfl
  | 26, _ => rfl
  | 27, _ => rfl
  | 28, _ => rfl
  | 29, _ => rfl
  | 30, _ => rfl
  | 31, _ => rfl
  | 32, _ => rfl
  | 33, _ => rfl
  | 34, _ => rfl
  | 35, _ => rfl
  | 36, _ => rfl
  | 37, _ => rfl
  | 38, _ => rfl
  | 39, _ => rfl
  | 40, _ => rfl
  | 41, _ => rfl
  | 42, _ => rfl
  | 43, _ => rfl
  | 44, _ => rfl
  | _ + 45, h => exact absurd h (by omega)
theorem fX5 : clsOK 4 RX5 TX5 4 tyX5 := ⟨rfl, in_X5, nmX5, tyX5_ok⟩
def zX5 : List Value := [vR none, vI 0, vI 0, vI 0]
theorem dfX5 : ∀ j, j < 4 → defaultValue (tyX5 j) = vp_V zX5 j := by
  intro j hj
  match j, hj with
  | 0, _ => rfl
  | 1, _ => rfl
  | 2, _ => rfl
  | 3, _ => rfl
  | _ + 4, h => exact absurd h (by omega)
theorem in_F6 : ∀ w ∈ u_ws RX6 TF6 1, w ∈ lw_all := fun w h => by
  have e : u_ws RX6 TF6 1 = [Cond.laysFinal "QueueDrive$Fault" "QueueDrive$Fault" "at" "I"] := rfl
  rw [e, List.mem_singleton] at h
  subst h
  exact q852
theorem fX6 : clsOK 5 RX6 TF6 1 (fun _ => .int) := ⟨rfl, in_F6, fun a ha b hb h => absurd (by omega : a = b) h, fun _ _ => by show parseFieldDescriptor "I" = some .int; decide +kernel⟩
theorem fX7 : clsOK 6 RX7 TX7 7 tyX7 := ⟨rfl, in_X7, nmX7, tyX7_ok⟩
def zX7 : List Value := [vR none, vI 0, vI 0, vI 0, vR none, vR none, vR none]
theorem dfX7 : ∀ j, j < 7 → defaultValue (tyX7 j) = vp_V zX7 j := by
  intro j hj
  match j, hj with
  | 0, _ => rfl
  | 1, _ => rfl
  | 2, _ => rfl
  | 3, _ => rfl
  | 4, _ => rfl
  | 5, _ => rfl
  | 6, _ => rfl
  | _ + 7, h => exact absurd h (by omega)
theorem fX8 : clsOK 7 RX8 TX8 6 tyX8 := ⟨rfl, in_X8, nmX8, tyX8_ok⟩
def zX8 : List Value := [vI 0, vI 0, vI 0, vI 0, vI 0, vB false]
theorem dfX8 : ∀ j, j < 6 → defaultValue (tyX8 j) = vp_V zX8 j := by
  intro j hj
  match j, hj with
  | 0, _ => rfl
  | 1, _ => rfl
  | 2, _ => rfl
  | 3, _ => rfl
  | 4, _ => rfl
  | 5, _ => rfl
  | _ + 6, h => exact absurd h (by omega)
theorem fX9 : clsOK 8 RX9 TX9 3 tyX9 := ⟨rfl, in_X9, nmX9, tyX9_ok⟩
def zX9 : List Value := [vR none, vR none, vI 0]
theorem dfX9 : ∀ j, j < 3 → defaultValue (tyX9 j) = vp_V zX9 j := by
  intro j hj
  match j, hj with
  | 0, _ => rfl
  | 1, _ => rfl
  | 2, _ => rfl
  | _ + 3, h => exact absurd h (by omega)
theorem fX10 : clsOK 9 RX10 TX10 4 tyX10 := ⟨rfl, in_X10, nmX10, tyX10_ok⟩
def zX10 : List Value := [vI 0, vI 0, vI 0, vI 0]
theorem dfX10 : ∀ j, j < 4 → defaultValue (tyX10 j) = vp_V zX10 j := by
  intro j hj
  match j, hj with
  | 0, _ => rfl
  | 1, _ => rfl
  | 2, _ => rfl
  | 3, _ => rfl
  | _ + 4, h => exact absurd h (by omega)
theorem fX11 : clsOK 10 RX11 TX11 3 tyX11 := ⟨rfl, in_X11, nmX11, tyX11_ok⟩
def zX11 : List Value := [vR none, vI 0, vI 0]
theorem dfX11 : ∀ j, j < 3 → defaultValue (tyX11 j) = vp_V zX11 j := by
  intro j hj
  match j, hj with
  | 0, _ => rfl
  | 1, _ => rfl
  | 2, _ => rfl
  | _ + 3, h => exact absurd h (by omega)
theorem fX12 : clsOK 11 RX12 TX12 10 tyX12 := ⟨rfl, in_X12, nmX12, tyX12_ok⟩
def zX12 : List Value := [vR none, vI 0, vI 0, vI 0, vR none, vR none, vR none, vR none, vR none, vI 0]
theorem dfX12 : ∀ j, j < 10 → defaultValue (tyX12 j) = vp_V zX12 j := by
  intro j hj
  match j, hj with
  | 0, _ => rfl
  | 1, _ => rfl
  | 2, _ => rfl
  | 3, _ => rfl
  | 4, _ => rfl
  | 5, _ => rfl
  | 6, _ => rfl
  | 7, _ => rfl
  | 8, _ => rfl
  | 9, _ => rfl
  | _ + 10, h => exact absurd h (by omega)
theorem fJ3 : clsOK 12 RJ3 TJ3 4 tyJ3 := ⟨rfl, in_J3, nmJ3, tyJ3_ok⟩
def zJ3 : List Value := [vI 0, vI 0, vR none, vR none]
theorem dfJ3 : ∀ j, j < 4 → defaultValue (tyJ3 j) = vp_V zJ3 j := by
  intro j hj
  match j, hj with
  | 0, _ => rfl
  | 1, _ => rfl
  | 2, _ => rfl
  | 3, _ => rfl
  | _ + 4, h => exact absurd h (by omega)
theorem fJ4 : clsOK 13 RJ4 TJ4 3 tyJ4 := ⟨rfl, in_J4, nmJ4, tyJ4_ok⟩
def zJ4 : List Value := [vR none, vI 0, vI 0]
theorem dfJ4 : ∀ j, j < 3 → defaultValue (tyJ4 j) = vp_V zJ4 j := by
  intro j hj
  match j, hj with
  | 0, _ => rfl
  | 1, _ => rfl
  | 2, _ => rfl
  | _ + 3, h => exact absurd h (by omega)
theorem fJ5 : clsOK 14 RJ5 TJ5 3 tyJ5 := ⟨rfl, in_J5, nmJ5, tyJ5_ok⟩
def zJ5 : List Value := [vR none, vI 0, vB false]
theorem dfJ5 : ∀ j, j < 3 → defaultValue (tyJ5 j) = vp_V zJ5 j := by
  intro j hj
  match j, hj with
  | 0, _ => rfl
  | 1, _ => rfl
  | 2, _ => rfl
  | _ + 3, h => exact absurd h (by omega)
theorem fJ23 : clsOK 15 RJ23 TJ23 4 tyJ23 := ⟨rfl, in_J23, nmJ23, tyJ23_ok⟩
def zJ23 : List Value := [vI 0, vI 0, vI 0, vR none]
theorem dfJ23 : ∀ j, j < 4 → defaultValue (tyJ23 j) = vp_V zJ23 j := by
  intro j hj
  match j, hj with
  | 0, _ => rfl
  | 1, _ => rfl
  | 2, _ => rfl
  | 3, _ => rfl
  | _ + 4, h => exact absurd h (by omega)
theorem fJ25 : clsOK 16 RJ25 TJ25 5 tyJ25 := ⟨rfl, in_J25, nmJ25, tyJ25_ok⟩
def zJ25 : List Value := [vR none, vR none, vI 0, vI 0, vR none]
theorem dfJ25 : ∀ j, j < 5 → defaultValue (tyJ25 j) = vp_V zJ25 j := by
  intro j hj
  match j, hj with
  | 0, _ => rfl
  | 1, _ => rfl
  | 2, _ => rfl
  | 3, _ => rfl
  | 4, _ => rfl
  | _ + 5, h => exact absurd h (by omega)
theorem fJ26 : clsOK 17 RJ26 TJ26 3 tyJ26 := ⟨rfl, in_J26, nmJ26, tyJ26_ok⟩
def zJ26 : List Value := [vR none, vR none, vR none]
theorem dfJ26 : ∀ j, j < 3 → defaultValue (tyJ26 j) = vp_V zJ26 j := by
  intro j hj
  match j, hj with
  | 0, _ => rfl
  | 1, _ => rfl
  | 2, _ => rfl
  | _ + 3, h => exact absurd h (by omega)
section
variable {M : Mt} {d k n pc : Nat} {L : List (Option Value)} {st : List Value} {G : Wd} {Q : Qt} {X : Xt}
/-- Object.<init> -/
theorem r_objInit {a idx mr : Nat} (hd : decode M.2.1 pc = .ok (.invokespecial idx, 3)) (h1 : Cond.methodLink M.1 idx Lib.objectInit ∈ lw_all) (h2 : Cond.instanceMethod Lib.objectInit ∈ lw_all) (h3 : Cond.code Lib.objectInit ⟨#[0xb1]⟩ 1 none ∈ lw_all) (hrc : RC st mr) (hm : mr ≤ 8) (hd1 : 1 ≤ d) (h : wp M d k n (pc + 3) L st G Q X) : wp M d k n pc L (vR (some a) :: st) G Q X := by
  intro z hz p e R s m args below meth c H locs cells slots ls cx hR hP hS hl
  have q := h z hz p e R s m args below meth c H locs cells slots ls cx hR hP hS hl
  have hW := cx.2.2.2.2.2.2.2.2.1
  have hrc : (st.map fun v => v.category).sum ≤ mr := hrc
  have hm0 : (F0 m pc ls (vR (some a) :: st)).monitorRoom = 0 := rfl
  refine W.objInit (g := F0 m pc ls (vR (some a) :: st)) cx.1 cx.2.1 cx.2.2.2.2.2.1 (zw hz hW h1) (zw hz hW h2) (zw hz hW h3) rfl (hl.1.trans cx.2.2.2.2.1.symm) rfl hd (by have := hR.1; omega) (by rw [hm0]; have := hR.2.1; omega) q
/-- checkcast: null, or an object of a class in cs -/
def cst (G : Wd) (r : Option Nat) (cs : List Nat) (A : Prop) : Prop := (∀ a, r = some a → ∃ ci, ci ∈ cs ∧ isC G a ci) ∧ A
theorem r_ccast {r : Option Nat} {ci index : Nat} {nm : String} {T : u_T} {N0 : Nat} {A : Prop} (hd : decode M.2.1 pc = .ok (.checkcast index, 3)) (h1 : Cond.classLink M.1 index nm ∈ lw_all) (hc : qCl[ci]? = some (nm, T, N0)) (ho : cst G r [ci] A) (h : A → wp M d k n (pc + 3) L (vR r :: st) G Q X) : wp M d k n pc L (vR r :: st) G Q X := by
  intro z hz p e R s m args below meth c H locs cells slots ls cx hR hP hS hl
  have q := h ho.2 z hz p e R s m args below meth c H locs cells slots ls cx hR hP hS hl
  have hW := cx.2.2.2.2.2.2.2.2.1
  cases r with
  | none => exact lv_castN cx.1 cx.2.1 hd q
  | some a =>
    obtain ⟨cj, g1, g2⟩ := ho.1 a rfl
    rw [List.mem_singleton] at g1
    subst g1
    exact va_castS cx.1 cx.2.1 cx.2.2.2.2.2.1 (zw hz hW h1) ((zk hz hW).1 cj _ hc).2 (recv hz hW hP g2 hc) hd q
section
variable {x y : MethodName} {cc : ByteArray} {maxL : Nat} {ret : Option FieldType} {d' kc nc index N mr : Nat} {As rest : List Value} {Qc : Qt} {Xc : Xt}
theorem lw_U {own C owner : String} {idx : Nat} {b : ByteArray} {L : Nat} {r : Option FieldType} (h1 : Cond.methodLink own idx x ∈ lw_all) (h2 : Cond.sameMethod x.cls owner x.name x.desc ∈ lw_all) (h3 : Cond.selects C x y ∈ lw_all) (h4 : Cond.instanceMethod y ∈ lw_all) (h5 : Cond.initialized y.cls ∈ lw_all) (h6 : Cond.code y b L r ∈ lw_all) : GoodIn lw_all (va_wsU own idx C owner x y (ws_ y b L r)) := by
  refine lw_app ?_ (lw_meth h6)
  intro w hw
  simp only [List.mem_cons, List.not_mem_nil, or_false] at hw
  rcases hw with rfl | rfl | rfl | rfl | rfl
  · exact h1
  · exact h2
  · exact h3
  · exact h4
  · exact h5
/-- a method of a class above, found by the receiver of the class number ci -/
theorem r_callU {b ci : Nat} {C owner : String} {T : u_T} {N0 : Nat} (hd : decode M.2.1 pc = .ok (.invokevirtual index, 3)) (hb : isC G b ci) (hM : call y (Cond.code y cc maxL ret) d' kc nc (vR (some b) :: As) G Qc Xc) (h1 : Cond.methodLink M.1 index x ∈ lw_all) (h2 : Cond.sameMethod x.cls owner x.name x.desc ∈ lw_all) (h3 : Cond.selects C x y ∈ lw_all) (h4 : Cond.instanceMethod y ∈ lw_all) (h5 : Cond.initialized y.cls ∈ lw_all) (h6 : Cond.code y cc maxL ret ∈ lw_all)
    (hyx : y = ⟨owner, x.name, x.desc⟩) (hc : qCl[ci]? = some (C, T, N0)) (hy : yOK y N) (hN : As.length = N) (hdd : d' + 1 ≤ d) (hm : maxL ≤ 45) (hst : st = As.reverse ++ vR (some b) :: rest) (hrc : RC rest mr) (hm8 : mr ≤ 8) (hk : kc ≤ k) (hn : nc ≤ n)
    (hQ : ∀ v G', Qc v G' → wp M d (k - kc) (n - nc) (pc + 3) L (v.toList ++ rest) G' Q X) (hX : ∀ E q G', Xc E q G' → wpX M d (k - kc) (n - nc) pc L rest G' E q Q X) : wp M d k n pc L st G Q X := by
  subst hst
  refine wp.call (pc3 := pc) (As := As) hk hn (fun {z p e R s m args below meth c H locs cells slots ls} hz cx hR hP hl => ?_) hQ hX
  have hW := cx.2.2.2.2.2.2.2.2.1
  have hts : ∀ w ∈ lw_all, w.before args s = true := fun w h => zw hz hW h
  have hy2 : owner ≠ "java/lang/invoke/MethodHandle" ∧ owner ≠ "java/lang/invoke/VarHandle" ∧ (parseMethodDescriptor x.desc).map (fun d => d.parameters.length) = some N := by
    subst hyx; exact hy
  exact vx_runU (As := As) (rest := rest) ⟨cx.1, cx.2.1, cx.2.2.2.2.1, cx.2.2.2.2.2.1, hts⟩ (hM z hz) (va_cwU N hts (lw_U h1 h2 h3 h4 h5 h6) rfl rfl rfl hyx hy2 (rm_ok hR hdd hm)) ⟨blind, recv (q := (C, T, N0)) hz hW hP hb hc, fun U hU hWU => ⟨rfl, hW.trans hWU, by rw [hU]; exact hP⟩⟩ rfl hN hl.1 rfl (lv_room (Nat.le_trans hrc hm8)) hd ⟨by have := hR.2.2.1; omega, by have := hR.2.2.2; omega⟩
/-- the receiver is of one of some classes -/
def selOK (own : String) (index : Nat) (x y : MethodName) (ci : Nat) : Prop := ∃ (C owner : String) (T : u_T) (N0 : Nat), qCl[ci]? = some (C, T, N0) ∧ Cond.methodLink own index x ∈ lw_all ∧ Cond.sameMethod x.cls owner x.name x.desc ∈ lw_all ∧ Cond.selects C x y ∈ lw_all ∧ y = ⟨owner, x.name, x.desc⟩
theorem so {own C owner : String} {index ci N0 : Nat} {x y : MethodName} {T : u_T} (h0 : qCl[ci]? = some (C, T, N0)) (h1 : Cond.methodLink own index x ∈ lw_all) (h2 : Cond.sameMethod x.cls owner x.name x.desc ∈ lw_all) (h3 : Cond.selects C x y ∈ lw_all) (h4 : y = ⟨owner, x.name, x.desc⟩) : selOK own index x y ci := ⟨C, owner, T, N0, h0, h1, h2, h3, h4⟩
def selAll (own : String) (index : Nat) (x y : MethodName) (cs : List Nat) : Prop := ∀ ci ∈ cs, selOK own index x y ci
theorem so0 {own : String} {index : Nat} {x y : MethodName} : selAll own index x y [] := fun _ h => nomatch h
theorem soc {own : String} {index ci : Nat} {x y : MethodName} {cs : List Nat} (h1 : selOK own index x y ci) (h2 : selAll own index x y cs) : selAll own index x y (ci :: cs) := fun c h => by
  rcases List.mem_cons.mp h with rfl | h
  · exact h1
  · exact h2 c h
theorem r_callM {b : Nat} {cs : List Nat} (hd : decode M.2.1 pc = .ok (.invokevirtual index, 3)) (hb : ∃ ci, ci ∈ cs ∧ isC G b ci) (hM : call y (Cond.code y cc maxL ret) d' kc nc (vR (some b) :: As) G Qc Xc) (hs : selAll M.1 index x y cs) (h4 : Cond.instanceMethod y ∈ lw_all) (h5 : Cond.initialized y.cls ∈ lw_all) (h6 : Cond.code y cc maxL ret ∈ lw_all)
    (hy : yOK y N) (hN : As.length = N) (hdd : d' + 1 ≤ d) (hm : maxL ≤ 45) (hst : st = As.reverse ++ vR (some b) :: rest) (hrc : RC rest mr) (hm8 : mr ≤ 8) (hk : kc ≤ k) (hn : nc ≤ n)
    (hQ : ∀ v G', Qc v G' → wp M d (k - kc) (n - nc) (pc + 3) L (v.toList ++ rest) G' Q X) (hX : ∀ E q G', Xc E q G' → wpX M d (k - kc) (n - nc) pc L rest G' E q Q X) : wp M d k n pc L st G Q X := by
  obtain ⟨ci, hc, hb⟩ := hb
  obtain ⟨C, owner, T, N0, s0, s1, s2, s3, s4⟩ := hs ci hc
  exact r_callU hd hb hM s1 s2 s3 h4 h5 h6 s4 s0 hy hN hdd hm hst hrc hm8 hk hn hQ hX
/-- a static method of a nest mate -/
theorem r_callSN {host : String} (hd : decode M.2.1 pc = .ok (.invokestatic index, 3)) (hM : call y (Cond.code y cc maxL ret) d' kc nc As G Qc Xc) (h1 : Cond.methodLinkNest M.1 index y host ∈ lw_tbl) (h2 : Cond.static y ∈ lw_all) (h3 : Cond.initialized y.cls ∈ lw_all) (h4 : Cond.code y cc maxL ret ∈ lw_all) (hy : yOK y N) (hN : As.length = N)
    (hdd : d' + 1 ≤ d) (hm : maxL ≤ 45) (hst : st = As.reverse ++ rest) (hrc : RC rest mr) (hm8 : mr ≤ 8) (hk : kc ≤ k) (hn : nc ≤ n)
    (hQ : ∀ v G', Qc v G' → wp M d (k - kc) (n - nc) (pc + 3) L (v.toList ++ rest) G' Q X) (hX : ∀ E q G', Xc E q G' → wpX M d (k - kc) (n - nc) pc L rest G' E q Q X) : wp M d k n pc L st G Q X := by
  subst hst
  refine wp.call (pc3 := pc) (As := As) hk hn (fun {z p e R s m args below meth c H locs cells slots ls} hz cx hR hP hl => ?_) hQ hX
  have hW := cx.2.2.2.2.2.2.2.2.1
  have hts : ∀ w ∈ lw_all, w.before args s = true := fun w h => zw hz hW h
  exact vx_runSN (As := As) (rest := rest) ⟨cx.1, cx.2.1, cx.2.2.2.2.1, cx.2.2.2.2.2.1, hts⟩ (hM z hz) ⟨va_cnB N hts (lw_meth h4) rfl rfl rfl (va_Nw.warmM hW (va_Nw.of rfl (hz.2.1 _ h1))) (hts _ h3) hy (rm_ok hR hdd hm), hts _ h2, trivial⟩ ⟨blind, fun U hU hWU => ⟨rfl, hW.trans hWU, by rw [hU]; exact hP⟩⟩ rfl hN hl.1 rfl (lv_room (Nat.le_trans hrc hm8)) hd ⟨by have := hR.2.2.1; omega, by have := hR.2.2.2; omega⟩
/-- an overriding method, called by the name that a class above declares -/
theorem r_callO {b ci : Nat} {C owner : String} {T : u_T} {N0 : Nat} (hd : decode M.2.1 pc = .ok (.invokevirtual index, 3)) (hb : isC G b ci) (hM : call y (Cond.code y cc maxL ret) d' kc nc (vR (some b) :: As) G Qc Xc) (h1 : Cond.methodLink M.1 index x ∈ lw_all) (h2 : Cond.sameMethod x.cls owner x.name x.desc ∈ lw_all) (h3 : Cond.selects C x y ∈ lw_all) (h4 : Cond.instanceMethod y ∈ lw_all) (h5 : Cond.initialized y.cls ∈ lw_all) (h6 : Cond.code y cc maxL ret ∈ lw_all) (h7 : Cond.declares ⟨owner, x.name, x.desc⟩ ∈ lw_tbl)
    (hyo : yOK ⟨owner, x.name, x.desc⟩ N) (hc : qCl[ci]? = some (C, T, N0)) (hN : As.length = N) (hdd : d' + 1 ≤ d) (hm : maxL ≤ 45) (hst : st = As.reverse ++ vR (some b) :: rest) (hrc : RC rest mr) (hm8 : mr ≤ 8) (hk : kc ≤ k) (hn : nc ≤ n)
    (hQ : ∀ v G', Qc v G' → wp M d (k - kc) (n - nc) (pc + 3) L (v.toList ++ rest) G' Q X) (hX : ∀ E q G', Xc E q G' → wpX M d (k - kc) (n - nc) pc L rest G' E q Q X) : wp M d k n pc L st G Q X := by
  subst hst
  refine wp.call (pc3 := pc) (As := As) hk hn (fun {z p e R s m args below meth c H locs cells slots ls} hz cx hR hP hl => ?_) hQ hX
  have hW := cx.2.2.2.2.2.2.2.2.1
  have hts : ∀ w ∈ lw_all, w.before args s = true := fun w h => zw hz hW h
  exact vx_runU (As := As) (rest := rest) ⟨cx.1, cx.2.1, cx.2.2.2.2.1, cx.2.2.2.2.2.1, hts⟩ (hM z hz) (va_cwA N hts (lw_U h1 h2 h3 h4 h5 h6) rfl rfl rfl (va_Nw.warmD hW (va_Nw.of rfl (hz.2.1 _ h7))) hyo (rm_ok hR hdd hm)) ⟨blind, recv (q := (C, T, N0)) hz hW hP hb hc, fun U hU hWU => ⟨rfl, hW.trans hWU, by rw [hU]; exact hP⟩⟩ rfl hN hl.1 rfl (lv_room (Nat.le_trans hrc hm8)) hd ⟨by have := hR.2.2.1; omega, by have := hR.2.2.2; omega⟩
end
end
theorem kd6 : kdOK 6 [1] := ⟨"QueueDrive$Drive", fun _ => rfl, fun ci h => by
  simp only [List.mem_cons, List.not_mem_nil, or_false] at h
  rcases h with rfl
  · exact ⟨_, rfl, Or.inl rfl⟩⟩
theorem kd7 : kdOK 7 [2] := ⟨"QueueDrive$Line", fun _ => rfl, fun ci h => by
  simp only [List.mem_cons, List.not_mem_nil, or_false] at h
  rcases h with rfl
  · exact ⟨_, rfl, Or.inl rfl⟩⟩
theorem kd8 : kdOK 8 [7] := ⟨"QueueDrive$Command", fun _ => rfl, fun ci h => by
  simp only [List.mem_cons, List.not_mem_nil, or_false] at h
  rcases h with rfl
  · exact ⟨_, rfl, Or.inl rfl⟩⟩
theorem kd9 : kdOK 9 [7, 10] := ⟨"java/lang/Object", fun _ => rfl, fun ci h => by
  simp only [List.mem_cons, List.not_mem_nil, or_false] at h
  rcases h with rfl | rfl
  · exact ⟨_, rfl, Or.inr q2777⟩
  · exact ⟨_, rfl, Or.inr q2796⟩⟩
