/-! INSTANCEOF OF ARRAYS; AN ARRAY OF A NEGATIVE SIZE (printed by exc3.py) -/
set_option maxRecDepth 100000
section
variable {M : Mt} {d k n pc : Nat} {L : List (Option Value)} {st : List Value} {G : Wd} {Q : Qt} {X : Xt}
/-- an array of bytes (1), shorts (4) or ints (0): is it of the kind kd? -/
def insA (G : Wd) (a kd : Nat) (A B : Prop) : Prop := ∃ kd' r n f, (kd' = 0 ∨ kd' = 1 ∨ kd' = 4) ∧ G r a = some (aI kd' n f) ∧ (kd' = kd → A) ∧ (kd' ≠ kd → B)
def arN (kd : Nat) : String := if kd = 0 then "[I" else if kd = 1 then "[B" else "[S"
theorem arN_ok {kd : Nat} (h : kd = 0 ∨ kd = 1 ∨ kd = 4) : ∀ (z : Zt) (s : State), Zok z → (zs z).WarmedH s.vm → s.vm.findClass (arN kd) = some (zK z kd) := by
  rcases h with rfl | rfl | rfl
  · exact nmI
  · exact nmB
  · exact nmS
def insNo (kd : Nat) : Prop := ∀ kd', (kd' = 0 ∨ kd' = 1 ∨ kd' = 4) → kd' ≠ kd → ∀ z, Zok z → (Cond.not (.castable (arN kd') (arN kd))).before #[Value.ref (zb z)] (zs z) = true
theorem insNo1 : insNo 1 := by
  intro kd' h1 h2 z hz
  rcases h1 with rfl | rfl | rfl
  · exact flat_of_before _ hz.2.2.1 _ (by decide +kernel)
  · exact absurd rfl h2
  · exact flat_of_before _ hz.2.2.1 _ (by decide +kernel)
theorem insNo4 : insNo 4 := by
  intro kd' h1 h2 z hz
  rcases h1 with rfl | rfl | rfl
  · exact flat_of_before _ hz.2.2.1 _ (by decide +kernel)
  · exact flat_of_before _ hz.2.2.1 _ (by decide +kernel)
  · exact absurd rfl h2
theorem r_instA {a index kd : Nat} {A B : Prop} (hd : decode M.2.1 pc = .ok (.instanceof index, 3)) (hk : kd = 0 ∨ kd = 1 ∨ kd = 4) (hw : Cond.classLink M.1 index (arN kd) ∈ lw_all) (hno : insNo kd) (ho : insA G a kd A B) (ha : A → wp M d k n (pc + 3) L (vI 1 :: st) G Q X) (hb : B → wp M d k n (pc + 3) L (vI 0 :: st) G Q X) : wp M d k n pc L (vR (some a) :: st) G Q X := by
  obtain ⟨kd', r, m9, f, h1, hg, hA, hB⟩ := ho
  intro z hz p e R s m args below meth c H locs cells slots ls cx hR hP hS hl
  have hW := cx.2.2.2.2.2.2.2.2.1
  have hcell : H[a]? = some (vp_cell (zK z kd') (m9, .inl (fun j => Int32.ofInt (f j)))) := Rp.at hz hP (tr_i (by omega)) hg
  have hr : ∃ cell : Cell, H[a]? = some cell ∧ cell.vm.isStatics = false ∧ s.vm.findClass (arN kd') = some cell.cls := ⟨_, hcell, rfl, arN_ok h1 z s hz hW⟩
  by_cases hkk : kd' = kd
  · subst hkk
    exact va_instE cx.1 cx.2.1 cx.2.2.2.2.2.1 (zw hz hW hw) hr hd (ha (hA rfl) z hz p e R s m args below meth c H locs cells slots ls cx hR hP hS hl)
  · exact va_instNo cx.1 cx.2.1 cx.2.2.2.2.2.1 (zw hz hW hw) (va_Nc.moved hW.alike (va_Nc.of (hno kd' h1 hkk z hz))) hr hd (hb (hB hkk) z hz p e R s m args below meth c H locs cells slots ls cx hR hP hS hl)
theorem neg_at {z : Zt} {s : State} {args : Array Value} (hz : Zok z) (hW : (zs z).WarmedH s.vm) (ho : Old z s) : ∀ w ∈ Bundle.messageArmAtoms "java/lang/NegativeArraySizeException" ["java/lang/RuntimeException", "java/lang/Exception"], w.before args s = true := by
  have hUNASSIGNED_STACK := zU hz hW ho
  have hSUPPRESSED_SENTINEL := zN hz hW ho
  exact vx_c (zw hz hW q101) (vx_c (zw hz hW q239) (vx_c (zw hz hW q248) (vx_c (zw hz hW q254) (vx_c (zw hz hW q257) (vx_c (zw hz hW q259) (vx_c (zw hz hW q240) (vx_c (zw hz hW q241) (vx_c (zw hz hW q142) (vx_c (zw hz hW q143) (vx_c (zw hz hW q242) (vx_c (zw hz hW q247) (vx_c (zw hz hW q255) (vx_c (zw hz hW q290) (vx_c (zw hz hW q229) (vx_c (zw hz hW q291) (vx_c (zw hz hW q231) (vx_c (zw hz hW q292) (vx_c (zw hz hW q233) (vx_c (zw hz hW q243) (vx_c hUNASSIGNED_STACK.2.word (vx_c (zw hz hW q245) (vx_c hSUPPRESSED_SENTINEL.2.word (vx_c (zw hz hW q235) (vx_c (zw hz hW q532) (vx_c (zw hz hW q533) (vx_c (zw hz hW q289) (vx_c (zw hz hW q235) (vx_c (zw hz hW q523) (vx_c (zw hz hW q524) (vx_c (zw hz hW q525) (vx_c (zw hz hW q526) (vx_c (va_Nw.use rfl (va_Nw.warmD hW (va_Nw.of rfl (hz.2.1 _ q221)))) (vx_c (zw hz hW q526) (vx_c (zw hz hW q527) (vx_c (zw hz hW q528) (vx_c (zw hz hW q529) (vx_c (va_Nw.use rfl (va_Nw.warmD hW (va_Nw.of rfl (hz.2.1 _ q223)))) (vx_c (zw hz hW q529) (vx_c (zw hz hW q530) (vx_c (zw hz hW q531) (vx_c (zw hz hW q532) (vx_c (va_Nw.use rfl (va_Nw.warmD hW (va_Nw.of rfl (hz.2.1 _ q225)))) (vx_c (zw hz hW q107) (vx_c (zw hz hW q467) (vx_c (zw hz hW q301) (vx_c (zw hz hW q513) (vx_c (zw hz hW q515) (vx_c (zw hz hW q514) (vx_c (zw hz hW q516) (vx_c (zw hz hW q104) (vx_c (zw hz hW q218) (vx_c (va_Nw.use rfl (zc hz hW q219)) (vx_c (zw hz hW q226) (vx_c (zw hz hW q227) (vx_c (zw hz hW q228) (vx_c (zw hz hW q230) (vx_c (zw hz hW q232) (vx_c (zw hz hW q234) (vx_c (vx_isRefq hUNASSIGNED_STACK.1) (vx_c (vx_isRefq hSUPPRESSED_SENTINEL.1) (vx_c (zw hz hW q288) (vx_c (zw hz hW q237) (vx_c (zw hz hW q236) (vx_n))))))))))))))))))))))))))))))))))))))))))))))))))))))))))))))))
def thA (k n : Nat) (G : Wd) (X : Xt) : Prop := (3 ≤ k ∧ 54 ≤ n) ∧ ∀ q, X "java/lang/NegativeArraySizeException" q G
theorem r_newNeg {mr : Nat} {atype : ArrayType} {len : Int} (h0 : len < 0) (hlen : -2147483648 ≤ len) (hd : decode M.2.1 pc = .ok (.newarray atype, 2)) (hout : ∀ x ∈ tableOf M.2.2.2.2.1, covers x pc = false) (hrc : RC st mr) (hm : mr ≤ 8) (hd1 : 170 ≤ d) (ho : thA k n G X) : wp M d k n pc L (vI len :: st) G Q X := by
  intro z hz p e R s m args below meth c H locs cells slots ls cx hR hP hS hl
  have hW := cx.2.2.2.2.2.2.2.2.1
  have hrc : (st.map fun v => v.category).sum ≤ mr := hrc
  have hold := old_s hP cx.2.2.2.2.2.2.2.2.2 hS
  have hneg : Int32.ofInt len < 0 := by rw [oi_0, oi_lt ⟨hlen, by omega⟩ r0]; exact h0
  refine vx_newarrayZ cx.1 cx.2.1 hneg hd (fun tx htx => ?_)
  subst htx
  refine vx_vm (nb := 44) (names := ["java/lang/RuntimeException", "java/lang/Exception"]) (A := zA z) cx.1 (zT hz) (by decide +kernel) (by decide +kernel) (by decide +kernel) (by decide +kernel) (fun w hw => neg_at hz hW hold w (List.mem_filter.mp hw).1) (by decide +kernel) (zU hz hW hold) (zN hz hW hold) hS (hl.1.trans cx.2.2.2.2.1.symm) (negative_text_modelled hneg) (negative_text_bytes _) (by decide) (by have := hR.1; simp; omega) (by have := hR.2.1; omega) (by decide) (by have := hR.2.2.1; have := ho.1.1; omega) (by have := hR.2.2.2; have := ho.1.2; omega) cx.2.2.2.1 (fun H1 q9 ce g1 g2 g3 g4 g5 g6 => ?_)
  exact vx_out (E := "java/lang/NegativeArraySizeException") (ce := ce) (by rw [cx.2.2.2.2.2.2.1]; exact hout) cx.2.2.2.1 g4 g5 g6 (fun t ht _ => ⟨G, by rw [ht]; exact hP.ext g1 g2, g3.F ht, ho.2 q9⟩) g3.2.2 (by have := hR.2.2.1; have := ho.1.1; omega) (by have := hR.2.2.2; have := ho.1.2; omega)
end
