/-! the twin's constructor, the law's helpers, decompiled (printed by genx.py) -/
set_option maxRecDepth 100000
abbrev m_X4_init : Mt := (yX4_init.cls, cX4_init, 2, none, [], yX4_init.name)
theorem yo_X4_init : yOK yX4_init 0 := ⟨by decide +kernel, by decide +kernel, by decide +kernel⟩
def f_X4_init_257_b (a0 : Nat) (k257 : Nat → Nat → Int → Wd → Prop) (k n : Nat) (l1 : Int) (G : Wd) (Q : Wd → Prop) : Prop :=
  br l1 4 ((4 : Int) ≤ l1) (gR G a0 [3] 20 (fun x106 => nn x106 (fun a107 => (stI G a107 0 826 2 (fun G108 => Q G108))))) (gR G a0 [3] 20 (fun x109 => nn x109 (fun a110 => (stI G a110 0 (822 + l1) 4 (fun G111 => k257 k n (l1 + 1) G111)))))
theorem w_X4_init_257_b {a0 : Nat} {Q : Wd → Prop} {k257 : Nat → Nat → Int → Wd → Prop} (hk257 : ∀ {k n : Nat} {l1 : Int} {G : Wd}, k257 k n l1 G → wp m_X4_init 1 k n 257 [some (vR (some a0)), some (vI l1)] [] G (qV Q) noX) {k n : Nat} {l1 : Int} {G : Wd} (h : f_X4_init_257_b a0 k257 k n l1 G Q) : wp m_X4_init 1 k n 257 [some (vR (some a0)), some (vI l1)] [] G (qV Q) noX := by
  unfold f_X4_init_257_b at h
  refine r_iload_n dX4_init_257 rfl rfl iI ?_
  refine r_iconst dX4_init_258 ?_
  refine r_icmp_ge (tgt := 279) dX4_init_259 (by decide) h (fun h => ?_) (fun h => ?_)
  · refine r_aload_n dX4_init_279 rfl rfl iR ?_
    refine r_getR dX4_init_280 (fg1 (f := 20) fX4 (by decide) q2241 rfl) h (fun x106 h => ?_)
    refine r_sipush dX4_init_283 (by decide) ?_
    refine r_iconst dX4_init_286 ?_
    obtain ⟨a107, e, h⟩ := h
    refine wp.cast (L' := [some (vR (some a0)), some (vI l1)]) (st' := [vI 2, vI 826, vR (some a107)]) rfl (by rw [e]) ?_
    refine r_iast dX4_init_287 h (fun G108 h => ?_)
    exact r_vret rfl dX4_init_288 ⟨rfl, h⟩
  · refine r_aload_n dX4_init_262 rfl rfl iR ?_
    refine r_getR dX4_init_263 (fg1 (f := 20) fX4 (by decide) q2241 rfl) h (fun x109 h => ?_)
    refine r_sipush dX4_init_266 (by decide) ?_
    refine r_iload_n dX4_init_269 rfl rfl iI ?_
    refine r_iadd dX4_init_270 ?_
    refine r_iconst dX4_init_271 ?_
    obtain ⟨a110, e, h⟩ := h
    refine wp.cast (L' := [some (vR (some a0)), some (vI l1)]) (st' := [vI 4, vI (822 + l1), vR (some a110)]) rfl (by rw [e]) ?_
    refine r_iast dX4_init_272 h (fun G111 h => ?_)
    refine r_iinc (L' := [some (vR (some a0)), some (vI (l1 + 1))]) dX4_init_273 rfl rfl cR (by decide) ?_
    refine r_goto (tgt := 257) dX4_init_276 (by decide) ?_
    exact hk257 h
def f_X4_init_257 (a0 : Nat) (Q : Wd → Prop) : Nat → Nat → Nat → Int → Wd → Prop
  | 0, _, _, _, _ => False
  | fl + 1, k, n, l1, G => f_X4_init_257_b a0  (fun k n l1 G => f_X4_init_257 a0  Q fl k n l1 G) k n l1 G Q
theorem w_X4_init_257 {a0 : Nat} {Q : Wd → Prop} : ∀ (fl : Nat) {k n : Nat} {l1 : Int} {G : Wd}, f_X4_init_257 a0 Q fl k n l1 G → wp m_X4_init 1 k n 257 [some (vR (some a0)), some (vI l1)] [] G (qV Q) noX := by
  intro fl
  induction fl with
  | zero => intro k n l1 G h; exact (show False from h).elim
  | succ fl ih => intro k n l1 G h; exact w_X4_init_257_b  (fun h => ih h) h
def f_X4_init_218_b (a0 : Nat) (k218 : Nat → Nat → Int → Wd → Prop) (k n : Nat) (l1 : Int) (G : Wd) (Q : Wd → Prop) : Prop :=
  br l1 4 ((4 : Int) ≤ l1) (∃ fl112, f_X4_init_257 a0 Q fl112 k n 0 G) (gR G a0 [3] 20 (fun x113 => nn x113 (fun a114 => (stI G a114 0 (814 + l1) (4 - l1) (fun G115 => gR G115 a0 [3] 20 (fun x116 => nn x116 (fun a117 => (stI G115 a117 0 (818 + l1) (4 - l1) (fun G118 => k218 k n (l1 + 1) G118)))))))))
theorem w_X4_init_218_b {a0 : Nat} {Q : Wd → Prop} {k218 : Nat → Nat → Int → Wd → Prop} (hk218 : ∀ {k n : Nat} {l1 : Int} {G : Wd}, k218 k n l1 G → wp m_X4_init 1 k n 218 [some (vR (some a0)), some (vI l1)] [] G (qV Q) noX) {k n : Nat} {l1 : Int} {G : Wd} (h : f_X4_init_218_b a0 k218 k n l1 G Q) : wp m_X4_init 1 k n 218 [some (vR (some a0)), some (vI l1)] [] G (qV Q) noX := by
  unfold f_X4_init_218_b at h
  refine r_iload_n dX4_init_218 rfl rfl iI ?_
  refine r_iconst dX4_init_219 ?_
  refine r_icmp_ge (tgt := 255) dX4_init_220 (by decide) h (fun h => ?_) (fun h => ?_)
  · refine r_iconst dX4_init_255 ?_
    refine r_istore_n (L' := [some (vR (some a0)), some (vI 0)]) dX4_init_256 rfl rfl iI cR (by decide) ?_
    obtain ⟨fl112, h⟩ := h
    exact w_X4_init_257 fl112 h
  · refine r_aload_n dX4_init_223 rfl rfl iR ?_
    refine r_getR dX4_init_224 (fg1 (f := 20) fX4 (by decide) q2241 rfl) h (fun x113 h => ?_)
    refine r_sipush dX4_init_227 (by decide) ?_
    refine r_iload_n dX4_init_230 rfl rfl iI ?_
    refine r_iadd dX4_init_231 ?_
    refine r_iconst dX4_init_232 ?_
    refine r_iload_n dX4_init_233 rfl rfl iI ?_
    refine r_isub dX4_init_234 ?_
    obtain ⟨a114, e, h⟩ := h
    refine wp.cast (L' := [some (vR (some a0)), some (vI l1)]) (st' := [vI (4 - l1), vI (814 + l1), vR (some a114)]) rfl (by rw [e]) ?_
    refine r_iast dX4_init_235 h (fun G115 h => ?_)
    refine r_aload_n dX4_init_236 rfl rfl iR ?_
    refine r_getR dX4_init_237 (fg1 (f := 20) fX4 (by decide) q2241 rfl) h (fun x116 h => ?_)
    refine r_sipush dX4_init_240 (by decide) ?_
    refine r_iload_n dX4_init_243 rfl rfl iI ?_
    refine r_iadd dX4_init_244 ?_
    refine r_iconst dX4_init_245 ?_
    refine r_iload_n dX4_init_246 rfl rfl iI ?_
    refine r_isub dX4_init_247 ?_
    obtain ⟨a117, e, h⟩ := h
    refine wp.cast (L' := [some (vR (some a0)), some (vI l1)]) (st' := [vI (4 - l1), vI (818 + l1), vR (some a117)]) rfl (by rw [e]) ?_
    refine r_iast dX4_init_248 h (fun G118 h => ?_)
    refine r_iinc (L' := [some (vR (some a0)), some (vI (l1 + 1))]) dX4_init_249 rfl rfl cR (by decide) ?_
    refine r_goto (tgt := 218) dX4_init_252 (by decide) ?_
    exact hk218 h
def f_X4_init_218 (a0 : Nat) (Q : Wd → Prop) : Nat → Nat → Nat → Int → Wd → Prop
  | 0, _, _, _, _ => False
  | fl + 1, k, n, l1, G => f_X4_init_218_b a0  (fun k n l1 G => f_X4_init_218 a0  Q fl k n l1 G) k n l1 G Q
theorem w_X4_init_218 {a0 : Nat} {Q : Wd → Prop} : ∀ (fl : Nat) {k n : Nat} {l1 : Int} {G : Wd}, f_X4_init_218 a0 Q fl k n l1 G → wp m_X4_init 1 k n 218 [some (vR (some a0)), some (vI l1)] [] G (qV Q) noX := by
  intro fl
  induction fl with
  | zero => intro k n l1 G h; exact (show False from h).elim
  | succ fl ih => intro k n l1 G h; exact w_X4_init_218_b  (fun h => ih h) h
def f_X4_init (k n : Nat) (a0 : Nat) (G : Wd) (Q : Wd → Prop) : Prop :=
  nA G k n 24 (fun l => aJ l (fun _ => 0)) (fun a119 G120 => pF G120 a0 [3] 2 (vR (some a119)) (fun G121 => nA G121 (k - 1) (n - (24 : Int).toNat) 80 (fun l => aI 0 l (fun _ => 0)) (fun a122 G123 => pF G123 a0 [3] 3 (vR (some a122)) (fun G124 => nA G124 ((k - 1) - 1) ((n - (24 : Int).toNat) - (80 : Int).toNat) 80 (fun l => aI 0 l (fun _ => 0)) (fun a125 G126 => pF G126 a0 [3] 8 (vR (some a125)) (fun G127 => nA G127 (((k - 1) - 1) - 1) (((n - (24 : Int).toNat) - (80 : Int).toNat) - (80 : Int).toNat) 80 (fun l => aI 0 l (fun _ => 0)) (fun a128 G129 => pF G129 a0 [3] 9 (vR (some a128)) (fun G130 => nA G130 ((((k - 1) - 1) - 1) - 1) ((((n - (24 : Int).toNat) - (80 : Int).toNat) - (80 : Int).toNat) - (80 : Int).toNat) 80 (fun l => aI 0 l (fun _ => 0)) (fun a131 G132 => pF G132 a0 [3] 12 (vR (some a131)) (fun G133 => nA G133 (((((k - 1) - 1) - 1) - 1) - 1) (((((n - (24 : Int).toNat) - (80 : Int).toNat) - (80 : Int).toNat) - (80 : Int).toNat) - (80 : Int).toNat) 7 (fun l => aI 0 l (fun _ => 0)) (fun a134 G135 => pF G135 a0 [3] 13 (vR (some a134)) (fun G136 => nA G136 ((((((k - 1) - 1) - 1) - 1) - 1) - 1) ((((((n - (24 : Int).toNat) - (80 : Int).toNat) - (80 : Int).toNat) - (80 : Int).toNat) - (80 : Int).toNat) - (7 : Int).toNat) 5 (fun l => aI 0 l (fun _ => 0)) (fun a137 G138 => pF G138 a0 [3] 16 (vR (some a137)) (fun G139 => nA G139 (((((((k - 1) - 1) - 1) - 1) - 1) - 1) - 1) (((((((n - (24 : Int).toNat) - (80 : Int).toNat) - (80 : Int).toNat) - (80 : Int).toNat) - (80 : Int).toNat) - (7 : Int).toNat) - (5 : Int).toNat) 5 (fun l => aI 0 l (fun _ => 0)) (fun a140 G141 => pF G141 a0 [3] 17 (vR (some a140)) (fun G142 => nA G142 ((((((((k - 1) - 1) - 1) - 1) - 1) - 1) - 1) - 1) ((((((((n - (24 : Int).toNat) - (80 : Int).toNat) - (80 : Int).toNat) - (80 : Int).toNat) - (80 : Int).toNat) - (7 : Int).toNat) - (5 : Int).toNat) - (5 : Int).toNat) 5 (fun l => aI 0 l (fun _ => 0)) (fun a143 G144 => pF G144 a0 [3] 18 (vR (some a143)) (fun G145 => nA G145 (((((((((k - 1) - 1) - 1) - 1) - 1) - 1) - 1) - 1) - 1) (((((((((n - (24 : Int).toNat) - (80 : Int).toNat) - (80 : Int).toNat) - (80 : Int).toNat) - (80 : Int).toNat) - (7 : Int).toNat) - (5 : Int).toNat) - (5 : Int).toNat) - (5 : Int).toNat) 5 (fun l => aI 0 l (fun _ => 0)) (fun a146 G147 => pF G147 a0 [3] 19 (vR (some a146)) (fun G148 => nA G148 ((((((((((k - 1) - 1) - 1) - 1) - 1) - 1) - 1) - 1) - 1) - 1) ((((((((((n - (24 : Int).toNat) - (80 : Int).toNat) - (80 : Int).toNat) - (80 : Int).toNat) - (80 : Int).toNat) - (7 : Int).toNat) - (5 : Int).toNat) - (5 : Int).toNat) - (5 : Int).toNat) - (5 : Int).toNat) 844 (fun l => aI 0 l (fun _ => 0)) (fun a149 G150 => pF G150 a0 [3] 20 (vR (some a149)) (fun G151 => nA G151 (((((((((((k - 1) - 1) - 1) - 1) - 1) - 1) - 1) - 1) - 1) - 1) - 1) (((((((((((n - (24 : Int).toNat) - (80 : Int).toNat) - (80 : Int).toNat) - (80 : Int).toNat) - (80 : Int).toNat) - (7 : Int).toNat) - (5 : Int).toNat) - (5 : Int).toNat) - (5 : Int).toNat) - (5 : Int).toNat) - (844 : Int).toNat) 844 (fun l => aI 0 l (fun _ => 0)) (fun a152 G153 => pF G153 a0 [3] 21 (vR (some a152)) (fun G154 => nA G154 ((((((((((((k - 1) - 1) - 1) - 1) - 1) - 1) - 1) - 1) - 1) - 1) - 1) - 1) ((((((((((((n - (24 : Int).toNat) - (80 : Int).toNat) - (80 : Int).toNat) - (80 : Int).toNat) - (80 : Int).toNat) - (7 : Int).toNat) - (5 : Int).toNat) - (5 : Int).toNat) - (5 : Int).toNat) - (5 : Int).toNat) - (844 : Int).toNat) - (844 : Int).toNat) 7596 (fun l => aI 0 l (fun _ => 0)) (fun a155 G156 => pF G156 a0 [3] 23 (vR (some a155)) (fun G157 => nA G157 (((((((((((((k - 1) - 1) - 1) - 1) - 1) - 1) - 1) - 1) - 1) - 1) - 1) - 1) - 1) (((((((((((((n - (24 : Int).toNat) - (80 : Int).toNat) - (80 : Int).toNat) - (80 : Int).toNat) - (80 : Int).toNat) - (7 : Int).toNat) - (5 : Int).toNat) - (5 : Int).toNat) - (5 : Int).toNat) - (5 : Int).toNat) - (844 : Int).toNat) - (844 : Int).toNat) - (7596 : Int).toNat) 80 (fun l => aI 0 l (fun _ => 0)) (fun a158 G159 => pF G159 a0 [3] 27 (vR (some a158)) (fun G160 => nA G160 ((((((((((((((k - 1) - 1) - 1) - 1) - 1) - 1) - 1) - 1) - 1) - 1) - 1) - 1) - 1) - 1) ((((((((((((((n - (24 : Int).toNat) - (80 : Int).toNat) - (80 : Int).toNat) - (80 : Int).toNat) - (80 : Int).toNat) - (7 : Int).toNat) - (5 : Int).toNat) - (5 : Int).toNat) - (5 : Int).toNat) - (5 : Int).toNat) - (844 : Int).toNat) - (844 : Int).toNat) - (7596 : Int).toNat) - (80 : Int).toNat) 80 (fun l => aI 0 l (fun _ => 0)) (fun a161 G162 => pF G162 a0 [3] 28 (vR (some a161)) (fun G163 => nA G163 (((((((((((((((k - 1) - 1) - 1) - 1) - 1) - 1) - 1) - 1) - 1) - 1) - 1) - 1) - 1) - 1) - 1) (((((((((((((((n - (24 : Int).toNat) - (80 : Int).toNat) - (80 : Int).toNat) - (80 : Int).toNat) - (80 : Int).toNat) - (7 : Int).toNat) - (5 : Int).toNat) - (5 : Int).toNat) - (5 : Int).toNat) - (5 : Int).toNat) - (844 : Int).toNat) - (844 : Int).toNat) - (7596 : Int).toNat) - (80 : Int).toNat) - (80 : Int).toNat) 80 (fun l => aI 0 l (fun _ => 0)) (fun a164 G165 => pF G165 a0 [3] 29 (vR (some a164)) (fun G166 => nA G166 ((((((((((((((((k - 1) - 1) - 1) - 1) - 1) - 1) - 1) - 1) - 1) - 1) - 1) - 1) - 1) - 1) - 1) - 1) ((((((((((((((((n - (24 : Int).toNat) - (80 : Int).toNat) - (80 : Int).toNat) - (80 : Int).toNat) - (80 : Int).toNat) - (7 : Int).toNat) - (5 : Int).toNat) - (5 : Int).toNat) - (5 : Int).toNat) - (5 : Int).toNat) - (844 : Int).toNat) - (844 : Int).toNat) - (7596 : Int).toNat) - (80 : Int).toNat) - (80 : Int).toNat) - (80 : Int).toNat) 80 (fun l => aI 0 l (fun _ => 0)) (fun a167 G168 => pF G168 a0 [3] 30 (vR (some a167)) (fun G169 => nA G169 (((((((((((((((((k - 1) - 1) - 1) - 1) - 1) - 1) - 1) - 1) - 1) - 1) - 1) - 1) - 1) - 1) - 1) - 1) - 1) (((((((((((((((((n - (24 : Int).toNat) - (80 : Int).toNat) - (80 : Int).toNat) - (80 : Int).toNat) - (80 : Int).toNat) - (7 : Int).toNat) - (5 : Int).toNat) - (5 : Int).toNat) - (5 : Int).toNat) - (5 : Int).toNat) - (844 : Int).toNat) - (844 : Int).toNat) - (7596 : Int).toNat) - (80 : Int).toNat) - (80 : Int).toNat) - (80 : Int).toNat) - (80 : Int).toNat) 80 (fun l => aI 0 l (fun _ => 0)) (fun a170 G171 => pF G171 a0 [3] 31 (vR (some a170)) (fun G172 => nA G172 ((((((((((((((((((k - 1) - 1) - 1) - 1) - 1) - 1) - 1) - 1) - 1) - 1) - 1) - 1) - 1) - 1) - 1) - 1) - 1) - 1) ((((((((((((((((((n - (24 : Int).toNat) - (80 : Int).toNat) - (80 : Int).toNat) - (80 : Int).toNat) - (80 : Int).toNat) - (7 : Int).toNat) - (5 : Int).toNat) - (5 : Int).toNat) - (5 : Int).toNat) - (5 : Int).toNat) - (844 : Int).toNat) - (844 : Int).toNat) - (7596 : Int).toNat) - (80 : Int).toNat) - (80 : Int).toNat) - (80 : Int).toNat) - (80 : Int).toNat) - (80 : Int).toNat) 4 (fun l => aI 0 l (fun _ => 0)) (fun a173 G174 => pF G174 a0 [3] 33 (vR (some a173)) (fun G175 => nA G175 (((((((((((((((((((k - 1) - 1) - 1) - 1) - 1) - 1) - 1) - 1) - 1) - 1) - 1) - 1) - 1) - 1) - 1) - 1) - 1) - 1) - 1) (((((((((((((((((((n - (24 : Int).toNat) - (80 : Int).toNat) - (80 : Int).toNat) - (80 : Int).toNat) - (80 : Int).toNat) - (7 : Int).toNat) - (5 : Int).toNat) - (5 : Int).toNat) - (5 : Int).toNat) - (5 : Int).toNat) - (844 : Int).toNat) - (844 : Int).toNat) - (7596 : Int).toNat) - (80 : Int).toNat) - (80 : Int).toNat) - (80 : Int).toNat) - (80 : Int).toNat) - (80 : Int).toNat) - (4 : Int).toNat) 5 (fun l => aI 0 l (fun _ => 0)) (fun a176 G177 => pF G177 a0 [3] 34 (vR (some a176)) (fun G178 => nA G178 ((((((((((((((((((((k - 1) - 1) - 1) - 1) - 1) - 1) - 1) - 1) - 1) - 1) - 1) - 1) - 1) - 1) - 1) - 1) - 1) - 1) - 1) - 1) ((((((((((((((((((((n - (24 : Int).toNat) - (80 : Int).toNat) - (80 : Int).toNat) - (80 : Int).toNat) - (80 : Int).toNat) - (7 : Int).toNat) - (5 : Int).toNat) - (5 : Int).toNat) - (5 : Int).toNat) - (5 : Int).toNat) - (844 : Int).toNat) - (844 : Int).toNat) - (7596 : Int).toNat) - (80 : Int).toNat) - (80 : Int).toNat) - (80 : Int).toNat) - (80 : Int).toNat) - (80 : Int).toNat) - (4 : Int).toNat) - (5 : Int).toNat) 12 (fun l => aI 0 l (fun _ => 0)) (fun a179 G180 => pF G180 a0 [3] 37 (vR (some a179)) (fun G181 => nA G181 (((((((((((((((((((((k - 1) - 1) - 1) - 1) - 1) - 1) - 1) - 1) - 1) - 1) - 1) - 1) - 1) - 1) - 1) - 1) - 1) - 1) - 1) - 1) - 1) (((((((((((((((((((((n - (24 : Int).toNat) - (80 : Int).toNat) - (80 : Int).toNat) - (80 : Int).toNat) - (80 : Int).toNat) - (7 : Int).toNat) - (5 : Int).toNat) - (5 : Int).toNat) - (5 : Int).toNat) - (5 : Int).toNat) - (844 : Int).toNat) - (844 : Int).toNat) - (7596 : Int).toNat) - (80 : Int).toNat) - (80 : Int).toNat) - (80 : Int).toNat) - (80 : Int).toNat) - (80 : Int).toNat) - (4 : Int).toNat) - (5 : Int).toNat) - (12 : Int).toNat) 12 (fun l => aI 0 l (fun _ => 0)) (fun a182 G183 => pF G183 a0 [3] 38 (vR (some a182)) (fun G184 => nA G184 ((((((((((((((((((((((k - 1) - 1) - 1) - 1) - 1) - 1) - 1) - 1) - 1) - 1) - 1) - 1) - 1) - 1) - 1) - 1) - 1) - 1) - 1) - 1) - 1) - 1) ((((((((((((((((((((((n - (24 : Int).toNat) - (80 : Int).toNat) - (80 : Int).toNat) - (80 : Int).toNat) - (80 : Int).toNat) - (7 : Int).toNat) - (5 : Int).toNat) - (5 : Int).toNat) - (5 : Int).toNat) - (5 : Int).toNat) - (844 : Int).toNat) - (844 : Int).toNat) - (7596 : Int).toNat) - (80 : Int).toNat) - (80 : Int).toNat) - (80 : Int).toNat) - (80 : Int).toNat) - (80 : Int).toNat) - (4 : Int).toNat) - (5 : Int).toNat) - (12 : Int).toNat) - (12 : Int).toNat) 41 (fun l => aI 0 l (fun _ => 0)) (fun a185 G186 => pF G186 a0 [3] 39 (vR (some a185)) (fun G187 => nA G187 (((((((((((((((((((((((k - 1) - 1) - 1) - 1) - 1) - 1) - 1) - 1) - 1) - 1) - 1) - 1) - 1) - 1) - 1) - 1) - 1) - 1) - 1) - 1) - 1) - 1) - 1) (((((((((((((((((((((((n - (24 : Int).toNat) - (80 : Int).toNat) - (80 : Int).toNat) - (80 : Int).toNat) - (80 : Int).toNat) - (7 : Int).toNat) - (5 : Int).toNat) - (5 : Int).toNat) - (5 : Int).toNat) - (5 : Int).toNat) - (844 : Int).toNat) - (844 : Int).toNat) - (7596 : Int).toNat) - (80 : Int).toNat) - (80 : Int).toNat) - (80 : Int).toNat) - (80 : Int).toNat) - (80 : Int).toNat) - (4 : Int).toNat) - (5 : Int).toNat) - (12 : Int).toNat) - (12 : Int).toNat) - (41 : Int).toNat) 80 (fun l => aI 0 l (fun _ => 0)) (fun a188 G189 => pF G189 a0 [3] 40 (vR (some a188)) (fun G190 => nA G190 ((((((((((((((((((((((((k - 1) - 1) - 1) - 1) - 1) - 1) - 1) - 1) - 1) - 1) - 1) - 1) - 1) - 1) - 1) - 1) - 1) - 1) - 1) - 1) - 1) - 1) - 1) - 1) ((((((((((((((((((((((((n - (24 : Int).toNat) - (80 : Int).toNat) - (80 : Int).toNat) - (80 : Int).toNat) - (80 : Int).toNat) - (7 : Int).toNat) - (5 : Int).toNat) - (5 : Int).toNat) - (5 : Int).toNat) - (5 : Int).toNat) - (844 : Int).toNat) - (844 : Int).toNat) - (7596 : Int).toNat) - (80 : Int).toNat) - (80 : Int).toNat) - (80 : Int).toNat) - (80 : Int).toNat) - (80 : Int).toNat) - (4 : Int).toNat) - (5 : Int).toNat) - (12 : Int).toNat) - (12 : Int).toNat) - (41 : Int).toNat) - (80 : Int).toNat) 2 (fun l => aI 2 l (fun _ => 0)) (fun a191 G192 => pF G192 a0 [3] 42 (vR (some a191)) (fun G193 => nA G193 (((((((((((((((((((((((((k - 1) - 1) - 1) - 1) - 1) - 1) - 1) - 1) - 1) - 1) - 1) - 1) - 1) - 1) - 1) - 1) - 1) - 1) - 1) - 1) - 1) - 1) - 1) - 1) - 1) (((((((((((((((((((((((((n - (24 : Int).toNat) - (80 : Int).toNat) - (80 : Int).toNat) - (80 : Int).toNat) - (80 : Int).toNat) - (7 : Int).toNat) - (5 : Int).toNat) - (5 : Int).toNat) - (5 : Int).toNat) - (5 : Int).toNat) - (844 : Int).toNat) - (844 : Int).toNat) - (7596 : Int).toNat) - (80 : Int).toNat) - (80 : Int).toNat) - (80 : Int).toNat) - (80 : Int).toNat) - (80 : Int).toNat) - (4 : Int).toNat) - (5 : Int).toNat) - (12 : Int).toNat) - (12 : Int).toNat) - (41 : Int).toNat) - (80 : Int).toNat) - (2 : Int).toNat) 2 (fun l => aI 0 l (fun _ => 0)) (fun a194 G195 => pF G195 a0 [3] 43 (vR (some a194)) (fun G196 => nA G196 ((((((((((((((((((((((((((k - 1) - 1) - 1) - 1) - 1) - 1) - 1) - 1) - 1) - 1) - 1) - 1) - 1) - 1) - 1) - 1) - 1) - 1) - 1) - 1) - 1) - 1) - 1) - 1) - 1) - 1) ((((((((((((((((((((((((((n - (24 : Int).toNat) - (80 : Int).toNat) - (80 : Int).toNat) - (80 : Int).toNat) - (80 : Int).toNat) - (7 : Int).toNat) - (5 : Int).toNat) - (5 : Int).toNat) - (5 : Int).toNat) - (5 : Int).toNat) - (844 : Int).toNat) - (844 : Int).toNat) - (7596 : Int).toNat) - (80 : Int).toNat) - (80 : Int).toNat) - (80 : Int).toNat) - (80 : Int).toNat) - (80 : Int).toNat) - (4 : Int).toNat) - (5 : Int).toNat) - (12 : Int).toNat) - (12 : Int).toNat) - (41 : Int).toNat) - (80 : Int).toNat) - (2 : Int).toNat) - (2 : Int).toNat) 1688 (fun l => aI 0 l (fun _ => 0)) (fun a197 G198 => pF G198 a0 [3] 44 (vR (some a197)) (fun G199 => ∃ fl200, f_X4_init_218 a0 Q fl200 (((((((((((((((((((((((((((k - 1) - 1) - 1) - 1) - 1) - 1) - 1) - 1) - 1) - 1) - 1) - 1) - 1) - 1) - 1) - 1) - 1) - 1) - 1) - 1) - 1) - 1) - 1) - 1) - 1) - 1) - 1) (((((((((((((((((((((((((((n - (24 : Int).toNat) - (80 : Int).toNat) - (80 : Int).toNat) - (80 : Int).toNat) - (80 : Int).toNat) - (7 : Int).toNat) - (5 : Int).toNat) - (5 : Int).toNat) - (5 : Int).toNat) - (5 : Int).toNat) - (844 : Int).toNat) - (844 : Int).toNat) - (7596 : Int).toNat) - (80 : Int).toNat) - (80 : Int).toNat) - (80 : Int).toNat) - (80 : Int).toNat) - (80 : Int).toNat) - (4 : Int).toNat) - (5 : Int).toNat) - (12 : Int).toNat) - (12 : Int).toNat) - (41 : Int).toNat) - (80 : Int).toNat) - (2 : Int).toNat) - (2 : Int).toNat) - (1688 : Int).toNat) 1 G199))))))))))))))))))))))))))))))))))))))))))))))))))))))
theorem w_X4_init {a0 : Nat} {Q : Wd → Prop} {k n : Nat} {G : Wd} (h : f_X4_init k n a0 G Q) : wp m_X4_init 1 k n 0 [some (vR (some a0)), none] [] G (qV Q) noX := by
  unfold f_X4_init at h
  refine r_aload_n dX4_init_0 rfl rfl iR ?_
  refine r_objInit dX4_init_1 q2220 q142 q143 rc0 (by decide) (by decide) ?_
  refine r_aload_n dX4_init_4 rfl rfl iR ?_
  refine r_bipush dX4_init_5 (by decide) ?_
  refine r_newJ dX4_init_7 h (fun a119 G120 h => ?_)
  refine r_put dX4_init_9 (fp1F (f := 2) fX4 (by decide) q2223 rfl rfl rfl rfl) fvA h (fun G121 h => ?_)
  refine r_aload_n dX4_init_12 rfl rfl iR ?_
  refine r_bipush dX4_init_13 (by decide) ?_
  refine r_newI dX4_init_15 h (fun a122 G123 h => ?_)
  refine r_put dX4_init_17 (fp1F (f := 3) fX4 (by decide) q2224 rfl rfl rfl rfl) fvA h (fun G124 h => ?_)
  refine r_aload_n dX4_init_20 rfl rfl iR ?_
  refine r_bipush dX4_init_21 (by decide) ?_
  refine r_newI dX4_init_23 h (fun a125 G126 h => ?_)
  refine r_put dX4_init_25 (fp1F (f := 8) fX4 (by decide) q2229 rfl rfl rfl rfl) fvA h (fun G127 h => ?_)
  refine r_aload_n dX4_init_28 rfl rfl iR ?_
  refine r_bipush dX4_init_29 (by decide) ?_
  refine r_newI dX4_init_31 h (fun a128 G129 h => ?_)
  refine r_put dX4_init_33 (fp1F (f := 9) fX4 (by decide) q2230 rfl rfl rfl rfl) fvA h (fun G130 h => ?_)
  refine r_aload_n dX4_init_36 rfl rfl iR ?_
  refine r_bipush dX4_init_37 (by decide) ?_
  refine r_newI dX4_init_39 h (fun a131 G132 h => ?_)
  refine r_put dX4_init_41 (fp1F (f := 12) fX4 (by decide) q2233 rfl rfl rfl rfl) fvA h (fun G133 h => ?_)
  refine r_aload_n dX4_init_44 rfl rfl iR ?_
  refine r_bipush dX4_init_45 (by decide) ?_
  refine r_newI dX4_init_47 h (fun a134 G135 h => ?_)
  refine r_put dX4_init_49 (fp1F (f := 13) fX4 (by decide) q2234 rfl rfl rfl rfl) fvA h (fun G136 h => ?_)
  refine r_aload_n dX4_init_52 rfl rfl iR ?_
  refine r_iconst dX4_init_53 ?_
  refine r_newI dX4_init_54 h (fun a137 G138 h => ?_)
  refine r_put dX4_init_56 (fp1F (f := 16) fX4 (by decide) q2237 rfl rfl rfl rfl) fvA h (fun G139 h => ?_)
  refine r_aload_n dX4_init_59 rfl rfl iR ?_
  refine r_iconst dX4_init_60 ?_
  refine r_newI dX4_init_61 h (fun a140 G141 h => ?_)
  refine r_put dX4_init_63 (fp1F (f := 17) fX4 (by decide) q2238 rfl rfl rfl rfl) fvA h (fun G142 h => ?_)
  refine r_aload_n dX4_init_66 rfl rfl iR ?_
  refine r_iconst dX4_init_67 ?_
  refine r_newI dX4_init_68 h (fun a143 G144 h => ?_)
  refine r_put dX4_init_70 (fp1F (f := 18) fX4 (by decide) q2239 rfl rfl rfl rfl) fvA h (fun G145 h => ?_)
  refine r_aload_n dX4_init_73 rfl rfl iR ?_
  refine r_iconst dX4_init_74 ?_
  refine r_newI dX4_init_75 h (fun a146 G147 h => ?_)
  refine r_put dX4_init_77 (fp1F (f := 19) fX4 (by decide) q2240 rfl rfl rfl rfl) fvA h (fun G148 h => ?_)
  refine r_aload_n dX4_init_80 rfl rfl iR ?_
  refine r_sipush dX4_init_81 (by decide) ?_
  refine r_newI dX4_init_84 h (fun a149 G150 h => ?_)
  refine r_put dX4_init_86 (fp1F (f := 20) fX4 (by decide) q2241 rfl rfl rfl rfl) fvA h (fun G151 h => ?_)
  refine r_aload_n dX4_init_89 rfl rfl iR ?_
  refine r_sipush dX4_init_90 (by decide) ?_
  refine r_newI dX4_init_93 h (fun a152 G153 h => ?_)
  refine r_put dX4_init_95 (fp1F (f := 21) fX4 (by decide) q2242 rfl rfl rfl rfl) fvA h (fun G154 h => ?_)
  refine r_aload_n dX4_init_98 rfl rfl iR ?_
  refine r_sipush dX4_init_99 (by decide) ?_
  refine r_newI dX4_init_102 h (fun a155 G156 h => ?_)
  refine r_put dX4_init_104 (fp1F (f := 23) fX4 (by decide) q2244 rfl rfl rfl rfl) fvA h (fun G157 h => ?_)
  refine r_aload_n dX4_init_107 rfl rfl iR ?_
  refine r_bipush dX4_init_108 (by decide) ?_
  refine r_newI dX4_init_110 h (fun a158 G159 h => ?_)
  refine r_put dX4_init_112 (fp1F (f := 27) fX4 (by decide) q2248 rfl rfl rfl rfl) fvA h (fun G160 h => ?_)
  refine r_aload_n dX4_init_115 rfl rfl iR ?_
  refine r_bipush dX4_init_116 (by decide) ?_
  refine r_newI dX4_init_118 h (fun a161 G162 h => ?_)
  refine r_put dX4_init_120 (fp1F (f := 28) fX4 (by decide) q2249 rfl rfl rfl rfl) fvA h (fun G163 h => ?_)
  refine r_aload_n dX4_init_123 rfl rfl iR ?_
  refine r_bipush dX4_init_124 (by decide) ?_
  refine r_newI dX4_init_126 h (fun a164 G165 h => ?_)
  refine r_put dX4_init_128 (fp1F (f := 29) fX4 (by decide) q2250 rfl rfl rfl rfl) fvA h (fun G166 h => ?_)
  refine r_aload_n dX4_init_131 rfl rfl iR ?_
  refine r_bipush dX4_init_132 (by decide) ?_
  refine r_newI dX4_init_134 h (fun a167 G168 h => ?_)
  refine r_put dX4_init_136 (fp1F (f := 30) fX4 (by decide) q2251 rfl rfl rfl rfl) fvA h (fun G169 h => ?_)
  refine r_aload_n dX4_init_139 rfl rfl iR ?_
  refine r_bipush dX4_init_140 (by decide) ?_
  refine r_newI dX4_init_142 h (fun a170 G171 h => ?_)
  refine r_put dX4_init_144 (fp1F (f := 31) fX4 (by decide) q2252 rfl rfl rfl rfl) fvA h (fun G172 h => ?_)
  refine r_aload_n dX4_init_147 rfl rfl iR ?_
  refine r_iconst dX4_init_148 ?_
  refine r_newI dX4_init_149 h (fun a173 G174 h => ?_)
  refine r_put dX4_init_151 (fp1F (f := 33) fX4 (by decide) q2254 rfl rfl rfl rfl) fvA h (fun G175 h => ?_)
  refine r_aload_n dX4_init_154 rfl rfl iR ?_
  refine r_iconst dX4_init_155 ?_
  refine r_newI dX4_init_156 h (fun a176 G177 h => ?_)
  refine r_put dX4_init_158 (fp1F (f := 34) fX4 (by decide) q2255 rfl rfl rfl rfl) fvA h (fun G178 h => ?_)
  refine r_aload_n dX4_init_161 rfl rfl iR ?_
  refine r_bipush dX4_init_162 (by decide) ?_
  refine r_newI dX4_init_164 h (fun a179 G180 h => ?_)
  refine r_put dX4_init_166 (fp1F (f := 37) fX4 (by decide) q2258 rfl rfl rfl rfl) fvA h (fun G181 h => ?_)
  refine r_aload_n dX4_init_169 rfl rfl iR ?_
  refine r_bipush dX4_init_170 (by decide) ?_
  refine r_newI dX4_init_172 h (fun a182 G183 h => ?_)
  refine r_put dX4_init_174 (fp1F (f := 38) fX4 (by decide) q2259 rfl rfl rfl rfl) fvA h (fun G184 h => ?_)
  refine r_aload_n dX4_init_177 rfl rfl iR ?_
  refine r_bipush dX4_init_178 (by decide) ?_
  refine r_newI dX4_init_180 h (fun a185 G186 h => ?_)
  refine r_put dX4_init_182 (fp1F (f := 39) fX4 (by decide) q2260 rfl rfl rfl rfl) fvA h (fun G187 h => ?_)
  refine r_aload_n dX4_init_185 rfl rfl iR ?_
  refine r_bipush dX4_init_186 (by decide) ?_
  refine r_newI dX4_init_188 h (fun a188 G189 h => ?_)
  refine r_put dX4_init_190 (fp1F (f := 40) fX4 (by decide) q2261 rfl rfl rfl rfl) fvA h (fun G190 h => ?_)
  refine r_aload_n dX4_init_193 rfl rfl iR ?_
  refine r_iconst dX4_init_194 ?_
  refine r_newZ dX4_init_195 h (fun a191 G192 h => ?_)
  refine r_put dX4_init_197 (fp1F (f := 42) fX4 (by decide) q2263 rfl rfl rfl rfl) fvA h (fun G193 h => ?_)
  refine r_aload_n dX4_init_200 rfl rfl iR ?_
  refine r_iconst dX4_init_201 ?_
  refine r_newI dX4_init_202 h (fun a194 G195 h => ?_)
  refine r_put dX4_init_204 (fp1F (f := 43) fX4 (by decide) q2264 rfl rfl rfl rfl) fvA h (fun G196 h => ?_)
  refine r_aload_n dX4_init_207 rfl rfl iR ?_
  refine r_sipush dX4_init_208 (by decide) ?_
  refine r_newI dX4_init_211 h (fun a197 G198 h => ?_)
  refine r_put dX4_init_213 (fp1F (f := 44) fX4 (by decide) q2265 rfl rfl rfl rfl) fvA h (fun G199 h => ?_)
  refine r_iconst dX4_init_216 ?_
  refine r_istore_n (L' := [some (vR (some a0)), some (vI 1)]) dX4_init_217 rfl rfl iI cR (by decide) ?_
  obtain ⟨fl200, h⟩ := h
  exact w_X4_init_218 fl200 h
theorem c_X4_init {a0 : Nat} {k n : Nat} {Q : Wd → Prop} {G : Wd} (h : f_X4_init k n a0 G Q) : call yX4_init (Cond.code yX4_init cX4_init 2 (none)) 1 k n [vR (some a0)] G (qV Q) noX :=
  call.enter (by decide +kernel) (la_1 c1R (la_nil rfl)) rfl (w_X4_init h)
abbrev m_X0_queue : Mt := (yX0_queue.cls, cX0_queue, 5, some .int, [(0, 10, 13, 13)], yX0_queue.name)
theorem yo_X0_queue : yOK yX0_queue 4 := ⟨by decide +kernel, by decide +kernel, by decide +kernel⟩
def f_X0_queue_13 (k n : Nat) (s0 : Option Nat) (G : Wd) (Q : Int → Wd → Prop) : Prop :=
  Q 1 G
theorem w_X0_queue_13 {Q : Int → Wd → Prop} {k n : Nat} {s0 : Option Nat} {G : Wd} (h : f_X0_queue_13 k n s0 G Q) : wp m_X0_queue 7 k n 13 [none, none, none, none, none] [vR s0] G (qI Q) noX := by
  unfold f_X0_queue_13 at h
  refine r_astore (L' := [none, none, none, none, some (vR s0)]) dX0_queue_13 rfl iR cN (by decide) ?_
  refine r_iconst dX0_queue_15 ?_
  exact r_iret rfl dX0_queue_16 ⟨_, rfl, h⟩
def f_X0_queue (k n : Nat) (a0 : Option Nat) (a1 : Int) (a2 : Int) (a3 : Option Nat) (G : Wd) (Q : Int → Wd → Prop) : Prop :=
  nn a0 (fun a10 => (∃ k12 n13, (k12 ≤ k ∧ n13 ≤ n) ∧ (isC G a10 0 ∧ f_X1_queue k12 n13 a10 a1 a2 G (fun x14 G11 => ok32 x14 (nn a3 (fun a17 => stJ G11 a17 0 x14 (fun G18 => Q 0 G18)))) (fun E q16 G15 => E = "java/util/NoSuchElementException" ∧ f_X0_queue_13 (k - k12) (n - n13) (some q16) G15 Q))))
theorem w_X0_queue {Q : Int → Wd → Prop} {k n : Nat} {a0 : Option Nat} {a1 : Int} {a2 : Int} {a3 : Option Nat} {G : Wd} (h : f_X0_queue k n a0 a1 a2 a3 G Q) : wp m_X0_queue 7 k n 0 [some (vR a0), some (vI a1), some (vI a2), some (vR a3), none] [] G (qI Q) noX := by
  unfold f_X0_queue at h
  refine r_aload_n dX0_queue_0 rfl rfl iR ?_
  refine r_iconst dX0_queue_1 ?_
  refine r_aload_n dX0_queue_2 rfl rfl iR ?_
  refine r_iload_n dX0_queue_3 rfl rfl iI ?_
  refine r_iload_n dX0_queue_4 rfl rfl iI ?_
  obtain ⟨a10, e, h⟩ := h
  refine wp.cast (L' := [some (vR (some a10)), some (vI a1), some (vI a2), some (vR a3), none]) (st' := [vI a2, vI a1, vR (some a10), vI 0, vR a3]) (by rw [e]) (by rw [e]) ?_
  obtain ⟨k12, n13, ⟨hk1, hn1⟩, h⟩ := h
  obtain ⟨hC, h⟩ := h
  refine r_callV dX0_queue_5 hC (c_X1_queue h) q2108 q2109 q2110 q92 q2111 rfl yo_X1_queue rfl (by decide) (by decide) rfl (rc1 c1I (rc1 c1R rc0)) (by decide) hk1 hn1 (ofI fun x14 G11 h => ?_) (fun E q16 G15 h => ?_)
  · refine r_i2l dX0_queue_8 h (fun h => ?_)
    obtain ⟨a17, e, h⟩ := h
    refine wp.cast (L' := [some (vR (some a10)), some (vI a1), some (vI a2), some (vR (some a17)), none]) (st' := [vJ x14, vI 0, vR (some a17)]) (by rw [e]) (by rw [e]) ?_
    refine r_last dX0_queue_9 h (fun G18 h => ?_)
    refine r_goto (tgt := 17) dX0_queue_10 (by decide) ?_
    refine r_iconst dX0_queue_17 ?_
    exact r_iret rfl dX0_queue_18 ⟨_, rfl, h⟩
  · obtain ⟨rfl, h⟩ := h
    refine wpX.catch [] ⟨0, 10, 13, 13⟩ [] rfl (by decide) (by decide) (by decide) q2107 q1174 ?_
    refine wp.locals (L' := [none, none, none, none, none]) (ls_n (ls_n (ls_n (ls_n (ls_n ls_0))))) ?_
    exact w_X0_queue_13 h
theorem c_X0_queue {a0 : Option Nat} {a1 : Int} {a2 : Int} {a3 : Option Nat} {k n : Nat} {Q : Int → Wd → Prop} {G : Wd} (h : f_X0_queue k n a0 a1 a2 a3 G Q) : call yX0_queue (Cond.codeWith yX0_queue cX0_queue 5 (some .int) [(0, 10, 13, 13)]) 7 k n [vR a0, vI a1, vI a2, vR a3] G (qI Q) noX :=
  call.enterW (by decide +kernel) (la_1 c1R (la_1 c1I (la_1 c1I (la_1 c1R (la_nil rfl))))) rfl (w_X0_queue h)
abbrev m_X0_row : Mt := (yX0_row.cls, cX0_row, 4, some .int, [(0, 8, 11, 13)], yX0_row.name)
theorem yo_X0_row : yOK yX0_row 3 := ⟨by decide +kernel, by decide +kernel, by decide +kernel⟩
def f_X0_row_11 (k n : Nat) (s0 : Option Nat) (G : Wd) (Q : Int → Wd → Prop) : Prop :=
  Q 1 G
theorem w_X0_row_11 {Q : Int → Wd → Prop} {k n : Nat} {s0 : Option Nat} {G : Wd} (h : f_X0_row_11 k n s0 G Q) : wp m_X0_row 7 k n 11 [none, none, none, none] [vR s0] G (qI Q) noX := by
  unfold f_X0_row_11 at h
  refine r_astore_n (L' := [none, none, none, some (vR s0)]) dX0_row_11 rfl rfl iR cN (by decide) ?_
  refine r_iconst dX0_row_12 ?_
  exact r_iret rfl dX0_row_13 ⟨_, rfl, h⟩
def f_X0_row (k n : Nat) (a0 : Option Nat) (a1 : Int) (a2 : Option Nat) (G : Wd) (Q : Int → Wd → Prop) : Prop :=
  nn a0 (fun a10 => (∃ k12 n13, (k12 ≤ k ∧ n13 ≤ n) ∧ (isC G a10 0 ∧ f_X1_row k12 n13 a10 a1 G (fun x14 G11 => nn a2 (fun a17 => stJ G11 a17 0 x14 (fun G18 => Q 0 G18))) (fun E q16 G15 => E = "java/util/NoSuchElementException" ∧ f_X0_row_11 (k - k12) (n - n13) (some q16) G15 Q))))
theorem w_X0_row {Q : Int → Wd → Prop} {k n : Nat} {a0 : Option Nat} {a1 : Int} {a2 : Option Nat} {G : Wd} (h : f_X0_row k n a0 a1 a2 G Q) : wp m_X0_row 7 k n 0 [some (vR a0), some (vI a1), some (vR a2), none] [] G (qI Q) noX := by
  unfold f_X0_row at h
  refine r_aload_n dX0_row_0 rfl rfl iR ?_
  refine r_iconst dX0_row_1 ?_
  refine r_aload_n dX0_row_2 rfl rfl iR ?_
  refine r_iload_n dX0_row_3 rfl rfl iI ?_
  obtain ⟨a10, e, h⟩ := h
  refine wp.cast (L' := [some (vR (some a10)), some (vI a1), some (vR a2), none]) (st' := [vI a1, vR (some a10), vI 0, vR a2]) (by rw [e]) (by rw [e]) ?_
  obtain ⟨k12, n13, ⟨hk1, hn1⟩, h⟩ := h
  obtain ⟨hC, h⟩ := h
  refine r_callV dX0_row_4 hC (c_X1_row h) q2117 q2118 q2119 q92 q2120 rfl yo_X1_row rfl (by decide) (by decide) rfl (rc1 c1I (rc1 c1R rc0)) (by decide) hk1 hn1 (ofJ fun x14 G11 h => ?_) (fun E q16 G15 h => ?_)
  · obtain ⟨a17, e, h⟩ := h
    refine wp.cast (L' := [some (vR (some a10)), some (vI a1), some (vR (some a17)), none]) (st' := [vJ x14, vI 0, vR (some a17)]) (by rw [e]) (by rw [e]) ?_
    refine r_last dX0_row_7 h (fun G18 h => ?_)
    refine r_goto (tgt := 14) dX0_row_8 (by decide) ?_
    refine r_iconst dX0_row_14 ?_
    exact r_iret rfl dX0_row_15 ⟨_, rfl, h⟩
  · obtain ⟨rfl, h⟩ := h
    refine wpX.catch [] ⟨0, 8, 11, 13⟩ [] rfl (by decide) (by decide) (by decide) q2107 q1174 ?_
    refine wp.locals (L' := [none, none, none, none]) (ls_n (ls_n (ls_n (ls_n ls_0)))) ?_
    exact w_X0_row_11 h
theorem c_X0_row {a0 : Option Nat} {a1 : Int} {a2 : Option Nat} {k n : Nat} {Q : Int → Wd → Prop} {G : Wd} (h : f_X0_row k n a0 a1 a2 G Q) : call yX0_row (Cond.codeWith yX0_row cX0_row 4 (some .int) [(0, 8, 11, 13)]) 7 k n [vR a0, vI a1, vR a2] G (qI Q) noX :=
  call.enterW (by decide +kernel) (la_1 c1R (la_1 c1I (la_1 c1R (la_nil rfl)))) rfl (w_X0_row h)
