/-! the system, decompiled (printed by genx.py) -/
set_option maxRecDepth 100000
abbrev m_X1_sign : Mt := (yX1_sign.cls, cX1_sign, 3, some .int, [], yX1_sign.name)
theorem yo_X1_sign : yOK yX1_sign 1 := ⟨by decide +kernel, by decide +kernel, by decide +kernel⟩
def f_X1_sign_16_b (a0 : Nat) (k16 : Int → Int → Wd → Prop) (l1 : Int) (l2 : Int) (G : Wd) (Q : Int → Wd → Prop) : Prop :=
  br0 l2 (l2 < 0) (gI G a0 [0] 7 (fun x9 => Q x9 G)) (gR G a0 [0] 6 (fun x10 => gI G a0 [0] 7 (fun x11 => nn x10 (fun a12 => ((-128 ≤ ((ishr l1 l2).bmod 256) ∧ ((ishr l1 l2).bmod 256) < 128) ∧ stI G a12 1 x11 ((ishr l1 l2).bmod 256) (fun G13 => gI G13 a0 [0] 7 (fun x14 => pF G13 a0 [0] 7 (vI (x14 + 1)) (fun G15 => k16 l1 (l2 + (-8)) G15))))))))
theorem w_X1_sign_16_b {a0 : Nat} {Q : Int → Wd → Prop} {k16 : Int → Int → Wd → Prop} (hk16 : ∀ {l1 : Int} {l2 : Int} {G : Wd}, k16 l1 l2 G → wp m_X1_sign 1 0 0 16 [some (vR (some a0)), some (vI l1), some (vI l2)] [] G (qI Q) noX) {l1 : Int} {l2 : Int} {G : Wd} (h : f_X1_sign_16_b a0 k16 l1 l2 G Q) : wp m_X1_sign 1 0 0 16 [some (vR (some a0)), some (vI l1), some (vI l2)] [] G (qI Q) noX := by
  unfold f_X1_sign_16_b at h
  refine r_iload_n dX1_sign_16 rfl rfl iI ?_
  refine r_if_lt (tgt := 49) dX1_sign_17 (by decide) h (fun h => ?_) (fun h => ?_)
  · refine r_aload_n dX1_sign_49 rfl rfl iR ?_
    refine r_getI dX1_sign_50 (fg1 (f := 7) fX1 (by decide) q707 rfl) h (fun x9 h => ?_)
    exact r_iret rfl dX1_sign_53 ⟨_, rfl, h⟩
  · refine r_aload_n dX1_sign_20 rfl rfl iR ?_
    refine r_getR dX1_sign_21 (fg1 (f := 6) fX1 (by decide) q706 rfl) h (fun x10 h => ?_)
    refine r_aload_n dX1_sign_24 rfl rfl iR ?_
    refine r_getI dX1_sign_25 (fg1 (f := 7) fX1 (by decide) q707 rfl) h (fun x11 h => ?_)
    refine r_iload_n dX1_sign_28 rfl rfl iI ?_
    refine r_iload_n dX1_sign_29 rfl rfl iI ?_
    refine r_ishr dX1_sign_30 ?_
    refine r_i2b dX1_sign_31 ?_
    obtain ⟨a12, e, h⟩ := h
    refine wp.cast (L' := [some (vR (some a0)), some (vI l1), some (vI l2)]) (st' := [vI ((ishr l1 l2).bmod 256), vI x11, vR (some a12)]) rfl (by rw [e]) ?_
    refine r_bast dX1_sign_32 h (fun G13 h => ?_)
    refine r_aload_n dX1_sign_33 rfl rfl iR ?_
    refine r_dup dX1_sign_34 c1R ?_
    refine r_getI dX1_sign_35 (fg1 (f := 7) fX1 (by decide) q707 rfl) h (fun x14 h => ?_)
    refine r_iconst dX1_sign_38 ?_
    refine r_iadd dX1_sign_39 ?_
    refine r_put dX1_sign_40 (fp1 (f := 7) fX1 (by decide) q707 rfl rfl rfl) fvI h (fun G15 h => ?_)
    refine r_iinc (L' := [some (vR (some a0)), some (vI l1), some (vI (l2 + (-8)))]) dX1_sign_43 rfl rfl cI (by decide) ?_
    refine r_goto (tgt := 16) dX1_sign_46 (by decide) ?_
    exact hk16 h
def f_X1_sign_16 (a0 : Nat) (Q : Int → Wd → Prop) : Nat → Int → Int → Wd → Prop
  | 0, _, _, _ => False
  | fl + 1, l1, l2, G => f_X1_sign_16_b a0  (fun l1 l2 G => f_X1_sign_16 a0  Q fl l1 l2 G) l1 l2 G Q
theorem w_X1_sign_16 {a0 : Nat} {Q : Int → Wd → Prop} : ∀ (fl : Nat) {l1 : Int} {l2 : Int} {G : Wd}, f_X1_sign_16 a0 Q fl l1 l2 G → wp m_X1_sign 1 0 0 16 [some (vR (some a0)), some (vI l1), some (vI l2)] [] G (qI Q) noX := by
  intro fl
  induction fl with
  | zero => intro l1 l2 G h; exact (show False from h).elim
  | succ fl ih => intro l1 l2 G h; exact w_X1_sign_16_b  (fun h => ih h) h
def f_X1_sign (a0 : Nat) (a1 : Int) (G : Wd) (Q : Int → Wd → Prop) : Prop :=
  gI G a0 [0] 7 (fun x16 => br (x16 + 4) 80 ((x16 + 4) ≤ (80 : Int)) (∃ fl17, f_X1_sign_16 a0 Q fl17 a1 24 G) (Q (-1) G))
theorem w_X1_sign {a0 : Nat} {Q : Int → Wd → Prop} {a1 : Int} {G : Wd} (h : f_X1_sign a0 a1 G Q) : wp m_X1_sign 1 0 0 0 [some (vR (some a0)), some (vI a1), none] [] G (qI Q) noX := by
  unfold f_X1_sign at h
  refine r_aload_n dX1_sign_0 rfl rfl iR ?_
  refine r_getI dX1_sign_1 (fg1 (f := 7) fX1 (by decide) q707 rfl) h (fun x16 h => ?_)
  refine r_iconst dX1_sign_4 ?_
  refine r_iadd dX1_sign_5 ?_
  refine r_bipush dX1_sign_6 (by decide) ?_
  refine r_icmp_le (tgt := 13) dX1_sign_8 (by decide) h (fun h => ?_) (fun h => ?_)
  · refine r_bipush dX1_sign_13 (by decide) ?_
    refine r_istore_n (L' := [some (vR (some a0)), some (vI a1), some (vI 24)]) dX1_sign_15 rfl rfl iI cI (by decide) ?_
    obtain ⟨fl17, h⟩ := h
    exact w_X1_sign_16 fl17 h
  · refine r_iconst dX1_sign_11 ?_
    exact r_iret rfl dX1_sign_12 ⟨_, rfl, h⟩
theorem c_X1_sign {a0 : Nat} {a1 : Int} {Q : Int → Wd → Prop} {G : Wd} (h : f_X1_sign a0 a1 G Q) : call yX1_sign (Cond.code yX1_sign cX1_sign 3 (some .int)) 1 0 0 [vR (some a0), vI a1] G (qI Q) noX :=
  call.enter (by decide +kernel) (la_1 c1R (la_1 c1I (la_nil rfl))) rfl (w_X1_sign h)
abbrev m_X1_end : Mt := (yX1_end.cls, cX1_end, 2, some .boolean, [], yX1_end.name)
theorem yo_X1_end : yOK yX1_end 1 := ⟨by decide +kernel, by decide +kernel, by decide +kernel⟩
def f_X1_end (a0 : Nat) (a1 : Int) (G : Wd) (Q : Bool → Wd → Prop) : Prop :=
  ok32 a1 (gI G a0 [0] 7 (fun x5 => ok32 x5 (f_X1_in a1 0 x5 G (fun x7 G6 => brB x7 (pF G6 a0 [0] 7 (vI a1) (fun G8 => Q true G8)) (Q false G6)))))
theorem w_X1_end {a0 : Nat} {Q : Bool → Wd → Prop} {a1 : Int} {G : Wd} (h : f_X1_end a0 a1 G Q) : wp m_X1_end 2 0 0 0 [some (vR (some a0)), some (vI a1)] [] G (qB Q) noX := by
  unfold f_X1_end at h
  refine r_iload_n dX1_end_0 rfl rfl iI ?_
  refine r_i2l dX1_end_1 h (fun h => ?_)
  refine r_lconst (y := 0) dX1_end_2 (by decide) ?_
  refine r_aload_n dX1_end_3 rfl rfl iR ?_
  refine r_getI dX1_end_4 (fg1 (f := 7) fX1 (by decide) q707 rfl) h (fun x5 h => ?_)
  refine r_i2l dX1_end_7 h (fun h => ?_)
  refine r_callS dX1_end_8 (c_X1_in h) q776 q777 q92 q778 yo_X1_in rfl (by decide) (by decide) rfl rc0 (by decide) (Nat.zero_le _) (Nat.zero_le _) (ofB fun x7 G6 h => ?_) nox
  refine r_ifZ_ne (tgt := 16) dX1_end_11 (by decide) h (fun h => ?_) (fun h => ?_)
  · refine r_aload_n dX1_end_16 rfl rfl iR ?_
    refine r_iload_n dX1_end_17 rfl rfl iI ?_
    refine r_put dX1_end_18 (fp1 (f := 7) fX1 (by decide) q707 rfl rfl rfl) fvI h (fun G8 h => ?_)
    refine r_iconst dX1_end_21 ?_
    refine wp.cast (st' := [vB true]) rfl (congrArg (fun q => [q]) vI1) ?_
    exact r_zret rfl dX1_end_22 ⟨_, rfl, h⟩
  · refine r_iconst dX1_end_14 ?_
    refine wp.cast (st' := [vB false]) rfl (congrArg (fun q => [q]) vI0) ?_
    exact r_zret rfl dX1_end_15 ⟨_, rfl, h⟩
theorem c_X1_end {a0 : Nat} {a1 : Int} {Q : Bool → Wd → Prop} {G : Wd} (h : f_X1_end a0 a1 G Q) : call yX1_end (Cond.code yX1_end cX1_end 2 (some .boolean)) 2 0 0 [vR (some a0), vI a1] G (qB Q) noX :=
  call.enter (by decide +kernel) (la_1 c1R (la_1 c1I (la_nil rfl))) rfl (w_X1_end h)
abbrev m_X1_words : Mt := (yX1_words.cls, cX1_words, 3, some (.object "QueueDrive$Words"), [], yX1_words.name)
theorem yo_X1_words : yOK yX1_words 1 := ⟨by decide +kernel, by decide +kernel, by decide +kernel⟩
def f_X1_words (k n : Nat) (a0 : Nat) (a1 : Int) (G : Wd) (Q : Option Nat → Wd → Prop) : Prop :=
  nO G k n 4 4 zX5 (fun a7 G8 => gR G8 a0 [0] 6 (fun x9 => gI G8 a0 [0] 7 (fun x10 => f_X5_init a7 x9 x10 a1 G8 (fun G11 => pF G11 a0 [0] 7 (vI 0) (fun G12 => Q (some a7) G12)))))
theorem w_X1_words {a0 : Nat} {Q : Option Nat → Wd → Prop} {k n : Nat} {a1 : Int} {G : Wd} (h : f_X1_words k n a0 a1 G Q) : wp m_X1_words 2 k n 0 [some (vR (some a0)), some (vI a1), none] [] G (qR Q) noX := by
  unfold f_X1_words at h
  refine r_new dX1_words_0 fX5 q788 q789 q118 dfX5 h (fun a7 G8 h => ?_)
  refine r_dup dX1_words_3 c1R ?_
  refine r_aload_n dX1_words_4 rfl rfl iR ?_
  refine r_getR dX1_words_5 (fg1 (f := 6) fX1 (by decide) q706 rfl) h (fun x9 h => ?_)
  refine r_aload_n dX1_words_8 rfl rfl iR ?_
  refine r_getI dX1_words_9 (fg1 (f := 7) fX1 (by decide) q707 rfl) h (fun x10 h => ?_)
  refine r_iload_n dX1_words_12 rfl rfl iI ?_
  refine r_callI dX1_words_13 (c_X5_init h) rfl q790 q791 q118 q792 yo_X5_init rfl (by decide) (by decide) rfl (rc1 c1R rc0) (by decide) (Nat.zero_le _) (Nat.zero_le _) (ofV fun G11 h => ?_) nox
  refine r_astore_n (L' := [some (vR (some a0)), some (vI a1), some (vR (some a7))]) dX1_words_16 rfl rfl iR cI (by decide) ?_
  refine r_aload_n dX1_words_17 rfl rfl iR ?_
  refine r_iconst dX1_words_18 ?_
  refine r_put dX1_words_19 (fp1 (f := 7) fX1 (by decide) q707 rfl rfl rfl) fvI h (fun G12 h => ?_)
  refine r_aload_n dX1_words_22 rfl rfl iR ?_
  exact r_aret rtO dX1_words_23 ⟨_, rfl, h⟩
theorem c_X1_words {a0 : Nat} {a1 : Int} {k n : Nat} {Q : Option Nat → Wd → Prop} {G : Wd} (h : f_X1_words k n a0 a1 G Q) : call yX1_words (Cond.code yX1_words cX1_words 3 (some (.object "QueueDrive$Words"))) 2 k n [vR (some a0), vI a1] G (qR Q) noX :=
  call.enter (by decide +kernel) (la_1 c1R (la_1 c1I (la_nil rfl))) rfl (w_X1_words h)
abbrev m_X1_rule : Mt := (yX1_rule.cls, cX1_rule, 4, some .int, [(32, 49, 50, 110)], yX1_rule.name)
theorem yo_X1_rule : yOK yX1_rule 0 := ⟨by decide +kernel, by decide +kernel, by decide +kernel⟩
def f_X1_rule_50 (a0 : Nat) (k n : Nat) (s0 : Option Nat) (G : Wd) (Q : Int → Wd → Prop) : Prop :=
  nn s0 (fun a21 => gI G a21 [5] 0 (fun x22 => Q ((-1) - x22) G))
theorem w_X1_rule_50 {a0 : Nat} {Q : Int → Wd → Prop} {k n : Nat} {s0 : Option Nat} {G : Wd} (h : f_X1_rule_50 a0 k n s0 G Q) : wp m_X1_rule 221 k n 50 [none, none, none, none] [vR s0] G (qI Q) noX := by
  unfold f_X1_rule_50 at h
  refine r_astore_n (L' := [none, none, none, some (vR s0)]) dX1_rule_50 rfl rfl iR cN (by decide) ?_
  refine r_iconst dX1_rule_51 ?_
  refine r_aload_n dX1_rule_52 rfl rfl iR ?_
  obtain ⟨a21, e, h⟩ := h
  refine wp.cast (L' := [none, none, none, some (vR (some a21))]) (st' := [vR (some a21), vI (-1)]) (by rw [e]) (by rw [e]) ?_
  refine r_getN dX1_rule_53 q851 h (fun x22 h => ?_)
  refine r_isub dX1_rule_56 ?_
  exact r_iret rfl dX1_rule_57 ⟨_, rfl, h⟩
def f_X1_rule (k n : Nat) (a0 : Nat) (G : Wd) (Q : Int → Wd → Prop) : Prop :=
  gR G a0 [0] 6 (fun x23 => nn x23 (fun a24 => clB G k n a24 (fun m25 a26 G27 => ((∃ r n f, G27 r a26 = some (aI 1 n f)) ∧ gI G27 a0 [0] 7 (fun x28 => pF G27 a0 [0] 7 (vI 0) (fun G29 => br0 x28 (¬ x28 = 0) (nO G29 (k - 1) (n - m25) 6 7 zX7 (fun a30 G31 => f_X7_init a30 (some a26) x28 G31 (fun G32 => (∃ k34 n35, (k34 ≤ ((k - 1) - 1) ∧ n35 ≤ ((n - m25) - 7)) ∧ (isC G32 a30 6 ∧ f_X7_read k34 n35 a30  G32 (fun x36 G33 => pF G33 a0 [0] 10 (vR x36) (fun G39 => Q 0 G39)) (fun E q38 G37 => E = "QueueDrive$Fault" ∧ f_X1_rule_50 a0 (((k - 1) - 1) - k34) (((n - m25) - 7) - n35) (some q38) G37 Q)))))) (pF G29 a0 [0] 10 (vR none) (fun G40 => Q 0 G40))))))))
theorem w_X1_rule {a0 : Nat} {Q : Int → Wd → Prop} {k n : Nat} {G : Wd} (h : f_X1_rule k n a0 G Q) : wp m_X1_rule 221 k n 0 [some (vR (some a0)), none, none, none] [] G (qI Q) noX := by
  unfold f_X1_rule at h
  refine r_aload_n dX1_rule_0 rfl rfl iR ?_
  refine r_getR dX1_rule_1 (fg1 (f := 6) fX1 (by decide) q706 rfl) h (fun x23 h => ?_)
  obtain ⟨a24, e, h⟩ := h
  refine wp.cast (L' := [some (vR (some a0)), none, none, none]) (st' := [vR (some a24)]) rfl (by rw [e]) ?_
  refine r_clone dX1_rule_4 q942 rc0 (by decide) (by decide) h (fun m25 a26 G27 h => ?_)
  refine r_castA (kd := 1) dX1_rule_7 q943 nmB (by decide) h (fun h => ?_)
  refine r_astore_n (L' := [some (vR (some a0)), some (vR (some a26)), none, none]) dX1_rule_10 rfl rfl iR cR (by decide) ?_
  refine r_aload_n dX1_rule_11 rfl rfl iR ?_
  refine r_getI dX1_rule_12 (fg1 (f := 7) fX1 (by decide) q707 rfl) h (fun x28 h => ?_)
  refine r_istore_n (L' := [some (vR (some a0)), some (vR (some a26)), some (vI x28), none]) dX1_rule_15 rfl rfl iI cR (by decide) ?_
  refine r_aload_n dX1_rule_16 rfl rfl iR ?_
  refine r_iconst dX1_rule_17 ?_
  refine r_put dX1_rule_18 (fp1 (f := 7) fX1 (by decide) q707 rfl rfl rfl) fvI h (fun G29 h => ?_)
  refine r_iload_n dX1_rule_21 rfl rfl iI ?_
  refine r_if_ne (tgt := 32) dX1_rule_22 (by decide) h (fun h => ?_) (fun h => ?_)
  · refine r_aload_n dX1_rule_32 rfl rfl iR ?_
    refine r_new dX1_rule_33 fX7 q944 q945 q121 dfX7 h (fun a30 G31 h => ?_)
    refine r_dup dX1_rule_36 c1R ?_
    refine r_aload_n dX1_rule_37 rfl rfl iR ?_
    refine r_iload_n dX1_rule_38 rfl rfl iI ?_
    refine r_callI dX1_rule_39 (c_X7_init h) rfl q946 q947 q121 q948 yo_X7_init rfl (by decide) (by decide) rfl (rc1 c1R (rc1 c1R rc0)) (by decide) (Nat.zero_le _) (Nat.zero_le _) (ofV fun G32 h => ?_) nox
    obtain ⟨k34, n35, ⟨hk1, hn1⟩, h⟩ := h
    obtain ⟨hC, h⟩ := h
    refine r_callV dX1_rule_42 hC (c_X7_read h) q964 q965 q966 q121 q967 rfl yo_X7_read rfl (by decide) (by decide) rfl (rc1 c1R rc0) (by decide) hk1 hn1 (ofR fun x36 G33 h => ?_) (fun E q38 G37 h => ?_)
    · refine r_put dX1_rule_45 (fp1 (f := 10) fX1 (by decide) q710 rfl rfl rfl) fvO h (fun G39 h => ?_)
      refine r_iconst dX1_rule_48 ?_
      exact r_iret rfl dX1_rule_49 ⟨_, rfl, h⟩
    · obtain ⟨rfl, h⟩ := h
      refine wpX.catch [] ⟨32, 49, 50, 110⟩ [] rfl (by decide) (by decide) (by decide) q783 q839 ?_
      refine wp.locals (L' := [none, none, none, none]) (ls_n (ls_n (ls_n (ls_n ls_0)))) ?_
      exact w_X1_rule_50 h
  · refine r_aload_n dX1_rule_25 rfl rfl iR ?_
    refine r_null dX1_rule_26 ?_
    refine r_put dX1_rule_27 (fp1 (f := 10) fX1 (by decide) q710 rfl rfl rfl) fvO h (fun G40 h => ?_)
    refine r_iconst dX1_rule_30 ?_
    exact r_iret rfl dX1_rule_31 ⟨_, rfl, h⟩
theorem c_X1_rule {a0 : Nat} {k n : Nat} {Q : Int → Wd → Prop} {G : Wd} (h : f_X1_rule k n a0 G Q) : call yX1_rule (Cond.codeWith yX1_rule cX1_rule 4 (some .int) [(32, 49, 50, 110)]) 221 k n [vR (some a0)] G (qI Q) noX :=
  call.enterW (by decide +kernel) (la_1 c1R (la_nil rfl)) rfl (w_X1_rule h)
abbrev m_X1_rowOf : Mt := (yX1_rowOf.cls, cX1_rowOf, 7, some (.object "java/lang/Object"), [], yX1_rowOf.name)
theorem yo_X1_rowOf : yOK yX1_rowOf 4 := ⟨by decide +kernel, by decide +kernel, by decide +kernel⟩
def f_X1_rowOf_15_b (k15 : Nat → Nat → Int → Int → Int → Option Nat → Int → Wd → Prop) (k n : Nat) (l1 : Int) (l3 : Int) (l4 : Int) (l5 : Option Nat) (l6 : Int) (G : Wd) (Q : Option Nat → Wd → Prop) (X : Xt) : Prop :=
  br l6 l1 (l1 ≤ l6) (Q l5 G) (nn l5 (fun a19 => ((-128 ≤ (l4.bmod 256) ∧ (l4.bmod 256) < 128) ∧ stI G a19 1 l6 (l4.bmod 256) (fun G20 => k15 k n l1 l3 (wr (l4 + l3)) (some a19) (l6 + 1) G20))))
theorem w_X1_rowOf_15_b {Q : Option Nat → Wd → Prop} {X : Xt} {k15 : Nat → Nat → Int → Int → Int → Option Nat → Int → Wd → Prop} (hk15 : ∀ {k n : Nat} {l1 : Int} {l3 : Int} {l4 : Int} {l5 : Option Nat} {l6 : Int} {G : Wd}, k15 k n l1 l3 l4 l5 l6 G → wp m_X1_rowOf 170 k n 15 [none, some (vI l1), none, some (vI l3), some (vI l4), some (vR l5), some (vI l6)] [] G (qR Q) X) {k n : Nat} {l1 : Int} {l3 : Int} {l4 : Int} {l5 : Option Nat} {l6 : Int} {G : Wd} (h : f_X1_rowOf_15_b k15 k n l1 l3 l4 l5 l6 G Q X) : wp m_X1_rowOf 170 k n 15 [none, some (vI l1), none, some (vI l3), some (vI l4), some (vR l5), some (vI l6)] [] G (qR Q) X := by
  unfold f_X1_rowOf_15_b at h
  refine r_iload dX1_rowOf_15 rfl iI ?_
  refine r_iload_n dX1_rowOf_17 rfl rfl iI ?_
  refine r_icmp_ge (tgt := 41) dX1_rowOf_18 (by decide) h (fun h => ?_) (fun h => ?_)
  · refine r_aload dX1_rowOf_41 rfl iR ?_
    exact r_aret rtO dX1_rowOf_43 ⟨_, rfl, h⟩
  · refine r_aload dX1_rowOf_21 rfl iR ?_
    refine r_iload dX1_rowOf_23 rfl iI ?_
    refine r_iload dX1_rowOf_25 rfl iI ?_
    refine r_i2b dX1_rowOf_27 ?_
    obtain ⟨a19, e, h⟩ := h
    refine wp.cast (L' := [none, some (vI l1), none, some (vI l3), some (vI l4), some (vR (some a19)), some (vI l6)]) (st' := [vI (l4.bmod 256), vI l6, vR (some a19)]) (by rw [e]) (by rw [e]) ?_
    refine r_bast dX1_rowOf_28 h (fun G20 h => ?_)
    refine r_iinc (L' := [none, some (vI l1), none, some (vI l3), some (vI l4), some (vR (some a19)), some (vI (l6 + 1))]) dX1_rowOf_29 rfl rfl cR (by decide) ?_
    refine r_iload dX1_rowOf_32 rfl iI ?_
    refine r_iload_n dX1_rowOf_34 rfl rfl iI ?_
    refine r_iaddW dX1_rowOf_35 ?_
    refine r_istore (L' := [none, some (vI l1), none, some (vI l3), some (vI (wr (l4 + l3))), some (vR (some a19)), some (vI (l6 + 1))]) dX1_rowOf_36 rfl iI cI (by decide) ?_
    refine r_goto (tgt := 15) dX1_rowOf_38 (by decide) ?_
    exact hk15 h
def f_X1_rowOf_15 (Q : Option Nat → Wd → Prop) (X : Xt) : Nat → Nat → Nat → Int → Int → Int → Option Nat → Int → Wd → Prop
  | 0, _, _, _, _, _, _, _, _ => False
  | fl + 1, k, n, l1, l3, l4, l5, l6, G => f_X1_rowOf_15_b  (fun k n l1 l3 l4 l5 l6 G => f_X1_rowOf_15  Q X fl k n l1 l3 l4 l5 l6 G) k n l1 l3 l4 l5 l6 G Q X
theorem w_X1_rowOf_15 {Q : Option Nat → Wd → Prop} {X : Xt} : ∀ (fl : Nat) {k n : Nat} {l1 : Int} {l3 : Int} {l4 : Int} {l5 : Option Nat} {l6 : Int} {G : Wd}, f_X1_rowOf_15 Q X fl k n l1 l3 l4 l5 l6 G → wp m_X1_rowOf 170 k n 15 [none, some (vI l1), none, some (vI l3), some (vI l4), some (vR l5), some (vI l6)] [] G (qR Q) X := by
  intro fl
  induction fl with
  | zero => intro k n l1 l3 l4 l5 l6 G h; exact (show False from h).elim
  | succ fl ih => intro k n l1 l3 l4 l5 l6 G h; exact w_X1_rowOf_15_b  (fun h => ih h) h
def f_X1_rowOf_57_b (k57 : Nat → Nat → Int → Int → Int → Option Nat → Int → Wd → Prop) (k n : Nat) (l1 : Int) (l3 : Int) (l4 : Int) (l5 : Option Nat) (l6 : Int) (G : Wd) (Q : Option Nat → Wd → Prop) (X : Xt) : Prop :=
  br l6 l1 (l1 ≤ l6) (Q l5 G) (nn l5 (fun a21 => ((-32768 ≤ (l4.bmod 65536) ∧ (l4.bmod 65536) < 32768) ∧ stI G a21 4 l6 (l4.bmod 65536) (fun G22 => k57 k n l1 l3 (wr (l4 + l3)) (some a21) (l6 + 1) G22))))
theorem w_X1_rowOf_57_b {Q : Option Nat → Wd → Prop} {X : Xt} {k57 : Nat → Nat → Int → Int → Int → Option Nat → Int → Wd → Prop} (hk57 : ∀ {k n : Nat} {l1 : Int} {l3 : Int} {l4 : Int} {l5 : Option Nat} {l6 : Int} {G : Wd}, k57 k n l1 l3 l4 l5 l6 G → wp m_X1_rowOf 170 k n 57 [none, some (vI l1), none, some (vI l3), some (vI l4), some (vR l5), some (vI l6)] [] G (qR Q) X) {k n : Nat} {l1 : Int} {l3 : Int} {l4 : Int} {l5 : Option Nat} {l6 : Int} {G : Wd} (h : f_X1_rowOf_57_b k57 k n l1 l3 l4 l5 l6 G Q X) : wp m_X1_rowOf 170 k n 57 [none, some (vI l1), none, some (vI l3), some (vI l4), some (vR l5), some (vI l6)] [] G (qR Q) X := by
  unfold f_X1_rowOf_57_b at h
  refine r_iload dX1_rowOf_57 rfl iI ?_
  refine r_iload_n dX1_rowOf_59 rfl rfl iI ?_
  refine r_icmp_ge (tgt := 83) dX1_rowOf_60 (by decide) h (fun h => ?_) (fun h => ?_)
  · refine r_aload dX1_rowOf_83 rfl iR ?_
    exact r_aret rtO dX1_rowOf_85 ⟨_, rfl, h⟩
  · refine r_aload dX1_rowOf_63 rfl iR ?_
    refine r_iload dX1_rowOf_65 rfl iI ?_
    refine r_iload dX1_rowOf_67 rfl iI ?_
    refine r_i2s dX1_rowOf_69 ?_
    obtain ⟨a21, e, h⟩ := h
    refine wp.cast (L' := [none, some (vI l1), none, some (vI l3), some (vI l4), some (vR (some a21)), some (vI l6)]) (st' := [vI (l4.bmod 65536), vI l6, vR (some a21)]) (by rw [e]) (by rw [e]) ?_
    refine r_sast dX1_rowOf_70 h (fun G22 h => ?_)
    refine r_iinc (L' := [none, some (vI l1), none, some (vI l3), some (vI l4), some (vR (some a21)), some (vI (l6 + 1))]) dX1_rowOf_71 rfl rfl cR (by decide) ?_
    refine r_iload dX1_rowOf_74 rfl iI ?_
    refine r_iload_n dX1_rowOf_76 rfl rfl iI ?_
    refine r_iaddW dX1_rowOf_77 ?_
    refine r_istore (L' := [none, some (vI l1), none, some (vI l3), some (vI (wr (l4 + l3))), some (vR (some a21)), some (vI (l6 + 1))]) dX1_rowOf_78 rfl iI cI (by decide) ?_
    refine r_goto (tgt := 57) dX1_rowOf_80 (by decide) ?_
    exact hk57 h
def f_X1_rowOf_57 (Q : Option Nat → Wd → Prop) (X : Xt) : Nat → Nat → Nat → Int → Int → Int → Option Nat → Int → Wd → Prop
  | 0, _, _, _, _, _, _, _, _ => False
  | fl + 1, k, n, l1, l3, l4, l5, l6, G => f_X1_rowOf_57_b  (fun k n l1 l3 l4 l5 l6 G => f_X1_rowOf_57  Q X fl k n l1 l3 l4 l5 l6 G) k n l1 l3 l4 l5 l6 G Q X
theorem w_X1_rowOf_57 {Q : Option Nat → Wd → Prop} {X : Xt} : ∀ (fl : Nat) {k n : Nat} {l1 : Int} {l3 : Int} {l4 : Int} {l5 : Option Nat} {l6 : Int} {G : Wd}, f_X1_rowOf_57 Q X fl k n l1 l3 l4 l5 l6 G → wp m_X1_rowOf 170 k n 57 [none, some (vI l1), none, some (vI l3), some (vI l4), some (vR l5), some (vI l6)] [] G (qR Q) X := by
  intro fl
  induction fl with
  | zero => intro k n l1 l3 l4 l5 l6 G h; exact (show False from h).elim
  | succ fl ih => intro k n l1 l3 l4 l5 l6 G h; exact w_X1_rowOf_57_b  (fun h => ih h) h
def f_X1_rowOf_94_b (k94 : Nat → Nat → Int → Int → Int → Option Nat → Int → Wd → Prop) (k n : Nat) (l1 : Int) (l3 : Int) (l4 : Int) (l5 : Option Nat) (l6 : Int) (G : Wd) (Q : Option Nat → Wd → Prop) (X : Xt) : Prop :=
  br l6 l1 (l1 ≤ l6) (Q l5 G) (nn l5 (fun a23 => (stI G a23 0 l6 l4 (fun G24 => k94 k n l1 l3 (wr (l4 + l3)) (some a23) (l6 + 1) G24))))
theorem w_X1_rowOf_94_b {Q : Option Nat → Wd → Prop} {X : Xt} {k94 : Nat → Nat → Int → Int → Int → Option Nat → Int → Wd → Prop} (hk94 : ∀ {k n : Nat} {l1 : Int} {l3 : Int} {l4 : Int} {l5 : Option Nat} {l6 : Int} {G : Wd}, k94 k n l1 l3 l4 l5 l6 G → wp m_X1_rowOf 170 k n 94 [none, some (vI l1), none, some (vI l3), some (vI l4), some (vR l5), some (vI l6)] [] G (qR Q) X) {k n : Nat} {l1 : Int} {l3 : Int} {l4 : Int} {l5 : Option Nat} {l6 : Int} {G : Wd} (h : f_X1_rowOf_94_b k94 k n l1 l3 l4 l5 l6 G Q X) : wp m_X1_rowOf 170 k n 94 [none, some (vI l1), none, some (vI l3), some (vI l4), some (vR l5), some (vI l6)] [] G (qR Q) X := by
  unfold f_X1_rowOf_94_b at h
  refine r_iload dX1_rowOf_94 rfl iI ?_
  refine r_iload_n dX1_rowOf_96 rfl rfl iI ?_
  refine r_icmp_ge (tgt := 119) dX1_rowOf_97 (by decide) h (fun h => ?_) (fun h => ?_)
  · refine r_aload dX1_rowOf_119 rfl iR ?_
    exact r_aret rtO dX1_rowOf_121 ⟨_, rfl, h⟩
  · refine r_aload dX1_rowOf_100 rfl iR ?_
    refine r_iload dX1_rowOf_102 rfl iI ?_
    refine r_iload dX1_rowOf_104 rfl iI ?_
    obtain ⟨a23, e, h⟩ := h
    refine wp.cast (L' := [none, some (vI l1), none, some (vI l3), some (vI l4), some (vR (some a23)), some (vI l6)]) (st' := [vI l4, vI l6, vR (some a23)]) (by rw [e]) (by rw [e]) ?_
    refine r_iast dX1_rowOf_106 h (fun G24 h => ?_)
    refine r_iinc (L' := [none, some (vI l1), none, some (vI l3), some (vI l4), some (vR (some a23)), some (vI (l6 + 1))]) dX1_rowOf_107 rfl rfl cR (by decide) ?_
    refine r_iload dX1_rowOf_110 rfl iI ?_
    refine r_iload_n dX1_rowOf_112 rfl rfl iI ?_
    refine r_iaddW dX1_rowOf_113 ?_
    refine r_istore (L' := [none, some (vI l1), none, some (vI l3), some (vI (wr (l4 + l3))), some (vR (some a23)), some (vI (l6 + 1))]) dX1_rowOf_114 rfl iI cI (by decide) ?_
    refine r_goto (tgt := 94) dX1_rowOf_116 (by decide) ?_
    exact hk94 h
def f_X1_rowOf_94 (Q : Option Nat → Wd → Prop) (X : Xt) : Nat → Nat → Nat → Int → Int → Int → Option Nat → Int → Wd → Prop
  | 0, _, _, _, _, _, _, _, _ => False
  | fl + 1, k, n, l1, l3, l4, l5, l6, G => f_X1_rowOf_94_b  (fun k n l1 l3 l4 l5 l6 G => f_X1_rowOf_94  Q X fl k n l1 l3 l4 l5 l6 G) k n l1 l3 l4 l5 l6 G Q X
theorem w_X1_rowOf_94 {Q : Option Nat → Wd → Prop} {X : Xt} : ∀ (fl : Nat) {k n : Nat} {l1 : Int} {l3 : Int} {l4 : Int} {l5 : Option Nat} {l6 : Int} {G : Wd}, f_X1_rowOf_94 Q X fl k n l1 l3 l4 l5 l6 G → wp m_X1_rowOf 170 k n 94 [none, some (vI l1), none, some (vI l3), some (vI l4), some (vR l5), some (vI l6)] [] G (qR Q) X := by
  intro fl
  induction fl with
  | zero => intro k n l1 l3 l4 l5 l6 G h; exact (show False from h).elim
  | succ fl ih => intro k n l1 l3 l4 l5 l6 G h; exact w_X1_rowOf_94_b  (fun h => ih h) h
def f_X1_rowOf (k n : Nat) (a0 : Int) (a1 : Int) (a2 : Int) (a3 : Int) (G : Wd) (Q : Option Nat → Wd → Prop) (X : Xt) : Prop :=
  br0 a0 (¬ a0 = 0) (br a0 1 (¬ a0 = (1 : Int)) ((-2147483648 ≤ a1 ∧ (0 ≤ a1 → nA G k n a1 (fun l => aI 0 l (fun _ => 0)) (fun a25 G26 => ∃ fl27, f_X1_rowOf_94 Q X fl27 (k - 1) (n - a1.toNat) a1 a3 a2 (some a25) 0 G26)) ∧ (a1 < 0 → thA k n G X))) ((-2147483648 ≤ a1 ∧ (0 ≤ a1 → nA G k n a1 (fun l => aI 4 l (fun _ => 0)) (fun a28 G29 => ∃ fl30, f_X1_rowOf_57 Q X fl30 (k - 1) (n - a1.toNat) a1 a3 a2 (some a28) 0 G29)) ∧ (a1 < 0 → thA k n G X)))) ((-2147483648 ≤ a1 ∧ (0 ≤ a1 → nA G k n a1 (fun l => aI 1 l (fun _ => 0)) (fun a31 G32 => ∃ fl33, f_X1_rowOf_15 Q X fl33 (k - 1) (n - a1.toNat) a1 a3 a2 (some a31) 0 G32)) ∧ (a1 < 0 → thA k n G X)))
theorem w_X1_rowOf {Q : Option Nat → Wd → Prop} {X : Xt} {k n : Nat} {a0 : Int} {a1 : Int} {a2 : Int} {a3 : Int} {G : Wd} (h : f_X1_rowOf k n a0 a1 a2 a3 G Q X) : wp m_X1_rowOf 170 k n 0 [some (vI a0), some (vI a1), some (vI a2), some (vI a3), none, none, none] [] G (qR Q) X := by
  unfold f_X1_rowOf at h
  refine r_iload_n dX1_rowOf_0 rfl rfl iI ?_
  refine r_istore (L' := [some (vI a0), some (vI a1), some (vI a2), some (vI a3), some (vI a2), none, none]) dX1_rowOf_1 rfl iI cI (by decide) ?_
  refine r_iload_n dX1_rowOf_3 rfl rfl iI ?_
  refine r_if_ne (tgt := 44) dX1_rowOf_4 (by decide) h (fun h => ?_) (fun h => ?_)
  · refine r_iload_n dX1_rowOf_44 rfl rfl iI ?_
    refine r_iconst dX1_rowOf_45 ?_
    refine r_icmp_ne (tgt := 86) dX1_rowOf_46 (by decide) h (fun h => ?_) (fun h => ?_)
    · refine r_iload_n dX1_rowOf_86 rfl rfl iI ?_
      obtain ⟨hlo, hp, hn⟩ := h
      rcases Int.lt_or_le a1 0 with hl | hl
      · exact r_newNeg hl hlo dX1_rowOf_87 (by decide) rc0 (by decide) (by decide) (hn hl)
      have h := hp hl
      refine r_newI dX1_rowOf_87 h (fun a25 G26 h => ?_)
      refine r_astore (L' := [some (vI a0), some (vI a1), some (vI a2), some (vI a3), some (vI a2), some (vR (some a25)), none]) dX1_rowOf_89 rfl iR cI (by decide) ?_
      refine r_iconst dX1_rowOf_91 ?_
      refine r_istore (L' := [some (vI a0), some (vI a1), some (vI a2), some (vI a3), some (vI a2), some (vR (some a25)), some (vI 0)]) dX1_rowOf_92 rfl iI cR (by decide) ?_
      refine wp.locals (L' := [none, some (vI a1), none, some (vI a3), some (vI a2), some (vR (some a25)), some (vI 0)]) (ls_n (ls_s (ls_n (ls_s (ls_s (ls_s (ls_s ls_0))))))) ?_
      obtain ⟨fl27, h⟩ := h
      exact w_X1_rowOf_94 fl27 h
    · refine r_iload_n dX1_rowOf_49 rfl rfl iI ?_
      obtain ⟨hlo, hp, hn⟩ := h
      rcases Int.lt_or_le a1 0 with hl | hl
      · exact r_newNeg hl hlo dX1_rowOf_50 (by decide) rc0 (by decide) (by decide) (hn hl)
      have h := hp hl
      refine r_newS dX1_rowOf_50 h (fun a28 G29 h => ?_)
      refine r_astore (L' := [some (vI a0), some (vI a1), some (vI a2), some (vI a3), some (vI a2), some (vR (some a28)), none]) dX1_rowOf_52 rfl iR cI (by decide) ?_
      refine r_iconst dX1_rowOf_54 ?_
      refine r_istore (L' := [some (vI a0), some (vI a1), some (vI a2), some (vI a3), some (vI a2), some (vR (some a28)), some (vI 0)]) dX1_rowOf_55 rfl iI cR (by decide) ?_
      refine wp.locals (L' := [none, some (vI a1), none, some (vI a3), some (vI a2), some (vR (some a28)), some (vI 0)]) (ls_n (ls_s (ls_n (ls_s (ls_s (ls_s (ls_s ls_0))))))) ?_
      obtain ⟨fl30, h⟩ := h
      exact w_X1_rowOf_57 fl30 h
  · refine r_iload_n dX1_rowOf_7 rfl rfl iI ?_
    obtain ⟨hlo, hp, hn⟩ := h
    rcases Int.lt_or_le a1 0 with hl | hl
    · exact r_newNeg hl hlo dX1_rowOf_8 (by decide) rc0 (by decide) (by decide) (hn hl)
    have h := hp hl
    refine r_newB dX1_rowOf_8 h (fun a31 G32 h => ?_)
    refine r_astore (L' := [some (vI a0), some (vI a1), some (vI a2), some (vI a3), some (vI a2), some (vR (some a31)), none]) dX1_rowOf_10 rfl iR cI (by decide) ?_
    refine r_iconst dX1_rowOf_12 ?_
    refine r_istore (L' := [some (vI a0), some (vI a1), some (vI a2), some (vI a3), some (vI a2), some (vR (some a31)), some (vI 0)]) dX1_rowOf_13 rfl iI cR (by decide) ?_
    refine wp.locals (L' := [none, some (vI a1), none, some (vI a3), some (vI a2), some (vR (some a31)), some (vI 0)]) (ls_n (ls_s (ls_n (ls_s (ls_s (ls_s (ls_s ls_0))))))) ?_
    obtain ⟨fl33, h⟩ := h
    exact w_X1_rowOf_15 fl33 h
theorem c_X1_rowOf {a0 : Int} {a1 : Int} {a2 : Int} {a3 : Int} {k n : Nat} {Q : Option Nat → Wd → Prop} {X : Xt} {G : Wd} (h : f_X1_rowOf k n a0 a1 a2 a3 G Q X) : call yX1_rowOf (Cond.code yX1_rowOf cX1_rowOf 7 (some (.object "java/lang/Object"))) 170 k n [vI a0, vI a1, vI a2, vI a3] G (qR Q) X :=
  call.enter (by decide +kernel) (la_1 c1I (la_1 c1I (la_1 c1I (la_1 c1I (la_nil rfl))))) rfl (w_X1_rowOf h)
abbrev m_X1_entry : Mt := (yX1_entry.cls, cX1_entry, 2, some .int, [], yX1_entry.name)
theorem yo_X1_entry : yOK yX1_entry 2 := ⟨by decide +kernel, by decide +kernel, by decide +kernel⟩
def f_X1_entry (a0 : Option Nat) (a1 : Int) (G : Wd) (Q : Int → Wd → Prop) : Prop :=
  nn a0 (fun a12 => insA G a12 1 (br0 1 ((1 : Int) = 0) (insA G a12 4 (br0 1 ((1 : Int) = 0) (((∃ r n f, G r a12 = some (aI 0 n f)) ∧ ldI G a12 0 a1 (fun x13 => Q x13 G))) (((∃ r n f, G r a12 = some (aI 4 n f)) ∧ ldI G a12 4 a1 (fun x14 => Q x14 G)))) (br0 0 ((0 : Int) = 0) (((∃ r n f, G r a12 = some (aI 0 n f)) ∧ ldI G a12 0 a1 (fun x15 => Q x15 G))) (((∃ r n f, G r a12 = some (aI 4 n f)) ∧ ldI G a12 4 a1 (fun x16 => Q x16 G))))) (((∃ r n f, G r a12 = some (aI 1 n f)) ∧ ldI G a12 1 a1 (fun x17 => Q x17 G)))) (br0 0 ((0 : Int) = 0) (insA G a12 4 (br0 1 ((1 : Int) = 0) (((∃ r n f, G r a12 = some (aI 0 n f)) ∧ ldI G a12 0 a1 (fun x18 => Q x18 G))) (((∃ r n f, G r a12 = some (aI 4 n f)) ∧ ldI G a12 4 a1 (fun x19 => Q x19 G)))) (br0 0 ((0 : Int) = 0) (((∃ r n f, G r a12 = some (aI 0 n f)) ∧ ldI G a12 0 a1 (fun x20 => Q x20 G))) (((∃ r n f, G r a12 = some (aI 4 n f)) ∧ ldI G a12 4 a1 (fun x21 => Q x21 G))))) (((∃ r n f, G r a12 = some (aI 1 n f)) ∧ ldI G a12 1 a1 (fun x22 => Q x22 G)))))
theorem w_X1_entry {Q : Int → Wd → Prop} {a0 : Option Nat} {a1 : Int} {G : Wd} (h : f_X1_entry a0 a1 G Q) : wp m_X1_entry 1 0 0 0 [some (vR a0), some (vI a1)] [] G (qI Q) noX := by
  unfold f_X1_entry at h
  refine r_aload_n dX1_entry_0 rfl rfl iR ?_
  obtain ⟨a12, e, h⟩ := h
  refine wp.cast (L' := [some (vR (some a12)), some (vI a1)]) (st' := [vR (some a12)]) (by rw [e]) (by rw [e]) ?_
  refine r_instA (kd := 1) dX1_entry_1 (by decide) q943 insNo1 h (fun h => ?_) (fun h => ?_)
  · refine r_if_eq (tgt := 14) dX1_entry_4 (by decide) h (fun h => ?_) (fun h => ?_)
    · refine r_aload_n dX1_entry_14 rfl rfl iR ?_
      refine r_instA (kd := 4) dX1_entry_15 (by decide) q1034 insNo4 h (fun h => ?_) (fun h => ?_)
      · refine r_if_eq (tgt := 30) dX1_entry_18 (by decide) h (fun h => ?_) (fun h => ?_)
        · refine r_aload_n dX1_entry_30 rfl rfl iR ?_
          refine r_castA (kd := 0) dX1_entry_31 q1035 nmI (by decide) h (fun h => ?_)
          refine r_iload_n dX1_entry_34 rfl rfl iI ?_
          refine r_iald dX1_entry_35 h (fun x13 h => ?_)
          exact r_iret rfl dX1_entry_36 ⟨_, rfl, h⟩
        · refine r_aload_n dX1_entry_21 rfl rfl iR ?_
          refine r_castA (kd := 4) dX1_entry_22 q1034 nmS (by decide) h (fun h => ?_)
          refine r_iload_n dX1_entry_25 rfl rfl iI ?_
          refine r_sald dX1_entry_26 h (fun x14 h => ?_)
          refine r_goto (tgt := 36) dX1_entry_27 (by decide) ?_
          exact r_iret rfl dX1_entry_36 ⟨_, rfl, h⟩
      · refine r_if_eq (tgt := 30) dX1_entry_18 (by decide) h (fun h => ?_) (fun h => ?_)
        · refine r_aload_n dX1_entry_30 rfl rfl iR ?_
          refine r_castA (kd := 0) dX1_entry_31 q1035 nmI (by decide) h (fun h => ?_)
          refine r_iload_n dX1_entry_34 rfl rfl iI ?_
          refine r_iald dX1_entry_35 h (fun x15 h => ?_)
          exact r_iret rfl dX1_entry_36 ⟨_, rfl, h⟩
        · refine r_aload_n dX1_entry_21 rfl rfl iR ?_
          refine r_castA (kd := 4) dX1_entry_22 q1034 nmS (by decide) h (fun h => ?_)
          refine r_iload_n dX1_entry_25 rfl rfl iI ?_
          refine r_sald dX1_entry_26 h (fun x16 h => ?_)
          refine r_goto (tgt := 36) dX1_entry_27 (by decide) ?_
          exact r_iret rfl dX1_entry_36 ⟨_, rfl, h⟩
    · refine r_aload_n dX1_entry_7 rfl rfl iR ?_
      refine r_castA (kd := 1) dX1_entry_8 q943 nmB (by decide) h (fun h => ?_)
      refine r_iload_n dX1_entry_11 rfl rfl iI ?_
      refine r_bald dX1_entry_12 h (fun x17 h => ?_)
      exact r_iret rfl dX1_entry_13 ⟨_, rfl, h⟩
  · refine r_if_eq (tgt := 14) dX1_entry_4 (by decide) h (fun h => ?_) (fun h => ?_)
    · refine r_aload_n dX1_entry_14 rfl rfl iR ?_
      refine r_instA (kd := 4) dX1_entry_15 (by decide) q1034 insNo4 h (fun h => ?_) (fun h => ?_)
      · refine r_if_eq (tgt := 30) dX1_entry_18 (by decide) h (fun h => ?_) (fun h => ?_)
        · refine r_aload_n dX1_entry_30 rfl rfl iR ?_
          refine r_castA (kd := 0) dX1_entry_31 q1035 nmI (by decide) h (fun h => ?_)
          refine r_iload_n dX1_entry_34 rfl rfl iI ?_
          refine r_iald dX1_entry_35 h (fun x18 h => ?_)
          exact r_iret rfl dX1_entry_36 ⟨_, rfl, h⟩
        · refine r_aload_n dX1_entry_21 rfl rfl iR ?_
          refine r_castA (kd := 4) dX1_entry_22 q1034 nmS (by decide) h (fun h => ?_)
          refine r_iload_n dX1_entry_25 rfl rfl iI ?_
          refine r_sald dX1_entry_26 h (fun x19 h => ?_)
          refine r_goto (tgt := 36) dX1_entry_27 (by decide) ?_
          exact r_iret rfl dX1_entry_36 ⟨_, rfl, h⟩
      · refine r_if_eq (tgt := 30) dX1_entry_18 (by decide) h (fun h => ?_) (fun h => ?_)
        · refine r_aload_n dX1_entry_30 rfl rfl iR ?_
          refine r_castA (kd := 0) dX1_entry_31 q1035 nmI (by decide) h (fun h => ?_)
          refine r_iload_n dX1_entry_34 rfl rfl iI ?_
          refine r_iald dX1_entry_35 h (fun x20 h => ?_)
          exact r_iret rfl dX1_entry_36 ⟨_, rfl, h⟩
        · refine r_aload_n dX1_entry_21 rfl rfl iR ?_
          refine r_castA (kd := 4) dX1_entry_22 q1034 nmS (by decide) h (fun h => ?_)
          refine r_iload_n dX1_entry_25 rfl rfl iI ?_
          refine r_sald dX1_entry_26 h (fun x21 h => ?_)
          refine r_goto (tgt := 36) dX1_entry_27 (by decide) ?_
          exact r_iret rfl dX1_entry_36 ⟨_, rfl, h⟩
    · refine r_aload_n dX1_entry_7 rfl rfl iR ?_
      refine r_castA (kd := 1) dX1_entry_8 q943 nmB (by decide) h (fun h => ?_)
      refine r_iload_n dX1_entry_11 rfl rfl iI ?_
      refine r_bald dX1_entry_12 h (fun x22 h => ?_)
      exact r_iret rfl dX1_entry_13 ⟨_, rfl, h⟩
theorem c_X1_entry {a0 : Option Nat} {a1 : Int} {Q : Int → Wd → Prop} {G : Wd} (h : f_X1_entry a0 a1 G Q) : call yX1_entry (Cond.code yX1_entry cX1_entry 2 (some .int)) 1 0 0 [vR a0, vI a1] G (qI Q) noX :=
  call.enter (by decide +kernel) (la_1 c1R (la_1 c1I (la_nil rfl))) rfl (w_X1_entry h)
abbrev m_X1_isQueue : Mt := (yX1_isQueue.cls, cX1_isQueue, 2, some .boolean, [], yX1_isQueue.name)
theorem yo_X1_isQueue : yOK yX1_isQueue 1 := ⟨by decide +kernel, by decide +kernel, by decide +kernel⟩
def f_X1_isQueue (a0 : Nat) (a1 : Int) (G : Wd) (Q : Bool → Wd → Prop) : Prop :=
  ok32 a1 (gR G a0 [0] 0 (fun x6 => nn x6 (fun a7 => gI G a7 [1] 8 (fun x8 => ok32 (x8 - 1) (f_X1_in a1 0 (x8 - 1) G (fun x10 G9 => Q x10 G9))))))
theorem w_X1_isQueue {a0 : Nat} {Q : Bool → Wd → Prop} {a1 : Int} {G : Wd} (h : f_X1_isQueue a0 a1 G Q) : wp m_X1_isQueue 2 0 0 0 [some (vR (some a0)), some (vI a1)] [] G (qB Q) noX := by
  unfold f_X1_isQueue at h
  refine r_iload_n dX1_isQueue_0 rfl rfl iI ?_
  refine r_i2l dX1_isQueue_1 h (fun h => ?_)
  refine r_lconst (y := 0) dX1_isQueue_2 (by decide) ?_
  refine r_aload_n dX1_isQueue_3 rfl rfl iR ?_
  refine r_getR dX1_isQueue_4 (fg1 (f := 0) fX1 (by decide) q700 rfl) h (fun x6 h => ?_)
  obtain ⟨a7, e, h⟩ := h
  refine wp.cast (L' := [some (vR (some a0)), some (vI a1)]) (st' := [vR (some a7), vJ 0, vJ a1]) rfl (by rw [e]) ?_
  refine r_getI dX1_isQueue_7 (fg1 (f := 8) fX2 (by decide) q652 rfl) h (fun x8 h => ?_)
  refine r_iconst dX1_isQueue_10 ?_
  refine r_isub dX1_isQueue_11 ?_
  refine r_i2l dX1_isQueue_12 h (fun h => ?_)
  refine r_callS dX1_isQueue_13 (c_X1_in h) q776 q777 q92 q778 yo_X1_in rfl (by decide) (by decide) rfl rc0 (by decide) (Nat.zero_le _) (Nat.zero_le _) (ofB fun x10 G9 h => ?_) nox
  exact r_zret rfl dX1_isQueue_16 ⟨_, rfl, h⟩
theorem c_X1_isQueue {a0 : Nat} {a1 : Int} {Q : Bool → Wd → Prop} {G : Wd} (h : f_X1_isQueue a0 a1 G Q) : call yX1_isQueue (Cond.code yX1_isQueue cX1_isQueue 2 (some .boolean)) 2 0 0 [vR (some a0), vI a1] G (qB Q) noX :=
  call.enter (by decide +kernel) (la_1 c1R (la_1 c1I (la_nil rfl))) rfl (w_X1_isQueue h)
abbrev m_X1_tell : Mt := (yX1_tell.cls, cX1_tell, 3, none, [], yX1_tell.name)
theorem yo_X1_tell : yOK yX1_tell 1 := ⟨by decide +kernel, by decide +kernel, by decide +kernel⟩
def f_X1_tell (a0 : Nat) (a1 : Int) (G : Wd) (Q : Wd → Prop) : Prop :=
  gR G a0 [0] 8 (fun x7 => gI G a0 [0] 9 (fun x8 => nn x7 (fun a9 => stJ G a9 x8 a1 (fun G10 => gI G10 a0 [0] 9 (fun x11 => pF G10 a0 [0] 9 (vI (x11 + 1)) (fun G12 => Q G12))))))
theorem w_X1_tell {a0 : Nat} {Q : Wd → Prop} {a1 : Int} {G : Wd} (h : f_X1_tell a0 a1 G Q) : wp m_X1_tell 1 0 0 0 [some (vR (some a0)), some (vJ a1), none] [] G (qV Q) noX := by
  unfold f_X1_tell at h
  refine r_aload_n dX1_tell_0 rfl rfl iR ?_
  refine r_getR dX1_tell_1 (fg1 (f := 8) fX1 (by decide) q708 rfl) h (fun x7 h => ?_)
  refine r_aload_n dX1_tell_4 rfl rfl iR ?_
  refine r_getI dX1_tell_5 (fg1 (f := 9) fX1 (by decide) q709 rfl) h (fun x8 h => ?_)
  refine r_lload_n dX1_tell_8 rfl rfl iJ ?_
  obtain ⟨a9, e, h⟩ := h
  refine wp.cast (L' := [some (vR (some a0)), some (vJ a1), none]) (st' := [vJ a1, vI x8, vR (some a9)]) rfl (by rw [e]) ?_
  refine r_last dX1_tell_9 h (fun G10 h => ?_)
  refine r_aload_n dX1_tell_10 rfl rfl iR ?_
  refine r_dup dX1_tell_11 c1R ?_
  refine r_getI dX1_tell_12 (fg1 (f := 9) fX1 (by decide) q709 rfl) h (fun x11 h => ?_)
  refine r_iconst dX1_tell_15 ?_
  refine r_iadd dX1_tell_16 ?_
  refine r_put dX1_tell_17 (fp1 (f := 9) fX1 (by decide) q709 rfl rfl rfl) fvI h (fun G12 h => ?_)
  exact r_vret rfl dX1_tell_20 ⟨rfl, h⟩
theorem c_X1_tell {a0 : Nat} {a1 : Int} {Q : Wd → Prop} {G : Wd} (h : f_X1_tell a0 a1 G Q) : call yX1_tell (Cond.code yX1_tell cX1_tell 3 (none)) 1 0 0 [vR (some a0), vJ a1] G (qV Q) noX :=
  call.enter (by decide +kernel) (la_1 c1R (la_2 (la_nil rfl))) rfl (w_X1_tell h)
abbrev m_X1_refusesTaking : Mt := (yX1_refusesTaking.cls, cX1_refusesTaking, 2, some .int, [], yX1_refusesTaking.name)
theorem yo_X1_refusesTaking : yOK yX1_refusesTaking 2 := ⟨by decide +kernel, by decide +kernel, by decide +kernel⟩
def f_X1_refusesTaking (a0 : Option Nat) (a1 : Int) (G : Wd) (Q : Int → Wd → Prop) : Prop :=
  ok32 a1 (nn a0 (fun a13 => gI G a13 [1] 8 (fun x14 => ok32 (x14 - 1) (f_X1_in a1 0 (x14 - 1) G (fun x16 G15 => brB x16 (gR G15 a13 [1] 0 (fun x17 => nn x17 (fun a18 => ldR G15 a18 7 a1 (fun x19 => nn x19 (fun a20 => gR G15 a20 [2] 2 (fun x21 => nn x21 (fun a22 => (isC G15 a22 13 ∧ f_J4_isEmpty a22  G15 (fun x24 G23 => brB x24 (Q (-2) G23) (Q 0 G23)))))))))) (Q (-1) G15))))))
theorem w_X1_refusesTaking {Q : Int → Wd → Prop} {a0 : Option Nat} {a1 : Int} {G : Wd} (h : f_X1_refusesTaking a0 a1 G Q) : wp m_X1_refusesTaking 2 0 0 0 [some (vR a0), some (vI a1)] [] G (qI Q) noX := by
  unfold f_X1_refusesTaking at h
  refine r_iload_n dX1_refusesTaking_0 rfl rfl iI ?_
  refine r_i2l dX1_refusesTaking_1 h (fun h => ?_)
  refine r_lconst (y := 0) dX1_refusesTaking_2 (by decide) ?_
  refine r_aload_n dX1_refusesTaking_3 rfl rfl iR ?_
  obtain ⟨a13, e, h⟩ := h
  refine wp.cast (L' := [some (vR (some a13)), some (vI a1)]) (st' := [vR (some a13), vJ 0, vJ a1]) (by rw [e]) (by rw [e]) ?_
  refine r_getI dX1_refusesTaking_4 (fg1 (f := 8) fX2 (by decide) q652 rfl) h (fun x14 h => ?_)
  refine r_iconst dX1_refusesTaking_7 ?_
  refine r_isub dX1_refusesTaking_8 ?_
  refine r_i2l dX1_refusesTaking_9 h (fun h => ?_)
  refine r_callS dX1_refusesTaking_10 (c_X1_in h) q776 q777 q92 q778 yo_X1_in rfl (by decide) (by decide) rfl rc0 (by decide) (Nat.zero_le _) (Nat.zero_le _) (ofB fun x16 G15 h => ?_) nox
  refine r_ifZ_ne (tgt := 18) dX1_refusesTaking_13 (by decide) h (fun h => ?_) (fun h => ?_)
  · refine r_aload_n dX1_refusesTaking_18 rfl rfl iR ?_
    refine r_getR dX1_refusesTaking_19 (fg1 (f := 0) fX2 (by decide) q636 rfl) h (fun x17 h => ?_)
    refine r_iload_n dX1_refusesTaking_22 rfl rfl iI ?_
    obtain ⟨a18, e, h⟩ := h
    refine wp.cast (L' := [some (vR (some a13)), some (vI a1)]) (st' := [vI a1, vR (some a18)]) rfl (by rw [e]) ?_
    refine r_aald dX1_refusesTaking_23 (by decide) (by decide) h (fun x19 h => ?_)
    obtain ⟨a20, e, h⟩ := h
    refine wp.cast (L' := [some (vR (some a13)), some (vI a1)]) (st' := [vR (some a20)]) rfl (by rw [e]) ?_
    refine r_getR dX1_refusesTaking_24 (fg1 (f := 2) fX3 (by decide) q560 rfl) h (fun x21 h => ?_)
    obtain ⟨a22, e, h⟩ := h
    refine wp.cast (L' := [some (vR (some a13)), some (vI a1)]) (st' := [vR (some a22)]) rfl (by rw [e]) ?_
    obtain ⟨hC, h⟩ := h
    refine r_callV dX1_refusesTaking_27 hC (c_J4_isEmpty h) q1772 q1773 q1774 q99 q1775 rfl yo_J4_isEmpty rfl (by decide) (by decide) rfl rc0 (by decide) (Nat.zero_le _) (Nat.zero_le _) (ofB fun x24 G23 h => ?_) nox
    refine r_ifZ_eq (tgt := 38) dX1_refusesTaking_30 (by decide) h (fun h => ?_) (fun h => ?_)
    · refine r_iconst dX1_refusesTaking_38 ?_
      exact r_iret rfl dX1_refusesTaking_39 ⟨_, rfl, h⟩
    · refine r_bipush dX1_refusesTaking_33 (by decide) ?_
      refine r_goto (tgt := 39) dX1_refusesTaking_35 (by decide) ?_
      exact r_iret rfl dX1_refusesTaking_39 ⟨_, rfl, h⟩
  · refine r_iconst dX1_refusesTaking_16 ?_
    exact r_iret rfl dX1_refusesTaking_17 ⟨_, rfl, h⟩
theorem c_X1_refusesTaking {a0 : Option Nat} {a1 : Int} {Q : Int → Wd → Prop} {G : Wd} (h : f_X1_refusesTaking a0 a1 G Q) : call yX1_refusesTaking (Cond.code yX1_refusesTaking cX1_refusesTaking 2 (some .int)) 2 0 0 [vR a0, vI a1] G (qI Q) noX :=
  call.enter (by decide +kernel) (la_1 c1R (la_1 c1I (la_nil rfl))) rfl (w_X1_refusesTaking h)
abbrev m_X1_placeOf : Mt := (yX1_placeOf.cls, cX1_placeOf, 5, some .int, [], yX1_placeOf.name)
theorem yo_X1_placeOf : yOK yX1_placeOf 2 := ⟨by decide +kernel, by decide +kernel, by decide +kernel⟩
def f_X1_placeOf_10_b (k10 : Nat → Nat → Int → Int → Option Nat → Wd → Prop) (k n : Nat) (l1 : Int) (l2 : Int) (l3 : Option Nat) (G : Wd) (Q : Int → Wd → Prop) : Prop :=
  nn l3 (fun a22 => (isC G a22 15 ∧ f_J23_hasNext a22  G (fun x24 G23 => brB x24 ((isC G23 a22 15 ∧ f_J23_next a22  G23 (fun x26 G25 => cst G25 x26 [7] (nn x26 (fun a27 => gI G25 a27 [7] 1 (fun x28 => br x28 l1 (¬ x28 = l1) (k10 k n l1 (l2 + 1) (some a22) G25) (Q l2 G25))))))) (Q (-1) G23))))
theorem w_X1_placeOf_10_b {Q : Int → Wd → Prop} {k10 : Nat → Nat → Int → Int → Option Nat → Wd → Prop} (hk10 : ∀ {k n : Nat} {l1 : Int} {l2 : Int} {l3 : Option Nat} {G : Wd}, k10 k n l1 l2 l3 G → wp m_X1_placeOf 5 k n 10 [none, some (vI l1), some (vI l2), some (vR l3), none] [] G (qI Q) noX) {k n : Nat} {l1 : Int} {l2 : Int} {l3 : Option Nat} {G : Wd} (h : f_X1_placeOf_10_b k10 k n l1 l2 l3 G Q) : wp m_X1_placeOf 5 k n 10 [none, some (vI l1), some (vI l2), some (vR l3), none] [] G (qI Q) noX := by
  unfold f_X1_placeOf_10_b at h
  refine r_aload_n dX1_placeOf_10 rfl rfl iR ?_
  obtain ⟨a22, e, h⟩ := h
  refine wp.cast (L' := [none, some (vI l1), some (vI l2), some (vR (some a22)), none]) (st' := [vR (some a22)]) (by rw [e]) (by rw [e]) ?_
  obtain ⟨hC, h⟩ := h
  refine r_callF dX1_placeOf_11 hC (c_J23_hasNext h) q1803 q1129 q1131 q124 q1133 q1117 q1116 q1132 q1130 q1128 rfl ⟨by decide +kernel, by decide +kernel, by decide +kernel⟩ rfl (by decide) (by decide) rfl rc0 (by decide) (Nat.zero_le _) (Nat.zero_le _) (ofB fun x24 G23 h => ?_) nox
  refine r_ifZ_eq (tgt := 47) dX1_placeOf_16 (by decide) h (fun h => ?_) (fun h => ?_)
  · refine r_iconst dX1_placeOf_47 ?_
    exact r_iret rfl dX1_placeOf_48 ⟨_, rfl, h⟩
  · refine r_aload_n dX1_placeOf_19 rfl rfl iR ?_
    obtain ⟨hC, h⟩ := h
    refine r_callF dX1_placeOf_20 hC (c_J23_next h) q1805 q1256 q1258 q124 q1260 q1143 q1142 q1259 q1257 q1128 rfl ⟨by decide +kernel, by decide +kernel, by decide +kernel⟩ rfl (by decide) (by decide) rfl rc0 (by decide) (Nat.zero_le _) (Nat.zero_le _) (ofR fun x26 G25 h => ?_) nox
    refine r_ccast (ci := 7) dX1_placeOf_25 q698 rfl h (fun h => ?_)
    refine r_astore (L' := [none, some (vI l1), some (vI l2), some (vR (some a22)), some (vR x26)]) dX1_placeOf_28 rfl iR cR (by decide) ?_
    refine r_aload dX1_placeOf_30 rfl iR ?_
    obtain ⟨a27, e, h⟩ := h
    refine wp.cast (L' := [none, some (vI l1), some (vI l2), some (vR (some a22)), some (vR (some a27))]) (st' := [vR (some a27)]) (by rw [e]) (by rw [e]) ?_
    refine r_getI dX1_placeOf_32 (fg1 (f := 1) fX8 (by decide) q1465 rfl) h (fun x28 h => ?_)
    refine r_iload_n dX1_placeOf_35 rfl rfl iI ?_
    refine r_icmp_ne (tgt := 41) dX1_placeOf_36 (by decide) h (fun h => ?_) (fun h => ?_)
    · refine r_iinc (L' := [none, some (vI l1), some (vI (l2 + 1)), some (vR (some a22)), some (vR (some a27))]) dX1_placeOf_41 rfl rfl cI (by decide) ?_
      refine r_goto (tgt := 10) dX1_placeOf_44 (by decide) ?_
      refine wp.locals (L' := [none, some (vI l1), some (vI (l2 + 1)), some (vR (some a22)), none]) (ls_n (ls_s (ls_s (ls_s (ls_n ls_0))))) ?_
      exact hk10 h
    · refine r_iload_n dX1_placeOf_39 rfl rfl iI ?_
      exact r_iret rfl dX1_placeOf_40 ⟨_, rfl, h⟩
def f_X1_placeOf_10 (Q : Int → Wd → Prop) : Nat → Nat → Nat → Int → Int → Option Nat → Wd → Prop
  | 0, _, _, _, _, _, _ => False
  | fl + 1, k, n, l1, l2, l3, G => f_X1_placeOf_10_b  (fun k n l1 l2 l3 G => f_X1_placeOf_10  Q fl k n l1 l2 l3 G) k n l1 l2 l3 G Q
theorem w_X1_placeOf_10 {Q : Int → Wd → Prop} : ∀ (fl : Nat) {k n : Nat} {l1 : Int} {l2 : Int} {l3 : Option Nat} {G : Wd}, f_X1_placeOf_10 Q fl k n l1 l2 l3 G → wp m_X1_placeOf 5 k n 10 [none, some (vI l1), some (vI l2), some (vR l3), none] [] G (qI Q) noX := by
  intro fl
  induction fl with
  | zero => intro k n l1 l2 l3 G h; exact (show False from h).elim
  | succ fl ih => intro k n l1 l2 l3 G h; exact w_X1_placeOf_10_b  (fun h => ih h) h
def f_X1_placeOf (k n : Nat) (a0 : Option Nat) (a1 : Int) (G : Wd) (Q : Int → Wd → Prop) : Prop :=
  nn a0 (fun a29 => gR G a29 [2] 1 (fun x30 => nn x30 (fun a31 => (∃ k33 n34, (k33 ≤ k ∧ n34 ≤ n) ∧ (isC G a31 13 ∧ f_J4_iterator k33 n34 a31  G (fun x35 G32 => ∃ fl36, f_X1_placeOf_10 Q fl36 (k - k33) (n - n34) a1 0 x35 G32))))))
theorem w_X1_placeOf {Q : Int → Wd → Prop} {k n : Nat} {a0 : Option Nat} {a1 : Int} {G : Wd} (h : f_X1_placeOf k n a0 a1 G Q) : wp m_X1_placeOf 5 k n 0 [some (vR a0), some (vI a1), none, none, none] [] G (qI Q) noX := by
  unfold f_X1_placeOf at h
  refine r_iconst dX1_placeOf_0 ?_
  refine r_istore_n (L' := [some (vR a0), some (vI a1), some (vI 0), none, none]) dX1_placeOf_1 rfl rfl iI cI (by decide) ?_
  refine r_aload_n dX1_placeOf_2 rfl rfl iR ?_
  obtain ⟨a29, e, h⟩ := h
  refine wp.cast (L' := [some (vR (some a29)), some (vI a1), some (vI 0), none, none]) (st' := [vR (some a29)]) (by rw [e]) (by rw [e]) ?_
  refine r_getR dX1_placeOf_3 (fg1 (f := 1) fX3 (by decide) q558 rfl) h (fun x30 h => ?_)
  obtain ⟨a31, e, h⟩ := h
  refine wp.cast (L' := [some (vR (some a29)), some (vI a1), some (vI 0), none, none]) (st' := [vR (some a31)]) rfl (by rw [e]) ?_
  obtain ⟨k33, n34, ⟨hk1, hn1⟩, h⟩ := h
  obtain ⟨hC, h⟩ := h
  refine r_callV dX1_placeOf_6 hC (c_J4_iterator h) q1801 q1085 q1086 q99 q1087 rfl yo_J4_iterator rfl (by decide) (by decide) rfl rc0 (by decide) hk1 hn1 (ofR fun x35 G32 h => ?_) nox
  refine r_astore_n (L' := [some (vR (some a29)), some (vI a1), some (vI 0), some (vR x35), none]) dX1_placeOf_9 rfl rfl iR cI (by decide) ?_
  refine wp.locals (L' := [none, some (vI a1), some (vI 0), some (vR x35), none]) (ls_n (ls_s (ls_s (ls_s (ls_n ls_0))))) ?_
  obtain ⟨fl36, h⟩ := h
  exact w_X1_placeOf_10 fl36 h
theorem c_X1_placeOf {a0 : Option Nat} {a1 : Int} {k n : Nat} {Q : Int → Wd → Prop} {G : Wd} (h : f_X1_placeOf k n a0 a1 G Q) : call yX1_placeOf (Cond.code yX1_placeOf cX1_placeOf 5 (some .int)) 5 k n [vR a0, vI a1] G (qI Q) noX :=
  call.enter (by decide +kernel) (la_1 c1R (la_1 c1I (la_nil rfl))) rfl (w_X1_placeOf h)
abbrev m_X1_waiting : Mt := (yX1_waiting.cls, cX1_waiting, 4, some .int, [], yX1_waiting.name)
theorem yo_X1_waiting : yOK yX1_waiting 1 := ⟨by decide +kernel, by decide +kernel, by decide +kernel⟩
def f_X1_waiting_31_b (a0 : Nat) (k31 : Nat → Nat → Option Nat → Wd → Prop) (k n : Nat) (l2 : Option Nat) (G : Wd) (Q : Int → Wd → Prop) : Prop :=
  nn l2 (fun a26 => (isC G a26 15 ∧ f_J23_hasNext a26  G (fun x28 G27 => brB x28 ((isC G27 a26 15 ∧ f_J23_next a26  G27 (fun x31 G30 => cst G30 x31 [7] (nn x31 (fun a32 => gI G30 a32 [7] 1 (fun x33 => gI G30 a32 [7] 2 (fun x34 => ok32 ((10 * x33) + x34) ((isC G30 a0 0 ∧ f_X1_tell a0 ((10 * x33) + x34) G30 (fun G35 => k31 k n (some a26) G35)))))))))) (gI G27 a0 [0] 9 (fun x29 => Q x29 G27)))))
theorem w_X1_waiting_31_b {a0 : Nat} {Q : Int → Wd → Prop} {k31 : Nat → Nat → Option Nat → Wd → Prop} (hk31 : ∀ {k n : Nat} {l2 : Option Nat} {G : Wd}, k31 k n l2 G → wp m_X1_waiting 5 k n 31 [some (vR (some a0)), none, some (vR l2), none] [] G (qI Q) noX) {k n : Nat} {l2 : Option Nat} {G : Wd} (h : f_X1_waiting_31_b a0 k31 k n l2 G Q) : wp m_X1_waiting 5 k n 31 [some (vR (some a0)), none, some (vR l2), none] [] G (qI Q) noX := by
  unfold f_X1_waiting_31_b at h
  refine r_aload_n dX1_waiting_31 rfl rfl iR ?_
  obtain ⟨a26, e, h⟩ := h
  refine wp.cast (L' := [some (vR (some a0)), none, some (vR (some a26)), none]) (st' := [vR (some a26)]) (by rw [e]) (by rw [e]) ?_
  obtain ⟨hC, h⟩ := h
  refine r_callF dX1_waiting_32 hC (c_J23_hasNext h) q1803 q1129 q1131 q124 q1133 q1117 q1116 q1132 q1130 q1128 rfl ⟨by decide +kernel, by decide +kernel, by decide +kernel⟩ rfl (by decide) (by decide) rfl rc0 (by decide) (Nat.zero_le _) (Nat.zero_le _) (ofB fun x28 G27 h => ?_) nox
  refine r_ifZ_eq (tgt := 70) dX1_waiting_37 (by decide) h (fun h => ?_) (fun h => ?_)
  · refine r_aload_n dX1_waiting_70 rfl rfl iR ?_
    refine r_getI dX1_waiting_71 (fg1 (f := 9) fX1 (by decide) q709 rfl) h (fun x29 h => ?_)
    exact r_iret rfl dX1_waiting_74 ⟨_, rfl, h⟩
  · refine r_aload_n dX1_waiting_40 rfl rfl iR ?_
    obtain ⟨hC, h⟩ := h
    refine r_callF dX1_waiting_41 hC (c_J23_next h) q1805 q1256 q1258 q124 q1260 q1143 q1142 q1259 q1257 q1128 rfl ⟨by decide +kernel, by decide +kernel, by decide +kernel⟩ rfl (by decide) (by decide) rfl rc0 (by decide) (Nat.zero_le _) (Nat.zero_le _) (ofR fun x31 G30 h => ?_) nox
    refine r_ccast (ci := 7) dX1_waiting_46 q698 rfl h (fun h => ?_)
    refine r_astore_n (L' := [some (vR (some a0)), none, some (vR (some a26)), some (vR x31)]) dX1_waiting_49 rfl rfl iR cR (by decide) ?_
    refine r_aload_n dX1_waiting_50 rfl rfl iR ?_
    refine r_bipush dX1_waiting_51 (by decide) ?_
    refine r_aload_n dX1_waiting_53 rfl rfl iR ?_
    obtain ⟨a32, e, h⟩ := h
    refine wp.cast (L' := [some (vR (some a0)), none, some (vR (some a26)), some (vR (some a32))]) (st' := [vR (some a32), vI 10, vR (some a0)]) (by rw [e]) (by rw [e]) ?_
    refine r_getI dX1_waiting_54 (fg1 (f := 1) fX8 (by decide) q1465 rfl) h (fun x33 h => ?_)
    refine r_imul dX1_waiting_57 ?_
    refine r_aload_n dX1_waiting_58 rfl rfl iR ?_
    refine r_getI dX1_waiting_59 (fg1 (f := 2) fX8 (by decide) q1469 rfl) h (fun x34 h => ?_)
    refine r_iadd dX1_waiting_62 ?_
    refine r_i2l dX1_waiting_63 h (fun h => ?_)
    obtain ⟨hC, h⟩ := h
    refine r_callV dX1_waiting_64 hC (c_X1_tell h) q1761 q1763 qs27 q92 q1764 rfl yo_X1_tell rfl (by decide) (by decide) rfl rc0 (by decide) (Nat.zero_le _) (Nat.zero_le _) (ofV fun G35 h => ?_) nox
    refine r_goto (tgt := 31) dX1_waiting_67 (by decide) ?_
    refine wp.locals (L' := [some (vR (some a0)), none, some (vR (some a26)), none]) (ls_s (ls_n (ls_s (ls_n ls_0)))) ?_
    exact hk31 h
def f_X1_waiting_31 (a0 : Nat) (Q : Int → Wd → Prop) : Nat → Nat → Nat → Option Nat → Wd → Prop
  | 0, _, _, _, _ => False
  | fl + 1, k, n, l2, G => f_X1_waiting_31_b a0  (fun k n l2 G => f_X1_waiting_31 a0  Q fl k n l2 G) k n l2 G Q
theorem w_X1_waiting_31 {a0 : Nat} {Q : Int → Wd → Prop} : ∀ (fl : Nat) {k n : Nat} {l2 : Option Nat} {G : Wd}, f_X1_waiting_31 a0 Q fl k n l2 G → wp m_X1_waiting 5 k n 31 [some (vR (some a0)), none, some (vR l2), none] [] G (qI Q) noX := by
  intro fl
  induction fl with
  | zero => intro k n l2 G h; exact (show False from h).elim
  | succ fl ih => intro k n l2 G h; exact w_X1_waiting_31_b  (fun h => ih h) h
def f_X1_waiting (k n : Nat) (a0 : Nat) (a1 : Int) (G : Wd) (Q : Int → Wd → Prop) : Prop :=
  (isC G a0 0 ∧ f_X1_isQueue a0 a1 G (fun x37 G36 => brB x37 (pF G36 a0 [0] 9 (vI 0) (fun G38 => gR G38 a0 [0] 0 (fun x39 => nn x39 (fun a40 => gR G38 a40 [1] 0 (fun x41 => nn x41 (fun a42 => ldR G38 a42 7 a1 (fun x43 => nn x43 (fun a44 => gR G38 a44 [2] 1 (fun x45 => nn x45 (fun a46 => (∃ k48 n49, (k48 ≤ k ∧ n49 ≤ n) ∧ (isC G38 a46 13 ∧ f_J4_iterator k48 n49 a46  G38 (fun x50 G47 => ∃ fl51, f_X1_waiting_31 a0 Q fl51 (k - k48) (n - n49) x50 G47))))))))))))) (Q (-1) G36)))
theorem w_X1_waiting {a0 : Nat} {Q : Int → Wd → Prop} {k n : Nat} {a1 : Int} {G : Wd} (h : f_X1_waiting k n a0 a1 G Q) : wp m_X1_waiting 5 k n 0 [some (vR (some a0)), some (vI a1), none, none] [] G (qI Q) noX := by
  unfold f_X1_waiting at h
  refine r_aload_n dX1_waiting_0 rfl rfl iR ?_
  refine r_iload_n dX1_waiting_1 rfl rfl iI ?_
  obtain ⟨hC, h⟩ := h
  refine r_callV dX1_waiting_2 hC (c_X1_isQueue h) q1498 q1500 qs18 q92 q1501 rfl yo_X1_isQueue rfl (by decide) (by decide) rfl rc0 (by decide) (Nat.zero_le _) (Nat.zero_le _) (ofB fun x37 G36 h => ?_) nox
  refine r_ifZ_ne (tgt := 10) dX1_waiting_5 (by decide) h (fun h => ?_) (fun h => ?_)
  · refine r_aload_n dX1_waiting_10 rfl rfl iR ?_
    refine r_iconst dX1_waiting_11 ?_
    refine r_put dX1_waiting_12 (fp1 (f := 9) fX1 (by decide) q709 rfl rfl rfl) fvI h (fun G38 h => ?_)
    refine r_aload_n dX1_waiting_15 rfl rfl iR ?_
    refine r_getR dX1_waiting_16 (fg1 (f := 0) fX1 (by decide) q700 rfl) h (fun x39 h => ?_)
    obtain ⟨a40, e, h⟩ := h
    refine wp.cast (L' := [some (vR (some a0)), some (vI a1), none, none]) (st' := [vR (some a40)]) rfl (by rw [e]) ?_
    refine r_getR dX1_waiting_19 (fg1 (f := 0) fX2 (by decide) q636 rfl) h (fun x41 h => ?_)
    refine r_iload_n dX1_waiting_22 rfl rfl iI ?_
    obtain ⟨a42, e, h⟩ := h
    refine wp.cast (L' := [some (vR (some a0)), some (vI a1), none, none]) (st' := [vI a1, vR (some a42)]) rfl (by rw [e]) ?_
    refine r_aald dX1_waiting_23 (by decide) (by decide) h (fun x43 h => ?_)
    obtain ⟨a44, e, h⟩ := h
    refine wp.cast (L' := [some (vR (some a0)), some (vI a1), none, none]) (st' := [vR (some a44)]) rfl (by rw [e]) ?_
    refine r_getR dX1_waiting_24 (fg1 (f := 1) fX3 (by decide) q558 rfl) h (fun x45 h => ?_)
    obtain ⟨a46, e, h⟩ := h
    refine wp.cast (L' := [some (vR (some a0)), some (vI a1), none, none]) (st' := [vR (some a46)]) rfl (by rw [e]) ?_
    obtain ⟨k48, n49, ⟨hk1, hn1⟩, h⟩ := h
    obtain ⟨hC, h⟩ := h
    refine r_callV dX1_waiting_27 hC (c_J4_iterator h) q1801 q1085 q1086 q99 q1087 rfl yo_J4_iterator rfl (by decide) (by decide) rfl rc0 (by decide) hk1 hn1 (ofR fun x50 G47 h => ?_) nox
    refine r_astore_n (L' := [some (vR (some a0)), some (vI a1), some (vR x50), none]) dX1_waiting_30 rfl rfl iR cI (by decide) ?_
    refine wp.locals (L' := [some (vR (some a0)), none, some (vR x50), none]) (ls_s (ls_n (ls_s (ls_n ls_0)))) ?_
    obtain ⟨fl51, h⟩ := h
    exact w_X1_waiting_31 fl51 h
  · refine r_iconst dX1_waiting_8 ?_
    exact r_iret rfl dX1_waiting_9 ⟨_, rfl, h⟩
theorem c_X1_waiting {a0 : Nat} {a1 : Int} {k n : Nat} {Q : Int → Wd → Prop} {G : Wd} (h : f_X1_waiting k n a0 a1 G Q) : call yX1_waiting (Cond.code yX1_waiting cX1_waiting 4 (some .int)) 5 k n [vR (some a0), vI a1] G (qI Q) noX :=
  call.enter (by decide +kernel) (la_1 c1R (la_1 c1I (la_nil rfl))) rfl (w_X1_waiting h)
abbrev m_X1_running : Mt := (yX1_running.cls, cX1_running, 3, some .int, [], yX1_running.name)
theorem yo_X1_running : yOK yX1_running 0 := ⟨by decide +kernel, by decide +kernel, by decide +kernel⟩
def f_X1_running_16_b (a0 : Nat) (k16 : Nat → Nat → Option Nat → Wd → Prop) (k n : Nat) (l1 : Option Nat) (G : Wd) (Q : Int → Wd → Prop) : Prop :=
  nn l1 (fun a25 => (isC G a25 16 ∧ f_J25_hasNext a25  G (fun x27 G26 => brB x27 ((isC G26 a25 16 ∧ f_J25_next a25  G26 (fun x30 G29 => cst G29 x30 [8] (nn x30 (fun a31 => gR G29 a31 [8] 0 (fun x32 => nn x32 (fun a33 => gI G29 a33 [7] 0 (fun x34 => gR G29 a31 [8] 0 (fun x35 => nn x35 (fun a36 => gI G29 a36 [7] 1 (fun x37 => gI G29 a31 [8] 2 (fun x38 => ok32 (((1000 * x34) + (10 * x37)) + x38) ((isC G29 a0 0 ∧ f_X1_tell a0 (((1000 * x34) + (10 * x37)) + x38) G29 (fun G39 => k16 k n (some a25) G39))))))))))))))) (gI G26 a0 [0] 9 (fun x28 => Q x28 G26)))))
theorem w_X1_running_16_b {a0 : Nat} {Q : Int → Wd → Prop} {k16 : Nat → Nat → Option Nat → Wd → Prop} (hk16 : ∀ {k n : Nat} {l1 : Option Nat} {G : Wd}, k16 k n l1 G → wp m_X1_running 6 k n 16 [some (vR (some a0)), some (vR l1), none] [] G (qI Q) noX) {k n : Nat} {l1 : Option Nat} {G : Wd} (h : f_X1_running_16_b a0 k16 k n l1 G Q) : wp m_X1_running 6 k n 16 [some (vR (some a0)), some (vR l1), none] [] G (qI Q) noX := by
  unfold f_X1_running_16_b at h
  refine r_aload_n dX1_running_16 rfl rfl iR ?_
  obtain ⟨a25, e, h⟩ := h
  refine wp.cast (L' := [some (vR (some a0)), some (vR (some a25)), none]) (st' := [vR (some a25)]) (by rw [e]) (by rw [e]) ?_
  obtain ⟨hC, h⟩ := h
  refine r_callF dX1_running_17 hC (c_J25_hasNext h) q1803 q1135 q1137 q127 q1139 q1117 q1116 q1138 q1136 q1134 rfl ⟨by decide +kernel, by decide +kernel, by decide +kernel⟩ rfl (by decide) (by decide) rfl rc0 (by decide) (Nat.zero_le _) (Nat.zero_le _) (ofB fun x27 G26 h => ?_) nox
  refine r_ifZ_eq (tgt := 70) dX1_running_22 (by decide) h (fun h => ?_) (fun h => ?_)
  · refine r_aload_n dX1_running_70 rfl rfl iR ?_
    refine r_getI dX1_running_71 (fg1 (f := 9) fX1 (by decide) q709 rfl) h (fun x28 h => ?_)
    exact r_iret rfl dX1_running_74 ⟨_, rfl, h⟩
  · refine r_aload_n dX1_running_25 rfl rfl iR ?_
    obtain ⟨hC, h⟩ := h
    refine r_callF dX1_running_26 hC (c_J25_next h) q1805 q1272 q1274 q127 q1276 q1143 q1142 q1275 q1273 q1134 rfl ⟨by decide +kernel, by decide +kernel, by decide +kernel⟩ rfl (by decide) (by decide) rfl rc0 (by decide) (Nat.zero_le _) (Nat.zero_le _) (ofR fun x30 G29 h => ?_) nox
    refine r_ccast (ci := 8) dX1_running_31 q1807 rfl h (fun h => ?_)
    refine r_astore_n (L' := [some (vR (some a0)), some (vR (some a25)), some (vR x30)]) dX1_running_34 rfl rfl iR cR (by decide) ?_
    refine r_aload_n dX1_running_35 rfl rfl iR ?_
    refine r_sipush dX1_running_36 (by decide) ?_
    refine r_aload_n dX1_running_39 rfl rfl iR ?_
    obtain ⟨a31, e, h⟩ := h
    refine wp.cast (L' := [some (vR (some a0)), some (vR (some a25)), some (vR (some a31))]) (st' := [vR (some a31), vI 1000, vR (some a0)]) (by rw [e]) (by rw [e]) ?_
    refine r_getR dX1_running_40 (fg1 (f := 0) fX9 (by decide) q1545 rfl) h (fun x32 h => ?_)
    obtain ⟨a33, e, h⟩ := h
    refine wp.cast (L' := [some (vR (some a0)), some (vR (some a25)), some (vR (some a31))]) (st' := [vR (some a33), vI 1000, vR (some a0)]) rfl (by rw [e]) ?_
    refine r_getI dX1_running_43 (fg1 (f := 0) fX8 (by decide) q1461 rfl) h (fun x34 h => ?_)
    refine r_imul dX1_running_46 ?_
    refine r_bipush dX1_running_47 (by decide) ?_
    refine r_aload_n dX1_running_49 rfl rfl iR ?_
    refine r_getR dX1_running_50 (fg1 (f := 0) fX9 (by decide) q1545 rfl) h (fun x35 h => ?_)
    obtain ⟨a36, e, h⟩ := h
    refine wp.cast (L' := [some (vR (some a0)), some (vR (some a25)), some (vR (some a31))]) (st' := [vR (some a36), vI 10, vI (1000 * x34), vR (some a0)]) rfl (by rw [e]) ?_
    refine r_getI dX1_running_53 (fg1 (f := 1) fX8 (by decide) q1465 rfl) h (fun x37 h => ?_)
    refine r_imul dX1_running_56 ?_
    refine r_iadd dX1_running_57 ?_
    refine r_aload_n dX1_running_58 rfl rfl iR ?_
    refine r_getI dX1_running_59 (fg1 (f := 2) fX9 (by decide) q1551 rfl) h (fun x38 h => ?_)
    refine r_iadd dX1_running_62 ?_
    refine r_i2l dX1_running_63 h (fun h => ?_)
    obtain ⟨hC, h⟩ := h
    refine r_callV dX1_running_64 hC (c_X1_tell h) q1761 q1763 qs27 q92 q1764 rfl yo_X1_tell rfl (by decide) (by decide) rfl rc0 (by decide) (Nat.zero_le _) (Nat.zero_le _) (ofV fun G39 h => ?_) nox
    refine r_goto (tgt := 16) dX1_running_67 (by decide) ?_
    refine wp.locals (L' := [some (vR (some a0)), some (vR (some a25)), none]) (ls_s (ls_s (ls_n ls_0))) ?_
    exact hk16 h
def f_X1_running_16 (a0 : Nat) (Q : Int → Wd → Prop) : Nat → Nat → Nat → Option Nat → Wd → Prop
  | 0, _, _, _, _ => False
  | fl + 1, k, n, l1, G => f_X1_running_16_b a0  (fun k n l1 G => f_X1_running_16 a0  Q fl k n l1 G) k n l1 G Q
theorem w_X1_running_16 {a0 : Nat} {Q : Int → Wd → Prop} : ∀ (fl : Nat) {k n : Nat} {l1 : Option Nat} {G : Wd}, f_X1_running_16 a0 Q fl k n l1 G → wp m_X1_running 6 k n 16 [some (vR (some a0)), some (vR l1), none] [] G (qI Q) noX := by
  intro fl
  induction fl with
  | zero => intro k n l1 G h; exact (show False from h).elim
  | succ fl ih => intro k n l1 G h; exact w_X1_running_16_b  (fun h => ih h) h
def f_X1_running (k n : Nat) (a0 : Nat) (G : Wd) (Q : Int → Wd → Prop) : Prop :=
  pF G a0 [0] 9 (vI 0) (fun G40 => gR G40 a0 [0] 0 (fun x41 => nn x41 (fun a42 => gR G40 a42 [1] 1 (fun x43 => nn x43 (fun a44 => (∃ k46 n47, (k46 ≤ k ∧ n47 ≤ n) ∧ (isC G40 a44 12 ∧ f_J2_iterator k46 n47 a44  G40 (fun x48 G45 => ∃ fl49, f_X1_running_16 a0 Q fl49 (k - k46) (n - n47) x48 G45))))))))
theorem w_X1_running {a0 : Nat} {Q : Int → Wd → Prop} {k n : Nat} {G : Wd} (h : f_X1_running k n a0 G Q) : wp m_X1_running 6 k n 0 [some (vR (some a0)), none, none] [] G (qI Q) noX := by
  unfold f_X1_running at h
  refine r_aload_n dX1_running_0 rfl rfl iR ?_
  refine r_iconst dX1_running_1 ?_
  refine r_put dX1_running_2 (fp1 (f := 9) fX1 (by decide) q709 rfl rfl rfl) fvI h (fun G40 h => ?_)
  refine r_aload_n dX1_running_5 rfl rfl iR ?_
  refine r_getR dX1_running_6 (fg1 (f := 0) fX1 (by decide) q700 rfl) h (fun x41 h => ?_)
  obtain ⟨a42, e, h⟩ := h
  refine wp.cast (L' := [some (vR (some a0)), none, none]) (st' := [vR (some a42)]) rfl (by rw [e]) ?_
  refine r_getR dX1_running_9 (fg1 (f := 1) fX2 (by decide) q639 rfl) h (fun x43 h => ?_)
  obtain ⟨a44, e, h⟩ := h
  refine wp.cast (L' := [some (vR (some a0)), none, none]) (st' := [vR (some a44)]) rfl (by rw [e]) ?_
  obtain ⟨k46, n47, ⟨hk1, hn1⟩, h⟩ := h
  obtain ⟨hC, h⟩ := h
  refine r_callU dX1_running_12 hC (c_J2_iterator h) q1806 q1341 q1343 q1344 q96 q1345 rfl rfl yo_J2_iterator rfl (by decide) (by decide) rfl rc0 (by decide) hk1 hn1 (ofR fun x48 G45 h => ?_) nox
  refine r_astore_n (L' := [some (vR (some a0)), some (vR x48), none]) dX1_running_15 rfl rfl iR cR (by decide) ?_
  obtain ⟨fl49, h⟩ := h
  exact w_X1_running_16 fl49 h
theorem c_X1_running {a0 : Nat} {k n : Nat} {Q : Int → Wd → Prop} {G : Wd} (h : f_X1_running k n a0 G Q) : call yX1_running (Cond.code yX1_running cX1_running 3 (some .int)) 6 k n [vR (some a0)] G (qI Q) noX :=
  call.enter (by decide +kernel) (la_1 c1R (la_nil rfl)) rfl (w_X1_running h)
abbrev m_X1_outbox : Mt := (yX1_outbox.cls, cX1_outbox, 3, some .int, [], yX1_outbox.name)
theorem yo_X1_outbox : yOK yX1_outbox 0 := ⟨by decide +kernel, by decide +kernel, by decide +kernel⟩
def f_X1_outbox_70 (a0 : Nat) (k16 : Nat → Nat → Option Nat → Wd → Prop) (k n : Nat) (l1 : Option Nat) (G : Wd) (Q : Int → Wd → Prop) : Prop :=
  k16 k n l1 G
theorem w_X1_outbox_70 {a0 : Nat} {Q : Int → Wd → Prop} {k16 : Nat → Nat → Option Nat → Wd → Prop} (hk16 : ∀ {k n : Nat} {l1 : Option Nat} {G : Wd}, k16 k n l1 G → wp m_X1_outbox 6 k n 16 [some (vR (some a0)), some (vR l1), none] [] G (qI Q) noX) {k n : Nat} {l1 : Option Nat} {G : Wd} (h : f_X1_outbox_70 a0 k16 k n l1 G Q) : wp m_X1_outbox 6 k n 70 [some (vR (some a0)), some (vR l1), none] [] G (qI Q) noX := by
  unfold f_X1_outbox_70 at h
  refine r_goto (tgt := 16) dX1_outbox_70 (by decide) ?_
  exact hk16 h
def f_X1_outbox_16_b (a0 : Nat) (k16 : Nat → Nat → Option Nat → Wd → Prop) (k n : Nat) (l1 : Option Nat) (G : Wd) (Q : Int → Wd → Prop) : Prop :=
  nn l1 (fun a27 => (isC G a27 16 ∧ f_J25_hasNext a27  G (fun x29 G28 => brB x29 ((isC G28 a27 16 ∧ f_J25_next a27  G28 (fun x37 G36 => cst G36 x37 [9] (gI G36 a0 [0] 9 (fun x38 => br x38 12 ((12 : Int) ≤ x38) (f_X1_outbox_70 a0 k16 k n (some a27) G36 Q) (nn x37 (fun a39 => gI G36 a39 [9] 0 (fun x40 => gI G36 a39 [9] 1 (fun x41 => gI G36 a39 [9] 2 (fun x42 => ok32 (((1000 * x40) + (10 * x41)) + x42) ((isC G36 a0 0 ∧ f_X1_tell a0 (((1000 * x40) + (10 * x41)) + x42) G36 (fun G43 => f_X1_outbox_70 a0 k16 k n (some a27) G43 Q))))))))))))) (gR G28 a0 [0] 0 (fun x30 => nn x30 (fun a31 => gR G28 a31 [1] 2 (fun x32 => nn x32 (fun a33 => (isC G28 a33 12 ∧ f_J3_size a33  G28 (fun x35 G34 => Q x35 G34))))))))))
theorem w_X1_outbox_16_b {a0 : Nat} {Q : Int → Wd → Prop} {k16 : Nat → Nat → Option Nat → Wd → Prop} (hk16 : ∀ {k n : Nat} {l1 : Option Nat} {G : Wd}, k16 k n l1 G → wp m_X1_outbox 6 k n 16 [some (vR (some a0)), some (vR l1), none] [] G (qI Q) noX) {k n : Nat} {l1 : Option Nat} {G : Wd} (h : f_X1_outbox_16_b a0 k16 k n l1 G Q) : wp m_X1_outbox 6 k n 16 [some (vR (some a0)), some (vR l1), none] [] G (qI Q) noX := by
  unfold f_X1_outbox_16_b at h
  refine r_aload_n dX1_outbox_16 rfl rfl iR ?_
  obtain ⟨a27, e, h⟩ := h
  refine wp.cast (L' := [some (vR (some a0)), some (vR (some a27)), none]) (st' := [vR (some a27)]) (by rw [e]) (by rw [e]) ?_
  obtain ⟨hC, h⟩ := h
  refine r_callF dX1_outbox_17 hC (c_J25_hasNext h) q1803 q1135 q1137 q127 q1139 q1117 q1116 q1138 q1136 q1134 rfl ⟨by decide +kernel, by decide +kernel, by decide +kernel⟩ rfl (by decide) (by decide) rfl rc0 (by decide) (Nat.zero_le _) (Nat.zero_le _) (ofB fun x29 G28 h => ?_) nox
  refine r_ifZ_eq (tgt := 73) dX1_outbox_22 (by decide) h (fun h => ?_) (fun h => ?_)
  · refine r_aload_n dX1_outbox_73 rfl rfl iR ?_
    refine r_getR dX1_outbox_74 (fg1 (f := 0) fX1 (by decide) q700 rfl) h (fun x30 h => ?_)
    obtain ⟨a31, e, h⟩ := h
    refine wp.cast (L' := [some (vR (some a0)), some (vR (some a27)), none]) (st' := [vR (some a31)]) rfl (by rw [e]) ?_
    refine r_getR dX1_outbox_77 (fg1 (f := 2) fX2 (by decide) q641 rfl) h (fun x32 h => ?_)
    obtain ⟨a33, e, h⟩ := h
    refine wp.cast (L' := [some (vR (some a0)), some (vR (some a27)), none]) (st' := [vR (some a33)]) rfl (by rw [e]) ?_
    obtain ⟨hC, h⟩ := h
    refine r_callV dX1_outbox_80 hC (c_J3_size h) q1841 q1015 q1016 q97 q1017 rfl yo_J3_size rfl (by decide) (by decide) rfl rc0 (by decide) (Nat.zero_le _) (Nat.zero_le _) (ofI fun x35 G34 h => ?_) nox
    exact r_iret rfl dX1_outbox_83 ⟨_, rfl, h⟩
  · refine r_aload_n dX1_outbox_25 rfl rfl iR ?_
    obtain ⟨hC, h⟩ := h
    refine r_callF dX1_outbox_26 hC (c_J25_next h) q1805 q1272 q1274 q127 q1276 q1143 q1142 q1275 q1273 q1134 rfl ⟨by decide +kernel, by decide +kernel, by decide +kernel⟩ rfl (by decide) (by decide) rfl rc0 (by decide) (Nat.zero_le _) (Nat.zero_le _) (ofR fun x37 G36 h => ?_) nox
    refine r_ccast (ci := 9) dX1_outbox_31 q1825 rfl h (fun h => ?_)
    refine r_astore_n (L' := [some (vR (some a0)), some (vR (some a27)), some (vR x37)]) dX1_outbox_34 rfl rfl iR cR (by decide) ?_
    refine r_aload_n dX1_outbox_35 rfl rfl iR ?_
    refine r_getI dX1_outbox_36 (fg1 (f := 9) fX1 (by decide) q709 rfl) h (fun x38 h => ?_)
    refine r_bipush dX1_outbox_39 (by decide) ?_
    refine r_icmp_ge (tgt := 70) dX1_outbox_41 (by decide) h (fun h => ?_) (fun h => ?_)
    · refine wp.locals (L' := [some (vR (some a0)), some (vR (some a27)), none]) (ls_s (ls_s (ls_n ls_0))) ?_
      exact w_X1_outbox_70 hk16 h
    · refine r_aload_n dX1_outbox_44 rfl rfl iR ?_
      refine r_sipush dX1_outbox_45 (by decide) ?_
      refine r_aload_n dX1_outbox_48 rfl rfl iR ?_
      obtain ⟨a39, e, h⟩ := h
      refine wp.cast (L' := [some (vR (some a0)), some (vR (some a27)), some (vR (some a39))]) (st' := [vR (some a39), vI 1000, vR (some a0)]) (by rw [e]) (by rw [e]) ?_
      refine r_getI dX1_outbox_49 (fg1 (f := 0) fX10 (by decide) q1574 rfl) h (fun x40 h => ?_)
      refine r_imul dX1_outbox_52 ?_
      refine r_bipush dX1_outbox_53 (by decide) ?_
      refine r_aload_n dX1_outbox_55 rfl rfl iR ?_
      refine r_getI dX1_outbox_56 (fg1 (f := 1) fX10 (by decide) q1577 rfl) h (fun x41 h => ?_)
      refine r_imul dX1_outbox_59 ?_
      refine r_iadd dX1_outbox_60 ?_
      refine r_aload_n dX1_outbox_61 rfl rfl iR ?_
      refine r_getI dX1_outbox_62 (fg1 (f := 2) fX10 (by decide) q1579 rfl) h (fun x42 h => ?_)
      refine r_iadd dX1_outbox_65 ?_
      refine r_i2l dX1_outbox_66 h (fun h => ?_)
      obtain ⟨hC, h⟩ := h
      refine r_callV dX1_outbox_67 hC (c_X1_tell h) q1761 q1763 qs27 q92 q1764 rfl yo_X1_tell rfl (by decide) (by decide) rfl rc0 (by decide) (Nat.zero_le _) (Nat.zero_le _) (ofV fun G43 h => ?_) nox
      refine wp.locals (L' := [some (vR (some a0)), some (vR (some a27)), none]) (ls_s (ls_s (ls_n ls_0))) ?_
      exact w_X1_outbox_70 hk16 h
def f_X1_outbox_16 (a0 : Nat) (Q : Int → Wd → Prop) : Nat → Nat → Nat → Option Nat → Wd → Prop
  | 0, _, _, _, _ => False
  | fl + 1, k, n, l1, G => f_X1_outbox_16_b a0  (fun k n l1 G => f_X1_outbox_16 a0  Q fl k n l1 G) k n l1 G Q
theorem w_X1_outbox_16 {a0 : Nat} {Q : Int → Wd → Prop} : ∀ (fl : Nat) {k n : Nat} {l1 : Option Nat} {G : Wd}, f_X1_outbox_16 a0 Q fl k n l1 G → wp m_X1_outbox 6 k n 16 [some (vR (some a0)), some (vR l1), none] [] G (qI Q) noX := by
  intro fl
  induction fl with
  | zero => intro k n l1 G h; exact (show False from h).elim
  | succ fl ih => intro k n l1 G h; exact w_X1_outbox_16_b  (fun h => ih h) h
def f_X1_outbox (k n : Nat) (a0 : Nat) (G : Wd) (Q : Int → Wd → Prop) : Prop :=
  pF G a0 [0] 9 (vI 0) (fun G44 => gR G44 a0 [0] 0 (fun x45 => nn x45 (fun a46 => gR G44 a46 [1] 2 (fun x47 => nn x47 (fun a48 => (∃ k50 n51, (k50 ≤ k ∧ n51 ≤ n) ∧ (isC G44 a48 12 ∧ f_J2_iterator k50 n51 a48  G44 (fun x52 G49 => ∃ fl53, f_X1_outbox_16 a0 Q fl53 (k - k50) (n - n51) x52 G49))))))))
theorem w_X1_outbox {a0 : Nat} {Q : Int → Wd → Prop} {k n : Nat} {G : Wd} (h : f_X1_outbox k n a0 G Q) : wp m_X1_outbox 6 k n 0 [some (vR (some a0)), none, none] [] G (qI Q) noX := by
  unfold f_X1_outbox at h
  refine r_aload_n dX1_outbox_0 rfl rfl iR ?_
  refine r_iconst dX1_outbox_1 ?_
  refine r_put dX1_outbox_2 (fp1 (f := 9) fX1 (by decide) q709 rfl rfl rfl) fvI h (fun G44 h => ?_)
  refine r_aload_n dX1_outbox_5 rfl rfl iR ?_
  refine r_getR dX1_outbox_6 (fg1 (f := 0) fX1 (by decide) q700 rfl) h (fun x45 h => ?_)
  obtain ⟨a46, e, h⟩ := h
  refine wp.cast (L' := [some (vR (some a0)), none, none]) (st' := [vR (some a46)]) rfl (by rw [e]) ?_
  refine r_getR dX1_outbox_9 (fg1 (f := 2) fX2 (by decide) q641 rfl) h (fun x47 h => ?_)
  obtain ⟨a48, e, h⟩ := h
  refine wp.cast (L' := [some (vR (some a0)), none, none]) (st' := [vR (some a48)]) rfl (by rw [e]) ?_
  obtain ⟨k50, n51, ⟨hk1, hn1⟩, h⟩ := h
  obtain ⟨hC, h⟩ := h
  refine r_callU dX1_outbox_12 hC (c_J2_iterator h) q1806 q1341 q1343 q1344 q96 q1345 rfl rfl yo_J2_iterator rfl (by decide) (by decide) rfl rc0 (by decide) hk1 hn1 (ofR fun x52 G49 h => ?_) nox
  refine r_astore_n (L' := [some (vR (some a0)), some (vR x52), none]) dX1_outbox_15 rfl rfl iR cR (by decide) ?_
  obtain ⟨fl53, h⟩ := h
  exact w_X1_outbox_16 fl53 h
theorem c_X1_outbox {a0 : Nat} {k n : Nat} {Q : Int → Wd → Prop} {G : Wd} (h : f_X1_outbox k n a0 G Q) : call yX1_outbox (Cond.code yX1_outbox cX1_outbox 3 (some .int)) 6 k n [vR (some a0)] G (qI Q) noX :=
  call.enter (by decide +kernel) (la_1 c1R (la_nil rfl)) rfl (w_X1_outbox h)
abbrev m_X1_postOf : Mt := (yX1_postOf.cls, cX1_postOf, 4, some (.object "QueueDrive$Post"), [], yX1_postOf.name)
theorem yo_X1_postOf : yOK yX1_postOf 2 := ⟨by decide +kernel, by decide +kernel, by decide +kernel⟩
def f_X1_postOf_8_b (k8 : Nat → Nat → Int → Option Nat → Wd → Prop) (k n : Nat) (l1 : Int) (l2 : Option Nat) (G : Wd) (Q : Option Nat → Wd → Prop) : Prop :=
  nn l2 (fun a17 => (isC G a17 15 ∧ f_J23_hasNext a17  G (fun x19 G18 => brB x19 ((isC G18 a17 15 ∧ f_J23_next a17  G18 (fun x21 G20 => cst G20 x21 [10] (nn x21 (fun a22 => gR G20 a22 [10] 0 (fun x23 => nn x23 (fun a24 => gI G20 a24 [9] 1 (fun x25 => br x25 l1 (¬ x25 = l1) (k8 k n l1 (some a17) G20) (Q (some a22) G20))))))))) (Q none G18))))
theorem w_X1_postOf_8_b {Q : Option Nat → Wd → Prop} {k8 : Nat → Nat → Int → Option Nat → Wd → Prop} (hk8 : ∀ {k n : Nat} {l1 : Int} {l2 : Option Nat} {G : Wd}, k8 k n l1 l2 G → wp m_X1_postOf 5 k n 8 [none, some (vI l1), some (vR l2), none] [] G (qR Q) noX) {k n : Nat} {l1 : Int} {l2 : Option Nat} {G : Wd} (h : f_X1_postOf_8_b k8 k n l1 l2 G Q) : wp m_X1_postOf 5 k n 8 [none, some (vI l1), some (vR l2), none] [] G (qR Q) noX := by
  unfold f_X1_postOf_8_b at h
  refine r_aload_n dX1_postOf_8 rfl rfl iR ?_
  obtain ⟨a17, e, h⟩ := h
  refine wp.cast (L' := [none, some (vI l1), some (vR (some a17)), none]) (st' := [vR (some a17)]) (by rw [e]) (by rw [e]) ?_
  obtain ⟨hC, h⟩ := h
  refine r_callF dX1_postOf_9 hC (c_J23_hasNext h) q1803 q1129 q1131 q124 q1133 q1117 q1116 q1132 q1130 q1128 rfl ⟨by decide +kernel, by decide +kernel, by decide +kernel⟩ rfl (by decide) (by decide) rfl rc0 (by decide) (Nat.zero_le _) (Nat.zero_le _) (ofB fun x19 G18 h => ?_) nox
  refine r_ifZ_eq (tgt := 43) dX1_postOf_14 (by decide) h (fun h => ?_) (fun h => ?_)
  · refine r_null dX1_postOf_43 ?_
    exact r_aret rtO dX1_postOf_44 ⟨_, rfl, h⟩
  · refine r_aload_n dX1_postOf_17 rfl rfl iR ?_
    obtain ⟨hC, h⟩ := h
    refine r_callF dX1_postOf_18 hC (c_J23_next h) q1805 q1256 q1258 q124 q1260 q1143 q1142 q1259 q1257 q1128 rfl ⟨by decide +kernel, by decide +kernel, by decide +kernel⟩ rfl (by decide) (by decide) rfl rc0 (by decide) (Nat.zero_le _) (Nat.zero_le _) (ofR fun x21 G20 h => ?_) nox
    refine r_ccast (ci := 10) dX1_postOf_23 q1987 rfl h (fun h => ?_)
    refine r_astore_n (L' := [none, some (vI l1), some (vR (some a17)), some (vR x21)]) dX1_postOf_26 rfl rfl iR cR (by decide) ?_
    refine r_aload_n dX1_postOf_27 rfl rfl iR ?_
    obtain ⟨a22, e, h⟩ := h
    refine wp.cast (L' := [none, some (vI l1), some (vR (some a17)), some (vR (some a22))]) (st' := [vR (some a22)]) (by rw [e]) (by rw [e]) ?_
    refine r_getR dX1_postOf_28 (fg1 (f := 0) fX11 (by decide) q1614 rfl) h (fun x23 h => ?_)
    obtain ⟨a24, e, h⟩ := h
    refine wp.cast (L' := [none, some (vI l1), some (vR (some a17)), some (vR (some a22))]) (st' := [vR (some a24)]) rfl (by rw [e]) ?_
    refine r_getI dX1_postOf_31 (fg1 (f := 1) fX10 (by decide) q1577 rfl) h (fun x25 h => ?_)
    refine r_iload_n dX1_postOf_34 rfl rfl iI ?_
    refine r_icmp_ne (tgt := 40) dX1_postOf_35 (by decide) h (fun h => ?_) (fun h => ?_)
    · refine r_goto (tgt := 8) dX1_postOf_40 (by decide) ?_
      refine wp.locals (L' := [none, some (vI l1), some (vR (some a17)), none]) (ls_n (ls_s (ls_s (ls_n ls_0)))) ?_
      exact hk8 h
    · refine r_aload_n dX1_postOf_38 rfl rfl iR ?_
      exact r_aret rtO dX1_postOf_39 ⟨_, rfl, h⟩
def f_X1_postOf_8 (Q : Option Nat → Wd → Prop) : Nat → Nat → Nat → Int → Option Nat → Wd → Prop
  | 0, _, _, _, _, _ => False
  | fl + 1, k, n, l1, l2, G => f_X1_postOf_8_b  (fun k n l1 l2 G => f_X1_postOf_8  Q fl k n l1 l2 G) k n l1 l2 G Q
theorem w_X1_postOf_8 {Q : Option Nat → Wd → Prop} : ∀ (fl : Nat) {k n : Nat} {l1 : Int} {l2 : Option Nat} {G : Wd}, f_X1_postOf_8 Q fl k n l1 l2 G → wp m_X1_postOf 5 k n 8 [none, some (vI l1), some (vR l2), none] [] G (qR Q) noX := by
  intro fl
  induction fl with
  | zero => intro k n l1 l2 G h; exact (show False from h).elim
  | succ fl ih => intro k n l1 l2 G h; exact w_X1_postOf_8_b  (fun h => ih h) h
def f_X1_postOf (k n : Nat) (a0 : Option Nat) (a1 : Int) (G : Wd) (Q : Option Nat → Wd → Prop) : Prop :=
  nn a0 (fun a26 => gR G a26 [2] 2 (fun x27 => nn x27 (fun a28 => (∃ k30 n31, (k30 ≤ k ∧ n31 ≤ n) ∧ (isC G a28 13 ∧ f_J4_iterator k30 n31 a28  G (fun x32 G29 => ∃ fl33, f_X1_postOf_8 Q fl33 (k - k30) (n - n31) a1 x32 G29))))))
theorem w_X1_postOf {Q : Option Nat → Wd → Prop} {k n : Nat} {a0 : Option Nat} {a1 : Int} {G : Wd} (h : f_X1_postOf k n a0 a1 G Q) : wp m_X1_postOf 5 k n 0 [some (vR a0), some (vI a1), none, none] [] G (qR Q) noX := by
  unfold f_X1_postOf at h
  refine r_aload_n dX1_postOf_0 rfl rfl iR ?_
  obtain ⟨a26, e, h⟩ := h
  refine wp.cast (L' := [some (vR (some a26)), some (vI a1), none, none]) (st' := [vR (some a26)]) (by rw [e]) (by rw [e]) ?_
  refine r_getR dX1_postOf_1 (fg1 (f := 2) fX3 (by decide) q560 rfl) h (fun x27 h => ?_)
  obtain ⟨a28, e, h⟩ := h
  refine wp.cast (L' := [some (vR (some a26)), some (vI a1), none, none]) (st' := [vR (some a28)]) rfl (by rw [e]) ?_
  obtain ⟨k30, n31, ⟨hk1, hn1⟩, h⟩ := h
  obtain ⟨hC, h⟩ := h
  refine r_callV dX1_postOf_4 hC (c_J4_iterator h) q1801 q1085 q1086 q99 q1087 rfl yo_J4_iterator rfl (by decide) (by decide) rfl rc0 (by decide) hk1 hn1 (ofR fun x32 G29 h => ?_) nox
  refine r_astore_n (L' := [some (vR (some a26)), some (vI a1), some (vR x32), none]) dX1_postOf_7 rfl rfl iR cI (by decide) ?_
  refine wp.locals (L' := [none, some (vI a1), some (vR x32), none]) (ls_n (ls_s (ls_s (ls_n ls_0)))) ?_
  obtain ⟨fl33, h⟩ := h
  exact w_X1_postOf_8 fl33 h
theorem c_X1_postOf {a0 : Option Nat} {a1 : Int} {k n : Nat} {Q : Option Nat → Wd → Prop} {G : Wd} (h : f_X1_postOf k n a0 a1 G Q) : call yX1_postOf (Cond.code yX1_postOf cX1_postOf 4 (some (.object "QueueDrive$Post"))) 5 k n [vR a0, vI a1] G (qR Q) noX :=
  call.enter (by decide +kernel) (la_1 c1R (la_1 c1I (la_nil rfl))) rfl (w_X1_postOf h)
abbrev m_X1_bells : Mt := (yX1_bells.cls, cX1_bells, 1, some .int, [], yX1_bells.name)
theorem yo_X1_bells : yOK yX1_bells 0 := ⟨by decide +kernel, by decide +kernel, by decide +kernel⟩
def f_X1_bells (a0 : Nat) (G : Wd) (Q : Int → Wd → Prop) : Prop :=
  pF G a0 [0] 9 (vI 0) (fun G9 => gR G9 a0 [0] 0 (fun x10 => nn x10 (fun a11 => gI G9 a11 [1] 12 (fun x12 => ok32 x12 ((isC G9 a0 0 ∧ f_X1_tell a0 x12 G9 (fun G13 => gR G13 a0 [0] 0 (fun x14 => nn x14 (fun a15 => gI G13 a15 [1] 11 (fun x16 => Q x16 G13))))))))))
theorem w_X1_bells {a0 : Nat} {Q : Int → Wd → Prop} {G : Wd} (h : f_X1_bells a0 G Q) : wp m_X1_bells 2 0 0 0 [some (vR (some a0))] [] G (qI Q) noX := by
  unfold f_X1_bells at h
  refine r_aload_n dX1_bells_0 rfl rfl iR ?_
  refine r_iconst dX1_bells_1 ?_
  refine r_put dX1_bells_2 (fp1 (f := 9) fX1 (by decide) q709 rfl rfl rfl) fvI h (fun G9 h => ?_)
  refine r_aload_n dX1_bells_5 rfl rfl iR ?_
  refine r_aload_n dX1_bells_6 rfl rfl iR ?_
  refine r_getR dX1_bells_7 (fg1 (f := 0) fX1 (by decide) q700 rfl) h (fun x10 h => ?_)
  obtain ⟨a11, e, h⟩ := h
  refine wp.cast (L' := [some (vR (some a0))]) (st' := [vR (some a11), vR (some a0)]) rfl (by rw [e]) ?_
  refine r_getI dX1_bells_10 (fg1 (f := 12) fX2 (by decide) q661 rfl) h (fun x12 h => ?_)
  refine r_i2l dX1_bells_13 h (fun h => ?_)
  obtain ⟨hC, h⟩ := h
  refine r_callV dX1_bells_14 hC (c_X1_tell h) q1761 q1763 qs27 q92 q1764 rfl yo_X1_tell rfl (by decide) (by decide) rfl rc0 (by decide) (Nat.zero_le _) (Nat.zero_le _) (ofV fun G13 h => ?_) nox
  refine r_aload_n dX1_bells_17 rfl rfl iR ?_
  refine r_getR dX1_bells_18 (fg1 (f := 0) fX1 (by decide) q700 rfl) h (fun x14 h => ?_)
  obtain ⟨a15, e, h⟩ := h
  refine wp.cast (L' := [some (vR (some a0))]) (st' := [vR (some a15)]) rfl (by rw [e]) ?_
  refine r_getI dX1_bells_21 (fg1 (f := 11) fX2 (by decide) q659 rfl) h (fun x16 h => ?_)
  exact r_iret rfl dX1_bells_24 ⟨_, rfl, h⟩
theorem c_X1_bells {a0 : Nat} {Q : Int → Wd → Prop} {G : Wd} (h : f_X1_bells a0 G Q) : call yX1_bells (Cond.code yX1_bells cX1_bells 1 (some .int)) 2 0 0 [vR (some a0)] G (qI Q) noX :=
  call.enter (by decide +kernel) (la_1 c1R (la_nil rfl)) rfl (w_X1_bells h)
abbrev m_X1_served : Mt := (yX1_served.cls, cX1_served, 3, some .int, [], yX1_served.name)
theorem yo_X1_served : yOK yX1_served 0 := ⟨by decide +kernel, by decide +kernel, by decide +kernel⟩
def f_X1_served_9_b (a0 : Nat) (k9 : Int → Int → Wd → Prop) (l1 : Int) (l2 : Int) (G : Wd) (Q : Int → Wd → Prop) : Prop :=
  br l2 4 ((4 : Int) ≤ l2) (gR G a0 [0] 0 (fun x36 => nn x36 (fun a37 => gR G a37 [1] 7 (fun x38 => nn x38 (fun a39 => ldI G a39 0 0 (fun x40 => ok32 x40 ((isC G a0 0 ∧ f_X1_tell a0 x40 G (fun G41 => Q l1 G41))))))))) (gR G a0 [0] 0 (fun x42 => nn x42 (fun a43 => gR G a43 [1] 7 (fun x44 => nn x44 (fun a45 => ldI G a45 0 l2 (fun x46 => ok32 x46 ((isC G a0 0 ∧ f_X1_tell a0 x46 G (fun G47 => gR G47 a0 [0] 0 (fun x48 => nn x48 (fun a49 => gR G47 a49 [1] 7 (fun x50 => nn x50 (fun a51 => ldI G47 a51 0 l2 (fun x52 => k9 (l1 + x52) (l2 + 1) G47))))))))))))))
theorem w_X1_served_9_b {a0 : Nat} {Q : Int → Wd → Prop} {k9 : Int → Int → Wd → Prop} (hk9 : ∀ {l1 : Int} {l2 : Int} {G : Wd}, k9 l1 l2 G → wp m_X1_served 2 0 0 9 [some (vR (some a0)), some (vI l1), some (vI l2)] [] G (qI Q) noX) {l1 : Int} {l2 : Int} {G : Wd} (h : f_X1_served_9_b a0 k9 l1 l2 G Q) : wp m_X1_served 2 0 0 9 [some (vR (some a0)), some (vI l1), some (vI l2)] [] G (qI Q) noX := by
  unfold f_X1_served_9_b at h
  refine r_iload_n dX1_served_9 rfl rfl iI ?_
  refine r_iconst dX1_served_10 ?_
  refine r_icmp_ge (tgt := 46) dX1_served_11 (by decide) h (fun h => ?_) (fun h => ?_)
  · refine r_aload_n dX1_served_46 rfl rfl iR ?_
    refine r_aload_n dX1_served_47 rfl rfl iR ?_
    refine r_getR dX1_served_48 (fg1 (f := 0) fX1 (by decide) q700 rfl) h (fun x36 h => ?_)
    obtain ⟨a37, e, h⟩ := h
    refine wp.cast (L' := [some (vR (some a0)), some (vI l1), some (vI l2)]) (st' := [vR (some a37), vR (some a0)]) rfl (by rw [e]) ?_
    refine r_getR dX1_served_51 (fg1 (f := 7) fX2 (by decide) q650 rfl) h (fun x38 h => ?_)
    refine r_iconst dX1_served_54 ?_
    obtain ⟨a39, e, h⟩ := h
    refine wp.cast (L' := [some (vR (some a0)), some (vI l1), some (vI l2)]) (st' := [vI 0, vR (some a39), vR (some a0)]) rfl (by rw [e]) ?_
    refine r_iald dX1_served_55 h (fun x40 h => ?_)
    refine r_i2l dX1_served_56 h (fun h => ?_)
    obtain ⟨hC, h⟩ := h
    refine r_callV dX1_served_57 hC (c_X1_tell h) q1761 q1763 qs27 q92 q1764 rfl yo_X1_tell rfl (by decide) (by decide) rfl rc0 (by decide) (Nat.zero_le _) (Nat.zero_le _) (ofV fun G41 h => ?_) nox
    refine r_iload_n dX1_served_60 rfl rfl iI ?_
    exact r_iret rfl dX1_served_61 ⟨_, rfl, h⟩
  · refine r_aload_n dX1_served_14 rfl rfl iR ?_
    refine r_aload_n dX1_served_15 rfl rfl iR ?_
    refine r_getR dX1_served_16 (fg1 (f := 0) fX1 (by decide) q700 rfl) h (fun x42 h => ?_)
    obtain ⟨a43, e, h⟩ := h
    refine wp.cast (L' := [some (vR (some a0)), some (vI l1), some (vI l2)]) (st' := [vR (some a43), vR (some a0)]) rfl (by rw [e]) ?_
    refine r_getR dX1_served_19 (fg1 (f := 7) fX2 (by decide) q650 rfl) h (fun x44 h => ?_)
    refine r_iload_n dX1_served_22 rfl rfl iI ?_
    obtain ⟨a45, e, h⟩ := h
    refine wp.cast (L' := [some (vR (some a0)), some (vI l1), some (vI l2)]) (st' := [vI l2, vR (some a45), vR (some a0)]) rfl (by rw [e]) ?_
    refine r_iald dX1_served_23 h (fun x46 h => ?_)
    refine r_i2l dX1_served_24 h (fun h => ?_)
    obtain ⟨hC, h⟩ := h
    refine r_callV dX1_served_25 hC (c_X1_tell h) q1761 q1763 qs27 q92 q1764 rfl yo_X1_tell rfl (by decide) (by decide) rfl rc0 (by decide) (Nat.zero_le _) (Nat.zero_le _) (ofV fun G47 h => ?_) nox
    refine r_iload_n dX1_served_28 rfl rfl iI ?_
    refine r_aload_n dX1_served_29 rfl rfl iR ?_
    refine r_getR dX1_served_30 (fg1 (f := 0) fX1 (by decide) q700 rfl) h (fun x48 h => ?_)
    obtain ⟨a49, e, h⟩ := h
    refine wp.cast (L' := [some (vR (some a0)), some (vI l1), some (vI l2)]) (st' := [vR (some a49), vI l1]) rfl (by rw [e]) ?_
    refine r_getR dX1_served_33 (fg1 (f := 7) fX2 (by decide) q650 rfl) h (fun x50 h => ?_)
    refine r_iload_n dX1_served_36 rfl rfl iI ?_
    obtain ⟨a51, e, h⟩ := h
    refine wp.cast (L' := [some (vR (some a0)), some (vI l1), some (vI l2)]) (st' := [vI l2, vR (some a51), vI l1]) rfl (by rw [e]) ?_
    refine r_iald dX1_served_37 h (fun x52 h => ?_)
    refine r_iadd dX1_served_38 ?_
    refine r_istore_n (L' := [some (vR (some a0)), some (vI (l1 + x52)), some (vI l2)]) dX1_served_39 rfl rfl iI cR (by decide) ?_
    refine r_iinc (L' := [some (vR (some a0)), some (vI (l1 + x52)), some (vI (l2 + 1))]) dX1_served_40 rfl rfl cI (by decide) ?_
    refine r_goto (tgt := 9) dX1_served_43 (by decide) ?_
    exact hk9 h
def f_X1_served_9 (a0 : Nat) (Q : Int → Wd → Prop) : Nat → Int → Int → Wd → Prop
  | 0, _, _, _ => False
  | fl + 1, l1, l2, G => f_X1_served_9_b a0  (fun l1 l2 G => f_X1_served_9 a0  Q fl l1 l2 G) l1 l2 G Q
theorem w_X1_served_9 {a0 : Nat} {Q : Int → Wd → Prop} : ∀ (fl : Nat) {l1 : Int} {l2 : Int} {G : Wd}, f_X1_served_9 a0 Q fl l1 l2 G → wp m_X1_served 2 0 0 9 [some (vR (some a0)), some (vI l1), some (vI l2)] [] G (qI Q) noX := by
  intro fl
  induction fl with
  | zero => intro l1 l2 G h; exact (show False from h).elim
  | succ fl ih => intro l1 l2 G h; exact w_X1_served_9_b  (fun h => ih h) h
def f_X1_served (a0 : Nat) (G : Wd) (Q : Int → Wd → Prop) : Prop :=
  pF G a0 [0] 9 (vI 0) (fun G53 => ∃ fl54, f_X1_served_9 a0 Q fl54 0 1 G53)
theorem w_X1_served {a0 : Nat} {Q : Int → Wd → Prop} {G : Wd} (h : f_X1_served a0 G Q) : wp m_X1_served 2 0 0 0 [some (vR (some a0)), none, none] [] G (qI Q) noX := by
  unfold f_X1_served at h
  refine r_aload_n dX1_served_0 rfl rfl iR ?_
  refine r_iconst dX1_served_1 ?_
  refine r_put dX1_served_2 (fp1 (f := 9) fX1 (by decide) q709 rfl rfl rfl) fvI h (fun G53 h => ?_)
  refine r_iconst dX1_served_5 ?_
  refine r_istore_n (L' := [some (vR (some a0)), some (vI 0), none]) dX1_served_6 rfl rfl iI cR (by decide) ?_
  refine r_iconst dX1_served_7 ?_
  refine r_istore_n (L' := [some (vR (some a0)), some (vI 0), some (vI 1)]) dX1_served_8 rfl rfl iI cI (by decide) ?_
  obtain ⟨fl54, h⟩ := h
  exact w_X1_served_9 fl54 h
theorem c_X1_served {a0 : Nat} {Q : Int → Wd → Prop} {G : Wd} (h : f_X1_served a0 G Q) : call yX1_served (Cond.code yX1_served cX1_served 3 (some .int)) 2 0 0 [vR (some a0)] G (qI Q) noX :=
  call.enter (by decide +kernel) (la_1 c1R (la_nil rfl)) rfl (w_X1_served h)
abbrev m_X1_highOf : Mt := (yX1_highOf.cls, cX1_highOf, 1, some .int, [], yX1_highOf.name)
theorem yo_X1_highOf : yOK yX1_highOf 1 := ⟨by decide +kernel, by decide +kernel, by decide +kernel⟩
def f_X1_highOf (a0 : Int) (G : Wd) (Q : Int → Wd → Prop) : Prop :=
  br a0 2 (¬ a0 = (2 : Int)) (br a0 3 (¬ a0 = (3 : Int)) (Q 4 G) (Q 1 G)) (Q 9 G)
theorem w_X1_highOf {Q : Int → Wd → Prop} {a0 : Int} {G : Wd} (h : f_X1_highOf a0 G Q) : wp m_X1_highOf 1 0 0 0 [some (vI a0)] [] G (qI Q) noX := by
  unfold f_X1_highOf at h
  refine r_iload_n dX1_highOf_0 rfl rfl iI ?_
  refine r_iconst dX1_highOf_1 ?_
  refine r_icmp_ne (tgt := 10) dX1_highOf_2 (by decide) h (fun h => ?_) (fun h => ?_)
  · refine r_iload_n dX1_highOf_10 rfl rfl iI ?_
    refine r_iconst dX1_highOf_11 ?_
    refine r_icmp_ne (tgt := 19) dX1_highOf_12 (by decide) h (fun h => ?_) (fun h => ?_)
    · refine r_iconst dX1_highOf_19 ?_
      exact r_iret rfl dX1_highOf_20 ⟨_, rfl, h⟩
    · refine r_iconst dX1_highOf_15 ?_
      refine r_goto (tgt := 20) dX1_highOf_16 (by decide) ?_
      exact r_iret rfl dX1_highOf_20 ⟨_, rfl, h⟩
  · refine r_bipush dX1_highOf_5 (by decide) ?_
    refine r_goto (tgt := 20) dX1_highOf_7 (by decide) ?_
    exact r_iret rfl dX1_highOf_20 ⟨_, rfl, h⟩
theorem c_X1_highOf {a0 : Int} {Q : Int → Wd → Prop} {G : Wd} (h : f_X1_highOf a0 G Q) : call yX1_highOf (Cond.code yX1_highOf cX1_highOf 1 (some .int)) 1 0 0 [vI a0] G (qI Q) noX :=
  call.enter (by decide +kernel) (la_1 c1I (la_nil rfl)) rfl (w_X1_highOf h)
abbrev m_X1_denies : Mt := (yX1_denies.cls, cX1_denies, 2, some .int, [], yX1_denies.name)
theorem yo_X1_denies : yOK yX1_denies 0 := ⟨by decide +kernel, by decide +kernel, by decide +kernel⟩
def f_X1_denies (a0 : Nat) (G : Wd) (Q : Int → Wd → Prop) : Prop :=
  gI G a0 [0] 16 (fun x3 => pF G a0 [0] 16 (vI 0) (fun G4 => Q x3 G4))
theorem w_X1_denies {a0 : Nat} {Q : Int → Wd → Prop} {G : Wd} (h : f_X1_denies a0 G Q) : wp m_X1_denies 1 0 0 0 [some (vR (some a0)), none] [] G (qI Q) noX := by
  unfold f_X1_denies at h
  refine r_aload_n dX1_denies_0 rfl rfl iR ?_
  refine r_getI dX1_denies_1 (fg1 (f := 16) fX1 (by decide) q716 rfl) h (fun x3 h => ?_)
  refine r_istore_n (L' := [some (vR (some a0)), some (vI x3)]) dX1_denies_4 rfl rfl iI cR (by decide) ?_
  refine r_aload_n dX1_denies_5 rfl rfl iR ?_
  refine r_iconst dX1_denies_6 ?_
  refine r_put dX1_denies_7 (fp1 (f := 16) fX1 (by decide) q716 rfl rfl rfl) fvI h (fun G4 h => ?_)
  refine r_iload_n dX1_denies_10 rfl rfl iI ?_
  exact r_iret rfl dX1_denies_11 ⟨_, rfl, h⟩
theorem c_X1_denies {a0 : Nat} {Q : Int → Wd → Prop} {G : Wd} (h : f_X1_denies a0 G Q) : call yX1_denies (Cond.code yX1_denies cX1_denies 2 (some .int)) 1 0 0 [vR (some a0)] G (qI Q) noX :=
  call.enter (by decide +kernel) (la_1 c1R (la_nil rfl)) rfl (w_X1_denies h)
abbrev m_X1_think : Mt := (yX1_think.cls, cX1_think, 3, none, [], yX1_think.name)
theorem yo_X1_think : yOK yX1_think 2 := ⟨by decide +kernel, by decide +kernel, by decide +kernel⟩
def f_X1_think (a0 : Nat) (a1 : Option Nat) (a2 : Bool) (G : Wd) (Q : Wd → Prop) : Prop :=
  gR G a0 [0] 17 (fun x12 => nn a1 (fun a13 => gI G a13 [7] 0 (fun x14 => gI G a13 [7] 1 (fun x15 => nn x12 (fun a16 => stR G a16 8 ((16 * x14) + x15) (some a13) [7] (fun G17 => gR G17 a0 [0] 18 (fun x18 => gI G17 a13 [7] 0 (fun x19 => gI G17 a13 [7] 1 (fun x20 => nn x18 (fun a21 => (((b2i a2) = 0 ∨ (b2i a2) = 1) ∧ stI G17 a21 2 ((16 * x19) + x20) (b2i a2) (fun G22 => Q G22))))))))))))
theorem w_X1_think {a0 : Nat} {Q : Wd → Prop} {a1 : Option Nat} {a2 : Bool} {G : Wd} (h : f_X1_think a0 a1 a2 G Q) : wp m_X1_think 1 0 0 0 [some (vR (some a0)), some (vR a1), some (vB a2)] [] G (qV Q) noX := by
  unfold f_X1_think at h
  refine r_aload_n dX1_think_0 rfl rfl iR ?_
  refine r_getR dX1_think_1 (fg1 (f := 17) fX1 (by decide) q717 rfl) h (fun x12 h => ?_)
  refine r_bipush dX1_think_4 (by decide) ?_
  refine r_aload_n dX1_think_6 rfl rfl iR ?_
  obtain ⟨a13, e, h⟩ := h
  refine wp.cast (L' := [some (vR (some a0)), some (vR (some a13)), some (vB a2)]) (st' := [vR (some a13), vI 16, vR x12]) (by rw [e]) (by rw [e]) ?_
  refine r_getI dX1_think_7 (fg1 (f := 0) fX8 (by decide) q1461 rfl) h (fun x14 h => ?_)
  refine r_imul dX1_think_10 ?_
  refine r_aload_n dX1_think_11 rfl rfl iR ?_
  refine r_getI dX1_think_12 (fg1 (f := 1) fX8 (by decide) q1465 rfl) h (fun x15 h => ?_)
  refine r_iadd dX1_think_15 ?_
  refine r_aload_n dX1_think_16 rfl rfl iR ?_
  obtain ⟨a16, e, h⟩ := h
  refine wp.cast (L' := [some (vR (some a0)), some (vR (some a13)), some (vB a2)]) (st' := [vR (some a13), vI ((16 * x14) + x15), vR (some a16)]) rfl (by rw [e]) ?_
  refine r_aast dX1_think_17 kd8 h (fun G17 h => ?_)
  refine r_aload_n dX1_think_18 rfl rfl iR ?_
  refine r_getR dX1_think_19 (fg1 (f := 18) fX1 (by decide) q718 rfl) h (fun x18 h => ?_)
  refine r_bipush dX1_think_22 (by decide) ?_
  refine r_aload_n dX1_think_24 rfl rfl iR ?_
  refine r_getI dX1_think_25 (fg1 (f := 0) fX8 (by decide) q1461 rfl) h (fun x19 h => ?_)
  refine r_imul dX1_think_28 ?_
  refine r_aload_n dX1_think_29 rfl rfl iR ?_
  refine r_getI dX1_think_30 (fg1 (f := 1) fX8 (by decide) q1465 rfl) h (fun x20 h => ?_)
  refine r_iadd dX1_think_33 ?_
  refine r_iload_n dX1_think_34 rfl rfl iB ?_
  refine wp.cast (st' := [vI (b2i a2), vI ((16 * x19) + x20), vR x18]) rfl (congrArg (fun q => [q, vI ((16 * x19) + x20), vR x18]) (vBI a2)) ?_
  obtain ⟨a21, e, h⟩ := h
  refine wp.cast (L' := [some (vR (some a0)), some (vR (some a13)), some (vB a2)]) (st' := [vI (b2i a2), vI ((16 * x19) + x20), vR (some a21)]) rfl (by rw [e]) ?_
  refine r_zast dX1_think_35 h (fun G22 h => ?_)
  exact r_vret rfl dX1_think_36 ⟨rfl, h⟩
theorem c_X1_think {a0 : Nat} {a1 : Option Nat} {a2 : Bool} {Q : Wd → Prop} {G : Wd} (h : f_X1_think a0 a1 a2 G Q) : call yX1_think (Cond.code yX1_think cX1_think 3 (none)) 1 0 0 [vR (some a0), vR a1, vB a2] G (qV Q) noX :=
  call.enter (by decide +kernel) (la_1 c1R (la_1 c1R (la_1 c1B (la_nil rfl)))) rfl (w_X1_think h)
abbrev m_X1_isSo : Mt := (yX1_isSo.cls, cX1_isSo, 5, some .boolean, [], yX1_isSo.name)
theorem yo_X1_isSo : yOK yX1_isSo 3 := ⟨by decide +kernel, by decide +kernel, by decide +kernel⟩
def f_X1_isSo_97 (a0 : Nat) (s0 : Int) (s1 : Bool) (G : Wd) (Q : Bool → Wd → Prop) : Prop :=
  br s0 (b2i s1) (¬ s0 = (b2i s1)) (Q false G) (Q true G)
theorem w_X1_isSo_97 {a0 : Nat} {Q : Bool → Wd → Prop} {s0 : Int} {s1 : Bool} {G : Wd} (h : f_X1_isSo_97 a0 s0 s1 G Q) : wp m_X1_isSo 1 0 0 97 [none, none, none, none, none] [vB s1, vI s0] G (qB Q) noX := by
  unfold f_X1_isSo_97 at h
  refine wp.cast (st' := [vI (b2i s1), vI s0]) rfl (congrArg (fun q => [q, vI s0]) (vBI s1)) ?_
  refine r_icmp_ne (tgt := 104) dX1_isSo_97 (by decide) h (fun h => ?_) (fun h => ?_)
  · refine r_iconst dX1_isSo_104 ?_
    refine wp.cast (st' := [vB false]) rfl (congrArg (fun q => [q]) vI0) ?_
    exact r_zret rfl dX1_isSo_105 ⟨_, rfl, h⟩
  · refine r_iconst dX1_isSo_100 ?_
    refine r_goto (tgt := 105) dX1_isSo_101 (by decide) ?_
    refine wp.cast (st' := [vB true]) rfl (congrArg (fun q => [q]) vI1) ?_
    exact r_zret rfl dX1_isSo_105 ⟨_, rfl, h⟩
def f_X1_isSo (a0 : Nat) (a1 : Int) (a2 : Int) (a3 : Int) (G : Wd) (Q : Bool → Wd → Prop) : Prop :=
  gR G a0 [0] 17 (fun x13 => nn x13 (fun a14 => ldR G a14 8 a1 (fun x15 => ok32 a2 (swc a2 0 (nn x15 (fun a16 => gI G a16 [7] 0 (fun x17 => br x17 a3 (¬ x17 = a3) (Q false G) (Q true G)))) (swc a2 1 (nn x15 (fun a18 => gI G a18 [7] 2 (fun x19 => br x19 a3 (¬ x19 = a3) (Q false G) (Q true G)))) (swc a2 2 (nn x15 (fun a20 => gI G a20 [7] 3 (fun x21 => br x21 a3 (¬ x21 = a3) (Q false G) (Q true G)))) (gR G a0 [0] 18 (fun x22 => nn x22 (fun a23 => ldI G a23 2 a1 (fun x24 => br a3 1 (¬ a3 = (1 : Int)) (f_X1_isSo_97 a0 x24 false G Q) (f_X1_isSo_97 a0 x24 true G Q)))))))))))
theorem w_X1_isSo {a0 : Nat} {Q : Bool → Wd → Prop} {a1 : Int} {a2 : Int} {a3 : Int} {G : Wd} (h : f_X1_isSo a0 a1 a2 a3 G Q) : wp m_X1_isSo 1 0 0 0 [some (vR (some a0)), some (vI a1), some (vI a2), some (vI a3), none] [] G (qB Q) noX := by
  unfold f_X1_isSo at h
  refine r_aload_n dX1_isSo_0 rfl rfl iR ?_
  refine r_getR dX1_isSo_1 (fg1 (f := 17) fX1 (by decide) q717 rfl) h (fun x13 h => ?_)
  refine r_iload_n dX1_isSo_4 rfl rfl iI ?_
  obtain ⟨a14, e, h⟩ := h
  refine wp.cast (L' := [some (vR (some a0)), some (vI a1), some (vI a2), some (vI a3), none]) (st' := [vI a1, vR (some a14)]) rfl (by rw [e]) ?_
  refine r_aald dX1_isSo_5 (by decide) (by decide) h (fun x15 h => ?_)
  refine r_astore (L' := [some (vR (some a0)), some (vI a1), some (vI a2), some (vI a3), some (vR x15)]) dX1_isSo_6 rfl iR cI (by decide) ?_
  refine r_iload_n dX1_isSo_8 rfl rfl iI ?_
  obtain ⟨hr, h⟩ := h
  refine r_swc h (fun e0 h => ?_) (fun e0 h => ?_)
  · refine r_tsIn (tgt := 36) dX1_isSo_9 hr e0 (by decide) (by decide) rfl (by decide) ?_
    refine r_aload dX1_isSo_36 rfl iR ?_
    obtain ⟨a16, e, h⟩ := h
    refine wp.cast (L' := [some (vR (some a0)), some (vI a1), some (vI a2), some (vI a3), some (vR (some a16))]) (st' := [vR (some a16)]) (by rw [e]) (by rw [e]) ?_
    refine r_getI dX1_isSo_38 (fg1 (f := 0) fX8 (by decide) q1461 rfl) h (fun x17 h => ?_)
    refine r_iload_n dX1_isSo_41 rfl rfl iI ?_
    refine r_icmp_ne (tgt := 49) dX1_isSo_42 (by decide) h (fun h => ?_) (fun h => ?_)
    · refine r_iconst dX1_isSo_49 ?_
      refine wp.cast (st' := [vB false]) rfl (congrArg (fun q => [q]) vI0) ?_
      exact r_zret rfl dX1_isSo_50 ⟨_, rfl, h⟩
    · refine r_iconst dX1_isSo_45 ?_
      refine r_goto (tgt := 50) dX1_isSo_46 (by decide) ?_
      refine wp.cast (st' := [vB true]) rfl (congrArg (fun q => [q]) vI1) ?_
      exact r_zret rfl dX1_isSo_50 ⟨_, rfl, h⟩
  · refine r_swc h (fun e1 h => ?_) (fun e1 h => ?_)
    · refine r_tsIn (tgt := 51) dX1_isSo_9 hr e1 (by decide) (by decide) rfl (by decide) ?_
      refine r_aload dX1_isSo_51 rfl iR ?_
      obtain ⟨a18, e, h⟩ := h
      refine wp.cast (L' := [some (vR (some a0)), some (vI a1), some (vI a2), some (vI a3), some (vR (some a18))]) (st' := [vR (some a18)]) (by rw [e]) (by rw [e]) ?_
      refine r_getI dX1_isSo_53 (fg1 (f := 2) fX8 (by decide) q1469 rfl) h (fun x19 h => ?_)
      refine r_iload_n dX1_isSo_56 rfl rfl iI ?_
      refine r_icmp_ne (tgt := 64) dX1_isSo_57 (by decide) h (fun h => ?_) (fun h => ?_)
      · refine r_iconst dX1_isSo_64 ?_
        refine wp.cast (st' := [vB false]) rfl (congrArg (fun q => [q]) vI0) ?_
        exact r_zret rfl dX1_isSo_65 ⟨_, rfl, h⟩
      · refine r_iconst dX1_isSo_60 ?_
        refine r_goto (tgt := 65) dX1_isSo_61 (by decide) ?_
        refine wp.cast (st' := [vB true]) rfl (congrArg (fun q => [q]) vI1) ?_
        exact r_zret rfl dX1_isSo_65 ⟨_, rfl, h⟩
    · refine r_swc h (fun e2 h => ?_) (fun e2 h => ?_)
      · refine r_tsIn (tgt := 66) dX1_isSo_9 hr e2 (by decide) (by decide) rfl (by decide) ?_
        refine r_aload dX1_isSo_66 rfl iR ?_
        obtain ⟨a20, e, h⟩ := h
        refine wp.cast (L' := [some (vR (some a0)), some (vI a1), some (vI a2), some (vI a3), some (vR (some a20))]) (st' := [vR (some a20)]) (by rw [e]) (by rw [e]) ?_
        refine r_getI dX1_isSo_68 (fg1 (f := 3) fX8 (by decide) q1473 rfl) h (fun x21 h => ?_)
        refine r_iload_n dX1_isSo_71 rfl rfl iI ?_
        refine r_icmp_ne (tgt := 79) dX1_isSo_72 (by decide) h (fun h => ?_) (fun h => ?_)
        · refine r_iconst dX1_isSo_79 ?_
          refine wp.cast (st' := [vB false]) rfl (congrArg (fun q => [q]) vI0) ?_
          exact r_zret rfl dX1_isSo_80 ⟨_, rfl, h⟩
        · refine r_iconst dX1_isSo_75 ?_
          refine r_goto (tgt := 80) dX1_isSo_76 (by decide) ?_
          refine wp.cast (st' := [vB true]) rfl (congrArg (fun q => [q]) vI1) ?_
          exact r_zret rfl dX1_isSo_80 ⟨_, rfl, h⟩
      · refine r_tsOut (tgt := 81) dX1_isSo_9 hr (by omega) (by decide) ?_
        refine r_aload_n dX1_isSo_81 rfl rfl iR ?_
        refine r_getR dX1_isSo_82 (fg1 (f := 18) fX1 (by decide) q718 rfl) h (fun x22 h => ?_)
        refine r_iload_n dX1_isSo_85 rfl rfl iI ?_
        obtain ⟨a23, e, h⟩ := h
        refine wp.cast (L' := [some (vR (some a0)), some (vI a1), some (vI a2), some (vI a3), some (vR x15)]) (st' := [vI a1, vR (some a23)]) rfl (by rw [e]) ?_
        refine r_zald dX1_isSo_86 h (fun x24 h => ?_)
        refine r_iload_n dX1_isSo_87 rfl rfl iI ?_
        refine r_iconst dX1_isSo_88 ?_
        refine r_icmp_ne (tgt := 96) dX1_isSo_89 (by decide) h (fun h => ?_) (fun h => ?_)
        · refine r_iconst dX1_isSo_96 ?_
          refine wp.cast (st' := [vB false, vI x24]) rfl (congrArg (fun q => [q, vI x24]) vI0) ?_
          refine wp.locals (L' := [none, none, none, none, none]) (ls_n (ls_n (ls_n (ls_n (ls_n ls_0))))) ?_
          exact w_X1_isSo_97 h
        · refine r_iconst dX1_isSo_92 ?_
          refine r_goto (tgt := 97) dX1_isSo_93 (by decide) ?_
          refine wp.cast (st' := [vB true, vI x24]) rfl (congrArg (fun q => [q, vI x24]) vI1) ?_
          refine wp.locals (L' := [none, none, none, none, none]) (ls_n (ls_n (ls_n (ls_n (ls_n ls_0))))) ?_
          exact w_X1_isSo_97 h
theorem c_X1_isSo {a0 : Nat} {a1 : Int} {a2 : Int} {a3 : Int} {Q : Bool → Wd → Prop} {G : Wd} (h : f_X1_isSo a0 a1 a2 a3 G Q) : call yX1_isSo (Cond.code yX1_isSo cX1_isSo 5 (some .boolean)) 1 0 0 [vR (some a0), vI a1, vI a2, vI a3] G (qB Q) noX :=
  call.enter (by decide +kernel) (la_1 c1R (la_1 c1I (la_1 c1I (la_1 c1I (la_nil rfl))))) rfl (w_X1_isSo h)
abbrev m_X1_laps : Mt := (yX1_laps.cls, cX1_laps, 7, some .int, [], yX1_laps.name)
theorem yo_X1_laps : yOK yX1_laps 3 := ⟨by decide +kernel, by decide +kernel, by decide +kernel⟩
def f_X1_laps_92 (a0 : Nat) (k51 : Nat → Nat → Int → Int → Int → Option Nat → Int → Wd → Prop) (k69 : Nat → Nat → Int → Int → Int → Option Nat → Int → Int → Wd → Prop) (k n : Nat) (l1 : Int) (l2 : Int) (l3 : Int) (l4 : Option Nat) (l5 : Int) (l6 : Int) (G : Wd) (Q : Int → Wd → Prop) : Prop :=
  k69 k n l1 l2 l3 l4 l5 (l6 + (-1)) G
theorem w_X1_laps_92 {a0 : Nat} {Q : Int → Wd → Prop} {k51 : Nat → Nat → Int → Int → Int → Option Nat → Int → Wd → Prop} (hk51 : ∀ {k n : Nat} {l1 : Int} {l2 : Int} {l3 : Int} {l4 : Option Nat} {l5 : Int} {G : Wd}, k51 k n l1 l2 l3 l4 l5 G → wp m_X1_laps 2 k n 51 [none, some (vI l1), some (vI l2), some (vI l3), some (vR l4), some (vI l5), none] [] G (qI Q) noX) {k69 : Nat → Nat → Int → Int → Int → Option Nat → Int → Int → Wd → Prop} (hk69 : ∀ {k n : Nat} {l1 : Int} {l2 : Int} {l3 : Int} {l4 : Option Nat} {l5 : Int} {l6 : Int} {G : Wd}, k69 k n l1 l2 l3 l4 l5 l6 G → wp m_X1_laps 2 k n 69 [none, some (vI l1), some (vI l2), some (vI l3), some (vR l4), some (vI l5), some (vI l6)] [] G (qI Q) noX) {k n : Nat} {l1 : Int} {l2 : Int} {l3 : Int} {l4 : Option Nat} {l5 : Int} {l6 : Int} {G : Wd} (h : f_X1_laps_92 a0 k51 k69 k n l1 l2 l3 l4 l5 l6 G Q) : wp m_X1_laps 2 k n 92 [none, some (vI l1), some (vI l2), some (vI l3), some (vR l4), some (vI l5), some (vI l6)] [] G (qI Q) noX := by
  unfold f_X1_laps_92 at h
  refine r_iinc (L' := [none, some (vI l1), some (vI l2), some (vI l3), some (vR l4), some (vI l5), some (vI (l6 + (-1)))]) dX1_laps_92 rfl rfl cI (by decide) ?_
  refine r_goto (tgt := 69) dX1_laps_95 (by decide) ?_
  exact hk69 h
def f_X1_laps_69_b (a0 : Nat) (k51 : Nat → Nat → Int → Int → Int → Option Nat → Int → Wd → Prop) (k69 : Nat → Nat → Int → Int → Int → Option Nat → Int → Int → Wd → Prop) (k n : Nat) (l1 : Int) (l2 : Int) (l3 : Int) (l4 : Option Nat) (l5 : Int) (l6 : Int) (G : Wd) (Q : Int → Wd → Prop) : Prop :=
  br0 l6 (l6 ≤ 0) (k51 k n l1 l2 l3 l4 (l5 + (-1)) G) (nn l4 (fun a14 => ldI G a14 0 (l5 + l6) (fun x15 => br0 x15 (¬ x15 = 0) (f_X1_laps_92 a0 k51 k69 k n l1 l2 l3 (some a14) l5 l6 G Q) ((stI G a14 0 l5 l6 (fun G16 => f_X1_laps_92 a0 k51 k69 k n l1 l2 l3 (some a14) l5 l6 G16 Q))))))
theorem w_X1_laps_69_b {a0 : Nat} {Q : Int → Wd → Prop} {k51 : Nat → Nat → Int → Int → Int → Option Nat → Int → Wd → Prop} (hk51 : ∀ {k n : Nat} {l1 : Int} {l2 : Int} {l3 : Int} {l4 : Option Nat} {l5 : Int} {G : Wd}, k51 k n l1 l2 l3 l4 l5 G → wp m_X1_laps 2 k n 51 [none, some (vI l1), some (vI l2), some (vI l3), some (vR l4), some (vI l5), none] [] G (qI Q) noX) {k69 : Nat → Nat → Int → Int → Int → Option Nat → Int → Int → Wd → Prop} (hk69 : ∀ {k n : Nat} {l1 : Int} {l2 : Int} {l3 : Int} {l4 : Option Nat} {l5 : Int} {l6 : Int} {G : Wd}, k69 k n l1 l2 l3 l4 l5 l6 G → wp m_X1_laps 2 k n 69 [none, some (vI l1), some (vI l2), some (vI l3), some (vR l4), some (vI l5), some (vI l6)] [] G (qI Q) noX) {k n : Nat} {l1 : Int} {l2 : Int} {l3 : Int} {l4 : Option Nat} {l5 : Int} {l6 : Int} {G : Wd} (h : f_X1_laps_69_b a0 k51 k69 k n l1 l2 l3 l4 l5 l6 G Q) : wp m_X1_laps 2 k n 69 [none, some (vI l1), some (vI l2), some (vI l3), some (vR l4), some (vI l5), some (vI l6)] [] G (qI Q) noX := by
  unfold f_X1_laps_69_b at h
  refine r_iload dX1_laps_69 rfl iI ?_
  refine r_if_le (tgt := 98) dX1_laps_71 (by decide) h (fun h => ?_) (fun h => ?_)
  · refine r_iinc (L' := [none, some (vI l1), some (vI l2), some (vI l3), some (vR l4), some (vI (l5 + (-1))), some (vI l6)]) dX1_laps_98 rfl rfl cR (by decide) ?_
    refine r_goto (tgt := 51) dX1_laps_101 (by decide) ?_
    refine wp.locals (L' := [none, some (vI l1), some (vI l2), some (vI l3), some (vR l4), some (vI (l5 + (-1))), none]) (ls_n (ls_s (ls_s (ls_s (ls_s (ls_s (ls_n ls_0))))))) ?_
    exact hk51 h
  · refine r_aload dX1_laps_74 rfl iR ?_
    refine r_iload dX1_laps_76 rfl iI ?_
    refine r_iload dX1_laps_78 rfl iI ?_
    refine r_iadd dX1_laps_80 ?_
    obtain ⟨a14, e, h⟩ := h
    refine wp.cast (L' := [none, some (vI l1), some (vI l2), some (vI l3), some (vR (some a14)), some (vI l5), some (vI l6)]) (st' := [vI (l5 + l6), vR (some a14)]) (by rw [e]) (by rw [e]) ?_
    refine r_iald dX1_laps_81 h (fun x15 h => ?_)
    refine r_if_ne (tgt := 92) dX1_laps_82 (by decide) h (fun h => ?_) (fun h => ?_)
    · exact w_X1_laps_92 hk51 hk69 h
    · refine r_aload dX1_laps_85 rfl iR ?_
      refine r_iload dX1_laps_87 rfl iI ?_
      refine r_iload dX1_laps_89 rfl iI ?_
      refine r_iast dX1_laps_91 h (fun G16 h => ?_)
      exact w_X1_laps_92 hk51 hk69 h
def f_X1_laps_69 (a0 : Nat) (k51 : Nat → Nat → Int → Int → Int → Option Nat → Int → Wd → Prop) (Q : Int → Wd → Prop) : Nat → Nat → Nat → Int → Int → Int → Option Nat → Int → Int → Wd → Prop
  | 0, _, _, _, _, _, _, _, _, _ => False
  | fl + 1, k, n, l1, l2, l3, l4, l5, l6, G => f_X1_laps_69_b a0 k51 (fun k n l1 l2 l3 l4 l5 l6 G => f_X1_laps_69 a0 k51 Q fl k n l1 l2 l3 l4 l5 l6 G) k n l1 l2 l3 l4 l5 l6 G Q
theorem w_X1_laps_69 {a0 : Nat} {Q : Int → Wd → Prop} {k51 : Nat → Nat → Int → Int → Int → Option Nat → Int → Wd → Prop} (hk51 : ∀ {k n : Nat} {l1 : Int} {l2 : Int} {l3 : Int} {l4 : Option Nat} {l5 : Int} {G : Wd}, k51 k n l1 l2 l3 l4 l5 G → wp m_X1_laps 2 k n 51 [none, some (vI l1), some (vI l2), some (vI l3), some (vR l4), some (vI l5), none] [] G (qI Q) noX) : ∀ (fl : Nat) {k n : Nat} {l1 : Int} {l2 : Int} {l3 : Int} {l4 : Option Nat} {l5 : Int} {l6 : Int} {G : Wd}, f_X1_laps_69 a0 k51 Q fl k n l1 l2 l3 l4 l5 l6 G → wp m_X1_laps 2 k n 69 [none, some (vI l1), some (vI l2), some (vI l3), some (vR l4), some (vI l5), some (vI l6)] [] G (qI Q) noX := by
  intro fl
  induction fl with
  | zero => intro k n l1 l2 l3 l4 l5 l6 G h; exact (show False from h).elim
  | succ fl ih => intro k n l1 l2 l3 l4 l5 l6 G h; exact w_X1_laps_69_b hk51 (fun h => ih h) h
def f_X1_laps_51_b (a0 : Nat) (k51 : Nat → Nat → Int → Int → Int → Option Nat → Int → Wd → Prop) (k n : Nat) (l1 : Int) (l2 : Int) (l3 : Int) (l4 : Option Nat) (l5 : Int) (G : Wd) (Q : Int → Wd → Prop) : Prop :=
  br l5 l2 (l5 < l2) (nn l4 (fun a17 => ldI G a17 0 l2 (fun x18 => Q x18 G))) (((R32 l3 ∧ R32 ((l1 - 1) - l5)) ∧ ∃ fl19, f_X1_laps_69 a0 k51 Q fl19 k n l1 l2 l3 l4 l5 (min l3 ((l1 - 1) - l5)) G))
theorem w_X1_laps_51_b {a0 : Nat} {Q : Int → Wd → Prop} {k51 : Nat → Nat → Int → Int → Int → Option Nat → Int → Wd → Prop} (hk51 : ∀ {k n : Nat} {l1 : Int} {l2 : Int} {l3 : Int} {l4 : Option Nat} {l5 : Int} {G : Wd}, k51 k n l1 l2 l3 l4 l5 G → wp m_X1_laps 2 k n 51 [none, some (vI l1), some (vI l2), some (vI l3), some (vR l4), some (vI l5), none] [] G (qI Q) noX) {k n : Nat} {l1 : Int} {l2 : Int} {l3 : Int} {l4 : Option Nat} {l5 : Int} {G : Wd} (h : f_X1_laps_51_b a0 k51 k n l1 l2 l3 l4 l5 G Q) : wp m_X1_laps 2 k n 51 [none, some (vI l1), some (vI l2), some (vI l3), some (vR l4), some (vI l5), none] [] G (qI Q) noX := by
  unfold f_X1_laps_51_b at h
  refine r_iload dX1_laps_51 rfl iI ?_
  refine r_iload_n dX1_laps_53 rfl rfl iI ?_
  refine r_icmp_lt (tgt := 104) dX1_laps_54 (by decide) h (fun h => ?_) (fun h => ?_)
  · refine r_aload dX1_laps_104 rfl iR ?_
    refine r_iload_n dX1_laps_106 rfl rfl iI ?_
    obtain ⟨a17, e, h⟩ := h
    refine wp.cast (L' := [none, some (vI l1), some (vI l2), some (vI l3), some (vR (some a17)), some (vI l5), none]) (st' := [vI l2, vR (some a17)]) (by rw [e]) (by rw [e]) ?_
    refine r_iald dX1_laps_107 h (fun x18 h => ?_)
    exact r_iret rfl dX1_laps_108 ⟨_, rfl, h⟩
  · refine r_iload_n dX1_laps_57 rfl rfl iI ?_
    refine r_iload_n dX1_laps_58 rfl rfl iI ?_
    refine r_iconst dX1_laps_59 ?_
    refine r_isub dX1_laps_60 ?_
    refine r_iload dX1_laps_61 rfl iI ?_
    refine r_isub dX1_laps_63 ?_
    refine r_mmin dX1_laps_64 q1036 rc0 (by decide) (by decide) h (fun h => ?_)
    refine r_istore (L' := [none, some (vI l1), some (vI l2), some (vI l3), some (vR l4), some (vI l5), some (vI (min l3 ((l1 - 1) - l5)))]) dX1_laps_67 rfl iI cI (by decide) ?_
    obtain ⟨fl19, h⟩ := h
    exact w_X1_laps_69 hk51 fl19 h
def f_X1_laps_51 (a0 : Nat) (Q : Int → Wd → Prop) : Nat → Nat → Nat → Int → Int → Int → Option Nat → Int → Wd → Prop
  | 0, _, _, _, _, _, _, _, _ => False
  | fl + 1, k, n, l1, l2, l3, l4, l5, G => f_X1_laps_51_b a0  (fun k n l1 l2 l3 l4 l5 G => f_X1_laps_51 a0  Q fl k n l1 l2 l3 l4 l5 G) k n l1 l2 l3 l4 l5 G Q
theorem w_X1_laps_51 {a0 : Nat} {Q : Int → Wd → Prop} : ∀ (fl : Nat) {k n : Nat} {l1 : Int} {l2 : Int} {l3 : Int} {l4 : Option Nat} {l5 : Int} {G : Wd}, f_X1_laps_51 a0 Q fl k n l1 l2 l3 l4 l5 G → wp m_X1_laps 2 k n 51 [none, some (vI l1), some (vI l2), some (vI l3), some (vR l4), some (vI l5), none] [] G (qI Q) noX := by
  intro fl
  induction fl with
  | zero => intro k n l1 l2 l3 l4 l5 G h; exact (show False from h).elim
  | succ fl ih => intro k n l1 l2 l3 l4 l5 G h; exact w_X1_laps_51_b  (fun h => ih h) h
def f_X1_laps (k n : Nat) (a0 : Nat) (a1 : Int) (a2 : Int) (a3 : Int) (G : Wd) (Q : Int → Wd → Prop) : Prop :=
  ok32 a1 (f_X1_in a1 2 40 G (fun x21 G20 => brB x21 (ok32 a2 (ok32 (a1 - 1) (f_X1_in a2 0 (a1 - 1) G20 (fun x23 G22 => brB x23 (ok32 a3 (f_X1_in a3 1 9 G22 (fun x25 G24 => brB x25 (nA G24 k n a1 (fun l => aI 0 l (fun _ => 0)) (fun a26 G27 => ∃ fl28, f_X1_laps_51 a0 Q fl28 (k - 1) (n - a1.toNat) a1 a2 a3 (some a26) (a1 - 2) G27)) (Q (-1) G24)))) (Q (-1) G22))))) (Q (-1) G20)))
theorem w_X1_laps {a0 : Nat} {Q : Int → Wd → Prop} {k n : Nat} {a1 : Int} {a2 : Int} {a3 : Int} {G : Wd} (h : f_X1_laps k n a0 a1 a2 a3 G Q) : wp m_X1_laps 2 k n 0 [some (vR (some a0)), some (vI a1), some (vI a2), some (vI a3), none, none, none] [] G (qI Q) noX := by
  unfold f_X1_laps at h
  refine r_iload_n dX1_laps_0 rfl rfl iI ?_
  refine r_i2l dX1_laps_1 h (fun h => ?_)
  refine r_ldc2 (x := 2) dX1_laps_2 q2065 (by decide) ?_
  refine r_ldc2 (x := 40) dX1_laps_5 q2066 (by decide) ?_
  refine r_callS dX1_laps_8 (c_X1_in h) q776 q777 q92 q778 yo_X1_in rfl (by decide) (by decide) rfl rc0 (by decide) (Nat.zero_le _) (Nat.zero_le _) (ofB fun x21 G20 h => ?_) nox
  refine r_ifZ_eq (tgt := 39) dX1_laps_11 (by decide) h (fun h => ?_) (fun h => ?_)
  · refine r_iconst dX1_laps_39 ?_
    exact r_iret rfl dX1_laps_40 ⟨_, rfl, h⟩
  · refine r_iload_n dX1_laps_14 rfl rfl iI ?_
    refine r_i2l dX1_laps_15 h (fun h => ?_)
    refine r_lconst (y := 0) dX1_laps_16 (by decide) ?_
    refine r_iload_n dX1_laps_17 rfl rfl iI ?_
    refine r_iconst dX1_laps_18 ?_
    refine r_isub dX1_laps_19 ?_
    refine r_i2l dX1_laps_20 h (fun h => ?_)
    refine r_callS dX1_laps_21 (c_X1_in h) q776 q777 q92 q778 yo_X1_in rfl (by decide) (by decide) rfl rc0 (by decide) (Nat.zero_le _) (Nat.zero_le _) (ofB fun x23 G22 h => ?_) nox
    refine r_ifZ_eq (tgt := 39) dX1_laps_24 (by decide) h (fun h => ?_) (fun h => ?_)
    · refine r_iconst dX1_laps_39 ?_
      exact r_iret rfl dX1_laps_40 ⟨_, rfl, h⟩
    · refine r_iload_n dX1_laps_27 rfl rfl iI ?_
      refine r_i2l dX1_laps_28 h (fun h => ?_)
      refine r_lconst (y := 1) dX1_laps_29 (by decide) ?_
      refine r_ldc2 (x := 9) dX1_laps_30 q1051 (by decide) ?_
      refine r_callS dX1_laps_33 (c_X1_in h) q776 q777 q92 q778 yo_X1_in rfl (by decide) (by decide) rfl rc0 (by decide) (Nat.zero_le _) (Nat.zero_le _) (ofB fun x25 G24 h => ?_) nox
      refine r_ifZ_ne (tgt := 41) dX1_laps_36 (by decide) h (fun h => ?_) (fun h => ?_)
      · refine r_iload_n dX1_laps_41 rfl rfl iI ?_
        refine r_newI dX1_laps_42 h (fun a26 G27 h => ?_)
        refine r_astore (L' := [some (vR (some a0)), some (vI a1), some (vI a2), some (vI a3), some (vR (some a26)), none, none]) dX1_laps_44 rfl iR cI (by decide) ?_
        refine r_iload_n dX1_laps_46 rfl rfl iI ?_
        refine r_iconst dX1_laps_47 ?_
        refine r_isub dX1_laps_48 ?_
        refine r_istore (L' := [some (vR (some a0)), some (vI a1), some (vI a2), some (vI a3), some (vR (some a26)), some (vI (a1 - 2)), none]) dX1_laps_49 rfl iI cR (by decide) ?_
        refine wp.locals (L' := [none, some (vI a1), some (vI a2), some (vI a3), some (vR (some a26)), some (vI (a1 - 2)), none]) (ls_n (ls_s (ls_s (ls_s (ls_s (ls_s (ls_n ls_0))))))) ?_
        obtain ⟨fl28, h⟩ := h
        exact w_X1_laps_51 fl28 h
      · refine r_iconst dX1_laps_39 ?_
        exact r_iret rfl dX1_laps_40 ⟨_, rfl, h⟩
theorem c_X1_laps {a0 : Nat} {a1 : Int} {a2 : Int} {a3 : Int} {k n : Nat} {Q : Int → Wd → Prop} {G : Wd} (h : f_X1_laps k n a0 a1 a2 a3 G Q) : call yX1_laps (Cond.code yX1_laps cX1_laps 7 (some .int)) 2 k n [vR (some a0), vI a1, vI a2, vI a3] G (qI Q) noX :=
  call.enter (by decide +kernel) (la_1 c1R (la_1 c1I (la_1 c1I (la_1 c1I (la_nil rfl))))) rfl (w_X1_laps h)
abbrev m_X1_draw : Mt := (yX1_draw.cls, cX1_draw, 2, some .int, [], yX1_draw.name)
theorem yo_X1_draw : yOK yX1_draw 1 := ⟨by decide +kernel, by decide +kernel, by decide +kernel⟩
def f_X1_draw (a0 : Nat) (a1 : Int) (G : Wd) (Q : Int → Wd → Prop) : Prop :=
  gI G a0 [0] 19 (fun x4 => pF G a0 [0] 19 (vI ((x4 * 1103515245) + 12345)) (fun G5 => gI G5 a0 [0] 19 (fun x6 => okm (iushr x6 16) a1 (Q ((iushr x6 16) % a1) G5))))
theorem w_X1_draw {a0 : Nat} {Q : Int → Wd → Prop} {a1 : Int} {G : Wd} (h : f_X1_draw a0 a1 G Q) : wp m_X1_draw 1 0 0 0 [some (vR (some a0)), some (vI a1)] [] G (qI Q) noX := by
  unfold f_X1_draw at h
  refine r_aload_n dX1_draw_0 rfl rfl iR ?_
  refine r_aload_n dX1_draw_1 rfl rfl iR ?_
  refine r_getI dX1_draw_2 (fg1 (f := 19) fX1 (by decide) q719 rfl) h (fun x4 h => ?_)
  refine r_ldcw (x := 1103515245) dX1_draw_5 q2083 (by decide) ?_
  refine r_imul dX1_draw_8 ?_
  refine r_sipush dX1_draw_9 (by decide) ?_
  refine r_iadd dX1_draw_12 ?_
  refine r_put dX1_draw_13 (fp1 (f := 19) fX1 (by decide) q719 rfl rfl rfl) fvI h (fun G5 h => ?_)
  refine r_aload_n dX1_draw_16 rfl rfl iR ?_
  refine r_getI dX1_draw_17 (fg1 (f := 19) fX1 (by decide) q719 rfl) h (fun x6 h => ?_)
  refine r_bipush dX1_draw_20 (by decide) ?_
  refine r_iushr dX1_draw_22 ?_
  refine r_iload_n dX1_draw_23 rfl rfl iI ?_
  refine r_irem dX1_draw_24 h (fun h => ?_)
  exact r_iret rfl dX1_draw_25 ⟨_, rfl, h⟩
theorem c_X1_draw {a0 : Nat} {a1 : Int} {Q : Int → Wd → Prop} {G : Wd} (h : f_X1_draw a0 a1 G Q) : call yX1_draw (Cond.code yX1_draw cX1_draw 2 (some .int)) 1 0 0 [vR (some a0), vI a1] G (qI Q) noX :=
  call.enter (by decide +kernel) (la_1 c1R (la_1 c1I (la_nil rfl))) rfl (w_X1_draw h)
abbrev m_X1_queue : Mt := (yX1_queue.cls, cX1_queue, 4, some .int, [], yX1_queue.name)
theorem yo_X1_queue : yOK yX1_queue 2 := ⟨by decide +kernel, by decide +kernel, by decide +kernel⟩
def f_X1_queue (k n : Nat) (a0 : Nat) (a1 : Int) (a2 : Int) (G : Wd) (Q : Int → Wd → Prop) (X : Xt) : Prop :=
  (isC G a0 0 ∧ f_X1_isQueue a0 a1 G (fun x35 G34 => brB x35 (gR G34 a0 [0] 0 (fun x36 => nn x36 (fun a37 => gR G34 a37 [1] 0 (fun x38 => nn x38 (fun a39 => ldR G34 a39 7 a1 (fun x40 => ok32 a2 (swc a2 0 (nn x40 (fun a41 => gI G34 a41 [2] 4 (fun x42 => Q x42 G34))) (swc a2 1 (nn x40 (fun a43 => gI G34 a43 [2] 5 (fun x44 => Q x44 G34))) (swc a2 2 (nn x40 (fun a45 => gI G34 a45 [2] 6 (fun x46 => Q x46 G34))) (swc a2 3 (nn x40 (fun a47 => gZ G34 a47 [2] 15 (fun x48 => brB x48 (Q 1 G34) (Q 0 G34)))) (swc a2 4 (nn x40 (fun a49 => gI G34 a49 [2] 7 (fun x50 => Q x50 G34))) (swc a2 5 (nn x40 (fun a51 => gI G34 a51 [2] 8 (fun x52 => Q x52 G34))) (swc a2 6 (nn x40 (fun a53 => gI G34 a53 [2] 9 (fun x54 => Q x54 G34))) (swc a2 7 (nn x40 (fun a55 => gI G34 a55 [2] 10 (fun x56 => Q x56 G34))) (swc a2 8 (nn x40 (fun a57 => gI G34 a57 [2] 11 (fun x58 => Q x58 G34))) (swc a2 9 (nn x40 (fun a59 => gI G34 a59 [2] 12 (fun x60 => Q x60 G34))) (swc a2 10 (nn x40 (fun a61 => gI G34 a61 [2] 13 (fun x62 => Q x62 G34))) (swc a2 11 (nn x40 (fun a63 => gI G34 a63 [2] 14 (fun x64 => Q x64 G34))) (swc a2 12 (nn x40 (fun a65 => gZ G34 a65 [2] 16 (fun x66 => brB x66 (Q 1 G34) (Q 0 G34)))) (thN k n G34 X)))))))))))))))))))) (thN k n G34 X)))
theorem w_X1_queue {a0 : Nat} {Q : Int → Wd → Prop} {X : Xt} {k n : Nat} {a1 : Int} {a2 : Int} {G : Wd} (h : f_X1_queue k n a0 a1 a2 G Q X) : wp m_X1_queue 6 k n 0 [some (vR (some a0)), some (vI a1), some (vI a2), none] [] G (qI Q) X := by
  unfold f_X1_queue at h
  refine r_aload_n dX1_queue_0 rfl rfl iR ?_
  refine r_iload_n dX1_queue_1 rfl rfl iI ?_
  obtain ⟨hC, h⟩ := h
  refine r_callV dX1_queue_2 hC (c_X1_isQueue h) q1498 q1500 qs18 q92 q1501 rfl yo_X1_isQueue rfl (by decide) (by decide) rfl rc0 (by decide) (Nat.zero_le _) (Nat.zero_le _) (ofB fun x35 G34 h => ?_) nox
  refine r_ifZ_ne (tgt := 16) dX1_queue_5 (by decide) h (fun h => ?_) (fun h => ?_)
  · refine r_aload_n dX1_queue_16 rfl rfl iR ?_
    refine r_getR dX1_queue_17 (fg1 (f := 0) fX1 (by decide) q700 rfl) h (fun x36 h => ?_)
    obtain ⟨a37, e, h⟩ := h
    refine wp.cast (L' := [some (vR (some a0)), some (vI a1), some (vI a2), none]) (st' := [vR (some a37)]) rfl (by rw [e]) ?_
    refine r_getR dX1_queue_20 (fg1 (f := 0) fX2 (by decide) q636 rfl) h (fun x38 h => ?_)
    refine r_iload_n dX1_queue_23 rfl rfl iI ?_
    obtain ⟨a39, e, h⟩ := h
    refine wp.cast (L' := [some (vR (some a0)), some (vI a1), some (vI a2), none]) (st' := [vI a1, vR (some a39)]) rfl (by rw [e]) ?_
    refine r_aald dX1_queue_24 (by decide) (by decide) h (fun x40 h => ?_)
    refine r_astore_n (L' := [some (vR (some a0)), some (vI a1), some (vI a2), some (vR x40)]) dX1_queue_25 rfl rfl iR cI (by decide) ?_
    refine r_iload_n dX1_queue_26 rfl rfl iI ?_
    obtain ⟨hr, h⟩ := h
    refine r_swc h (fun e0 h => ?_) (fun e0 h => ?_)
    · refine r_tsIn (tgt := 92) dX1_queue_27 hr e0 (by decide) (by decide) rfl (by decide) ?_
      refine r_aload_n dX1_queue_92 rfl rfl iR ?_
      obtain ⟨a41, e, h⟩ := h
      refine wp.cast (L' := [some (vR (some a0)), some (vI a1), some (vI a2), some (vR (some a41))]) (st' := [vR (some a41)]) (by rw [e]) (by rw [e]) ?_
      refine r_getI dX1_queue_93 (fg1 (f := 4) fX3 (by decide) q564 rfl) h (fun x42 h => ?_)
      exact r_iret rfl dX1_queue_96 ⟨_, rfl, h⟩
    · refine r_swc h (fun e1 h => ?_) (fun e1 h => ?_)
      · refine r_tsIn (tgt := 97) dX1_queue_27 hr e1 (by decide) (by decide) rfl (by decide) ?_
        refine r_aload_n dX1_queue_97 rfl rfl iR ?_
        obtain ⟨a43, e, h⟩ := h
        refine wp.cast (L' := [some (vR (some a0)), some (vI a1), some (vI a2), some (vR (some a43))]) (st' := [vR (some a43)]) (by rw [e]) (by rw [e]) ?_
        refine r_getI dX1_queue_98 (fg1 (f := 5) fX3 (by decide) q566 rfl) h (fun x44 h => ?_)
        exact r_iret rfl dX1_queue_101 ⟨_, rfl, h⟩
      · refine r_swc h (fun e2 h => ?_) (fun e2 h => ?_)
        · refine r_tsIn (tgt := 102) dX1_queue_27 hr e2 (by decide) (by decide) rfl (by decide) ?_
          refine r_aload_n dX1_queue_102 rfl rfl iR ?_
          obtain ⟨a45, e, h⟩ := h
          refine wp.cast (L' := [some (vR (some a0)), some (vI a1), some (vI a2), some (vR (some a45))]) (st' := [vR (some a45)]) (by rw [e]) (by rw [e]) ?_
          refine r_getI dX1_queue_103 (fg1 (f := 6) fX3 (by decide) q570 rfl) h (fun x46 h => ?_)
          exact r_iret rfl dX1_queue_106 ⟨_, rfl, h⟩
        · refine r_swc h (fun e3 h => ?_) (fun e3 h => ?_)
          · refine r_tsIn (tgt := 107) dX1_queue_27 hr e3 (by decide) (by decide) rfl (by decide) ?_
            refine r_aload_n dX1_queue_107 rfl rfl iR ?_
            obtain ⟨a47, e, h⟩ := h
            refine wp.cast (L' := [some (vR (some a0)), some (vI a1), some (vI a2), some (vR (some a47))]) (st' := [vR (some a47)]) (by rw [e]) (by rw [e]) ?_
            refine r_getZ dX1_queue_108 (fg1 (f := 15) fX3 (by decide) q595 rfl) h (fun x48 h => ?_)
            refine r_ifZ_eq (tgt := 118) dX1_queue_111 (by decide) h (fun h => ?_) (fun h => ?_)
            · refine r_iconst dX1_queue_118 ?_
              exact r_iret rfl dX1_queue_119 ⟨_, rfl, h⟩
            · refine r_iconst dX1_queue_114 ?_
              refine r_goto (tgt := 119) dX1_queue_115 (by decide) ?_
              exact r_iret rfl dX1_queue_119 ⟨_, rfl, h⟩
          · refine r_swc h (fun e4 h => ?_) (fun e4 h => ?_)
            · refine r_tsIn (tgt := 120) dX1_queue_27 hr e4 (by decide) (by decide) rfl (by decide) ?_
              refine r_aload_n dX1_queue_120 rfl rfl iR ?_
              obtain ⟨a49, e, h⟩ := h
              refine wp.cast (L' := [some (vR (some a0)), some (vI a1), some (vI a2), some (vR (some a49))]) (st' := [vR (some a49)]) (by rw [e]) (by rw [e]) ?_
              refine r_getI dX1_queue_121 (fg1 (f := 7) fX3 (by decide) q572 rfl) h (fun x50 h => ?_)
              exact r_iret rfl dX1_queue_124 ⟨_, rfl, h⟩
            · refine r_swc h (fun e5 h => ?_) (fun e5 h => ?_)
              · refine r_tsIn (tgt := 125) dX1_queue_27 hr e5 (by decide) (by decide) rfl (by decide) ?_
                refine r_aload_n dX1_queue_125 rfl rfl iR ?_
                obtain ⟨a51, e, h⟩ := h
                refine wp.cast (L' := [some (vR (some a0)), some (vI a1), some (vI a2), some (vR (some a51))]) (st' := [vR (some a51)]) (by rw [e]) (by rw [e]) ?_
                refine r_getI dX1_queue_126 (fg1 (f := 8) fX3 (by decide) q575 rfl) h (fun x52 h => ?_)
                exact r_iret rfl dX1_queue_129 ⟨_, rfl, h⟩
              · refine r_swc h (fun e6 h => ?_) (fun e6 h => ?_)
                · refine r_tsIn (tgt := 130) dX1_queue_27 hr e6 (by decide) (by decide) rfl (by decide) ?_
                  refine r_aload_n dX1_queue_130 rfl rfl iR ?_
                  obtain ⟨a53, e, h⟩ := h
                  refine wp.cast (L' := [some (vR (some a0)), some (vI a1), some (vI a2), some (vR (some a53))]) (st' := [vR (some a53)]) (by rw [e]) (by rw [e]) ?_
                  refine r_getI dX1_queue_131 (fg1 (f := 9) fX3 (by decide) q578 rfl) h (fun x54 h => ?_)
                  exact r_iret rfl dX1_queue_134 ⟨_, rfl, h⟩
                · refine r_swc h (fun e7 h => ?_) (fun e7 h => ?_)
                  · refine r_tsIn (tgt := 135) dX1_queue_27 hr e7 (by decide) (by decide) rfl (by decide) ?_
                    refine r_aload_n dX1_queue_135 rfl rfl iR ?_
                    obtain ⟨a55, e, h⟩ := h
                    refine wp.cast (L' := [some (vR (some a0)), some (vI a1), some (vI a2), some (vR (some a55))]) (st' := [vR (some a55)]) (by rw [e]) (by rw [e]) ?_
                    refine r_getI dX1_queue_136 (fg1 (f := 10) fX3 (by decide) q582 rfl) h (fun x56 h => ?_)
                    exact r_iret rfl dX1_queue_139 ⟨_, rfl, h⟩
                  · refine r_swc h (fun e8 h => ?_) (fun e8 h => ?_)
                    · refine r_tsIn (tgt := 140) dX1_queue_27 hr e8 (by decide) (by decide) rfl (by decide) ?_
                      refine r_aload_n dX1_queue_140 rfl rfl iR ?_
                      obtain ⟨a57, e, h⟩ := h
                      refine wp.cast (L' := [some (vR (some a0)), some (vI a1), some (vI a2), some (vR (some a57))]) (st' := [vR (some a57)]) (by rw [e]) (by rw [e]) ?_
                      refine r_getI dX1_queue_141 (fg1 (f := 11) fX3 (by decide) q584 rfl) h (fun x58 h => ?_)
                      exact r_iret rfl dX1_queue_144 ⟨_, rfl, h⟩
                    · refine r_swc h (fun e9 h => ?_) (fun e9 h => ?_)
                      · refine r_tsIn (tgt := 145) dX1_queue_27 hr e9 (by decide) (by decide) rfl (by decide) ?_
                        refine r_aload_n dX1_queue_145 rfl rfl iR ?_
                        obtain ⟨a59, e, h⟩ := h
                        refine wp.cast (L' := [some (vR (some a0)), some (vI a1), some (vI a2), some (vR (some a59))]) (st' := [vR (some a59)]) (by rw [e]) (by rw [e]) ?_
                        refine r_getI dX1_queue_146 (fg1 (f := 12) fX3 (by decide) q586 rfl) h (fun x60 h => ?_)
                        exact r_iret rfl dX1_queue_149 ⟨_, rfl, h⟩
                      · refine r_swc h (fun e10 h => ?_) (fun e10 h => ?_)
                        · refine r_tsIn (tgt := 150) dX1_queue_27 hr e10 (by decide) (by decide) rfl (by decide) ?_
                          refine r_aload_n dX1_queue_150 rfl rfl iR ?_
                          obtain ⟨a61, e, h⟩ := h
                          refine wp.cast (L' := [some (vR (some a0)), some (vI a1), some (vI a2), some (vR (some a61))]) (st' := [vR (some a61)]) (by rw [e]) (by rw [e]) ?_
                          refine r_getI dX1_queue_151 (fg1 (f := 13) fX3 (by decide) q589 rfl) h (fun x62 h => ?_)
                          exact r_iret rfl dX1_queue_154 ⟨_, rfl, h⟩
                        · refine r_swc h (fun e11 h => ?_) (fun e11 h => ?_)
                          · refine r_tsIn (tgt := 155) dX1_queue_27 hr e11 (by decide) (by decide) rfl (by decide) ?_
                            refine r_aload_n dX1_queue_155 rfl rfl iR ?_
                            obtain ⟨a63, e, h⟩ := h
                            refine wp.cast (L' := [some (vR (some a0)), some (vI a1), some (vI a2), some (vR (some a63))]) (st' := [vR (some a63)]) (by rw [e]) (by rw [e]) ?_
                            refine r_getI dX1_queue_156 (fg1 (f := 14) fX3 (by decide) q592 rfl) h (fun x64 h => ?_)
                            exact r_iret rfl dX1_queue_159 ⟨_, rfl, h⟩
                          · refine r_swc h (fun e12 h => ?_) (fun e12 h => ?_)
                            · refine r_tsIn (tgt := 160) dX1_queue_27 hr e12 (by decide) (by decide) rfl (by decide) ?_
                              refine r_aload_n dX1_queue_160 rfl rfl iR ?_
                              obtain ⟨a65, e, h⟩ := h
                              refine wp.cast (L' := [some (vR (some a0)), some (vI a1), some (vI a2), some (vR (some a65))]) (st' := [vR (some a65)]) (by rw [e]) (by rw [e]) ?_
                              refine r_getZ dX1_queue_161 (fg1 (f := 16) fX3 (by decide) q598 rfl) h (fun x66 h => ?_)
                              refine r_ifZ_eq (tgt := 171) dX1_queue_164 (by decide) h (fun h => ?_) (fun h => ?_)
                              · refine r_iconst dX1_queue_171 ?_
                                exact r_iret rfl dX1_queue_172 ⟨_, rfl, h⟩
                              · refine r_iconst dX1_queue_167 ?_
                                refine r_goto (tgt := 172) dX1_queue_168 (by decide) ?_
                                exact r_iret rfl dX1_queue_172 ⟨_, rfl, h⟩
                            · refine r_tsOut (tgt := 173) dX1_queue_27 hr (by omega) (by decide) ?_
                              exact r_throwN rfl dX1_queue_173 dX1_queue_176 dX1_queue_177 dX1_queue_180 (by decide) rc0 (by decide) (by decide) h
  · exact r_throwN rfl dX1_queue_8 dX1_queue_11 dX1_queue_12 dX1_queue_15 (by decide) rc0 (by decide) (by decide) h
theorem c_X1_queue {a0 : Nat} {a1 : Int} {a2 : Int} {k n : Nat} {Q : Int → Wd → Prop} {X : Xt} {G : Wd} (h : f_X1_queue k n a0 a1 a2 G Q X) : call yX1_queue (Cond.code yX1_queue cX1_queue 4 (some .int)) 6 k n [vR (some a0), vI a1, vI a2] G (qI Q) X :=
  call.enter (by decide +kernel) (la_1 c1R (la_1 c1I (la_1 c1I (la_nil rfl)))) rfl (w_X1_queue h)
abbrev m_X1_row : Mt := (yX1_row.cls, cX1_row, 2, some .long, [], yX1_row.name)
theorem yo_X1_row : yOK yX1_row 1 := ⟨by decide +kernel, by decide +kernel, by decide +kernel⟩
def f_X1_row (k n : Nat) (a0 : Nat) (a1 : Int) (G : Wd) (Q : Int → Wd → Prop) (X : Xt) : Prop :=
  ok32 a1 (gI G a0 [0] 9 (fun x7 => ok32 (x7 - 1) (f_X1_in a1 0 (x7 - 1) G (fun x9 G8 => brB x9 (gR G8 a0 [0] 8 (fun x10 => nn x10 (fun a11 => ldJ G8 a11 a1 (fun x12 => Q x12 G8)))) (thN k n G8 X)))))
theorem w_X1_row {a0 : Nat} {Q : Int → Wd → Prop} {X : Xt} {k n : Nat} {a1 : Int} {G : Wd} (h : f_X1_row k n a0 a1 G Q X) : wp m_X1_row 6 k n 0 [some (vR (some a0)), some (vI a1)] [] G (qJ Q) X := by
  unfold f_X1_row at h
  refine r_iload_n dX1_row_0 rfl rfl iI ?_
  refine r_i2l dX1_row_1 h (fun h => ?_)
  refine r_lconst (y := 0) dX1_row_2 (by decide) ?_
  refine r_aload_n dX1_row_3 rfl rfl iR ?_
  refine r_getI dX1_row_4 (fg1 (f := 9) fX1 (by decide) q709 rfl) h (fun x7 h => ?_)
  refine r_iconst dX1_row_7 ?_
  refine r_isub dX1_row_8 ?_
  refine r_i2l dX1_row_9 h (fun h => ?_)
  refine r_callS dX1_row_10 (c_X1_in h) q776 q777 q92 q778 yo_X1_in rfl (by decide) (by decide) rfl rc0 (by decide) (Nat.zero_le _) (Nat.zero_le _) (ofB fun x9 G8 h => ?_) nox
  refine r_ifZ_ne (tgt := 24) dX1_row_13 (by decide) h (fun h => ?_) (fun h => ?_)
  · refine r_aload_n dX1_row_24 rfl rfl iR ?_
    refine r_getR dX1_row_25 (fg1 (f := 8) fX1 (by decide) q708 rfl) h (fun x10 h => ?_)
    refine r_iload_n dX1_row_28 rfl rfl iI ?_
    obtain ⟨a11, e, h⟩ := h
    refine wp.cast (L' := [some (vR (some a0)), some (vI a1)]) (st' := [vI a1, vR (some a11)]) rfl (by rw [e]) ?_
    refine r_lald dX1_row_29 h (fun x12 h => ?_)
    exact r_lret rfl dX1_row_30 ⟨_, rfl, h⟩
  · exact r_throwN rfl dX1_row_16 dX1_row_19 dX1_row_20 dX1_row_23 (by decide) rc0 (by decide) (by decide) h
theorem c_X1_row {a0 : Nat} {a1 : Int} {k n : Nat} {Q : Int → Wd → Prop} {X : Xt} {G : Wd} (h : f_X1_row k n a0 a1 G Q X) : call yX1_row (Cond.code yX1_row cX1_row 2 (some .long)) 6 k n [vR (some a0), vI a1] G (qJ Q) X :=
  call.enter (by decide +kernel) (la_1 c1R (la_1 c1I (la_nil rfl))) rfl (w_X1_row h)
abbrev m_X10_init : Mt := (yX10_init.cls, cX10_init, 4, none, [], yX10_init.name)
theorem yo_X10_init : yOK yX10_init 3 := ⟨by decide +kernel, by decide +kernel, by decide +kernel⟩
def f_X10_init (a0 : Nat) (a1 : Option Nat) (a2 : Int) (a3 : Int) (G : Wd) (Q : Wd → Prop) : Prop :=
  nn a1 (fun a8 => gI G a8 [7] 0 (fun x9 => pF G a0 [9] 0 (vI x9) (fun G10 => gI G10 a8 [7] 1 (fun x11 => pF G10 a0 [9] 1 (vI x11) (fun G12 => pF G12 a0 [9] 2 (vI a2) (fun G13 => pF G13 a0 [9] 3 (vI a3) (fun G14 => Q G14)))))))
theorem w_X10_init {a0 : Nat} {Q : Wd → Prop} {a1 : Option Nat} {a2 : Int} {a3 : Int} {G : Wd} (h : f_X10_init a0 a1 a2 a3 G Q) : wp m_X10_init 1 0 0 0 [some (vR (some a0)), some (vR a1), some (vI a2), some (vI a3)] [] G (qV Q) noX := by
  unfold f_X10_init at h
  refine r_aload_n dX10_init_0 rfl rfl iR ?_
  refine r_objInit dX10_init_1 q1571 q142 q143 rc0 (by decide) (by decide) ?_
  refine r_aload_n dX10_init_4 rfl rfl iR ?_
  refine r_aload_n dX10_init_5 rfl rfl iR ?_
  obtain ⟨a8, e, h⟩ := h
  refine wp.cast (L' := [some (vR (some a0)), some (vR (some a8)), some (vI a2), some (vI a3)]) (st' := [vR (some a8), vR (some a0)]) (by rw [e]) (by rw [e]) ?_
  refine r_getI dX10_init_6 (fg1 (f := 0) fX8 (by decide) q1459 rfl) h (fun x9 h => ?_)
  refine r_put dX10_init_9 (fp1F (f := 0) fX10 (by decide) q1572 rfl rfl rfl rfl) fvI h (fun G10 h => ?_)
  refine r_aload_n dX10_init_12 rfl rfl iR ?_
  refine r_aload_n dX10_init_13 rfl rfl iR ?_
  refine r_getI dX10_init_14 (fg1 (f := 1) fX8 (by decide) q1463 rfl) h (fun x11 h => ?_)
  refine r_put dX10_init_17 (fp1F (f := 1) fX10 (by decide) q1575 rfl rfl rfl rfl) fvI h (fun G12 h => ?_)
  refine r_aload_n dX10_init_20 rfl rfl iR ?_
  refine r_iload_n dX10_init_21 rfl rfl iI ?_
  refine r_put dX10_init_22 (fp1F (f := 2) fX10 (by decide) q1578 rfl rfl rfl rfl) fvI h (fun G13 h => ?_)
  refine r_aload_n dX10_init_25 rfl rfl iR ?_
  refine r_iload_n dX10_init_26 rfl rfl iI ?_
  refine r_put dX10_init_27 (fp1F (f := 3) fX10 (by decide) q1580 rfl rfl rfl rfl) fvI h (fun G14 h => ?_)
  exact r_vret rfl dX10_init_30 ⟨rfl, h⟩
theorem c_X10_init {a0 : Nat} {a1 : Option Nat} {a2 : Int} {a3 : Int} {Q : Wd → Prop} {G : Wd} (h : f_X10_init a0 a1 a2 a3 G Q) : call yX10_init (Cond.code yX10_init cX10_init 4 (none)) 1 0 0 [vR (some a0), vR a1, vI a2, vI a3] G (qV Q) noX :=
  call.enter (by decide +kernel) (la_1 c1R (la_1 c1R (la_1 c1I (la_1 c1I (la_nil rfl))))) rfl (w_X10_init h)
abbrev m_X11_init : Mt := (yX11_init.cls, cX11_init, 4, none, [], yX11_init.name)
theorem yo_X11_init : yOK yX11_init 3 := ⟨by decide +kernel, by decide +kernel, by decide +kernel⟩
def f_X11_init (a0 : Nat) (a1 : Option Nat) (a2 : Int) (a3 : Int) (G : Wd) (Q : Wd → Prop) : Prop :=
  pF G a0 [10] 0 (vR a1) (fun G4 => pF G4 a0 [10] 1 (vI a2) (fun G5 => pF G5 a0 [10] 2 (vI a3) (fun G6 => Q G6)))
theorem w_X11_init {a0 : Nat} {Q : Wd → Prop} {a1 : Option Nat} {a2 : Int} {a3 : Int} {G : Wd} (h : f_X11_init a0 a1 a2 a3 G Q) : wp m_X11_init 1 0 0 0 [some (vR (some a0)), some (vR a1), some (vI a2), some (vI a3)] [] G (qV Q) noX := by
  unfold f_X11_init at h
  refine r_aload_n dX11_init_0 rfl rfl iR ?_
  refine r_objInit dX11_init_1 q1611 q142 q143 rc0 (by decide) (by decide) ?_
  refine r_aload_n dX11_init_4 rfl rfl iR ?_
  refine r_aload_n dX11_init_5 rfl rfl iR ?_
  refine r_put dX11_init_6 (fp1F (f := 0) fX11 (by decide) q1612 rfl rfl rfl rfl) fvO h (fun G4 h => ?_)
  refine r_aload_n dX11_init_9 rfl rfl iR ?_
  refine r_iload_n dX11_init_10 rfl rfl iI ?_
  refine r_put dX11_init_11 (fp1F (f := 1) fX11 (by decide) q1615 rfl rfl rfl rfl) fvI h (fun G5 h => ?_)
  refine r_aload_n dX11_init_14 rfl rfl iR ?_
  refine r_iload_n dX11_init_15 rfl rfl iI ?_
  refine r_put dX11_init_16 (fp1F (f := 2) fX11 (by decide) q1618 rfl rfl rfl rfl) fvI h (fun G6 h => ?_)
  exact r_vret rfl dX11_init_19 ⟨rfl, h⟩
theorem c_X11_init {a0 : Nat} {a1 : Option Nat} {a2 : Int} {a3 : Int} {Q : Wd → Prop} {G : Wd} (h : f_X11_init a0 a1 a2 a3 G Q) : call yX11_init (Cond.code yX11_init cX11_init 4 (none)) 1 0 0 [vR (some a0), vR a1, vI a2, vI a3] G (qV Q) noX :=
  call.enter (by decide +kernel) (la_1 c1R (la_1 c1R (la_1 c1I (la_1 c1I (la_nil rfl))))) rfl (w_X11_init h)
abbrev m_X2_blocksSum : Mt := (yX2_blocksSum.cls, cX2_blocksSum, 6, some .int, [], yX2_blocksSum.name)
theorem yo_X2_blocksSum : yOK yX2_blocksSum 0 := ⟨by decide +kernel, by decide +kernel, by decide +kernel⟩
def f_X2_blocksSum_13_b (a0 : Nat) (k13 : Int → Option Nat → Int → Int → Wd → Prop) (l1 : Int) (l2 : Option Nat) (l3 : Int) (l4 : Int) (G : Wd) (Q : Int → Wd → Prop) : Prop :=
  br l4 l3 (l3 ≤ l4) (Q l1 G) (nn l2 (fun a8 => ldI G a8 0 l4 (fun x9 => k13 (l1 + x9) (some a8) l3 (l4 + 1) G)))
theorem w_X2_blocksSum_13_b {a0 : Nat} {Q : Int → Wd → Prop} {k13 : Int → Option Nat → Int → Int → Wd → Prop} (hk13 : ∀ {l1 : Int} {l2 : Option Nat} {l3 : Int} {l4 : Int} {G : Wd}, k13 l1 l2 l3 l4 G → wp m_X2_blocksSum 1 0 0 13 [none, some (vI l1), some (vR l2), some (vI l3), some (vI l4), none] [] G (qI Q) noX) {l1 : Int} {l2 : Option Nat} {l3 : Int} {l4 : Int} {G : Wd} (h : f_X2_blocksSum_13_b a0 k13 l1 l2 l3 l4 G Q) : wp m_X2_blocksSum 1 0 0 13 [none, some (vI l1), some (vR l2), some (vI l3), some (vI l4), none] [] G (qI Q) noX := by
  unfold f_X2_blocksSum_13_b at h
  refine r_iload dX2_blocksSum_13 rfl iI ?_
  refine r_iload_n dX2_blocksSum_15 rfl rfl iI ?_
  refine r_icmp_ge (tgt := 36) dX2_blocksSum_16 (by decide) h (fun h => ?_) (fun h => ?_)
  · refine r_iload_n dX2_blocksSum_36 rfl rfl iI ?_
    exact r_iret rfl dX2_blocksSum_37 ⟨_, rfl, h⟩
  · refine r_aload_n dX2_blocksSum_19 rfl rfl iR ?_
    refine r_iload dX2_blocksSum_20 rfl iI ?_
    obtain ⟨a8, e, h⟩ := h
    refine wp.cast (L' := [none, some (vI l1), some (vR (some a8)), some (vI l3), some (vI l4), none]) (st' := [vI l4, vR (some a8)]) (by rw [e]) (by rw [e]) ?_
    refine r_iald dX2_blocksSum_22 h (fun x9 h => ?_)
    refine r_istore (L' := [none, some (vI l1), some (vR (some a8)), some (vI l3), some (vI l4), some (vI x9)]) dX2_blocksSum_23 rfl iI cI (by decide) ?_
    refine r_iload_n dX2_blocksSum_25 rfl rfl iI ?_
    refine r_iload dX2_blocksSum_26 rfl iI ?_
    refine r_iadd dX2_blocksSum_28 ?_
    refine r_istore_n (L' := [none, some (vI (l1 + x9)), some (vR (some a8)), some (vI l3), some (vI l4), some (vI x9)]) dX2_blocksSum_29 rfl rfl iI cN (by decide) ?_
    refine r_iinc (L' := [none, some (vI (l1 + x9)), some (vR (some a8)), some (vI l3), some (vI (l4 + 1)), some (vI x9)]) dX2_blocksSum_30 rfl rfl cI (by decide) ?_
    refine r_goto (tgt := 13) dX2_blocksSum_33 (by decide) ?_
    refine wp.locals (L' := [none, some (vI (l1 + x9)), some (vR (some a8)), some (vI l3), some (vI (l4 + 1)), none]) (ls_n (ls_s (ls_s (ls_s (ls_s (ls_n ls_0)))))) ?_
    exact hk13 h
def f_X2_blocksSum_13 (a0 : Nat) (Q : Int → Wd → Prop) : Nat → Int → Option Nat → Int → Int → Wd → Prop
  | 0, _, _, _, _, _ => False
  | fl + 1, l1, l2, l3, l4, G => f_X2_blocksSum_13_b a0  (fun l1 l2 l3 l4 G => f_X2_blocksSum_13 a0  Q fl l1 l2 l3 l4 G) l1 l2 l3 l4 G Q
theorem w_X2_blocksSum_13 {a0 : Nat} {Q : Int → Wd → Prop} : ∀ (fl : Nat) {l1 : Int} {l2 : Option Nat} {l3 : Int} {l4 : Int} {G : Wd}, f_X2_blocksSum_13 a0 Q fl l1 l2 l3 l4 G → wp m_X2_blocksSum 1 0 0 13 [none, some (vI l1), some (vR l2), some (vI l3), some (vI l4), none] [] G (qI Q) noX := by
  intro fl
  induction fl with
  | zero => intro l1 l2 l3 l4 G h; exact (show False from h).elim
  | succ fl ih => intro l1 l2 l3 l4 G h; exact w_X2_blocksSum_13_b  (fun h => ih h) h
def f_X2_blocksSum (a0 : Nat) (G : Wd) (Q : Int → Wd → Prop) : Prop :=
  gR G a0 [1] 3 (fun x10 => nn x10 (fun a11 => lnI G a11 0 (fun x12 => ∃ fl13, f_X2_blocksSum_13 a0 Q fl13 0 (some a11) x12 0 G)))
theorem w_X2_blocksSum {a0 : Nat} {Q : Int → Wd → Prop} {G : Wd} (h : f_X2_blocksSum a0 G Q) : wp m_X2_blocksSum 1 0 0 0 [some (vR (some a0)), none, none, none, none, none] [] G (qI Q) noX := by
  unfold f_X2_blocksSum at h
  refine r_iconst dX2_blocksSum_0 ?_
  refine r_istore_n (L' := [some (vR (some a0)), some (vI 0), none, none, none, none]) dX2_blocksSum_1 rfl rfl iI cR (by decide) ?_
  refine r_aload_n dX2_blocksSum_2 rfl rfl iR ?_
  refine r_getR dX2_blocksSum_3 (fg1 (f := 3) fX2 (by decide) q642 rfl) h (fun x10 h => ?_)
  refine r_astore_n (L' := [some (vR (some a0)), some (vI 0), some (vR x10), none, none, none]) dX2_blocksSum_6 rfl rfl iR cI (by decide) ?_
  refine r_aload_n dX2_blocksSum_7 rfl rfl iR ?_
  obtain ⟨a11, e, h⟩ := h
  refine wp.cast (L' := [some (vR (some a0)), some (vI 0), some (vR (some a11)), none, none, none]) (st' := [vR (some a11)]) (by rw [e]) (by rw [e]) ?_
  refine r_lenI (kd := 0) (by decide) dX2_blocksSum_8 h (fun x12 h => ?_)
  refine r_istore_n (L' := [some (vR (some a0)), some (vI 0), some (vR (some a11)), some (vI x12), none, none]) dX2_blocksSum_9 rfl rfl iI cR (by decide) ?_
  refine r_iconst dX2_blocksSum_10 ?_
  refine r_istore (L' := [some (vR (some a0)), some (vI 0), some (vR (some a11)), some (vI x12), some (vI 0), none]) dX2_blocksSum_11 rfl iI cI (by decide) ?_
  refine wp.locals (L' := [none, some (vI 0), some (vR (some a11)), some (vI x12), some (vI 0), none]) (ls_n (ls_s (ls_s (ls_s (ls_s (ls_n ls_0)))))) ?_
  obtain ⟨fl13, h⟩ := h
  exact w_X2_blocksSum_13 fl13 h
theorem c_X2_blocksSum {a0 : Nat} {Q : Int → Wd → Prop} {G : Wd} (h : f_X2_blocksSum a0 G Q) : call yX2_blocksSum (Cond.code yX2_blocksSum cX2_blocksSum 6 (some .int)) 1 0 0 [vR (some a0)] G (qI Q) noX :=
  call.enter (by decide +kernel) (la_1 c1R (la_nil rfl)) rfl (w_X2_blocksSum h)
abbrev m_X2_beTurns : Mt := (yX2_beTurns.cls, cX2_beTurns, 2, none, [], yX2_beTurns.name)
theorem yo_X2_beTurns : yOK yX2_beTurns 1 := ⟨by decide +kernel, by decide +kernel, by decide +kernel⟩
def f_X2_beTurns (a0 : Nat) (a1 : Option Nat) (G : Wd) (Q : Wd → Prop) : Prop :=
  nn a1 (fun a17 => gR G a17 [1] 4 (fun x18 => gR G a0 [1] 4 (fun x19 => nn x19 (fun a20 => nn x18 (fun a21 => cpI G a21 0 a20 0 4 (fun G22 => gR G22 a17 [1] 5 (fun x23 => gR G22 a0 [1] 5 (fun x24 => nn x24 (fun a25 => nn x23 (fun a26 => cpI G22 a26 0 a25 0 4 (fun G27 => gR G27 a17 [1] 6 (fun x28 => gR G27 a0 [1] 6 (fun x29 => nn x29 (fun a30 => nn x28 (fun a31 => cpI G27 a31 0 a30 0 4 (fun G32 => Q G32))))))))))))))))
theorem w_X2_beTurns {a0 : Nat} {Q : Wd → Prop} {a1 : Option Nat} {G : Wd} (h : f_X2_beTurns a0 a1 G Q) : wp m_X2_beTurns 1 0 0 0 [some (vR (some a0)), some (vR a1)] [] G (qV Q) noX := by
  unfold f_X2_beTurns at h
  refine r_aload_n dX2_beTurns_0 rfl rfl iR ?_
  obtain ⟨a17, e, h⟩ := h
  refine wp.cast (L' := [some (vR (some a0)), some (vR (some a17))]) (st' := [vR (some a17)]) (by rw [e]) (by rw [e]) ?_
  refine r_getR dX2_beTurns_1 (fg1 (f := 4) fX2 (by decide) q644 rfl) h (fun x18 h => ?_)
  refine r_iconst dX2_beTurns_4 ?_
  refine r_aload_n dX2_beTurns_5 rfl rfl iR ?_
  refine r_getR dX2_beTurns_6 (fg1 (f := 4) fX2 (by decide) q644 rfl) h (fun x19 h => ?_)
  refine r_iconst dX2_beTurns_9 ?_
  refine r_iconst dX2_beTurns_10 ?_
  obtain ⟨a20, e, h⟩ := h
  refine wp.cast (L' := [some (vR (some a0)), some (vR (some a17))]) (st' := [vI 4, vI 0, vR (some a20), vI 0, vR x18]) rfl (by rw [e]) ?_
  obtain ⟨a21, e, h⟩ := h
  refine wp.cast (L' := [some (vR (some a0)), some (vR (some a17))]) (st' := [vI 4, vI 0, vR (some a20), vI 0, vR (some a21)]) rfl (by rw [e]) ?_
  refine r_cpI dX2_beTurns_11 q1425 rc0 (by decide) (by decide) h (fun G22 h => ?_)
  refine r_aload_n dX2_beTurns_14 rfl rfl iR ?_
  refine r_getR dX2_beTurns_15 (fg1 (f := 5) fX2 (by decide) q646 rfl) h (fun x23 h => ?_)
  refine r_iconst dX2_beTurns_18 ?_
  refine r_aload_n dX2_beTurns_19 rfl rfl iR ?_
  refine r_getR dX2_beTurns_20 (fg1 (f := 5) fX2 (by decide) q646 rfl) h (fun x24 h => ?_)
  refine r_iconst dX2_beTurns_23 ?_
  refine r_iconst dX2_beTurns_24 ?_
  obtain ⟨a25, e, h⟩ := h
  refine wp.cast (L' := [some (vR (some a0)), some (vR (some a17))]) (st' := [vI 4, vI 0, vR (some a25), vI 0, vR x23]) rfl (by rw [e]) ?_
  obtain ⟨a26, e, h⟩ := h
  refine wp.cast (L' := [some (vR (some a0)), some (vR (some a17))]) (st' := [vI 4, vI 0, vR (some a25), vI 0, vR (some a26)]) rfl (by rw [e]) ?_
  refine r_cpI dX2_beTurns_25 q1425 rc0 (by decide) (by decide) h (fun G27 h => ?_)
  refine r_aload_n dX2_beTurns_28 rfl rfl iR ?_
  refine r_getR dX2_beTurns_29 (fg1 (f := 6) fX2 (by decide) q648 rfl) h (fun x28 h => ?_)
  refine r_iconst dX2_beTurns_32 ?_
  refine r_aload_n dX2_beTurns_33 rfl rfl iR ?_
  refine r_getR dX2_beTurns_34 (fg1 (f := 6) fX2 (by decide) q648 rfl) h (fun x29 h => ?_)
  refine r_iconst dX2_beTurns_37 ?_
  refine r_iconst dX2_beTurns_38 ?_
  obtain ⟨a30, e, h⟩ := h
  refine wp.cast (L' := [some (vR (some a0)), some (vR (some a17))]) (st' := [vI 4, vI 0, vR (some a30), vI 0, vR x28]) rfl (by rw [e]) ?_
  obtain ⟨a31, e, h⟩ := h
  refine wp.cast (L' := [some (vR (some a0)), some (vR (some a17))]) (st' := [vI 4, vI 0, vR (some a30), vI 0, vR (some a31)]) rfl (by rw [e]) ?_
  refine r_cpI dX2_beTurns_39 q1425 rc0 (by decide) (by decide) h (fun G32 h => ?_)
  exact r_vret rfl dX2_beTurns_42 ⟨rfl, h⟩
theorem c_X2_beTurns {a0 : Nat} {a1 : Option Nat} {Q : Wd → Prop} {G : Wd} (h : f_X2_beTurns a0 a1 G Q) : call yX2_beTurns (Cond.code yX2_beTurns cX2_beTurns 2 (none)) 1 0 0 [vR (some a0), vR a1] G (qV Q) noX :=
  call.enter (by decide +kernel) (la_1 c1R (la_1 c1R (la_nil rfl))) rfl (w_X2_beTurns h)
abbrev m_X2_finishPair : Mt := (yX2_finishPair.cls, cX2_finishPair, 5, none, [], yX2_finishPair.name)
theorem yo_X2_finishPair : yOK yX2_finishPair 3 := ⟨by decide +kernel, by decide +kernel, by decide +kernel⟩
def f_X2_finishPair_91 (a0 : Nat) (k n : Nat) (s0 : Option Nat) (s1 : Option Nat) (s2 : Option Nat) (s3 : Option Nat) (s4 : Int) (s5 : Int) (G : Wd) (Q : Wd → Prop) : Prop :=
  nn s2 (fun a35 => f_X10_init a35 s3 s4 s5 G (fun G36 => nn s0 (fun a37 => (∃ k39 n40, (k39 ≤ k ∧ n40 ≤ n) ∧ (isC G36 a37 12 ∧ f_J3_addLast k39 n40 a37 s1 G36 (fun G38 => Q G38))))))
theorem w_X2_finishPair_91 {a0 : Nat} {Q : Wd → Prop} {k n : Nat} {s0 : Option Nat} {s1 : Option Nat} {s2 : Option Nat} {s3 : Option Nat} {s4 : Int} {s5 : Int} {G : Wd} (h : f_X2_finishPair_91 a0 k n s0 s1 s2 s3 s4 s5 G Q) : wp m_X2_finishPair 4 k n 91 [none, none, none, none, none] [vI s5, vI s4, vR s3, vR s2, vR s1, vR s0] G (qV Q) noX := by
  unfold f_X2_finishPair_91 at h
  obtain ⟨a35, e, h⟩ := h
  refine wp.cast (L' := [none, none, none, none, none]) (st' := [vI s5, vI s4, vR s3, vR (some a35), vR s1, vR s0]) rfl (by rw [e]) ?_
  refine r_callI dX2_finishPair_91 (c_X10_init h) rfl q1568 q1569 q131 q1570 yo_X10_init rfl (by decide) (by decide) rfl (rc1 c1R (rc1 c1R rc0)) (by decide) (Nat.zero_le _) (Nat.zero_le _) (ofV fun G36 h => ?_) nox
  obtain ⟨a37, e, h⟩ := h
  refine wp.cast (L' := [none, none, none, none, none]) (st' := [vR s1, vR (some a37)]) rfl (by rw [e]) ?_
  obtain ⟨k39, n40, ⟨hk1, hn1⟩, h⟩ := h
  obtain ⟨hC, h⟩ := h
  refine r_callV dX2_finishPair_94 hC (c_J3_addLast h) q1395 q1396 q1397 q97 q1398 rfl yo_J3_addLast rfl (by decide) (by decide) rfl rc0 (by decide) hk1 hn1 (ofV fun G38 h => ?_) nox
  exact r_vret rfl dX2_finishPair_97 ⟨rfl, h⟩
def f_X2_finishPair_78 (a0 : Nat) (k n : Nat) (l2 : Option Nat) (l4 : Bool) (s0 : Option Nat) (s1 : Option Nat) (s2 : Option Nat) (s3 : Option Nat) (s4 : Int) (G : Wd) (Q : Wd → Prop) : Prop :=
  brB l4 (nn l2 (fun a41 => gI G a41 [7] 4 (fun x42 => f_X2_finishPair_91 a0 k n s0 s1 s2 s3 s4 x42 G Q))) (f_X2_finishPair_91 a0 k n s0 s1 s2 s3 s4 0 G Q)
theorem w_X2_finishPair_78 {a0 : Nat} {Q : Wd → Prop} {k n : Nat} {l2 : Option Nat} {l4 : Bool} {s0 : Option Nat} {s1 : Option Nat} {s2 : Option Nat} {s3 : Option Nat} {s4 : Int} {G : Wd} (h : f_X2_finishPair_78 a0 k n l2 l4 s0 s1 s2 s3 s4 G Q) : wp m_X2_finishPair 4 k n 78 [none, none, some (vR l2), none, some (vB l4)] [vI s4, vR s3, vR s2, vR s1, vR s0] G (qV Q) noX := by
  unfold f_X2_finishPair_78 at h
  refine r_iload dX2_finishPair_78 rfl iB ?_
  refine r_ifZ_eq (tgt := 90) dX2_finishPair_80 (by decide) h (fun h => ?_) (fun h => ?_)
  · refine r_iconst dX2_finishPair_90 ?_
    refine wp.locals (L' := [none, none, none, none, none]) (ls_n (ls_n (ls_n (ls_n (ls_n ls_0))))) ?_
    exact w_X2_finishPair_91 h
  · refine r_aload_n dX2_finishPair_83 rfl rfl iR ?_
    obtain ⟨a41, e, h⟩ := h
    refine wp.cast (L' := [none, none, some (vR (some a41)), none, some (vB l4)]) (st' := [vR (some a41), vI s4, vR s3, vR s2, vR s1, vR s0]) (by rw [e]) (by rw [e]) ?_
    refine r_getI dX2_finishPair_84 (fg1 (f := 4) fX8 (by decide) q1476 rfl) h (fun x42 h => ?_)
    refine r_goto (tgt := 91) dX2_finishPair_87 (by decide) ?_
    refine wp.locals (L' := [none, none, none, none, none]) (ls_n (ls_n (ls_n (ls_n (ls_n ls_0))))) ?_
    exact w_X2_finishPair_91 h
def f_X2_finishPair_52 (a0 : Nat) (k n : Nat) (l2 : Option Nat) (l3 : Int) (l4 : Bool) (s0 : Option Nat) (s1 : Option Nat) (s2 : Option Nat) (s3 : Option Nat) (s4 : Int) (G : Wd) (Q : Wd → Prop) : Prop :=
  nn s2 (fun a43 => f_X10_init a43 s3 s4 l3 G (fun G44 => nn s0 (fun a45 => (∃ k47 n48, (k47 ≤ k ∧ n48 ≤ n) ∧ (isC G44 a45 12 ∧ f_J3_addLast k47 n48 a45 s1 G44 (fun G46 => gR G46 a0 [1] 2 (fun x49 => nO G46 (k - k47) (n - n48) 9 4 zX10 (fun a50 G51 => brB l4 (f_X2_finishPair_78 a0 ((k - k47) - 1) ((n - n48) - 4) l2 l4 x49 (some a50) (some a50) l2 0 G51 Q) (f_X2_finishPair_78 a0 ((k - k47) - 1) ((n - n48) - 4) l2 l4 x49 (some a50) (some a50) l2 3 G51 Q)))))))))
theorem w_X2_finishPair_52 {a0 : Nat} {Q : Wd → Prop} {k n : Nat} {l2 : Option Nat} {l3 : Int} {l4 : Bool} {s0 : Option Nat} {s1 : Option Nat} {s2 : Option Nat} {s3 : Option Nat} {s4 : Int} {G : Wd} (h : f_X2_finishPair_52 a0 k n l2 l3 l4 s0 s1 s2 s3 s4 G Q) : wp m_X2_finishPair 4 k n 52 [some (vR (some a0)), none, some (vR l2), some (vI l3), some (vB l4)] [vI s4, vR s3, vR s2, vR s1, vR s0] G (qV Q) noX := by
  unfold f_X2_finishPair_52 at h
  refine r_iload_n dX2_finishPair_52 rfl rfl iI ?_
  obtain ⟨a43, e, h⟩ := h
  refine wp.cast (L' := [some (vR (some a0)), none, some (vR l2), some (vI l3), some (vB l4)]) (st' := [vI l3, vI s4, vR s3, vR (some a43), vR s1, vR s0]) rfl (by rw [e]) ?_
  refine r_callI dX2_finishPair_53 (c_X10_init h) rfl q1568 q1569 q131 q1570 yo_X10_init rfl (by decide) (by decide) rfl (rc1 c1R (rc1 c1R rc0)) (by decide) (Nat.zero_le _) (Nat.zero_le _) (ofV fun G44 h => ?_) nox
  obtain ⟨a45, e, h⟩ := h
  refine wp.cast (L' := [some (vR (some a0)), none, some (vR l2), some (vI l3), some (vB l4)]) (st' := [vR s1, vR (some a45)]) rfl (by rw [e]) ?_
  obtain ⟨k47, n48, ⟨hk1, hn1⟩, h⟩ := h
  obtain ⟨hC, h⟩ := h
  refine r_callV dX2_finishPair_56 hC (c_J3_addLast h) q1395 q1396 q1397 q97 q1398 rfl yo_J3_addLast rfl (by decide) (by decide) rfl rc0 (by decide) hk1 hn1 (ofV fun G46 h => ?_) nox
  refine r_aload_n dX2_finishPair_59 rfl rfl iR ?_
  refine r_getR dX2_finishPair_60 (fg1 (f := 2) fX2 (by decide) q640 rfl) h (fun x49 h => ?_)
  refine r_new dX2_finishPair_63 fX10 q1424 q1567 q131 dfX10 h (fun a50 G51 h => ?_)
  refine r_dup dX2_finishPair_66 c1R ?_
  refine r_aload_n dX2_finishPair_67 rfl rfl iR ?_
  refine r_iload dX2_finishPair_68 rfl iB ?_
  refine r_ifZ_eq (tgt := 77) dX2_finishPair_70 (by decide) h (fun h => ?_) (fun h => ?_)
  · refine r_iconst dX2_finishPair_77 ?_
    refine wp.locals (L' := [none, none, some (vR l2), none, some (vB l4)]) (ls_n (ls_n (ls_s (ls_n (ls_s ls_0))))) ?_
    exact w_X2_finishPair_78 h
  · refine r_iconst dX2_finishPair_73 ?_
    refine r_goto (tgt := 78) dX2_finishPair_74 (by decide) ?_
    refine wp.locals (L' := [none, none, some (vR l2), none, some (vB l4)]) (ls_n (ls_n (ls_s (ls_n (ls_s ls_0))))) ?_
    exact w_X2_finishPair_78 h
def f_X2_finishPair_33 (a0 : Nat) (k n : Nat) (l1 : Option Nat) (l2 : Option Nat) (l3 : Int) (l4 : Bool) (G : Wd) (Q : Wd → Prop) : Prop :=
  gR G a0 [1] 2 (fun x52 => nO G k n 9 4 zX10 (fun a53 G54 => brB l4 (f_X2_finishPair_52 a0 (k - 1) (n - 4) l2 l3 l4 x52 (some a53) (some a53) l1 0 G54 Q) (f_X2_finishPair_52 a0 (k - 1) (n - 4) l2 l3 l4 x52 (some a53) (some a53) l1 2 G54 Q)))
theorem w_X2_finishPair_33 {a0 : Nat} {Q : Wd → Prop} {k n : Nat} {l1 : Option Nat} {l2 : Option Nat} {l3 : Int} {l4 : Bool} {G : Wd} (h : f_X2_finishPair_33 a0 k n l1 l2 l3 l4 G Q) : wp m_X2_finishPair 4 k n 33 [some (vR (some a0)), some (vR l1), some (vR l2), some (vI l3), some (vB l4)] [] G (qV Q) noX := by
  unfold f_X2_finishPair_33 at h
  refine r_aload_n dX2_finishPair_33 rfl rfl iR ?_
  refine r_getR dX2_finishPair_34 (fg1 (f := 2) fX2 (by decide) q640 rfl) h (fun x52 h => ?_)
  refine r_new dX2_finishPair_37 fX10 q1424 q1567 q131 dfX10 h (fun a53 G54 h => ?_)
  refine r_dup dX2_finishPair_40 c1R ?_
  refine r_aload_n dX2_finishPair_41 rfl rfl iR ?_
  refine r_iload dX2_finishPair_42 rfl iB ?_
  refine r_ifZ_eq (tgt := 51) dX2_finishPair_44 (by decide) h (fun h => ?_) (fun h => ?_)
  · refine r_iconst dX2_finishPair_51 ?_
    refine wp.locals (L' := [some (vR (some a0)), none, some (vR l2), some (vI l3), some (vB l4)]) (ls_s (ls_n (ls_s (ls_s (ls_s ls_0))))) ?_
    exact w_X2_finishPair_52 h
  · refine r_iconst dX2_finishPair_47 ?_
    refine r_goto (tgt := 52) dX2_finishPair_48 (by decide) ?_
    refine wp.locals (L' := [some (vR (some a0)), none, some (vR l2), some (vI l3), some (vB l4)]) (ls_s (ls_n (ls_s (ls_s (ls_s ls_0))))) ?_
    exact w_X2_finishPair_52 h
def f_X2_finishPair_13 (a0 : Nat) (k n : Nat) (l1 : Option Nat) (l2 : Option Nat) (l3 : Int) (s0 : Bool) (G : Wd) (Q : Wd → Prop) : Prop :=
  brB s0 (gR G a0 [1] 3 (fun x55 => nn l2 (fun a56 => gI G a56 [7] 3 (fun x57 => gI G a56 [7] 4 (fun x58 => nn x55 (fun a59 => (stI G a59 0 x57 x58 (fun G60 => f_X2_finishPair_33 a0 k n l1 (some a56) l3 s0 G60 Q)))))))) (f_X2_finishPair_33 a0 k n l1 l2 l3 s0 G Q)
theorem w_X2_finishPair_13 {a0 : Nat} {Q : Wd → Prop} {k n : Nat} {l1 : Option Nat} {l2 : Option Nat} {l3 : Int} {s0 : Bool} {G : Wd} (h : f_X2_finishPair_13 a0 k n l1 l2 l3 s0 G Q) : wp m_X2_finishPair 4 k n 13 [some (vR (some a0)), some (vR l1), some (vR l2), some (vI l3), none] [vB s0] G (qV Q) noX := by
  unfold f_X2_finishPair_13 at h
  refine r_istore (L' := [some (vR (some a0)), some (vR l1), some (vR l2), some (vI l3), some (vB s0)]) dX2_finishPair_13 rfl iB cI (by decide) ?_
  refine r_iload dX2_finishPair_15 rfl iB ?_
  refine r_ifZ_eq (tgt := 33) dX2_finishPair_17 (by decide) h (fun h => ?_) (fun h => ?_)
  · exact w_X2_finishPair_33 h
  · refine r_aload_n dX2_finishPair_20 rfl rfl iR ?_
    refine r_getR dX2_finishPair_21 (fg1 (f := 3) fX2 (by decide) q642 rfl) h (fun x55 h => ?_)
    refine r_aload_n dX2_finishPair_24 rfl rfl iR ?_
    obtain ⟨a56, e, h⟩ := h
    refine wp.cast (L' := [some (vR (some a0)), some (vR l1), some (vR (some a56)), some (vI l3), some (vB s0)]) (st' := [vR (some a56), vR x55]) (by rw [e]) (by rw [e]) ?_
    refine r_getI dX2_finishPair_25 (fg1 (f := 3) fX8 (by decide) q1472 rfl) h (fun x57 h => ?_)
    refine r_aload_n dX2_finishPair_28 rfl rfl iR ?_
    refine r_getI dX2_finishPair_29 (fg1 (f := 4) fX8 (by decide) q1476 rfl) h (fun x58 h => ?_)
    obtain ⟨a59, e, h⟩ := h
    refine wp.cast (L' := [some (vR (some a0)), some (vR l1), some (vR (some a56)), some (vI l3), some (vB s0)]) (st' := [vI x58, vI x57, vR (some a59)]) rfl (by rw [e]) ?_
    refine r_iast dX2_finishPair_32 h (fun G60 h => ?_)
    exact w_X2_finishPair_33 h
def f_X2_finishPair (k n : Nat) (a0 : Nat) (a1 : Option Nat) (a2 : Option Nat) (a3 : Int) (G : Wd) (Q : Wd → Prop) : Prop :=
  nn a1 (fun a61 => gI G a61 [7] 4 (fun x62 => br a3 x62 (¬ a3 = x62) (f_X2_finishPair_13 a0 k n (some a61) a2 a3 false G Q) (f_X2_finishPair_13 a0 k n (some a61) a2 a3 true G Q)))
theorem w_X2_finishPair {a0 : Nat} {Q : Wd → Prop} {k n : Nat} {a1 : Option Nat} {a2 : Option Nat} {a3 : Int} {G : Wd} (h : f_X2_finishPair k n a0 a1 a2 a3 G Q) : wp m_X2_finishPair 4 k n 0 [some (vR (some a0)), some (vR a1), some (vR a2), some (vI a3), none] [] G (qV Q) noX := by
  unfold f_X2_finishPair at h
  refine r_iload_n dX2_finishPair_0 rfl rfl iI ?_
  refine r_aload_n dX2_finishPair_1 rfl rfl iR ?_
  obtain ⟨a61, e, h⟩ := h
  refine wp.cast (L' := [some (vR (some a0)), some (vR (some a61)), some (vR a2), some (vI a3), none]) (st' := [vR (some a61), vI a3]) (by rw [e]) (by rw [e]) ?_
  refine r_getI dX2_finishPair_2 (fg1 (f := 4) fX8 (by decide) q1476 rfl) h (fun x62 h => ?_)
  refine r_icmp_ne (tgt := 12) dX2_finishPair_5 (by decide) h (fun h => ?_) (fun h => ?_)
  · refine r_iconst dX2_finishPair_12 ?_
    refine wp.cast (st' := [vB false]) rfl (congrArg (fun q => [q]) vI0) ?_
    exact w_X2_finishPair_13 h
  · refine r_iconst dX2_finishPair_8 ?_
    refine r_goto (tgt := 13) dX2_finishPair_9 (by decide) ?_
    refine wp.cast (st' := [vB true]) rfl (congrArg (fun q => [q]) vI1) ?_
    exact w_X2_finishPair_13 h
theorem c_X2_finishPair {a0 : Nat} {a1 : Option Nat} {a2 : Option Nat} {a3 : Int} {k n : Nat} {Q : Wd → Prop} {G : Wd} (h : f_X2_finishPair k n a0 a1 a2 a3 G Q) : call yX2_finishPair (Cond.code yX2_finishPair cX2_finishPair 5 (none)) 4 k n [vR (some a0), vR a1, vR a2, vI a3] G (qV Q) noX :=
  call.enter (by decide +kernel) (la_1 c1R (la_1 c1R (la_1 c1R (la_1 c1I (la_nil rfl))))) rfl (w_X2_finishPair h)
abbrev m_X2_nextOf : Mt := (yX2_nextOf.cls, cX2_nextOf, 2, some (.object "QueueDrive$Command"), [], yX2_nextOf.name)
theorem yo_X2_nextOf : yOK yX2_nextOf 1 := ⟨by decide +kernel, by decide +kernel, by decide +kernel⟩
def f_X2_nextOf (a0 : Nat) (a1 : Option Nat) (G : Wd) (Q : Option Nat → Wd → Prop) : Prop :=
  nn a1 (fun a15 => gI G a15 [2] 10 (fun x16 => pF G a15 [2] 10 (vI (x16 + 1)) (fun G17 => gI G17 a0 [1] 13 (fun x18 => pF G17 a0 [1] 13 (vI (x18 + 1)) (fun G19 => gR G19 a0 [1] 7 (fun x20 => gI G19 a15 [2] 6 (fun x21 => nn x20 (fun a22 => ldI G19 a22 0 x21 (fun x23 => (stI G19 a22 0 x21 (x23 + 1) (fun G24 => gR G24 a15 [2] 1 (fun x25 => nn x25 (fun a26 => (isC G24 a26 13 ∧ f_J4_pollFirst a26  G24 (fun x28 G27 => cst G27 x28 [7] (Q x28 G27))))))))))))))))
theorem w_X2_nextOf {a0 : Nat} {Q : Option Nat → Wd → Prop} {a1 : Option Nat} {G : Wd} (h : f_X2_nextOf a0 a1 G Q) : wp m_X2_nextOf 3 0 0 0 [some (vR (some a0)), some (vR a1)] [] G (qR Q) noX := by
  unfold f_X2_nextOf at h
  refine r_aload_n dX2_nextOf_0 rfl rfl iR ?_
  refine r_dup dX2_nextOf_1 c1R ?_
  obtain ⟨a15, e, h⟩ := h
  refine wp.cast (L' := [some (vR (some a0)), some (vR (some a15))]) (st' := [vR (some a15), vR (some a15)]) (by rw [e]) (by rw [e]) ?_
  refine r_getI dX2_nextOf_2 (fg1 (f := 10) fX3 (by decide) q581 rfl) h (fun x16 h => ?_)
  refine r_iconst dX2_nextOf_5 ?_
  refine r_iadd dX2_nextOf_6 ?_
  refine r_put dX2_nextOf_7 (fp1 (f := 10) fX3 (by decide) q581 rfl rfl rfl) fvI h (fun G17 h => ?_)
  refine r_aload_n dX2_nextOf_10 rfl rfl iR ?_
  refine r_dup dX2_nextOf_11 c1R ?_
  refine r_getI dX2_nextOf_12 (fg1 (f := 13) fX2 (by decide) q662 rfl) h (fun x18 h => ?_)
  refine r_iconst dX2_nextOf_15 ?_
  refine r_iadd dX2_nextOf_16 ?_
  refine r_put dX2_nextOf_17 (fp1 (f := 13) fX2 (by decide) q662 rfl rfl rfl) fvI h (fun G19 h => ?_)
  refine r_aload_n dX2_nextOf_20 rfl rfl iR ?_
  refine r_getR dX2_nextOf_21 (fg1 (f := 7) fX2 (by decide) q649 rfl) h (fun x20 h => ?_)
  refine r_aload_n dX2_nextOf_24 rfl rfl iR ?_
  refine r_getI dX2_nextOf_25 (fg1 (f := 6) fX3 (by decide) q568 rfl) h (fun x21 h => ?_)
  refine r_dup2 dX2_nextOf_28 c1I c1R ?_
  obtain ⟨a22, e, h⟩ := h
  refine wp.cast (L' := [some (vR (some a0)), some (vR (some a15))]) (st' := [vI x21, vR (some a22), vI x21, vR (some a22)]) rfl (by rw [e]) ?_
  refine r_iald dX2_nextOf_29 h (fun x23 h => ?_)
  refine r_iconst dX2_nextOf_30 ?_
  refine r_iadd dX2_nextOf_31 ?_
  refine r_iast dX2_nextOf_32 h (fun G24 h => ?_)
  refine r_aload_n dX2_nextOf_33 rfl rfl iR ?_
  refine r_getR dX2_nextOf_34 (fg1 (f := 1) fX3 (by decide) q557 rfl) h (fun x25 h => ?_)
  obtain ⟨a26, e, h⟩ := h
  refine wp.cast (L' := [some (vR (some a0)), some (vR (some a15))]) (st' := [vR (some a26)]) rfl (by rw [e]) ?_
  obtain ⟨hC, h⟩ := h
  refine r_callV dX2_nextOf_37 hC (c_J4_pollFirst h) q1730 q1731 q1732 q99 q1733 rfl yo_J4_pollFirst rfl (by decide) (by decide) rfl rc0 (by decide) (Nat.zero_le _) (Nat.zero_le _) (ofR fun x28 G27 h => ?_) nox
  refine r_ccast (ci := 7) dX2_nextOf_40 q1737 rfl h (fun h => ?_)
  exact r_aret rtO dX2_nextOf_43 ⟨_, rfl, h⟩
theorem c_X2_nextOf {a0 : Nat} {a1 : Option Nat} {Q : Option Nat → Wd → Prop} {G : Wd} (h : f_X2_nextOf a0 a1 G Q) : call yX2_nextOf (Cond.code yX2_nextOf cX2_nextOf 2 (some (.object "QueueDrive$Command"))) 3 0 0 [vR (some a0), vR a1] G (qR Q) noX :=
  call.enter (by decide +kernel) (la_1 c1R (la_1 c1R (la_nil rfl))) rfl (w_X2_nextOf h)
abbrev m_X2_timeOf : Mt := (yX2_timeOf.cls, cX2_timeOf, 5, some .int, [], yX2_timeOf.name)
theorem yo_X2_timeOf : yOK yX2_timeOf 3 := ⟨by decide +kernel, by decide +kernel, by decide +kernel⟩
def f_X2_timeOf_28 (a0 : Nat) (k n : Nat) (s0 : Int) (G : Wd) (Q : Int → Wd → Prop) : Prop :=
  ((R32 9 ∧ R32 s0) ∧ ((R32 1 ∧ R32 (min 9 s0)) ∧ Q (max 1 (min 9 s0)) G))
theorem w_X2_timeOf_28 {a0 : Nat} {Q : Int → Wd → Prop} {k n : Nat} {s0 : Int} {G : Wd} (h : f_X2_timeOf_28 a0 k n s0 G Q) : wp m_X2_timeOf 221 k n 28 [none, none, none, none, none] [vI s0] G (qI Q) noX := by
  unfold f_X2_timeOf_28 at h
  refine r_istore (L' := [none, none, none, none, some (vI s0)]) dX2_timeOf_28 rfl iI cN (by decide) ?_
  refine r_iconst dX2_timeOf_30 ?_
  refine r_bipush dX2_timeOf_31 (by decide) ?_
  refine r_iload dX2_timeOf_33 rfl iI ?_
  refine r_mmin dX2_timeOf_35 q1751 (rc1 c1I rc0) (by decide) (by decide) h (fun h => ?_)
  refine r_mmax dX2_timeOf_38 q1752 rc0 (by decide) (by decide) h (fun h => ?_)
  exact r_iret rfl dX2_timeOf_41 ⟨_, rfl, h⟩
def f_X2_timeOf_17 (a0 : Nat) (k n : Nat) (s0 : Bool) (s1 : Bool) (G : Wd) (Q : Int → Wd → Prop) : Prop :=
  f_X2_timeOf_28 a0 k n ((b2i s0) + (b2i s1)) G Q
theorem w_X2_timeOf_17 {a0 : Nat} {Q : Int → Wd → Prop} {k n : Nat} {s0 : Bool} {s1 : Bool} {G : Wd} (h : f_X2_timeOf_17 a0 k n s0 s1 G Q) : wp m_X2_timeOf 221 k n 17 [none, none, none, none, none] [vB s1, vB s0] G (qI Q) noX := by
  unfold f_X2_timeOf_17 at h
  refine wp.cast (st' := [vI (b2i s1), vB s0]) rfl (congrArg (fun q => [q, vB s0]) (vBI s1)) ?_
  refine wp.cast (st' := [vI (b2i s1), vI (b2i s0)]) rfl (congrArg (fun q => [vI (b2i s1), q]) (vBI s0)) ?_
  refine r_iadd dX2_timeOf_17 ?_
  refine r_goto (tgt := 28) dX2_timeOf_18 (by decide) ?_
  exact w_X2_timeOf_28 h
def f_X2_timeOf (k n : Nat) (a0 : Nat) (a1 : Option Nat) (a2 : Option Nat) (a3 : Option Nat) (G : Wd) (Q : Int → Wd → Prop) : Prop :=
  brN a1 (nn a2 (fun a13 => gI G a13 [7] 2 (fun x14 => br0 x14 (x14 ≤ 0) (f_X2_timeOf_17 a0 k n true false G Q) (f_X2_timeOf_17 a0 k n true true G Q)))) (fun a8 => (∃ k10 n11, (k10 ≤ k ∧ n11 ≤ n) ∧ (isC G a8 6 ∧ f_X7_of k10 n11 a8 (some a0) a2 a3 G (fun x12 G9 => f_X2_timeOf_28 a0 (k - k10) (n - n11) x12 G9 Q))))
theorem w_X2_timeOf {a0 : Nat} {Q : Int → Wd → Prop} {k n : Nat} {a1 : Option Nat} {a2 : Option Nat} {a3 : Option Nat} {G : Wd} (h : f_X2_timeOf k n a0 a1 a2 a3 G Q) : wp m_X2_timeOf 221 k n 0 [some (vR (some a0)), some (vR a1), some (vR a2), some (vR a3), none] [] G (qI Q) noX := by
  unfold f_X2_timeOf at h
  refine r_aload_n dX2_timeOf_0 rfl rfl iR ?_
  refine r_ifnonnullV (tgt := 21) dX2_timeOf_1 (by decide) h (fun a8 e h => ?_) (fun e h => ?_)
  · refine wp.cast (L' := [some (vR (some a0)), some (vR (some a8)), some (vR a2), some (vR a3), none]) (st' := []) (by rw [e]) rfl ?_
    refine r_aload_n dX2_timeOf_21 rfl rfl iR ?_
    refine r_aload_n dX2_timeOf_22 rfl rfl iR ?_
    refine r_aload_n dX2_timeOf_23 rfl rfl iR ?_
    refine r_aload_n dX2_timeOf_24 rfl rfl iR ?_
    obtain ⟨k10, n11, ⟨hk1, hn1⟩, h⟩ := h
    obtain ⟨hC, h⟩ := h
    refine r_callVX dX2_timeOf_25 hC (c_X7_of h) q1746 q1747 q1748 q121 q1749 rfl yo_X7_of rfl (by decide) (by decide) rfl rc0 (by decide) hk1 hn1 (ofI fun x12 G9 h => ?_) nox
    refine wp.locals (L' := [none, none, none, none, none]) (ls_n (ls_n (ls_n (ls_n (ls_n ls_0))))) ?_
    exact w_X2_timeOf_28 h
  · refine wp.cast (L' := [some (vR (some a0)), some (vR none), some (vR a2), some (vR a3), none]) (st' := []) (by rw [e]) rfl ?_
    refine r_iconst dX2_timeOf_4 ?_
    refine r_aload_n dX2_timeOf_5 rfl rfl iR ?_
    obtain ⟨a13, e, h⟩ := h
    refine wp.cast (L' := [some (vR (some a0)), some (vR none), some (vR (some a13)), some (vR a3), none]) (st' := [vR (some a13), vI 1]) (by rw [e]) (by rw [e]) ?_
    refine r_getI dX2_timeOf_6 (fg1 (f := 2) fX8 (by decide) q1468 rfl) h (fun x14 h => ?_)
    refine r_if_le (tgt := 16) dX2_timeOf_9 (by decide) h (fun h => ?_) (fun h => ?_)
    · refine r_iconst dX2_timeOf_16 ?_
      refine wp.cast (st' := [vB false, vI 1]) rfl (congrArg (fun q => [q, vI 1]) vI0) ?_
      refine wp.cast (st' := [vB false, vB true]) rfl (congrArg (fun q => [vB false, q]) vI1) ?_
      refine wp.locals (L' := [none, none, none, none, none]) (ls_n (ls_n (ls_n (ls_n (ls_n ls_0))))) ?_
      exact w_X2_timeOf_17 h
    · refine r_iconst dX2_timeOf_12 ?_
      refine r_goto (tgt := 17) dX2_timeOf_13 (by decide) ?_
      refine wp.cast (st' := [vB true, vI 1]) rfl (congrArg (fun q => [q, vI 1]) vI1) ?_
      refine wp.cast (st' := [vB true, vB true]) rfl (congrArg (fun q => [vB true, q]) vI1) ?_
      refine wp.locals (L' := [none, none, none, none, none]) (ls_n (ls_n (ls_n (ls_n (ls_n ls_0))))) ?_
      exact w_X2_timeOf_17 h
theorem c_X2_timeOf {a0 : Nat} {a1 : Option Nat} {a2 : Option Nat} {a3 : Option Nat} {k n : Nat} {Q : Int → Wd → Prop} {G : Wd} (h : f_X2_timeOf k n a0 a1 a2 a3 G Q) : call yX2_timeOf (Cond.code yX2_timeOf cX2_timeOf 5 (some .int)) 221 k n [vR (some a0), vR a1, vR a2, vR a3] G (qI Q) noX :=
  call.enter (by decide +kernel) (la_1 c1R (la_1 c1R (la_1 c1R (la_1 c1R (la_nil rfl))))) rfl (w_X2_timeOf h)
abbrev m_X2_inRings : Mt := (yX2_inRings.cls, cX2_inRings, 3, some .int, [], yX2_inRings.name)
theorem yo_X2_inRings : yOK yX2_inRings 0 := ⟨by decide +kernel, by decide +kernel, by decide +kernel⟩
def f_X2_inRings_4_b (a0 : Nat) (k4 : Int → Int → Wd → Prop) (l1 : Int) (l2 : Int) (G : Wd) (Q : Int → Wd → Prop) : Prop :=
  gI G a0 [1] 8 (fun x19 => br l2 x19 (x19 ≤ l2) (Q l1 G) (gR G a0 [1] 0 (fun x20 => nn x20 (fun a21 => ldR G a21 7 l2 (fun x22 => nn x22 (fun a23 => gR G a23 [2] 1 (fun x24 => nn x24 (fun a25 => (isC G a25 13 ∧ f_J4_size a25  G (fun x27 G26 => k4 (l1 + x27) (l2 + 1) G26))))))))))
theorem w_X2_inRings_4_b {a0 : Nat} {Q : Int → Wd → Prop} {k4 : Int → Int → Wd → Prop} (hk4 : ∀ {l1 : Int} {l2 : Int} {G : Wd}, k4 l1 l2 G → wp m_X2_inRings 3 0 0 4 [some (vR (some a0)), some (vI l1), some (vI l2)] [] G (qI Q) noX) {l1 : Int} {l2 : Int} {G : Wd} (h : f_X2_inRings_4_b a0 k4 l1 l2 G Q) : wp m_X2_inRings 3 0 0 4 [some (vR (some a0)), some (vI l1), some (vI l2)] [] G (qI Q) noX := by
  unfold f_X2_inRings_4_b at h
  refine r_iload_n dX2_inRings_4 rfl rfl iI ?_
  refine r_aload_n dX2_inRings_5 rfl rfl iR ?_
  refine r_getI dX2_inRings_6 (fg1 (f := 8) fX2 (by decide) q651 rfl) h (fun x19 h => ?_)
  refine r_icmp_ge (tgt := 33) dX2_inRings_9 (by decide) h (fun h => ?_) (fun h => ?_)
  · refine r_iload_n dX2_inRings_33 rfl rfl iI ?_
    exact r_iret rfl dX2_inRings_34 ⟨_, rfl, h⟩
  · refine r_iload_n dX2_inRings_12 rfl rfl iI ?_
    refine r_aload_n dX2_inRings_13 rfl rfl iR ?_
    refine r_getR dX2_inRings_14 (fg1 (f := 0) fX2 (by decide) q635 rfl) h (fun x20 h => ?_)
    refine r_iload_n dX2_inRings_17 rfl rfl iI ?_
    obtain ⟨a21, e, h⟩ := h
    refine wp.cast (L' := [some (vR (some a0)), some (vI l1), some (vI l2)]) (st' := [vI l2, vR (some a21), vI l1]) rfl (by rw [e]) ?_
    refine r_aald dX2_inRings_18 (by decide) (by decide) h (fun x22 h => ?_)
    obtain ⟨a23, e, h⟩ := h
    refine wp.cast (L' := [some (vR (some a0)), some (vI l1), some (vI l2)]) (st' := [vR (some a23), vI l1]) rfl (by rw [e]) ?_
    refine r_getR dX2_inRings_19 (fg1 (f := 1) fX3 (by decide) q557 rfl) h (fun x24 h => ?_)
    obtain ⟨a25, e, h⟩ := h
    refine wp.cast (L' := [some (vR (some a0)), some (vI l1), some (vI l2)]) (st' := [vR (some a25), vI l1]) rfl (by rw [e]) ?_
    obtain ⟨hC, h⟩ := h
    refine r_callV dX2_inRings_22 hC (c_J4_size h) q1836 q1095 q1096 q99 q1097 rfl yo_J4_size rfl (by decide) (by decide) rfl (rc1 c1I rc0) (by decide) (Nat.zero_le _) (Nat.zero_le _) (ofI fun x27 G26 h => ?_) nox
    refine r_iadd dX2_inRings_25 ?_
    refine r_istore_n (L' := [some (vR (some a0)), some (vI (l1 + x27)), some (vI l2)]) dX2_inRings_26 rfl rfl iI cR (by decide) ?_
    refine r_iinc (L' := [some (vR (some a0)), some (vI (l1 + x27)), some (vI (l2 + 1))]) dX2_inRings_27 rfl rfl cI (by decide) ?_
    refine r_goto (tgt := 4) dX2_inRings_30 (by decide) ?_
    exact hk4 h
def f_X2_inRings_4 (a0 : Nat) (Q : Int → Wd → Prop) : Nat → Int → Int → Wd → Prop
  | 0, _, _, _ => False
  | fl + 1, l1, l2, G => f_X2_inRings_4_b a0  (fun l1 l2 G => f_X2_inRings_4 a0  Q fl l1 l2 G) l1 l2 G Q
theorem w_X2_inRings_4 {a0 : Nat} {Q : Int → Wd → Prop} : ∀ (fl : Nat) {l1 : Int} {l2 : Int} {G : Wd}, f_X2_inRings_4 a0 Q fl l1 l2 G → wp m_X2_inRings 3 0 0 4 [some (vR (some a0)), some (vI l1), some (vI l2)] [] G (qI Q) noX := by
  intro fl
  induction fl with
  | zero => intro l1 l2 G h; exact (show False from h).elim
  | succ fl ih => intro l1 l2 G h; exact w_X2_inRings_4_b  (fun h => ih h) h
def f_X2_inRings (a0 : Nat) (G : Wd) (Q : Int → Wd → Prop) : Prop :=
  ∃ fl28, f_X2_inRings_4 a0 Q fl28 0 0 G
theorem w_X2_inRings {a0 : Nat} {Q : Int → Wd → Prop} {G : Wd} (h : f_X2_inRings a0 G Q) : wp m_X2_inRings 3 0 0 0 [some (vR (some a0)), none, none] [] G (qI Q) noX := by
  unfold f_X2_inRings at h
  refine r_iconst dX2_inRings_0 ?_
  refine r_istore_n (L' := [some (vR (some a0)), some (vI 0), none]) dX2_inRings_1 rfl rfl iI cR (by decide) ?_
  refine r_iconst dX2_inRings_2 ?_
  refine r_istore_n (L' := [some (vR (some a0)), some (vI 0), some (vI 0)]) dX2_inRings_3 rfl rfl iI cI (by decide) ?_
  obtain ⟨fl28, h⟩ := h
  exact w_X2_inRings_4 fl28 h
theorem c_X2_inRings {a0 : Nat} {Q : Int → Wd → Prop} {G : Wd} (h : f_X2_inRings a0 G Q) : call yX2_inRings (Cond.code yX2_inRings cX2_inRings 3 (some .int)) 3 0 0 [vR (some a0)] G (qI Q) noX :=
  call.enter (by decide +kernel) (la_1 c1R (la_nil rfl)) rfl (w_X2_inRings h)
abbrev m_X2_inWork : Mt := (yX2_inWork.cls, cX2_inWork, 4, some .int, [], yX2_inWork.name)
theorem yo_X2_inWork : yOK yX2_inWork 0 := ⟨by decide +kernel, by decide +kernel, by decide +kernel⟩
def f_X2_inWork_42 (a0 : Nat) (k10 : Nat → Nat → Int → Option Nat → Wd → Prop) (k n : Nat) (l2 : Option Nat) (s0 : Int) (s1 : Int) (G : Wd) (Q : Int → Wd → Prop) : Prop :=
  k10 k n (s0 + s1) l2 G
theorem w_X2_inWork_42 {a0 : Nat} {Q : Int → Wd → Prop} {k10 : Nat → Nat → Int → Option Nat → Wd → Prop} (hk10 : ∀ {k n : Nat} {l1 : Int} {l2 : Option Nat} {G : Wd}, k10 k n l1 l2 G → wp m_X2_inWork 6 k n 10 [none, some (vI l1), some (vR l2), none] [] G (qI Q) noX) {k n : Nat} {l2 : Option Nat} {s0 : Int} {s1 : Int} {G : Wd} (h : f_X2_inWork_42 a0 k10 k n l2 s0 s1 G Q) : wp m_X2_inWork 6 k n 42 [none, none, some (vR l2), none] [vI s1, vI s0] G (qI Q) noX := by
  unfold f_X2_inWork_42 at h
  refine r_iadd dX2_inWork_42 ?_
  refine r_istore_n (L' := [none, some (vI (s0 + s1)), some (vR l2), none]) dX2_inWork_43 rfl rfl iI cN (by decide) ?_
  refine r_goto (tgt := 10) dX2_inWork_44 (by decide) ?_
  exact hk10 h
def f_X2_inWork_10_b (a0 : Nat) (k10 : Nat → Nat → Int → Option Nat → Wd → Prop) (k n : Nat) (l1 : Int) (l2 : Option Nat) (G : Wd) (Q : Int → Wd → Prop) : Prop :=
  nn l2 (fun a23 => (isC G a23 16 ∧ f_J25_hasNext a23  G (fun x25 G24 => brB x25 ((isC G24 a23 16 ∧ f_J25_next a23  G24 (fun x27 G26 => cst G26 x27 [8] (nn x27 (fun a28 => gR G26 a28 [8] 1 (fun x29 => brN x29 (f_X2_inWork_42 a0 k10 k n (some a23) l1 1 G26 Q) (fun a30 => f_X2_inWork_42 a0 k10 k n (some a23) l1 2 G26 Q))))))) (Q l1 G24))))
theorem w_X2_inWork_10_b {a0 : Nat} {Q : Int → Wd → Prop} {k10 : Nat → Nat → Int → Option Nat → Wd → Prop} (hk10 : ∀ {k n : Nat} {l1 : Int} {l2 : Option Nat} {G : Wd}, k10 k n l1 l2 G → wp m_X2_inWork 6 k n 10 [none, some (vI l1), some (vR l2), none] [] G (qI Q) noX) {k n : Nat} {l1 : Int} {l2 : Option Nat} {G : Wd} (h : f_X2_inWork_10_b a0 k10 k n l1 l2 G Q) : wp m_X2_inWork 6 k n 10 [none, some (vI l1), some (vR l2), none] [] G (qI Q) noX := by
  unfold f_X2_inWork_10_b at h
  refine r_aload_n dX2_inWork_10 rfl rfl iR ?_
  obtain ⟨a23, e, h⟩ := h
  refine wp.cast (L' := [none, some (vI l1), some (vR (some a23)), none]) (st' := [vR (some a23)]) (by rw [e]) (by rw [e]) ?_
  obtain ⟨hC, h⟩ := h
  refine r_callF dX2_inWork_11 hC (c_J25_hasNext h) q1391 q1135 q1137 q127 q1139 q1117 q1116 q1138 q1136 q1134 rfl ⟨by decide +kernel, by decide +kernel, by decide +kernel⟩ rfl (by decide) (by decide) rfl rc0 (by decide) (Nat.zero_le _) (Nat.zero_le _) (ofB fun x25 G24 h => ?_) nox
  refine r_ifZ_eq (tgt := 47) dX2_inWork_16 (by decide) h (fun h => ?_) (fun h => ?_)
  · refine r_iload_n dX2_inWork_47 rfl rfl iI ?_
    exact r_iret rfl dX2_inWork_48 ⟨_, rfl, h⟩
  · refine r_aload_n dX2_inWork_19 rfl rfl iR ?_
    obtain ⟨hC, h⟩ := h
    refine r_callF dX2_inWork_20 hC (c_J25_next h) q1393 q1272 q1274 q127 q1276 q1143 q1142 q1275 q1273 q1134 rfl ⟨by decide +kernel, by decide +kernel, by decide +kernel⟩ rfl (by decide) (by decide) rfl rc0 (by decide) (Nat.zero_le _) (Nat.zero_le _) (ofR fun x27 G26 h => ?_) nox
    refine r_ccast (ci := 8) dX2_inWork_25 q1394 rfl h (fun h => ?_)
    refine r_astore_n (L' := [none, some (vI l1), some (vR (some a23)), some (vR x27)]) dX2_inWork_28 rfl rfl iR cR (by decide) ?_
    refine r_iload_n dX2_inWork_29 rfl rfl iI ?_
    refine r_aload_n dX2_inWork_30 rfl rfl iR ?_
    obtain ⟨a28, e, h⟩ := h
    refine wp.cast (L' := [none, some (vI l1), some (vR (some a23)), some (vR (some a28))]) (st' := [vR (some a28), vI l1]) (by rw [e]) (by rw [e]) ?_
    refine r_getR dX2_inWork_31 (fg1 (f := 1) fX9 (by decide) q1547 rfl) h (fun x29 h => ?_)
    refine r_ifnonnullV (tgt := 41) dX2_inWork_34 (by decide) h (fun a30 e h => ?_) (fun e h => ?_)
    · refine r_iconst dX2_inWork_41 ?_
      refine wp.locals (L' := [none, none, some (vR (some a23)), none]) (ls_n (ls_n (ls_s (ls_n ls_0)))) ?_
      exact w_X2_inWork_42 hk10 h
    · refine r_iconst dX2_inWork_37 ?_
      refine r_goto (tgt := 42) dX2_inWork_38 (by decide) ?_
      refine wp.locals (L' := [none, none, some (vR (some a23)), none]) (ls_n (ls_n (ls_s (ls_n ls_0)))) ?_
      exact w_X2_inWork_42 hk10 h
def f_X2_inWork_10 (a0 : Nat) (Q : Int → Wd → Prop) : Nat → Nat → Nat → Int → Option Nat → Wd → Prop
  | 0, _, _, _, _, _ => False
  | fl + 1, k, n, l1, l2, G => f_X2_inWork_10_b a0  (fun k n l1 l2 G => f_X2_inWork_10 a0  Q fl k n l1 l2 G) k n l1 l2 G Q
theorem w_X2_inWork_10 {a0 : Nat} {Q : Int → Wd → Prop} : ∀ (fl : Nat) {k n : Nat} {l1 : Int} {l2 : Option Nat} {G : Wd}, f_X2_inWork_10 a0 Q fl k n l1 l2 G → wp m_X2_inWork 6 k n 10 [none, some (vI l1), some (vR l2), none] [] G (qI Q) noX := by
  intro fl
  induction fl with
  | zero => intro k n l1 l2 G h; exact (show False from h).elim
  | succ fl ih => intro k n l1 l2 G h; exact w_X2_inWork_10_b  (fun h => ih h) h
def f_X2_inWork (k n : Nat) (a0 : Nat) (G : Wd) (Q : Int → Wd → Prop) : Prop :=
  gR G a0 [1] 1 (fun x31 => nn x31 (fun a32 => (∃ k34 n35, (k34 ≤ k ∧ n35 ≤ n) ∧ (isC G a32 12 ∧ f_J2_iterator k34 n35 a32  G (fun x36 G33 => ∃ fl37, f_X2_inWork_10 a0 Q fl37 (k - k34) (n - n35) 0 x36 G33)))))
theorem w_X2_inWork {a0 : Nat} {Q : Int → Wd → Prop} {k n : Nat} {G : Wd} (h : f_X2_inWork k n a0 G Q) : wp m_X2_inWork 6 k n 0 [some (vR (some a0)), none, none, none] [] G (qI Q) noX := by
  unfold f_X2_inWork at h
  refine r_iconst dX2_inWork_0 ?_
  refine r_istore_n (L' := [some (vR (some a0)), some (vI 0), none, none]) dX2_inWork_1 rfl rfl iI cR (by decide) ?_
  refine r_aload_n dX2_inWork_2 rfl rfl iR ?_
  refine r_getR dX2_inWork_3 (fg1 (f := 1) fX2 (by decide) q637 rfl) h (fun x31 h => ?_)
  obtain ⟨a32, e, h⟩ := h
  refine wp.cast (L' := [some (vR (some a0)), some (vI 0), none, none]) (st' := [vR (some a32)]) rfl (by rw [e]) ?_
  obtain ⟨k34, n35, ⟨hk1, hn1⟩, h⟩ := h
  obtain ⟨hC, h⟩ := h
  refine r_callU dX2_inWork_6 hC (c_J2_iterator h) q1340 q1341 q1343 q1344 q96 q1345 rfl rfl yo_J2_iterator rfl (by decide) (by decide) rfl rc0 (by decide) hk1 hn1 (ofR fun x36 G33 h => ?_) nox
  refine r_astore_n (L' := [some (vR (some a0)), some (vI 0), some (vR x36), none]) dX2_inWork_9 rfl rfl iR cI (by decide) ?_
  refine wp.locals (L' := [none, some (vI 0), some (vR x36), none]) (ls_n (ls_s (ls_s (ls_n ls_0)))) ?_
  obtain ⟨fl37, h⟩ := h
  exact w_X2_inWork_10 fl37 h
theorem c_X2_inWork {a0 : Nat} {k n : Nat} {Q : Int → Wd → Prop} {G : Wd} (h : f_X2_inWork k n a0 G Q) : call yX2_inWork (Cond.code yX2_inWork cX2_inWork 4 (some .int)) 6 k n [vR (some a0)] G (qI Q) noX :=
  call.enter (by decide +kernel) (la_1 c1R (la_nil rfl)) rfl (w_X2_inWork h)
abbrev m_X2_notTaken : Mt := (yX2_notTaken.cls, cX2_notTaken, 3, some .int, [], yX2_notTaken.name)
theorem yo_X2_notTaken : yOK yX2_notTaken 0 := ⟨by decide +kernel, by decide +kernel, by decide +kernel⟩
def f_X2_notTaken_4_b (a0 : Nat) (k4 : Int → Int → Wd → Prop) (l1 : Int) (l2 : Int) (G : Wd) (Q : Int → Wd → Prop) : Prop :=
  gI G a0 [1] 8 (fun x23 => br l2 x23 (x23 ≤ l2) (Q l1 G) (gR G a0 [1] 0 (fun x24 => nn x24 (fun a25 => ldR G a25 7 l2 (fun x26 => nn x26 (fun a27 => gI G a27 [2] 12 (fun x28 => gR G a0 [1] 0 (fun x29 => nn x29 (fun a30 => ldR G a30 7 l2 (fun x31 => nn x31 (fun a32 => gI G a32 [2] 13 (fun x33 => k4 (l1 + (x28 - x33)) (l2 + 1) G))))))))))))
theorem w_X2_notTaken_4_b {a0 : Nat} {Q : Int → Wd → Prop} {k4 : Int → Int → Wd → Prop} (hk4 : ∀ {l1 : Int} {l2 : Int} {G : Wd}, k4 l1 l2 G → wp m_X2_notTaken 1 0 0 4 [some (vR (some a0)), some (vI l1), some (vI l2)] [] G (qI Q) noX) {l1 : Int} {l2 : Int} {G : Wd} (h : f_X2_notTaken_4_b a0 k4 l1 l2 G Q) : wp m_X2_notTaken 1 0 0 4 [some (vR (some a0)), some (vI l1), some (vI l2)] [] G (qI Q) noX := by
  unfold f_X2_notTaken_4_b at h
  refine r_iload_n dX2_notTaken_4 rfl rfl iI ?_
  refine r_aload_n dX2_notTaken_5 rfl rfl iR ?_
  refine r_getI dX2_notTaken_6 (fg1 (f := 8) fX2 (by decide) q651 rfl) h (fun x23 h => ?_)
  refine r_icmp_ge (tgt := 40) dX2_notTaken_9 (by decide) h (fun h => ?_) (fun h => ?_)
  · refine r_iload_n dX2_notTaken_40 rfl rfl iI ?_
    exact r_iret rfl dX2_notTaken_41 ⟨_, rfl, h⟩
  · refine r_iload_n dX2_notTaken_12 rfl rfl iI ?_
    refine r_aload_n dX2_notTaken_13 rfl rfl iR ?_
    refine r_getR dX2_notTaken_14 (fg1 (f := 0) fX2 (by decide) q635 rfl) h (fun x24 h => ?_)
    refine r_iload_n dX2_notTaken_17 rfl rfl iI ?_
    obtain ⟨a25, e, h⟩ := h
    refine wp.cast (L' := [some (vR (some a0)), some (vI l1), some (vI l2)]) (st' := [vI l2, vR (some a25), vI l1]) rfl (by rw [e]) ?_
    refine r_aald dX2_notTaken_18 (by decide) (by decide) h (fun x26 h => ?_)
    obtain ⟨a27, e, h⟩ := h
    refine wp.cast (L' := [some (vR (some a0)), some (vI l1), some (vI l2)]) (st' := [vR (some a27), vI l1]) rfl (by rw [e]) ?_
    refine r_getI dX2_notTaken_19 (fg1 (f := 12) fX3 (by decide) q587 rfl) h (fun x28 h => ?_)
    refine r_aload_n dX2_notTaken_22 rfl rfl iR ?_
    refine r_getR dX2_notTaken_23 (fg1 (f := 0) fX2 (by decide) q635 rfl) h (fun x29 h => ?_)
    refine r_iload_n dX2_notTaken_26 rfl rfl iI ?_
    obtain ⟨a30, e, h⟩ := h
    refine wp.cast (L' := [some (vR (some a0)), some (vI l1), some (vI l2)]) (st' := [vI l2, vR (some a30), vI x28, vI l1]) rfl (by rw [e]) ?_
    refine r_aald dX2_notTaken_27 (by decide) (by decide) h (fun x31 h => ?_)
    obtain ⟨a32, e, h⟩ := h
    refine wp.cast (L' := [some (vR (some a0)), some (vI l1), some (vI l2)]) (st' := [vR (some a32), vI x28, vI l1]) rfl (by rw [e]) ?_
    refine r_getI dX2_notTaken_28 (fg1 (f := 13) fX3 (by decide) q590 rfl) h (fun x33 h => ?_)
    refine r_isub dX2_notTaken_31 ?_
    refine r_iadd dX2_notTaken_32 ?_
    refine r_istore_n (L' := [some (vR (some a0)), some (vI (l1 + (x28 - x33))), some (vI l2)]) dX2_notTaken_33 rfl rfl iI cR (by decide) ?_
    refine r_iinc (L' := [some (vR (some a0)), some (vI (l1 + (x28 - x33))), some (vI (l2 + 1))]) dX2_notTaken_34 rfl rfl cI (by decide) ?_
    refine r_goto (tgt := 4) dX2_notTaken_37 (by decide) ?_
    exact hk4 h
def f_X2_notTaken_4 (a0 : Nat) (Q : Int → Wd → Prop) : Nat → Int → Int → Wd → Prop
  | 0, _, _, _ => False
  | fl + 1, l1, l2, G => f_X2_notTaken_4_b a0  (fun l1 l2 G => f_X2_notTaken_4 a0  Q fl l1 l2 G) l1 l2 G Q
theorem w_X2_notTaken_4 {a0 : Nat} {Q : Int → Wd → Prop} : ∀ (fl : Nat) {l1 : Int} {l2 : Int} {G : Wd}, f_X2_notTaken_4 a0 Q fl l1 l2 G → wp m_X2_notTaken 1 0 0 4 [some (vR (some a0)), some (vI l1), some (vI l2)] [] G (qI Q) noX := by
  intro fl
  induction fl with
  | zero => intro l1 l2 G h; exact (show False from h).elim
  | succ fl ih => intro l1 l2 G h; exact w_X2_notTaken_4_b  (fun h => ih h) h
def f_X2_notTaken (a0 : Nat) (G : Wd) (Q : Int → Wd → Prop) : Prop :=
  ∃ fl34, f_X2_notTaken_4 a0 Q fl34 0 0 G
theorem w_X2_notTaken {a0 : Nat} {Q : Int → Wd → Prop} {G : Wd} (h : f_X2_notTaken a0 G Q) : wp m_X2_notTaken 1 0 0 0 [some (vR (some a0)), none, none] [] G (qI Q) noX := by
  unfold f_X2_notTaken at h
  refine r_iconst dX2_notTaken_0 ?_
  refine r_istore_n (L' := [some (vR (some a0)), some (vI 0), none]) dX2_notTaken_1 rfl rfl iI cR (by decide) ?_
  refine r_iconst dX2_notTaken_2 ?_
  refine r_istore_n (L' := [some (vR (some a0)), some (vI 0), some (vI 0)]) dX2_notTaken_3 rfl rfl iI cI (by decide) ?_
  obtain ⟨fl34, h⟩ := h
  exact w_X2_notTaken_4 fl34 h
theorem c_X2_notTaken {a0 : Nat} {Q : Int → Wd → Prop} {G : Wd} (h : f_X2_notTaken a0 G Q) : call yX2_notTaken (Cond.code yX2_notTaken cX2_notTaken 3 (some .int)) 1 0 0 [vR (some a0)] G (qI Q) noX :=
  call.enter (by decide +kernel) (la_1 c1R (la_nil rfl)) rfl (w_X2_notTaken h)
abbrev m_X2_isDrained : Mt := (yX2_isDrained.cls, cX2_isDrained, 2, some .boolean, [], yX2_isDrained.name)
theorem yo_X2_isDrained : yOK yX2_isDrained 0 := ⟨by decide +kernel, by decide +kernel, by decide +kernel⟩
def f_X2_isDrained_63 (a0 : Nat) (G : Wd) (Q : Bool → Wd → Prop) : Prop :=
  Q false G
theorem w_X2_isDrained_63 {a0 : Nat} {Q : Bool → Wd → Prop} {G : Wd} (h : f_X2_isDrained_63 a0 G Q) : wp m_X2_isDrained 4 0 0 63 [none, none] [] G (qB Q) noX := by
  unfold f_X2_isDrained_63 at h
  refine r_iconst dX2_isDrained_63 ?_
  refine wp.cast (st' := [vB false]) rfl (congrArg (fun q => [q]) vI0) ?_
  exact r_zret rfl dX2_isDrained_64 ⟨_, rfl, h⟩
def f_X2_isDrained_2_b (a0 : Nat) (k2 : Int → Wd → Prop) (l1 : Int) (G : Wd) (Q : Bool → Wd → Prop) : Prop :=
  gI G a0 [1] 8 (fun x39 => br l1 x39 (x39 ≤ l1) (gR G a0 [1] 1 (fun x40 => nn x40 (fun a41 => (isC G a41 12 ∧ f_J0_isEmpty a41  G (fun x43 G42 => brB x43 (gR G42 a0 [1] 2 (fun x44 => nn x44 (fun a45 => (isC G42 a45 12 ∧ f_J0_isEmpty a45  G42 (fun x47 G46 => brB x47 (Q true G46) (f_X2_isDrained_63 a0 G46 Q)))))) (f_X2_isDrained_63 a0 G42 Q)))))) (gR G a0 [1] 0 (fun x48 => nn x48 (fun a49 => ldR G a49 7 l1 (fun x50 => nn x50 (fun a51 => gI G a51 [2] 8 (fun x52 => gR G a0 [1] 0 (fun x53 => nn x53 (fun a54 => ldR G a54 7 l1 (fun x55 => nn x55 (fun a56 => gI G a56 [2] 10 (fun x57 => br x52 x57 (x52 ≤ x57) (k2 (l1 + 1) G) (Q false G)))))))))))))
theorem w_X2_isDrained_2_b {a0 : Nat} {Q : Bool → Wd → Prop} {k2 : Int → Wd → Prop} (hk2 : ∀ {l1 : Int} {G : Wd}, k2 l1 G → wp m_X2_isDrained 4 0 0 2 [some (vR (some a0)), some (vI l1)] [] G (qB Q) noX) {l1 : Int} {G : Wd} (h : f_X2_isDrained_2_b a0 k2 l1 G Q) : wp m_X2_isDrained 4 0 0 2 [some (vR (some a0)), some (vI l1)] [] G (qB Q) noX := by
  unfold f_X2_isDrained_2_b at h
  refine r_iload_n dX2_isDrained_2 rfl rfl iI ?_
  refine r_aload_n dX2_isDrained_3 rfl rfl iR ?_
  refine r_getI dX2_isDrained_4 (fg1 (f := 8) fX2 (by decide) q651 rfl) h (fun x39 h => ?_)
  refine r_icmp_ge (tgt := 39) dX2_isDrained_7 (by decide) h (fun h => ?_) (fun h => ?_)
  · refine r_aload_n dX2_isDrained_39 rfl rfl iR ?_
    refine r_getR dX2_isDrained_40 (fg1 (f := 1) fX2 (by decide) q637 rfl) h (fun x40 h => ?_)
    obtain ⟨a41, e, h⟩ := h
    refine wp.cast (L' := [some (vR (some a0)), some (vI l1)]) (st' := [vR (some a41)]) rfl (by rw [e]) ?_
    obtain ⟨hC, h⟩ := h
    refine r_callU dX2_isDrained_43 hC (c_J0_isEmpty h) q2000 q1755 q1757 q1758 q94 q1759 rfl rfl yo_J0_isEmpty rfl (by decide) (by decide) rfl rc0 (by decide) (Nat.zero_le _) (Nat.zero_le _) (ofB fun x43 G42 h => ?_) nox
    refine r_ifZ_eq (tgt := 63) dX2_isDrained_46 (by decide) h (fun h => ?_) (fun h => ?_)
    · refine wp.locals (L' := [none, none]) (ls_n (ls_n ls_0)) ?_
      exact w_X2_isDrained_63 h
    · refine r_aload_n dX2_isDrained_49 rfl rfl iR ?_
      refine r_getR dX2_isDrained_50 (fg1 (f := 2) fX2 (by decide) q640 rfl) h (fun x44 h => ?_)
      obtain ⟨a45, e, h⟩ := h
      refine wp.cast (L' := [some (vR (some a0)), some (vI l1)]) (st' := [vR (some a45)]) rfl (by rw [e]) ?_
      obtain ⟨hC, h⟩ := h
      refine r_callU dX2_isDrained_53 hC (c_J0_isEmpty h) q2000 q1755 q1757 q1758 q94 q1759 rfl rfl yo_J0_isEmpty rfl (by decide) (by decide) rfl rc0 (by decide) (Nat.zero_le _) (Nat.zero_le _) (ofB fun x47 G46 h => ?_) nox
      refine r_ifZ_eq (tgt := 63) dX2_isDrained_56 (by decide) h (fun h => ?_) (fun h => ?_)
      · refine wp.locals (L' := [none, none]) (ls_n (ls_n ls_0)) ?_
        exact w_X2_isDrained_63 h
      · refine r_iconst dX2_isDrained_59 ?_
        refine r_goto (tgt := 64) dX2_isDrained_60 (by decide) ?_
        refine wp.cast (st' := [vB true]) rfl (congrArg (fun q => [q]) vI1) ?_
        exact r_zret rfl dX2_isDrained_64 ⟨_, rfl, h⟩
  · refine r_aload_n dX2_isDrained_10 rfl rfl iR ?_
    refine r_getR dX2_isDrained_11 (fg1 (f := 0) fX2 (by decide) q635 rfl) h (fun x48 h => ?_)
    refine r_iload_n dX2_isDrained_14 rfl rfl iI ?_
    obtain ⟨a49, e, h⟩ := h
    refine wp.cast (L' := [some (vR (some a0)), some (vI l1)]) (st' := [vI l1, vR (some a49)]) rfl (by rw [e]) ?_
    refine r_aald dX2_isDrained_15 (by decide) (by decide) h (fun x50 h => ?_)
    obtain ⟨a51, e, h⟩ := h
    refine wp.cast (L' := [some (vR (some a0)), some (vI l1)]) (st' := [vR (some a51)]) rfl (by rw [e]) ?_
    refine r_getI dX2_isDrained_16 (fg1 (f := 8) fX3 (by decide) q576 rfl) h (fun x52 h => ?_)
    refine r_aload_n dX2_isDrained_19 rfl rfl iR ?_
    refine r_getR dX2_isDrained_20 (fg1 (f := 0) fX2 (by decide) q635 rfl) h (fun x53 h => ?_)
    refine r_iload_n dX2_isDrained_23 rfl rfl iI ?_
    obtain ⟨a54, e, h⟩ := h
    refine wp.cast (L' := [some (vR (some a0)), some (vI l1)]) (st' := [vI l1, vR (some a54), vI x52]) rfl (by rw [e]) ?_
    refine r_aald dX2_isDrained_24 (by decide) (by decide) h (fun x55 h => ?_)
    obtain ⟨a56, e, h⟩ := h
    refine wp.cast (L' := [some (vR (some a0)), some (vI l1)]) (st' := [vR (some a56), vI x52]) rfl (by rw [e]) ?_
    refine r_getI dX2_isDrained_25 (fg1 (f := 10) fX3 (by decide) q581 rfl) h (fun x57 h => ?_)
    refine r_icmp_le (tgt := 33) dX2_isDrained_28 (by decide) h (fun h => ?_) (fun h => ?_)
    · refine r_iinc (L' := [some (vR (some a0)), some (vI (l1 + 1))]) dX2_isDrained_33 rfl rfl cR (by decide) ?_
      refine r_goto (tgt := 2) dX2_isDrained_36 (by decide) ?_
      exact hk2 h
    · refine r_iconst dX2_isDrained_31 ?_
      refine wp.cast (st' := [vB false]) rfl (congrArg (fun q => [q]) vI0) ?_
      exact r_zret rfl dX2_isDrained_32 ⟨_, rfl, h⟩
def f_X2_isDrained_2 (a0 : Nat) (Q : Bool → Wd → Prop) : Nat → Int → Wd → Prop
  | 0, _, _ => False
  | fl + 1, l1, G => f_X2_isDrained_2_b a0  (fun l1 G => f_X2_isDrained_2 a0  Q fl l1 G) l1 G Q
theorem w_X2_isDrained_2 {a0 : Nat} {Q : Bool → Wd → Prop} : ∀ (fl : Nat) {l1 : Int} {G : Wd}, f_X2_isDrained_2 a0 Q fl l1 G → wp m_X2_isDrained 4 0 0 2 [some (vR (some a0)), some (vI l1)] [] G (qB Q) noX := by
  intro fl
  induction fl with
  | zero => intro l1 G h; exact (show False from h).elim
  | succ fl ih => intro l1 G h; exact w_X2_isDrained_2_b  (fun h => ih h) h
def f_X2_isDrained (a0 : Nat) (G : Wd) (Q : Bool → Wd → Prop) : Prop :=
  ∃ fl58, f_X2_isDrained_2 a0 Q fl58 0 G
theorem w_X2_isDrained {a0 : Nat} {Q : Bool → Wd → Prop} {G : Wd} (h : f_X2_isDrained a0 G Q) : wp m_X2_isDrained 4 0 0 0 [some (vR (some a0)), none] [] G (qB Q) noX := by
  unfold f_X2_isDrained at h
  refine r_iconst dX2_isDrained_0 ?_
  refine r_istore_n (L' := [some (vR (some a0)), some (vI 0)]) dX2_isDrained_1 rfl rfl iI cR (by decide) ?_
  obtain ⟨fl58, h⟩ := h
  exact w_X2_isDrained_2 fl58 h
theorem c_X2_isDrained {a0 : Nat} {Q : Bool → Wd → Prop} {G : Wd} (h : f_X2_isDrained a0 G Q) : call yX2_isDrained (Cond.code yX2_isDrained cX2_isDrained 2 (some .boolean)) 4 0 0 [vR (some a0)] G (qB Q) noX :=
  call.enter (by decide +kernel) (la_1 c1R (la_nil rfl)) rfl (w_X2_isDrained h)
abbrev m_X2_fetched : Mt := (yX2_fetched.cls, cX2_fetched, 3, some .int, [], yX2_fetched.name)
theorem yo_X2_fetched : yOK yX2_fetched 0 := ⟨by decide +kernel, by decide +kernel, by decide +kernel⟩
def f_X2_fetched_4_b (a0 : Nat) (k4 : Int → Int → Wd → Prop) (l1 : Int) (l2 : Int) (G : Wd) (Q : Int → Wd → Prop) : Prop :=
  gI G a0 [1] 8 (fun x13 => br l2 x13 (x13 ≤ l2) (Q l1 G) (gR G a0 [1] 0 (fun x14 => nn x14 (fun a15 => ldR G a15 7 l2 (fun x16 => nn x16 (fun a17 => gI G a17 [2] 10 (fun x18 => k4 (l1 + x18) (l2 + 1) G)))))))
theorem w_X2_fetched_4_b {a0 : Nat} {Q : Int → Wd → Prop} {k4 : Int → Int → Wd → Prop} (hk4 : ∀ {l1 : Int} {l2 : Int} {G : Wd}, k4 l1 l2 G → wp m_X2_fetched 1 0 0 4 [some (vR (some a0)), some (vI l1), some (vI l2)] [] G (qI Q) noX) {l1 : Int} {l2 : Int} {G : Wd} (h : f_X2_fetched_4_b a0 k4 l1 l2 G Q) : wp m_X2_fetched 1 0 0 4 [some (vR (some a0)), some (vI l1), some (vI l2)] [] G (qI Q) noX := by
  unfold f_X2_fetched_4_b at h
  refine r_iload_n dX2_fetched_4 rfl rfl iI ?_
  refine r_aload_n dX2_fetched_5 rfl rfl iR ?_
  refine r_getI dX2_fetched_6 (fg1 (f := 8) fX2 (by decide) q651 rfl) h (fun x13 h => ?_)
  refine r_icmp_ge (tgt := 30) dX2_fetched_9 (by decide) h (fun h => ?_) (fun h => ?_)
  · refine r_iload_n dX2_fetched_30 rfl rfl iI ?_
    exact r_iret rfl dX2_fetched_31 ⟨_, rfl, h⟩
  · refine r_iload_n dX2_fetched_12 rfl rfl iI ?_
    refine r_aload_n dX2_fetched_13 rfl rfl iR ?_
    refine r_getR dX2_fetched_14 (fg1 (f := 0) fX2 (by decide) q635 rfl) h (fun x14 h => ?_)
    refine r_iload_n dX2_fetched_17 rfl rfl iI ?_
    obtain ⟨a15, e, h⟩ := h
    refine wp.cast (L' := [some (vR (some a0)), some (vI l1), some (vI l2)]) (st' := [vI l2, vR (some a15), vI l1]) rfl (by rw [e]) ?_
    refine r_aald dX2_fetched_18 (by decide) (by decide) h (fun x16 h => ?_)
    obtain ⟨a17, e, h⟩ := h
    refine wp.cast (L' := [some (vR (some a0)), some (vI l1), some (vI l2)]) (st' := [vR (some a17), vI l1]) rfl (by rw [e]) ?_
    refine r_getI dX2_fetched_19 (fg1 (f := 10) fX3 (by decide) q581 rfl) h (fun x18 h => ?_)
    refine r_iadd dX2_fetched_22 ?_
    refine r_istore_n (L' := [some (vR (some a0)), some (vI (l1 + x18)), some (vI l2)]) dX2_fetched_23 rfl rfl iI cR (by decide) ?_
    refine r_iinc (L' := [some (vR (some a0)), some (vI (l1 + x18)), some (vI (l2 + 1))]) dX2_fetched_24 rfl rfl cI (by decide) ?_
    refine r_goto (tgt := 4) dX2_fetched_27 (by decide) ?_
    exact hk4 h
def f_X2_fetched_4 (a0 : Nat) (Q : Int → Wd → Prop) : Nat → Int → Int → Wd → Prop
  | 0, _, _, _ => False
  | fl + 1, l1, l2, G => f_X2_fetched_4_b a0  (fun l1 l2 G => f_X2_fetched_4 a0  Q fl l1 l2 G) l1 l2 G Q
theorem w_X2_fetched_4 {a0 : Nat} {Q : Int → Wd → Prop} : ∀ (fl : Nat) {l1 : Int} {l2 : Int} {G : Wd}, f_X2_fetched_4 a0 Q fl l1 l2 G → wp m_X2_fetched 1 0 0 4 [some (vR (some a0)), some (vI l1), some (vI l2)] [] G (qI Q) noX := by
  intro fl
  induction fl with
  | zero => intro l1 l2 G h; exact (show False from h).elim
  | succ fl ih => intro l1 l2 G h; exact w_X2_fetched_4_b  (fun h => ih h) h
def f_X2_fetched (a0 : Nat) (G : Wd) (Q : Int → Wd → Prop) : Prop :=
  ∃ fl19, f_X2_fetched_4 a0 Q fl19 0 0 G
theorem w_X2_fetched {a0 : Nat} {Q : Int → Wd → Prop} {G : Wd} (h : f_X2_fetched a0 G Q) : wp m_X2_fetched 1 0 0 0 [some (vR (some a0)), none, none] [] G (qI Q) noX := by
  unfold f_X2_fetched at h
  refine r_iconst dX2_fetched_0 ?_
  refine r_istore_n (L' := [some (vR (some a0)), some (vI 0), none]) dX2_fetched_1 rfl rfl iI cR (by decide) ?_
  refine r_iconst dX2_fetched_2 ?_
  refine r_istore_n (L' := [some (vR (some a0)), some (vI 0), some (vI 0)]) dX2_fetched_3 rfl rfl iI cI (by decide) ?_
  obtain ⟨fl19, h⟩ := h
  exact w_X2_fetched_4 fl19 h
theorem c_X2_fetched {a0 : Nat} {Q : Int → Wd → Prop} {G : Wd} (h : f_X2_fetched a0 G Q) : call yX2_fetched (Cond.code yX2_fetched cX2_fetched 3 (some .int)) 1 0 0 [vR (some a0)] G (qI Q) noX :=
  call.enter (by decide +kernel) (la_1 c1R (la_nil rfl)) rfl (w_X2_fetched h)
abbrev m_X3_init : Mt := (yX3_init.cls, cX3_init, 2, none, [], yX3_init.name)
theorem yo_X3_init : yOK yX3_init 1 := ⟨by decide +kernel, by decide +kernel, by decide +kernel⟩
def f_X3_init (k n : Nat) (a0 : Nat) (a1 : Int) (G : Wd) (Q : Wd → Prop) : Prop :=
  nO G k n 13 3 zJ4 (fun a20 G21 => (∃ k23 n24, (k23 ≤ (k - 1) ∧ n24 ≤ (n - 3)) ∧ f_J4_init k23 n24 a20  G21 (fun G22 => pF G22 a0 [2] 1 (vR (some a20)) (fun G25 => nO G25 ((k - 1) - k23) ((n - 3) - n24) 13 3 zJ4 (fun a26 G27 => (∃ k29 n30, (k29 ≤ (((k - 1) - k23) - 1) ∧ n30 ≤ (((n - 3) - n24) - 3)) ∧ f_J4_init k29 n30 a26  G27 (fun G28 => pF G28 a0 [2] 2 (vR (some a26)) (fun G31 => nO G31 ((((k - 1) - k23) - 1) - k29) ((((n - 3) - n24) - 3) - n30) 14 3 zJ5 (fun a32 G33 => (∃ k35 n36, (k35 ≤ (((((k - 1) - k23) - 1) - k29) - 1) ∧ n36 ≤ (((((n - 3) - n24) - 3) - n30) - 3)) ∧ f_J5_init k35 n36 a32 16 G33 (fun G34 => pF G34 a0 [2] 3 (vR (some a32)) (fun G37 => pF G37 a0 [2] 0 (vI a1) (fun G38 => Q G38)))))))))))))
theorem w_X3_init {a0 : Nat} {Q : Wd → Prop} {k n : Nat} {a1 : Int} {G : Wd} (h : f_X3_init k n a0 a1 G Q) : wp m_X3_init 4 k n 0 [some (vR (some a0)), some (vI a1)] [] G (qV Q) noX := by
  unfold f_X3_init at h
  refine r_aload_n dX3_init_0 rfl rfl iR ?_
  refine r_objInit dX3_init_1 q189 q142 q143 rc0 (by decide) (by decide) ?_
  refine r_aload_n dX3_init_4 rfl rfl iR ?_
  refine r_new dX3_init_5 fJ4 q190 q191 q99 dfJ4 h (fun a20 G21 h => ?_)
  refine r_dup dX3_init_8 c1R ?_
  obtain ⟨k23, n24, ⟨hk1, hn1⟩, h⟩ := h
  refine r_callI dX3_init_9 (c_J4_init h) rfl q192 q193 q99 q194 yo_J4_init rfl (by decide) (by decide) rfl (rc1 c1R (rc1 c1R rc0)) (by decide) hk1 hn1 (ofV fun G22 h => ?_) nox
  refine r_put dX3_init_12 (fp1F (f := 1) fX3 (by decide) q556 rfl rfl rfl rfl) fvO h (fun G25 h => ?_)
  refine r_aload_n dX3_init_15 rfl rfl iR ?_
  refine r_new dX3_init_16 fJ4 q190 q191 q99 dfJ4 h (fun a26 G27 h => ?_)
  refine r_dup dX3_init_19 c1R ?_
  obtain ⟨k29, n30, ⟨hk1, hn1⟩, h⟩ := h
  refine r_callI dX3_init_20 (c_J4_init h) rfl q192 q193 q99 q194 yo_J4_init rfl (by decide) (by decide) rfl (rc1 c1R (rc1 c1R rc0)) (by decide) hk1 hn1 (ofV fun G28 h => ?_) nox
  refine r_put dX3_init_23 (fp1F (f := 2) fX3 (by decide) q559 rfl rfl rfl rfl) fvO h (fun G31 h => ?_)
  refine r_aload_n dX3_init_26 rfl rfl iR ?_
  refine r_new dX3_init_27 fJ5 q211 q212 q100 dfJ5 h (fun a32 G33 h => ?_)
  refine r_dup dX3_init_30 c1R ?_
  refine r_bipush dX3_init_31 (by decide) ?_
  obtain ⟨k35, n36, ⟨hk1, hn1⟩, h⟩ := h
  refine r_callI dX3_init_33 (c_J5_init h) rfl q213 q214 q100 q215 yo_J5_init rfl (by decide) (by decide) rfl (rc1 c1R (rc1 c1R rc0)) (by decide) hk1 hn1 (ofV fun G34 h => ?_) nox
  refine r_put dX3_init_36 (fp1F (f := 3) fX3 (by decide) q561 rfl rfl rfl rfl) fvO h (fun G37 h => ?_)
  refine r_aload_n dX3_init_39 rfl rfl iR ?_
  refine r_iload_n dX3_init_40 rfl rfl iI ?_
  refine r_put dX3_init_41 (fp1F (f := 0) fX3 (by decide) q552 rfl rfl rfl rfl) fvI h (fun G38 h => ?_)
  exact r_vret rfl dX3_init_44 ⟨rfl, h⟩
theorem c_X3_init {a0 : Nat} {a1 : Int} {k n : Nat} {Q : Wd → Prop} {G : Wd} (h : f_X3_init k n a0 a1 G Q) : call yX3_init (Cond.code yX3_init cX3_init 2 (none)) 4 k n [vR (some a0), vI a1] G (qV Q) noX :=
  call.enter (by decide +kernel) (la_1 c1R (la_1 c1I (la_nil rfl))) rfl (w_X3_init h)
abbrev m_X3_empty : Mt := (yX3_empty.cls, cX3_empty, 1, none, [], yX3_empty.name)
theorem yo_X3_empty : yOK yX3_empty 0 := ⟨by decide +kernel, by decide +kernel, by decide +kernel⟩
def f_X3_empty (a0 : Nat) (G : Wd) (Q : Wd → Prop) : Prop :=
  gR G a0 [2] 1 (fun x19 => nn x19 (fun a20 => (isC G a20 13 ∧ f_J4_clear a20  G (fun G21 => gR G21 a0 [2] 2 (fun x22 => nn x22 (fun a23 => (isC G21 a23 13 ∧ f_J4_clear a23  G21 (fun G24 => gR G24 a0 [2] 3 (fun x25 => nn x25 (fun a26 => (isC G24 a26 14 ∧ f_J5_clear a26  G24 (fun G27 => pF G27 a0 [2] 7 (vI 0) (fun G28 => pF G28 a0 [2] 8 (vI 0) (fun G29 => pF G29 a0 [2] 9 (vI 0) (fun G30 => pF G30 a0 [2] 10 (vI 0) (fun G31 => pF G31 a0 [2] 11 (vI 0) (fun G32 => pF G32 a0 [2] 12 (vI 0) (fun G33 => pF G33 a0 [2] 13 (vI 0) (fun G34 => pF G34 a0 [2] 14 (vI 0) (fun G35 => pF G35 a0 [2] 16 (vB false) (fun G36 => Q G36)))))))))))))))))))))
theorem w_X3_empty {a0 : Nat} {Q : Wd → Prop} {G : Wd} (h : f_X3_empty a0 G Q) : wp m_X3_empty 3 0 0 0 [some (vR (some a0))] [] G (qV Q) noX := by
  unfold f_X3_empty at h
  refine r_aload_n dX3_empty_0 rfl rfl iR ?_
  refine r_getR dX3_empty_1 (fg1 (f := 1) fX3 (by decide) q556 rfl) h (fun x19 h => ?_)
  obtain ⟨a20, e, h⟩ := h
  refine wp.cast (L' := [some (vR (some a0))]) (st' := [vR (some a20)]) rfl (by rw [e]) ?_
  obtain ⟨hC, h⟩ := h
  refine r_callV dX3_empty_4 hC (c_J4_clear h) q927 q928 q929 q99 q930 rfl yo_J4_clear rfl (by decide) (by decide) rfl rc0 (by decide) (Nat.zero_le _) (Nat.zero_le _) (ofV fun G21 h => ?_) nox
  refine r_aload_n dX3_empty_7 rfl rfl iR ?_
  refine r_getR dX3_empty_8 (fg1 (f := 2) fX3 (by decide) q559 rfl) h (fun x22 h => ?_)
  obtain ⟨a23, e, h⟩ := h
  refine wp.cast (L' := [some (vR (some a0))]) (st' := [vR (some a23)]) rfl (by rw [e]) ?_
  obtain ⟨hC, h⟩ := h
  refine r_callV dX3_empty_11 hC (c_J4_clear h) q927 q928 q929 q99 q930 rfl yo_J4_clear rfl (by decide) (by decide) rfl rc0 (by decide) (Nat.zero_le _) (Nat.zero_le _) (ofV fun G24 h => ?_) nox
  refine r_aload_n dX3_empty_14 rfl rfl iR ?_
  refine r_getR dX3_empty_15 (fg1 (f := 3) fX3 (by decide) q561 rfl) h (fun x25 h => ?_)
  obtain ⟨a26, e, h⟩ := h
  refine wp.cast (L' := [some (vR (some a0))]) (st' := [vR (some a26)]) rfl (by rw [e]) ?_
  obtain ⟨hC, h⟩ := h
  refine r_callV dX3_empty_18 hC (c_J5_clear h) q934 q935 q936 q100 q937 rfl yo_J5_clear rfl (by decide) (by decide) rfl rc0 (by decide) (Nat.zero_le _) (Nat.zero_le _) (ofV fun G27 h => ?_) nox
  refine r_aload_n dX3_empty_21 rfl rfl iR ?_
  refine r_iconst dX3_empty_22 ?_
  refine r_put dX3_empty_23 (fp1 (f := 7) fX3 (by decide) q571 rfl rfl rfl) fvI h (fun G28 h => ?_)
  refine r_aload_n dX3_empty_26 rfl rfl iR ?_
  refine r_iconst dX3_empty_27 ?_
  refine r_put dX3_empty_28 (fp1 (f := 8) fX3 (by decide) q574 rfl rfl rfl) fvI h (fun G29 h => ?_)
  refine r_aload_n dX3_empty_31 rfl rfl iR ?_
  refine r_iconst dX3_empty_32 ?_
  refine r_put dX3_empty_33 (fp1 (f := 9) fX3 (by decide) q577 rfl rfl rfl) fvI h (fun G30 h => ?_)
  refine r_aload_n dX3_empty_36 rfl rfl iR ?_
  refine r_iconst dX3_empty_37 ?_
  refine r_put dX3_empty_38 (fp1 (f := 10) fX3 (by decide) q580 rfl rfl rfl) fvI h (fun G31 h => ?_)
  refine r_aload_n dX3_empty_41 rfl rfl iR ?_
  refine r_iconst dX3_empty_42 ?_
  refine r_put dX3_empty_43 (fp1 (f := 11) fX3 (by decide) q583 rfl rfl rfl) fvI h (fun G32 h => ?_)
  refine r_aload_n dX3_empty_46 rfl rfl iR ?_
  refine r_iconst dX3_empty_47 ?_
  refine r_put dX3_empty_48 (fp1 (f := 12) fX3 (by decide) q585 rfl rfl rfl) fvI h (fun G33 h => ?_)
  refine r_aload_n dX3_empty_51 rfl rfl iR ?_
  refine r_iconst dX3_empty_52 ?_
  refine r_put dX3_empty_53 (fp1 (f := 13) fX3 (by decide) q588 rfl rfl rfl) fvI h (fun G34 h => ?_)
  refine r_aload_n dX3_empty_56 rfl rfl iR ?_
  refine r_iconst dX3_empty_57 ?_
  refine r_put dX3_empty_58 (fp1 (f := 14) fX3 (by decide) q591 rfl rfl rfl) fvI h (fun G35 h => ?_)
  refine r_aload_n dX3_empty_61 rfl rfl iR ?_
  refine r_iconst dX3_empty_62 ?_
  refine wp.cast (st' := [vB false, vR (some a0)]) rfl (congrArg (fun q => [q, vR (some a0)]) vI0) ?_
  refine r_put dX3_empty_63 (fp1 (f := 16) fX3 (by decide) q597 rfl rfl rfl) fvB h (fun G36 h => ?_)
  exact r_vret rfl dX3_empty_66 ⟨rfl, h⟩
theorem c_X3_empty {a0 : Nat} {Q : Wd → Prop} {G : Wd} (h : f_X3_empty a0 G Q) : call yX3_empty (Cond.code yX3_empty cX3_empty 1 (none)) 3 0 0 [vR (some a0)] G (qV Q) noX :=
  call.enter (by decide +kernel) (la_1 c1R (la_nil rfl)) rfl (w_X3_empty h)
abbrev m_X3_bySlots : Mt := (yX3_bySlots.cls, cX3_bySlots, 1, some .int, [], yX3_bySlots.name)
theorem yo_X3_bySlots : yOK yX3_bySlots 0 := ⟨by decide +kernel, by decide +kernel, by decide +kernel⟩
def f_X3_bySlots (a0 : Nat) (G : Wd) (Q : Int → Wd → Prop) : Prop :=
  gI G a0 [2] 4 (fun x4 => gI G a0 [2] 7 (fun x5 => gI G a0 [2] 11 (fun x6 => Q (((x4 - 1) - x5) + x6) G)))
theorem w_X3_bySlots {a0 : Nat} {Q : Int → Wd → Prop} {G : Wd} (h : f_X3_bySlots a0 G Q) : wp m_X3_bySlots 1 0 0 0 [some (vR (some a0))] [] G (qI Q) noX := by
  unfold f_X3_bySlots at h
  refine r_aload_n dX3_bySlots_0 rfl rfl iR ?_
  refine r_getI dX3_bySlots_1 (fg1 (f := 4) fX3 (by decide) q563 rfl) h (fun x4 h => ?_)
  refine r_iconst dX3_bySlots_4 ?_
  refine r_isub dX3_bySlots_5 ?_
  refine r_aload_n dX3_bySlots_6 rfl rfl iR ?_
  refine r_getI dX3_bySlots_7 (fg1 (f := 7) fX3 (by decide) q571 rfl) h (fun x5 h => ?_)
  refine r_isub dX3_bySlots_10 ?_
  refine r_aload_n dX3_bySlots_11 rfl rfl iR ?_
  refine r_getI dX3_bySlots_12 (fg1 (f := 11) fX3 (by decide) q583 rfl) h (fun x6 h => ?_)
  refine r_iadd dX3_bySlots_15 ?_
  exact r_iret rfl dX3_bySlots_16 ⟨_, rfl, h⟩
theorem c_X3_bySlots {a0 : Nat} {Q : Int → Wd → Prop} {G : Wd} (h : f_X3_bySlots a0 G Q) : call yX3_bySlots (Cond.code yX3_bySlots cX3_bySlots 1 (some .int)) 1 0 0 [vR (some a0)] G (qI Q) noX :=
  call.enter (by decide +kernel) (la_1 c1R (la_nil rfl)) rfl (w_X3_bySlots h)
abbrev m_X3_byIds : Mt := (yX3_byIds.cls, cX3_byIds, 1, some .int, [], yX3_byIds.name)
theorem yo_X3_byIds : yOK yX3_byIds 0 := ⟨by decide +kernel, by decide +kernel, by decide +kernel⟩
def f_X3_byIds (a0 : Nat) (G : Wd) (Q : Int → Wd → Prop) : Prop :=
  gR G a0 [2] 3 (fun x5 => nn x5 (fun a6 => (isC G a6 14 ∧ f_J5_cardinality a6  G (fun x8 G7 => Q (16 - x8) G7))))
theorem w_X3_byIds {a0 : Nat} {Q : Int → Wd → Prop} {G : Wd} (h : f_X3_byIds a0 G Q) : wp m_X3_byIds 3 0 0 0 [some (vR (some a0))] [] G (qI Q) noX := by
  unfold f_X3_byIds at h
  refine r_bipush dX3_byIds_0 (by decide) ?_
  refine r_aload_n dX3_byIds_2 rfl rfl iR ?_
  refine r_getR dX3_byIds_3 (fg1 (f := 3) fX3 (by decide) q561 rfl) h (fun x5 h => ?_)
  obtain ⟨a6, e, h⟩ := h
  refine wp.cast (L' := [some (vR (some a0))]) (st' := [vR (some a6), vI 16]) rfl (by rw [e]) ?_
  obtain ⟨hC, h⟩ := h
  refine r_callV dX3_byIds_6 hC (c_J5_cardinality h) q1061 q1062 q1063 q100 q1064 rfl yo_J5_cardinality rfl (by decide) (by decide) rfl (rc1 c1I rc0) (by decide) (Nat.zero_le _) (Nat.zero_le _) (ofI fun x8 G7 h => ?_) nox
  refine r_isub dX3_byIds_9 ?_
  exact r_iret rfl dX3_byIds_10 ⟨_, rfl, h⟩
theorem c_X3_byIds {a0 : Nat} {Q : Int → Wd → Prop} {G : Wd} (h : f_X3_byIds a0 G Q) : call yX3_byIds (Cond.code yX3_byIds cX3_byIds 1 (some .int)) 3 0 0 [vR (some a0)] G (qI Q) noX :=
  call.enter (by decide +kernel) (la_1 c1R (la_nil rfl)) rfl (w_X3_byIds h)
abbrev m_X3_be : Mt := (yX3_be.cls, cX3_be, 4, none, [], yX3_be.name)
theorem yo_X3_be : yOK yX3_be 1 := ⟨by decide +kernel, by decide +kernel, by decide +kernel⟩
def f_X3_be_60_b (a0 : Nat) (k60 : Nat → Nat → Option Nat → Option Nat → Wd → Prop) (k n : Nat) (l1 : Option Nat) (l2 : Option Nat) (G : Wd) (Q : Wd → Prop) : Prop :=
  nn l2 (fun a71 => (isC G a71 15 ∧ f_J23_hasNext a71  G (fun x73 G72 => brB x73 ((isC G72 a71 15 ∧ f_J23_next a71  G72 (fun x109 G108 => cst G108 x109 [10] (gR G108 a0 [2] 2 (fun x110 => nn x110 (fun a111 => (isC G108 a111 13 ∧ f_J4_addLast a111 x109 G108 (fun G112 => k60 k n l1 (some a71) G112)))))))) (gR G72 a0 [2] 3 (fun x74 => nn x74 (fun a75 => (isC G72 a75 14 ∧ f_J5_clear a75  G72 (fun G76 => gR G76 a0 [2] 3 (fun x77 => nn l1 (fun a78 => gR G76 a78 [2] 3 (fun x79 => nn x77 (fun a80 => (isC G76 a80 14 ∧ f_J5_or a80 x79 G76 (fun G81 => gI G81 a78 [2] 4 (fun x82 => pF G81 a0 [2] 4 (vI x82) (fun G83 => gI G83 a78 [2] 5 (fun x84 => pF G83 a0 [2] 5 (vI x84) (fun G85 => gI G85 a78 [2] 6 (fun x86 => pF G85 a0 [2] 6 (vI x86) (fun G87 => gZ G87 a78 [2] 15 (fun x88 => pF G87 a0 [2] 15 (vB x88) (fun G89 => gI G89 a78 [2] 7 (fun x90 => pF G89 a0 [2] 7 (vI x90) (fun G91 => gI G91 a78 [2] 8 (fun x92 => pF G91 a0 [2] 8 (vI x92) (fun G93 => gI G93 a78 [2] 9 (fun x94 => pF G93 a0 [2] 9 (vI x94) (fun G95 => gI G95 a78 [2] 10 (fun x96 => pF G95 a0 [2] 10 (vI x96) (fun G97 => gI G97 a78 [2] 11 (fun x98 => pF G97 a0 [2] 11 (vI x98) (fun G99 => gI G99 a78 [2] 12 (fun x100 => pF G99 a0 [2] 12 (vI x100) (fun G101 => gI G101 a78 [2] 13 (fun x102 => pF G101 a0 [2] 13 (vI x102) (fun G103 => gI G103 a78 [2] 14 (fun x104 => pF G103 a0 [2] 14 (vI x104) (fun G105 => gZ G105 a78 [2] 16 (fun x106 => pF G105 a0 [2] 16 (vB x106) (fun G107 => Q G107))))))))))))))))))))))))))))))))))))))))
theorem w_X3_be_60_b {a0 : Nat} {Q : Wd → Prop} {k60 : Nat → Nat → Option Nat → Option Nat → Wd → Prop} (hk60 : ∀ {k n : Nat} {l1 : Option Nat} {l2 : Option Nat} {G : Wd}, k60 k n l1 l2 G → wp m_X3_be 5 k n 60 [some (vR (some a0)), some (vR l1), some (vR l2), none] [] G (qV Q) noX) {k n : Nat} {l1 : Option Nat} {l2 : Option Nat} {G : Wd} (h : f_X3_be_60_b a0 k60 k n l1 l2 G Q) : wp m_X3_be 5 k n 60 [some (vR (some a0)), some (vR l1), some (vR l2), none] [] G (qV Q) noX := by
  unfold f_X3_be_60_b at h
  refine r_aload_n dX3_be_60 rfl rfl iR ?_
  obtain ⟨a71, e, h⟩ := h
  refine wp.cast (L' := [some (vR (some a0)), some (vR l1), some (vR (some a71)), none]) (st' := [vR (some a71)]) (by rw [e]) (by rw [e]) ?_
  obtain ⟨hC, h⟩ := h
  refine r_callF dX3_be_61 hC (c_J23_hasNext h) q1115 q1129 q1131 q124 q1133 q1117 q1116 q1132 q1130 q1128 rfl ⟨by decide +kernel, by decide +kernel, by decide +kernel⟩ rfl (by decide) (by decide) rfl rc0 (by decide) (Nat.zero_le _) (Nat.zero_le _) (ofB fun x73 G72 h => ?_) nox
  refine r_ifZ_eq (tgt := 90) dX3_be_66 (by decide) h (fun h => ?_) (fun h => ?_)
  · refine r_aload_n dX3_be_90 rfl rfl iR ?_
    refine r_getR dX3_be_91 (fg1 (f := 3) fX3 (by decide) q561 rfl) h (fun x74 h => ?_)
    obtain ⟨a75, e, h⟩ := h
    refine wp.cast (L' := [some (vR (some a0)), some (vR l1), some (vR (some a71)), none]) (st' := [vR (some a75)]) rfl (by rw [e]) ?_
    obtain ⟨hC, h⟩ := h
    refine r_callV dX3_be_94 hC (c_J5_clear h) q934 q935 q936 q100 q937 rfl yo_J5_clear rfl (by decide) (by decide) rfl rc0 (by decide) (Nat.zero_le _) (Nat.zero_le _) (ofV fun G76 h => ?_) nox
    refine r_aload_n dX3_be_97 rfl rfl iR ?_
    refine r_getR dX3_be_98 (fg1 (f := 3) fX3 (by decide) q561 rfl) h (fun x77 h => ?_)
    refine r_aload_n dX3_be_101 rfl rfl iR ?_
    obtain ⟨a78, e, h⟩ := h
    refine wp.cast (L' := [some (vR (some a0)), some (vR (some a78)), some (vR (some a71)), none]) (st' := [vR (some a78), vR x77]) (by rw [e]) (by rw [e]) ?_
    refine r_getR dX3_be_102 (fg1 (f := 3) fX3 (by decide) q561 rfl) h (fun x79 h => ?_)
    obtain ⟨a80, e, h⟩ := h
    refine wp.cast (L' := [some (vR (some a0)), some (vR (some a78)), some (vR (some a71)), none]) (st' := [vR x79, vR (some a80)]) rfl (by rw [e]) ?_
    obtain ⟨hC, h⟩ := h
    refine r_callV dX3_be_105 hC (c_J5_or h) q1311 q1312 q1313 q100 q1314 rfl yo_J5_or rfl (by decide) (by decide) rfl rc0 (by decide) (Nat.zero_le _) (Nat.zero_le _) (ofV fun G81 h => ?_) nox
    refine r_aload_n dX3_be_108 rfl rfl iR ?_
    refine r_aload_n dX3_be_109 rfl rfl iR ?_
    refine r_getI dX3_be_110 (fg1 (f := 4) fX3 (by decide) q563 rfl) h (fun x82 h => ?_)
    refine r_put dX3_be_113 (fp1 (f := 4) fX3 (by decide) q563 rfl rfl rfl) fvI h (fun G83 h => ?_)
    refine r_aload_n dX3_be_116 rfl rfl iR ?_
    refine r_aload_n dX3_be_117 rfl rfl iR ?_
    refine r_getI dX3_be_118 (fg1 (f := 5) fX3 (by decide) q565 rfl) h (fun x84 h => ?_)
    refine r_put dX3_be_121 (fp1 (f := 5) fX3 (by decide) q565 rfl rfl rfl) fvI h (fun G85 h => ?_)
    refine r_aload_n dX3_be_124 rfl rfl iR ?_
    refine r_aload_n dX3_be_125 rfl rfl iR ?_
    refine r_getI dX3_be_126 (fg1 (f := 6) fX3 (by decide) q567 rfl) h (fun x86 h => ?_)
    refine r_put dX3_be_129 (fp1 (f := 6) fX3 (by decide) q567 rfl rfl rfl) fvI h (fun G87 h => ?_)
    refine r_aload_n dX3_be_132 rfl rfl iR ?_
    refine r_aload_n dX3_be_133 rfl rfl iR ?_
    refine r_getZ dX3_be_134 (fg1 (f := 15) fX3 (by decide) q594 rfl) h (fun x88 h => ?_)
    refine r_put dX3_be_137 (fp1 (f := 15) fX3 (by decide) q594 rfl rfl rfl) fvB h (fun G89 h => ?_)
    refine r_aload_n dX3_be_140 rfl rfl iR ?_
    refine r_aload_n dX3_be_141 rfl rfl iR ?_
    refine r_getI dX3_be_142 (fg1 (f := 7) fX3 (by decide) q571 rfl) h (fun x90 h => ?_)
    refine r_put dX3_be_145 (fp1 (f := 7) fX3 (by decide) q571 rfl rfl rfl) fvI h (fun G91 h => ?_)
    refine r_aload_n dX3_be_148 rfl rfl iR ?_
    refine r_aload_n dX3_be_149 rfl rfl iR ?_
    refine r_getI dX3_be_150 (fg1 (f := 8) fX3 (by decide) q574 rfl) h (fun x92 h => ?_)
    refine r_put dX3_be_153 (fp1 (f := 8) fX3 (by decide) q574 rfl rfl rfl) fvI h (fun G93 h => ?_)
    refine r_aload_n dX3_be_156 rfl rfl iR ?_
    refine r_aload_n dX3_be_157 rfl rfl iR ?_
    refine r_getI dX3_be_158 (fg1 (f := 9) fX3 (by decide) q577 rfl) h (fun x94 h => ?_)
    refine r_put dX3_be_161 (fp1 (f := 9) fX3 (by decide) q577 rfl rfl rfl) fvI h (fun G95 h => ?_)
    refine r_aload_n dX3_be_164 rfl rfl iR ?_
    refine r_aload_n dX3_be_165 rfl rfl iR ?_
    refine r_getI dX3_be_166 (fg1 (f := 10) fX3 (by decide) q580 rfl) h (fun x96 h => ?_)
    refine r_put dX3_be_169 (fp1 (f := 10) fX3 (by decide) q580 rfl rfl rfl) fvI h (fun G97 h => ?_)
    refine r_aload_n dX3_be_172 rfl rfl iR ?_
    refine r_aload_n dX3_be_173 rfl rfl iR ?_
    refine r_getI dX3_be_174 (fg1 (f := 11) fX3 (by decide) q583 rfl) h (fun x98 h => ?_)
    refine r_put dX3_be_177 (fp1 (f := 11) fX3 (by decide) q583 rfl rfl rfl) fvI h (fun G99 h => ?_)
    refine r_aload_n dX3_be_180 rfl rfl iR ?_
    refine r_aload_n dX3_be_181 rfl rfl iR ?_
    refine r_getI dX3_be_182 (fg1 (f := 12) fX3 (by decide) q585 rfl) h (fun x100 h => ?_)
    refine r_put dX3_be_185 (fp1 (f := 12) fX3 (by decide) q585 rfl rfl rfl) fvI h (fun G101 h => ?_)
    refine r_aload_n dX3_be_188 rfl rfl iR ?_
    refine r_aload_n dX3_be_189 rfl rfl iR ?_
    refine r_getI dX3_be_190 (fg1 (f := 13) fX3 (by decide) q588 rfl) h (fun x102 h => ?_)
    refine r_put dX3_be_193 (fp1 (f := 13) fX3 (by decide) q588 rfl rfl rfl) fvI h (fun G103 h => ?_)
    refine r_aload_n dX3_be_196 rfl rfl iR ?_
    refine r_aload_n dX3_be_197 rfl rfl iR ?_
    refine r_getI dX3_be_198 (fg1 (f := 14) fX3 (by decide) q591 rfl) h (fun x104 h => ?_)
    refine r_put dX3_be_201 (fp1 (f := 14) fX3 (by decide) q591 rfl rfl rfl) fvI h (fun G105 h => ?_)
    refine r_aload_n dX3_be_204 rfl rfl iR ?_
    refine r_aload_n dX3_be_205 rfl rfl iR ?_
    refine r_getZ dX3_be_206 (fg1 (f := 16) fX3 (by decide) q597 rfl) h (fun x106 h => ?_)
    refine r_put dX3_be_209 (fp1 (f := 16) fX3 (by decide) q597 rfl rfl rfl) fvB h (fun G107 h => ?_)
    exact r_vret rfl dX3_be_212 ⟨rfl, h⟩
  · refine r_aload_n dX3_be_69 rfl rfl iR ?_
    obtain ⟨hC, h⟩ := h
    refine r_callF dX3_be_70 hC (c_J23_next h) q1141 q1256 q1258 q124 q1260 q1143 q1142 q1259 q1257 q1128 rfl ⟨by decide +kernel, by decide +kernel, by decide +kernel⟩ rfl (by decide) (by decide) rfl rc0 (by decide) (Nat.zero_le _) (Nat.zero_le _) (ofR fun x109 G108 h => ?_) nox
    refine r_ccast (ci := 10) dX3_be_75 q1310 rfl h (fun h => ?_)
    refine r_astore_n (L' := [some (vR (some a0)), some (vR l1), some (vR (some a71)), some (vR x109)]) dX3_be_78 rfl rfl iR cR (by decide) ?_
    refine r_aload_n dX3_be_79 rfl rfl iR ?_
    refine r_getR dX3_be_80 (fg1 (f := 2) fX3 (by decide) q559 rfl) h (fun x110 h => ?_)
    refine r_aload_n dX3_be_83 rfl rfl iR ?_
    obtain ⟨a111, e, h⟩ := h
    refine wp.cast (L' := [some (vR (some a0)), some (vR l1), some (vR (some a71)), some (vR x109)]) (st' := [vR x109, vR (some a111)]) rfl (by rw [e]) ?_
    obtain ⟨hC, h⟩ := h
    refine r_callV dX3_be_84 hC (c_J4_addLast h) q1285 q1286 q1287 q99 q1288 rfl yo_J4_addLast rfl (by decide) (by decide) rfl rc0 (by decide) (Nat.zero_le _) (Nat.zero_le _) (ofV fun G112 h => ?_) nox
    refine r_goto (tgt := 60) dX3_be_87 (by decide) ?_
    refine wp.locals (L' := [some (vR (some a0)), some (vR l1), some (vR (some a71)), none]) (ls_s (ls_s (ls_s (ls_n ls_0)))) ?_
    exact hk60 h
def f_X3_be_60 (a0 : Nat) (Q : Wd → Prop) : Nat → Nat → Nat → Option Nat → Option Nat → Wd → Prop
  | 0, _, _, _, _, _ => False
  | fl + 1, k, n, l1, l2, G => f_X3_be_60_b a0  (fun k n l1 l2 G => f_X3_be_60 a0  Q fl k n l1 l2 G) k n l1 l2 G Q
theorem w_X3_be_60 {a0 : Nat} {Q : Wd → Prop} : ∀ (fl : Nat) {k n : Nat} {l1 : Option Nat} {l2 : Option Nat} {G : Wd}, f_X3_be_60 a0 Q fl k n l1 l2 G → wp m_X3_be 5 k n 60 [some (vR (some a0)), some (vR l1), some (vR l2), none] [] G (qV Q) noX := by
  intro fl
  induction fl with
  | zero => intro k n l1 l2 G h; exact (show False from h).elim
  | succ fl ih => intro k n l1 l2 G h; exact w_X3_be_60_b  (fun h => ih h) h
def f_X3_be_15_b (a0 : Nat) (k15 : Nat → Nat → Option Nat → Option Nat → Wd → Prop) (k n : Nat) (l1 : Option Nat) (l2 : Option Nat) (G : Wd) (Q : Wd → Prop) : Prop :=
  nn l2 (fun a113 => (isC G a113 15 ∧ f_J23_hasNext a113  G (fun x115 G114 => brB x115 ((isC G114 a113 15 ∧ f_J23_next a113  G114 (fun x128 G127 => cst G127 x128 [7] (gR G127 a0 [2] 1 (fun x129 => nn x129 (fun a130 => (isC G127 a130 13 ∧ f_J4_addLast a130 x128 G127 (fun G131 => k15 k n l1 (some a113) G131)))))))) (gR G114 a0 [2] 2 (fun x116 => nn x116 (fun a117 => (isC G114 a117 13 ∧ f_J4_clear a117  G114 (fun G118 => nn l1 (fun a119 => gR G118 a119 [2] 2 (fun x120 => nn x120 (fun a121 => (∃ k123 n124, (k123 ≤ k ∧ n124 ≤ n) ∧ (isC G118 a121 13 ∧ f_J4_iterator k123 n124 a121  G118 (fun x125 G122 => ∃ fl126, f_X3_be_60 a0 Q fl126 (k - k123) (n - n124) (some a119) x125 G122))))))))))))))
theorem w_X3_be_15_b {a0 : Nat} {Q : Wd → Prop} {k15 : Nat → Nat → Option Nat → Option Nat → Wd → Prop} (hk15 : ∀ {k n : Nat} {l1 : Option Nat} {l2 : Option Nat} {G : Wd}, k15 k n l1 l2 G → wp m_X3_be 5 k n 15 [some (vR (some a0)), some (vR l1), some (vR l2), none] [] G (qV Q) noX) {k n : Nat} {l1 : Option Nat} {l2 : Option Nat} {G : Wd} (h : f_X3_be_15_b a0 k15 k n l1 l2 G Q) : wp m_X3_be 5 k n 15 [some (vR (some a0)), some (vR l1), some (vR l2), none] [] G (qV Q) noX := by
  unfold f_X3_be_15_b at h
  refine r_aload_n dX3_be_15 rfl rfl iR ?_
  obtain ⟨a113, e, h⟩ := h
  refine wp.cast (L' := [some (vR (some a0)), some (vR l1), some (vR (some a113)), none]) (st' := [vR (some a113)]) (by rw [e]) (by rw [e]) ?_
  obtain ⟨hC, h⟩ := h
  refine r_callF dX3_be_16 hC (c_J23_hasNext h) q1115 q1129 q1131 q124 q1133 q1117 q1116 q1132 q1130 q1128 rfl ⟨by decide +kernel, by decide +kernel, by decide +kernel⟩ rfl (by decide) (by decide) rfl rc0 (by decide) (Nat.zero_le _) (Nat.zero_le _) (ofB fun x115 G114 h => ?_) nox
  refine r_ifZ_eq (tgt := 45) dX3_be_21 (by decide) h (fun h => ?_) (fun h => ?_)
  · refine r_aload_n dX3_be_45 rfl rfl iR ?_
    refine r_getR dX3_be_46 (fg1 (f := 2) fX3 (by decide) q559 rfl) h (fun x116 h => ?_)
    obtain ⟨a117, e, h⟩ := h
    refine wp.cast (L' := [some (vR (some a0)), some (vR l1), some (vR (some a113)), none]) (st' := [vR (some a117)]) rfl (by rw [e]) ?_
    obtain ⟨hC, h⟩ := h
    refine r_callV dX3_be_49 hC (c_J4_clear h) q927 q928 q929 q99 q930 rfl yo_J4_clear rfl (by decide) (by decide) rfl rc0 (by decide) (Nat.zero_le _) (Nat.zero_le _) (ofV fun G118 h => ?_) nox
    refine r_aload_n dX3_be_52 rfl rfl iR ?_
    obtain ⟨a119, e, h⟩ := h
    refine wp.cast (L' := [some (vR (some a0)), some (vR (some a119)), some (vR (some a113)), none]) (st' := [vR (some a119)]) (by rw [e]) (by rw [e]) ?_
    refine r_getR dX3_be_53 (fg1 (f := 2) fX3 (by decide) q559 rfl) h (fun x120 h => ?_)
    obtain ⟨a121, e, h⟩ := h
    refine wp.cast (L' := [some (vR (some a0)), some (vR (some a119)), some (vR (some a113)), none]) (st' := [vR (some a121)]) rfl (by rw [e]) ?_
    obtain ⟨k123, n124, ⟨hk1, hn1⟩, h⟩ := h
    obtain ⟨hC, h⟩ := h
    refine r_callV dX3_be_56 hC (c_J4_iterator h) q1084 q1085 q1086 q99 q1087 rfl yo_J4_iterator rfl (by decide) (by decide) rfl rc0 (by decide) hk1 hn1 (ofR fun x125 G122 h => ?_) nox
    refine r_astore_n (L' := [some (vR (some a0)), some (vR (some a119)), some (vR x125), none]) dX3_be_59 rfl rfl iR cR (by decide) ?_
    obtain ⟨fl126, h⟩ := h
    exact w_X3_be_60 fl126 h
  · refine r_aload_n dX3_be_24 rfl rfl iR ?_
    obtain ⟨hC, h⟩ := h
    refine r_callF dX3_be_25 hC (c_J23_next h) q1141 q1256 q1258 q124 q1260 q1143 q1142 q1259 q1257 q1128 rfl ⟨by decide +kernel, by decide +kernel, by decide +kernel⟩ rfl (by decide) (by decide) rfl rc0 (by decide) (Nat.zero_le _) (Nat.zero_le _) (ofR fun x128 G127 h => ?_) nox
    refine r_ccast (ci := 7) dX3_be_30 q1284 rfl h (fun h => ?_)
    refine r_astore_n (L' := [some (vR (some a0)), some (vR l1), some (vR (some a113)), some (vR x128)]) dX3_be_33 rfl rfl iR cR (by decide) ?_
    refine r_aload_n dX3_be_34 rfl rfl iR ?_
    refine r_getR dX3_be_35 (fg1 (f := 1) fX3 (by decide) q556 rfl) h (fun x129 h => ?_)
    refine r_aload_n dX3_be_38 rfl rfl iR ?_
    obtain ⟨a130, e, h⟩ := h
    refine wp.cast (L' := [some (vR (some a0)), some (vR l1), some (vR (some a113)), some (vR x128)]) (st' := [vR x128, vR (some a130)]) rfl (by rw [e]) ?_
    obtain ⟨hC, h⟩ := h
    refine r_callV dX3_be_39 hC (c_J4_addLast h) q1285 q1286 q1287 q99 q1288 rfl yo_J4_addLast rfl (by decide) (by decide) rfl rc0 (by decide) (Nat.zero_le _) (Nat.zero_le _) (ofV fun G131 h => ?_) nox
    refine r_goto (tgt := 15) dX3_be_42 (by decide) ?_
    refine wp.locals (L' := [some (vR (some a0)), some (vR l1), some (vR (some a113)), none]) (ls_s (ls_s (ls_s (ls_n ls_0)))) ?_
    exact hk15 h
def f_X3_be_15 (a0 : Nat) (Q : Wd → Prop) : Nat → Nat → Nat → Option Nat → Option Nat → Wd → Prop
  | 0, _, _, _, _, _ => False
  | fl + 1, k, n, l1, l2, G => f_X3_be_15_b a0  (fun k n l1 l2 G => f_X3_be_15 a0  Q fl k n l1 l2 G) k n l1 l2 G Q
theorem w_X3_be_15 {a0 : Nat} {Q : Wd → Prop} : ∀ (fl : Nat) {k n : Nat} {l1 : Option Nat} {l2 : Option Nat} {G : Wd}, f_X3_be_15 a0 Q fl k n l1 l2 G → wp m_X3_be 5 k n 15 [some (vR (some a0)), some (vR l1), some (vR l2), none] [] G (qV Q) noX := by
  intro fl
  induction fl with
  | zero => intro k n l1 l2 G h; exact (show False from h).elim
  | succ fl ih => intro k n l1 l2 G h; exact w_X3_be_15_b  (fun h => ih h) h
def f_X3_be (k n : Nat) (a0 : Nat) (a1 : Option Nat) (G : Wd) (Q : Wd → Prop) : Prop :=
  gR G a0 [2] 1 (fun x132 => nn x132 (fun a133 => (isC G a133 13 ∧ f_J4_clear a133  G (fun G134 => nn a1 (fun a135 => gR G134 a135 [2] 1 (fun x136 => nn x136 (fun a137 => (∃ k139 n140, (k139 ≤ k ∧ n140 ≤ n) ∧ (isC G134 a137 13 ∧ f_J4_iterator k139 n140 a137  G134 (fun x141 G138 => ∃ fl142, f_X3_be_15 a0 Q fl142 (k - k139) (n - n140) (some a135) x141 G138))))))))))
theorem w_X3_be {a0 : Nat} {Q : Wd → Prop} {k n : Nat} {a1 : Option Nat} {G : Wd} (h : f_X3_be k n a0 a1 G Q) : wp m_X3_be 5 k n 0 [some (vR (some a0)), some (vR a1), none, none] [] G (qV Q) noX := by
  unfold f_X3_be at h
  refine r_aload_n dX3_be_0 rfl rfl iR ?_
  refine r_getR dX3_be_1 (fg1 (f := 1) fX3 (by decide) q556 rfl) h (fun x132 h => ?_)
  obtain ⟨a133, e, h⟩ := h
  refine wp.cast (L' := [some (vR (some a0)), some (vR a1), none, none]) (st' := [vR (some a133)]) rfl (by rw [e]) ?_
  obtain ⟨hC, h⟩ := h
  refine r_callV dX3_be_4 hC (c_J4_clear h) q927 q928 q929 q99 q930 rfl yo_J4_clear rfl (by decide) (by decide) rfl rc0 (by decide) (Nat.zero_le _) (Nat.zero_le _) (ofV fun G134 h => ?_) nox
  refine r_aload_n dX3_be_7 rfl rfl iR ?_
  obtain ⟨a135, e, h⟩ := h
  refine wp.cast (L' := [some (vR (some a0)), some (vR (some a135)), none, none]) (st' := [vR (some a135)]) (by rw [e]) (by rw [e]) ?_
  refine r_getR dX3_be_8 (fg1 (f := 1) fX3 (by decide) q556 rfl) h (fun x136 h => ?_)
  obtain ⟨a137, e, h⟩ := h
  refine wp.cast (L' := [some (vR (some a0)), some (vR (some a135)), none, none]) (st' := [vR (some a137)]) rfl (by rw [e]) ?_
  obtain ⟨k139, n140, ⟨hk1, hn1⟩, h⟩ := h
  obtain ⟨hC, h⟩ := h
  refine r_callV dX3_be_11 hC (c_J4_iterator h) q1084 q1085 q1086 q99 q1087 rfl yo_J4_iterator rfl (by decide) (by decide) rfl rc0 (by decide) hk1 hn1 (ofR fun x141 G138 h => ?_) nox
  refine r_astore_n (L' := [some (vR (some a0)), some (vR (some a135)), some (vR x141), none]) dX3_be_14 rfl rfl iR cR (by decide) ?_
  obtain ⟨fl142, h⟩ := h
  exact w_X3_be_15 fl142 h
theorem c_X3_be {a0 : Nat} {a1 : Option Nat} {k n : Nat} {Q : Wd → Prop} {G : Wd} (h : f_X3_be k n a0 a1 G Q) : call yX3_be (Cond.code yX3_be cX3_be 4 (none)) 5 k n [vR (some a0), vR a1] G (qV Q) noX :=
  call.enter (by decide +kernel) (la_1 c1R (la_1 c1R (la_nil rfl))) rfl (w_X3_be h)
abbrev m_X3_bell : Mt := (yX3_bell.cls, cX3_bell, 1, some .int, [], yX3_bell.name)
theorem yo_X3_bell : yOK yX3_bell 0 := ⟨by decide +kernel, by decide +kernel, by decide +kernel⟩
def f_X3_bell_43 (a0 : Nat) (G : Wd) (Q : Int → Wd → Prop) : Prop :=
  Q 1 G
theorem w_X3_bell_43 {a0 : Nat} {Q : Int → Wd → Prop} {G : Wd} (h : f_X3_bell_43 a0 G Q) : wp m_X3_bell 1 0 0 43 [none] [] G (qI Q) noX := by
  unfold f_X3_bell_43 at h
  refine r_iconst dX3_bell_43 ?_
  refine r_goto (tgt := 48) dX3_bell_44 (by decide) ?_
  exact r_iret rfl dX3_bell_48 ⟨_, rfl, h⟩
def f_X3_bell_47 (a0 : Nat) (G : Wd) (Q : Int → Wd → Prop) : Prop :=
  Q 0 G
theorem w_X3_bell_47 {a0 : Nat} {Q : Int → Wd → Prop} {G : Wd} (h : f_X3_bell_47 a0 G Q) : wp m_X3_bell 1 0 0 47 [none] [] G (qI Q) noX := by
  unfold f_X3_bell_47 at h
  refine r_iconst dX3_bell_47 ?_
  exact r_iret rfl dX3_bell_48 ⟨_, rfl, h⟩
def f_X3_bell (a0 : Nat) (G : Wd) (Q : Int → Wd → Prop) : Prop :=
  gI G a0 [2] 8 (fun x8 => gI G a0 [2] 7 (fun x9 => br x8 x9 (¬ x8 = x9) (gZ G a0 [2] 15 (fun x10 => brB x10 (gI G a0 [2] 14 (fun x11 => gI G a0 [2] 8 (fun x12 => br x11 x12 (x11 < x12) (f_X3_bell_47 a0 G Q) (gI G a0 [2] 14 (fun x13 => gI G a0 [2] 7 (fun x14 => br x13 x14 (x14 ≤ x13) (f_X3_bell_47 a0 G Q) (f_X3_bell_43 a0 G Q))))))) (f_X3_bell_43 a0 G Q))) (Q (-2) G)))
theorem w_X3_bell {a0 : Nat} {Q : Int → Wd → Prop} {G : Wd} (h : f_X3_bell a0 G Q) : wp m_X3_bell 1 0 0 0 [some (vR (some a0))] [] G (qI Q) noX := by
  unfold f_X3_bell at h
  refine r_aload_n dX3_bell_0 rfl rfl iR ?_
  refine r_getI dX3_bell_1 (fg1 (f := 8) fX3 (by decide) q574 rfl) h (fun x8 h => ?_)
  refine r_aload_n dX3_bell_4 rfl rfl iR ?_
  refine r_getI dX3_bell_5 (fg1 (f := 7) fX3 (by decide) q571 rfl) h (fun x9 h => ?_)
  refine r_icmp_ne (tgt := 14) dX3_bell_8 (by decide) h (fun h => ?_) (fun h => ?_)
  · refine r_aload_n dX3_bell_14 rfl rfl iR ?_
    refine r_getZ dX3_bell_15 (fg1 (f := 15) fX3 (by decide) q594 rfl) h (fun x10 h => ?_)
    refine r_ifZ_eq (tgt := 43) dX3_bell_18 (by decide) h (fun h => ?_) (fun h => ?_)
    · refine wp.locals (L' := [none]) (ls_n ls_0) ?_
      exact w_X3_bell_43 h
    · refine r_aload_n dX3_bell_21 rfl rfl iR ?_
      refine r_getI dX3_bell_22 (fg1 (f := 14) fX3 (by decide) q591 rfl) h (fun x11 h => ?_)
      refine r_aload_n dX3_bell_25 rfl rfl iR ?_
      refine r_getI dX3_bell_26 (fg1 (f := 8) fX3 (by decide) q574 rfl) h (fun x12 h => ?_)
      refine r_icmp_lt (tgt := 47) dX3_bell_29 (by decide) h (fun h => ?_) (fun h => ?_)
      · refine wp.locals (L' := [none]) (ls_n ls_0) ?_
        exact w_X3_bell_47 h
      · refine r_aload_n dX3_bell_32 rfl rfl iR ?_
        refine r_getI dX3_bell_33 (fg1 (f := 14) fX3 (by decide) q591 rfl) h (fun x13 h => ?_)
        refine r_aload_n dX3_bell_36 rfl rfl iR ?_
        refine r_getI dX3_bell_37 (fg1 (f := 7) fX3 (by decide) q571 rfl) h (fun x14 h => ?_)
        refine r_icmp_ge (tgt := 47) dX3_bell_40 (by decide) h (fun h => ?_) (fun h => ?_)
        · refine wp.locals (L' := [none]) (ls_n ls_0) ?_
          exact w_X3_bell_47 h
        · refine wp.locals (L' := [none]) (ls_n ls_0) ?_
          exact w_X3_bell_43 h
  · refine r_bipush dX3_bell_11 (by decide) ?_
    exact r_iret rfl dX3_bell_13 ⟨_, rfl, h⟩
theorem c_X3_bell {a0 : Nat} {Q : Int → Wd → Prop} {G : Wd} (h : f_X3_bell a0 G Q) : call yX3_bell (Cond.code yX3_bell cX3_bell 1 (some .int)) 1 0 0 [vR (some a0)] G (qI Q) noX :=
  call.enter (by decide +kernel) (la_1 c1R (la_nil rfl)) rfl (w_X3_bell h)
abbrev m_X3_hasPlace : Mt := (yX3_hasPlace.cls, cX3_hasPlace, 1, some .boolean, [], yX3_hasPlace.name)
theorem yo_X3_hasPlace : yOK yX3_hasPlace 0 := ⟨by decide +kernel, by decide +kernel, by decide +kernel⟩
def f_X3_hasPlace (a0 : Nat) (G : Wd) (Q : Bool → Wd → Prop) : Prop :=
  gI G a0 [2] 12 (fun x4 => gI G a0 [2] 13 (fun x5 => gI G a0 [2] 5 (fun x6 => br (x4 - x5) (x6 - 1) ((x6 - 1) ≤ (x4 - x5)) (Q false G) (Q true G))))
theorem w_X3_hasPlace {a0 : Nat} {Q : Bool → Wd → Prop} {G : Wd} (h : f_X3_hasPlace a0 G Q) : wp m_X3_hasPlace 1 0 0 0 [some (vR (some a0))] [] G (qB Q) noX := by
  unfold f_X3_hasPlace at h
  refine r_aload_n dX3_hasPlace_0 rfl rfl iR ?_
  refine r_getI dX3_hasPlace_1 (fg1 (f := 12) fX3 (by decide) q585 rfl) h (fun x4 h => ?_)
  refine r_aload_n dX3_hasPlace_4 rfl rfl iR ?_
  refine r_getI dX3_hasPlace_5 (fg1 (f := 13) fX3 (by decide) q588 rfl) h (fun x5 h => ?_)
  refine r_isub dX3_hasPlace_8 ?_
  refine r_aload_n dX3_hasPlace_9 rfl rfl iR ?_
  refine r_getI dX3_hasPlace_10 (fg1 (f := 5) fX3 (by decide) q565 rfl) h (fun x6 h => ?_)
  refine r_iconst dX3_hasPlace_13 ?_
  refine r_isub dX3_hasPlace_14 ?_
  refine r_icmp_ge (tgt := 22) dX3_hasPlace_15 (by decide) h (fun h => ?_) (fun h => ?_)
  · refine r_iconst dX3_hasPlace_22 ?_
    refine wp.cast (st' := [vB false]) rfl (congrArg (fun q => [q]) vI0) ?_
    exact r_zret rfl dX3_hasPlace_23 ⟨_, rfl, h⟩
  · refine r_iconst dX3_hasPlace_18 ?_
    refine r_goto (tgt := 23) dX3_hasPlace_19 (by decide) ?_
    refine wp.cast (st' := [vB true]) rfl (congrArg (fun q => [q]) vI1) ?_
    exact r_zret rfl dX3_hasPlace_23 ⟨_, rfl, h⟩
theorem c_X3_hasPlace {a0 : Nat} {Q : Bool → Wd → Prop} {G : Wd} (h : f_X3_hasPlace a0 G Q) : call yX3_hasPlace (Cond.code yX3_hasPlace cX3_hasPlace 1 (some .boolean)) 1 0 0 [vR (some a0)] G (qB Q) noX :=
  call.enter (by decide +kernel) (la_1 c1R (la_nil rfl)) rfl (w_X3_hasPlace h)
abbrev m_X3_phaseOf : Mt := (yX3_phaseOf.cls, cX3_phaseOf, 2, some .int, [], yX3_phaseOf.name)
theorem yo_X3_phaseOf : yOK yX3_phaseOf 1 := ⟨by decide +kernel, by decide +kernel, by decide +kernel⟩
def f_X3_phaseOf (a0 : Nat) (a1 : Int) (G : Wd) (Q : Int → Wd → Prop) : Prop :=
  gI G a0 [2] 5 (fun x2 => okd a1 x2 (okm (a1.tdiv x2) 2 (br0 ((a1.tdiv x2) % 2) (¬ ((a1.tdiv x2) % 2) = 0) (Q 0 G) (Q 1 G))))
theorem w_X3_phaseOf {a0 : Nat} {Q : Int → Wd → Prop} {a1 : Int} {G : Wd} (h : f_X3_phaseOf a0 a1 G Q) : wp m_X3_phaseOf 1 0 0 0 [some (vR (some a0)), some (vI a1)] [] G (qI Q) noX := by
  unfold f_X3_phaseOf at h
  refine r_iload_n dX3_phaseOf_0 rfl rfl iI ?_
  refine r_aload_n dX3_phaseOf_1 rfl rfl iR ?_
  refine r_getI dX3_phaseOf_2 (fg1 (f := 5) fX3 (by decide) q565 rfl) h (fun x2 h => ?_)
  refine r_idiv dX3_phaseOf_5 h (fun h => ?_)
  refine r_iconst dX3_phaseOf_6 ?_
  refine r_irem dX3_phaseOf_7 h (fun h => ?_)
  refine r_if_ne (tgt := 15) dX3_phaseOf_8 (by decide) h (fun h => ?_) (fun h => ?_)
  · refine r_iconst dX3_phaseOf_15 ?_
    exact r_iret rfl dX3_phaseOf_16 ⟨_, rfl, h⟩
  · refine r_iconst dX3_phaseOf_11 ?_
    refine r_goto (tgt := 16) dX3_phaseOf_12 (by decide) ?_
    exact r_iret rfl dX3_phaseOf_16 ⟨_, rfl, h⟩
theorem c_X3_phaseOf {a0 : Nat} {a1 : Int} {Q : Int → Wd → Prop} {G : Wd} (h : f_X3_phaseOf a0 a1 G Q) : call yX3_phaseOf (Cond.code yX3_phaseOf cX3_phaseOf 2 (some .int)) 1 0 0 [vR (some a0), vI a1] G (qI Q) noX :=
  call.enter (by decide +kernel) (la_1 c1R (la_1 c1I (la_nil rfl))) rfl (w_X3_phaseOf h)
abbrev m_X3_hasWork : Mt := (yX3_hasWork.cls, cX3_hasWork, 1, some .boolean, [], yX3_hasWork.name)
theorem yo_X3_hasWork : yOK yX3_hasWork 0 := ⟨by decide +kernel, by decide +kernel, by decide +kernel⟩
def f_X3_hasWork (a0 : Nat) (G : Wd) (Q : Bool → Wd → Prop) : Prop :=
  gI G a0 [2] 9 (fun x3 => gI G a0 [2] 10 (fun x4 => br x3 x4 (x3 ≤ x4) (Q false G) (Q true G)))
theorem w_X3_hasWork {a0 : Nat} {Q : Bool → Wd → Prop} {G : Wd} (h : f_X3_hasWork a0 G Q) : wp m_X3_hasWork 1 0 0 0 [some (vR (some a0))] [] G (qB Q) noX := by
  unfold f_X3_hasWork at h
  refine r_aload_n dX3_hasWork_0 rfl rfl iR ?_
  refine r_getI dX3_hasWork_1 (fg1 (f := 9) fX3 (by decide) q577 rfl) h (fun x3 h => ?_)
  refine r_aload_n dX3_hasWork_4 rfl rfl iR ?_
  refine r_getI dX3_hasWork_5 (fg1 (f := 10) fX3 (by decide) q580 rfl) h (fun x4 h => ?_)
  refine r_icmp_le (tgt := 15) dX3_hasWork_8 (by decide) h (fun h => ?_) (fun h => ?_)
  · refine r_iconst dX3_hasWork_15 ?_
    refine wp.cast (st' := [vB false]) rfl (congrArg (fun q => [q]) vI0) ?_
    exact r_zret rfl dX3_hasWork_16 ⟨_, rfl, h⟩
  · refine r_iconst dX3_hasWork_11 ?_
    refine r_goto (tgt := 16) dX3_hasWork_12 (by decide) ?_
    refine wp.cast (st' := [vB true]) rfl (congrArg (fun q => [q]) vI1) ?_
    exact r_zret rfl dX3_hasWork_16 ⟨_, rfl, h⟩
theorem c_X3_hasWork {a0 : Nat} {Q : Bool → Wd → Prop} {G : Wd} (h : f_X3_hasWork a0 G Q) : call yX3_hasWork (Cond.code yX3_hasWork cX3_hasWork 1 (some .boolean)) 1 0 0 [vR (some a0)] G (qB Q) noX :=
  call.enter (by decide +kernel) (la_1 c1R (la_nil rfl)) rfl (w_X3_hasWork h)
abbrev m_X3_take : Mt := (yX3_take.cls, cX3_take, 2, some (.object "QueueDrive$Post"), [], yX3_take.name)
theorem yo_X3_take : yOK yX3_take 0 := ⟨by decide +kernel, by decide +kernel, by decide +kernel⟩
def f_X3_take (a0 : Nat) (G : Wd) (Q : Option Nat → Wd → Prop) : Prop :=
  gR G a0 [2] 2 (fun x16 => nn x16 (fun a17 => (isC G a17 13 ∧ f_J4_pollFirst a17  G (fun x19 G18 => cst G18 x19 [10] (gI G18 a0 [2] 13 (fun x20 => pF G18 a0 [2] 13 (vI (x20 + 1)) (fun G21 => nn x19 (fun a22 => gI G21 a22 [10] 1 (fun x23 => pF G21 a0 [2] 11 (vI x23) (fun G24 => gR G24 a0 [2] 3 (fun x25 => gR G24 a22 [10] 0 (fun x26 => nn x26 (fun a27 => gI G24 a27 [9] 1 (fun x28 => nn x25 (fun a29 => (isC G24 a29 14 ∧ f_J5_clear_2 a29 x28 G24 (fun G30 => Q (some a22) G30)))))))))))))))))
theorem w_X3_take {a0 : Nat} {Q : Option Nat → Wd → Prop} {G : Wd} (h : f_X3_take a0 G Q) : wp m_X3_take 3 0 0 0 [some (vR (some a0)), none] [] G (qR Q) noX := by
  unfold f_X3_take at h
  refine r_aload_n dX3_take_0 rfl rfl iR ?_
  refine r_getR dX3_take_1 (fg1 (f := 2) fX3 (by decide) q559 rfl) h (fun x16 h => ?_)
  obtain ⟨a17, e, h⟩ := h
  refine wp.cast (L' := [some (vR (some a0)), none]) (st' := [vR (some a17)]) rfl (by rw [e]) ?_
  obtain ⟨hC, h⟩ := h
  refine r_callV dX3_take_4 hC (c_J4_pollFirst h) q1780 q1731 q1732 q99 q1733 rfl yo_J4_pollFirst rfl (by decide) (by decide) rfl rc0 (by decide) (Nat.zero_le _) (Nat.zero_le _) (ofR fun x19 G18 h => ?_) nox
  refine r_ccast (ci := 10) dX3_take_7 q1310 rfl h (fun h => ?_)
  refine r_astore_n (L' := [some (vR (some a0)), some (vR x19)]) dX3_take_10 rfl rfl iR cR (by decide) ?_
  refine r_aload_n dX3_take_11 rfl rfl iR ?_
  refine r_dup dX3_take_12 c1R ?_
  refine r_getI dX3_take_13 (fg1 (f := 13) fX3 (by decide) q588 rfl) h (fun x20 h => ?_)
  refine r_iconst dX3_take_16 ?_
  refine r_iadd dX3_take_17 ?_
  refine r_put dX3_take_18 (fp1 (f := 13) fX3 (by decide) q588 rfl rfl rfl) fvI h (fun G21 h => ?_)
  refine r_aload_n dX3_take_21 rfl rfl iR ?_
  refine r_aload_n dX3_take_22 rfl rfl iR ?_
  obtain ⟨a22, e, h⟩ := h
  refine wp.cast (L' := [some (vR (some a0)), some (vR (some a22))]) (st' := [vR (some a22), vR (some a0)]) (by rw [e]) (by rw [e]) ?_
  refine r_getI dX3_take_23 (fg1 (f := 1) fX11 (by decide) q1616 rfl) h (fun x23 h => ?_)
  refine r_put dX3_take_26 (fp1 (f := 11) fX3 (by decide) q583 rfl rfl rfl) fvI h (fun G24 h => ?_)
  refine r_aload_n dX3_take_29 rfl rfl iR ?_
  refine r_getR dX3_take_30 (fg1 (f := 3) fX3 (by decide) q561 rfl) h (fun x25 h => ?_)
  refine r_aload_n dX3_take_33 rfl rfl iR ?_
  refine r_getR dX3_take_34 (fg1 (f := 0) fX11 (by decide) q1613 rfl) h (fun x26 h => ?_)
  obtain ⟨a27, e, h⟩ := h
  refine wp.cast (L' := [some (vR (some a0)), some (vR (some a22))]) (st' := [vR (some a27), vR x25]) rfl (by rw [e]) ?_
  refine r_getI dX3_take_37 (fg1 (f := 1) fX10 (by decide) q1576 rfl) h (fun x28 h => ?_)
  obtain ⟨a29, e, h⟩ := h
  refine wp.cast (L' := [some (vR (some a0)), some (vR (some a22))]) (st' := [vI x28, vR (some a29)]) rfl (by rw [e]) ?_
  obtain ⟨hC, h⟩ := h
  refine r_callV dX3_take_40 hC (c_J5_clear_2 h) q1781 q1782 q1783 q100 q1784 rfl yo_J5_clear_2 rfl (by decide) (by decide) rfl rc0 (by decide) (Nat.zero_le _) (Nat.zero_le _) (ofV fun G30 h => ?_) nox
  refine r_aload_n dX3_take_43 rfl rfl iR ?_
  exact r_aret rtO dX3_take_44 ⟨_, rfl, h⟩
theorem c_X3_take {a0 : Nat} {Q : Option Nat → Wd → Prop} {G : Wd} (h : f_X3_take a0 G Q) : call yX3_take (Cond.code yX3_take cX3_take 2 (some (.object "QueueDrive$Post"))) 3 0 0 [vR (some a0)] G (qR Q) noX :=
  call.enter (by decide +kernel) (la_1 c1R (la_nil rfl)) rfl (w_X3_take h)
abbrev m_X8_init : Mt := (yX8_init.cls, cX8_init, 7, none, [], yX8_init.name)
theorem yo_X8_init : yOK yX8_init 6 := ⟨by decide +kernel, by decide +kernel, by decide +kernel⟩
def f_X8_init (a0 : Nat) (a1 : Int) (a2 : Int) (a3 : Int) (a4 : Int) (a5 : Int) (a6 : Bool) (G : Wd) (Q : Wd → Prop) : Prop :=
  pF G a0 [7] 0 (vI a1) (fun G7 => pF G7 a0 [7] 1 (vI a2) (fun G8 => pF G8 a0 [7] 2 (vI a3) (fun G9 => pF G9 a0 [7] 3 (vI a4) (fun G10 => pF G10 a0 [7] 4 (vI a5) (fun G11 => pF G11 a0 [7] 5 (vB a6) (fun G12 => Q G12))))))
theorem w_X8_init {a0 : Nat} {Q : Wd → Prop} {a1 : Int} {a2 : Int} {a3 : Int} {a4 : Int} {a5 : Int} {a6 : Bool} {G : Wd} (h : f_X8_init a0 a1 a2 a3 a4 a5 a6 G Q) : wp m_X8_init 1 0 0 0 [some (vR (some a0)), some (vI a1), some (vI a2), some (vI a3), some (vI a4), some (vI a5), some (vB a6)] [] G (qV Q) noX := by
  unfold f_X8_init at h
  refine r_aload_n dX8_init_0 rfl rfl iR ?_
  refine r_objInit dX8_init_1 q1457 q142 q143 rc0 (by decide) (by decide) ?_
  refine r_aload_n dX8_init_4 rfl rfl iR ?_
  refine r_iload_n dX8_init_5 rfl rfl iI ?_
  refine r_put dX8_init_6 (fp1F (f := 0) fX8 (by decide) q1458 rfl rfl rfl rfl) fvI h (fun G7 h => ?_)
  refine r_aload_n dX8_init_9 rfl rfl iR ?_
  refine r_iload_n dX8_init_10 rfl rfl iI ?_
  refine r_put dX8_init_11 (fp1F (f := 1) fX8 (by decide) q1462 rfl rfl rfl rfl) fvI h (fun G8 h => ?_)
  refine r_aload_n dX8_init_14 rfl rfl iR ?_
  refine r_iload_n dX8_init_15 rfl rfl iI ?_
  refine r_put dX8_init_16 (fp1F (f := 2) fX8 (by decide) q1466 rfl rfl rfl rfl) fvI h (fun G9 h => ?_)
  refine r_aload_n dX8_init_19 rfl rfl iR ?_
  refine r_iload dX8_init_20 rfl iI ?_
  refine r_put dX8_init_22 (fp1F (f := 3) fX8 (by decide) q1470 rfl rfl rfl rfl) fvI h (fun G10 h => ?_)
  refine r_aload_n dX8_init_25 rfl rfl iR ?_
  refine r_iload dX8_init_26 rfl iI ?_
  refine r_put dX8_init_28 (fp1F (f := 4) fX8 (by decide) q1474 rfl rfl rfl rfl) fvI h (fun G11 h => ?_)
  refine r_aload_n dX8_init_31 rfl rfl iR ?_
  refine r_iload dX8_init_32 rfl iB ?_
  refine r_put dX8_init_34 (fp1F (f := 5) fX8 (by decide) q1477 rfl rfl rfl rfl) fvB h (fun G12 h => ?_)
  exact r_vret rfl dX8_init_37 ⟨rfl, h⟩
theorem c_X8_init {a0 : Nat} {a1 : Int} {a2 : Int} {a3 : Int} {a4 : Int} {a5 : Int} {a6 : Bool} {Q : Wd → Prop} {G : Wd} (h : f_X8_init a0 a1 a2 a3 a4 a5 a6 G Q) : call yX8_init (Cond.code yX8_init cX8_init 7 (none)) 1 0 0 [vR (some a0), vI a1, vI a2, vI a3, vI a4, vI a5, vB a6] G (qV Q) noX :=
  call.enter (by decide +kernel) (la_1 c1R (la_1 c1I (la_1 c1I (la_1 c1I (la_1 c1I (la_1 c1I (la_1 c1B (la_nil rfl)))))))) rfl (w_X8_init h)
abbrev m_X8_calledBack : Mt := (yX8_calledBack.cls, cX8_calledBack, 1, some (.object "QueueDrive$Command"), [], yX8_calledBack.name)
theorem yo_X8_calledBack : yOK yX8_calledBack 0 := ⟨by decide +kernel, by decide +kernel, by decide +kernel⟩
def f_X8_calledBack (k n : Nat) (a0 : Nat) (G : Wd) (Q : Option Nat → Wd → Prop) : Prop :=
  nO G k n 7 6 zX8 (fun a9 G10 => gI G10 a0 [7] 0 (fun x11 => gI G10 a0 [7] 1 (fun x12 => gI G10 a0 [7] 2 (fun x13 => gI G10 a0 [7] 3 (fun x14 => gI G10 a0 [7] 4 (fun x15 => f_X8_init a9 x11 x12 x13 x14 x15 true G10 (fun G16 => Q (some a9) G16)))))))
theorem w_X8_calledBack {a0 : Nat} {Q : Option Nat → Wd → Prop} {k n : Nat} {G : Wd} (h : f_X8_calledBack k n a0 G Q) : wp m_X8_calledBack 2 k n 0 [some (vR (some a0))] [] G (qR Q) noX := by
  unfold f_X8_calledBack at h
  refine r_new dX8_calledBack_0 fX8 q1821 q1453 q129 dfX8 h (fun a9 G10 h => ?_)
  refine r_dup dX8_calledBack_3 c1R ?_
  refine r_aload_n dX8_calledBack_4 rfl rfl iR ?_
  refine r_getI dX8_calledBack_5 (fg1 (f := 0) fX8 (by decide) q1458 rfl) h (fun x11 h => ?_)
  refine r_aload_n dX8_calledBack_8 rfl rfl iR ?_
  refine r_getI dX8_calledBack_9 (fg1 (f := 1) fX8 (by decide) q1462 rfl) h (fun x12 h => ?_)
  refine r_aload_n dX8_calledBack_12 rfl rfl iR ?_
  refine r_getI dX8_calledBack_13 (fg1 (f := 2) fX8 (by decide) q1466 rfl) h (fun x13 h => ?_)
  refine r_aload_n dX8_calledBack_16 rfl rfl iR ?_
  refine r_getI dX8_calledBack_17 (fg1 (f := 3) fX8 (by decide) q1470 rfl) h (fun x14 h => ?_)
  refine r_aload_n dX8_calledBack_20 rfl rfl iR ?_
  refine r_getI dX8_calledBack_21 (fg1 (f := 4) fX8 (by decide) q1474 rfl) h (fun x15 h => ?_)
  refine r_iconst dX8_calledBack_24 ?_
  refine wp.cast (st' := [vB true, vI x15, vI x14, vI x13, vI x12, vI x11, vR (some a9), vR (some a9)]) rfl (congrArg (fun q => [q, vI x15, vI x14, vI x13, vI x12, vI x11, vR (some a9), vR (some a9)]) vI1) ?_
  refine r_callI dX8_calledBack_25 (c_X8_init h) rfl q1822 q1455 q129 q1456 yo_X8_init rfl (by decide) (by decide) rfl (rc1 c1R rc0) (by decide) (Nat.zero_le _) (Nat.zero_le _) (ofV fun G16 h => ?_) nox
  exact r_aret rtO dX8_calledBack_28 ⟨_, rfl, h⟩
theorem c_X8_calledBack {a0 : Nat} {k n : Nat} {Q : Option Nat → Wd → Prop} {G : Wd} (h : f_X8_calledBack k n a0 G Q) : call yX8_calledBack (Cond.code yX8_calledBack cX8_calledBack 1 (some (.object "QueueDrive$Command"))) 2 k n [vR (some a0)] G (qR Q) noX :=
  call.enter (by decide +kernel) (la_1 c1R (la_nil rfl)) rfl (w_X8_calledBack h)
abbrev m_X8_isWrite : Mt := (yX8_isWrite.cls, cX8_isWrite, 1, some .boolean, [], yX8_isWrite.name)
theorem yo_X8_isWrite : yOK yX8_isWrite 0 := ⟨by decide +kernel, by decide +kernel, by decide +kernel⟩
def f_X8_isWrite_16 (a0 : Nat) (G : Wd) (Q : Bool → Wd → Prop) : Prop :=
  Q true G
theorem w_X8_isWrite_16 {a0 : Nat} {Q : Bool → Wd → Prop} {G : Wd} (h : f_X8_isWrite_16 a0 G Q) : wp m_X8_isWrite 1 0 0 16 [none] [] G (qB Q) noX := by
  unfold f_X8_isWrite_16 at h
  refine r_iconst dX8_isWrite_16 ?_
  refine r_goto (tgt := 21) dX8_isWrite_17 (by decide) ?_
  refine wp.cast (st' := [vB true]) rfl (congrArg (fun q => [q]) vI1) ?_
  exact r_zret rfl dX8_isWrite_21 ⟨_, rfl, h⟩
def f_X8_isWrite (a0 : Nat) (G : Wd) (Q : Bool → Wd → Prop) : Prop :=
  gI G a0 [7] 2 (fun x3 => br x3 1 (x3 = (1 : Int)) (f_X8_isWrite_16 a0 G Q) (gI G a0 [7] 2 (fun x4 => br x4 3 (¬ x4 = (3 : Int)) (Q false G) (f_X8_isWrite_16 a0 G Q))))
theorem w_X8_isWrite {a0 : Nat} {Q : Bool → Wd → Prop} {G : Wd} (h : f_X8_isWrite a0 G Q) : wp m_X8_isWrite 1 0 0 0 [some (vR (some a0))] [] G (qB Q) noX := by
  unfold f_X8_isWrite at h
  refine r_aload_n dX8_isWrite_0 rfl rfl iR ?_
  refine r_getI dX8_isWrite_1 (fg1 (f := 2) fX8 (by decide) q1466 rfl) h (fun x3 h => ?_)
  refine r_iconst dX8_isWrite_4 ?_
  refine r_icmp_eq (tgt := 16) dX8_isWrite_5 (by decide) h (fun h => ?_) (fun h => ?_)
  · refine wp.locals (L' := [none]) (ls_n ls_0) ?_
    exact w_X8_isWrite_16 h
  · refine r_aload_n dX8_isWrite_8 rfl rfl iR ?_
    refine r_getI dX8_isWrite_9 (fg1 (f := 2) fX8 (by decide) q1466 rfl) h (fun x4 h => ?_)
    refine r_iconst dX8_isWrite_12 ?_
    refine r_icmp_ne (tgt := 20) dX8_isWrite_13 (by decide) h (fun h => ?_) (fun h => ?_)
    · refine r_iconst dX8_isWrite_20 ?_
      refine wp.cast (st' := [vB false]) rfl (congrArg (fun q => [q]) vI0) ?_
      exact r_zret rfl dX8_isWrite_21 ⟨_, rfl, h⟩
    · refine wp.locals (L' := [none]) (ls_n ls_0) ?_
      exact w_X8_isWrite_16 h
theorem c_X8_isWrite {a0 : Nat} {Q : Bool → Wd → Prop} {G : Wd} (h : f_X8_isWrite a0 G Q) : call yX8_isWrite (Cond.code yX8_isWrite cX8_isWrite 1 (some .boolean)) 1 0 0 [vR (some a0)] G (qB Q) noX :=
  call.enter (by decide +kernel) (la_1 c1R (la_nil rfl)) rfl (w_X8_isWrite h)
abbrev m_X9_init : Mt := (yX9_init.cls, cX9_init, 4, none, [], yX9_init.name)
theorem yo_X9_init : yOK yX9_init 3 := ⟨by decide +kernel, by decide +kernel, by decide +kernel⟩
def f_X9_init (a0 : Nat) (a1 : Option Nat) (a2 : Option Nat) (a3 : Int) (G : Wd) (Q : Wd → Prop) : Prop :=
  pF G a0 [8] 0 (vR a1) (fun G4 => pF G4 a0 [8] 1 (vR a2) (fun G5 => pF G5 a0 [8] 2 (vI a3) (fun G6 => Q G6)))
theorem w_X9_init {a0 : Nat} {Q : Wd → Prop} {a1 : Option Nat} {a2 : Option Nat} {a3 : Int} {G : Wd} (h : f_X9_init a0 a1 a2 a3 G Q) : wp m_X9_init 1 0 0 0 [some (vR (some a0)), some (vR a1), some (vR a2), some (vI a3)] [] G (qV Q) noX := by
  unfold f_X9_init at h
  refine r_aload_n dX9_init_0 rfl rfl iR ?_
  refine r_objInit dX9_init_1 q1542 q142 q143 rc0 (by decide) (by decide) ?_
  refine r_aload_n dX9_init_4 rfl rfl iR ?_
  refine r_aload_n dX9_init_5 rfl rfl iR ?_
  refine r_put dX9_init_6 (fp1F (f := 0) fX9 (by decide) q1543 rfl rfl rfl rfl) fvO h (fun G4 h => ?_)
  refine r_aload_n dX9_init_9 rfl rfl iR ?_
  refine r_aload_n dX9_init_10 rfl rfl iR ?_
  refine r_put dX9_init_11 (fp1F (f := 1) fX9 (by decide) q1546 rfl rfl rfl rfl) fvO h (fun G5 h => ?_)
  refine r_aload_n dX9_init_14 rfl rfl iR ?_
  refine r_iload_n dX9_init_15 rfl rfl iI ?_
  refine r_put dX9_init_16 (fp1F (f := 2) fX9 (by decide) q1549 rfl rfl rfl rfl) fvI h (fun G6 h => ?_)
  exact r_vret rfl dX9_init_19 ⟨rfl, h⟩
theorem c_X9_init {a0 : Nat} {a1 : Option Nat} {a2 : Option Nat} {a3 : Int} {Q : Wd → Prop} {G : Wd} (h : f_X9_init a0 a1 a2 a3 G Q) : call yX9_init (Cond.code yX9_init cX9_init 4 (none)) 1 0 0 [vR (some a0), vR a1, vR a2, vI a3] G (qV Q) noX :=
  call.enter (by decide +kernel) (la_1 c1R (la_1 c1R (la_1 c1R (la_1 c1I (la_nil rfl))))) rfl (w_X9_init h)
abbrev m_X9_hasId : Mt := (yX9_hasId.cls, cX9_hasId, 3, some .boolean, [], yX9_hasId.name)
theorem yo_X9_hasId : yOK yX9_hasId 2 := ⟨by decide +kernel, by decide +kernel, by decide +kernel⟩
def f_X9_hasId_40 (a0 : Nat) (G : Wd) (Q : Bool → Wd → Prop) : Prop :=
  Q true G
theorem w_X9_hasId_40 {a0 : Nat} {Q : Bool → Wd → Prop} {G : Wd} (h : f_X9_hasId_40 a0 G Q) : wp m_X9_hasId 1 0 0 40 [none, none, none] [] G (qB Q) noX := by
  unfold f_X9_hasId_40 at h
  refine r_iconst dX9_hasId_40 ?_
  refine r_goto (tgt := 45) dX9_hasId_41 (by decide) ?_
  refine wp.cast (st' := [vB true]) rfl (congrArg (fun q => [q]) vI1) ?_
  exact r_zret rfl dX9_hasId_45 ⟨_, rfl, h⟩
def f_X9_hasId_44 (a0 : Nat) (G : Wd) (Q : Bool → Wd → Prop) : Prop :=
  Q false G
theorem w_X9_hasId_44 {a0 : Nat} {Q : Bool → Wd → Prop} {G : Wd} (h : f_X9_hasId_44 a0 G Q) : wp m_X9_hasId 1 0 0 44 [none, none, none] [] G (qB Q) noX := by
  unfold f_X9_hasId_44 at h
  refine r_iconst dX9_hasId_44 ?_
  refine wp.cast (st' := [vB false]) rfl (congrArg (fun q => [q]) vI0) ?_
  exact r_zret rfl dX9_hasId_45 ⟨_, rfl, h⟩
def f_X9_hasId (a0 : Nat) (a1 : Int) (a2 : Int) (G : Wd) (Q : Bool → Wd → Prop) : Prop :=
  gR G a0 [8] 0 (fun x12 => nn x12 (fun a13 => gI G a13 [7] 0 (fun x14 => br x14 a1 (¬ x14 = a1) (f_X9_hasId_44 a0 G Q) (gR G a0 [8] 0 (fun x15 => nn x15 (fun a16 => gI G a16 [7] 1 (fun x17 => br x17 a2 (x17 = a2) (f_X9_hasId_40 a0 G Q) (gR G a0 [8] 1 (fun x18 => brN x18 (f_X9_hasId_44 a0 G Q) (fun a19 => gR G a0 [8] 1 (fun x20 => nn x20 (fun a21 => gI G a21 [7] 1 (fun x22 => br x22 a2 (¬ x22 = a2) (f_X9_hasId_44 a0 G Q) (f_X9_hasId_40 a0 G Q))))))))))))))
theorem w_X9_hasId {a0 : Nat} {Q : Bool → Wd → Prop} {a1 : Int} {a2 : Int} {G : Wd} (h : f_X9_hasId a0 a1 a2 G Q) : wp m_X9_hasId 1 0 0 0 [some (vR (some a0)), some (vI a1), some (vI a2)] [] G (qB Q) noX := by
  unfold f_X9_hasId at h
  refine r_aload_n dX9_hasId_0 rfl rfl iR ?_
  refine r_getR dX9_hasId_1 (fg1 (f := 0) fX9 (by decide) q1543 rfl) h (fun x12 h => ?_)
  obtain ⟨a13, e, h⟩ := h
  refine wp.cast (L' := [some (vR (some a0)), some (vI a1), some (vI a2)]) (st' := [vR (some a13)]) rfl (by rw [e]) ?_
  refine r_getI dX9_hasId_4 (fg1 (f := 0) fX8 (by decide) q1460 rfl) h (fun x14 h => ?_)
  refine r_iload_n dX9_hasId_7 rfl rfl iI ?_
  refine r_icmp_ne (tgt := 44) dX9_hasId_8 (by decide) h (fun h => ?_) (fun h => ?_)
  · refine wp.locals (L' := [none, none, none]) (ls_n (ls_n (ls_n ls_0))) ?_
    exact w_X9_hasId_44 h
  · refine r_aload_n dX9_hasId_11 rfl rfl iR ?_
    refine r_getR dX9_hasId_12 (fg1 (f := 0) fX9 (by decide) q1543 rfl) h (fun x15 h => ?_)
    obtain ⟨a16, e, h⟩ := h
    refine wp.cast (L' := [some (vR (some a0)), some (vI a1), some (vI a2)]) (st' := [vR (some a16)]) rfl (by rw [e]) ?_
    refine r_getI dX9_hasId_15 (fg1 (f := 1) fX8 (by decide) q1464 rfl) h (fun x17 h => ?_)
    refine r_iload_n dX9_hasId_18 rfl rfl iI ?_
    refine r_icmp_eq (tgt := 40) dX9_hasId_19 (by decide) h (fun h => ?_) (fun h => ?_)
    · refine wp.locals (L' := [none, none, none]) (ls_n (ls_n (ls_n ls_0))) ?_
      exact w_X9_hasId_40 h
    · refine r_aload_n dX9_hasId_22 rfl rfl iR ?_
      refine r_getR dX9_hasId_23 (fg1 (f := 1) fX9 (by decide) q1546 rfl) h (fun x18 h => ?_)
      refine r_ifnullV (tgt := 44) dX9_hasId_26 (by decide) h (fun e h => ?_) (fun a19 e h => ?_)
      · refine wp.locals (L' := [none, none, none]) (ls_n (ls_n (ls_n ls_0))) ?_
        exact w_X9_hasId_44 h
      · refine r_aload_n dX9_hasId_29 rfl rfl iR ?_
        refine r_getR dX9_hasId_30 (fg1 (f := 1) fX9 (by decide) q1546 rfl) h (fun x20 h => ?_)
        obtain ⟨a21, e, h⟩ := h
        refine wp.cast (L' := [some (vR (some a0)), some (vI a1), some (vI a2)]) (st' := [vR (some a21)]) rfl (by rw [e]) ?_
        refine r_getI dX9_hasId_33 (fg1 (f := 1) fX8 (by decide) q1464 rfl) h (fun x22 h => ?_)
        refine r_iload_n dX9_hasId_36 rfl rfl iI ?_
        refine r_icmp_ne (tgt := 44) dX9_hasId_37 (by decide) h (fun h => ?_) (fun h => ?_)
        · refine wp.locals (L' := [none, none, none]) (ls_n (ls_n (ls_n ls_0))) ?_
          exact w_X9_hasId_44 h
        · refine wp.locals (L' := [none, none, none]) (ls_n (ls_n (ls_n ls_0))) ?_
          exact w_X9_hasId_40 h
theorem c_X9_hasId {a0 : Nat} {a1 : Int} {a2 : Int} {Q : Bool → Wd → Prop} {G : Wd} (h : f_X9_hasId a0 a1 a2 G Q) : call yX9_hasId (Cond.code yX9_hasId cX9_hasId 3 (some .boolean)) 1 0 0 [vR (some a0), vI a1, vI a2] G (qB Q) noX :=
  call.enter (by decide +kernel) (la_1 c1R (la_1 c1I (la_1 c1I (la_nil rfl)))) rfl (w_X9_hasId h)
abbrev m_X1_queues : Mt := (yX1_queues.cls, cX1_queues, 7, some .int, [(7, 88, 91, 110)], yX1_queues.name)
theorem yo_X1_queues : yOK yX1_queues 0 := ⟨by decide +kernel, by decide +kernel, by decide +kernel⟩
def f_X1_queues_91 (a0 : Nat) (k n : Nat) (s0 : Option Nat) (G : Wd) (Q : Int → Wd → Prop) : Prop :=
  nn s0 (fun a70 => gI G a70 [5] 0 (fun x71 => Q ((-1) - x71) G))
theorem w_X1_queues_91 {a0 : Nat} {Q : Int → Wd → Prop} {k n : Nat} {s0 : Option Nat} {G : Wd} (h : f_X1_queues_91 a0 k n s0 G Q) : wp m_X1_queues 11 k n 91 [none, none, none, none, none, none, none] [vR s0] G (qI Q) noX := by
  unfold f_X1_queues_91 at h
  refine r_astore (L' := [none, none, none, none, none, none, some (vR s0)]) dX1_queues_91 rfl iR cN (by decide) ?_
  refine r_iconst dX1_queues_93 ?_
  refine r_aload dX1_queues_94 rfl iR ?_
  obtain ⟨a70, e, h⟩ := h
  refine wp.cast (L' := [none, none, none, none, none, none, some (vR (some a70))]) (st' := [vR (some a70), vI (-1)]) (by rw [e]) (by rw [e]) ?_
  refine r_getN dX1_queues_96 q851 h (fun x71 h => ?_)
  refine r_isub dX1_queues_99 ?_
  exact r_iret rfl dX1_queues_100 ⟨_, rfl, h⟩
def f_X1_queues_63 (a0 : Nat) (k n : Nat) (l1 : Option Nat) (l2 : Int) (l3 : Int) (l4 : Int) (s0 : Option Nat) (s1 : Bool) (G : Wd) (Q : Int → Wd → Prop) : Prop :=
  nn s0 (fun a72 => (∃ k74 n75, (k74 ≤ k ∧ n75 ≤ n) ∧ ((∃ ci, ci ∈ [4, 6, 11] ∧ isC G a72 ci) ∧ f_X5_need k74 n75 a72 s1 G (fun G73 => nn l1 (fun a78 => gI G73 a78 [4, 6, 11] 3 (fun x79 => pF G73 a78 [4, 6, 11] 3 (vI (x79 + 1)) (fun G80 => ((∃ ci, ci ∈ [4, 6, 11] ∧ isC G80 a78 ci) ∧ f_X5_passes a78 115 G80 (fun x82 G81 => (∃ k84 n85, (k84 ≤ (k - k74) ∧ n85 ≤ (n - n75)) ∧ ((∃ ci, ci ∈ [4, 6, 11] ∧ isC G81 a78 ci) ∧ f_X5_needEnd k84 n85 a78  G81 (fun G83 => gR G83 a0 [0] 0 (fun x88 => nn x88 (fun a89 => gI G83 a89 [1] 8 (fun x90 => br x90 5 (¬ x90 = (5 : Int)) (gR G83 a0 [0] 0 (fun x91 => nn x91 (fun a92 => gR G83 a92 [1] 0 (fun x93 => gR G83 a0 [0] 0 (fun x94 => nn x94 (fun a95 => gI G83 a95 [1] 8 (fun x96 => nn x93 (fun a97 => ldR G83 a97 7 x96 (fun x98 => nn x98 (fun a99 => (isC G83 a99 2 ∧ f_X3_empty a99  G83 (fun G100 => pF G100 a99 [2] 4 (vI l2) (fun G101 => pF G101 a99 [2] 5 (vI l3) (fun G102 => pF G102 a99 [2] 6 (vI l4) (fun G103 => pF G103 a99 [2] 15 (vB x82) (fun G104 => gR G104 a0 [0] 0 (fun x105 => nn x105 (fun a106 => gI G104 a106 [1] 8 (fun x107 => pF G104 a106 [1] 8 (vI (x107 + 1)) (fun G108 => pF G108 a0 [0] 4 (vI 0) (fun G109 => gI G109 a0 [0] 5 (fun x110 => pF G109 a0 [0] 5 (vI (x110 + 1)) (fun G111 => gR G111 a0 [0] 0 (fun x112 => nn x112 (fun a113 => gI G111 a113 [1] 8 (fun x114 => Q (x114 - 1) G111)))))))))))))))))))))))))) (Q (-100) G83))))) (fun E q87 G86 => E = "QueueDrive$Fault" ∧ f_X1_queues_91 a0 ((k - k74) - k84) ((n - n75) - n85) (some q87) G86 Q))))))))) (fun E q77 G76 => E = "QueueDrive$Fault" ∧ f_X1_queues_91 a0 (k - k74) (n - n75) (some q77) G76 Q))))
theorem w_X1_queues_63 {a0 : Nat} {Q : Int → Wd → Prop} {k n : Nat} {l1 : Option Nat} {l2 : Int} {l3 : Int} {l4 : Int} {s0 : Option Nat} {s1 : Bool} {G : Wd} (h : f_X1_queues_63 a0 k n l1 l2 l3 l4 s0 s1 G Q) : wp m_X1_queues 11 k n 63 [some (vR (some a0)), some (vR l1), some (vI l2), some (vI l3), some (vI l4), none, none] [vB s1, vR s0] G (qI Q) noX := by
  unfold f_X1_queues_63 at h
  obtain ⟨a72, e, h⟩ := h
  refine wp.cast (L' := [some (vR (some a0)), some (vR l1), some (vI l2), some (vI l3), some (vI l4), none, none]) (st' := [vB s1, vR (some a72)]) rfl (by rw [e]) ?_
  obtain ⟨k74, n75, ⟨hk1, hn1⟩, h⟩ := h
  obtain ⟨hC, h⟩ := h
  refine r_callM dX1_queues_63 hC (c_X5_need h) (soc (so (ci := 4) rfl q908 q833 q832 rfl) (soc (so (ci := 6) rfl q908 q833 q835 rfl) (soc (so (ci := 11) rfl q908 q833 q834 rfl) so0))) q831 q118 q836 yo_X5_need rfl (by decide) (by decide) rfl rc0 (by decide) hk1 hn1 (ofV fun G73 h => ?_) (fun E q77 G76 h => ?_)
  · refine r_aload_n dX1_queues_66 rfl rfl iR ?_
    refine r_dup dX1_queues_67 c1R ?_
    obtain ⟨a78, e, h⟩ := h
    refine wp.cast (L' := [some (vR (some a0)), some (vR (some a78)), some (vI l2), some (vI l3), some (vI l4), none, none]) (st' := [vR (some a78), vR (some a78)]) (by rw [e]) (by rw [e]) ?_
    refine r_getI dX1_queues_68 (fgc (fg1 (f := 3) fX5 (by decide) q805 rfl) (fgc (fg1 (f := 3) fX7 (by decide) q805 rfl) (fg1 (f := 3) fX12 (by decide) q805 rfl))) h (fun x79 h => ?_)
    refine r_iconst dX1_queues_71 ?_
    refine r_iadd dX1_queues_72 ?_
    refine r_put dX1_queues_73 (fpc (fp1 (f := 3) fX5 (by decide) q805 rfl rfl rfl) (fpc (fp1 (f := 3) fX7 (by decide) q805 rfl rfl rfl) (fp1 (f := 3) fX12 (by decide) q805 rfl rfl rfl))) fvI h (fun G80 h => ?_)
    refine r_aload_n dX1_queues_76 rfl rfl iR ?_
    refine r_bipush dX1_queues_77 (by decide) ?_
    obtain ⟨hC, h⟩ := h
    refine r_callM dX1_queues_79 hC (c_X5_passes h) (soc (so (ci := 4) rfl q909 q912 q911 rfl) (soc (so (ci := 6) rfl q909 q912 q914 rfl) (soc (so (ci := 11) rfl q909 q912 q913 rfl) so0))) q910 q118 q915 yo_X5_passes rfl (by decide) (by decide) rfl rc0 (by decide) (Nat.zero_le _) (Nat.zero_le _) (ofB fun x82 G81 h => ?_) nox
    refine r_istore (L' := [some (vR (some a0)), some (vR (some a78)), some (vI l2), some (vI l3), some (vI l4), some (vB x82), none]) dX1_queues_82 rfl iB cI (by decide) ?_
    refine r_aload_n dX1_queues_84 rfl rfl iR ?_
    obtain ⟨k84, n85, ⟨hk1, hn1⟩, h⟩ := h
    obtain ⟨hC, h⟩ := h
    refine r_callM dX1_queues_85 hC (c_X5_needEnd h) (soc (so (ci := 4) rfl q916 q919 q918 rfl) (soc (so (ci := 6) rfl q916 q919 q921 rfl) (soc (so (ci := 11) rfl q916 q919 q920 rfl) so0))) q917 q118 q922 yo_X5_needEnd rfl (by decide) (by decide) rfl rc0 (by decide) hk1 hn1 (ofV fun G83 h => ?_) (fun E q87 G86 h => ?_)
    · refine r_goto (tgt := 101) dX1_queues_88 (by decide) ?_
      refine r_aload_n dX1_queues_101 rfl rfl iR ?_
      refine r_getR dX1_queues_102 (fg1 (f := 0) fX1 (by decide) q700 rfl) h (fun x88 h => ?_)
      obtain ⟨a89, e, h⟩ := h
      refine wp.cast (L' := [some (vR (some a0)), some (vR (some a78)), some (vI l2), some (vI l3), some (vI l4), some (vB x82), none]) (st' := [vR (some a89)]) rfl (by rw [e]) ?_
      refine r_getI dX1_queues_105 (fg1 (f := 8) fX2 (by decide) q652 rfl) h (fun x90 h => ?_)
      refine r_iconst dX1_queues_108 ?_
      refine r_icmp_ne (tgt := 115) dX1_queues_109 (by decide) h (fun h => ?_) (fun h => ?_)
      · refine r_aload_n dX1_queues_115 rfl rfl iR ?_
        refine r_getR dX1_queues_116 (fg1 (f := 0) fX1 (by decide) q700 rfl) h (fun x91 h => ?_)
        obtain ⟨a92, e, h⟩ := h
        refine wp.cast (L' := [some (vR (some a0)), some (vR (some a78)), some (vI l2), some (vI l3), some (vI l4), some (vB x82), none]) (st' := [vR (some a92)]) rfl (by rw [e]) ?_
        refine r_getR dX1_queues_119 (fg1 (f := 0) fX2 (by decide) q636 rfl) h (fun x93 h => ?_)
        refine r_aload_n dX1_queues_122 rfl rfl iR ?_
        refine r_getR dX1_queues_123 (fg1 (f := 0) fX1 (by decide) q700 rfl) h (fun x94 h => ?_)
        obtain ⟨a95, e, h⟩ := h
        refine wp.cast (L' := [some (vR (some a0)), some (vR (some a78)), some (vI l2), some (vI l3), some (vI l4), some (vB x82), none]) (st' := [vR (some a95), vR x93]) rfl (by rw [e]) ?_
        refine r_getI dX1_queues_126 (fg1 (f := 8) fX2 (by decide) q652 rfl) h (fun x96 h => ?_)
        obtain ⟨a97, e, h⟩ := h
        refine wp.cast (L' := [some (vR (some a0)), some (vR (some a78)), some (vI l2), some (vI l3), some (vI l4), some (vB x82), none]) (st' := [vI x96, vR (some a97)]) rfl (by rw [e]) ?_
        refine r_aald dX1_queues_129 (by decide) (by decide) h (fun x98 h => ?_)
        refine r_astore (L' := [some (vR (some a0)), some (vR (some a78)), some (vI l2), some (vI l3), some (vI l4), some (vB x82), some (vR x98)]) dX1_queues_130 rfl iR cB (by decide) ?_
        refine r_aload dX1_queues_132 rfl iR ?_
        obtain ⟨a99, e, h⟩ := h
        refine wp.cast (L' := [some (vR (some a0)), some (vR (some a78)), some (vI l2), some (vI l3), some (vI l4), some (vB x82), some (vR (some a99))]) (st' := [vR (some a99)]) (by rw [e]) (by rw [e]) ?_
        obtain ⟨hC, h⟩ := h
        refine r_callV dX1_queues_134 hC (c_X3_empty h) q923 q924 q925 q98 q926 rfl yo_X3_empty rfl (by decide) (by decide) rfl rc0 (by decide) (Nat.zero_le _) (Nat.zero_le _) (ofV fun G100 h => ?_) nox
        refine r_aload dX1_queues_137 rfl iR ?_
        refine r_iload_n dX1_queues_139 rfl rfl iI ?_
        refine r_put dX1_queues_140 (fp1 (f := 4) fX3 (by decide) q564 rfl rfl rfl) fvI h (fun G101 h => ?_)
        refine r_aload dX1_queues_143 rfl iR ?_
        refine r_iload_n dX1_queues_145 rfl rfl iI ?_
        refine r_put dX1_queues_146 (fp1 (f := 5) fX3 (by decide) q566 rfl rfl rfl) fvI h (fun G102 h => ?_)
        refine r_aload dX1_queues_149 rfl iR ?_
        refine r_iload dX1_queues_151 rfl iI ?_
        refine r_put dX1_queues_153 (fp1 (f := 6) fX3 (by decide) q570 rfl rfl rfl) fvI h (fun G103 h => ?_)
        refine r_aload dX1_queues_156 rfl iR ?_
        refine r_iload dX1_queues_158 rfl iB ?_
        refine r_put dX1_queues_160 (fp1 (f := 15) fX3 (by decide) q595 rfl rfl rfl) fvB h (fun G104 h => ?_)
        refine r_aload_n dX1_queues_163 rfl rfl iR ?_
        refine r_getR dX1_queues_164 (fg1 (f := 0) fX1 (by decide) q700 rfl) h (fun x105 h => ?_)
        refine r_dup dX1_queues_167 c1R ?_
        obtain ⟨a106, e, h⟩ := h
        refine wp.cast (L' := [some (vR (some a0)), some (vR (some a78)), some (vI l2), some (vI l3), some (vI l4), some (vB x82), some (vR (some a99))]) (st' := [vR (some a106), vR (some a106)]) rfl (by rw [e]) ?_
        refine r_getI dX1_queues_168 (fg1 (f := 8) fX2 (by decide) q652 rfl) h (fun x107 h => ?_)
        refine r_iconst dX1_queues_171 ?_
        refine r_iadd dX1_queues_172 ?_
        refine r_put dX1_queues_173 (fp1 (f := 8) fX2 (by decide) q652 rfl rfl rfl) fvI h (fun G108 h => ?_)
        refine r_aload_n dX1_queues_176 rfl rfl iR ?_
        refine r_iconst dX1_queues_177 ?_
        refine r_put dX1_queues_178 (fp1 (f := 4) fX1 (by decide) q704 rfl rfl rfl) fvI h (fun G109 h => ?_)
        refine r_aload_n dX1_queues_181 rfl rfl iR ?_
        refine r_dup dX1_queues_182 c1R ?_
        refine r_getI dX1_queues_183 (fg1 (f := 5) fX1 (by decide) q705 rfl) h (fun x110 h => ?_)
        refine r_iconst dX1_queues_186 ?_
        refine r_iadd dX1_queues_187 ?_
        refine r_put dX1_queues_188 (fp1 (f := 5) fX1 (by decide) q705 rfl rfl rfl) fvI h (fun G111 h => ?_)
        refine r_aload_n dX1_queues_191 rfl rfl iR ?_
        refine r_getR dX1_queues_192 (fg1 (f := 0) fX1 (by decide) q700 rfl) h (fun x112 h => ?_)
        obtain ⟨a113, e, h⟩ := h
        refine wp.cast (L' := [some (vR (some a0)), some (vR (some a78)), some (vI l2), some (vI l3), some (vI l4), some (vB x82), some (vR (some a99))]) (st' := [vR (some a113)]) rfl (by rw [e]) ?_
        refine r_getI dX1_queues_195 (fg1 (f := 8) fX2 (by decide) q652 rfl) h (fun x114 h => ?_)
        refine r_iconst dX1_queues_198 ?_
        refine r_isub dX1_queues_199 ?_
        exact r_iret rfl dX1_queues_200 ⟨_, rfl, h⟩
      · refine r_bipush dX1_queues_112 (by decide) ?_
        exact r_iret rfl dX1_queues_114 ⟨_, rfl, h⟩
    · obtain ⟨rfl, h⟩ := h
      refine wpX.catch [] ⟨7, 88, 91, 110⟩ [] rfl (by decide) (by decide) (by decide) q783 q839 ?_
      refine wp.locals (L' := [none, none, none, none, none, none, none]) (ls_n (ls_n (ls_n (ls_n (ls_n (ls_n (ls_n ls_0))))))) ?_
      exact w_X1_queues_91 h
  · obtain ⟨rfl, h⟩ := h
    refine wpX.catch [] ⟨7, 88, 91, 110⟩ [] rfl (by decide) (by decide) (by decide) q783 q839 ?_
    refine wp.locals (L' := [none, none, none, none, none, none, none]) (ls_n (ls_n (ls_n (ls_n (ls_n (ls_n (ls_n ls_0))))))) ?_
    exact w_X1_queues_91 h
def f_X1_queues_50 (a0 : Nat) (k n : Nat) (l1 : Option Nat) (l2 : Int) (l3 : Int) (s0 : Int) (G : Wd) (Q : Int → Wd → Prop) : Prop :=
  br0 s0 (s0 < 0) (f_X1_queues_63 a0 k n l1 l2 l3 s0 l1 false G Q) (f_X1_queues_63 a0 k n l1 l2 l3 s0 l1 true G Q)
theorem w_X1_queues_50 {a0 : Nat} {Q : Int → Wd → Prop} {k n : Nat} {l1 : Option Nat} {l2 : Int} {l3 : Int} {s0 : Int} {G : Wd} (h : f_X1_queues_50 a0 k n l1 l2 l3 s0 G Q) : wp m_X1_queues 11 k n 50 [some (vR (some a0)), some (vR l1), some (vI l2), some (vI l3), none, none, none] [vI s0] G (qI Q) noX := by
  unfold f_X1_queues_50 at h
  refine r_istore (L' := [some (vR (some a0)), some (vR l1), some (vI l2), some (vI l3), some (vI s0), none, none]) dX1_queues_50 rfl iI cI (by decide) ?_
  refine r_aload_n dX1_queues_52 rfl rfl iR ?_
  refine r_iload dX1_queues_53 rfl iI ?_
  refine r_if_lt (tgt := 62) dX1_queues_55 (by decide) h (fun h => ?_) (fun h => ?_)
  · refine r_iconst dX1_queues_62 ?_
    refine wp.cast (st' := [vB false, vR l1]) rfl (congrArg (fun q => [q, vR l1]) vI0) ?_
    exact w_X1_queues_63 h
  · refine r_iconst dX1_queues_58 ?_
    refine r_goto (tgt := 63) dX1_queues_59 (by decide) ?_
    refine wp.cast (st' := [vB true, vR l1]) rfl (congrArg (fun q => [q, vR l1]) vI1) ?_
    exact w_X1_queues_63 h
def f_X1_queues (k n : Nat) (a0 : Nat) (G : Wd) (Q : Int → Wd → Prop) : Prop :=
  (∃ k116 n117, (k116 ≤ k ∧ n117 ≤ n) ∧ (isC G a0 0 ∧ f_X1_words k116 n117 a0 80 G (fun x118 G115 => nn x118 (fun a119 => (∃ k121 n122, (k121 ≤ (k - k116) ∧ n122 ≤ (n - n117)) ∧ ((∃ ci, ci ∈ [4, 6, 11] ∧ isC G115 a119 ci) ∧ f_X5_digit k121 n122 a119 50 7 G115 (fun x123 G120 => (∃ k127 n128, (k127 ≤ ((k - k116) - k121) ∧ n128 ≤ ((n - n117) - n122)) ∧ ((∃ ci, ci ∈ [4, 6, 11] ∧ isC G120 a119 ci) ∧ f_X5_digit k127 n128 a119 50 7 G120 (fun x129 G126 => ((∃ ci, ci ∈ [4, 6, 11] ∧ isC G126 a119 ci) ∧ f_X5_here a119  G126 (fun x133 G132 => br x133 (-1) (¬ x133 = ((-1) : Int)) (ldS G132 [117, 104, 109, 108] (fun a134 => ((∃ ci, ci ∈ [4, 6, 11] ∧ isC G132 a119 ci) ∧ f_X5_here a119  G132 (fun x136 G135 => (isS G135 a134 ∧ f_J12_indexOf a134 x136 G135 (fun x138 G137 => f_X1_queues_50 a0 (((k - k116) - k121) - k127) (((n - n117) - n122) - n128) (some a119) (x123 + 2) (x129 + 2) x138 G137 Q)))))) (f_X1_queues_50 a0 (((k - k116) - k121) - k127) (((n - n117) - n122) - n128) (some a119) (x123 + 2) (x129 + 2) (-1) G132 Q)))) (fun E q131 G130 => E = "QueueDrive$Fault" ∧ f_X1_queues_91 a0 (((k - k116) - k121) - k127) (((n - n117) - n122) - n128) (some q131) G130 Q)))) (fun E q125 G124 => E = "QueueDrive$Fault" ∧ f_X1_queues_91 a0 ((k - k116) - k121) ((n - n117) - n122) (some q125) G124 Q)))))))
theorem w_X1_queues {a0 : Nat} {Q : Int → Wd → Prop} {k n : Nat} {G : Wd} (h : f_X1_queues k n a0 G Q) : wp m_X1_queues 11 k n 0 [some (vR (some a0)), none, none, none, none, none, none] [] G (qI Q) noX := by
  unfold f_X1_queues at h
  refine r_aload_n dX1_queues_0 rfl rfl iR ?_
  refine r_bipush dX1_queues_1 (by decide) ?_
  obtain ⟨k116, n117, ⟨hk1, hn1⟩, h⟩ := h
  obtain ⟨hC, h⟩ := h
  refine r_callV dX1_queues_3 hC (c_X1_words h) q784 q786 qs2 q92 q787 rfl yo_X1_words rfl (by decide) (by decide) rfl rc0 (by decide) hk1 hn1 (ofR fun x118 G115 h => ?_) nox
  refine r_astore_n (L' := [some (vR (some a0)), some (vR x118), none, none, none, none, none]) dX1_queues_6 rfl rfl iR cR (by decide) ?_
  refine r_aload_n dX1_queues_7 rfl rfl iR ?_
  refine r_bipush dX1_queues_8 (by decide) ?_
  refine r_bipush dX1_queues_10 (by decide) ?_
  obtain ⟨a119, e, h⟩ := h
  refine wp.cast (L' := [some (vR (some a0)), some (vR (some a119)), none, none, none, none, none]) (st' := [vI 7, vI 50, vR (some a119)]) (by rw [e]) (by rw [e]) ?_
  obtain ⟨k121, n122, ⟨hk1, hn1⟩, h⟩ := h
  obtain ⟨hC, h⟩ := h
  refine r_callM dX1_queues_12 hC (c_X5_digit h) (soc (so (ci := 4) rfl q815 q818 q817 rfl) (soc (so (ci := 6) rfl q815 q818 q820 rfl) (soc (so (ci := 11) rfl q815 q818 q819 rfl) so0))) q816 q118 q821 yo_X5_digit rfl (by decide) (by decide) rfl rc0 (by decide) hk1 hn1 (ofI fun x123 G120 h => ?_) (fun E q125 G124 h => ?_)
  · refine r_iconst dX1_queues_15 ?_
    refine r_iadd dX1_queues_16 ?_
    refine r_istore_n (L' := [some (vR (some a0)), some (vR (some a119)), some (vI (x123 + 2)), none, none, none, none]) dX1_queues_17 rfl rfl iI cR (by decide) ?_
    refine r_aload_n dX1_queues_18 rfl rfl iR ?_
    refine r_bipush dX1_queues_19 (by decide) ?_
    refine r_bipush dX1_queues_21 (by decide) ?_
    obtain ⟨k127, n128, ⟨hk1, hn1⟩, h⟩ := h
    obtain ⟨hC, h⟩ := h
    refine r_callM dX1_queues_23 hC (c_X5_digit h) (soc (so (ci := 4) rfl q815 q818 q817 rfl) (soc (so (ci := 6) rfl q815 q818 q820 rfl) (soc (so (ci := 11) rfl q815 q818 q819 rfl) so0))) q816 q118 q821 yo_X5_digit rfl (by decide) (by decide) rfl rc0 (by decide) hk1 hn1 (ofI fun x129 G126 h => ?_) (fun E q131 G130 h => ?_)
    · refine r_iconst dX1_queues_26 ?_
      refine r_iadd dX1_queues_27 ?_
      refine r_istore_n (L' := [some (vR (some a0)), some (vR (some a119)), some (vI (x123 + 2)), some (vI (x129 + 2)), none, none, none]) dX1_queues_28 rfl rfl iI cI (by decide) ?_
      refine r_aload_n dX1_queues_29 rfl rfl iR ?_
      obtain ⟨hC, h⟩ := h
      refine r_callM dX1_queues_30 hC (c_X5_here h) (soc (so (ci := 4) rfl q856 q825 q824 rfl) (soc (so (ci := 6) rfl q856 q825 q827 rfl) (soc (so (ci := 11) rfl q856 q825 q826 rfl) so0))) q823 q118 q828 yo_X5_here rfl (by decide) (by decide) rfl rc0 (by decide) (Nat.zero_le _) (Nat.zero_le _) (ofI fun x133 G132 h => ?_) nox
      refine r_iconst dX1_queues_33 ?_
      refine r_icmp_ne (tgt := 41) dX1_queues_34 (by decide) h (fun h => ?_) (fun h => ?_)
      · refine r_ldcS dX1_queues_41 (List.mem_of_getElem? (i := 0) rfl) h (fun a134 h => ?_)
        refine r_aload_n dX1_queues_43 rfl rfl iR ?_
        obtain ⟨hC, h⟩ := h
        refine r_callM dX1_queues_44 hC (c_X5_here h) (soc (so (ci := 4) rfl q856 q825 q824 rfl) (soc (so (ci := 6) rfl q856 q825 q827 rfl) (soc (so (ci := 11) rfl q856 q825 q826 rfl) so0))) q823 q118 q828 yo_X5_here rfl (by decide) (by decide) rfl (rc1 c1R rc0) (by decide) (Nat.zero_le _) (Nat.zero_le _) (ofI fun x136 G135 h => ?_) nox
        obtain ⟨hC, h⟩ := h
        refine r_callVS dX1_queues_47 hC (c_J12_indexOf h) q858 q859 q860 q107 q861 rfl yo_J12_indexOf rfl (by decide) (by decide) rfl rc0 (by decide) (Nat.zero_le _) (Nat.zero_le _) (ofI fun x138 G137 h => ?_) nox
        exact w_X1_queues_50 h
      · refine r_iconst dX1_queues_37 ?_
        refine r_goto (tgt := 50) dX1_queues_38 (by decide) ?_
        exact w_X1_queues_50 h
    · obtain ⟨rfl, h⟩ := h
      refine wpX.catch [] ⟨7, 88, 91, 110⟩ [] rfl (by decide) (by decide) (by decide) q783 q839 ?_
      refine wp.locals (L' := [none, none, none, none, none, none, none]) (ls_n (ls_n (ls_n (ls_n (ls_n (ls_n (ls_n ls_0))))))) ?_
      exact w_X1_queues_91 h
  · obtain ⟨rfl, h⟩ := h
    refine wpX.catch [] ⟨7, 88, 91, 110⟩ [] rfl (by decide) (by decide) (by decide) q783 q839 ?_
    refine wp.locals (L' := [none, none, none, none, none, none, none]) (ls_n (ls_n (ls_n (ls_n (ls_n (ls_n (ls_n ls_0))))))) ?_
    exact w_X1_queues_91 h
theorem c_X1_queues {a0 : Nat} {k n : Nat} {Q : Int → Wd → Prop} {G : Wd} (h : f_X1_queues k n a0 G Q) : call yX1_queues (Cond.codeWith yX1_queues cX1_queues 7 (some .int) [(7, 88, 91, 110)]) 11 k n [vR (some a0)] G (qI Q) noX :=
  call.enterW (by decide +kernel) (la_1 c1R (la_nil rfl)) rfl (w_X1_queues h)
abbrev m_X1_sheet : Mt := (yX1_sheet.cls, cX1_sheet, 7, some .int, [(28, 38, 41, 202)], yX1_sheet.name)
theorem yo_X1_sheet : yOK yX1_sheet 4 := ⟨by decide +kernel, by decide +kernel, by decide +kernel⟩
def f_X1_sheet_41 (a0 : Nat) (k n : Nat) (s0 : Option Nat) (G : Wd) (Q : Int → Wd → Prop) : Prop :=
  Q (-2) G
theorem w_X1_sheet_41 {a0 : Nat} {Q : Int → Wd → Prop} {k n : Nat} {s0 : Option Nat} {G : Wd} (h : f_X1_sheet_41 a0 k n s0 G Q) : wp m_X1_sheet 171 k n 41 [none, none, none, none, none, none, none] [vR s0] G (qI Q) noX := by
  unfold f_X1_sheet_41 at h
  refine r_astore (L' := [none, none, none, none, none, none, some (vR s0)]) dX1_sheet_41 rfl iR cN (by decide) ?_
  refine r_bipush dX1_sheet_43 (by decide) ?_
  exact r_iret rfl dX1_sheet_45 ⟨_, rfl, h⟩
def f_X1_sheet_96 (a0 : Nat) (k49 : Nat → Nat → Int → Option Nat → Int → Wd → Prop) (k n : Nat) (l2 : Int) (l5 : Option Nat) (l6 : Int) (s0 : Option Nat) (s1 : Int) (s2 : Int) (G : Wd) (Q : Int → Wd → Prop) : Prop :=
  nn s0 (fun a35 => (stI G a35 0 s1 s2 (fun G36 => k49 k n l2 l5 (l6 + 1) G36)))
theorem w_X1_sheet_96 {a0 : Nat} {Q : Int → Wd → Prop} {k49 : Nat → Nat → Int → Option Nat → Int → Wd → Prop} (hk49 : ∀ {k n : Nat} {l2 : Int} {l5 : Option Nat} {l6 : Int} {G : Wd}, k49 k n l2 l5 l6 G → wp m_X1_sheet 171 k n 49 [some (vR (some a0)), none, some (vI l2), none, none, some (vR l5), some (vI l6)] [] G (qI Q) noX) {k n : Nat} {l2 : Int} {l5 : Option Nat} {l6 : Int} {s0 : Option Nat} {s1 : Int} {s2 : Int} {G : Wd} (h : f_X1_sheet_96 a0 k49 k n l2 l5 l6 s0 s1 s2 G Q) : wp m_X1_sheet 171 k n 96 [some (vR (some a0)), none, some (vI l2), none, none, some (vR l5), some (vI l6)] [vI s2, vI s1, vR s0] G (qI Q) noX := by
  unfold f_X1_sheet_96 at h
  obtain ⟨a35, e, h⟩ := h
  refine wp.cast (L' := [some (vR (some a0)), none, some (vI l2), none, none, some (vR l5), some (vI l6)]) (st' := [vI s2, vI s1, vR (some a35)]) rfl (by rw [e]) ?_
  refine r_iast dX1_sheet_96 h (fun G36 h => ?_)
  refine r_iinc (L' := [some (vR (some a0)), none, some (vI l2), none, none, some (vR l5), some (vI (l6 + 1))]) dX1_sheet_97 rfl rfl cR (by decide) ?_
  refine r_goto (tgt := 49) dX1_sheet_100 (by decide) ?_
  exact hk49 h
def f_X1_sheet_76 (a0 : Nat) (k49 : Nat → Nat → Int → Option Nat → Int → Wd → Prop) (k n : Nat) (l2 : Int) (l5 : Option Nat) (l6 : Int) (s0 : Option Nat) (s1 : Int) (G : Wd) (Q : Int → Wd → Prop) : Prop :=
  f_X1_sheet_96 a0 k49 k n l2 l5 l6 s0 s1 0 G Q
theorem w_X1_sheet_76 {a0 : Nat} {Q : Int → Wd → Prop} {k49 : Nat → Nat → Int → Option Nat → Int → Wd → Prop} (hk49 : ∀ {k n : Nat} {l2 : Int} {l5 : Option Nat} {l6 : Int} {G : Wd}, k49 k n l2 l5 l6 G → wp m_X1_sheet 171 k n 49 [some (vR (some a0)), none, some (vI l2), none, none, some (vR l5), some (vI l6)] [] G (qI Q) noX) {k n : Nat} {l2 : Int} {l5 : Option Nat} {l6 : Int} {s0 : Option Nat} {s1 : Int} {G : Wd} (h : f_X1_sheet_76 a0 k49 k n l2 l5 l6 s0 s1 G Q) : wp m_X1_sheet 171 k n 76 [some (vR (some a0)), none, some (vI l2), none, none, some (vR l5), some (vI l6)] [vI s1, vR s0] G (qI Q) noX := by
  unfold f_X1_sheet_76 at h
  refine r_iconst dX1_sheet_76 ?_
  refine r_goto (tgt := 96) dX1_sheet_77 (by decide) ?_
  exact w_X1_sheet_96 hk49 h
def f_X1_sheet_49_b (a0 : Nat) (k49 : Nat → Nat → Int → Option Nat → Int → Wd → Prop) (k n : Nat) (l2 : Int) (l5 : Option Nat) (l6 : Int) (G : Wd) (Q : Int → Wd → Prop) : Prop :=
  br l6 10 ((10 : Int) ≤ l6) (brN l5 (Q (-3) G) (fun a37 => gR G a0 [0] 0 (fun x38 => nn x38 (fun a39 => (isC G a39 1 ∧ f_X2_blocksSum a39  G (fun x41 G40 => Q x41 G40)))))) (gR G a0 [0] 0 (fun x42 => nn x42 (fun a43 => gR G a43 [1] 3 (fun x44 => brN l5 (f_X1_sheet_76 a0 k49 k n l2 none l6 x44 l6 G Q) (fun a45 => br l6 l2 (l6 < l2) (f_X1_entry (some a45) l6 G (fun x47 G46 => ((R32 99 ∧ R32 x47) ∧ ((R32 0 ∧ R32 (min 99 x47)) ∧ f_X1_sheet_96 a0 k49 k n l2 (some a45) l6 x44 l6 (max 0 (min 99 x47)) G46 Q)))) (f_X1_sheet_76 a0 k49 k n l2 (some a45) l6 x44 l6 G Q))))))
theorem w_X1_sheet_49_b {a0 : Nat} {Q : Int → Wd → Prop} {k49 : Nat → Nat → Int → Option Nat → Int → Wd → Prop} (hk49 : ∀ {k n : Nat} {l2 : Int} {l5 : Option Nat} {l6 : Int} {G : Wd}, k49 k n l2 l5 l6 G → wp m_X1_sheet 171 k n 49 [some (vR (some a0)), none, some (vI l2), none, none, some (vR l5), some (vI l6)] [] G (qI Q) noX) {k n : Nat} {l2 : Int} {l5 : Option Nat} {l6 : Int} {G : Wd} (h : f_X1_sheet_49_b a0 k49 k n l2 l5 l6 G Q) : wp m_X1_sheet 171 k n 49 [some (vR (some a0)), none, some (vI l2), none, none, some (vR l5), some (vI l6)] [] G (qI Q) noX := by
  unfold f_X1_sheet_49_b at h
  refine r_iload dX1_sheet_49 rfl iI ?_
  refine r_bipush dX1_sheet_51 (by decide) ?_
  refine r_icmp_ge (tgt := 103) dX1_sheet_53 (by decide) h (fun h => ?_) (fun h => ?_)
  · refine r_aload dX1_sheet_103 rfl iR ?_
    refine r_ifnonnullV (tgt := 113) dX1_sheet_105 (by decide) h (fun a37 e h => ?_) (fun e h => ?_)
    · refine wp.cast (L' := [some (vR (some a0)), none, some (vI l2), none, none, some (vR (some a37)), some (vI l6)]) (st' := []) (by rw [e]) rfl ?_
      refine r_aload_n dX1_sheet_113 rfl rfl iR ?_
      refine r_getR dX1_sheet_114 (fg1 (f := 0) fX1 (by decide) q700 rfl) h (fun x38 h => ?_)
      obtain ⟨a39, e, h⟩ := h
      refine wp.cast (L' := [some (vR (some a0)), none, some (vI l2), none, none, some (vR (some a37)), some (vI l6)]) (st' := [vR (some a39)]) rfl (by rw [e]) ?_
      obtain ⟨hC, h⟩ := h
      refine r_callV dX1_sheet_117 hC (c_X2_blocksSum h) q1038 q1039 q1040 q93 q1041 rfl yo_X2_blocksSum rfl (by decide) (by decide) rfl rc0 (by decide) (Nat.zero_le _) (Nat.zero_le _) (ofI fun x41 G40 h => ?_) nox
      exact r_iret rfl dX1_sheet_120 ⟨_, rfl, h⟩
    · refine wp.cast (L' := [some (vR (some a0)), none, some (vI l2), none, none, some (vR none), some (vI l6)]) (st' := []) (by rw [e]) rfl ?_
      refine r_bipush dX1_sheet_108 (by decide) ?_
      refine r_goto (tgt := 120) dX1_sheet_110 (by decide) ?_
      exact r_iret rfl dX1_sheet_120 ⟨_, rfl, h⟩
  · refine r_aload_n dX1_sheet_56 rfl rfl iR ?_
    refine r_getR dX1_sheet_57 (fg1 (f := 0) fX1 (by decide) q700 rfl) h (fun x42 h => ?_)
    obtain ⟨a43, e, h⟩ := h
    refine wp.cast (L' := [some (vR (some a0)), none, some (vI l2), none, none, some (vR l5), some (vI l6)]) (st' := [vR (some a43)]) rfl (by rw [e]) ?_
    refine r_getR dX1_sheet_60 (fg1 (f := 3) fX2 (by decide) q643 rfl) h (fun x44 h => ?_)
    refine r_iload dX1_sheet_63 rfl iI ?_
    refine r_aload dX1_sheet_65 rfl iR ?_
    refine r_ifnullV (tgt := 76) dX1_sheet_67 (by decide) h (fun e h => ?_) (fun a45 e h => ?_)
    · refine wp.cast (L' := [some (vR (some a0)), none, some (vI l2), none, none, some (vR none), some (vI l6)]) (st' := [vI l6, vR x44]) (by rw [e]) rfl ?_
      exact w_X1_sheet_76 hk49 h
    · refine wp.cast (L' := [some (vR (some a0)), none, some (vI l2), none, none, some (vR (some a45)), some (vI l6)]) (st' := [vI l6, vR x44]) (by rw [e]) rfl ?_
      refine r_iload dX1_sheet_70 rfl iI ?_
      refine r_iload_n dX1_sheet_72 rfl rfl iI ?_
      refine r_icmp_lt (tgt := 80) dX1_sheet_73 (by decide) h (fun h => ?_) (fun h => ?_)
      · refine r_iconst dX1_sheet_80 ?_
        refine r_bipush dX1_sheet_81 (by decide) ?_
        refine r_aload dX1_sheet_83 rfl iR ?_
        refine r_iload dX1_sheet_85 rfl iI ?_
        refine r_callS dX1_sheet_87 (c_X1_entry h) q1031 q1032 q92 q1033 yo_X1_entry rfl (by decide) (by decide) rfl (rc1 c1I (rc1 c1I (rc1 c1I (rc1 c1R rc0)))) (by decide) (Nat.zero_le _) (Nat.zero_le _) (ofI fun x47 G46 h => ?_) nox
        refine r_mmin dX1_sheet_90 q1036 (rc1 c1I (rc1 c1I (rc1 c1R rc0))) (by decide) (by decide) h (fun h => ?_)
        refine r_mmax dX1_sheet_93 q1037 (rc1 c1I (rc1 c1R rc0)) (by decide) (by decide) h (fun h => ?_)
        exact w_X1_sheet_96 hk49 h
      · exact w_X1_sheet_76 hk49 h
def f_X1_sheet_49 (a0 : Nat) (Q : Int → Wd → Prop) : Nat → Nat → Nat → Int → Option Nat → Int → Wd → Prop
  | 0, _, _, _, _, _, _ => False
  | fl + 1, k, n, l2, l5, l6, G => f_X1_sheet_49_b a0  (fun k n l2 l5 l6 G => f_X1_sheet_49 a0  Q fl k n l2 l5 l6 G) k n l2 l5 l6 G Q
theorem w_X1_sheet_49 {a0 : Nat} {Q : Int → Wd → Prop} : ∀ (fl : Nat) {k n : Nat} {l2 : Int} {l5 : Option Nat} {l6 : Int} {G : Wd}, f_X1_sheet_49 a0 Q fl k n l2 l5 l6 G → wp m_X1_sheet 171 k n 49 [some (vR (some a0)), none, some (vI l2), none, none, some (vR l5), some (vI l6)] [] G (qI Q) noX := by
  intro fl
  induction fl with
  | zero => intro k n l2 l5 l6 G h; exact (show False from h).elim
  | succ fl ih => intro k n l2 l5 l6 G h; exact w_X1_sheet_49_b  (fun h => ih h) h
def f_X1_sheet_46 (a0 : Nat) (k n : Nat) (l2 : Int) (l5 : Option Nat) (G : Wd) (Q : Int → Wd → Prop) : Prop :=
  ∃ fl48, f_X1_sheet_49 a0 Q fl48 k n l2 l5 0 G
theorem w_X1_sheet_46 {a0 : Nat} {Q : Int → Wd → Prop} {k n : Nat} {l2 : Int} {l5 : Option Nat} {G : Wd} (h : f_X1_sheet_46 a0 k n l2 l5 G Q) : wp m_X1_sheet 171 k n 46 [some (vR (some a0)), none, some (vI l2), none, none, some (vR l5), none] [] G (qI Q) noX := by
  unfold f_X1_sheet_46 at h
  refine r_iconst dX1_sheet_46 ?_
  refine r_istore (L' := [some (vR (some a0)), none, some (vI l2), none, none, some (vR l5), some (vI 0)]) dX1_sheet_47 rfl iI cR (by decide) ?_
  obtain ⟨fl48, h⟩ := h
  exact w_X1_sheet_49 fl48 h
def f_X1_sheet (k n : Nat) (a0 : Nat) (a1 : Int) (a2 : Int) (a3 : Int) (a4 : Int) (G : Wd) (Q : Int → Wd → Prop) : Prop :=
  ok32 a1 (f_X1_in a1 0 3 G (fun x50 G49 => brB x50 (br a2 10 (a2 ≤ (10 : Int)) (br a1 3 ((3 : Int) ≤ a1) (f_X1_sheet_46 a0 k n a2 none G49 Q) ((∃ k52 n53, (k52 ≤ k ∧ n53 ≤ n) ∧ f_X1_rowOf k52 n53 a1 a2 a3 a4 G49 (fun x54 G51 => f_X1_sheet_46 a0 (k - k52) (n - n53) a2 x54 G51 Q) (fun E q56 G55 => E = "java/lang/NegativeArraySizeException" ∧ f_X1_sheet_41 a0 (k - k52) (n - n53) (some q56) G55 Q)))) (Q (-1) G49)) (Q (-1) G49)))
theorem w_X1_sheet {a0 : Nat} {Q : Int → Wd → Prop} {k n : Nat} {a1 : Int} {a2 : Int} {a3 : Int} {a4 : Int} {G : Wd} (h : f_X1_sheet k n a0 a1 a2 a3 a4 G Q) : wp m_X1_sheet 171 k n 0 [some (vR (some a0)), some (vI a1), some (vI a2), some (vI a3), some (vI a4), none, none] [] G (qI Q) noX := by
  unfold f_X1_sheet at h
  refine r_iload_n dX1_sheet_0 rfl rfl iI ?_
  refine r_i2l dX1_sheet_1 h (fun h => ?_)
  refine r_lconst (y := 0) dX1_sheet_2 (by decide) ?_
  refine r_ldc2 (x := 3) dX1_sheet_3 q1027 (by decide) ?_
  refine r_callS dX1_sheet_6 (c_X1_in h) q776 q777 q92 q778 yo_X1_in rfl (by decide) (by decide) rfl rc0 (by decide) (Nat.zero_le _) (Nat.zero_le _) (ofB fun x50 G49 h => ?_) nox
  refine r_ifZ_eq (tgt := 18) dX1_sheet_9 (by decide) h (fun h => ?_) (fun h => ?_)
  · refine r_iconst dX1_sheet_18 ?_
    exact r_iret rfl dX1_sheet_19 ⟨_, rfl, h⟩
  · refine r_iload_n dX1_sheet_12 rfl rfl iI ?_
    refine r_bipush dX1_sheet_13 (by decide) ?_
    refine r_icmp_le (tgt := 20) dX1_sheet_15 (by decide) h (fun h => ?_) (fun h => ?_)
    · refine r_null dX1_sheet_20 ?_
      refine r_astore (L' := [some (vR (some a0)), some (vI a1), some (vI a2), some (vI a3), some (vI a4), some (vR none), none]) dX1_sheet_21 rfl iR cI (by decide) ?_
      refine r_iload_n dX1_sheet_23 rfl rfl iI ?_
      refine r_iconst dX1_sheet_24 ?_
      refine r_icmp_ge (tgt := 46) dX1_sheet_25 (by decide) h (fun h => ?_) (fun h => ?_)
      · refine wp.locals (L' := [some (vR (some a0)), none, some (vI a2), none, none, some (vR none), none]) (ls_s (ls_n (ls_s (ls_n (ls_n (ls_s (ls_n ls_0))))))) ?_
        exact w_X1_sheet_46 h
      · refine r_iload_n dX1_sheet_28 rfl rfl iI ?_
        refine r_iload_n dX1_sheet_29 rfl rfl iI ?_
        refine r_iload_n dX1_sheet_30 rfl rfl iI ?_
        refine r_iload dX1_sheet_31 rfl iI ?_
        obtain ⟨k52, n53, ⟨hk1, hn1⟩, h⟩ := h
        refine r_callS dX1_sheet_33 (c_X1_rowOf h) q1028 q1029 q92 q1030 yo_X1_rowOf rfl (by decide) (by decide) rfl rc0 (by decide) hk1 hn1 (ofR fun x54 G51 h => ?_) (fun E q56 G55 h => ?_)
        · refine r_astore (L' := [some (vR (some a0)), some (vI a1), some (vI a2), some (vI a3), some (vI a4), some (vR x54), none]) dX1_sheet_36 rfl iR cI (by decide) ?_
          refine r_goto (tgt := 46) dX1_sheet_38 (by decide) ?_
          refine wp.locals (L' := [some (vR (some a0)), none, some (vI a2), none, none, some (vR x54), none]) (ls_s (ls_n (ls_s (ls_n (ls_n (ls_s (ls_n ls_0))))))) ?_
          exact w_X1_sheet_46 h
        · obtain ⟨rfl, h⟩ := h
          refine wpX.catch [] ⟨28, 38, 41, 202⟩ [] rfl (by decide) (by decide) (by decide) q1026 q219 ?_
          refine wp.locals (L' := [none, none, none, none, none, none, none]) (ls_n (ls_n (ls_n (ls_n (ls_n (ls_n (ls_n ls_0))))))) ?_
          exact w_X1_sheet_41 h
    · refine r_iconst dX1_sheet_18 ?_
      exact r_iret rfl dX1_sheet_19 ⟨_, rfl, h⟩
theorem c_X1_sheet {a0 : Nat} {a1 : Int} {a2 : Int} {a3 : Int} {a4 : Int} {k n : Nat} {Q : Int → Wd → Prop} {G : Wd} (h : f_X1_sheet k n a0 a1 a2 a3 a4 G Q) : call yX1_sheet (Cond.codeWith yX1_sheet cX1_sheet 7 (some .int) [(28, 38, 41, 202)]) 171 k n [vR (some a0), vI a1, vI a2, vI a3, vI a4] G (qI Q) noX :=
  call.enterW (by decide +kernel) (la_1 c1R (la_1 c1I (la_1 c1I (la_1 c1I (la_1 c1I (la_nil rfl)))))) rfl (w_X1_sheet h)
abbrev m_X1_refusesPut : Mt := (yX1_refusesPut.cls, cX1_refusesPut, 5, some .int, [], yX1_refusesPut.name)
theorem yo_X1_refusesPut : yOK yX1_refusesPut 5 := ⟨by decide +kernel, by decide +kernel, by decide +kernel⟩
def f_X1_refusesPut (a0 : Option Nat) (a1 : Int) (a2 : Int) (a3 : Int) (a4 : Int) (G : Wd) (Q : Int → Wd → Prop) : Prop :=
  ok32 a1 (nn a0 (fun a23 => gI G a23 [1] 8 (fun x24 => ok32 (x24 - 1) (f_X1_in a1 0 (x24 - 1) G (fun x26 G25 => brB x26 (ok32 a2 (f_X1_in a2 0 4 G25 (fun x28 G27 => brB x28 (ok32 a3 (f_X1_in a3 0 9 G27 (fun x30 G29 => brB x30 (ok32 a4 (f_X1_in a4 0 99 G29 (fun x32 G31 => brB x32 (gR G31 a23 [1] 0 (fun x33 => nn x33 (fun a34 => ldR G31 a34 7 a1 (fun x35 => nn x35 (fun a36 => (isC G31 a36 2 ∧ f_X3_bySlots a36  G31 (fun x38 G37 => br0 x38 (¬ x38 = 0) (gR G37 a23 [1] 0 (fun x39 => nn x39 (fun a40 => ldR G37 a40 7 a1 (fun x41 => nn x41 (fun a42 => (isC G37 a42 2 ∧ f_X3_byIds a42  G37 (fun x44 G43 => br0 x44 (¬ x44 = 0) (Q 0 G43) (Q (-3) G43)))))))) (Q (-2) G37)))))))) (Q (-1) G31)))) (Q (-1) G29)))) (Q (-1) G27)))) (Q (-1) G25))))))
theorem w_X1_refusesPut {Q : Int → Wd → Prop} {a0 : Option Nat} {a1 : Int} {a2 : Int} {a3 : Int} {a4 : Int} {G : Wd} (h : f_X1_refusesPut a0 a1 a2 a3 a4 G Q) : wp m_X1_refusesPut 4 0 0 0 [some (vR a0), some (vI a1), some (vI a2), some (vI a3), some (vI a4)] [] G (qI Q) noX := by
  unfold f_X1_refusesPut at h
  refine r_iload_n dX1_refusesPut_0 rfl rfl iI ?_
  refine r_i2l dX1_refusesPut_1 h (fun h => ?_)
  refine r_lconst (y := 0) dX1_refusesPut_2 (by decide) ?_
  refine r_aload_n dX1_refusesPut_3 rfl rfl iR ?_
  obtain ⟨a23, e, h⟩ := h
  refine wp.cast (L' := [some (vR (some a23)), some (vI a1), some (vI a2), some (vI a3), some (vI a4)]) (st' := [vR (some a23), vJ 0, vJ a1]) (by rw [e]) (by rw [e]) ?_
  refine r_getI dX1_refusesPut_4 (fg1 (f := 8) fX2 (by decide) q652 rfl) h (fun x24 h => ?_)
  refine r_iconst dX1_refusesPut_7 ?_
  refine r_isub dX1_refusesPut_8 ?_
  refine r_i2l dX1_refusesPut_9 h (fun h => ?_)
  refine r_callS dX1_refusesPut_10 (c_X1_in h) q776 q777 q92 q778 yo_X1_in rfl (by decide) (by decide) rfl rc0 (by decide) (Nat.zero_le _) (Nat.zero_le _) (ofB fun x26 G25 h => ?_) nox
  refine r_ifZ_eq (tgt := 53) dX1_refusesPut_13 (by decide) h (fun h => ?_) (fun h => ?_)
  · refine r_iconst dX1_refusesPut_53 ?_
    exact r_iret rfl dX1_refusesPut_54 ⟨_, rfl, h⟩
  · refine r_iload_n dX1_refusesPut_16 rfl rfl iI ?_
    refine r_i2l dX1_refusesPut_17 h (fun h => ?_)
    refine r_lconst (y := 0) dX1_refusesPut_18 (by decide) ?_
    refine r_ldc2 (x := 4) dX1_refusesPut_19 q1050 (by decide) ?_
    refine r_callS dX1_refusesPut_22 (c_X1_in h) q776 q777 q92 q778 yo_X1_in rfl (by decide) (by decide) rfl rc0 (by decide) (Nat.zero_le _) (Nat.zero_le _) (ofB fun x28 G27 h => ?_) nox
    refine r_ifZ_eq (tgt := 53) dX1_refusesPut_25 (by decide) h (fun h => ?_) (fun h => ?_)
    · refine r_iconst dX1_refusesPut_53 ?_
      exact r_iret rfl dX1_refusesPut_54 ⟨_, rfl, h⟩
    · refine r_iload_n dX1_refusesPut_28 rfl rfl iI ?_
      refine r_i2l dX1_refusesPut_29 h (fun h => ?_)
      refine r_lconst (y := 0) dX1_refusesPut_30 (by decide) ?_
      refine r_ldc2 (x := 9) dX1_refusesPut_31 q1051 (by decide) ?_
      refine r_callS dX1_refusesPut_34 (c_X1_in h) q776 q777 q92 q778 yo_X1_in rfl (by decide) (by decide) rfl rc0 (by decide) (Nat.zero_le _) (Nat.zero_le _) (ofB fun x30 G29 h => ?_) nox
      refine r_ifZ_eq (tgt := 53) dX1_refusesPut_37 (by decide) h (fun h => ?_) (fun h => ?_)
      · refine r_iconst dX1_refusesPut_53 ?_
        exact r_iret rfl dX1_refusesPut_54 ⟨_, rfl, h⟩
      · refine r_iload dX1_refusesPut_40 rfl iI ?_
        refine r_i2l dX1_refusesPut_42 h (fun h => ?_)
        refine r_lconst (y := 0) dX1_refusesPut_43 (by decide) ?_
        refine r_ldc2 (x := 99) dX1_refusesPut_44 q1052 (by decide) ?_
        refine r_callS dX1_refusesPut_47 (c_X1_in h) q776 q777 q92 q778 yo_X1_in rfl (by decide) (by decide) rfl rc0 (by decide) (Nat.zero_le _) (Nat.zero_le _) (ofB fun x32 G31 h => ?_) nox
        refine r_ifZ_ne (tgt := 55) dX1_refusesPut_50 (by decide) h (fun h => ?_) (fun h => ?_)
        · refine r_aload_n dX1_refusesPut_55 rfl rfl iR ?_
          refine r_getR dX1_refusesPut_56 (fg1 (f := 0) fX2 (by decide) q636 rfl) h (fun x33 h => ?_)
          refine r_iload_n dX1_refusesPut_59 rfl rfl iI ?_
          obtain ⟨a34, e, h⟩ := h
          refine wp.cast (L' := [some (vR (some a23)), some (vI a1), some (vI a2), some (vI a3), some (vI a4)]) (st' := [vI a1, vR (some a34)]) rfl (by rw [e]) ?_
          refine r_aald dX1_refusesPut_60 (by decide) (by decide) h (fun x35 h => ?_)
          obtain ⟨a36, e, h⟩ := h
          refine wp.cast (L' := [some (vR (some a23)), some (vI a1), some (vI a2), some (vI a3), some (vI a4)]) (st' := [vR (some a36)]) rfl (by rw [e]) ?_
          obtain ⟨hC, h⟩ := h
          refine r_callV dX1_refusesPut_61 hC (c_X3_bySlots h) q1053 q1054 q1055 q98 q1056 rfl yo_X3_bySlots rfl (by decide) (by decide) rfl rc0 (by decide) (Nat.zero_le _) (Nat.zero_le _) (ofI fun x38 G37 h => ?_) nox
          refine r_if_ne (tgt := 70) dX1_refusesPut_64 (by decide) h (fun h => ?_) (fun h => ?_)
          · refine r_aload_n dX1_refusesPut_70 rfl rfl iR ?_
            refine r_getR dX1_refusesPut_71 (fg1 (f := 0) fX2 (by decide) q636 rfl) h (fun x39 h => ?_)
            refine r_iload_n dX1_refusesPut_74 rfl rfl iI ?_
            obtain ⟨a40, e, h⟩ := h
            refine wp.cast (L' := [some (vR (some a23)), some (vI a1), some (vI a2), some (vI a3), some (vI a4)]) (st' := [vI a1, vR (some a40)]) rfl (by rw [e]) ?_
            refine r_aald dX1_refusesPut_75 (by decide) (by decide) h (fun x41 h => ?_)
            obtain ⟨a42, e, h⟩ := h
            refine wp.cast (L' := [some (vR (some a23)), some (vI a1), some (vI a2), some (vI a3), some (vI a4)]) (st' := [vR (some a42)]) rfl (by rw [e]) ?_
            obtain ⟨hC, h⟩ := h
            refine r_callV dX1_refusesPut_76 hC (c_X3_byIds h) q1057 q1058 q1059 q98 q1060 rfl yo_X3_byIds rfl (by decide) (by decide) rfl rc0 (by decide) (Nat.zero_le _) (Nat.zero_le _) (ofI fun x44 G43 h => ?_) nox
            refine r_if_ne (tgt := 87) dX1_refusesPut_79 (by decide) h (fun h => ?_) (fun h => ?_)
            · refine r_iconst dX1_refusesPut_87 ?_
              exact r_iret rfl dX1_refusesPut_88 ⟨_, rfl, h⟩
            · refine r_bipush dX1_refusesPut_82 (by decide) ?_
              refine r_goto (tgt := 88) dX1_refusesPut_84 (by decide) ?_
              exact r_iret rfl dX1_refusesPut_88 ⟨_, rfl, h⟩
          · refine r_bipush dX1_refusesPut_67 (by decide) ?_
            exact r_iret rfl dX1_refusesPut_69 ⟨_, rfl, h⟩
        · refine r_iconst dX1_refusesPut_53 ?_
          exact r_iret rfl dX1_refusesPut_54 ⟨_, rfl, h⟩
theorem c_X1_refusesPut {a0 : Option Nat} {a1 : Int} {a2 : Int} {a3 : Int} {a4 : Int} {Q : Int → Wd → Prop} {G : Wd} (h : f_X1_refusesPut a0 a1 a2 a3 a4 G Q) : call yX1_refusesPut (Cond.code yX1_refusesPut cX1_refusesPut 5 (some .int)) 4 0 0 [vR a0, vI a1, vI a2, vI a3, vI a4] G (qI Q) noX :=
  call.enter (by decide +kernel) (la_1 c1R (la_1 c1I (la_1 c1I (la_1 c1I (la_1 c1I (la_nil rfl)))))) rfl (w_X1_refusesPut h)
abbrev m_X1_goPut : Mt := (yX1_goPut.cls, cX1_goPut, 7, some .int, [], yX1_goPut.name)
theorem yo_X1_goPut : yOK yX1_goPut 5 := ⟨by decide +kernel, by decide +kernel, by decide +kernel⟩
def f_X1_goPut (k n : Nat) (a0 : Option Nat) (a1 : Int) (a2 : Int) (a3 : Int) (a4 : Int) (G : Wd) (Q : Int → Wd → Prop) : Prop :=
  nn a0 (fun a21 => gR G a21 [1] 0 (fun x22 => nn x22 (fun a23 => ldR G a23 7 a1 (fun x24 => nn x24 (fun a25 => gR G a25 [2] 3 (fun x26 => nn x26 (fun a27 => (isC G a27 14 ∧ f_J5_nextClearBit a27 0 G (fun x29 G28 => gR G28 a25 [2] 3 (fun x30 => nn x30 (fun a31 => (isC G28 a31 14 ∧ f_J5_set a31 x29 G28 (fun G32 => gR G32 a25 [2] 1 (fun x33 => nO G32 k n 7 6 zX8 (fun a34 G35 => f_X8_init a34 a1 x29 a2 a3 a4 false G35 (fun G36 => nn x33 (fun a37 => (isC G36 a37 13 ∧ f_J4_addLast a37 (some a34) G36 (fun G38 => gI G38 a25 [2] 7 (fun x39 => pF G38 a25 [2] 7 (vI (x39 + 1)) (fun G40 => Q x29 G40)))))))))))))))))))))
theorem w_X1_goPut {Q : Int → Wd → Prop} {k n : Nat} {a0 : Option Nat} {a1 : Int} {a2 : Int} {a3 : Int} {a4 : Int} {G : Wd} (h : f_X1_goPut k n a0 a1 a2 a3 a4 G Q) : wp m_X1_goPut 4 k n 0 [some (vR a0), some (vI a1), some (vI a2), some (vI a3), some (vI a4), none, none] [] G (qI Q) noX := by
  unfold f_X1_goPut at h
  refine r_aload_n dX1_goPut_0 rfl rfl iR ?_
  obtain ⟨a21, e, h⟩ := h
  refine wp.cast (L' := [some (vR (some a21)), some (vI a1), some (vI a2), some (vI a3), some (vI a4), none, none]) (st' := [vR (some a21)]) (by rw [e]) (by rw [e]) ?_
  refine r_getR dX1_goPut_1 (fg1 (f := 0) fX2 (by decide) q636 rfl) h (fun x22 h => ?_)
  refine r_iload_n dX1_goPut_4 rfl rfl iI ?_
  obtain ⟨a23, e, h⟩ := h
  refine wp.cast (L' := [some (vR (some a21)), some (vI a1), some (vI a2), some (vI a3), some (vI a4), none, none]) (st' := [vI a1, vR (some a23)]) rfl (by rw [e]) ?_
  refine r_aald dX1_goPut_5 (by decide) (by decide) h (fun x24 h => ?_)
  refine r_astore (L' := [some (vR (some a21)), some (vI a1), some (vI a2), some (vI a3), some (vI a4), some (vR x24), none]) dX1_goPut_6 rfl iR cI (by decide) ?_
  refine r_aload dX1_goPut_8 rfl iR ?_
  obtain ⟨a25, e, h⟩ := h
  refine wp.cast (L' := [some (vR (some a21)), some (vI a1), some (vI a2), some (vI a3), some (vI a4), some (vR (some a25)), none]) (st' := [vR (some a25)]) (by rw [e]) (by rw [e]) ?_
  refine r_getR dX1_goPut_10 (fg1 (f := 3) fX3 (by decide) q562 rfl) h (fun x26 h => ?_)
  refine r_iconst dX1_goPut_13 ?_
  obtain ⟨a27, e, h⟩ := h
  refine wp.cast (L' := [some (vR (some a21)), some (vI a1), some (vI a2), some (vI a3), some (vI a4), some (vR (some a25)), none]) (st' := [vI 0, vR (some a27)]) rfl (by rw [e]) ?_
  obtain ⟨hC, h⟩ := h
  refine r_callV dX1_goPut_14 hC (c_J5_nextClearBit h) q1433 q1434 q1435 q100 q1436 rfl yo_J5_nextClearBit rfl (by decide) (by decide) rfl rc0 (by decide) (Nat.zero_le _) (Nat.zero_le _) (ofI fun x29 G28 h => ?_) nox
  refine r_istore (L' := [some (vR (some a21)), some (vI a1), some (vI a2), some (vI a3), some (vI a4), some (vR (some a25)), some (vI x29)]) dX1_goPut_17 rfl iI cR (by decide) ?_
  refine r_aload dX1_goPut_19 rfl iR ?_
  refine r_getR dX1_goPut_21 (fg1 (f := 3) fX3 (by decide) q562 rfl) h (fun x30 h => ?_)
  refine r_iload dX1_goPut_24 rfl iI ?_
  obtain ⟨a31, e, h⟩ := h
  refine wp.cast (L' := [some (vR (some a21)), some (vI a1), some (vI a2), some (vI a3), some (vI a4), some (vR (some a25)), some (vI x29)]) (st' := [vI x29, vR (some a31)]) rfl (by rw [e]) ?_
  obtain ⟨hC, h⟩ := h
  refine r_callV dX1_goPut_26 hC (c_J5_set h) q1445 q1446 q1447 q100 q1448 rfl yo_J5_set rfl (by decide) (by decide) rfl rc0 (by decide) (Nat.zero_le _) (Nat.zero_le _) (ofV fun G32 h => ?_) nox
  refine r_aload dX1_goPut_29 rfl iR ?_
  refine r_getR dX1_goPut_31 (fg1 (f := 1) fX3 (by decide) q558 rfl) h (fun x33 h => ?_)
  refine r_new dX1_goPut_34 fX8 q698 q1453 q129 dfX8 h (fun a34 G35 h => ?_)
  refine r_dup dX1_goPut_37 c1R ?_
  refine r_iload_n dX1_goPut_38 rfl rfl iI ?_
  refine r_iload dX1_goPut_39 rfl iI ?_
  refine r_iload_n dX1_goPut_41 rfl rfl iI ?_
  refine r_iload_n dX1_goPut_42 rfl rfl iI ?_
  refine r_iload dX1_goPut_43 rfl iI ?_
  refine r_iconst dX1_goPut_45 ?_
  refine wp.cast (st' := [vB false, vI a4, vI a3, vI a2, vI x29, vI a1, vR (some a34), vR (some a34), vR x33]) rfl (congrArg (fun q => [q, vI a4, vI a3, vI a2, vI x29, vI a1, vR (some a34), vR (some a34), vR x33]) vI0) ?_
  refine r_callI dX1_goPut_46 (c_X8_init h) rfl q1454 q1455 q129 q1456 yo_X8_init rfl (by decide) (by decide) rfl (rc1 c1R (rc1 c1R rc0)) (by decide) (Nat.zero_le _) (Nat.zero_le _) (ofV fun G36 h => ?_) nox
  obtain ⟨a37, e, h⟩ := h
  refine wp.cast (L' := [some (vR (some a21)), some (vI a1), some (vI a2), some (vI a3), some (vI a4), some (vR (some a25)), some (vI x29)]) (st' := [vR (some a34), vR (some a37)]) rfl (by rw [e]) ?_
  obtain ⟨hC, h⟩ := h
  refine r_callV dX1_goPut_49 hC (c_J4_addLast h) q1493 q1286 q1287 q99 q1288 rfl yo_J4_addLast rfl (by decide) (by decide) rfl rc0 (by decide) (Nat.zero_le _) (Nat.zero_le _) (ofV fun G38 h => ?_) nox
  refine r_aload dX1_goPut_52 rfl iR ?_
  refine r_dup dX1_goPut_54 c1R ?_
  refine r_getI dX1_goPut_55 (fg1 (f := 7) fX3 (by decide) q572 rfl) h (fun x39 h => ?_)
  refine r_iconst dX1_goPut_58 ?_
  refine r_iadd dX1_goPut_59 ?_
  refine r_put dX1_goPut_60 (fp1 (f := 7) fX3 (by decide) q572 rfl rfl rfl) fvI h (fun G40 h => ?_)
  refine r_iload dX1_goPut_63 rfl iI ?_
  exact r_iret rfl dX1_goPut_65 ⟨_, rfl, h⟩
theorem c_X1_goPut {a0 : Option Nat} {a1 : Int} {a2 : Int} {a3 : Int} {a4 : Int} {k n : Nat} {Q : Int → Wd → Prop} {G : Wd} (h : f_X1_goPut k n a0 a1 a2 a3 a4 G Q) : call yX1_goPut (Cond.code yX1_goPut cX1_goPut 7 (some .int)) 4 k n [vR a0, vI a1, vI a2, vI a3, vI a4] G (qI Q) noX :=
  call.enter (by decide +kernel) (la_1 c1R (la_1 c1I (la_1 c1I (la_1 c1I (la_1 c1I (la_nil rfl)))))) rfl (w_X1_goPut h)
abbrev m_X1_recallOf : Mt := (yX1_recallOf.cls, cX1_recallOf, 7, some .int, [], yX1_recallOf.name)
theorem yo_X1_recallOf : yOK yX1_recallOf 3 := ⟨by decide +kernel, by decide +kernel, by decide +kernel⟩
def f_X1_recallOf_113 (a0 : Nat) (k71 : Nat → Nat → Int → Option Nat → Wd → Prop) (k n : Nat) (l3 : Int) (l5 : Option Nat) (G : Wd) (Q : Int → Wd → Prop) : Prop :=
  k71 k n l3 l5 G
theorem w_X1_recallOf_113 {a0 : Nat} {Q : Int → Wd → Prop} {k71 : Nat → Nat → Int → Option Nat → Wd → Prop} (hk71 : ∀ {k n : Nat} {l3 : Int} {l5 : Option Nat} {G : Wd}, k71 k n l3 l5 G → wp m_X1_recallOf 6 k n 71 [none, none, none, some (vI l3), none, some (vR l5), none] [] G (qI Q) noX) {k n : Nat} {l3 : Int} {l5 : Option Nat} {G : Wd} (h : f_X1_recallOf_113 a0 k71 k n l3 l5 G Q) : wp m_X1_recallOf 6 k n 113 [none, none, none, some (vI l3), none, some (vR l5), none] [] G (qI Q) noX := by
  unfold f_X1_recallOf_113 at h
  refine r_goto (tgt := 71) dX1_recallOf_113 (by decide) ?_
  exact hk71 h
def f_X1_recallOf_71_b (a0 : Nat) (k71 : Nat → Nat → Int → Option Nat → Wd → Prop) (k n : Nat) (l3 : Int) (l5 : Option Nat) (G : Wd) (Q : Int → Wd → Prop) : Prop :=
  nn l5 (fun a51 => (isC G a51 15 ∧ f_J23_hasNext a51  G (fun x53 G52 => brB x53 ((isC G52 a51 15 ∧ f_J23_next a51  G52 (fun x55 G54 => cst G54 x55 [7] (nn x55 (fun a56 => gI G54 a56 [7] 1 (fun x57 => br x57 l3 (¬ x57 = l3) (f_X1_recallOf_113 a0 k71 k n l3 (some a51) G54 Q) (gZ G54 a56 [7] 5 (fun x58 => brB x58 (Q (-3) G54) (f_X1_recallOf_113 a0 k71 k n l3 (some a51) G54 Q))))))))) (Q 0 G52))))
theorem w_X1_recallOf_71_b {a0 : Nat} {Q : Int → Wd → Prop} {k71 : Nat → Nat → Int → Option Nat → Wd → Prop} (hk71 : ∀ {k n : Nat} {l3 : Int} {l5 : Option Nat} {G : Wd}, k71 k n l3 l5 G → wp m_X1_recallOf 6 k n 71 [none, none, none, some (vI l3), none, some (vR l5), none] [] G (qI Q) noX) {k n : Nat} {l3 : Int} {l5 : Option Nat} {G : Wd} (h : f_X1_recallOf_71_b a0 k71 k n l3 l5 G Q) : wp m_X1_recallOf 6 k n 71 [none, none, none, some (vI l3), none, some (vR l5), none] [] G (qI Q) noX := by
  unfold f_X1_recallOf_71_b at h
  refine r_aload dX1_recallOf_71 rfl iR ?_
  obtain ⟨a51, e, h⟩ := h
  refine wp.cast (L' := [none, none, none, some (vI l3), none, some (vR (some a51)), none]) (st' := [vR (some a51)]) (by rw [e]) (by rw [e]) ?_
  obtain ⟨hC, h⟩ := h
  refine r_callF dX1_recallOf_73 hC (c_J23_hasNext h) q1803 q1129 q1131 q124 q1133 q1117 q1116 q1132 q1130 q1128 rfl ⟨by decide +kernel, by decide +kernel, by decide +kernel⟩ rfl (by decide) (by decide) rfl rc0 (by decide) (Nat.zero_le _) (Nat.zero_le _) (ofB fun x53 G52 h => ?_) nox
  refine r_ifZ_eq (tgt := 116) dX1_recallOf_78 (by decide) h (fun h => ?_) (fun h => ?_)
  · refine r_iconst dX1_recallOf_116 ?_
    exact r_iret rfl dX1_recallOf_117 ⟨_, rfl, h⟩
  · refine r_aload dX1_recallOf_81 rfl iR ?_
    obtain ⟨hC, h⟩ := h
    refine r_callF dX1_recallOf_83 hC (c_J23_next h) q1805 q1256 q1258 q124 q1260 q1143 q1142 q1259 q1257 q1128 rfl ⟨by decide +kernel, by decide +kernel, by decide +kernel⟩ rfl (by decide) (by decide) rfl rc0 (by decide) (Nat.zero_le _) (Nat.zero_le _) (ofR fun x55 G54 h => ?_) nox
    refine r_ccast (ci := 7) dX1_recallOf_88 q698 rfl h (fun h => ?_)
    refine r_astore (L' := [none, none, none, some (vI l3), none, some (vR (some a51)), some (vR x55)]) dX1_recallOf_91 rfl iR cR (by decide) ?_
    refine r_aload dX1_recallOf_93 rfl iR ?_
    obtain ⟨a56, e, h⟩ := h
    refine wp.cast (L' := [none, none, none, some (vI l3), none, some (vR (some a51)), some (vR (some a56))]) (st' := [vR (some a56)]) (by rw [e]) (by rw [e]) ?_
    refine r_getI dX1_recallOf_95 (fg1 (f := 1) fX8 (by decide) q1465 rfl) h (fun x57 h => ?_)
    refine r_iload_n dX1_recallOf_98 rfl rfl iI ?_
    refine r_icmp_ne (tgt := 113) dX1_recallOf_99 (by decide) h (fun h => ?_) (fun h => ?_)
    · refine wp.locals (L' := [none, none, none, some (vI l3), none, some (vR (some a51)), none]) (ls_n (ls_n (ls_n (ls_s (ls_n (ls_s (ls_n ls_0))))))) ?_
      exact w_X1_recallOf_113 hk71 h
    · refine r_aload dX1_recallOf_102 rfl iR ?_
      refine r_getZ dX1_recallOf_104 (fg1 (f := 5) fX8 (by decide) q1479 rfl) h (fun x58 h => ?_)
      refine r_ifZ_eq (tgt := 113) dX1_recallOf_107 (by decide) h (fun h => ?_) (fun h => ?_)
      · refine wp.locals (L' := [none, none, none, some (vI l3), none, some (vR (some a51)), none]) (ls_n (ls_n (ls_n (ls_s (ls_n (ls_s (ls_n ls_0))))))) ?_
        exact w_X1_recallOf_113 hk71 h
      · refine r_bipush dX1_recallOf_110 (by decide) ?_
        exact r_iret rfl dX1_recallOf_112 ⟨_, rfl, h⟩
def f_X1_recallOf_71 (a0 : Nat) (Q : Int → Wd → Prop) : Nat → Nat → Nat → Int → Option Nat → Wd → Prop
  | 0, _, _, _, _, _ => False
  | fl + 1, k, n, l3, l5, G => f_X1_recallOf_71_b a0  (fun k n l3 l5 G => f_X1_recallOf_71 a0  Q fl k n l3 l5 G) k n l3 l5 G Q
theorem w_X1_recallOf_71 {a0 : Nat} {Q : Int → Wd → Prop} : ∀ (fl : Nat) {k n : Nat} {l3 : Int} {l5 : Option Nat} {G : Wd}, f_X1_recallOf_71 a0 Q fl k n l3 l5 G → wp m_X1_recallOf 6 k n 71 [none, none, none, some (vI l3), none, some (vR l5), none] [] G (qI Q) noX := by
  intro fl
  induction fl with
  | zero => intro k n l3 l5 G h; exact (show False from h).elim
  | succ fl ih => intro k n l3 l5 G h; exact w_X1_recallOf_71_b  (fun h => ih h) h
def f_X1_recallOf_127_b (a0 : Nat) (k127 : Nat → Nat → Int → Int → Option Nat → Wd → Prop) (k n : Nat) (l2 : Int) (l3 : Int) (l5 : Option Nat) (G : Wd) (Q : Int → Wd → Prop) : Prop :=
  nn l5 (fun a59 => (isC G a59 16 ∧ f_J25_hasNext a59  G (fun x61 G60 => brB x61 ((isC G60 a59 16 ∧ f_J25_next a59  G60 (fun x63 G62 => cst G62 x63 [8] (gI G62 a0 [0] 11 (fun x64 => pF G62 a0 [0] 11 (vI (x64 + 1)) (fun G65 => nn x63 (fun a66 => (isC G65 a66 8 ∧ f_X9_hasId a66 l2 l3 G65 (fun x68 G67 => brB x68 (gI G67 a66 [8] 2 (fun x69 => pF G67 a0 [0] 12 (vI x69) (fun G70 => gI G70 a66 [8] 2 (fun x71 => br x71 1 (¬ x71 = (1 : Int)) (Q 1 G70) (Q (-4) G70))))) (k127 k n l2 l3 (some a59) G67)))))))))) (Q (-2) G60))))
theorem w_X1_recallOf_127_b {a0 : Nat} {Q : Int → Wd → Prop} {k127 : Nat → Nat → Int → Int → Option Nat → Wd → Prop} (hk127 : ∀ {k n : Nat} {l2 : Int} {l3 : Int} {l5 : Option Nat} {G : Wd}, k127 k n l2 l3 l5 G → wp m_X1_recallOf 6 k n 127 [some (vR (some a0)), none, some (vI l2), some (vI l3), none, some (vR l5), none] [] G (qI Q) noX) {k n : Nat} {l2 : Int} {l3 : Int} {l5 : Option Nat} {G : Wd} (h : f_X1_recallOf_127_b a0 k127 k n l2 l3 l5 G Q) : wp m_X1_recallOf 6 k n 127 [some (vR (some a0)), none, some (vI l2), some (vI l3), none, some (vR l5), none] [] G (qI Q) noX := by
  unfold f_X1_recallOf_127_b at h
  refine r_aload dX1_recallOf_127 rfl iR ?_
  obtain ⟨a59, e, h⟩ := h
  refine wp.cast (L' := [some (vR (some a0)), none, some (vI l2), some (vI l3), none, some (vR (some a59)), none]) (st' := [vR (some a59)]) (by rw [e]) (by rw [e]) ?_
  obtain ⟨hC, h⟩ := h
  refine r_callF dX1_recallOf_129 hC (c_J25_hasNext h) q1803 q1135 q1137 q127 q1139 q1117 q1116 q1138 q1136 q1134 rfl ⟨by decide +kernel, by decide +kernel, by decide +kernel⟩ rfl (by decide) (by decide) rfl rc0 (by decide) (Nat.zero_le _) (Nat.zero_le _) (ofB fun x61 G60 h => ?_) nox
  refine r_ifZ_eq (tgt := 197) dX1_recallOf_134 (by decide) h (fun h => ?_) (fun h => ?_)
  · refine r_bipush dX1_recallOf_197 (by decide) ?_
    exact r_iret rfl dX1_recallOf_199 ⟨_, rfl, h⟩
  · refine r_aload dX1_recallOf_137 rfl iR ?_
    obtain ⟨hC, h⟩ := h
    refine r_callF dX1_recallOf_139 hC (c_J25_next h) q1805 q1272 q1274 q127 q1276 q1143 q1142 q1275 q1273 q1134 rfl ⟨by decide +kernel, by decide +kernel, by decide +kernel⟩ rfl (by decide) (by decide) rfl rc0 (by decide) (Nat.zero_le _) (Nat.zero_le _) (ofR fun x63 G62 h => ?_) nox
    refine r_ccast (ci := 8) dX1_recallOf_144 q1807 rfl h (fun h => ?_)
    refine r_astore (L' := [some (vR (some a0)), none, some (vI l2), some (vI l3), none, some (vR (some a59)), some (vR x63)]) dX1_recallOf_147 rfl iR cR (by decide) ?_
    refine r_aload_n dX1_recallOf_149 rfl rfl iR ?_
    refine r_dup dX1_recallOf_150 c1R ?_
    refine r_getI dX1_recallOf_151 (fg1 (f := 11) fX1 (by decide) q711 rfl) h (fun x64 h => ?_)
    refine r_iconst dX1_recallOf_154 ?_
    refine r_iadd dX1_recallOf_155 ?_
    refine r_put dX1_recallOf_156 (fp1 (f := 11) fX1 (by decide) q711 rfl rfl rfl) fvI h (fun G65 h => ?_)
    refine r_aload dX1_recallOf_159 rfl iR ?_
    refine r_iload_n dX1_recallOf_161 rfl rfl iI ?_
    refine r_iload_n dX1_recallOf_162 rfl rfl iI ?_
    obtain ⟨a66, e, h⟩ := h
    refine wp.cast (L' := [some (vR (some a0)), none, some (vI l2), some (vI l3), none, some (vR (some a59)), some (vR (some a66))]) (st' := [vI l3, vI l2, vR (some a66)]) (by rw [e]) (by rw [e]) ?_
    obtain ⟨hC, h⟩ := h
    refine r_callV dX1_recallOf_163 hC (c_X9_hasId h) q1808 q1809 q1810 q130 q1811 rfl yo_X9_hasId rfl (by decide) (by decide) rfl rc0 (by decide) (Nat.zero_le _) (Nat.zero_le _) (ofB fun x68 G67 h => ?_) nox
    refine r_ifZ_ne (tgt := 172) dX1_recallOf_166 (by decide) h (fun h => ?_) (fun h => ?_)
    · refine r_aload_n dX1_recallOf_172 rfl rfl iR ?_
      refine r_aload dX1_recallOf_173 rfl iR ?_
      refine r_getI dX1_recallOf_175 (fg1 (f := 2) fX9 (by decide) q1551 rfl) h (fun x69 h => ?_)
      refine r_put dX1_recallOf_178 (fp1 (f := 12) fX1 (by decide) q712 rfl rfl rfl) fvI h (fun G70 h => ?_)
      refine r_aload dX1_recallOf_181 rfl iR ?_
      refine r_getI dX1_recallOf_183 (fg1 (f := 2) fX9 (by decide) q1551 rfl) h (fun x71 h => ?_)
      refine r_iconst dX1_recallOf_186 ?_
      refine r_icmp_ne (tgt := 195) dX1_recallOf_187 (by decide) h (fun h => ?_) (fun h => ?_)
      · refine r_iconst dX1_recallOf_195 ?_
        exact r_iret rfl dX1_recallOf_196 ⟨_, rfl, h⟩
      · refine r_bipush dX1_recallOf_190 (by decide) ?_
        refine r_goto (tgt := 196) dX1_recallOf_192 (by decide) ?_
        exact r_iret rfl dX1_recallOf_196 ⟨_, rfl, h⟩
    · refine r_goto (tgt := 127) dX1_recallOf_169 (by decide) ?_
      refine wp.locals (L' := [some (vR (some a0)), none, some (vI l2), some (vI l3), none, some (vR (some a59)), none]) (ls_s (ls_n (ls_s (ls_s (ls_n (ls_s (ls_n ls_0))))))) ?_
      exact hk127 h
def f_X1_recallOf_127 (a0 : Nat) (Q : Int → Wd → Prop) : Nat → Nat → Nat → Int → Int → Option Nat → Wd → Prop
  | 0, _, _, _, _, _, _ => False
  | fl + 1, k, n, l2, l3, l5, G => f_X1_recallOf_127_b a0  (fun k n l2 l3 l5 G => f_X1_recallOf_127 a0  Q fl k n l2 l3 l5 G) k n l2 l3 l5 G Q
theorem w_X1_recallOf_127 {a0 : Nat} {Q : Int → Wd → Prop} : ∀ (fl : Nat) {k n : Nat} {l2 : Int} {l3 : Int} {l5 : Option Nat} {G : Wd}, f_X1_recallOf_127 a0 Q fl k n l2 l3 l5 G → wp m_X1_recallOf 6 k n 127 [some (vR (some a0)), none, some (vI l2), some (vI l3), none, some (vR l5), none] [] G (qI Q) noX := by
  intro fl
  induction fl with
  | zero => intro k n l2 l3 l5 G h; exact (show False from h).elim
  | succ fl ih => intro k n l2 l3 l5 G h; exact w_X1_recallOf_127_b  (fun h => ih h) h
def f_X1_recallOf (k n : Nat) (a0 : Nat) (a1 : Option Nat) (a2 : Int) (a3 : Int) (G : Wd) (Q : Int → Wd → Prop) : Prop :=
  ok32 a2 (nn a1 (fun a72 => gI G a72 [1] 8 (fun x73 => ok32 (x73 - 1) (f_X1_in a2 0 (x73 - 1) G (fun x75 G74 => brB x75 (ok32 a3 (f_X1_in a3 0 15 G74 (fun x77 G76 => brB x77 (gR G76 a72 [1] 0 (fun x78 => nn x78 (fun a79 => ldR G76 a79 7 a2 (fun x80 => (∃ k82 n83, (k82 ≤ k ∧ n83 ≤ n) ∧ f_X1_placeOf k82 n83 x80 a3 G76 (fun x84 G81 => pF G81 a0 [0] 11 (vI x84) (fun G85 => pF G85 a0 [0] 12 (vI 0) (fun G86 => gI G86 a0 [0] 11 (fun x87 => br x87 (-1) (x87 = ((-1) : Int)) (gR G86 a72 [1] 1 (fun x88 => nn x88 (fun a89 => (∃ k91 n92, (k91 ≤ (k - k82) ∧ n92 ≤ (n - n83)) ∧ (isC G86 a89 12 ∧ f_J2_iterator k91 n92 a89  G86 (fun x93 G90 => ∃ fl94, f_X1_recallOf_127 a0 Q fl94 ((k - k82) - k91) ((n - n83) - n92) a2 a3 x93 G90)))))) (nn x80 (fun a95 => gR G86 a95 [2] 1 (fun x96 => nn x96 (fun a97 => (∃ k99 n100, (k99 ≤ (k - k82) ∧ n100 ≤ (n - n83)) ∧ (isC G86 a97 13 ∧ f_J4_iterator k99 n100 a97  G86 (fun x101 G98 => ∃ fl102, f_X1_recallOf_71 a0 Q fl102 ((k - k82) - k99) ((n - n83) - n100) a3 x101 G98)))))))))))))))) (Q (-1) G76)))) (Q (-1) G74))))))
theorem w_X1_recallOf {a0 : Nat} {Q : Int → Wd → Prop} {k n : Nat} {a1 : Option Nat} {a2 : Int} {a3 : Int} {G : Wd} (h : f_X1_recallOf k n a0 a1 a2 a3 G Q) : wp m_X1_recallOf 6 k n 0 [some (vR (some a0)), some (vR a1), some (vI a2), some (vI a3), none, none, none] [] G (qI Q) noX := by
  unfold f_X1_recallOf at h
  refine r_iload_n dX1_recallOf_0 rfl rfl iI ?_
  refine r_i2l dX1_recallOf_1 h (fun h => ?_)
  refine r_lconst (y := 0) dX1_recallOf_2 (by decide) ?_
  refine r_aload_n dX1_recallOf_3 rfl rfl iR ?_
  obtain ⟨a72, e, h⟩ := h
  refine wp.cast (L' := [some (vR (some a0)), some (vR (some a72)), some (vI a2), some (vI a3), none, none, none]) (st' := [vR (some a72), vJ 0, vJ a2]) (by rw [e]) (by rw [e]) ?_
  refine r_getI dX1_recallOf_4 (fg1 (f := 8) fX2 (by decide) q652 rfl) h (fun x73 h => ?_)
  refine r_iconst dX1_recallOf_7 ?_
  refine r_isub dX1_recallOf_8 ?_
  refine r_i2l dX1_recallOf_9 h (fun h => ?_)
  refine r_callS dX1_recallOf_10 (c_X1_in h) q776 q777 q92 q778 yo_X1_in rfl (by decide) (by decide) rfl rc0 (by decide) (Nat.zero_le _) (Nat.zero_le _) (ofB fun x75 G74 h => ?_) nox
  refine r_ifZ_eq (tgt := 28) dX1_recallOf_13 (by decide) h (fun h => ?_) (fun h => ?_)
  · refine r_iconst dX1_recallOf_28 ?_
    exact r_iret rfl dX1_recallOf_29 ⟨_, rfl, h⟩
  · refine r_iload_n dX1_recallOf_16 rfl rfl iI ?_
    refine r_i2l dX1_recallOf_17 h (fun h => ?_)
    refine r_lconst (y := 0) dX1_recallOf_18 (by decide) ?_
    refine r_ldc2 (x := 15) dX1_recallOf_19 q1797 (by decide) ?_
    refine r_callS dX1_recallOf_22 (c_X1_in h) q776 q777 q92 q778 yo_X1_in rfl (by decide) (by decide) rfl rc0 (by decide) (Nat.zero_le _) (Nat.zero_le _) (ofB fun x77 G76 h => ?_) nox
    refine r_ifZ_ne (tgt := 30) dX1_recallOf_25 (by decide) h (fun h => ?_) (fun h => ?_)
    · refine r_aload_n dX1_recallOf_30 rfl rfl iR ?_
      refine r_getR dX1_recallOf_31 (fg1 (f := 0) fX2 (by decide) q636 rfl) h (fun x78 h => ?_)
      refine r_iload_n dX1_recallOf_34 rfl rfl iI ?_
      obtain ⟨a79, e, h⟩ := h
      refine wp.cast (L' := [some (vR (some a0)), some (vR (some a72)), some (vI a2), some (vI a3), none, none, none]) (st' := [vI a2, vR (some a79)]) rfl (by rw [e]) ?_
      refine r_aald dX1_recallOf_35 (by decide) (by decide) h (fun x80 h => ?_)
      refine r_astore (L' := [some (vR (some a0)), some (vR (some a72)), some (vI a2), some (vI a3), some (vR x80), none, none]) dX1_recallOf_36 rfl iR cI (by decide) ?_
      refine r_aload_n dX1_recallOf_38 rfl rfl iR ?_
      refine r_aload dX1_recallOf_39 rfl iR ?_
      refine r_iload_n dX1_recallOf_41 rfl rfl iI ?_
      obtain ⟨k82, n83, ⟨hk1, hn1⟩, h⟩ := h
      refine r_callS dX1_recallOf_42 (c_X1_placeOf h) q1798 q1799 q92 q1800 yo_X1_placeOf rfl (by decide) (by decide) rfl (rc1 c1R rc0) (by decide) hk1 hn1 (ofI fun x84 G81 h => ?_) nox
      refine r_put dX1_recallOf_45 (fp1 (f := 11) fX1 (by decide) q711 rfl rfl rfl) fvI h (fun G85 h => ?_)
      refine r_aload_n dX1_recallOf_48 rfl rfl iR ?_
      refine r_iconst dX1_recallOf_49 ?_
      refine r_put dX1_recallOf_50 (fp1 (f := 12) fX1 (by decide) q712 rfl rfl rfl) fvI h (fun G86 h => ?_)
      refine r_aload_n dX1_recallOf_53 rfl rfl iR ?_
      refine r_getI dX1_recallOf_54 (fg1 (f := 11) fX1 (by decide) q711 rfl) h (fun x87 h => ?_)
      refine r_iconst dX1_recallOf_57 ?_
      refine r_icmp_eq (tgt := 118) dX1_recallOf_58 (by decide) h (fun h => ?_) (fun h => ?_)
      · refine r_aload_n dX1_recallOf_118 rfl rfl iR ?_
        refine r_getR dX1_recallOf_119 (fg1 (f := 1) fX2 (by decide) q639 rfl) h (fun x88 h => ?_)
        obtain ⟨a89, e, h⟩ := h
        refine wp.cast (L' := [some (vR (some a0)), some (vR (some a72)), some (vI a2), some (vI a3), some (vR x80), none, none]) (st' := [vR (some a89)]) rfl (by rw [e]) ?_
        obtain ⟨k91, n92, ⟨hk1, hn1⟩, h⟩ := h
        obtain ⟨hC, h⟩ := h
        refine r_callU dX1_recallOf_122 hC (c_J2_iterator h) q1806 q1341 q1343 q1344 q96 q1345 rfl rfl yo_J2_iterator rfl (by decide) (by decide) rfl rc0 (by decide) hk1 hn1 (ofR fun x93 G90 h => ?_) nox
        refine r_astore (L' := [some (vR (some a0)), some (vR (some a72)), some (vI a2), some (vI a3), some (vR x80), some (vR x93), none]) dX1_recallOf_125 rfl iR cR (by decide) ?_
        refine wp.locals (L' := [some (vR (some a0)), none, some (vI a2), some (vI a3), none, some (vR x93), none]) (ls_s (ls_n (ls_s (ls_s (ls_n (ls_s (ls_n ls_0))))))) ?_
        obtain ⟨fl94, h⟩ := h
        exact w_X1_recallOf_127 fl94 h
      · refine r_aload dX1_recallOf_61 rfl iR ?_
        obtain ⟨a95, e, h⟩ := h
        refine wp.cast (L' := [some (vR (some a0)), some (vR (some a72)), some (vI a2), some (vI a3), some (vR (some a95)), none, none]) (st' := [vR (some a95)]) (by rw [e]) (by rw [e]) ?_
        refine r_getR dX1_recallOf_63 (fg1 (f := 1) fX3 (by decide) q558 rfl) h (fun x96 h => ?_)
        obtain ⟨a97, e, h⟩ := h
        refine wp.cast (L' := [some (vR (some a0)), some (vR (some a72)), some (vI a2), some (vI a3), some (vR (some a95)), none, none]) (st' := [vR (some a97)]) rfl (by rw [e]) ?_
        obtain ⟨k99, n100, ⟨hk1, hn1⟩, h⟩ := h
        obtain ⟨hC, h⟩ := h
        refine r_callV dX1_recallOf_66 hC (c_J4_iterator h) q1801 q1085 q1086 q99 q1087 rfl yo_J4_iterator rfl (by decide) (by decide) rfl rc0 (by decide) hk1 hn1 (ofR fun x101 G98 h => ?_) nox
        refine r_astore (L' := [some (vR (some a0)), some (vR (some a72)), some (vI a2), some (vI a3), some (vR (some a95)), some (vR x101), none]) dX1_recallOf_69 rfl iR cR (by decide) ?_
        refine wp.locals (L' := [none, none, none, some (vI a3), none, some (vR x101), none]) (ls_n (ls_n (ls_n (ls_s (ls_n (ls_s (ls_n ls_0))))))) ?_
        obtain ⟨fl102, h⟩ := h
        exact w_X1_recallOf_71 fl102 h
    · refine r_iconst dX1_recallOf_28 ?_
      exact r_iret rfl dX1_recallOf_29 ⟨_, rfl, h⟩
theorem c_X1_recallOf {a0 : Nat} {a1 : Option Nat} {a2 : Int} {a3 : Int} {k n : Nat} {Q : Int → Wd → Prop} {G : Wd} (h : f_X1_recallOf k n a0 a1 a2 a3 G Q) : call yX1_recallOf (Cond.code yX1_recallOf cX1_recallOf 7 (some .int)) 6 k n [vR (some a0), vR a1, vI a2, vI a3] G (qI Q) noX :=
  call.enter (by decide +kernel) (la_1 c1R (la_1 c1R (la_1 c1I (la_1 c1I (la_nil rfl))))) rfl (w_X1_recallOf h)
abbrev m_X1_goCall : Mt := (yX1_goCall.cls, cX1_goCall, 7, none, [], yX1_goCall.name)
theorem yo_X1_goCall : yOK yX1_goCall 3 := ⟨by decide +kernel, by decide +kernel, by decide +kernel⟩
def f_X1_goCall_55 (k19 : Nat → Nat → Option Nat → Int → Int → Option Nat → Int → Int → Wd → Prop) (k n : Nat) (l0 : Option Nat) (l1 : Int) (l2 : Int) (l3 : Option Nat) (l4 : Int) (l5 : Int) (s0 : Option Nat) (s1 : Option Nat) (G : Wd) (Q : Wd → Prop) : Prop :=
  nn s0 (fun a76 => (isC G a76 13 ∧ f_J4_addLast a76 s1 G (fun G77 => k19 k n l0 l1 l2 l3 l4 (l5 + 1) G77)))
theorem w_X1_goCall_55 {Q : Wd → Prop} {k19 : Nat → Nat → Option Nat → Int → Int → Option Nat → Int → Int → Wd → Prop} (hk19 : ∀ {k n : Nat} {l0 : Option Nat} {l1 : Int} {l2 : Int} {l3 : Option Nat} {l4 : Int} {l5 : Int} {G : Wd}, k19 k n l0 l1 l2 l3 l4 l5 G → wp m_X1_goCall 6 k n 19 [some (vR l0), some (vI l1), some (vI l2), some (vR l3), some (vI l4), some (vI l5), none] [] G (qV Q) noX) {k n : Nat} {l0 : Option Nat} {l1 : Int} {l2 : Int} {l3 : Option Nat} {l4 : Int} {l5 : Int} {s0 : Option Nat} {s1 : Option Nat} {G : Wd} (h : f_X1_goCall_55 k19 k n l0 l1 l2 l3 l4 l5 s0 s1 G Q) : wp m_X1_goCall 6 k n 55 [some (vR l0), some (vI l1), some (vI l2), some (vR l3), some (vI l4), some (vI l5), none] [vR s1, vR s0] G (qV Q) noX := by
  unfold f_X1_goCall_55 at h
  obtain ⟨a76, e, h⟩ := h
  refine wp.cast (L' := [some (vR l0), some (vI l1), some (vI l2), some (vR l3), some (vI l4), some (vI l5), none]) (st' := [vR s1, vR (some a76)]) rfl (by rw [e]) ?_
  obtain ⟨hC, h⟩ := h
  refine r_callV dX1_goCall_55 hC (c_J4_addLast h) q1493 q1286 q1287 q99 q1288 rfl yo_J4_addLast rfl (by decide) (by decide) rfl rc0 (by decide) (Nat.zero_le _) (Nat.zero_le _) (ofV fun G77 h => ?_) nox
  refine r_iinc (L' := [some (vR l0), some (vI l1), some (vI l2), some (vR l3), some (vI l4), some (vI (l5 + 1)), none]) dX1_goCall_58 rfl rfl cI (by decide) ?_
  refine r_goto (tgt := 19) dX1_goCall_61 (by decide) ?_
  exact hk19 h
def f_X1_goCall_165 (k73 : Nat → Nat → Option Nat → Int → Int → Option Nat → Wd → Prop) (k n : Nat) (l0 : Option Nat) (l1 : Int) (l2 : Int) (l5 : Option Nat) (G : Wd) (Q : Wd → Prop) : Prop :=
  k73 k n l0 l1 l2 l5 G
theorem w_X1_goCall_165 {Q : Wd → Prop} {k73 : Nat → Nat → Option Nat → Int → Int → Option Nat → Wd → Prop} (hk73 : ∀ {k n : Nat} {l0 : Option Nat} {l1 : Int} {l2 : Int} {l5 : Option Nat} {G : Wd}, k73 k n l0 l1 l2 l5 G → wp m_X1_goCall 6 k n 73 [some (vR l0), some (vI l1), some (vI l2), none, none, some (vR l5), none] [] G (qV Q) noX) {k n : Nat} {l0 : Option Nat} {l1 : Int} {l2 : Int} {l5 : Option Nat} {G : Wd} (h : f_X1_goCall_165 k73 k n l0 l1 l2 l5 G Q) : wp m_X1_goCall 6 k n 165 [some (vR l0), some (vI l1), some (vI l2), none, none, some (vR l5), none] [] G (qV Q) noX := by
  unfold f_X1_goCall_165 at h
  refine r_goto (tgt := 73) dX1_goCall_165 (by decide) ?_
  exact hk73 h
def f_X1_goCall_73_b (k73 : Nat → Nat → Option Nat → Int → Int → Option Nat → Wd → Prop) (k n : Nat) (l0 : Option Nat) (l1 : Int) (l2 : Int) (l5 : Option Nat) (G : Wd) (Q : Wd → Prop) : Prop :=
  nn l5 (fun a78 => (isC G a78 16 ∧ f_J25_hasNext a78  G (fun x80 G79 => brB x80 ((isC G79 a78 16 ∧ f_J25_next a78  G79 (fun x82 G81 => cst G81 x82 [8] (nn x82 (fun a83 => (isC G81 a83 8 ∧ f_X9_hasId a83 l1 l2 G81 (fun x85 G84 => brB x85 ((isC G84 a78 16 ∧ f_J25_remove a78  G84 (fun G86 => nn l0 (fun a87 => gR G86 a87 [1] 2 (fun x88 => nO G86 k n 9 4 zX10 (fun a89 G90 => gR G90 a83 [8] 0 (fun x91 => f_X10_init a89 x91 1 0 G90 (fun G92 => nn x88 (fun a93 => (∃ k95 n96, (k95 ≤ (k - 1) ∧ n96 ≤ (n - 4)) ∧ (isC G92 a93 12 ∧ f_J3_addLast k95 n96 a93 (some a89) G92 (fun G94 => gR G94 a83 [8] 1 (fun x97 => brN x97 (f_X1_goCall_165 k73 ((k - 1) - k95) ((n - 4) - n96) (some a87) l1 l2 (some a78) G94 Q) (fun a98 => gR G94 a87 [1] 2 (fun x99 => nO G94 ((k - 1) - k95) ((n - 4) - n96) 9 4 zX10 (fun a100 G101 => gR G101 a83 [8] 1 (fun x102 => f_X10_init a100 x102 1 0 G101 (fun G103 => nn x99 (fun a104 => (∃ k106 n107, (k106 ≤ (((k - 1) - k95) - 1) ∧ n107 ≤ (((n - 4) - n96) - 4)) ∧ (isC G103 a104 12 ∧ f_J3_addLast k106 n107 a104 (some a100) G103 (fun G105 => f_X1_goCall_165 k73 ((((k - 1) - k95) - 1) - k106) ((((n - 4) - n96) - 4) - n107) (some a87) l1 l2 (some a78) G105 Q)))))))))))))))))))))) (k73 k n l0 l1 l2 (some a78) G84)))))))) (Q G79))))
theorem w_X1_goCall_73_b {Q : Wd → Prop} {k73 : Nat → Nat → Option Nat → Int → Int → Option Nat → Wd → Prop} (hk73 : ∀ {k n : Nat} {l0 : Option Nat} {l1 : Int} {l2 : Int} {l5 : Option Nat} {G : Wd}, k73 k n l0 l1 l2 l5 G → wp m_X1_goCall 6 k n 73 [some (vR l0), some (vI l1), some (vI l2), none, none, some (vR l5), none] [] G (qV Q) noX) {k n : Nat} {l0 : Option Nat} {l1 : Int} {l2 : Int} {l5 : Option Nat} {G : Wd} (h : f_X1_goCall_73_b k73 k n l0 l1 l2 l5 G Q) : wp m_X1_goCall 6 k n 73 [some (vR l0), some (vI l1), some (vI l2), none, none, some (vR l5), none] [] G (qV Q) noX := by
  unfold f_X1_goCall_73_b at h
  refine r_aload dX1_goCall_73 rfl iR ?_
  obtain ⟨a78, e, h⟩ := h
  refine wp.cast (L' := [some (vR l0), some (vI l1), some (vI l2), none, none, some (vR (some a78)), none]) (st' := [vR (some a78)]) (by rw [e]) (by rw [e]) ?_
  obtain ⟨hC, h⟩ := h
  refine r_callF dX1_goCall_75 hC (c_J25_hasNext h) q1803 q1135 q1137 q127 q1139 q1117 q1116 q1138 q1136 q1134 rfl ⟨by decide +kernel, by decide +kernel, by decide +kernel⟩ rfl (by decide) (by decide) rfl rc0 (by decide) (Nat.zero_le _) (Nat.zero_le _) (ofB fun x80 G79 h => ?_) nox
  refine r_ifZ_eq (tgt := 168) dX1_goCall_80 (by decide) h (fun h => ?_) (fun h => ?_)
  · exact r_vret rfl dX1_goCall_168 ⟨rfl, h⟩
  · refine r_aload dX1_goCall_83 rfl iR ?_
    obtain ⟨hC, h⟩ := h
    refine r_callF dX1_goCall_85 hC (c_J25_next h) q1805 q1272 q1274 q127 q1276 q1143 q1142 q1275 q1273 q1134 rfl ⟨by decide +kernel, by decide +kernel, by decide +kernel⟩ rfl (by decide) (by decide) rfl rc0 (by decide) (Nat.zero_le _) (Nat.zero_le _) (ofR fun x82 G81 h => ?_) nox
    refine r_ccast (ci := 8) dX1_goCall_90 q1807 rfl h (fun h => ?_)
    refine r_astore (L' := [some (vR l0), some (vI l1), some (vI l2), none, none, some (vR (some a78)), some (vR x82)]) dX1_goCall_93 rfl iR cR (by decide) ?_
    refine r_aload dX1_goCall_95 rfl iR ?_
    refine r_iload_n dX1_goCall_97 rfl rfl iI ?_
    refine r_iload_n dX1_goCall_98 rfl rfl iI ?_
    obtain ⟨a83, e, h⟩ := h
    refine wp.cast (L' := [some (vR l0), some (vI l1), some (vI l2), none, none, some (vR (some a78)), some (vR (some a83))]) (st' := [vI l2, vI l1, vR (some a83)]) (by rw [e]) (by rw [e]) ?_
    obtain ⟨hC, h⟩ := h
    refine r_callV dX1_goCall_99 hC (c_X9_hasId h) q1808 q1809 q1810 q130 q1811 rfl yo_X9_hasId rfl (by decide) (by decide) rfl rc0 (by decide) (Nat.zero_le _) (Nat.zero_le _) (ofB fun x85 G84 h => ?_) nox
    refine r_ifZ_ne (tgt := 108) dX1_goCall_102 (by decide) h (fun h => ?_) (fun h => ?_)
    · refine r_aload dX1_goCall_108 rfl iR ?_
      obtain ⟨hC, h⟩ := h
      refine r_callF dX1_goCall_110 hC (c_J25_remove h) q1824 q1692 q1694 q127 q1696 q1630 q1629 q1695 q1693 q1134 rfl ⟨by decide +kernel, by decide +kernel, by decide +kernel⟩ rfl (by decide) (by decide) rfl rc0 (by decide) (Nat.zero_le _) (Nat.zero_le _) (ofV fun G86 h => ?_) nox
      refine r_aload_n dX1_goCall_115 rfl rfl iR ?_
      obtain ⟨a87, e, h⟩ := h
      refine wp.cast (L' := [some (vR (some a87)), some (vI l1), some (vI l2), none, none, some (vR (some a78)), some (vR (some a83))]) (st' := [vR (some a87)]) (by rw [e]) (by rw [e]) ?_
      refine r_getR dX1_goCall_116 (fg1 (f := 2) fX2 (by decide) q641 rfl) h (fun x88 h => ?_)
      refine r_new dX1_goCall_119 fX10 q1825 q1567 q131 dfX10 h (fun a89 G90 h => ?_)
      refine r_dup dX1_goCall_122 c1R ?_
      refine r_aload dX1_goCall_123 rfl iR ?_
      refine r_getR dX1_goCall_125 (fg1 (f := 0) fX9 (by decide) q1545 rfl) h (fun x91 h => ?_)
      refine r_iconst dX1_goCall_128 ?_
      refine r_iconst dX1_goCall_129 ?_
      refine r_callI dX1_goCall_130 (c_X10_init h) rfl q1826 q1569 q131 q1570 yo_X10_init rfl (by decide) (by decide) rfl (rc1 c1R (rc1 c1R rc0)) (by decide) (Nat.zero_le _) (Nat.zero_le _) (ofV fun G92 h => ?_) nox
      obtain ⟨a93, e, h⟩ := h
      refine wp.cast (L' := [some (vR (some a87)), some (vI l1), some (vI l2), none, none, some (vR (some a78)), some (vR (some a83))]) (st' := [vR (some a89), vR (some a93)]) rfl (by rw [e]) ?_
      obtain ⟨k95, n96, ⟨hk1, hn1⟩, h⟩ := h
      obtain ⟨hC, h⟩ := h
      refine r_callV dX1_goCall_133 hC (c_J3_addLast h) q1827 q1396 q1397 q97 q1398 rfl yo_J3_addLast rfl (by decide) (by decide) rfl rc0 (by decide) hk1 hn1 (ofV fun G94 h => ?_) nox
      refine r_aload dX1_goCall_136 rfl iR ?_
      refine r_getR dX1_goCall_138 (fg1 (f := 1) fX9 (by decide) q1548 rfl) h (fun x97 h => ?_)
      refine r_ifnullV (tgt := 165) dX1_goCall_141 (by decide) h (fun e h => ?_) (fun a98 e h => ?_)
      · refine wp.locals (L' := [some (vR (some a87)), some (vI l1), some (vI l2), none, none, some (vR (some a78)), none]) (ls_s (ls_s (ls_s (ls_n (ls_n (ls_s (ls_n ls_0))))))) ?_
        exact w_X1_goCall_165 hk73 h
      · refine r_aload_n dX1_goCall_144 rfl rfl iR ?_
        refine r_getR dX1_goCall_145 (fg1 (f := 2) fX2 (by decide) q641 rfl) h (fun x99 h => ?_)
        refine r_new dX1_goCall_148 fX10 q1825 q1567 q131 dfX10 h (fun a100 G101 h => ?_)
        refine r_dup dX1_goCall_151 c1R ?_
        refine r_aload dX1_goCall_152 rfl iR ?_
        refine r_getR dX1_goCall_154 (fg1 (f := 1) fX9 (by decide) q1548 rfl) h (fun x102 h => ?_)
        refine r_iconst dX1_goCall_157 ?_
        refine r_iconst dX1_goCall_158 ?_
        refine r_callI dX1_goCall_159 (c_X10_init h) rfl q1826 q1569 q131 q1570 yo_X10_init rfl (by decide) (by decide) rfl (rc1 c1R (rc1 c1R rc0)) (by decide) (Nat.zero_le _) (Nat.zero_le _) (ofV fun G103 h => ?_) nox
        obtain ⟨a104, e, h⟩ := h
        refine wp.cast (L' := [some (vR (some a87)), some (vI l1), some (vI l2), none, none, some (vR (some a78)), some (vR (some a83))]) (st' := [vR (some a100), vR (some a104)]) rfl (by rw [e]) ?_
        obtain ⟨k106, n107, ⟨hk1, hn1⟩, h⟩ := h
        obtain ⟨hC, h⟩ := h
        refine r_callV dX1_goCall_162 hC (c_J3_addLast h) q1827 q1396 q1397 q97 q1398 rfl yo_J3_addLast rfl (by decide) (by decide) rfl rc0 (by decide) hk1 hn1 (ofV fun G105 h => ?_) nox
        refine wp.locals (L' := [some (vR (some a87)), some (vI l1), some (vI l2), none, none, some (vR (some a78)), none]) (ls_s (ls_s (ls_s (ls_n (ls_n (ls_s (ls_n ls_0))))))) ?_
        exact w_X1_goCall_165 hk73 h
    · refine r_goto (tgt := 73) dX1_goCall_105 (by decide) ?_
      refine wp.locals (L' := [some (vR l0), some (vI l1), some (vI l2), none, none, some (vR (some a78)), none]) (ls_s (ls_s (ls_s (ls_n (ls_n (ls_s (ls_n ls_0))))))) ?_
      exact hk73 h
def f_X1_goCall_73 (Q : Wd → Prop) : Nat → Nat → Nat → Option Nat → Int → Int → Option Nat → Wd → Prop
  | 0, _, _, _, _, _, _, _ => False
  | fl + 1, k, n, l0, l1, l2, l5, G => f_X1_goCall_73_b  (fun k n l0 l1 l2 l5 G => f_X1_goCall_73  Q fl k n l0 l1 l2 l5 G) k n l0 l1 l2 l5 G Q
theorem w_X1_goCall_73 {Q : Wd → Prop} : ∀ (fl : Nat) {k n : Nat} {l0 : Option Nat} {l1 : Int} {l2 : Int} {l5 : Option Nat} {G : Wd}, f_X1_goCall_73 Q fl k n l0 l1 l2 l5 G → wp m_X1_goCall 6 k n 73 [some (vR l0), some (vI l1), some (vI l2), none, none, some (vR l5), none] [] G (qV Q) noX := by
  intro fl
  induction fl with
  | zero => intro k n l0 l1 l2 l5 G h; exact (show False from h).elim
  | succ fl ih => intro k n l0 l1 l2 l5 G h; exact w_X1_goCall_73_b  (fun h => ih h) h
def f_X1_goCall_19_b (k19 : Nat → Nat → Option Nat → Int → Int → Option Nat → Int → Int → Wd → Prop) (k n : Nat) (l0 : Option Nat) (l1 : Int) (l2 : Int) (l3 : Option Nat) (l4 : Int) (l5 : Int) (G : Wd) (Q : Wd → Prop) : Prop :=
  br l5 l4 (l4 ≤ l5) (nn l0 (fun a108 => gR G a108 [1] 1 (fun x109 => nn x109 (fun a110 => (∃ k112 n113, (k112 ≤ k ∧ n113 ≤ n) ∧ (isC G a110 12 ∧ f_J2_iterator k112 n113 a110  G (fun x114 G111 => ∃ fl115, f_X1_goCall_73 Q fl115 (k - k112) (n - n113) (some a108) l1 l2 x114 G111))))))) (nn l3 (fun a116 => (isC G a116 13 ∧ f_J4_pollFirst a116  G (fun x118 G117 => cst G117 x118 [7] (nn x118 (fun a119 => gI G117 a119 [7] 1 (fun x120 => br x120 l2 (¬ x120 = l2) (f_X1_goCall_55 k19 k n l0 l1 l2 (some a116) l4 l5 (some a116) (some a119) G117 Q) ((∃ k122 n123, (k122 ≤ k ∧ n123 ≤ n) ∧ (isC G117 a119 7 ∧ f_X8_calledBack k122 n123 a119  G117 (fun x124 G121 => f_X1_goCall_55 k19 (k - k122) (n - n123) l0 l1 l2 (some a116) l4 l5 (some a116) x124 G121 Q)))))))))))
theorem w_X1_goCall_19_b {Q : Wd → Prop} {k19 : Nat → Nat → Option Nat → Int → Int → Option Nat → Int → Int → Wd → Prop} (hk19 : ∀ {k n : Nat} {l0 : Option Nat} {l1 : Int} {l2 : Int} {l3 : Option Nat} {l4 : Int} {l5 : Int} {G : Wd}, k19 k n l0 l1 l2 l3 l4 l5 G → wp m_X1_goCall 6 k n 19 [some (vR l0), some (vI l1), some (vI l2), some (vR l3), some (vI l4), some (vI l5), none] [] G (qV Q) noX) {k n : Nat} {l0 : Option Nat} {l1 : Int} {l2 : Int} {l3 : Option Nat} {l4 : Int} {l5 : Int} {G : Wd} (h : f_X1_goCall_19_b k19 k n l0 l1 l2 l3 l4 l5 G Q) : wp m_X1_goCall 6 k n 19 [some (vR l0), some (vI l1), some (vI l2), some (vR l3), some (vI l4), some (vI l5), none] [] G (qV Q) noX := by
  unfold f_X1_goCall_19_b at h
  refine r_iload dX1_goCall_19 rfl iI ?_
  refine r_iload dX1_goCall_21 rfl iI ?_
  refine r_icmp_ge (tgt := 64) dX1_goCall_23 (by decide) h (fun h => ?_) (fun h => ?_)
  · refine r_aload_n dX1_goCall_64 rfl rfl iR ?_
    obtain ⟨a108, e, h⟩ := h
    refine wp.cast (L' := [some (vR (some a108)), some (vI l1), some (vI l2), some (vR l3), some (vI l4), some (vI l5), none]) (st' := [vR (some a108)]) (by rw [e]) (by rw [e]) ?_
    refine r_getR dX1_goCall_65 (fg1 (f := 1) fX2 (by decide) q639 rfl) h (fun x109 h => ?_)
    obtain ⟨a110, e, h⟩ := h
    refine wp.cast (L' := [some (vR (some a108)), some (vI l1), some (vI l2), some (vR l3), some (vI l4), some (vI l5), none]) (st' := [vR (some a110)]) rfl (by rw [e]) ?_
    obtain ⟨k112, n113, ⟨hk1, hn1⟩, h⟩ := h
    obtain ⟨hC, h⟩ := h
    refine r_callU dX1_goCall_68 hC (c_J2_iterator h) q1806 q1341 q1343 q1344 q96 q1345 rfl rfl yo_J2_iterator rfl (by decide) (by decide) rfl rc0 (by decide) hk1 hn1 (ofR fun x114 G111 h => ?_) nox
    refine r_astore (L' := [some (vR (some a108)), some (vI l1), some (vI l2), some (vR l3), some (vI l4), some (vR x114), none]) dX1_goCall_71 rfl iR cI (by decide) ?_
    refine wp.locals (L' := [some (vR (some a108)), some (vI l1), some (vI l2), none, none, some (vR x114), none]) (ls_s (ls_s (ls_s (ls_n (ls_n (ls_s (ls_n ls_0))))))) ?_
    obtain ⟨fl115, h⟩ := h
    exact w_X1_goCall_73 fl115 h
  · refine r_aload_n dX1_goCall_26 rfl rfl iR ?_
    obtain ⟨a116, e, h⟩ := h
    refine wp.cast (L' := [some (vR l0), some (vI l1), some (vI l2), some (vR (some a116)), some (vI l4), some (vI l5), none]) (st' := [vR (some a116)]) (by rw [e]) (by rw [e]) ?_
    obtain ⟨hC, h⟩ := h
    refine r_callV dX1_goCall_27 hC (c_J4_pollFirst h) q1816 q1731 q1732 q99 q1733 rfl yo_J4_pollFirst rfl (by decide) (by decide) rfl rc0 (by decide) (Nat.zero_le _) (Nat.zero_le _) (ofR fun x118 G117 h => ?_) nox
    refine r_ccast (ci := 7) dX1_goCall_30 q698 rfl h (fun h => ?_)
    refine r_astore (L' := [some (vR l0), some (vI l1), some (vI l2), some (vR (some a116)), some (vI l4), some (vI l5), some (vR x118)]) dX1_goCall_33 rfl iR cI (by decide) ?_
    refine r_aload_n dX1_goCall_35 rfl rfl iR ?_
    refine r_aload dX1_goCall_36 rfl iR ?_
    obtain ⟨a119, e, h⟩ := h
    refine wp.cast (L' := [some (vR l0), some (vI l1), some (vI l2), some (vR (some a116)), some (vI l4), some (vI l5), some (vR (some a119))]) (st' := [vR (some a119), vR (some a116)]) (by rw [e]) (by rw [e]) ?_
    refine r_getI dX1_goCall_38 (fg1 (f := 1) fX8 (by decide) q1465 rfl) h (fun x120 h => ?_)
    refine r_iload_n dX1_goCall_41 rfl rfl iI ?_
    refine r_icmp_ne (tgt := 53) dX1_goCall_42 (by decide) h (fun h => ?_) (fun h => ?_)
    · refine r_aload dX1_goCall_53 rfl iR ?_
      refine wp.locals (L' := [some (vR l0), some (vI l1), some (vI l2), some (vR (some a116)), some (vI l4), some (vI l5), none]) (ls_s (ls_s (ls_s (ls_s (ls_s (ls_s (ls_n ls_0))))))) ?_
      exact w_X1_goCall_55 hk19 h
    · refine r_aload dX1_goCall_45 rfl iR ?_
      obtain ⟨k122, n123, ⟨hk1, hn1⟩, h⟩ := h
      obtain ⟨hC, h⟩ := h
      refine r_callV dX1_goCall_47 hC (c_X8_calledBack h) q1817 q1818 q1819 q129 q1820 rfl yo_X8_calledBack rfl (by decide) (by decide) rfl (rc1 c1R rc0) (by decide) hk1 hn1 (ofR fun x124 G121 h => ?_) nox
      refine r_goto (tgt := 55) dX1_goCall_50 (by decide) ?_
      refine wp.locals (L' := [some (vR l0), some (vI l1), some (vI l2), some (vR (some a116)), some (vI l4), some (vI l5), none]) (ls_s (ls_s (ls_s (ls_s (ls_s (ls_s (ls_n ls_0))))))) ?_
      exact w_X1_goCall_55 hk19 h
def f_X1_goCall_19 (Q : Wd → Prop) : Nat → Nat → Nat → Option Nat → Int → Int → Option Nat → Int → Int → Wd → Prop
  | 0, _, _, _, _, _, _, _, _, _ => False
  | fl + 1, k, n, l0, l1, l2, l3, l4, l5, G => f_X1_goCall_19_b  (fun k n l0 l1 l2 l3 l4 l5 G => f_X1_goCall_19  Q fl k n l0 l1 l2 l3 l4 l5 G) k n l0 l1 l2 l3 l4 l5 G Q
theorem w_X1_goCall_19 {Q : Wd → Prop} : ∀ (fl : Nat) {k n : Nat} {l0 : Option Nat} {l1 : Int} {l2 : Int} {l3 : Option Nat} {l4 : Int} {l5 : Int} {G : Wd}, f_X1_goCall_19 Q fl k n l0 l1 l2 l3 l4 l5 G → wp m_X1_goCall 6 k n 19 [some (vR l0), some (vI l1), some (vI l2), some (vR l3), some (vI l4), some (vI l5), none] [] G (qV Q) noX := by
  intro fl
  induction fl with
  | zero => intro k n l0 l1 l2 l3 l4 l5 G h; exact (show False from h).elim
  | succ fl ih => intro k n l0 l1 l2 l3 l4 l5 G h; exact w_X1_goCall_19_b  (fun h => ih h) h
def f_X1_goCall (k n : Nat) (a0 : Option Nat) (a1 : Int) (a2 : Int) (G : Wd) (Q : Wd → Prop) : Prop :=
  nn a0 (fun a125 => gR G a125 [1] 0 (fun x126 => nn x126 (fun a127 => ldR G a127 7 a1 (fun x128 => nn x128 (fun a129 => gR G a129 [2] 1 (fun x130 => nn x130 (fun a131 => (isC G a131 13 ∧ f_J4_size a131  G (fun x133 G132 => ∃ fl134, f_X1_goCall_19 Q fl134 k n (some a125) a1 a2 (some a131) x133 0 G132)))))))))
theorem w_X1_goCall {Q : Wd → Prop} {k n : Nat} {a0 : Option Nat} {a1 : Int} {a2 : Int} {G : Wd} (h : f_X1_goCall k n a0 a1 a2 G Q) : wp m_X1_goCall 6 k n 0 [some (vR a0), some (vI a1), some (vI a2), none, none, none, none] [] G (qV Q) noX := by
  unfold f_X1_goCall at h
  refine r_aload_n dX1_goCall_0 rfl rfl iR ?_
  obtain ⟨a125, e, h⟩ := h
  refine wp.cast (L' := [some (vR (some a125)), some (vI a1), some (vI a2), none, none, none, none]) (st' := [vR (some a125)]) (by rw [e]) (by rw [e]) ?_
  refine r_getR dX1_goCall_1 (fg1 (f := 0) fX2 (by decide) q636 rfl) h (fun x126 h => ?_)
  refine r_iload_n dX1_goCall_4 rfl rfl iI ?_
  obtain ⟨a127, e, h⟩ := h
  refine wp.cast (L' := [some (vR (some a125)), some (vI a1), some (vI a2), none, none, none, none]) (st' := [vI a1, vR (some a127)]) rfl (by rw [e]) ?_
  refine r_aald dX1_goCall_5 (by decide) (by decide) h (fun x128 h => ?_)
  obtain ⟨a129, e, h⟩ := h
  refine wp.cast (L' := [some (vR (some a125)), some (vI a1), some (vI a2), none, none, none, none]) (st' := [vR (some a129)]) rfl (by rw [e]) ?_
  refine r_getR dX1_goCall_6 (fg1 (f := 1) fX3 (by decide) q558 rfl) h (fun x130 h => ?_)
  refine r_astore_n (L' := [some (vR (some a125)), some (vI a1), some (vI a2), some (vR x130), none, none, none]) dX1_goCall_9 rfl rfl iR cI (by decide) ?_
  refine r_aload_n dX1_goCall_10 rfl rfl iR ?_
  obtain ⟨a131, e, h⟩ := h
  refine wp.cast (L' := [some (vR (some a125)), some (vI a1), some (vI a2), some (vR (some a131)), none, none, none]) (st' := [vR (some a131)]) (by rw [e]) (by rw [e]) ?_
  obtain ⟨hC, h⟩ := h
  refine r_callV dX1_goCall_11 hC (c_J4_size h) q1815 q1095 q1096 q99 q1097 rfl yo_J4_size rfl (by decide) (by decide) rfl rc0 (by decide) (Nat.zero_le _) (Nat.zero_le _) (ofI fun x133 G132 h => ?_) nox
  refine r_istore (L' := [some (vR (some a125)), some (vI a1), some (vI a2), some (vR (some a131)), some (vI x133), none, none]) dX1_goCall_14 rfl iI cR (by decide) ?_
  refine r_iconst dX1_goCall_16 ?_
  refine r_istore (L' := [some (vR (some a125)), some (vI a1), some (vI a2), some (vR (some a131)), some (vI x133), some (vI 0), none]) dX1_goCall_17 rfl iI cI (by decide) ?_
  obtain ⟨fl134, h⟩ := h
  exact w_X1_goCall_19 fl134 h
theorem c_X1_goCall {a0 : Option Nat} {a1 : Int} {a2 : Int} {k n : Nat} {Q : Wd → Prop} {G : Wd} (h : f_X1_goCall k n a0 a1 a2 G Q) : call yX1_goCall (Cond.code yX1_goCall cX1_goCall 7 (none)) 6 k n [vR a0, vI a1, vI a2] G (qV Q) noX :=
  call.enter (by decide +kernel) (la_1 c1R (la_1 c1I (la_1 c1I (la_nil rfl)))) rfl (w_X1_goCall h)
abbrev m_X1_phases : Mt := (yX1_phases.cls, cX1_phases, 5, some .int, [], yX1_phases.name)
theorem yo_X1_phases : yOK yX1_phases 1 := ⟨by decide +kernel, by decide +kernel, by decide +kernel⟩
def f_X1_phases_37_b (a0 : Nat) (k37 : Option Nat → Int → Int → Wd → Prop) (l2 : Option Nat) (l3 : Int) (l4 : Int) (G : Wd) (Q : Int → Wd → Prop) : Prop :=
  nn l2 (fun a37 => gI G a37 [2] 12 (fun x38 => br l4 x38 (x38 ≤ l4) (pF G a0 [0] 9 (vI 0) (fun G39 => gI G39 a37 [2] 13 (fun x40 => gI G39 a37 [2] 5 (fun x41 => okm x40 x41 (ok32 (x40 % x41) ((isC G39 a0 0 ∧ f_X1_tell a0 (x40 % x41) G39 (fun G42 => gI G42 a37 [2] 13 (fun x43 => (isC G42 a37 2 ∧ f_X3_phaseOf a37 x43 G42 (fun x45 G44 => ok32 x45 ((isC G44 a0 0 ∧ f_X1_tell a0 x45 G44 (fun G46 => Q l3 G46)))))))))))))) ((isC G a37 2 ∧ f_X3_phaseOf a37 l4 G (fun x48 G47 => gI G47 a37 [2] 5 (fun x49 => okm l4 x49 (k37 (some a37) (ior l3 (ishl x48 (l4 % x49))) (l4 + 1) G47)))))))
theorem w_X1_phases_37_b {a0 : Nat} {Q : Int → Wd → Prop} {k37 : Option Nat → Int → Int → Wd → Prop} (hk37 : ∀ {l2 : Option Nat} {l3 : Int} {l4 : Int} {G : Wd}, k37 l2 l3 l4 G → wp m_X1_phases 3 0 0 37 [some (vR (some a0)), none, some (vR l2), some (vI l3), some (vI l4)] [] G (qI Q) noX) {l2 : Option Nat} {l3 : Int} {l4 : Int} {G : Wd} (h : f_X1_phases_37_b a0 k37 l2 l3 l4 G Q) : wp m_X1_phases 3 0 0 37 [some (vR (some a0)), none, some (vR l2), some (vI l3), some (vI l4)] [] G (qI Q) noX := by
  unfold f_X1_phases_37_b at h
  refine r_iload dX1_phases_37 rfl iI ?_
  refine r_aload_n dX1_phases_39 rfl rfl iR ?_
  obtain ⟨a37, e, h⟩ := h
  refine wp.cast (L' := [some (vR (some a0)), none, some (vR (some a37)), some (vI l3), some (vI l4)]) (st' := [vR (some a37), vI l4]) (by rw [e]) (by rw [e]) ?_
  refine r_getI dX1_phases_40 (fg1 (f := 12) fX3 (by decide) q586 rfl) h (fun x38 h => ?_)
  refine r_icmp_ge (tgt := 69) dX1_phases_43 (by decide) h (fun h => ?_) (fun h => ?_)
  · refine r_aload_n dX1_phases_69 rfl rfl iR ?_
    refine r_iconst dX1_phases_70 ?_
    refine r_put dX1_phases_71 (fp1 (f := 9) fX1 (by decide) q709 rfl rfl rfl) fvI h (fun G39 h => ?_)
    refine r_aload_n dX1_phases_74 rfl rfl iR ?_
    refine r_aload_n dX1_phases_75 rfl rfl iR ?_
    refine r_getI dX1_phases_76 (fg1 (f := 13) fX3 (by decide) q589 rfl) h (fun x40 h => ?_)
    refine r_aload_n dX1_phases_79 rfl rfl iR ?_
    refine r_getI dX1_phases_80 (fg1 (f := 5) fX3 (by decide) q566 rfl) h (fun x41 h => ?_)
    refine r_irem dX1_phases_83 h (fun h => ?_)
    refine r_i2l dX1_phases_84 h (fun h => ?_)
    obtain ⟨hC, h⟩ := h
    refine r_callV dX1_phases_85 hC (c_X1_tell h) q1761 q1763 qs27 q92 q1764 rfl yo_X1_tell rfl (by decide) (by decide) rfl rc0 (by decide) (Nat.zero_le _) (Nat.zero_le _) (ofV fun G42 h => ?_) nox
    refine r_aload_n dX1_phases_88 rfl rfl iR ?_
    refine r_aload_n dX1_phases_89 rfl rfl iR ?_
    refine r_aload_n dX1_phases_90 rfl rfl iR ?_
    refine r_getI dX1_phases_91 (fg1 (f := 13) fX3 (by decide) q589 rfl) h (fun x43 h => ?_)
    obtain ⟨hC, h⟩ := h
    refine r_callV dX1_phases_94 hC (c_X3_phaseOf h) q1953 q1605 q1606 q98 q1607 rfl yo_X3_phaseOf rfl (by decide) (by decide) rfl (rc1 c1R rc0) (by decide) (Nat.zero_le _) (Nat.zero_le _) (ofI fun x45 G44 h => ?_) nox
    refine r_i2l dX1_phases_97 h (fun h => ?_)
    obtain ⟨hC, h⟩ := h
    refine r_callV dX1_phases_98 hC (c_X1_tell h) q1761 q1763 qs27 q92 q1764 rfl yo_X1_tell rfl (by decide) (by decide) rfl rc0 (by decide) (Nat.zero_le _) (Nat.zero_le _) (ofV fun G46 h => ?_) nox
    refine r_iload_n dX1_phases_101 rfl rfl iI ?_
    exact r_iret rfl dX1_phases_102 ⟨_, rfl, h⟩
  · refine r_iload_n dX1_phases_46 rfl rfl iI ?_
    refine r_aload_n dX1_phases_47 rfl rfl iR ?_
    refine r_iload dX1_phases_48 rfl iI ?_
    obtain ⟨hC, h⟩ := h
    refine r_callV dX1_phases_50 hC (c_X3_phaseOf h) q1953 q1605 q1606 q98 q1607 rfl yo_X3_phaseOf rfl (by decide) (by decide) rfl (rc1 c1I rc0) (by decide) (Nat.zero_le _) (Nat.zero_le _) (ofI fun x48 G47 h => ?_) nox
    refine r_iload dX1_phases_53 rfl iI ?_
    refine r_aload_n dX1_phases_55 rfl rfl iR ?_
    refine r_getI dX1_phases_56 (fg1 (f := 5) fX3 (by decide) q566 rfl) h (fun x49 h => ?_)
    refine r_irem dX1_phases_59 h (fun h => ?_)
    refine r_ishl dX1_phases_60 ?_
    refine r_ior dX1_phases_61 ?_
    refine r_istore_n (L' := [some (vR (some a0)), none, some (vR (some a37)), some (vI (ior l3 (ishl x48 (l4 % x49)))), some (vI l4)]) dX1_phases_62 rfl rfl iI cR (by decide) ?_
    refine r_iinc (L' := [some (vR (some a0)), none, some (vR (some a37)), some (vI (ior l3 (ishl x48 (l4 % x49)))), some (vI (l4 + 1))]) dX1_phases_63 rfl rfl cI (by decide) ?_
    refine r_goto (tgt := 37) dX1_phases_66 (by decide) ?_
    exact hk37 h
def f_X1_phases_37 (a0 : Nat) (Q : Int → Wd → Prop) : Nat → Option Nat → Int → Int → Wd → Prop
  | 0, _, _, _, _ => False
  | fl + 1, l2, l3, l4, G => f_X1_phases_37_b a0  (fun l2 l3 l4 G => f_X1_phases_37 a0  Q fl l2 l3 l4 G) l2 l3 l4 G Q
theorem w_X1_phases_37 {a0 : Nat} {Q : Int → Wd → Prop} : ∀ (fl : Nat) {l2 : Option Nat} {l3 : Int} {l4 : Int} {G : Wd}, f_X1_phases_37 a0 Q fl l2 l3 l4 G → wp m_X1_phases 3 0 0 37 [some (vR (some a0)), none, some (vR l2), some (vI l3), some (vI l4)] [] G (qI Q) noX := by
  intro fl
  induction fl with
  | zero => intro l2 l3 l4 G h; exact (show False from h).elim
  | succ fl ih => intro l2 l3 l4 G h; exact w_X1_phases_37_b  (fun h => ih h) h
def f_X1_phases (a0 : Nat) (a1 : Int) (G : Wd) (Q : Int → Wd → Prop) : Prop :=
  (isC G a0 0 ∧ f_X1_isQueue a0 a1 G (fun x51 G50 => brB x51 (gR G50 a0 [0] 0 (fun x52 => nn x52 (fun a53 => gR G50 a53 [1] 0 (fun x54 => nn x54 (fun a55 => ldR G50 a55 7 a1 (fun x56 => nn x56 (fun a57 => gI G50 a57 [2] 12 (fun x58 => gI G50 a57 [2] 5 (fun x59 => ((R32 0 ∧ R32 (x58 - x59)) ∧ ∃ fl60, f_X1_phases_37 a0 Q fl60 (some a57) 0 (max 0 (x58 - x59)) G50)))))))))) (Q (-1) G50)))
theorem w_X1_phases {a0 : Nat} {Q : Int → Wd → Prop} {a1 : Int} {G : Wd} (h : f_X1_phases a0 a1 G Q) : wp m_X1_phases 3 0 0 0 [some (vR (some a0)), some (vI a1), none, none, none] [] G (qI Q) noX := by
  unfold f_X1_phases at h
  refine r_aload_n dX1_phases_0 rfl rfl iR ?_
  refine r_iload_n dX1_phases_1 rfl rfl iI ?_
  obtain ⟨hC, h⟩ := h
  refine r_callV dX1_phases_2 hC (c_X1_isQueue h) q1498 q1500 qs18 q92 q1501 rfl yo_X1_isQueue rfl (by decide) (by decide) rfl rc0 (by decide) (Nat.zero_le _) (Nat.zero_le _) (ofB fun x51 G50 h => ?_) nox
  refine r_ifZ_ne (tgt := 10) dX1_phases_5 (by decide) h (fun h => ?_) (fun h => ?_)
  · refine r_aload_n dX1_phases_10 rfl rfl iR ?_
    refine r_getR dX1_phases_11 (fg1 (f := 0) fX1 (by decide) q700 rfl) h (fun x52 h => ?_)
    obtain ⟨a53, e, h⟩ := h
    refine wp.cast (L' := [some (vR (some a0)), some (vI a1), none, none, none]) (st' := [vR (some a53)]) rfl (by rw [e]) ?_
    refine r_getR dX1_phases_14 (fg1 (f := 0) fX2 (by decide) q636 rfl) h (fun x54 h => ?_)
    refine r_iload_n dX1_phases_17 rfl rfl iI ?_
    obtain ⟨a55, e, h⟩ := h
    refine wp.cast (L' := [some (vR (some a0)), some (vI a1), none, none, none]) (st' := [vI a1, vR (some a55)]) rfl (by rw [e]) ?_
    refine r_aald dX1_phases_18 (by decide) (by decide) h (fun x56 h => ?_)
    refine r_astore_n (L' := [some (vR (some a0)), some (vI a1), some (vR x56), none, none]) dX1_phases_19 rfl rfl iR cI (by decide) ?_
    refine r_iconst dX1_phases_20 ?_
    refine r_istore_n (L' := [some (vR (some a0)), some (vI a1), some (vR x56), some (vI 0), none]) dX1_phases_21 rfl rfl iI cR (by decide) ?_
    refine r_iconst dX1_phases_22 ?_
    refine r_aload_n dX1_phases_23 rfl rfl iR ?_
    obtain ⟨a57, e, h⟩ := h
    refine wp.cast (L' := [some (vR (some a0)), some (vI a1), some (vR (some a57)), some (vI 0), none]) (st' := [vR (some a57), vI 0]) (by rw [e]) (by rw [e]) ?_
    refine r_getI dX1_phases_24 (fg1 (f := 12) fX3 (by decide) q586 rfl) h (fun x58 h => ?_)
    refine r_aload_n dX1_phases_27 rfl rfl iR ?_
    refine r_getI dX1_phases_28 (fg1 (f := 5) fX3 (by decide) q566 rfl) h (fun x59 h => ?_)
    refine r_isub dX1_phases_31 ?_
    refine r_mmax dX1_phases_32 q1037 rc0 (by decide) (by decide) h (fun h => ?_)
    refine r_istore (L' := [some (vR (some a0)), some (vI a1), some (vR (some a57)), some (vI 0), some (vI (max 0 (x58 - x59)))]) dX1_phases_35 rfl iI cI (by decide) ?_
    refine wp.locals (L' := [some (vR (some a0)), none, some (vR (some a57)), some (vI 0), some (vI (max 0 (x58 - x59)))]) (ls_s (ls_n (ls_s (ls_s (ls_s ls_0))))) ?_
    obtain ⟨fl60, h⟩ := h
    exact w_X1_phases_37 fl60 h
  · refine r_iconst dX1_phases_8 ?_
    exact r_iret rfl dX1_phases_9 ⟨_, rfl, h⟩
theorem c_X1_phases {a0 : Nat} {a1 : Int} {Q : Int → Wd → Prop} {G : Wd} (h : f_X1_phases a0 a1 G Q) : call yX1_phases (Cond.code yX1_phases cX1_phases 5 (some .int)) 3 0 0 [vR (some a0), vI a1] G (qI Q) noX :=
  call.enter (by decide +kernel) (la_1 c1R (la_1 c1I (la_nil rfl))) rfl (w_X1_phases h)
abbrev m_X1_room : Mt := (yX1_room.cls, cX1_room, 3, some .int, [], yX1_room.name)
theorem yo_X1_room : yOK yX1_room 1 := ⟨by decide +kernel, by decide +kernel, by decide +kernel⟩
def f_X1_room (a0 : Nat) (a1 : Int) (G : Wd) (Q : Int → Wd → Prop) : Prop :=
  (isC G a0 0 ∧ f_X1_isQueue a0 a1 G (fun x21 G20 => brB x21 (gR G20 a0 [0] 0 (fun x22 => nn x22 (fun a23 => gR G20 a23 [1] 0 (fun x24 => nn x24 (fun a25 => ldR G20 a25 7 a1 (fun x26 => pF G20 a0 [0] 9 (vI 0) (fun G27 => nn x26 (fun a28 => (isC G27 a28 2 ∧ f_X3_bySlots a28  G27 (fun x30 G29 => ok32 x30 ((isC G29 a0 0 ∧ f_X1_tell a0 x30 G29 (fun G31 => (isC G31 a28 2 ∧ f_X3_byIds a28  G31 (fun x33 G32 => ok32 x33 ((isC G32 a0 0 ∧ f_X1_tell a0 x33 G32 (fun G34 => (isC G34 a28 2 ∧ f_X3_bySlots a28  G34 (fun x36 G35 => (isC G35 a28 2 ∧ f_X3_byIds a28  G35 (fun x38 G37 => ((R32 x36 ∧ R32 x38) ∧ Q (min x36 x38) G37))))))))))))))))))))))) (Q (-1) G20)))
theorem w_X1_room {a0 : Nat} {Q : Int → Wd → Prop} {a1 : Int} {G : Wd} (h : f_X1_room a0 a1 G Q) : wp m_X1_room 4 0 0 0 [some (vR (some a0)), some (vI a1), none] [] G (qI Q) noX := by
  unfold f_X1_room at h
  refine r_aload_n dX1_room_0 rfl rfl iR ?_
  refine r_iload_n dX1_room_1 rfl rfl iI ?_
  obtain ⟨hC, h⟩ := h
  refine r_callV dX1_room_2 hC (c_X1_isQueue h) q1498 q1500 qs18 q92 q1501 rfl yo_X1_isQueue rfl (by decide) (by decide) rfl rc0 (by decide) (Nat.zero_le _) (Nat.zero_le _) (ofB fun x21 G20 h => ?_) nox
  refine r_ifZ_ne (tgt := 10) dX1_room_5 (by decide) h (fun h => ?_) (fun h => ?_)
  · refine r_aload_n dX1_room_10 rfl rfl iR ?_
    refine r_getR dX1_room_11 (fg1 (f := 0) fX1 (by decide) q700 rfl) h (fun x22 h => ?_)
    obtain ⟨a23, e, h⟩ := h
    refine wp.cast (L' := [some (vR (some a0)), some (vI a1), none]) (st' := [vR (some a23)]) rfl (by rw [e]) ?_
    refine r_getR dX1_room_14 (fg1 (f := 0) fX2 (by decide) q636 rfl) h (fun x24 h => ?_)
    refine r_iload_n dX1_room_17 rfl rfl iI ?_
    obtain ⟨a25, e, h⟩ := h
    refine wp.cast (L' := [some (vR (some a0)), some (vI a1), none]) (st' := [vI a1, vR (some a25)]) rfl (by rw [e]) ?_
    refine r_aald dX1_room_18 (by decide) (by decide) h (fun x26 h => ?_)
    refine r_astore_n (L' := [some (vR (some a0)), some (vI a1), some (vR x26)]) dX1_room_19 rfl rfl iR cI (by decide) ?_
    refine r_aload_n dX1_room_20 rfl rfl iR ?_
    refine r_iconst dX1_room_21 ?_
    refine r_put dX1_room_22 (fp1 (f := 9) fX1 (by decide) q709 rfl rfl rfl) fvI h (fun G27 h => ?_)
    refine r_aload_n dX1_room_25 rfl rfl iR ?_
    refine r_aload_n dX1_room_26 rfl rfl iR ?_
    obtain ⟨a28, e, h⟩ := h
    refine wp.cast (L' := [some (vR (some a0)), some (vI a1), some (vR (some a28))]) (st' := [vR (some a28), vR (some a0)]) (by rw [e]) (by rw [e]) ?_
    obtain ⟨hC, h⟩ := h
    refine r_callV dX1_room_27 hC (c_X3_bySlots h) q1053 q1054 q1055 q98 q1056 rfl yo_X3_bySlots rfl (by decide) (by decide) rfl (rc1 c1R rc0) (by decide) (Nat.zero_le _) (Nat.zero_le _) (ofI fun x30 G29 h => ?_) nox
    refine r_i2l dX1_room_30 h (fun h => ?_)
    obtain ⟨hC, h⟩ := h
    refine r_callV dX1_room_31 hC (c_X1_tell h) q1761 q1763 qs27 q92 q1764 rfl yo_X1_tell rfl (by decide) (by decide) rfl rc0 (by decide) (Nat.zero_le _) (Nat.zero_le _) (ofV fun G31 h => ?_) nox
    refine r_aload_n dX1_room_34 rfl rfl iR ?_
    refine r_aload_n dX1_room_35 rfl rfl iR ?_
    obtain ⟨hC, h⟩ := h
    refine r_callV dX1_room_36 hC (c_X3_byIds h) q1057 q1058 q1059 q98 q1060 rfl yo_X3_byIds rfl (by decide) (by decide) rfl (rc1 c1R rc0) (by decide) (Nat.zero_le _) (Nat.zero_le _) (ofI fun x33 G32 h => ?_) nox
    refine r_i2l dX1_room_39 h (fun h => ?_)
    obtain ⟨hC, h⟩ := h
    refine r_callV dX1_room_40 hC (c_X1_tell h) q1761 q1763 qs27 q92 q1764 rfl yo_X1_tell rfl (by decide) (by decide) rfl rc0 (by decide) (Nat.zero_le _) (Nat.zero_le _) (ofV fun G34 h => ?_) nox
    refine r_aload_n dX1_room_43 rfl rfl iR ?_
    obtain ⟨hC, h⟩ := h
    refine r_callV dX1_room_44 hC (c_X3_bySlots h) q1053 q1054 q1055 q98 q1056 rfl yo_X3_bySlots rfl (by decide) (by decide) rfl rc0 (by decide) (Nat.zero_le _) (Nat.zero_le _) (ofI fun x36 G35 h => ?_) nox
    refine r_aload_n dX1_room_47 rfl rfl iR ?_
    obtain ⟨hC, h⟩ := h
    refine r_callV dX1_room_48 hC (c_X3_byIds h) q1057 q1058 q1059 q98 q1060 rfl yo_X3_byIds rfl (by decide) (by decide) rfl (rc1 c1I rc0) (by decide) (Nat.zero_le _) (Nat.zero_le _) (ofI fun x38 G37 h => ?_) nox
    refine r_mmin dX1_room_51 q1036 rc0 (by decide) (by decide) h (fun h => ?_)
    exact r_iret rfl dX1_room_54 ⟨_, rfl, h⟩
  · refine r_iconst dX1_room_8 ?_
    exact r_iret rfl dX1_room_9 ⟨_, rfl, h⟩
theorem c_X1_room {a0 : Nat} {a1 : Int} {Q : Int → Wd → Prop} {G : Wd} (h : f_X1_room a0 a1 G Q) : call yX1_room (Cond.code yX1_room cX1_room 3 (some .int)) 4 0 0 [vR (some a0), vI a1] G (qI Q) noX :=
  call.enter (by decide +kernel) (la_1 c1R (la_1 c1I (la_nil rfl))) rfl (w_X1_room h)
abbrev m_X1_block : Mt := (yX1_block.cls, cX1_block, 7, some .int, [], yX1_block.name)
theorem yo_X1_block : yOK yX1_block 1 := ⟨by decide +kernel, by decide +kernel, by decide +kernel⟩
def f_X1_block_104 (a0 : Nat) (k21 : Nat → Nat → Int → Int → Bool → Int → Wd → Prop) (k51 : Nat → Nat → Int → Int → Bool → Int → Option Nat → Wd → Prop) (k n : Nat) (l1 : Int) (l3 : Bool) (l4 : Int) (l5 : Option Nat) (s0 : Int) (s1 : Bool) (G : Wd) (Q : Int → Wd → Prop) : Prop :=
  k51 k n l1 (s0 + (b2i s1)) l3 l4 l5 G
theorem w_X1_block_104 {a0 : Nat} {Q : Int → Wd → Prop} {k21 : Nat → Nat → Int → Int → Bool → Int → Wd → Prop} (hk21 : ∀ {k n : Nat} {l1 : Int} {l2 : Int} {l3 : Bool} {l4 : Int} {G : Wd}, k21 k n l1 l2 l3 l4 G → wp m_X1_block 6 k n 21 [some (vR (some a0)), some (vI l1), some (vI l2), some (vB l3), some (vI l4), none, none] [] G (qI Q) noX) {k51 : Nat → Nat → Int → Int → Bool → Int → Option Nat → Wd → Prop} (hk51 : ∀ {k n : Nat} {l1 : Int} {l2 : Int} {l3 : Bool} {l4 : Int} {l5 : Option Nat} {G : Wd}, k51 k n l1 l2 l3 l4 l5 G → wp m_X1_block 6 k n 51 [some (vR (some a0)), some (vI l1), some (vI l2), some (vB l3), some (vI l4), some (vR l5), none] [] G (qI Q) noX) {k n : Nat} {l1 : Int} {l3 : Bool} {l4 : Int} {l5 : Option Nat} {s0 : Int} {s1 : Bool} {G : Wd} (h : f_X1_block_104 a0 k21 k51 k n l1 l3 l4 l5 s0 s1 G Q) : wp m_X1_block 6 k n 104 [some (vR (some a0)), some (vI l1), none, some (vB l3), some (vI l4), some (vR l5), none] [vB s1, vI s0] G (qI Q) noX := by
  unfold f_X1_block_104 at h
  refine wp.cast (st' := [vI (b2i s1), vI s0]) rfl (congrArg (fun q => [q, vI s0]) (vBI s1)) ?_
  refine r_iadd dX1_block_104 ?_
  refine r_istore_n (L' := [some (vR (some a0)), some (vI l1), some (vI (s0 + (b2i s1))), some (vB l3), some (vI l4), some (vR l5), none]) dX1_block_105 rfl rfl iI cI (by decide) ?_
  refine r_goto (tgt := 51) dX1_block_106 (by decide) ?_
  exact hk51 h
def f_X1_block_103 (a0 : Nat) (k21 : Nat → Nat → Int → Int → Bool → Int → Wd → Prop) (k51 : Nat → Nat → Int → Int → Bool → Int → Option Nat → Wd → Prop) (k n : Nat) (l1 : Int) (l3 : Bool) (l4 : Int) (l5 : Option Nat) (s0 : Int) (G : Wd) (Q : Int → Wd → Prop) : Prop :=
  f_X1_block_104 a0 k21 k51 k n l1 l3 l4 l5 s0 false G Q
theorem w_X1_block_103 {a0 : Nat} {Q : Int → Wd → Prop} {k21 : Nat → Nat → Int → Int → Bool → Int → Wd → Prop} (hk21 : ∀ {k n : Nat} {l1 : Int} {l2 : Int} {l3 : Bool} {l4 : Int} {G : Wd}, k21 k n l1 l2 l3 l4 G → wp m_X1_block 6 k n 21 [some (vR (some a0)), some (vI l1), some (vI l2), some (vB l3), some (vI l4), none, none] [] G (qI Q) noX) {k51 : Nat → Nat → Int → Int → Bool → Int → Option Nat → Wd → Prop} (hk51 : ∀ {k n : Nat} {l1 : Int} {l2 : Int} {l3 : Bool} {l4 : Int} {l5 : Option Nat} {G : Wd}, k51 k n l1 l2 l3 l4 l5 G → wp m_X1_block 6 k n 51 [some (vR (some a0)), some (vI l1), some (vI l2), some (vB l3), some (vI l4), some (vR l5), none] [] G (qI Q) noX) {k n : Nat} {l1 : Int} {l3 : Bool} {l4 : Int} {l5 : Option Nat} {s0 : Int} {G : Wd} (h : f_X1_block_103 a0 k21 k51 k n l1 l3 l4 l5 s0 G Q) : wp m_X1_block 6 k n 103 [some (vR (some a0)), some (vI l1), none, some (vB l3), some (vI l4), some (vR l5), none] [vI s0] G (qI Q) noX := by
  unfold f_X1_block_103 at h
  refine r_iconst dX1_block_103 ?_
  refine wp.cast (st' := [vB false, vI s0]) rfl (congrArg (fun q => [q, vI s0]) vI0) ?_
  exact w_X1_block_104 hk21 hk51 h
def f_X1_block_51_b (a0 : Nat) (k21 : Nat → Nat → Int → Int → Bool → Int → Wd → Prop) (k51 : Nat → Nat → Int → Int → Bool → Int → Option Nat → Wd → Prop) (k n : Nat) (l1 : Int) (l2 : Int) (l3 : Bool) (l4 : Int) (l5 : Option Nat) (G : Wd) (Q : Int → Wd → Prop) : Prop :=
  nn l5 (fun a168 => (isC G a168 15 ∧ f_J23_hasNext a168  G (fun x170 G169 => brB x170 ((isC G169 a168 15 ∧ f_J23_next a168  G169 (fun x172 G171 => cst G171 x172 [7] (nn x172 (fun a173 => gI G171 a173 [7] 3 (fun x174 => br x174 l1 (¬ x174 = l1) (f_X1_block_103 a0 k21 k51 k n l1 l3 l4 (some a168) l2 G171 Q) ((isC G171 a173 7 ∧ f_X8_isWrite a173  G171 (fun x176 G175 => brB x176 (gZ G175 a173 [7] 5 (fun x177 => brB x177 (f_X1_block_103 a0 k21 k51 k n l1 l3 l4 (some a168) l2 G175 Q) (f_X1_block_104 a0 k21 k51 k n l1 l3 l4 (some a168) l2 true G175 Q))) (f_X1_block_103 a0 k21 k51 k n l1 l3 l4 (some a168) l2 G175 Q)))))))))) (k21 k n l1 l2 l3 (l4 + 1) G169))))
theorem w_X1_block_51_b {a0 : Nat} {Q : Int → Wd → Prop} {k21 : Nat → Nat → Int → Int → Bool → Int → Wd → Prop} (hk21 : ∀ {k n : Nat} {l1 : Int} {l2 : Int} {l3 : Bool} {l4 : Int} {G : Wd}, k21 k n l1 l2 l3 l4 G → wp m_X1_block 6 k n 21 [some (vR (some a0)), some (vI l1), some (vI l2), some (vB l3), some (vI l4), none, none] [] G (qI Q) noX) {k51 : Nat → Nat → Int → Int → Bool → Int → Option Nat → Wd → Prop} (hk51 : ∀ {k n : Nat} {l1 : Int} {l2 : Int} {l3 : Bool} {l4 : Int} {l5 : Option Nat} {G : Wd}, k51 k n l1 l2 l3 l4 l5 G → wp m_X1_block 6 k n 51 [some (vR (some a0)), some (vI l1), some (vI l2), some (vB l3), some (vI l4), some (vR l5), none] [] G (qI Q) noX) {k n : Nat} {l1 : Int} {l2 : Int} {l3 : Bool} {l4 : Int} {l5 : Option Nat} {G : Wd} (h : f_X1_block_51_b a0 k21 k51 k n l1 l2 l3 l4 l5 G Q) : wp m_X1_block 6 k n 51 [some (vR (some a0)), some (vI l1), some (vI l2), some (vB l3), some (vI l4), some (vR l5), none] [] G (qI Q) noX := by
  unfold f_X1_block_51_b at h
  refine r_aload dX1_block_51 rfl iR ?_
  obtain ⟨a168, e, h⟩ := h
  refine wp.cast (L' := [some (vR (some a0)), some (vI l1), some (vI l2), some (vB l3), some (vI l4), some (vR (some a168)), none]) (st' := [vR (some a168)]) (by rw [e]) (by rw [e]) ?_
  obtain ⟨hC, h⟩ := h
  refine r_callF dX1_block_53 hC (c_J23_hasNext h) q1803 q1129 q1131 q124 q1133 q1117 q1116 q1132 q1130 q1128 rfl ⟨by decide +kernel, by decide +kernel, by decide +kernel⟩ rfl (by decide) (by decide) rfl rc0 (by decide) (Nat.zero_le _) (Nat.zero_le _) (ofB fun x170 G169 h => ?_) nox
  refine r_ifZ_eq (tgt := 109) dX1_block_58 (by decide) h (fun h => ?_) (fun h => ?_)
  · refine r_iinc (L' := [some (vR (some a0)), some (vI l1), some (vI l2), some (vB l3), some (vI (l4 + 1)), some (vR (some a168)), none]) dX1_block_109 rfl rfl cB (by decide) ?_
    refine r_goto (tgt := 21) dX1_block_112 (by decide) ?_
    refine wp.locals (L' := [some (vR (some a0)), some (vI l1), some (vI l2), some (vB l3), some (vI (l4 + 1)), none, none]) (ls_s (ls_s (ls_s (ls_s (ls_s (ls_n (ls_n ls_0))))))) ?_
    exact hk21 h
  · refine r_aload dX1_block_61 rfl iR ?_
    obtain ⟨hC, h⟩ := h
    refine r_callF dX1_block_63 hC (c_J23_next h) q1805 q1256 q1258 q124 q1260 q1143 q1142 q1259 q1257 q1128 rfl ⟨by decide +kernel, by decide +kernel, by decide +kernel⟩ rfl (by decide) (by decide) rfl rc0 (by decide) (Nat.zero_le _) (Nat.zero_le _) (ofR fun x172 G171 h => ?_) nox
    refine r_ccast (ci := 7) dX1_block_68 q698 rfl h (fun h => ?_)
    refine r_astore (L' := [some (vR (some a0)), some (vI l1), some (vI l2), some (vB l3), some (vI l4), some (vR (some a168)), some (vR x172)]) dX1_block_71 rfl iR cR (by decide) ?_
    refine r_iload_n dX1_block_73 rfl rfl iI ?_
    refine r_aload dX1_block_74 rfl iR ?_
    obtain ⟨a173, e, h⟩ := h
    refine wp.cast (L' := [some (vR (some a0)), some (vI l1), some (vI l2), some (vB l3), some (vI l4), some (vR (some a168)), some (vR (some a173))]) (st' := [vR (some a173), vI l2]) (by rw [e]) (by rw [e]) ?_
    refine r_getI dX1_block_76 (fg1 (f := 3) fX8 (by decide) q1473 rfl) h (fun x174 h => ?_)
    refine r_iload_n dX1_block_79 rfl rfl iI ?_
    refine r_icmp_ne (tgt := 103) dX1_block_80 (by decide) h (fun h => ?_) (fun h => ?_)
    · refine wp.locals (L' := [some (vR (some a0)), some (vI l1), none, some (vB l3), some (vI l4), some (vR (some a168)), none]) (ls_s (ls_s (ls_n (ls_s (ls_s (ls_s (ls_n ls_0))))))) ?_
      exact w_X1_block_103 hk21 hk51 h
    · refine r_aload dX1_block_83 rfl iR ?_
      obtain ⟨hC, h⟩ := h
      refine r_callV dX1_block_85 hC (c_X8_isWrite h) q1962 q1963 q1964 q129 q1965 rfl yo_X8_isWrite rfl (by decide) (by decide) rfl (rc1 c1I rc0) (by decide) (Nat.zero_le _) (Nat.zero_le _) (ofB fun x176 G175 h => ?_) nox
      refine r_ifZ_eq (tgt := 103) dX1_block_88 (by decide) h (fun h => ?_) (fun h => ?_)
      · refine wp.locals (L' := [some (vR (some a0)), some (vI l1), none, some (vB l3), some (vI l4), some (vR (some a168)), none]) (ls_s (ls_s (ls_n (ls_s (ls_s (ls_s (ls_n ls_0))))))) ?_
        exact w_X1_block_103 hk21 hk51 h
      · refine r_aload dX1_block_91 rfl iR ?_
        refine r_getZ dX1_block_93 (fg1 (f := 5) fX8 (by decide) q1479 rfl) h (fun x177 h => ?_)
        refine r_ifZ_ne (tgt := 103) dX1_block_96 (by decide) h (fun h => ?_) (fun h => ?_)
        · refine wp.locals (L' := [some (vR (some a0)), some (vI l1), none, some (vB l3), some (vI l4), some (vR (some a168)), none]) (ls_s (ls_s (ls_n (ls_s (ls_s (ls_s (ls_n ls_0))))))) ?_
          exact w_X1_block_103 hk21 hk51 h
        · refine r_iconst dX1_block_99 ?_
          refine r_goto (tgt := 104) dX1_block_100 (by decide) ?_
          refine wp.cast (st' := [vB true, vI l2]) rfl (congrArg (fun q => [q, vI l2]) vI1) ?_
          refine wp.locals (L' := [some (vR (some a0)), some (vI l1), none, some (vB l3), some (vI l4), some (vR (some a168)), none]) (ls_s (ls_s (ls_n (ls_s (ls_s (ls_s (ls_n ls_0))))))) ?_
          exact w_X1_block_104 hk21 hk51 h
def f_X1_block_51 (a0 : Nat) (k21 : Nat → Nat → Int → Int → Bool → Int → Wd → Prop) (Q : Int → Wd → Prop) : Nat → Nat → Nat → Int → Int → Bool → Int → Option Nat → Wd → Prop
  | 0, _, _, _, _, _, _, _, _ => False
  | fl + 1, k, n, l1, l2, l3, l4, l5, G => f_X1_block_51_b a0 k21 (fun k n l1 l2 l3 l4 l5 G => f_X1_block_51 a0 k21 Q fl k n l1 l2 l3 l4 l5 G) k n l1 l2 l3 l4 l5 G Q
theorem w_X1_block_51 {a0 : Nat} {Q : Int → Wd → Prop} {k21 : Nat → Nat → Int → Int → Bool → Int → Wd → Prop} (hk21 : ∀ {k n : Nat} {l1 : Int} {l2 : Int} {l3 : Bool} {l4 : Int} {G : Wd}, k21 k n l1 l2 l3 l4 G → wp m_X1_block 6 k n 21 [some (vR (some a0)), some (vI l1), some (vI l2), some (vB l3), some (vI l4), none, none] [] G (qI Q) noX) : ∀ (fl : Nat) {k n : Nat} {l1 : Int} {l2 : Int} {l3 : Bool} {l4 : Int} {l5 : Option Nat} {G : Wd}, f_X1_block_51 a0 k21 Q fl k n l1 l2 l3 l4 l5 G → wp m_X1_block 6 k n 51 [some (vR (some a0)), some (vI l1), some (vI l2), some (vB l3), some (vI l4), some (vR l5), none] [] G (qI Q) noX := by
  intro fl
  induction fl with
  | zero => intro k n l1 l2 l3 l4 l5 G h; exact (show False from h).elim
  | succ fl ih => intro k n l1 l2 l3 l4 l5 G h; exact w_X1_block_51_b hk21 (fun h => ih h) h
def f_X1_block_195 (a0 : Nat) (k127 : Nat → Nat → Int → Int → Int → Option Nat → Wd → Prop) (k n : Nat) (l1 : Int) (l2 : Int) (l4 : Option Nat) (s0 : Int) (s1 : Bool) (G : Wd) (Q : Int → Wd → Prop) : Prop :=
  k127 k n l1 l2 (s0 + (b2i s1)) l4 G
theorem w_X1_block_195 {a0 : Nat} {Q : Int → Wd → Prop} {k127 : Nat → Nat → Int → Int → Int → Option Nat → Wd → Prop} (hk127 : ∀ {k n : Nat} {l1 : Int} {l2 : Int} {l3 : Int} {l4 : Option Nat} {G : Wd}, k127 k n l1 l2 l3 l4 G → wp m_X1_block 6 k n 127 [some (vR (some a0)), some (vI l1), some (vI l2), some (vI l3), some (vR l4), none, none] [] G (qI Q) noX) {k n : Nat} {l1 : Int} {l2 : Int} {l4 : Option Nat} {s0 : Int} {s1 : Bool} {G : Wd} (h : f_X1_block_195 a0 k127 k n l1 l2 l4 s0 s1 G Q) : wp m_X1_block 6 k n 195 [some (vR (some a0)), some (vI l1), some (vI l2), none, some (vR l4), none, none] [vB s1, vI s0] G (qI Q) noX := by
  unfold f_X1_block_195 at h
  refine wp.cast (st' := [vI (b2i s1), vI s0]) rfl (congrArg (fun q => [q, vI s0]) (vBI s1)) ?_
  refine r_iadd dX1_block_195 ?_
  refine r_istore_n (L' := [some (vR (some a0)), some (vI l1), some (vI l2), some (vI (s0 + (b2i s1))), some (vR l4), none, none]) dX1_block_196 rfl rfl iI cI (by decide) ?_
  refine r_goto (tgt := 127) dX1_block_197 (by decide) ?_
  exact hk127 h
def f_X1_block_194 (a0 : Nat) (k127 : Nat → Nat → Int → Int → Int → Option Nat → Wd → Prop) (k n : Nat) (l1 : Int) (l2 : Int) (l4 : Option Nat) (s0 : Int) (G : Wd) (Q : Int → Wd → Prop) : Prop :=
  f_X1_block_195 a0 k127 k n l1 l2 l4 s0 false G Q
theorem w_X1_block_194 {a0 : Nat} {Q : Int → Wd → Prop} {k127 : Nat → Nat → Int → Int → Int → Option Nat → Wd → Prop} (hk127 : ∀ {k n : Nat} {l1 : Int} {l2 : Int} {l3 : Int} {l4 : Option Nat} {G : Wd}, k127 k n l1 l2 l3 l4 G → wp m_X1_block 6 k n 127 [some (vR (some a0)), some (vI l1), some (vI l2), some (vI l3), some (vR l4), none, none] [] G (qI Q) noX) {k n : Nat} {l1 : Int} {l2 : Int} {l4 : Option Nat} {s0 : Int} {G : Wd} (h : f_X1_block_194 a0 k127 k n l1 l2 l4 s0 G Q) : wp m_X1_block 6 k n 194 [some (vR (some a0)), some (vI l1), some (vI l2), none, some (vR l4), none, none] [vI s0] G (qI Q) noX := by
  unfold f_X1_block_194 at h
  refine r_iconst dX1_block_194 ?_
  refine wp.cast (st' := [vB false, vI s0]) rfl (congrArg (fun q => [q, vI s0]) vI0) ?_
  exact w_X1_block_195 hk127 h
def f_X1_block_170 (a0 : Nat) (k127 : Nat → Nat → Int → Int → Int → Option Nat → Wd → Prop) (k n : Nat) (l1 : Int) (l2 : Int) (l3 : Int) (l4 : Option Nat) (s0 : Option Nat) (G : Wd) (Q : Int → Wd → Prop) : Prop :=
  nn s0 (fun a178 => gI G a178 [7] 3 (fun x179 => br x179 l1 (¬ x179 = l1) (f_X1_block_194 a0 k127 k n l1 l2 l4 l3 G Q) ((isC G a178 7 ∧ f_X8_isWrite a178  G (fun x181 G180 => brB x181 (f_X1_block_195 a0 k127 k n l1 l2 l4 l3 true G180 Q) (f_X1_block_194 a0 k127 k n l1 l2 l4 l3 G180 Q))))))
theorem w_X1_block_170 {a0 : Nat} {Q : Int → Wd → Prop} {k127 : Nat → Nat → Int → Int → Int → Option Nat → Wd → Prop} (hk127 : ∀ {k n : Nat} {l1 : Int} {l2 : Int} {l3 : Int} {l4 : Option Nat} {G : Wd}, k127 k n l1 l2 l3 l4 G → wp m_X1_block 6 k n 127 [some (vR (some a0)), some (vI l1), some (vI l2), some (vI l3), some (vR l4), none, none] [] G (qI Q) noX) {k n : Nat} {l1 : Int} {l2 : Int} {l3 : Int} {l4 : Option Nat} {s0 : Option Nat} {G : Wd} (h : f_X1_block_170 a0 k127 k n l1 l2 l3 l4 s0 G Q) : wp m_X1_block 6 k n 170 [some (vR (some a0)), some (vI l1), some (vI l2), some (vI l3), some (vR l4), none, none] [vR s0] G (qI Q) noX := by
  unfold f_X1_block_170 at h
  refine r_astore (L' := [some (vR (some a0)), some (vI l1), some (vI l2), some (vI l3), some (vR l4), none, some (vR s0)]) dX1_block_170 rfl iR cN (by decide) ?_
  refine r_iload_n dX1_block_172 rfl rfl iI ?_
  refine r_aload dX1_block_173 rfl iR ?_
  obtain ⟨a178, e, h⟩ := h
  refine wp.cast (L' := [some (vR (some a0)), some (vI l1), some (vI l2), some (vI l3), some (vR l4), none, some (vR (some a178))]) (st' := [vR (some a178), vI l3]) (by rw [e]) (by rw [e]) ?_
  refine r_getI dX1_block_175 (fg1 (f := 3) fX8 (by decide) q1473 rfl) h (fun x179 h => ?_)
  refine r_iload_n dX1_block_178 rfl rfl iI ?_
  refine r_icmp_ne (tgt := 194) dX1_block_179 (by decide) h (fun h => ?_) (fun h => ?_)
  · refine wp.locals (L' := [some (vR (some a0)), some (vI l1), some (vI l2), none, some (vR l4), none, none]) (ls_s (ls_s (ls_s (ls_n (ls_s (ls_n (ls_n ls_0))))))) ?_
    exact w_X1_block_194 hk127 h
  · refine r_aload dX1_block_182 rfl iR ?_
    obtain ⟨hC, h⟩ := h
    refine r_callV dX1_block_184 hC (c_X8_isWrite h) q1962 q1963 q1964 q129 q1965 rfl yo_X8_isWrite rfl (by decide) (by decide) rfl (rc1 c1I rc0) (by decide) (Nat.zero_le _) (Nat.zero_le _) (ofB fun x181 G180 h => ?_) nox
    refine r_ifZ_eq (tgt := 194) dX1_block_187 (by decide) h (fun h => ?_) (fun h => ?_)
    · refine wp.locals (L' := [some (vR (some a0)), some (vI l1), some (vI l2), none, some (vR l4), none, none]) (ls_s (ls_s (ls_s (ls_n (ls_s (ls_n (ls_n ls_0))))))) ?_
      exact w_X1_block_194 hk127 h
    · refine r_iconst dX1_block_190 ?_
      refine r_goto (tgt := 195) dX1_block_191 (by decide) ?_
      refine wp.cast (st' := [vB true, vI l3]) rfl (congrArg (fun q => [q, vI l3]) vI1) ?_
      refine wp.locals (L' := [some (vR (some a0)), some (vI l1), some (vI l2), none, some (vR l4), none, none]) (ls_s (ls_s (ls_s (ls_n (ls_s (ls_n (ls_n ls_0))))))) ?_
      exact w_X1_block_195 hk127 h
def f_X1_block_127_b (a0 : Nat) (k127 : Nat → Nat → Int → Int → Int → Option Nat → Wd → Prop) (k n : Nat) (l1 : Int) (l2 : Int) (l3 : Int) (l4 : Option Nat) (G : Wd) (Q : Int → Wd → Prop) : Prop :=
  nn l4 (fun a182 => (isC G a182 16 ∧ f_J25_hasNext a182  G (fun x184 G183 => brB x184 ((isC G183 a182 16 ∧ f_J25_next a182  G183 (fun x194 G193 => cst G193 x194 [8] (nn x194 (fun a195 => gR G193 a195 [8] 1 (fun x196 => brN x196 (gR G193 a195 [8] 0 (fun x199 => f_X1_block_170 a0 k127 k n l1 l2 l3 (some a182) x199 G193 Q)) (fun a197 => gR G193 a195 [8] 1 (fun x198 => f_X1_block_170 a0 k127 k n l1 l2 l3 (some a182) x198 G193 Q)))))))) (pF G183 a0 [0] 9 (vI 0) (fun G185 => ok32 l2 ((isC G185 a0 0 ∧ f_X1_tell a0 l2 G185 (fun G186 => ok32 l3 ((isC G186 a0 0 ∧ f_X1_tell a0 l3 G186 (fun G187 => gR G187 a0 [0] 0 (fun x188 => nn x188 (fun a189 => gR G187 a189 [1] 3 (fun x190 => nn x190 (fun a191 => ldI G187 a191 0 l1 (fun x192 => Q x192 G187))))))))))))))))
theorem w_X1_block_127_b {a0 : Nat} {Q : Int → Wd → Prop} {k127 : Nat → Nat → Int → Int → Int → Option Nat → Wd → Prop} (hk127 : ∀ {k n : Nat} {l1 : Int} {l2 : Int} {l3 : Int} {l4 : Option Nat} {G : Wd}, k127 k n l1 l2 l3 l4 G → wp m_X1_block 6 k n 127 [some (vR (some a0)), some (vI l1), some (vI l2), some (vI l3), some (vR l4), none, none] [] G (qI Q) noX) {k n : Nat} {l1 : Int} {l2 : Int} {l3 : Int} {l4 : Option Nat} {G : Wd} (h : f_X1_block_127_b a0 k127 k n l1 l2 l3 l4 G Q) : wp m_X1_block 6 k n 127 [some (vR (some a0)), some (vI l1), some (vI l2), some (vI l3), some (vR l4), none, none] [] G (qI Q) noX := by
  unfold f_X1_block_127_b at h
  refine r_aload dX1_block_127 rfl iR ?_
  obtain ⟨a182, e, h⟩ := h
  refine wp.cast (L' := [some (vR (some a0)), some (vI l1), some (vI l2), some (vI l3), some (vR (some a182)), none, none]) (st' := [vR (some a182)]) (by rw [e]) (by rw [e]) ?_
  obtain ⟨hC, h⟩ := h
  refine r_callF dX1_block_129 hC (c_J25_hasNext h) q1803 q1135 q1137 q127 q1139 q1117 q1116 q1138 q1136 q1134 rfl ⟨by decide +kernel, by decide +kernel, by decide +kernel⟩ rfl (by decide) (by decide) rfl rc0 (by decide) (Nat.zero_le _) (Nat.zero_le _) (ofB fun x184 G183 h => ?_) nox
  refine r_ifZ_eq (tgt := 200) dX1_block_134 (by decide) h (fun h => ?_) (fun h => ?_)
  · refine r_aload_n dX1_block_200 rfl rfl iR ?_
    refine r_iconst dX1_block_201 ?_
    refine r_put dX1_block_202 (fp1 (f := 9) fX1 (by decide) q709 rfl rfl rfl) fvI h (fun G185 h => ?_)
    refine r_aload_n dX1_block_205 rfl rfl iR ?_
    refine r_iload_n dX1_block_206 rfl rfl iI ?_
    refine r_i2l dX1_block_207 h (fun h => ?_)
    obtain ⟨hC, h⟩ := h
    refine r_callV dX1_block_208 hC (c_X1_tell h) q1761 q1763 qs27 q92 q1764 rfl yo_X1_tell rfl (by decide) (by decide) rfl rc0 (by decide) (Nat.zero_le _) (Nat.zero_le _) (ofV fun G186 h => ?_) nox
    refine r_aload_n dX1_block_211 rfl rfl iR ?_
    refine r_iload_n dX1_block_212 rfl rfl iI ?_
    refine r_i2l dX1_block_213 h (fun h => ?_)
    obtain ⟨hC, h⟩ := h
    refine r_callV dX1_block_214 hC (c_X1_tell h) q1761 q1763 qs27 q92 q1764 rfl yo_X1_tell rfl (by decide) (by decide) rfl rc0 (by decide) (Nat.zero_le _) (Nat.zero_le _) (ofV fun G187 h => ?_) nox
    refine r_aload_n dX1_block_217 rfl rfl iR ?_
    refine r_getR dX1_block_218 (fg1 (f := 0) fX1 (by decide) q700 rfl) h (fun x188 h => ?_)
    obtain ⟨a189, e, h⟩ := h
    refine wp.cast (L' := [some (vR (some a0)), some (vI l1), some (vI l2), some (vI l3), some (vR (some a182)), none, none]) (st' := [vR (some a189)]) rfl (by rw [e]) ?_
    refine r_getR dX1_block_221 (fg1 (f := 3) fX2 (by decide) q643 rfl) h (fun x190 h => ?_)
    refine r_iload_n dX1_block_224 rfl rfl iI ?_
    obtain ⟨a191, e, h⟩ := h
    refine wp.cast (L' := [some (vR (some a0)), some (vI l1), some (vI l2), some (vI l3), some (vR (some a182)), none, none]) (st' := [vI l1, vR (some a191)]) rfl (by rw [e]) ?_
    refine r_iald dX1_block_225 h (fun x192 h => ?_)
    exact r_iret rfl dX1_block_226 ⟨_, rfl, h⟩
  · refine r_aload dX1_block_137 rfl iR ?_
    obtain ⟨hC, h⟩ := h
    refine r_callF dX1_block_139 hC (c_J25_next h) q1805 q1272 q1274 q127 q1276 q1143 q1142 q1275 q1273 q1134 rfl ⟨by decide +kernel, by decide +kernel, by decide +kernel⟩ rfl (by decide) (by decide) rfl rc0 (by decide) (Nat.zero_le _) (Nat.zero_le _) (ofR fun x194 G193 h => ?_) nox
    refine r_ccast (ci := 8) dX1_block_144 q1807 rfl h (fun h => ?_)
    refine r_astore (L' := [some (vR (some a0)), some (vI l1), some (vI l2), some (vI l3), some (vR (some a182)), some (vR x194), none]) dX1_block_147 rfl iR cR (by decide) ?_
    refine r_aload dX1_block_149 rfl iR ?_
    obtain ⟨a195, e, h⟩ := h
    refine wp.cast (L' := [some (vR (some a0)), some (vI l1), some (vI l2), some (vI l3), some (vR (some a182)), some (vR (some a195)), none]) (st' := [vR (some a195)]) (by rw [e]) (by rw [e]) ?_
    refine r_getR dX1_block_151 (fg1 (f := 1) fX9 (by decide) q1548 rfl) h (fun x196 h => ?_)
    refine r_ifnonnullV (tgt := 165) dX1_block_154 (by decide) h (fun a197 e h => ?_) (fun e h => ?_)
    · refine r_aload dX1_block_165 rfl iR ?_
      refine r_getR dX1_block_167 (fg1 (f := 1) fX9 (by decide) q1548 rfl) h (fun x198 h => ?_)
      refine wp.locals (L' := [some (vR (some a0)), some (vI l1), some (vI l2), some (vI l3), some (vR (some a182)), none, none]) (ls_s (ls_s (ls_s (ls_s (ls_s (ls_n (ls_n ls_0))))))) ?_
      exact w_X1_block_170 hk127 h
    · refine r_aload dX1_block_157 rfl iR ?_
      refine r_getR dX1_block_159 (fg1 (f := 0) fX9 (by decide) q1545 rfl) h (fun x199 h => ?_)
      refine r_goto (tgt := 170) dX1_block_162 (by decide) ?_
      refine wp.locals (L' := [some (vR (some a0)), some (vI l1), some (vI l2), some (vI l3), some (vR (some a182)), none, none]) (ls_s (ls_s (ls_s (ls_s (ls_s (ls_n (ls_n ls_0))))))) ?_
      exact w_X1_block_170 hk127 h
def f_X1_block_127 (a0 : Nat) (Q : Int → Wd → Prop) : Nat → Nat → Nat → Int → Int → Int → Option Nat → Wd → Prop
  | 0, _, _, _, _, _, _, _ => False
  | fl + 1, k, n, l1, l2, l3, l4, G => f_X1_block_127_b a0  (fun k n l1 l2 l3 l4 G => f_X1_block_127 a0  Q fl k n l1 l2 l3 l4 G) k n l1 l2 l3 l4 G Q
theorem w_X1_block_127 {a0 : Nat} {Q : Int → Wd → Prop} : ∀ (fl : Nat) {k n : Nat} {l1 : Int} {l2 : Int} {l3 : Int} {l4 : Option Nat} {G : Wd}, f_X1_block_127 a0 Q fl k n l1 l2 l3 l4 G → wp m_X1_block 6 k n 127 [some (vR (some a0)), some (vI l1), some (vI l2), some (vI l3), some (vR l4), none, none] [] G (qI Q) noX := by
  intro fl
  induction fl with
  | zero => intro k n l1 l2 l3 l4 G h; exact (show False from h).elim
  | succ fl ih => intro k n l1 l2 l3 l4 G h; exact w_X1_block_127_b  (fun h => ih h) h
def f_X1_block_21_b (a0 : Nat) (k21 : Nat → Nat → Int → Int → Bool → Int → Wd → Prop) (k n : Nat) (l1 : Int) (l2 : Int) (l3 : Bool) (l4 : Int) (G : Wd) (Q : Int → Wd → Prop) : Prop :=
  gR G a0 [0] 0 (fun x200 => nn x200 (fun a201 => gI G a201 [1] 8 (fun x202 => br l4 x202 (x202 ≤ l4) (gR G a0 [0] 0 (fun x203 => nn x203 (fun a204 => gR G a204 [1] 1 (fun x205 => nn x205 (fun a206 => (∃ k208 n209, (k208 ≤ k ∧ n209 ≤ n) ∧ (isC G a206 12 ∧ f_J2_iterator k208 n209 a206  G (fun x210 G207 => ∃ fl211, f_X1_block_127 a0 Q fl211 (k - k208) (n - n209) l1 l2 (b2i l3) x210 G207)))))))) (gR G a0 [0] 0 (fun x212 => nn x212 (fun a213 => gR G a213 [1] 0 (fun x214 => nn x214 (fun a215 => ldR G a215 7 l4 (fun x216 => nn x216 (fun a217 => gR G a217 [2] 1 (fun x218 => nn x218 (fun a219 => (∃ k221 n222, (k221 ≤ k ∧ n222 ≤ n) ∧ (isC G a219 13 ∧ f_J4_iterator k221 n222 a219  G (fun x223 G220 => ∃ fl224, f_X1_block_51 a0 k21 Q fl224 (k - k221) (n - n222) l1 l2 l3 l4 x223 G220)))))))))))))))
theorem w_X1_block_21_b {a0 : Nat} {Q : Int → Wd → Prop} {k21 : Nat → Nat → Int → Int → Bool → Int → Wd → Prop} (hk21 : ∀ {k n : Nat} {l1 : Int} {l2 : Int} {l3 : Bool} {l4 : Int} {G : Wd}, k21 k n l1 l2 l3 l4 G → wp m_X1_block 6 k n 21 [some (vR (some a0)), some (vI l1), some (vI l2), some (vB l3), some (vI l4), none, none] [] G (qI Q) noX) {k n : Nat} {l1 : Int} {l2 : Int} {l3 : Bool} {l4 : Int} {G : Wd} (h : f_X1_block_21_b a0 k21 k n l1 l2 l3 l4 G Q) : wp m_X1_block 6 k n 21 [some (vR (some a0)), some (vI l1), some (vI l2), some (vB l3), some (vI l4), none, none] [] G (qI Q) noX := by
  unfold f_X1_block_21_b at h
  refine r_iload dX1_block_21 rfl iI ?_
  refine r_aload_n dX1_block_23 rfl rfl iR ?_
  refine r_getR dX1_block_24 (fg1 (f := 0) fX1 (by decide) q700 rfl) h (fun x200 h => ?_)
  obtain ⟨a201, e, h⟩ := h
  refine wp.cast (L' := [some (vR (some a0)), some (vI l1), some (vI l2), some (vB l3), some (vI l4), none, none]) (st' := [vR (some a201), vI l4]) rfl (by rw [e]) ?_
  refine r_getI dX1_block_27 (fg1 (f := 8) fX2 (by decide) q652 rfl) h (fun x202 h => ?_)
  refine r_icmp_ge (tgt := 115) dX1_block_30 (by decide) h (fun h => ?_) (fun h => ?_)
  · refine r_aload_n dX1_block_115 rfl rfl iR ?_
    refine r_getR dX1_block_116 (fg1 (f := 0) fX1 (by decide) q700 rfl) h (fun x203 h => ?_)
    obtain ⟨a204, e, h⟩ := h
    refine wp.cast (L' := [some (vR (some a0)), some (vI l1), some (vI l2), some (vB l3), some (vI l4), none, none]) (st' := [vR (some a204)]) rfl (by rw [e]) ?_
    refine r_getR dX1_block_119 (fg1 (f := 1) fX2 (by decide) q639 rfl) h (fun x205 h => ?_)
    obtain ⟨a206, e, h⟩ := h
    refine wp.cast (L' := [some (vR (some a0)), some (vI l1), some (vI l2), some (vB l3), some (vI l4), none, none]) (st' := [vR (some a206)]) rfl (by rw [e]) ?_
    obtain ⟨k208, n209, ⟨hk1, hn1⟩, h⟩ := h
    obtain ⟨hC, h⟩ := h
    refine r_callU dX1_block_122 hC (c_J2_iterator h) q1806 q1341 q1343 q1344 q96 q1345 rfl rfl yo_J2_iterator rfl (by decide) (by decide) rfl rc0 (by decide) hk1 hn1 (ofR fun x210 G207 h => ?_) nox
    refine r_astore (L' := [some (vR (some a0)), some (vI l1), some (vI l2), some (vB l3), some (vR x210), none, none]) dX1_block_125 rfl iR cB (by decide) ?_
    refine wp.cast (L' := [some (vR (some a0)), some (vI l1), some (vI l2), some (vI (b2i l3)), some (vR x210), none, none]) (congrArg (fun q => [some (vR (some a0)), some (vI l1), some (vI l2), some q, some (vR x210), none, none]) (vBI l3)) rfl ?_
    obtain ⟨fl211, h⟩ := h
    exact w_X1_block_127 fl211 h
  · refine r_aload_n dX1_block_33 rfl rfl iR ?_
    refine r_getR dX1_block_34 (fg1 (f := 0) fX1 (by decide) q700 rfl) h (fun x212 h => ?_)
    obtain ⟨a213, e, h⟩ := h
    refine wp.cast (L' := [some (vR (some a0)), some (vI l1), some (vI l2), some (vB l3), some (vI l4), none, none]) (st' := [vR (some a213)]) rfl (by rw [e]) ?_
    refine r_getR dX1_block_37 (fg1 (f := 0) fX2 (by decide) q636 rfl) h (fun x214 h => ?_)
    refine r_iload dX1_block_40 rfl iI ?_
    obtain ⟨a215, e, h⟩ := h
    refine wp.cast (L' := [some (vR (some a0)), some (vI l1), some (vI l2), some (vB l3), some (vI l4), none, none]) (st' := [vI l4, vR (some a215)]) rfl (by rw [e]) ?_
    refine r_aald dX1_block_42 (by decide) (by decide) h (fun x216 h => ?_)
    obtain ⟨a217, e, h⟩ := h
    refine wp.cast (L' := [some (vR (some a0)), some (vI l1), some (vI l2), some (vB l3), some (vI l4), none, none]) (st' := [vR (some a217)]) rfl (by rw [e]) ?_
    refine r_getR dX1_block_43 (fg1 (f := 1) fX3 (by decide) q558 rfl) h (fun x218 h => ?_)
    obtain ⟨a219, e, h⟩ := h
    refine wp.cast (L' := [some (vR (some a0)), some (vI l1), some (vI l2), some (vB l3), some (vI l4), none, none]) (st' := [vR (some a219)]) rfl (by rw [e]) ?_
    obtain ⟨k221, n222, ⟨hk1, hn1⟩, h⟩ := h
    obtain ⟨hC, h⟩ := h
    refine r_callV dX1_block_46 hC (c_J4_iterator h) q1801 q1085 q1086 q99 q1087 rfl yo_J4_iterator rfl (by decide) (by decide) rfl rc0 (by decide) hk1 hn1 (ofR fun x223 G220 h => ?_) nox
    refine r_astore (L' := [some (vR (some a0)), some (vI l1), some (vI l2), some (vB l3), some (vI l4), some (vR x223), none]) dX1_block_49 rfl iR cI (by decide) ?_
    obtain ⟨fl224, h⟩ := h
    exact w_X1_block_51 hk21 fl224 h
def f_X1_block_21 (a0 : Nat) (Q : Int → Wd → Prop) : Nat → Nat → Nat → Int → Int → Bool → Int → Wd → Prop
  | 0, _, _, _, _, _, _, _ => False
  | fl + 1, k, n, l1, l2, l3, l4, G => f_X1_block_21_b a0  (fun k n l1 l2 l3 l4 G => f_X1_block_21 a0  Q fl k n l1 l2 l3 l4 G) k n l1 l2 l3 l4 G Q
theorem w_X1_block_21 {a0 : Nat} {Q : Int → Wd → Prop} : ∀ (fl : Nat) {k n : Nat} {l1 : Int} {l2 : Int} {l3 : Bool} {l4 : Int} {G : Wd}, f_X1_block_21 a0 Q fl k n l1 l2 l3 l4 G → wp m_X1_block 6 k n 21 [some (vR (some a0)), some (vI l1), some (vI l2), some (vB l3), some (vI l4), none, none] [] G (qI Q) noX := by
  intro fl
  induction fl with
  | zero => intro k n l1 l2 l3 l4 G h; exact (show False from h).elim
  | succ fl ih => intro k n l1 l2 l3 l4 G h; exact w_X1_block_21_b  (fun h => ih h) h
def f_X1_block (k n : Nat) (a0 : Nat) (a1 : Int) (G : Wd) (Q : Int → Wd → Prop) : Prop :=
  ok32 a1 (f_X1_in a1 0 9 G (fun x226 G225 => brB x226 (∃ fl227, f_X1_block_21 a0 Q fl227 k n a1 0 false 0 G225) (Q (-1) G225)))
theorem w_X1_block {a0 : Nat} {Q : Int → Wd → Prop} {k n : Nat} {a1 : Int} {G : Wd} (h : f_X1_block k n a0 a1 G Q) : wp m_X1_block 6 k n 0 [some (vR (some a0)), some (vI a1), none, none, none, none, none] [] G (qI Q) noX := by
  unfold f_X1_block at h
  refine r_iload_n dX1_block_0 rfl rfl iI ?_
  refine r_i2l dX1_block_1 h (fun h => ?_)
  refine r_lconst (y := 0) dX1_block_2 (by decide) ?_
  refine r_ldc2 (x := 9) dX1_block_3 q1051 (by decide) ?_
  refine r_callS dX1_block_6 (c_X1_in h) q776 q777 q92 q778 yo_X1_in rfl (by decide) (by decide) rfl rc0 (by decide) (Nat.zero_le _) (Nat.zero_le _) (ofB fun x226 G225 h => ?_) nox
  refine r_ifZ_ne (tgt := 14) dX1_block_9 (by decide) h (fun h => ?_) (fun h => ?_)
  · refine r_iconst dX1_block_14 ?_
    refine r_istore_n (L' := [some (vR (some a0)), some (vI a1), some (vI 0), none, none, none, none]) dX1_block_15 rfl rfl iI cI (by decide) ?_
    refine r_iconst dX1_block_16 ?_
    refine r_istore_n (L' := [some (vR (some a0)), some (vI a1), some (vI 0), some (vI 0), none, none, none]) dX1_block_17 rfl rfl iI cI (by decide) ?_
    refine r_iconst dX1_block_18 ?_
    refine r_istore (L' := [some (vR (some a0)), some (vI a1), some (vI 0), some (vI 0), some (vI 0), none, none]) dX1_block_19 rfl iI cI (by decide) ?_
    refine wp.cast (L' := [some (vR (some a0)), some (vI a1), some (vI 0), some (vB false), some (vI 0), none, none]) (congrArg (fun q => [some (vR (some a0)), some (vI a1), some (vI 0), some q, some (vI 0), none, none]) vI0) rfl ?_
    obtain ⟨fl227, h⟩ := h
    exact w_X1_block_21 fl227 h
  · refine r_iconst dX1_block_12 ?_
    exact r_iret rfl dX1_block_13 ⟨_, rfl, h⟩
theorem c_X1_block {a0 : Nat} {a1 : Int} {k n : Nat} {Q : Int → Wd → Prop} {G : Wd} (h : f_X1_block k n a0 a1 G Q) : call yX1_block (Cond.code yX1_block cX1_block 7 (some .int)) 6 k n [vR (some a0), vI a1] G (qI Q) noX :=
  call.enter (by decide +kernel) (la_1 c1R (la_1 c1I (la_nil rfl))) rfl (w_X1_block h)
abbrev m_X1_needs : Mt := (yX1_needs.cls, cX1_needs, 4, some .int, [], yX1_needs.name)
theorem yo_X1_needs : yOK yX1_needs 1 := ⟨by decide +kernel, by decide +kernel, by decide +kernel⟩
def f_X1_needs_58 (a0 : Nat) (l3 : Int) (s1 : Int) (G : Wd) (Q : Int → Wd → Prop) : Prop :=
  (isC G a0 0 ∧ f_X1_tell a0 s1 G (fun G15 => Q l3 G15))
theorem w_X1_needs_58 {a0 : Nat} {Q : Int → Wd → Prop} {l3 : Int} {s1 : Int} {G : Wd} (h : f_X1_needs_58 a0 l3 s1 G Q) : wp m_X1_needs 3 0 0 58 [none, none, none, some (vI l3)] [vJ s1, vR (some a0)] G (qI Q) noX := by
  unfold f_X1_needs_58 at h
  obtain ⟨hC, h⟩ := h
  refine r_callV dX1_needs_58 hC (c_X1_tell h) q1761 q1763 qs27 q92 q1764 rfl yo_X1_tell rfl (by decide) (by decide) rfl rc0 (by decide) (Nat.zero_le _) (Nat.zero_le _) (ofV fun G15 h => ?_) nox
  refine r_iload_n dX1_needs_61 rfl rfl iI ?_
  exact r_iret rfl dX1_needs_62 ⟨_, rfl, h⟩
def f_X1_needs (a0 : Nat) (a1 : Int) (G : Wd) (Q : Int → Wd → Prop) : Prop :=
  (isC G a0 0 ∧ f_X1_isQueue a0 a1 G (fun x17 G16 => brB x17 (gR G16 a0 [0] 0 (fun x18 => nn x18 (fun a19 => gR G16 a19 [1] 0 (fun x20 => nn x20 (fun a21 => ldR G16 a21 7 a1 (fun x22 => nn x22 (fun a23 => (isC G16 a23 2 ∧ f_X3_bell a23  G16 (fun x25 G24 => br x25 (-2) (¬ x25 = ((-2) : Int)) (pF G24 a0 [0] 9 (vI 0) (fun G26 => br x25 1 (¬ x25 = (1 : Int)) (f_X1_needs_58 a0 x25 0 G26 Q) (gI G26 a23 [2] 7 (fun x27 => gI G26 a23 [2] 9 (fun x28 => ok32 (x27 - x28) (f_X1_needs_58 a0 x25 (x27 - x28) G26 Q)))))) (Q x25 G24)))))))))) (Q (-1) G16)))
theorem w_X1_needs {a0 : Nat} {Q : Int → Wd → Prop} {a1 : Int} {G : Wd} (h : f_X1_needs a0 a1 G Q) : wp m_X1_needs 3 0 0 0 [some (vR (some a0)), some (vI a1), none, none] [] G (qI Q) noX := by
  unfold f_X1_needs at h
  refine r_aload_n dX1_needs_0 rfl rfl iR ?_
  refine r_iload_n dX1_needs_1 rfl rfl iI ?_
  obtain ⟨hC, h⟩ := h
  refine r_callV dX1_needs_2 hC (c_X1_isQueue h) q1498 q1500 qs18 q92 q1501 rfl yo_X1_isQueue rfl (by decide) (by decide) rfl rc0 (by decide) (Nat.zero_le _) (Nat.zero_le _) (ofB fun x17 G16 h => ?_) nox
  refine r_ifZ_ne (tgt := 10) dX1_needs_5 (by decide) h (fun h => ?_) (fun h => ?_)
  · refine r_aload_n dX1_needs_10 rfl rfl iR ?_
    refine r_getR dX1_needs_11 (fg1 (f := 0) fX1 (by decide) q700 rfl) h (fun x18 h => ?_)
    obtain ⟨a19, e, h⟩ := h
    refine wp.cast (L' := [some (vR (some a0)), some (vI a1), none, none]) (st' := [vR (some a19)]) rfl (by rw [e]) ?_
    refine r_getR dX1_needs_14 (fg1 (f := 0) fX2 (by decide) q636 rfl) h (fun x20 h => ?_)
    refine r_iload_n dX1_needs_17 rfl rfl iI ?_
    obtain ⟨a21, e, h⟩ := h
    refine wp.cast (L' := [some (vR (some a0)), some (vI a1), none, none]) (st' := [vI a1, vR (some a21)]) rfl (by rw [e]) ?_
    refine r_aald dX1_needs_18 (by decide) (by decide) h (fun x22 h => ?_)
    refine r_astore_n (L' := [some (vR (some a0)), some (vI a1), some (vR x22), none]) dX1_needs_19 rfl rfl iR cI (by decide) ?_
    refine r_aload_n dX1_needs_20 rfl rfl iR ?_
    obtain ⟨a23, e, h⟩ := h
    refine wp.cast (L' := [some (vR (some a0)), some (vI a1), some (vR (some a23)), none]) (st' := [vR (some a23)]) (by rw [e]) (by rw [e]) ?_
    obtain ⟨hC, h⟩ := h
    refine r_callV dX1_needs_21 hC (c_X3_bell h) q1502 q1503 q1504 q98 q1505 rfl yo_X3_bell rfl (by decide) (by decide) rfl rc0 (by decide) (Nat.zero_le _) (Nat.zero_le _) (ofI fun x25 G24 h => ?_) nox
    refine r_istore_n (L' := [some (vR (some a0)), some (vI a1), some (vR (some a23)), some (vI x25)]) dX1_needs_24 rfl rfl iI cR (by decide) ?_
    refine r_iload_n dX1_needs_25 rfl rfl iI ?_
    refine r_bipush dX1_needs_26 (by decide) ?_
    refine r_icmp_ne (tgt := 33) dX1_needs_28 (by decide) h (fun h => ?_) (fun h => ?_)
    · refine r_aload_n dX1_needs_33 rfl rfl iR ?_
      refine r_iconst dX1_needs_34 ?_
      refine r_put dX1_needs_35 (fp1 (f := 9) fX1 (by decide) q709 rfl rfl rfl) fvI h (fun G26 h => ?_)
      refine r_aload_n dX1_needs_38 rfl rfl iR ?_
      refine r_iload_n dX1_needs_39 rfl rfl iI ?_
      refine r_iconst dX1_needs_40 ?_
      refine r_icmp_ne (tgt := 57) dX1_needs_41 (by decide) h (fun h => ?_) (fun h => ?_)
      · refine r_lconst (y := 0) dX1_needs_57 (by decide) ?_
        refine wp.locals (L' := [none, none, none, some (vI x25)]) (ls_n (ls_n (ls_n (ls_s ls_0)))) ?_
        exact w_X1_needs_58 h
      · refine r_aload_n dX1_needs_44 rfl rfl iR ?_
        refine r_getI dX1_needs_45 (fg1 (f := 7) fX3 (by decide) q572 rfl) h (fun x27 h => ?_)
        refine r_aload_n dX1_needs_48 rfl rfl iR ?_
        refine r_getI dX1_needs_49 (fg1 (f := 9) fX3 (by decide) q578 rfl) h (fun x28 h => ?_)
        refine r_isub dX1_needs_52 ?_
        refine r_i2l dX1_needs_53 h (fun h => ?_)
        refine r_goto (tgt := 58) dX1_needs_54 (by decide) ?_
        refine wp.locals (L' := [none, none, none, some (vI x25)]) (ls_n (ls_n (ls_n (ls_s ls_0)))) ?_
        exact w_X1_needs_58 h
    · refine r_iload_n dX1_needs_31 rfl rfl iI ?_
      exact r_iret rfl dX1_needs_32 ⟨_, rfl, h⟩
  · refine r_iconst dX1_needs_8 ?_
    exact r_iret rfl dX1_needs_9 ⟨_, rfl, h⟩
theorem c_X1_needs {a0 : Nat} {a1 : Int} {Q : Int → Wd → Prop} {G : Wd} (h : f_X1_needs a0 a1 G Q) : call yX1_needs (Cond.code yX1_needs cX1_needs 4 (some .int)) 3 0 0 [vR (some a0), vI a1] G (qI Q) noX :=
  call.enter (by decide +kernel) (la_1 c1R (la_1 c1I (la_nil rfl))) rfl (w_X1_needs h)
abbrev m_X1_recall : Mt := (yX1_recall.cls, cX1_recall, 4, some .int, [], yX1_recall.name)
theorem yo_X1_recall : yOK yX1_recall 2 := ⟨by decide +kernel, by decide +kernel, by decide +kernel⟩
def f_X1_recall (k n : Nat) (a0 : Nat) (a1 : Int) (a2 : Int) (G : Wd) (Q : Int → Wd → Prop) : Prop :=
  gR G a0 [0] 0 (fun x11 => (∃ k13 n14, (k13 ≤ k ∧ n14 ≤ n) ∧ (isC G a0 0 ∧ f_X1_recallOf k13 n14 a0 x11 a1 a2 G (fun x15 G12 => br0 x15 (0 ≤ x15) (pF G12 a0 [0] 9 (vI 0) (fun G16 => gI G16 a0 [0] 12 (fun x17 => ok32 x17 ((isC G16 a0 0 ∧ f_X1_tell a0 x17 G16 (fun G18 => gI G18 a0 [0] 11 (fun x19 => ok32 x19 ((isC G18 a0 0 ∧ f_X1_tell a0 x19 G18 (fun G20 => Q x15 G20)))))))))) (Q x15 G12)))))
theorem w_X1_recall {a0 : Nat} {Q : Int → Wd → Prop} {k n : Nat} {a1 : Int} {a2 : Int} {G : Wd} (h : f_X1_recall k n a0 a1 a2 G Q) : wp m_X1_recall 7 k n 0 [some (vR (some a0)), some (vI a1), some (vI a2), none] [] G (qI Q) noX := by
  unfold f_X1_recall at h
  refine r_aload_n dX1_recall_0 rfl rfl iR ?_
  refine r_aload_n dX1_recall_1 rfl rfl iR ?_
  refine r_getR dX1_recall_2 (fg1 (f := 0) fX1 (by decide) q700 rfl) h (fun x11 h => ?_)
  refine r_iload_n dX1_recall_5 rfl rfl iI ?_
  refine r_iload_n dX1_recall_6 rfl rfl iI ?_
  obtain ⟨k13, n14, ⟨hk1, hn1⟩, h⟩ := h
  obtain ⟨hC, h⟩ := h
  refine r_callV dX1_recall_7 hC (c_X1_recallOf h) q1793 q1795 qs29 q92 q1796 rfl yo_X1_recallOf rfl (by decide) (by decide) rfl rc0 (by decide) hk1 hn1 (ofI fun x15 G12 h => ?_) nox
  refine r_istore_n (L' := [some (vR (some a0)), some (vI a1), some (vI a2), some (vI x15)]) dX1_recall_10 rfl rfl iI cI (by decide) ?_
  refine r_iload_n dX1_recall_11 rfl rfl iI ?_
  refine r_if_ge (tgt := 17) dX1_recall_12 (by decide) h (fun h => ?_) (fun h => ?_)
  · refine r_aload_n dX1_recall_17 rfl rfl iR ?_
    refine r_iconst dX1_recall_18 ?_
    refine r_put dX1_recall_19 (fp1 (f := 9) fX1 (by decide) q709 rfl rfl rfl) fvI h (fun G16 h => ?_)
    refine r_aload_n dX1_recall_22 rfl rfl iR ?_
    refine r_aload_n dX1_recall_23 rfl rfl iR ?_
    refine r_getI dX1_recall_24 (fg1 (f := 12) fX1 (by decide) q712 rfl) h (fun x17 h => ?_)
    refine r_i2l dX1_recall_27 h (fun h => ?_)
    obtain ⟨hC, h⟩ := h
    refine r_callV dX1_recall_28 hC (c_X1_tell h) q1761 q1763 qs27 q92 q1764 rfl yo_X1_tell rfl (by decide) (by decide) rfl rc0 (by decide) (Nat.zero_le _) (Nat.zero_le _) (ofV fun G18 h => ?_) nox
    refine r_aload_n dX1_recall_31 rfl rfl iR ?_
    refine r_aload_n dX1_recall_32 rfl rfl iR ?_
    refine r_getI dX1_recall_33 (fg1 (f := 11) fX1 (by decide) q711 rfl) h (fun x19 h => ?_)
    refine r_i2l dX1_recall_36 h (fun h => ?_)
    obtain ⟨hC, h⟩ := h
    refine r_callV dX1_recall_37 hC (c_X1_tell h) q1761 q1763 qs27 q92 q1764 rfl yo_X1_tell rfl (by decide) (by decide) rfl rc0 (by decide) (Nat.zero_le _) (Nat.zero_le _) (ofV fun G20 h => ?_) nox
    refine r_iload_n dX1_recall_40 rfl rfl iI ?_
    exact r_iret rfl dX1_recall_41 ⟨_, rfl, h⟩
  · refine r_iload_n dX1_recall_15 rfl rfl iI ?_
    exact r_iret rfl dX1_recall_16 ⟨_, rfl, h⟩
theorem c_X1_recall {a0 : Nat} {a1 : Int} {a2 : Int} {k n : Nat} {Q : Int → Wd → Prop} {G : Wd} (h : f_X1_recall k n a0 a1 a2 G Q) : call yX1_recall (Cond.code yX1_recall cX1_recall 4 (some .int)) 7 k n [vR (some a0), vI a1, vI a2] G (qI Q) noX :=
  call.enter (by decide +kernel) (la_1 c1R (la_1 c1I (la_1 c1I (la_nil rfl)))) rfl (w_X1_recall h)
abbrev m_X1_heard : Mt := (yX1_heard.cls, cX1_heard, 3, some .int, [], yX1_heard.name)
theorem yo_X1_heard : yOK yX1_heard 2 := ⟨by decide +kernel, by decide +kernel, by decide +kernel⟩
def f_X1_heard (a0 : Nat) (a1 : Int) (a2 : Int) (G : Wd) (Q : Int → Wd → Prop) : Prop :=
  ok32 a1 (f_X1_in a1 0 3 G (fun x20 G19 => brB x20 (ok32 a2 (f_X1_highOf a1 G19 (fun x22 G21 => ok32 x22 (f_X1_in a2 0 x22 G21 (fun x24 G23 => brB x24 (gI G23 a0 [0] 16 (fun x25 => br x25 12 (¬ x25 = (12 : Int)) (gR G23 a0 [0] 14 (fun x26 => gI G23 a0 [0] 16 (fun x27 => nn x26 (fun a28 => (stI G23 a28 0 x27 a1 (fun G29 => gR G29 a0 [0] 15 (fun x30 => gI G29 a0 [0] 16 (fun x31 => nn x30 (fun a32 => (stI G29 a32 0 x31 a2 (fun G33 => gI G33 a0 [0] 16 (fun x34 => pF G33 a0 [0] 16 (vI (x34 + 1)) (fun G35 => gI G35 a0 [0] 16 (fun x36 => Q x36 G35)))))))))))))) (Q (-1) G23))) (Q (-1) G23)))))) (Q (-1) G19)))
theorem w_X1_heard {a0 : Nat} {Q : Int → Wd → Prop} {a1 : Int} {a2 : Int} {G : Wd} (h : f_X1_heard a0 a1 a2 G Q) : wp m_X1_heard 2 0 0 0 [some (vR (some a0)), some (vI a1), some (vI a2)] [] G (qI Q) noX := by
  unfold f_X1_heard at h
  refine r_iload_n dX1_heard_0 rfl rfl iI ?_
  refine r_i2l dX1_heard_1 h (fun h => ?_)
  refine r_lconst (y := 0) dX1_heard_2 (by decide) ?_
  refine r_ldc2 (x := 3) dX1_heard_3 q1027 (by decide) ?_
  refine r_callS dX1_heard_6 (c_X1_in h) q776 q777 q92 q778 yo_X1_in rfl (by decide) (by decide) rfl rc0 (by decide) (Nat.zero_le _) (Nat.zero_le _) (ofB fun x20 G19 h => ?_) nox
  refine r_ifZ_eq (tgt := 35) dX1_heard_9 (by decide) h (fun h => ?_) (fun h => ?_)
  · refine r_iconst dX1_heard_35 ?_
    exact r_iret rfl dX1_heard_36 ⟨_, rfl, h⟩
  · refine r_iload_n dX1_heard_12 rfl rfl iI ?_
    refine r_i2l dX1_heard_13 h (fun h => ?_)
    refine r_lconst (y := 0) dX1_heard_14 (by decide) ?_
    refine r_iload_n dX1_heard_15 rfl rfl iI ?_
    refine r_callS dX1_heard_16 (c_X1_highOf h) q2030 q2031 q92 q2032 yo_X1_highOf rfl (by decide) (by decide) rfl (rc2 (rc2 rc0)) (by decide) (Nat.zero_le _) (Nat.zero_le _) (ofI fun x22 G21 h => ?_) nox
    refine r_i2l dX1_heard_19 h (fun h => ?_)
    refine r_callS dX1_heard_20 (c_X1_in h) q776 q777 q92 q778 yo_X1_in rfl (by decide) (by decide) rfl rc0 (by decide) (Nat.zero_le _) (Nat.zero_le _) (ofB fun x24 G23 h => ?_) nox
    refine r_ifZ_eq (tgt := 35) dX1_heard_23 (by decide) h (fun h => ?_) (fun h => ?_)
    · refine r_iconst dX1_heard_35 ?_
      exact r_iret rfl dX1_heard_36 ⟨_, rfl, h⟩
    · refine r_aload_n dX1_heard_26 rfl rfl iR ?_
      refine r_getI dX1_heard_27 (fg1 (f := 16) fX1 (by decide) q716 rfl) h (fun x25 h => ?_)
      refine r_bipush dX1_heard_30 (by decide) ?_
      refine r_icmp_ne (tgt := 37) dX1_heard_32 (by decide) h (fun h => ?_) (fun h => ?_)
      · refine r_aload_n dX1_heard_37 rfl rfl iR ?_
        refine r_getR dX1_heard_38 (fg1 (f := 14) fX1 (by decide) q714 rfl) h (fun x26 h => ?_)
        refine r_aload_n dX1_heard_41 rfl rfl iR ?_
        refine r_getI dX1_heard_42 (fg1 (f := 16) fX1 (by decide) q716 rfl) h (fun x27 h => ?_)
        refine r_iload_n dX1_heard_45 rfl rfl iI ?_
        obtain ⟨a28, e, h⟩ := h
        refine wp.cast (L' := [some (vR (some a0)), some (vI a1), some (vI a2)]) (st' := [vI a1, vI x27, vR (some a28)]) rfl (by rw [e]) ?_
        refine r_iast dX1_heard_46 h (fun G29 h => ?_)
        refine r_aload_n dX1_heard_47 rfl rfl iR ?_
        refine r_getR dX1_heard_48 (fg1 (f := 15) fX1 (by decide) q715 rfl) h (fun x30 h => ?_)
        refine r_aload_n dX1_heard_51 rfl rfl iR ?_
        refine r_getI dX1_heard_52 (fg1 (f := 16) fX1 (by decide) q716 rfl) h (fun x31 h => ?_)
        refine r_iload_n dX1_heard_55 rfl rfl iI ?_
        obtain ⟨a32, e, h⟩ := h
        refine wp.cast (L' := [some (vR (some a0)), some (vI a1), some (vI a2)]) (st' := [vI a2, vI x31, vR (some a32)]) rfl (by rw [e]) ?_
        refine r_iast dX1_heard_56 h (fun G33 h => ?_)
        refine r_aload_n dX1_heard_57 rfl rfl iR ?_
        refine r_dup dX1_heard_58 c1R ?_
        refine r_getI dX1_heard_59 (fg1 (f := 16) fX1 (by decide) q716 rfl) h (fun x34 h => ?_)
        refine r_iconst dX1_heard_62 ?_
        refine r_iadd dX1_heard_63 ?_
        refine r_put dX1_heard_64 (fp1 (f := 16) fX1 (by decide) q716 rfl rfl rfl) fvI h (fun G35 h => ?_)
        refine r_aload_n dX1_heard_67 rfl rfl iR ?_
        refine r_getI dX1_heard_68 (fg1 (f := 16) fX1 (by decide) q716 rfl) h (fun x36 h => ?_)
        exact r_iret rfl dX1_heard_71 ⟨_, rfl, h⟩
      · refine r_iconst dX1_heard_35 ?_
        exact r_iret rfl dX1_heard_36 ⟨_, rfl, h⟩
theorem c_X1_heard {a0 : Nat} {a1 : Int} {a2 : Int} {Q : Int → Wd → Prop} {G : Wd} (h : f_X1_heard a0 a1 a2 G Q) : call yX1_heard (Cond.code yX1_heard cX1_heard 3 (some .int)) 2 0 0 [vR (some a0), vI a1, vI a2] G (qI Q) noX :=
  call.enter (by decide +kernel) (la_1 c1R (la_1 c1I (la_1 c1I (la_nil rfl)))) rfl (w_X1_heard h)
abbrev m_X1_layThought : Mt := (yX1_layThought.cls, cX1_layThought, 4, some .int, [], yX1_layThought.name)
theorem yo_X1_layThought : yOK yX1_layThought 0 := ⟨by decide +kernel, by decide +kernel, by decide +kernel⟩
def f_X1_layThought_37_b (a0 : Nat) (k10 : Nat → Nat → Int → Wd → Prop) (k37 : Nat → Nat → Int → Option Nat → Wd → Prop) (k n : Nat) (l1 : Int) (l2 : Option Nat) (G : Wd) (Q : Int → Wd → Prop) : Prop :=
  nn l2 (fun a117 => (isC G a117 15 ∧ f_J23_hasNext a117  G (fun x119 G118 => brB x119 ((isC G118 a117 15 ∧ f_J23_next a117  G118 (fun x121 G120 => cst G120 x121 [7] ((isC G120 a0 0 ∧ f_X1_think a0 x121 false G120 (fun G122 => k37 k n l1 (some a117) G122)))))) (k10 k n (l1 + 1) G118))))
theorem w_X1_layThought_37_b {a0 : Nat} {Q : Int → Wd → Prop} {k10 : Nat → Nat → Int → Wd → Prop} (hk10 : ∀ {k n : Nat} {l1 : Int} {G : Wd}, k10 k n l1 G → wp m_X1_layThought 6 k n 10 [some (vR (some a0)), some (vI l1), none, none] [] G (qI Q) noX) {k37 : Nat → Nat → Int → Option Nat → Wd → Prop} (hk37 : ∀ {k n : Nat} {l1 : Int} {l2 : Option Nat} {G : Wd}, k37 k n l1 l2 G → wp m_X1_layThought 6 k n 37 [some (vR (some a0)), some (vI l1), some (vR l2), none] [] G (qI Q) noX) {k n : Nat} {l1 : Int} {l2 : Option Nat} {G : Wd} (h : f_X1_layThought_37_b a0 k10 k37 k n l1 l2 G Q) : wp m_X1_layThought 6 k n 37 [some (vR (some a0)), some (vI l1), some (vR l2), none] [] G (qI Q) noX := by
  unfold f_X1_layThought_37_b at h
  refine r_aload_n dX1_layThought_37 rfl rfl iR ?_
  obtain ⟨a117, e, h⟩ := h
  refine wp.cast (L' := [some (vR (some a0)), some (vI l1), some (vR (some a117)), none]) (st' := [vR (some a117)]) (by rw [e]) (by rw [e]) ?_
  obtain ⟨hC, h⟩ := h
  refine r_callF dX1_layThought_38 hC (c_J23_hasNext h) q1803 q1129 q1131 q124 q1133 q1117 q1116 q1132 q1130 q1128 rfl ⟨by decide +kernel, by decide +kernel, by decide +kernel⟩ rfl (by decide) (by decide) rfl rc0 (by decide) (Nat.zero_le _) (Nat.zero_le _) (ofB fun x119 G118 h => ?_) nox
  refine r_ifZ_eq (tgt := 65) dX1_layThought_43 (by decide) h (fun h => ?_) (fun h => ?_)
  · refine r_iinc (L' := [some (vR (some a0)), some (vI (l1 + 1)), some (vR (some a117)), none]) dX1_layThought_65 rfl rfl cR (by decide) ?_
    refine r_goto (tgt := 10) dX1_layThought_68 (by decide) ?_
    refine wp.locals (L' := [some (vR (some a0)), some (vI (l1 + 1)), none, none]) (ls_s (ls_s (ls_n (ls_n ls_0)))) ?_
    exact hk10 h
  · refine r_aload_n dX1_layThought_46 rfl rfl iR ?_
    obtain ⟨hC, h⟩ := h
    refine r_callF dX1_layThought_47 hC (c_J23_next h) q1805 q1256 q1258 q124 q1260 q1143 q1142 q1259 q1257 q1128 rfl ⟨by decide +kernel, by decide +kernel, by decide +kernel⟩ rfl (by decide) (by decide) rfl rc0 (by decide) (Nat.zero_le _) (Nat.zero_le _) (ofR fun x121 G120 h => ?_) nox
    refine r_ccast (ci := 7) dX1_layThought_52 q698 rfl h (fun h => ?_)
    refine r_astore_n (L' := [some (vR (some a0)), some (vI l1), some (vR (some a117)), some (vR x121)]) dX1_layThought_55 rfl rfl iR cR (by decide) ?_
    refine r_aload_n dX1_layThought_56 rfl rfl iR ?_
    refine r_aload_n dX1_layThought_57 rfl rfl iR ?_
    refine r_iconst dX1_layThought_58 ?_
    refine wp.cast (st' := [vB false, vR x121, vR (some a0)]) rfl (congrArg (fun q => [q, vR x121, vR (some a0)]) vI0) ?_
    obtain ⟨hC, h⟩ := h
    refine r_callV dX1_layThought_59 hC (c_X1_think h) q2048 q2050 qs35 q92 q2051 rfl yo_X1_think rfl (by decide) (by decide) rfl rc0 (by decide) (Nat.zero_le _) (Nat.zero_le _) (ofV fun G122 h => ?_) nox
    refine r_goto (tgt := 37) dX1_layThought_62 (by decide) ?_
    refine wp.locals (L' := [some (vR (some a0)), some (vI l1), some (vR (some a117)), none]) (ls_s (ls_s (ls_s (ls_n ls_0)))) ?_
    exact hk37 h
def f_X1_layThought_37 (a0 : Nat) (k10 : Nat → Nat → Int → Wd → Prop) (Q : Int → Wd → Prop) : Nat → Nat → Nat → Int → Option Nat → Wd → Prop
  | 0, _, _, _, _, _ => False
  | fl + 1, k, n, l1, l2, G => f_X1_layThought_37_b a0 k10 (fun k n l1 l2 G => f_X1_layThought_37 a0 k10 Q fl k n l1 l2 G) k n l1 l2 G Q
theorem w_X1_layThought_37 {a0 : Nat} {Q : Int → Wd → Prop} {k10 : Nat → Nat → Int → Wd → Prop} (hk10 : ∀ {k n : Nat} {l1 : Int} {G : Wd}, k10 k n l1 G → wp m_X1_layThought 6 k n 10 [some (vR (some a0)), some (vI l1), none, none] [] G (qI Q) noX) : ∀ (fl : Nat) {k n : Nat} {l1 : Int} {l2 : Option Nat} {G : Wd}, f_X1_layThought_37 a0 k10 Q fl k n l1 l2 G → wp m_X1_layThought 6 k n 37 [some (vR (some a0)), some (vI l1), some (vR l2), none] [] G (qI Q) noX := by
  intro fl
  induction fl with
  | zero => intro k n l1 l2 G h; exact (show False from h).elim
  | succ fl ih => intro k n l1 l2 G h; exact w_X1_layThought_37_b hk10 (fun h => ih h) h
def f_X1_layThought_126 (a0 : Nat) (k82 : Nat → Nat → Option Nat → Wd → Prop) (k n : Nat) (l1 : Option Nat) (G : Wd) (Q : Int → Wd → Prop) : Prop :=
  k82 k n l1 G
theorem w_X1_layThought_126 {a0 : Nat} {Q : Int → Wd → Prop} {k82 : Nat → Nat → Option Nat → Wd → Prop} (hk82 : ∀ {k n : Nat} {l1 : Option Nat} {G : Wd}, k82 k n l1 G → wp m_X1_layThought 6 k n 82 [some (vR (some a0)), some (vR l1), none, none] [] G (qI Q) noX) {k n : Nat} {l1 : Option Nat} {G : Wd} (h : f_X1_layThought_126 a0 k82 k n l1 G Q) : wp m_X1_layThought 6 k n 126 [some (vR (some a0)), some (vR l1), none, none] [] G (qI Q) noX := by
  unfold f_X1_layThought_126 at h
  refine r_goto (tgt := 82) dX1_layThought_126 (by decide) ?_
  exact hk82 h
def f_X1_layThought_203 (a0 : Nat) (k133 : Nat → Nat → Int → Int → Wd → Prop) (k n : Nat) (l1 : Int) (l2 : Int) (G : Wd) (Q : Int → Wd → Prop) : Prop :=
  k133 k n l1 (l2 + 1) G
theorem w_X1_layThought_203 {a0 : Nat} {Q : Int → Wd → Prop} {k133 : Nat → Nat → Int → Int → Wd → Prop} (hk133 : ∀ {k n : Nat} {l1 : Int} {l2 : Int} {G : Wd}, k133 k n l1 l2 G → wp m_X1_layThought 6 k n 133 [some (vR (some a0)), some (vI l1), some (vI l2), none] [] G (qI Q) noX) {k n : Nat} {l1 : Int} {l2 : Int} {G : Wd} (h : f_X1_layThought_203 a0 k133 k n l1 l2 G Q) : wp m_X1_layThought 6 k n 203 [some (vR (some a0)), some (vI l1), some (vI l2), none] [] G (qI Q) noX := by
  unfold f_X1_layThought_203 at h
  refine r_iinc (L' := [some (vR (some a0)), some (vI l1), some (vI (l2 + 1)), none]) dX1_layThought_203 rfl rfl cI (by decide) ?_
  refine r_goto (tgt := 133) dX1_layThought_206 (by decide) ?_
  exact hk133 h
def f_X1_layThought_153_b (a0 : Nat) (k133 : Nat → Nat → Int → Int → Wd → Prop) (k153 : Nat → Nat → Int → Int → Int → Wd → Prop) (k n : Nat) (l1 : Int) (l2 : Int) (l3 : Int) (G : Wd) (Q : Int → Wd → Prop) : Prop :=
  gI G a0 [0] 16 (fun x123 => br l3 x123 (x123 ≤ l3) (f_X1_layThought_203 a0 k133 k n (l1 + 1) l2 G Q) (gR G a0 [0] 14 (fun x124 => nn x124 (fun a125 => ldI G a125 0 l3 (fun x126 => gR G a0 [0] 15 (fun x127 => nn x127 (fun a128 => ldI G a128 0 l3 (fun x129 => (isC G a0 0 ∧ f_X1_isSo a0 l2 x126 x129 G (fun x131 G130 => brB x131 (k153 k n l1 l2 (l3 + 1) G130) (gR G130 a0 [0] 17 (fun x132 => nn x132 (fun a133 => stR G130 a133 8 l2 none [7] (fun G134 => f_X1_layThought_203 a0 k133 k n l1 l2 G134 Q))))))))))))))
theorem w_X1_layThought_153_b {a0 : Nat} {Q : Int → Wd → Prop} {k133 : Nat → Nat → Int → Int → Wd → Prop} (hk133 : ∀ {k n : Nat} {l1 : Int} {l2 : Int} {G : Wd}, k133 k n l1 l2 G → wp m_X1_layThought 6 k n 133 [some (vR (some a0)), some (vI l1), some (vI l2), none] [] G (qI Q) noX) {k153 : Nat → Nat → Int → Int → Int → Wd → Prop} (hk153 : ∀ {k n : Nat} {l1 : Int} {l2 : Int} {l3 : Int} {G : Wd}, k153 k n l1 l2 l3 G → wp m_X1_layThought 6 k n 153 [some (vR (some a0)), some (vI l1), some (vI l2), some (vI l3)] [] G (qI Q) noX) {k n : Nat} {l1 : Int} {l2 : Int} {l3 : Int} {G : Wd} (h : f_X1_layThought_153_b a0 k133 k153 k n l1 l2 l3 G Q) : wp m_X1_layThought 6 k n 153 [some (vR (some a0)), some (vI l1), some (vI l2), some (vI l3)] [] G (qI Q) noX := by
  unfold f_X1_layThought_153_b at h
  refine r_iload_n dX1_layThought_153 rfl rfl iI ?_
  refine r_aload_n dX1_layThought_154 rfl rfl iR ?_
  refine r_getI dX1_layThought_155 (fg1 (f := 16) fX1 (by decide) q716 rfl) h (fun x123 h => ?_)
  refine r_icmp_ge (tgt := 200) dX1_layThought_158 (by decide) h (fun h => ?_) (fun h => ?_)
  · refine r_iinc (L' := [some (vR (some a0)), some (vI (l1 + 1)), some (vI l2), some (vI l3)]) dX1_layThought_200 rfl rfl cR (by decide) ?_
    refine wp.locals (L' := [some (vR (some a0)), some (vI (l1 + 1)), some (vI l2), none]) (ls_s (ls_s (ls_s (ls_n ls_0)))) ?_
    exact w_X1_layThought_203 hk133 h
  · refine r_aload_n dX1_layThought_161 rfl rfl iR ?_
    refine r_iload_n dX1_layThought_162 rfl rfl iI ?_
    refine r_aload_n dX1_layThought_163 rfl rfl iR ?_
    refine r_getR dX1_layThought_164 (fg1 (f := 14) fX1 (by decide) q714 rfl) h (fun x124 h => ?_)
    refine r_iload_n dX1_layThought_167 rfl rfl iI ?_
    obtain ⟨a125, e, h⟩ := h
    refine wp.cast (L' := [some (vR (some a0)), some (vI l1), some (vI l2), some (vI l3)]) (st' := [vI l3, vR (some a125), vI l2, vR (some a0)]) rfl (by rw [e]) ?_
    refine r_iald dX1_layThought_168 h (fun x126 h => ?_)
    refine r_aload_n dX1_layThought_169 rfl rfl iR ?_
    refine r_getR dX1_layThought_170 (fg1 (f := 15) fX1 (by decide) q715 rfl) h (fun x127 h => ?_)
    refine r_iload_n dX1_layThought_173 rfl rfl iI ?_
    obtain ⟨a128, e, h⟩ := h
    refine wp.cast (L' := [some (vR (some a0)), some (vI l1), some (vI l2), some (vI l3)]) (st' := [vI l3, vR (some a128), vI x126, vI l2, vR (some a0)]) rfl (by rw [e]) ?_
    refine r_iald dX1_layThought_174 h (fun x129 h => ?_)
    obtain ⟨hC, h⟩ := h
    refine r_callV dX1_layThought_175 hC (c_X1_isSo h) q2052 q2054 qs36 q92 q2055 rfl yo_X1_isSo rfl (by decide) (by decide) rfl rc0 (by decide) (Nat.zero_le _) (Nat.zero_le _) (ofB fun x131 G130 h => ?_) nox
    refine r_ifZ_eq (tgt := 184) dX1_layThought_178 (by decide) h (fun h => ?_) (fun h => ?_)
    · refine r_aload_n dX1_layThought_184 rfl rfl iR ?_
      refine r_getR dX1_layThought_185 (fg1 (f := 17) fX1 (by decide) q717 rfl) h (fun x132 h => ?_)
      refine r_iload_n dX1_layThought_188 rfl rfl iI ?_
      refine r_null dX1_layThought_189 ?_
      obtain ⟨a133, e, h⟩ := h
      refine wp.cast (L' := [some (vR (some a0)), some (vI l1), some (vI l2), some (vI l3)]) (st' := [vR none, vI l2, vR (some a133)]) rfl (by rw [e]) ?_
      refine r_aast dX1_layThought_190 kd8 h (fun G134 h => ?_)
      refine r_goto (tgt := 203) dX1_layThought_191 (by decide) ?_
      refine wp.locals (L' := [some (vR (some a0)), some (vI l1), some (vI l2), none]) (ls_s (ls_s (ls_s (ls_n ls_0)))) ?_
      exact w_X1_layThought_203 hk133 h
    · refine r_goto (tgt := 194) dX1_layThought_181 (by decide) ?_
      refine r_iinc (L' := [some (vR (some a0)), some (vI l1), some (vI l2), some (vI (l3 + 1))]) dX1_layThought_194 rfl rfl cI (by decide) ?_
      refine r_goto (tgt := 153) dX1_layThought_197 (by decide) ?_
      exact hk153 h
def f_X1_layThought_153 (a0 : Nat) (k133 : Nat → Nat → Int → Int → Wd → Prop) (Q : Int → Wd → Prop) : Nat → Nat → Nat → Int → Int → Int → Wd → Prop
  | 0, _, _, _, _, _, _ => False
  | fl + 1, k, n, l1, l2, l3, G => f_X1_layThought_153_b a0 k133 (fun k n l1 l2 l3 G => f_X1_layThought_153 a0 k133 Q fl k n l1 l2 l3 G) k n l1 l2 l3 G Q
theorem w_X1_layThought_153 {a0 : Nat} {Q : Int → Wd → Prop} {k133 : Nat → Nat → Int → Int → Wd → Prop} (hk133 : ∀ {k n : Nat} {l1 : Int} {l2 : Int} {G : Wd}, k133 k n l1 l2 G → wp m_X1_layThought 6 k n 133 [some (vR (some a0)), some (vI l1), some (vI l2), none] [] G (qI Q) noX) : ∀ (fl : Nat) {k n : Nat} {l1 : Int} {l2 : Int} {l3 : Int} {G : Wd}, f_X1_layThought_153 a0 k133 Q fl k n l1 l2 l3 G → wp m_X1_layThought 6 k n 153 [some (vR (some a0)), some (vI l1), some (vI l2), some (vI l3)] [] G (qI Q) noX := by
  intro fl
  induction fl with
  | zero => intro k n l1 l2 l3 G h; exact (show False from h).elim
  | succ fl ih => intro k n l1 l2 l3 G h; exact w_X1_layThought_153_b hk133 (fun h => ih h) h
def f_X1_layThought_133_b (a0 : Nat) (k133 : Nat → Nat → Int → Int → Wd → Prop) (k n : Nat) (l1 : Int) (l2 : Int) (G : Wd) (Q : Int → Wd → Prop) : Prop :=
  br l2 80 ((80 : Int) ≤ l2) (Q l1 G) (gR G a0 [0] 17 (fun x135 => nn x135 (fun a136 => ldR G a136 8 l2 (fun x137 => brN x137 (f_X1_layThought_203 a0 k133 k n l1 l2 G Q) (fun a138 => ∃ fl139, f_X1_layThought_153 a0 k133 Q fl139 k n l1 l2 0 G)))))
theorem w_X1_layThought_133_b {a0 : Nat} {Q : Int → Wd → Prop} {k133 : Nat → Nat → Int → Int → Wd → Prop} (hk133 : ∀ {k n : Nat} {l1 : Int} {l2 : Int} {G : Wd}, k133 k n l1 l2 G → wp m_X1_layThought 6 k n 133 [some (vR (some a0)), some (vI l1), some (vI l2), none] [] G (qI Q) noX) {k n : Nat} {l1 : Int} {l2 : Int} {G : Wd} (h : f_X1_layThought_133_b a0 k133 k n l1 l2 G Q) : wp m_X1_layThought 6 k n 133 [some (vR (some a0)), some (vI l1), some (vI l2), none] [] G (qI Q) noX := by
  unfold f_X1_layThought_133_b at h
  refine r_iload_n dX1_layThought_133 rfl rfl iI ?_
  refine r_bipush dX1_layThought_134 (by decide) ?_
  refine r_icmp_ge (tgt := 209) dX1_layThought_136 (by decide) h (fun h => ?_) (fun h => ?_)
  · refine r_iload_n dX1_layThought_209 rfl rfl iI ?_
    exact r_iret rfl dX1_layThought_210 ⟨_, rfl, h⟩
  · refine r_aload_n dX1_layThought_139 rfl rfl iR ?_
    refine r_getR dX1_layThought_140 (fg1 (f := 17) fX1 (by decide) q717 rfl) h (fun x135 h => ?_)
    refine r_iload_n dX1_layThought_143 rfl rfl iI ?_
    obtain ⟨a136, e, h⟩ := h
    refine wp.cast (L' := [some (vR (some a0)), some (vI l1), some (vI l2), none]) (st' := [vI l2, vR (some a136)]) rfl (by rw [e]) ?_
    refine r_aald dX1_layThought_144 (by decide) (by decide) h (fun x137 h => ?_)
    refine r_ifnonnullV (tgt := 151) dX1_layThought_145 (by decide) h (fun a138 e h => ?_) (fun e h => ?_)
    · refine r_iconst dX1_layThought_151 ?_
      refine r_istore_n (L' := [some (vR (some a0)), some (vI l1), some (vI l2), some (vI 0)]) dX1_layThought_152 rfl rfl iI cI (by decide) ?_
      obtain ⟨fl139, h⟩ := h
      exact w_X1_layThought_153 hk133 fl139 h
    · refine r_goto (tgt := 203) dX1_layThought_148 (by decide) ?_
      exact w_X1_layThought_203 hk133 h
def f_X1_layThought_133 (a0 : Nat) (Q : Int → Wd → Prop) : Nat → Nat → Nat → Int → Int → Wd → Prop
  | 0, _, _, _, _, _ => False
  | fl + 1, k, n, l1, l2, G => f_X1_layThought_133_b a0  (fun k n l1 l2 G => f_X1_layThought_133 a0  Q fl k n l1 l2 G) k n l1 l2 G Q
theorem w_X1_layThought_133 {a0 : Nat} {Q : Int → Wd → Prop} : ∀ (fl : Nat) {k n : Nat} {l1 : Int} {l2 : Int} {G : Wd}, f_X1_layThought_133 a0 Q fl k n l1 l2 G → wp m_X1_layThought 6 k n 133 [some (vR (some a0)), some (vI l1), some (vI l2), none] [] G (qI Q) noX := by
  intro fl
  induction fl with
  | zero => intro k n l1 l2 G h; exact (show False from h).elim
  | succ fl ih => intro k n l1 l2 G h; exact w_X1_layThought_133_b  (fun h => ih h) h
def f_X1_layThought_82_b (a0 : Nat) (k82 : Nat → Nat → Option Nat → Wd → Prop) (k n : Nat) (l1 : Option Nat) (G : Wd) (Q : Int → Wd → Prop) : Prop :=
  nn l1 (fun a140 => (isC G a140 16 ∧ f_J25_hasNext a140  G (fun x142 G141 => brB x142 ((isC G141 a140 16 ∧ f_J25_next a140  G141 (fun x145 G144 => cst G144 x145 [8] (nn x145 (fun a146 => gR G144 a146 [8] 0 (fun x147 => (isC G144 a0 0 ∧ f_X1_think a0 x147 true G144 (fun G148 => gR G148 a146 [8] 1 (fun x149 => brN x149 (f_X1_layThought_126 a0 k82 k n (some a140) G148 Q) (fun a150 => gR G148 a146 [8] 1 (fun x151 => (isC G148 a0 0 ∧ f_X1_think a0 x151 true G148 (fun G152 => f_X1_layThought_126 a0 k82 k n (some a140) G152 Q))))))))))))) (∃ fl143, f_X1_layThought_133 a0 Q fl143 k n 0 0 G141))))
theorem w_X1_layThought_82_b {a0 : Nat} {Q : Int → Wd → Prop} {k82 : Nat → Nat → Option Nat → Wd → Prop} (hk82 : ∀ {k n : Nat} {l1 : Option Nat} {G : Wd}, k82 k n l1 G → wp m_X1_layThought 6 k n 82 [some (vR (some a0)), some (vR l1), none, none] [] G (qI Q) noX) {k n : Nat} {l1 : Option Nat} {G : Wd} (h : f_X1_layThought_82_b a0 k82 k n l1 G Q) : wp m_X1_layThought 6 k n 82 [some (vR (some a0)), some (vR l1), none, none] [] G (qI Q) noX := by
  unfold f_X1_layThought_82_b at h
  refine r_aload_n dX1_layThought_82 rfl rfl iR ?_
  obtain ⟨a140, e, h⟩ := h
  refine wp.cast (L' := [some (vR (some a0)), some (vR (some a140)), none, none]) (st' := [vR (some a140)]) (by rw [e]) (by rw [e]) ?_
  obtain ⟨hC, h⟩ := h
  refine r_callF dX1_layThought_83 hC (c_J25_hasNext h) q1803 q1135 q1137 q127 q1139 q1117 q1116 q1138 q1136 q1134 rfl ⟨by decide +kernel, by decide +kernel, by decide +kernel⟩ rfl (by decide) (by decide) rfl rc0 (by decide) (Nat.zero_le _) (Nat.zero_le _) (ofB fun x142 G141 h => ?_) nox
  refine r_ifZ_eq (tgt := 129) dX1_layThought_88 (by decide) h (fun h => ?_) (fun h => ?_)
  · refine r_iconst dX1_layThought_129 ?_
    refine r_istore_n (L' := [some (vR (some a0)), some (vI 0), none, none]) dX1_layThought_130 rfl rfl iI cR (by decide) ?_
    refine r_iconst dX1_layThought_131 ?_
    refine r_istore_n (L' := [some (vR (some a0)), some (vI 0), some (vI 0), none]) dX1_layThought_132 rfl rfl iI cI (by decide) ?_
    obtain ⟨fl143, h⟩ := h
    exact w_X1_layThought_133 fl143 h
  · refine r_aload_n dX1_layThought_91 rfl rfl iR ?_
    obtain ⟨hC, h⟩ := h
    refine r_callF dX1_layThought_92 hC (c_J25_next h) q1805 q1272 q1274 q127 q1276 q1143 q1142 q1275 q1273 q1134 rfl ⟨by decide +kernel, by decide +kernel, by decide +kernel⟩ rfl (by decide) (by decide) rfl rc0 (by decide) (Nat.zero_le _) (Nat.zero_le _) (ofR fun x145 G144 h => ?_) nox
    refine r_ccast (ci := 8) dX1_layThought_97 q1807 rfl h (fun h => ?_)
    refine r_astore_n (L' := [some (vR (some a0)), some (vR (some a140)), some (vR x145), none]) dX1_layThought_100 rfl rfl iR cR (by decide) ?_
    refine r_aload_n dX1_layThought_101 rfl rfl iR ?_
    refine r_aload_n dX1_layThought_102 rfl rfl iR ?_
    obtain ⟨a146, e, h⟩ := h
    refine wp.cast (L' := [some (vR (some a0)), some (vR (some a140)), some (vR (some a146)), none]) (st' := [vR (some a146), vR (some a0)]) (by rw [e]) (by rw [e]) ?_
    refine r_getR dX1_layThought_103 (fg1 (f := 0) fX9 (by decide) q1545 rfl) h (fun x147 h => ?_)
    refine r_iconst dX1_layThought_106 ?_
    refine wp.cast (st' := [vB true, vR x147, vR (some a0)]) rfl (congrArg (fun q => [q, vR x147, vR (some a0)]) vI1) ?_
    obtain ⟨hC, h⟩ := h
    refine r_callV dX1_layThought_107 hC (c_X1_think h) q2048 q2050 qs35 q92 q2051 rfl yo_X1_think rfl (by decide) (by decide) rfl rc0 (by decide) (Nat.zero_le _) (Nat.zero_le _) (ofV fun G148 h => ?_) nox
    refine r_aload_n dX1_layThought_110 rfl rfl iR ?_
    refine r_getR dX1_layThought_111 (fg1 (f := 1) fX9 (by decide) q1548 rfl) h (fun x149 h => ?_)
    refine r_ifnullV (tgt := 126) dX1_layThought_114 (by decide) h (fun e h => ?_) (fun a150 e h => ?_)
    · refine wp.locals (L' := [some (vR (some a0)), some (vR (some a140)), none, none]) (ls_s (ls_s (ls_n (ls_n ls_0)))) ?_
      exact w_X1_layThought_126 hk82 h
    · refine r_aload_n dX1_layThought_117 rfl rfl iR ?_
      refine r_aload_n dX1_layThought_118 rfl rfl iR ?_
      refine r_getR dX1_layThought_119 (fg1 (f := 1) fX9 (by decide) q1548 rfl) h (fun x151 h => ?_)
      refine r_iconst dX1_layThought_122 ?_
      refine wp.cast (st' := [vB true, vR x151, vR (some a0)]) rfl (congrArg (fun q => [q, vR x151, vR (some a0)]) vI1) ?_
      obtain ⟨hC, h⟩ := h
      refine r_callV dX1_layThought_123 hC (c_X1_think h) q2048 q2050 qs35 q92 q2051 rfl yo_X1_think rfl (by decide) (by decide) rfl rc0 (by decide) (Nat.zero_le _) (Nat.zero_le _) (ofV fun G152 h => ?_) nox
      refine wp.locals (L' := [some (vR (some a0)), some (vR (some a140)), none, none]) (ls_s (ls_s (ls_n (ls_n ls_0)))) ?_
      exact w_X1_layThought_126 hk82 h
def f_X1_layThought_82 (a0 : Nat) (Q : Int → Wd → Prop) : Nat → Nat → Nat → Option Nat → Wd → Prop
  | 0, _, _, _, _ => False
  | fl + 1, k, n, l1, G => f_X1_layThought_82_b a0  (fun k n l1 G => f_X1_layThought_82 a0  Q fl k n l1 G) k n l1 G Q
theorem w_X1_layThought_82 {a0 : Nat} {Q : Int → Wd → Prop} : ∀ (fl : Nat) {k n : Nat} {l1 : Option Nat} {G : Wd}, f_X1_layThought_82 a0 Q fl k n l1 G → wp m_X1_layThought 6 k n 82 [some (vR (some a0)), some (vR l1), none, none] [] G (qI Q) noX := by
  intro fl
  induction fl with
  | zero => intro k n l1 G h; exact (show False from h).elim
  | succ fl ih => intro k n l1 G h; exact w_X1_layThought_82_b  (fun h => ih h) h
def f_X1_layThought_10_b (a0 : Nat) (k10 : Nat → Nat → Int → Wd → Prop) (k n : Nat) (l1 : Int) (G : Wd) (Q : Int → Wd → Prop) : Prop :=
  gR G a0 [0] 0 (fun x153 => nn x153 (fun a154 => gI G a154 [1] 8 (fun x155 => br l1 x155 (x155 ≤ l1) (gR G a0 [0] 0 (fun x156 => nn x156 (fun a157 => gR G a157 [1] 1 (fun x158 => nn x158 (fun a159 => (∃ k161 n162, (k161 ≤ k ∧ n162 ≤ n) ∧ (isC G a159 12 ∧ f_J2_iterator k161 n162 a159  G (fun x163 G160 => ∃ fl164, f_X1_layThought_82 a0 Q fl164 (k - k161) (n - n162) x163 G160)))))))) (gR G a0 [0] 0 (fun x165 => nn x165 (fun a166 => gR G a166 [1] 0 (fun x167 => nn x167 (fun a168 => ldR G a168 7 l1 (fun x169 => nn x169 (fun a170 => gR G a170 [2] 1 (fun x171 => nn x171 (fun a172 => (∃ k174 n175, (k174 ≤ k ∧ n175 ≤ n) ∧ (isC G a172 13 ∧ f_J4_iterator k174 n175 a172  G (fun x176 G173 => ∃ fl177, f_X1_layThought_37 a0 k10 Q fl177 (k - k174) (n - n175) l1 x176 G173)))))))))))))))
theorem w_X1_layThought_10_b {a0 : Nat} {Q : Int → Wd → Prop} {k10 : Nat → Nat → Int → Wd → Prop} (hk10 : ∀ {k n : Nat} {l1 : Int} {G : Wd}, k10 k n l1 G → wp m_X1_layThought 6 k n 10 [some (vR (some a0)), some (vI l1), none, none] [] G (qI Q) noX) {k n : Nat} {l1 : Int} {G : Wd} (h : f_X1_layThought_10_b a0 k10 k n l1 G Q) : wp m_X1_layThought 6 k n 10 [some (vR (some a0)), some (vI l1), none, none] [] G (qI Q) noX := by
  unfold f_X1_layThought_10_b at h
  refine r_iload_n dX1_layThought_10 rfl rfl iI ?_
  refine r_aload_n dX1_layThought_11 rfl rfl iR ?_
  refine r_getR dX1_layThought_12 (fg1 (f := 0) fX1 (by decide) q700 rfl) h (fun x153 h => ?_)
  obtain ⟨a154, e, h⟩ := h
  refine wp.cast (L' := [some (vR (some a0)), some (vI l1), none, none]) (st' := [vR (some a154), vI l1]) rfl (by rw [e]) ?_
  refine r_getI dX1_layThought_15 (fg1 (f := 8) fX2 (by decide) q652 rfl) h (fun x155 h => ?_)
  refine r_icmp_ge (tgt := 71) dX1_layThought_18 (by decide) h (fun h => ?_) (fun h => ?_)
  · refine r_aload_n dX1_layThought_71 rfl rfl iR ?_
    refine r_getR dX1_layThought_72 (fg1 (f := 0) fX1 (by decide) q700 rfl) h (fun x156 h => ?_)
    obtain ⟨a157, e, h⟩ := h
    refine wp.cast (L' := [some (vR (some a0)), some (vI l1), none, none]) (st' := [vR (some a157)]) rfl (by rw [e]) ?_
    refine r_getR dX1_layThought_75 (fg1 (f := 1) fX2 (by decide) q639 rfl) h (fun x158 h => ?_)
    obtain ⟨a159, e, h⟩ := h
    refine wp.cast (L' := [some (vR (some a0)), some (vI l1), none, none]) (st' := [vR (some a159)]) rfl (by rw [e]) ?_
    obtain ⟨k161, n162, ⟨hk1, hn1⟩, h⟩ := h
    obtain ⟨hC, h⟩ := h
    refine r_callU dX1_layThought_78 hC (c_J2_iterator h) q1806 q1341 q1343 q1344 q96 q1345 rfl rfl yo_J2_iterator rfl (by decide) (by decide) rfl rc0 (by decide) hk1 hn1 (ofR fun x163 G160 h => ?_) nox
    refine r_astore_n (L' := [some (vR (some a0)), some (vR x163), none, none]) dX1_layThought_81 rfl rfl iR cR (by decide) ?_
    obtain ⟨fl164, h⟩ := h
    exact w_X1_layThought_82 fl164 h
  · refine r_aload_n dX1_layThought_21 rfl rfl iR ?_
    refine r_getR dX1_layThought_22 (fg1 (f := 0) fX1 (by decide) q700 rfl) h (fun x165 h => ?_)
    obtain ⟨a166, e, h⟩ := h
    refine wp.cast (L' := [some (vR (some a0)), some (vI l1), none, none]) (st' := [vR (some a166)]) rfl (by rw [e]) ?_
    refine r_getR dX1_layThought_25 (fg1 (f := 0) fX2 (by decide) q636 rfl) h (fun x167 h => ?_)
    refine r_iload_n dX1_layThought_28 rfl rfl iI ?_
    obtain ⟨a168, e, h⟩ := h
    refine wp.cast (L' := [some (vR (some a0)), some (vI l1), none, none]) (st' := [vI l1, vR (some a168)]) rfl (by rw [e]) ?_
    refine r_aald dX1_layThought_29 (by decide) (by decide) h (fun x169 h => ?_)
    obtain ⟨a170, e, h⟩ := h
    refine wp.cast (L' := [some (vR (some a0)), some (vI l1), none, none]) (st' := [vR (some a170)]) rfl (by rw [e]) ?_
    refine r_getR dX1_layThought_30 (fg1 (f := 1) fX3 (by decide) q558 rfl) h (fun x171 h => ?_)
    obtain ⟨a172, e, h⟩ := h
    refine wp.cast (L' := [some (vR (some a0)), some (vI l1), none, none]) (st' := [vR (some a172)]) rfl (by rw [e]) ?_
    obtain ⟨k174, n175, ⟨hk1, hn1⟩, h⟩ := h
    obtain ⟨hC, h⟩ := h
    refine r_callV dX1_layThought_33 hC (c_J4_iterator h) q1801 q1085 q1086 q99 q1087 rfl yo_J4_iterator rfl (by decide) (by decide) rfl rc0 (by decide) hk1 hn1 (ofR fun x176 G173 h => ?_) nox
    refine r_astore_n (L' := [some (vR (some a0)), some (vI l1), some (vR x176), none]) dX1_layThought_36 rfl rfl iR cI (by decide) ?_
    obtain ⟨fl177, h⟩ := h
    exact w_X1_layThought_37 hk10 fl177 h
def f_X1_layThought_10 (a0 : Nat) (Q : Int → Wd → Prop) : Nat → Nat → Nat → Int → Wd → Prop
  | 0, _, _, _, _ => False
  | fl + 1, k, n, l1, G => f_X1_layThought_10_b a0  (fun k n l1 G => f_X1_layThought_10 a0  Q fl k n l1 G) k n l1 G Q
theorem w_X1_layThought_10 {a0 : Nat} {Q : Int → Wd → Prop} : ∀ (fl : Nat) {k n : Nat} {l1 : Int} {G : Wd}, f_X1_layThought_10 a0 Q fl k n l1 G → wp m_X1_layThought 6 k n 10 [some (vR (some a0)), some (vI l1), none, none] [] G (qI Q) noX := by
  intro fl
  induction fl with
  | zero => intro k n l1 G h; exact (show False from h).elim
  | succ fl ih => intro k n l1 G h; exact w_X1_layThought_10_b  (fun h => ih h) h
def f_X1_layThought (k n : Nat) (a0 : Nat) (G : Wd) (Q : Int → Wd → Prop) : Prop :=
  gR G a0 [0] 17 (fun x178 => f_J16_fill_2 x178 none G (fun G179 => ∃ fl180, f_X1_layThought_10 a0 Q fl180 k n 0 G179))
theorem w_X1_layThought {a0 : Nat} {Q : Int → Wd → Prop} {k n : Nat} {G : Wd} (h : f_X1_layThought k n a0 G Q) : wp m_X1_layThought 6 k n 0 [some (vR (some a0)), none, none, none] [] G (qI Q) noX := by
  unfold f_X1_layThought at h
  refine r_aload_n dX1_layThought_0 rfl rfl iR ?_
  refine r_getR dX1_layThought_1 (fg1 (f := 17) fX1 (by decide) q717 rfl) h (fun x178 h => ?_)
  refine r_null dX1_layThought_4 ?_
  refine r_callS dX1_layThought_5 (c_J16_fill_2 h) q2045 q2046 q111 q2047 yo_J16_fill_2 rfl (by decide) (by decide) rfl rc0 (by decide) (Nat.zero_le _) (Nat.zero_le _) (ofV fun G179 h => ?_) nox
  refine r_iconst dX1_layThought_8 ?_
  refine r_istore_n (L' := [some (vR (some a0)), some (vI 0), none, none]) dX1_layThought_9 rfl rfl iI cR (by decide) ?_
  obtain ⟨fl180, h⟩ := h
  exact w_X1_layThought_10 fl180 h
theorem c_X1_layThought {a0 : Nat} {k n : Nat} {Q : Int → Wd → Prop} {G : Wd} (h : f_X1_layThought k n a0 G Q) : call yX1_layThought (Cond.code yX1_layThought cX1_layThought 4 (some .int)) 6 k n [vR (some a0)] G (qI Q) noX :=
  call.enter (by decide +kernel) (la_1 c1R (la_nil rfl)) rfl (w_X1_layThought h)
abbrev m_X1_asks : Mt := (yX1_asks.cls, cX1_asks, 8, some .int, [], yX1_asks.name)
theorem yo_X1_asks : yOK yX1_asks 0 := ⟨by decide +kernel, by decide +kernel, by decide +kernel⟩
def f_X1_asks_83 (a0 : Nat) (k21 : Nat → Nat → Int → Int → Int → Int → Wd → Prop) (k30 : Nat → Nat → Int → Int → Int → Int → Int → Wd → Prop) (k46 : Nat → Nat → Int → Int → Int → Int → Int → Int → Int → Wd → Prop) (k n : Nat) (l1 : Int) (l2 : Int) (l3 : Int) (l4 : Int) (l5 : Int) (l7 : Int) (s0 : Int) (s1 : Bool) (G : Wd) (Q : Int → Wd → Prop) : Prop :=
  k46 k n l1 l2 l3 l4 l5 (s0 + (b2i s1)) (l7 + 1) G
theorem w_X1_asks_83 {a0 : Nat} {Q : Int → Wd → Prop} {k21 : Nat → Nat → Int → Int → Int → Int → Wd → Prop} (hk21 : ∀ {k n : Nat} {l1 : Int} {l2 : Int} {l3 : Int} {l4 : Int} {G : Wd}, k21 k n l1 l2 l3 l4 G → wp m_X1_asks 7 k n 21 [some (vR (some a0)), some (vI l1), some (vI l2), some (vI l3), some (vI l4), none, none, none] [] G (qI Q) noX) {k30 : Nat → Nat → Int → Int → Int → Int → Int → Wd → Prop} (hk30 : ∀ {k n : Nat} {l1 : Int} {l2 : Int} {l3 : Int} {l4 : Int} {l5 : Int} {G : Wd}, k30 k n l1 l2 l3 l4 l5 G → wp m_X1_asks 7 k n 30 [some (vR (some a0)), some (vI l1), some (vI l2), some (vI l3), some (vI l4), some (vI l5), none, none] [] G (qI Q) noX) {k46 : Nat → Nat → Int → Int → Int → Int → Int → Int → Int → Wd → Prop} (hk46 : ∀ {k n : Nat} {l1 : Int} {l2 : Int} {l3 : Int} {l4 : Int} {l5 : Int} {l6 : Int} {l7 : Int} {G : Wd}, k46 k n l1 l2 l3 l4 l5 l6 l7 G → wp m_X1_asks 7 k n 46 [some (vR (some a0)), some (vI l1), some (vI l2), some (vI l3), some (vI l4), some (vI l5), some (vI l6), some (vI l7)] [] G (qI Q) noX) {k n : Nat} {l1 : Int} {l2 : Int} {l3 : Int} {l4 : Int} {l5 : Int} {l7 : Int} {s0 : Int} {s1 : Bool} {G : Wd} (h : f_X1_asks_83 a0 k21 k30 k46 k n l1 l2 l3 l4 l5 l7 s0 s1 G Q) : wp m_X1_asks 7 k n 83 [some (vR (some a0)), some (vI l1), some (vI l2), some (vI l3), some (vI l4), some (vI l5), none, some (vI l7)] [vB s1, vI s0] G (qI Q) noX := by
  unfold f_X1_asks_83 at h
  refine wp.cast (st' := [vI (b2i s1), vI s0]) rfl (congrArg (fun q => [q, vI s0]) (vBI s1)) ?_
  refine r_iadd dX1_asks_83 ?_
  refine r_istore (L' := [some (vR (some a0)), some (vI l1), some (vI l2), some (vI l3), some (vI l4), some (vI l5), some (vI (s0 + (b2i s1))), some (vI l7)]) dX1_asks_84 rfl iI cI (by decide) ?_
  refine r_iinc (L' := [some (vR (some a0)), some (vI l1), some (vI l2), some (vI l3), some (vI l4), some (vI l5), some (vI (s0 + (b2i s1))), some (vI (l7 + 1))]) dX1_asks_86 rfl rfl cI (by decide) ?_
  refine r_goto (tgt := 46) dX1_asks_89 (by decide) ?_
  exact hk46 h
def f_X1_asks_82 (a0 : Nat) (k21 : Nat → Nat → Int → Int → Int → Int → Wd → Prop) (k30 : Nat → Nat → Int → Int → Int → Int → Int → Wd → Prop) (k46 : Nat → Nat → Int → Int → Int → Int → Int → Int → Int → Wd → Prop) (k n : Nat) (l1 : Int) (l2 : Int) (l3 : Int) (l4 : Int) (l5 : Int) (l7 : Int) (s0 : Int) (G : Wd) (Q : Int → Wd → Prop) : Prop :=
  f_X1_asks_83 a0 k21 k30 k46 k n l1 l2 l3 l4 l5 l7 s0 false G Q
theorem w_X1_asks_82 {a0 : Nat} {Q : Int → Wd → Prop} {k21 : Nat → Nat → Int → Int → Int → Int → Wd → Prop} (hk21 : ∀ {k n : Nat} {l1 : Int} {l2 : Int} {l3 : Int} {l4 : Int} {G : Wd}, k21 k n l1 l2 l3 l4 G → wp m_X1_asks 7 k n 21 [some (vR (some a0)), some (vI l1), some (vI l2), some (vI l3), some (vI l4), none, none, none] [] G (qI Q) noX) {k30 : Nat → Nat → Int → Int → Int → Int → Int → Wd → Prop} (hk30 : ∀ {k n : Nat} {l1 : Int} {l2 : Int} {l3 : Int} {l4 : Int} {l5 : Int} {G : Wd}, k30 k n l1 l2 l3 l4 l5 G → wp m_X1_asks 7 k n 30 [some (vR (some a0)), some (vI l1), some (vI l2), some (vI l3), some (vI l4), some (vI l5), none, none] [] G (qI Q) noX) {k46 : Nat → Nat → Int → Int → Int → Int → Int → Int → Int → Wd → Prop} (hk46 : ∀ {k n : Nat} {l1 : Int} {l2 : Int} {l3 : Int} {l4 : Int} {l5 : Int} {l6 : Int} {l7 : Int} {G : Wd}, k46 k n l1 l2 l3 l4 l5 l6 l7 G → wp m_X1_asks 7 k n 46 [some (vR (some a0)), some (vI l1), some (vI l2), some (vI l3), some (vI l4), some (vI l5), some (vI l6), some (vI l7)] [] G (qI Q) noX) {k n : Nat} {l1 : Int} {l2 : Int} {l3 : Int} {l4 : Int} {l5 : Int} {l7 : Int} {s0 : Int} {G : Wd} (h : f_X1_asks_82 a0 k21 k30 k46 k n l1 l2 l3 l4 l5 l7 s0 G Q) : wp m_X1_asks 7 k n 82 [some (vR (some a0)), some (vI l1), some (vI l2), some (vI l3), some (vI l4), some (vI l5), none, some (vI l7)] [vI s0] G (qI Q) noX := by
  unfold f_X1_asks_82 at h
  refine r_iconst dX1_asks_82 ?_
  refine wp.cast (st' := [vB false, vI s0]) rfl (congrArg (fun q => [q, vI s0]) vI0) ?_
  exact w_X1_asks_83 hk21 hk30 hk46 h
def f_X1_asks_124 (a0 : Nat) (k21 : Nat → Nat → Int → Int → Int → Int → Wd → Prop) (k30 : Nat → Nat → Int → Int → Int → Int → Int → Wd → Prop) (k n : Nat) (l1 : Int) (l2 : Int) (l3 : Int) (l4 : Int) (l5 : Int) (G : Wd) (Q : Int → Wd → Prop) : Prop :=
  k30 k n l1 l2 l3 l4 (l5 + 1) G
theorem w_X1_asks_124 {a0 : Nat} {Q : Int → Wd → Prop} {k21 : Nat → Nat → Int → Int → Int → Int → Wd → Prop} (hk21 : ∀ {k n : Nat} {l1 : Int} {l2 : Int} {l3 : Int} {l4 : Int} {G : Wd}, k21 k n l1 l2 l3 l4 G → wp m_X1_asks 7 k n 21 [some (vR (some a0)), some (vI l1), some (vI l2), some (vI l3), some (vI l4), none, none, none] [] G (qI Q) noX) {k30 : Nat → Nat → Int → Int → Int → Int → Int → Wd → Prop} (hk30 : ∀ {k n : Nat} {l1 : Int} {l2 : Int} {l3 : Int} {l4 : Int} {l5 : Int} {G : Wd}, k30 k n l1 l2 l3 l4 l5 G → wp m_X1_asks 7 k n 30 [some (vR (some a0)), some (vI l1), some (vI l2), some (vI l3), some (vI l4), some (vI l5), none, none] [] G (qI Q) noX) {k n : Nat} {l1 : Int} {l2 : Int} {l3 : Int} {l4 : Int} {l5 : Int} {G : Wd} (h : f_X1_asks_124 a0 k21 k30 k n l1 l2 l3 l4 l5 G Q) : wp m_X1_asks 7 k n 124 [some (vR (some a0)), some (vI l1), some (vI l2), some (vI l3), some (vI l4), some (vI l5), none, none] [] G (qI Q) noX := by
  unfold f_X1_asks_124 at h
  refine r_iinc (L' := [some (vR (some a0)), some (vI l1), some (vI l2), some (vI l3), some (vI l4), some (vI (l5 + 1)), none, none]) dX1_asks_124 rfl rfl cI (by decide) ?_
  refine r_goto (tgt := 30) dX1_asks_127 (by decide) ?_
  exact hk30 h
def f_X1_asks_46_b (a0 : Nat) (k21 : Nat → Nat → Int → Int → Int → Int → Wd → Prop) (k30 : Nat → Nat → Int → Int → Int → Int → Int → Wd → Prop) (k46 : Nat → Nat → Int → Int → Int → Int → Int → Int → Int → Wd → Prop) (k n : Nat) (l1 : Int) (l2 : Int) (l3 : Int) (l4 : Int) (l5 : Int) (l6 : Int) (l7 : Int) (G : Wd) (Q : Int → Wd → Prop) : Prop :=
  br l7 80 ((80 : Int) ≤ l7) (((R32 l6 ∧ R32 (l1 - l6)) ∧ br (max l6 (l1 - l6)) l3 ((max l6 (l1 - l6)) < l3) (f_X1_asks_124 a0 k21 k30 k n l1 ((10 * l4) + l5) (max l6 (l1 - l6)) l4 l5 G Q) (f_X1_asks_124 a0 k21 k30 k n l1 l2 l3 l4 l5 G Q))) (gR G a0 [0] 17 (fun x39 => nn x39 (fun a40 => ldR G a40 8 l7 (fun x41 => brN x41 (f_X1_asks_82 a0 k21 k30 k46 k n l1 l2 l3 l4 l5 l7 l6 G Q) (fun a42 => (isC G a0 0 ∧ f_X1_isSo a0 l7 l4 l5 G (fun x44 G43 => brB x44 (f_X1_asks_83 a0 k21 k30 k46 k n l1 l2 l3 l4 l5 l7 l6 true G43 Q) (f_X1_asks_82 a0 k21 k30 k46 k n l1 l2 l3 l4 l5 l7 l6 G43 Q))))))))
theorem w_X1_asks_46_b {a0 : Nat} {Q : Int → Wd → Prop} {k21 : Nat → Nat → Int → Int → Int → Int → Wd → Prop} (hk21 : ∀ {k n : Nat} {l1 : Int} {l2 : Int} {l3 : Int} {l4 : Int} {G : Wd}, k21 k n l1 l2 l3 l4 G → wp m_X1_asks 7 k n 21 [some (vR (some a0)), some (vI l1), some (vI l2), some (vI l3), some (vI l4), none, none, none] [] G (qI Q) noX) {k30 : Nat → Nat → Int → Int → Int → Int → Int → Wd → Prop} (hk30 : ∀ {k n : Nat} {l1 : Int} {l2 : Int} {l3 : Int} {l4 : Int} {l5 : Int} {G : Wd}, k30 k n l1 l2 l3 l4 l5 G → wp m_X1_asks 7 k n 30 [some (vR (some a0)), some (vI l1), some (vI l2), some (vI l3), some (vI l4), some (vI l5), none, none] [] G (qI Q) noX) {k46 : Nat → Nat → Int → Int → Int → Int → Int → Int → Int → Wd → Prop} (hk46 : ∀ {k n : Nat} {l1 : Int} {l2 : Int} {l3 : Int} {l4 : Int} {l5 : Int} {l6 : Int} {l7 : Int} {G : Wd}, k46 k n l1 l2 l3 l4 l5 l6 l7 G → wp m_X1_asks 7 k n 46 [some (vR (some a0)), some (vI l1), some (vI l2), some (vI l3), some (vI l4), some (vI l5), some (vI l6), some (vI l7)] [] G (qI Q) noX) {k n : Nat} {l1 : Int} {l2 : Int} {l3 : Int} {l4 : Int} {l5 : Int} {l6 : Int} {l7 : Int} {G : Wd} (h : f_X1_asks_46_b a0 k21 k30 k46 k n l1 l2 l3 l4 l5 l6 l7 G Q) : wp m_X1_asks 7 k n 46 [some (vR (some a0)), some (vI l1), some (vI l2), some (vI l3), some (vI l4), some (vI l5), some (vI l6), some (vI l7)] [] G (qI Q) noX := by
  unfold f_X1_asks_46_b at h
  refine r_iload dX1_asks_46 rfl iI ?_
  refine r_bipush dX1_asks_48 (by decide) ?_
  refine r_icmp_ge (tgt := 92) dX1_asks_50 (by decide) h (fun h => ?_) (fun h => ?_)
  · refine r_iload dX1_asks_92 rfl iI ?_
    refine r_iload_n dX1_asks_94 rfl rfl iI ?_
    refine r_iload dX1_asks_95 rfl iI ?_
    refine r_isub dX1_asks_97 ?_
    refine r_mmax dX1_asks_98 q1037 rc0 (by decide) (by decide) h (fun h => ?_)
    refine r_istore (L' := [some (vR (some a0)), some (vI l1), some (vI l2), some (vI l3), some (vI l4), some (vI l5), some (vI l6), some (vI (max l6 (l1 - l6)))]) dX1_asks_101 rfl iI cI (by decide) ?_
    refine r_iload dX1_asks_103 rfl iI ?_
    refine r_iload_n dX1_asks_105 rfl rfl iI ?_
    refine r_icmp_lt (tgt := 112) dX1_asks_106 (by decide) h (fun h => ?_) (fun h => ?_)
    · refine r_bipush dX1_asks_112 (by decide) ?_
      refine r_iload dX1_asks_114 rfl iI ?_
      refine r_imul dX1_asks_116 ?_
      refine r_iload dX1_asks_117 rfl iI ?_
      refine r_iadd dX1_asks_119 ?_
      refine r_istore_n (L' := [some (vR (some a0)), some (vI l1), some (vI ((10 * l4) + l5)), some (vI l3), some (vI l4), some (vI l5), some (vI l6), some (vI (max l6 (l1 - l6)))]) dX1_asks_120 rfl rfl iI cI (by decide) ?_
      refine r_iload dX1_asks_121 rfl iI ?_
      refine r_istore_n (L' := [some (vR (some a0)), some (vI l1), some (vI ((10 * l4) + l5)), some (vI (max l6 (l1 - l6))), some (vI l4), some (vI l5), some (vI l6), some (vI (max l6 (l1 - l6)))]) dX1_asks_123 rfl rfl iI cI (by decide) ?_
      refine wp.locals (L' := [some (vR (some a0)), some (vI l1), some (vI ((10 * l4) + l5)), some (vI (max l6 (l1 - l6))), some (vI l4), some (vI l5), none, none]) (ls_s (ls_s (ls_s (ls_s (ls_s (ls_s (ls_n (ls_n ls_0)))))))) ?_
      exact w_X1_asks_124 hk21 hk30 h
    · refine r_goto (tgt := 124) dX1_asks_109 (by decide) ?_
      refine wp.locals (L' := [some (vR (some a0)), some (vI l1), some (vI l2), some (vI l3), some (vI l4), some (vI l5), none, none]) (ls_s (ls_s (ls_s (ls_s (ls_s (ls_s (ls_n (ls_n ls_0)))))))) ?_
      exact w_X1_asks_124 hk21 hk30 h
  · refine r_iload dX1_asks_53 rfl iI ?_
    refine r_aload_n dX1_asks_55 rfl rfl iR ?_
    refine r_getR dX1_asks_56 (fg1 (f := 17) fX1 (by decide) q717 rfl) h (fun x39 h => ?_)
    refine r_iload dX1_asks_59 rfl iI ?_
    obtain ⟨a40, e, h⟩ := h
    refine wp.cast (L' := [some (vR (some a0)), some (vI l1), some (vI l2), some (vI l3), some (vI l4), some (vI l5), some (vI l6), some (vI l7)]) (st' := [vI l7, vR (some a40), vI l6]) rfl (by rw [e]) ?_
    refine r_aald dX1_asks_61 (by decide) (by decide) h (fun x41 h => ?_)
    refine r_ifnullV (tgt := 82) dX1_asks_62 (by decide) h (fun e h => ?_) (fun a42 e h => ?_)
    · refine wp.locals (L' := [some (vR (some a0)), some (vI l1), some (vI l2), some (vI l3), some (vI l4), some (vI l5), none, some (vI l7)]) (ls_s (ls_s (ls_s (ls_s (ls_s (ls_s (ls_n (ls_s ls_0)))))))) ?_
      exact w_X1_asks_82 hk21 hk30 hk46 h
    · refine r_aload_n dX1_asks_65 rfl rfl iR ?_
      refine r_iload dX1_asks_66 rfl iI ?_
      refine r_iload dX1_asks_68 rfl iI ?_
      refine r_iload dX1_asks_70 rfl iI ?_
      obtain ⟨hC, h⟩ := h
      refine r_callV dX1_asks_72 hC (c_X1_isSo h) q2052 q2054 qs36 q92 q2055 rfl yo_X1_isSo rfl (by decide) (by decide) rfl (rc1 c1I rc0) (by decide) (Nat.zero_le _) (Nat.zero_le _) (ofB fun x44 G43 h => ?_) nox
      refine r_ifZ_eq (tgt := 82) dX1_asks_75 (by decide) h (fun h => ?_) (fun h => ?_)
      · refine wp.locals (L' := [some (vR (some a0)), some (vI l1), some (vI l2), some (vI l3), some (vI l4), some (vI l5), none, some (vI l7)]) (ls_s (ls_s (ls_s (ls_s (ls_s (ls_s (ls_n (ls_s ls_0)))))))) ?_
        exact w_X1_asks_82 hk21 hk30 hk46 h
      · refine r_iconst dX1_asks_78 ?_
        refine r_goto (tgt := 83) dX1_asks_79 (by decide) ?_
        refine wp.cast (st' := [vB true, vI l6]) rfl (congrArg (fun q => [q, vI l6]) vI1) ?_
        refine wp.locals (L' := [some (vR (some a0)), some (vI l1), some (vI l2), some (vI l3), some (vI l4), some (vI l5), none, some (vI l7)]) (ls_s (ls_s (ls_s (ls_s (ls_s (ls_s (ls_n (ls_s ls_0)))))))) ?_
        exact w_X1_asks_83 hk21 hk30 hk46 h
def f_X1_asks_46 (a0 : Nat) (k21 : Nat → Nat → Int → Int → Int → Int → Wd → Prop) (k30 : Nat → Nat → Int → Int → Int → Int → Int → Wd → Prop) (Q : Int → Wd → Prop) : Nat → Nat → Nat → Int → Int → Int → Int → Int → Int → Int → Wd → Prop
  | 0, _, _, _, _, _, _, _, _, _, _ => False
  | fl + 1, k, n, l1, l2, l3, l4, l5, l6, l7, G => f_X1_asks_46_b a0 k21 k30 (fun k n l1 l2 l3 l4 l5 l6 l7 G => f_X1_asks_46 a0 k21 k30 Q fl k n l1 l2 l3 l4 l5 l6 l7 G) k n l1 l2 l3 l4 l5 l6 l7 G Q
theorem w_X1_asks_46 {a0 : Nat} {Q : Int → Wd → Prop} {k21 : Nat → Nat → Int → Int → Int → Int → Wd → Prop} (hk21 : ∀ {k n : Nat} {l1 : Int} {l2 : Int} {l3 : Int} {l4 : Int} {G : Wd}, k21 k n l1 l2 l3 l4 G → wp m_X1_asks 7 k n 21 [some (vR (some a0)), some (vI l1), some (vI l2), some (vI l3), some (vI l4), none, none, none] [] G (qI Q) noX) {k30 : Nat → Nat → Int → Int → Int → Int → Int → Wd → Prop} (hk30 : ∀ {k n : Nat} {l1 : Int} {l2 : Int} {l3 : Int} {l4 : Int} {l5 : Int} {G : Wd}, k30 k n l1 l2 l3 l4 l5 G → wp m_X1_asks 7 k n 30 [some (vR (some a0)), some (vI l1), some (vI l2), some (vI l3), some (vI l4), some (vI l5), none, none] [] G (qI Q) noX) : ∀ (fl : Nat) {k n : Nat} {l1 : Int} {l2 : Int} {l3 : Int} {l4 : Int} {l5 : Int} {l6 : Int} {l7 : Int} {G : Wd}, f_X1_asks_46 a0 k21 k30 Q fl k n l1 l2 l3 l4 l5 l6 l7 G → wp m_X1_asks 7 k n 46 [some (vR (some a0)), some (vI l1), some (vI l2), some (vI l3), some (vI l4), some (vI l5), some (vI l6), some (vI l7)] [] G (qI Q) noX := by
  intro fl
  induction fl with
  | zero => intro k n l1 l2 l3 l4 l5 l6 l7 G h; exact (show False from h).elim
  | succ fl ih => intro k n l1 l2 l3 l4 l5 l6 l7 G h; exact w_X1_asks_46_b hk21 hk30 (fun h => ih h) h
def f_X1_asks_30_b (a0 : Nat) (k21 : Nat → Nat → Int → Int → Int → Int → Wd → Prop) (k30 : Nat → Nat → Int → Int → Int → Int → Int → Wd → Prop) (k n : Nat) (l1 : Int) (l2 : Int) (l3 : Int) (l4 : Int) (l5 : Int) (G : Wd) (Q : Int → Wd → Prop) : Prop :=
  f_X1_highOf l4 G (fun x46 G45 => br l5 x46 (x46 < l5) (k21 k n l1 l2 l3 (l4 + 1) G45) (∃ fl47, f_X1_asks_46 a0 k21 k30 Q fl47 k n l1 l2 l3 l4 l5 0 0 G45))
theorem w_X1_asks_30_b {a0 : Nat} {Q : Int → Wd → Prop} {k21 : Nat → Nat → Int → Int → Int → Int → Wd → Prop} (hk21 : ∀ {k n : Nat} {l1 : Int} {l2 : Int} {l3 : Int} {l4 : Int} {G : Wd}, k21 k n l1 l2 l3 l4 G → wp m_X1_asks 7 k n 21 [some (vR (some a0)), some (vI l1), some (vI l2), some (vI l3), some (vI l4), none, none, none] [] G (qI Q) noX) {k30 : Nat → Nat → Int → Int → Int → Int → Int → Wd → Prop} (hk30 : ∀ {k n : Nat} {l1 : Int} {l2 : Int} {l3 : Int} {l4 : Int} {l5 : Int} {G : Wd}, k30 k n l1 l2 l3 l4 l5 G → wp m_X1_asks 7 k n 30 [some (vR (some a0)), some (vI l1), some (vI l2), some (vI l3), some (vI l4), some (vI l5), none, none] [] G (qI Q) noX) {k n : Nat} {l1 : Int} {l2 : Int} {l3 : Int} {l4 : Int} {l5 : Int} {G : Wd} (h : f_X1_asks_30_b a0 k21 k30 k n l1 l2 l3 l4 l5 G Q) : wp m_X1_asks 7 k n 30 [some (vR (some a0)), some (vI l1), some (vI l2), some (vI l3), some (vI l4), some (vI l5), none, none] [] G (qI Q) noX := by
  unfold f_X1_asks_30_b at h
  refine r_iload dX1_asks_30 rfl iI ?_
  refine r_iload dX1_asks_32 rfl iI ?_
  refine r_callS dX1_asks_34 (c_X1_highOf h) q2030 q2031 q92 q2032 yo_X1_highOf rfl (by decide) (by decide) rfl (rc1 c1I rc0) (by decide) (Nat.zero_le _) (Nat.zero_le _) (ofI fun x46 G45 h => ?_) nox
  refine r_icmp_gt (tgt := 130) dX1_asks_37 (by decide) h (fun h => ?_) (fun h => ?_)
  · refine r_iinc (L' := [some (vR (some a0)), some (vI l1), some (vI l2), some (vI l3), some (vI (l4 + 1)), some (vI l5), none, none]) dX1_asks_130 rfl rfl cI (by decide) ?_
    refine r_goto (tgt := 21) dX1_asks_133 (by decide) ?_
    refine wp.locals (L' := [some (vR (some a0)), some (vI l1), some (vI l2), some (vI l3), some (vI (l4 + 1)), none, none, none]) (ls_s (ls_s (ls_s (ls_s (ls_s (ls_n (ls_n (ls_n ls_0)))))))) ?_
    exact hk21 h
  · refine r_iconst dX1_asks_40 ?_
    refine r_istore (L' := [some (vR (some a0)), some (vI l1), some (vI l2), some (vI l3), some (vI l4), some (vI l5), some (vI 0), none]) dX1_asks_41 rfl iI cI (by decide) ?_
    refine r_iconst dX1_asks_43 ?_
    refine r_istore (L' := [some (vR (some a0)), some (vI l1), some (vI l2), some (vI l3), some (vI l4), some (vI l5), some (vI 0), some (vI 0)]) dX1_asks_44 rfl iI cI (by decide) ?_
    obtain ⟨fl47, h⟩ := h
    exact w_X1_asks_46 hk21 hk30 fl47 h
def f_X1_asks_30 (a0 : Nat) (k21 : Nat → Nat → Int → Int → Int → Int → Wd → Prop) (Q : Int → Wd → Prop) : Nat → Nat → Nat → Int → Int → Int → Int → Int → Wd → Prop
  | 0, _, _, _, _, _, _, _, _ => False
  | fl + 1, k, n, l1, l2, l3, l4, l5, G => f_X1_asks_30_b a0 k21 (fun k n l1 l2 l3 l4 l5 G => f_X1_asks_30 a0 k21 Q fl k n l1 l2 l3 l4 l5 G) k n l1 l2 l3 l4 l5 G Q
theorem w_X1_asks_30 {a0 : Nat} {Q : Int → Wd → Prop} {k21 : Nat → Nat → Int → Int → Int → Int → Wd → Prop} (hk21 : ∀ {k n : Nat} {l1 : Int} {l2 : Int} {l3 : Int} {l4 : Int} {G : Wd}, k21 k n l1 l2 l3 l4 G → wp m_X1_asks 7 k n 21 [some (vR (some a0)), some (vI l1), some (vI l2), some (vI l3), some (vI l4), none, none, none] [] G (qI Q) noX) : ∀ (fl : Nat) {k n : Nat} {l1 : Int} {l2 : Int} {l3 : Int} {l4 : Int} {l5 : Int} {G : Wd}, f_X1_asks_30 a0 k21 Q fl k n l1 l2 l3 l4 l5 G → wp m_X1_asks 7 k n 30 [some (vR (some a0)), some (vI l1), some (vI l2), some (vI l3), some (vI l4), some (vI l5), none, none] [] G (qI Q) noX := by
  intro fl
  induction fl with
  | zero => intro k n l1 l2 l3 l4 l5 G h; exact (show False from h).elim
  | succ fl ih => intro k n l1 l2 l3 l4 l5 G h; exact w_X1_asks_30_b hk21 (fun h => ih h) h
def f_X1_asks_21_b (a0 : Nat) (k21 : Nat → Nat → Int → Int → Int → Int → Wd → Prop) (k n : Nat) (l1 : Int) (l2 : Int) (l3 : Int) (l4 : Int) (G : Wd) (Q : Int → Wd → Prop) : Prop :=
  br l4 3 ((3 : Int) < l4) (pF G a0 [0] 9 (vI 0) (fun G48 => ok32 l3 ((isC G48 a0 0 ∧ f_X1_tell a0 l3 G48 (fun G49 => Q l2 G49))))) (∃ fl50, f_X1_asks_30 a0 k21 Q fl50 k n l1 l2 l3 l4 0 G)
theorem w_X1_asks_21_b {a0 : Nat} {Q : Int → Wd → Prop} {k21 : Nat → Nat → Int → Int → Int → Int → Wd → Prop} (hk21 : ∀ {k n : Nat} {l1 : Int} {l2 : Int} {l3 : Int} {l4 : Int} {G : Wd}, k21 k n l1 l2 l3 l4 G → wp m_X1_asks 7 k n 21 [some (vR (some a0)), some (vI l1), some (vI l2), some (vI l3), some (vI l4), none, none, none] [] G (qI Q) noX) {k n : Nat} {l1 : Int} {l2 : Int} {l3 : Int} {l4 : Int} {G : Wd} (h : f_X1_asks_21_b a0 k21 k n l1 l2 l3 l4 G Q) : wp m_X1_asks 7 k n 21 [some (vR (some a0)), some (vI l1), some (vI l2), some (vI l3), some (vI l4), none, none, none] [] G (qI Q) noX := by
  unfold f_X1_asks_21_b at h
  refine r_iload dX1_asks_21 rfl iI ?_
  refine r_iconst dX1_asks_23 ?_
  refine r_icmp_gt (tgt := 136) dX1_asks_24 (by decide) h (fun h => ?_) (fun h => ?_)
  · refine r_aload_n dX1_asks_136 rfl rfl iR ?_
    refine r_iconst dX1_asks_137 ?_
    refine r_put dX1_asks_138 (fp1 (f := 9) fX1 (by decide) q709 rfl rfl rfl) fvI h (fun G48 h => ?_)
    refine r_aload_n dX1_asks_141 rfl rfl iR ?_
    refine r_iload_n dX1_asks_142 rfl rfl iI ?_
    refine r_i2l dX1_asks_143 h (fun h => ?_)
    obtain ⟨hC, h⟩ := h
    refine r_callV dX1_asks_144 hC (c_X1_tell h) q1761 q1763 qs27 q92 q1764 rfl yo_X1_tell rfl (by decide) (by decide) rfl rc0 (by decide) (Nat.zero_le _) (Nat.zero_le _) (ofV fun G49 h => ?_) nox
    refine r_iload_n dX1_asks_147 rfl rfl iI ?_
    exact r_iret rfl dX1_asks_148 ⟨_, rfl, h⟩
  · refine r_iconst dX1_asks_27 ?_
    refine r_istore (L' := [some (vR (some a0)), some (vI l1), some (vI l2), some (vI l3), some (vI l4), some (vI 0), none, none]) dX1_asks_28 rfl iI cI (by decide) ?_
    obtain ⟨fl50, h⟩ := h
    exact w_X1_asks_30 hk21 fl50 h
def f_X1_asks_21 (a0 : Nat) (Q : Int → Wd → Prop) : Nat → Nat → Nat → Int → Int → Int → Int → Wd → Prop
  | 0, _, _, _, _, _, _, _ => False
  | fl + 1, k, n, l1, l2, l3, l4, G => f_X1_asks_21_b a0  (fun k n l1 l2 l3 l4 G => f_X1_asks_21 a0  Q fl k n l1 l2 l3 l4 G) k n l1 l2 l3 l4 G Q
theorem w_X1_asks_21 {a0 : Nat} {Q : Int → Wd → Prop} : ∀ (fl : Nat) {k n : Nat} {l1 : Int} {l2 : Int} {l3 : Int} {l4 : Int} {G : Wd}, f_X1_asks_21 a0 Q fl k n l1 l2 l3 l4 G → wp m_X1_asks 7 k n 21 [some (vR (some a0)), some (vI l1), some (vI l2), some (vI l3), some (vI l4), none, none, none] [] G (qI Q) noX := by
  intro fl
  induction fl with
  | zero => intro k n l1 l2 l3 l4 G h; exact (show False from h).elim
  | succ fl ih => intro k n l1 l2 l3 l4 G h; exact w_X1_asks_21_b  (fun h => ih h) h
def f_X1_asks (k n : Nat) (a0 : Nat) (G : Wd) (Q : Int → Wd → Prop) : Prop :=
  (∃ k52 n53, (k52 ≤ k ∧ n53 ≤ n) ∧ (isC G a0 0 ∧ f_X1_layThought k52 n53 a0  G (fun x54 G51 => br0 x54 (¬ x54 = 0) (∃ fl55, f_X1_asks_21 a0 Q fl55 (k - k52) (n - n53) x54 (-1) 1000000 0 G51) (Q (-2) G51))))
theorem w_X1_asks {a0 : Nat} {Q : Int → Wd → Prop} {k n : Nat} {G : Wd} (h : f_X1_asks k n a0 G Q) : wp m_X1_asks 7 k n 0 [some (vR (some a0)), none, none, none, none, none, none, none] [] G (qI Q) noX := by
  unfold f_X1_asks at h
  refine r_aload_n dX1_asks_0 rfl rfl iR ?_
  obtain ⟨k52, n53, ⟨hk1, hn1⟩, h⟩ := h
  obtain ⟨hC, h⟩ := h
  refine r_callV dX1_asks_1 hC (c_X1_layThought h) q2041 q2043 qs34 q92 q2044 rfl yo_X1_layThought rfl (by decide) (by decide) rfl rc0 (by decide) hk1 hn1 (ofI fun x54 G51 h => ?_) nox
  refine r_istore_n (L' := [some (vR (some a0)), some (vI x54), none, none, none, none, none, none]) dX1_asks_4 rfl rfl iI cR (by decide) ?_
  refine r_iload_n dX1_asks_5 rfl rfl iI ?_
  refine r_if_ne (tgt := 12) dX1_asks_6 (by decide) h (fun h => ?_) (fun h => ?_)
  · refine r_iconst dX1_asks_12 ?_
    refine r_istore_n (L' := [some (vR (some a0)), some (vI x54), some (vI (-1)), none, none, none, none, none]) dX1_asks_13 rfl rfl iI cI (by decide) ?_
    refine r_ldcw (x := 1000000) dX1_asks_14 q2060 (by decide) ?_
    refine r_istore_n (L' := [some (vR (some a0)), some (vI x54), some (vI (-1)), some (vI 1000000), none, none, none, none]) dX1_asks_17 rfl rfl iI cI (by decide) ?_
    refine r_iconst dX1_asks_18 ?_
    refine r_istore (L' := [some (vR (some a0)), some (vI x54), some (vI (-1)), some (vI 1000000), some (vI 0), none, none, none]) dX1_asks_19 rfl iI cI (by decide) ?_
    obtain ⟨fl55, h⟩ := h
    exact w_X1_asks_21 fl55 h
  · refine r_bipush dX1_asks_9 (by decide) ?_
    exact r_iret rfl dX1_asks_11 ⟨_, rfl, h⟩
theorem c_X1_asks {a0 : Nat} {k n : Nat} {Q : Int → Wd → Prop} {G : Wd} (h : f_X1_asks k n a0 G Q) : call yX1_asks (Cond.code yX1_asks cX1_asks 8 (some .int)) 7 k n [vR (some a0)] G (qI Q) noX :=
  call.enter (by decide +kernel) (la_1 c1R (la_nil rfl)) rfl (w_X1_asks h)
abbrev m_X1_count : Mt := (yX1_count.cls, cX1_count, 2, some .int, [], yX1_count.name)
theorem yo_X1_count : yOK yX1_count 1 := ⟨by decide +kernel, by decide +kernel, by decide +kernel⟩
def f_X1_count (a0 : Nat) (a1 : Int) (G : Wd) (Q : Int → Wd → Prop) : Prop :=
  ok32 a1 (swc a1 0 (gR G a0 [0] 0 (fun x38 => nn x38 (fun a39 => gI G a39 [1] 8 (fun x40 => Q x40 G)))) (swc a1 1 (gR G a0 [0] 0 (fun x41 => nn x41 (fun a42 => (isC G a42 1 ∧ f_X2_inRings a42  G (fun x44 G43 => Q x44 G43))))) (swc a1 2 (gR G a0 [0] 0 (fun x45 => nn x45 (fun a46 => gR G a46 [1] 1 (fun x47 => nn x47 (fun a48 => (isC G a48 12 ∧ f_J3_size a48  G (fun x50 G49 => Q x50 G49))))))) (swc a1 3 (gR G a0 [0] 0 (fun x51 => nn x51 (fun a52 => gR G a52 [1] 2 (fun x53 => nn x53 (fun a54 => (isC G a54 12 ∧ f_J3_size a54  G (fun x56 G55 => Q x56 G55))))))) (swc a1 4 (gR G a0 [0] 0 (fun x57 => nn x57 (fun a58 => (isC G a58 1 ∧ f_X2_notTaken a58  G (fun x60 G59 => Q x60 G59))))) (swc a1 5 (gR G a0 [0] 0 (fun x61 => nn x61 (fun a62 => gI G a62 [1] 10 (fun x63 => Q x63 G)))) (swc a1 6 (gR G a0 [0] 0 (fun x64 => nn x64 (fun a65 => gI G a65 [1] 9 (fun x66 => Q x66 G)))) (swc a1 7 (gR G a0 [0] 0 (fun x67 => nn x67 (fun a68 => (isC G a68 1 ∧ f_X2_blocksSum a68  G (fun x70 G69 => Q x70 G69))))) (swc a1 8 (gI G a0 [0] 16 (fun x71 => Q x71 G)) (swc a1 9 (gI G a0 [0] 4 (fun x72 => Q x72 G)) (swc a1 10 (gI G a0 [0] 9 (fun x73 => Q x73 G)) (swc a1 11 (gI G a0 [0] 7 (fun x74 => Q x74 G)) (Q (-100) G)))))))))))))
theorem w_X1_count {a0 : Nat} {Q : Int → Wd → Prop} {a1 : Int} {G : Wd} (h : f_X1_count a0 a1 G Q) : wp m_X1_count 4 0 0 0 [some (vR (some a0)), some (vI a1)] [] G (qI Q) noX := by
  unfold f_X1_count at h
  refine r_iload_n dX1_count_0 rfl rfl iI ?_
  obtain ⟨hr, h⟩ := h
  refine r_swc h (fun e0 h => ?_) (fun e0 h => ?_)
  · refine r_tsIn (tgt := 64) dX1_count_1 hr e0 (by decide) (by decide) rfl (by decide) ?_
    refine r_aload_n dX1_count_64 rfl rfl iR ?_
    refine r_getR dX1_count_65 (fg1 (f := 0) fX1 (by decide) q700 rfl) h (fun x38 h => ?_)
    obtain ⟨a39, e, h⟩ := h
    refine wp.cast (L' := [some (vR (some a0)), some (vI a1)]) (st' := [vR (some a39)]) rfl (by rw [e]) ?_
    refine r_getI dX1_count_68 (fg1 (f := 8) fX2 (by decide) q652 rfl) h (fun x40 h => ?_)
    exact r_iret rfl dX1_count_71 ⟨_, rfl, h⟩
  · refine r_swc h (fun e1 h => ?_) (fun e1 h => ?_)
    · refine r_tsIn (tgt := 72) dX1_count_1 hr e1 (by decide) (by decide) rfl (by decide) ?_
      refine r_aload_n dX1_count_72 rfl rfl iR ?_
      refine r_getR dX1_count_73 (fg1 (f := 0) fX1 (by decide) q700 rfl) h (fun x41 h => ?_)
      obtain ⟨a42, e, h⟩ := h
      refine wp.cast (L' := [some (vR (some a0)), some (vI a1)]) (st' := [vR (some a42)]) rfl (by rw [e]) ?_
      obtain ⟨hC, h⟩ := h
      refine r_callV dX1_count_76 hC (c_X2_inRings h) q1832 q1833 q1834 q93 q1835 rfl yo_X2_inRings rfl (by decide) (by decide) rfl rc0 (by decide) (Nat.zero_le _) (Nat.zero_le _) (ofI fun x44 G43 h => ?_) nox
      exact r_iret rfl dX1_count_79 ⟨_, rfl, h⟩
    · refine r_swc h (fun e2 h => ?_) (fun e2 h => ?_)
      · refine r_tsIn (tgt := 80) dX1_count_1 hr e2 (by decide) (by decide) rfl (by decide) ?_
        refine r_aload_n dX1_count_80 rfl rfl iR ?_
        refine r_getR dX1_count_81 (fg1 (f := 0) fX1 (by decide) q700 rfl) h (fun x45 h => ?_)
        obtain ⟨a46, e, h⟩ := h
        refine wp.cast (L' := [some (vR (some a0)), some (vI a1)]) (st' := [vR (some a46)]) rfl (by rw [e]) ?_
        refine r_getR dX1_count_84 (fg1 (f := 1) fX2 (by decide) q639 rfl) h (fun x47 h => ?_)
        obtain ⟨a48, e, h⟩ := h
        refine wp.cast (L' := [some (vR (some a0)), some (vI a1)]) (st' := [vR (some a48)]) rfl (by rw [e]) ?_
        obtain ⟨hC, h⟩ := h
        refine r_callV dX1_count_87 hC (c_J3_size h) q1841 q1015 q1016 q97 q1017 rfl yo_J3_size rfl (by decide) (by decide) rfl rc0 (by decide) (Nat.zero_le _) (Nat.zero_le _) (ofI fun x50 G49 h => ?_) nox
        exact r_iret rfl dX1_count_90 ⟨_, rfl, h⟩
      · refine r_swc h (fun e3 h => ?_) (fun e3 h => ?_)
        · refine r_tsIn (tgt := 91) dX1_count_1 hr e3 (by decide) (by decide) rfl (by decide) ?_
          refine r_aload_n dX1_count_91 rfl rfl iR ?_
          refine r_getR dX1_count_92 (fg1 (f := 0) fX1 (by decide) q700 rfl) h (fun x51 h => ?_)
          obtain ⟨a52, e, h⟩ := h
          refine wp.cast (L' := [some (vR (some a0)), some (vI a1)]) (st' := [vR (some a52)]) rfl (by rw [e]) ?_
          refine r_getR dX1_count_95 (fg1 (f := 2) fX2 (by decide) q641 rfl) h (fun x53 h => ?_)
          obtain ⟨a54, e, h⟩ := h
          refine wp.cast (L' := [some (vR (some a0)), some (vI a1)]) (st' := [vR (some a54)]) rfl (by rw [e]) ?_
          obtain ⟨hC, h⟩ := h
          refine r_callV dX1_count_98 hC (c_J3_size h) q1841 q1015 q1016 q97 q1017 rfl yo_J3_size rfl (by decide) (by decide) rfl rc0 (by decide) (Nat.zero_le _) (Nat.zero_le _) (ofI fun x56 G55 h => ?_) nox
          exact r_iret rfl dX1_count_101 ⟨_, rfl, h⟩
        · refine r_swc h (fun e4 h => ?_) (fun e4 h => ?_)
          · refine r_tsIn (tgt := 102) dX1_count_1 hr e4 (by decide) (by decide) rfl (by decide) ?_
            refine r_aload_n dX1_count_102 rfl rfl iR ?_
            refine r_getR dX1_count_103 (fg1 (f := 0) fX1 (by decide) q700 rfl) h (fun x57 h => ?_)
            obtain ⟨a58, e, h⟩ := h
            refine wp.cast (L' := [some (vR (some a0)), some (vI a1)]) (st' := [vR (some a58)]) rfl (by rw [e]) ?_
            obtain ⟨hC, h⟩ := h
            refine r_callV dX1_count_106 hC (c_X2_notTaken h) q1842 q1843 q1844 q93 q1845 rfl yo_X2_notTaken rfl (by decide) (by decide) rfl rc0 (by decide) (Nat.zero_le _) (Nat.zero_le _) (ofI fun x60 G59 h => ?_) nox
            exact r_iret rfl dX1_count_109 ⟨_, rfl, h⟩
          · refine r_swc h (fun e5 h => ?_) (fun e5 h => ?_)
            · refine r_tsIn (tgt := 110) dX1_count_1 hr e5 (by decide) (by decide) rfl (by decide) ?_
              refine r_aload_n dX1_count_110 rfl rfl iR ?_
              refine r_getR dX1_count_111 (fg1 (f := 0) fX1 (by decide) q700 rfl) h (fun x61 h => ?_)
              obtain ⟨a62, e, h⟩ := h
              refine wp.cast (L' := [some (vR (some a0)), some (vI a1)]) (st' := [vR (some a62)]) rfl (by rw [e]) ?_
              refine r_getI dX1_count_114 (fg1 (f := 10) fX2 (by decide) q657 rfl) h (fun x63 h => ?_)
              exact r_iret rfl dX1_count_117 ⟨_, rfl, h⟩
            · refine r_swc h (fun e6 h => ?_) (fun e6 h => ?_)
              · refine r_tsIn (tgt := 118) dX1_count_1 hr e6 (by decide) (by decide) rfl (by decide) ?_
                refine r_aload_n dX1_count_118 rfl rfl iR ?_
                refine r_getR dX1_count_119 (fg1 (f := 0) fX1 (by decide) q700 rfl) h (fun x64 h => ?_)
                obtain ⟨a65, e, h⟩ := h
                refine wp.cast (L' := [some (vR (some a0)), some (vI a1)]) (st' := [vR (some a65)]) rfl (by rw [e]) ?_
                refine r_getI dX1_count_122 (fg1 (f := 9) fX2 (by decide) q654 rfl) h (fun x66 h => ?_)
                exact r_iret rfl dX1_count_125 ⟨_, rfl, h⟩
              · refine r_swc h (fun e7 h => ?_) (fun e7 h => ?_)
                · refine r_tsIn (tgt := 126) dX1_count_1 hr e7 (by decide) (by decide) rfl (by decide) ?_
                  refine r_aload_n dX1_count_126 rfl rfl iR ?_
                  refine r_getR dX1_count_127 (fg1 (f := 0) fX1 (by decide) q700 rfl) h (fun x67 h => ?_)
                  obtain ⟨a68, e, h⟩ := h
                  refine wp.cast (L' := [some (vR (some a0)), some (vI a1)]) (st' := [vR (some a68)]) rfl (by rw [e]) ?_
                  obtain ⟨hC, h⟩ := h
                  refine r_callV dX1_count_130 hC (c_X2_blocksSum h) q1038 q1039 q1040 q93 q1041 rfl yo_X2_blocksSum rfl (by decide) (by decide) rfl rc0 (by decide) (Nat.zero_le _) (Nat.zero_le _) (ofI fun x70 G69 h => ?_) nox
                  exact r_iret rfl dX1_count_133 ⟨_, rfl, h⟩
                · refine r_swc h (fun e8 h => ?_) (fun e8 h => ?_)
                  · refine r_tsIn (tgt := 134) dX1_count_1 hr e8 (by decide) (by decide) rfl (by decide) ?_
                    refine r_aload_n dX1_count_134 rfl rfl iR ?_
                    refine r_getI dX1_count_135 (fg1 (f := 16) fX1 (by decide) q716 rfl) h (fun x71 h => ?_)
                    exact r_iret rfl dX1_count_138 ⟨_, rfl, h⟩
                  · refine r_swc h (fun e9 h => ?_) (fun e9 h => ?_)
                    · refine r_tsIn (tgt := 139) dX1_count_1 hr e9 (by decide) (by decide) rfl (by decide) ?_
                      refine r_aload_n dX1_count_139 rfl rfl iR ?_
                      refine r_getI dX1_count_140 (fg1 (f := 4) fX1 (by decide) q704 rfl) h (fun x72 h => ?_)
                      exact r_iret rfl dX1_count_143 ⟨_, rfl, h⟩
                    · refine r_swc h (fun e10 h => ?_) (fun e10 h => ?_)
                      · refine r_tsIn (tgt := 144) dX1_count_1 hr e10 (by decide) (by decide) rfl (by decide) ?_
                        refine r_aload_n dX1_count_144 rfl rfl iR ?_
                        refine r_getI dX1_count_145 (fg1 (f := 9) fX1 (by decide) q709 rfl) h (fun x73 h => ?_)
                        exact r_iret rfl dX1_count_148 ⟨_, rfl, h⟩
                      · refine r_swc h (fun e11 h => ?_) (fun e11 h => ?_)
                        · refine r_tsIn (tgt := 149) dX1_count_1 hr e11 (by decide) (by decide) rfl (by decide) ?_
                          refine r_aload_n dX1_count_149 rfl rfl iR ?_
                          refine r_getI dX1_count_150 (fg1 (f := 7) fX1 (by decide) q707 rfl) h (fun x74 h => ?_)
                          exact r_iret rfl dX1_count_153 ⟨_, rfl, h⟩
                        · refine r_tsOut (tgt := 154) dX1_count_1 hr (by omega) (by decide) ?_
                          refine r_bipush dX1_count_154 (by decide) ?_
                          exact r_iret rfl dX1_count_156 ⟨_, rfl, h⟩
theorem c_X1_count {a0 : Nat} {a1 : Int} {Q : Int → Wd → Prop} {G : Wd} (h : f_X1_count a0 a1 G Q) : call yX1_count (Cond.code yX1_count cX1_count 2 (some .int)) 4 0 0 [vR (some a0), vI a1] G (qI Q) noX :=
  call.enter (by decide +kernel) (la_1 c1R (la_1 c1I (la_nil rfl))) rfl (w_X1_count h)
abbrev m_X2_init : Mt := (yX2_init.cls, cX2_init, 2, none, [], yX2_init.name)
theorem yo_X2_init : yOK yX2_init 0 := ⟨by decide +kernel, by decide +kernel, by decide +kernel⟩
def f_X2_init_125_b (a0 : Nat) (k125 : Nat → Nat → Int → Wd → Prop) (k n : Nat) (l1 : Int) (G : Wd) (Q : Wd → Prop) : Prop :=
  br l1 5 ((5 : Int) ≤ l1) (Q G) (gR G a0 [1] 0 (fun x56 => nO G k n 2 17 zX3 (fun a57 G58 => (∃ k60 n61, (k60 ≤ (k - 1) ∧ n61 ≤ (n - 17)) ∧ f_X3_init k60 n61 a57 l1 G58 (fun G59 => nn x56 (fun a62 => stR G59 a62 7 l1 (some a57) [2] (fun G63 => k125 ((k - 1) - k60) ((n - 17) - n61) (l1 + 1) G63)))))))
theorem w_X2_init_125_b {a0 : Nat} {Q : Wd → Prop} {k125 : Nat → Nat → Int → Wd → Prop} (hk125 : ∀ {k n : Nat} {l1 : Int} {G : Wd}, k125 k n l1 G → wp m_X2_init 5 k n 125 [some (vR (some a0)), some (vI l1)] [] G (qV Q) noX) {k n : Nat} {l1 : Int} {G : Wd} (h : f_X2_init_125_b a0 k125 k n l1 G Q) : wp m_X2_init 5 k n 125 [some (vR (some a0)), some (vI l1)] [] G (qV Q) noX := by
  unfold f_X2_init_125_b at h
  refine r_iload_n dX2_init_125 rfl rfl iI ?_
  refine r_iconst dX2_init_126 ?_
  refine r_icmp_ge (tgt := 150) dX2_init_127 (by decide) h (fun h => ?_) (fun h => ?_)
  · exact r_vret rfl dX2_init_150 ⟨rfl, h⟩
  · refine r_aload_n dX2_init_130 rfl rfl iR ?_
    refine r_getR dX2_init_131 (fg1 (f := 0) fX2 (by decide) q635 rfl) h (fun x56 h => ?_)
    refine r_iload_n dX2_init_134 rfl rfl iI ?_
    refine r_new dX2_init_135 fX3 q150 q185 q98 dfX3 h (fun a57 G58 h => ?_)
    refine r_dup dX2_init_138 c1R ?_
    refine r_iload_n dX2_init_139 rfl rfl iI ?_
    obtain ⟨k60, n61, ⟨hk1, hn1⟩, h⟩ := h
    refine r_callI dX2_init_140 (c_X3_init h) rfl q186 q187 q98 q188 yo_X3_init rfl (by decide) (by decide) rfl (rc1 c1R (rc1 c1I (rc1 c1R rc0))) (by decide) hk1 hn1 (ofV fun G59 h => ?_) nox
    obtain ⟨a62, e, h⟩ := h
    refine wp.cast (L' := [some (vR (some a0)), some (vI l1)]) (st' := [vR (some a57), vI l1, vR (some a62)]) rfl (by rw [e]) ?_
    refine r_aast dX2_init_143 kd7 h (fun G63 h => ?_)
    refine r_iinc (L' := [some (vR (some a0)), some (vI (l1 + 1))]) dX2_init_144 rfl rfl cR (by decide) ?_
    refine r_goto (tgt := 125) dX2_init_147 (by decide) ?_
    exact hk125 h
def f_X2_init_125 (a0 : Nat) (Q : Wd → Prop) : Nat → Nat → Nat → Int → Wd → Prop
  | 0, _, _, _, _ => False
  | fl + 1, k, n, l1, G => f_X2_init_125_b a0  (fun k n l1 G => f_X2_init_125 a0  Q fl k n l1 G) k n l1 G Q
theorem w_X2_init_125 {a0 : Nat} {Q : Wd → Prop} : ∀ (fl : Nat) {k n : Nat} {l1 : Int} {G : Wd}, f_X2_init_125 a0 Q fl k n l1 G → wp m_X2_init 5 k n 125 [some (vR (some a0)), some (vI l1)] [] G (qV Q) noX := by
  intro fl
  induction fl with
  | zero => intro k n l1 G h; exact (show False from h).elim
  | succ fl ih => intro k n l1 G h; exact w_X2_init_125_b  (fun h => ih h) h
def f_X2_init (k n : Nat) (a0 : Nat) (G : Wd) (Q : Wd → Prop) : Prop :=
  nA G k n 5 (fun l => aR 7 l (fun _ => none)) (fun a64 G65 => pF G65 a0 [1] 0 (vR (some a64)) (fun G66 => nO G66 (k - 1) (n - (5 : Int).toNat) 12 4 zJ3 (fun a67 G68 => f_J3_init a67  G68 (fun G69 => pF G69 a0 [1] 1 (vR (some a67)) (fun G70 => nO G70 ((k - 1) - 1) ((n - (5 : Int).toNat) - 4) 12 4 zJ3 (fun a71 G72 => f_J3_init a71  G72 (fun G73 => pF G73 a0 [1] 2 (vR (some a71)) (fun G74 => nA G74 (((k - 1) - 1) - 1) (((n - (5 : Int).toNat) - 4) - 4) 10 (fun l => aI 0 l (fun _ => 0)) (fun a75 G76 => pF G76 a0 [1] 3 (vR (some a75)) (fun G77 => nA G77 ((((k - 1) - 1) - 1) - 1) ((((n - (5 : Int).toNat) - 4) - 4) - (10 : Int).toNat) 4 (fun l => aI 0 l (fun _ => 0)) (fun a78 G79 => (stI G79 a78 0 0 0 (fun G80 => (stI G80 a78 0 1 3 (fun G81 => (stI G81 a78 0 2 2 (fun G82 => (stI G82 a78 0 3 1 (fun G83 => pF G83 a0 [1] 4 (vR (some a78)) (fun G84 => nA G84 (((((k - 1) - 1) - 1) - 1) - 1) (((((n - (5 : Int).toNat) - 4) - 4) - (10 : Int).toNat) - (4 : Int).toNat) 4 (fun l => aI 0 l (fun _ => 0)) (fun a85 G86 => (stI G86 a85 0 0 0 (fun G87 => (stI G87 a85 0 1 3 (fun G88 => (stI G88 a85 0 2 2 (fun G89 => (stI G89 a85 0 3 1 (fun G90 => pF G90 a0 [1] 5 (vR (some a85)) (fun G91 => nA G91 ((((((k - 1) - 1) - 1) - 1) - 1) - 1) ((((((n - (5 : Int).toNat) - 4) - 4) - (10 : Int).toNat) - (4 : Int).toNat) - (4 : Int).toNat) 4 (fun l => aI 0 l (fun _ => 0)) (fun a92 G93 => (stI G93 a92 0 0 4 (fun G94 => (stI G94 a92 0 1 4 (fun G95 => (stI G95 a92 0 2 4 (fun G96 => (stI G96 a92 0 3 4 (fun G97 => pF G97 a0 [1] 6 (vR (some a92)) (fun G98 => nA G98 (((((((k - 1) - 1) - 1) - 1) - 1) - 1) - 1) (((((((n - (5 : Int).toNat) - 4) - 4) - (10 : Int).toNat) - (4 : Int).toNat) - (4 : Int).toNat) - (4 : Int).toNat) 4 (fun l => aI 0 l (fun _ => 0)) (fun a99 G100 => pF G100 a0 [1] 7 (vR (some a99)) (fun G101 => pF G101 a0 [1] 9 (vI 2) (fun G102 => ∃ fl103, f_X2_init_125 a0 Q fl103 ((((((((k - 1) - 1) - 1) - 1) - 1) - 1) - 1) - 1) ((((((((n - (5 : Int).toNat) - 4) - 4) - (10 : Int).toNat) - (4 : Int).toNat) - (4 : Int).toNat) - (4 : Int).toNat) - (4 : Int).toNat) 0 G102)))))))))))))))))))))))))))))))))))))))))))
theorem w_X2_init {a0 : Nat} {Q : Wd → Prop} {k n : Nat} {G : Wd} (h : f_X2_init k n a0 G Q) : wp m_X2_init 5 k n 0 [some (vR (some a0)), none] [] G (qV Q) noX := by
  unfold f_X2_init at h
  refine r_aload_n dX2_init_0 rfl rfl iR ?_
  refine r_objInit dX2_init_1 q149 q142 q143 rc0 (by decide) (by decide) ?_
  refine r_aload_n dX2_init_4 rfl rfl iR ?_
  refine r_iconst dX2_init_5 ?_
  refine r_newR (kd := 7) dX2_init_6 (fun _ => rfl) q150 q151 h (fun a64 G65 h => ?_)
  refine r_put dX2_init_9 (fp1F (f := 0) fX2 (by decide) q635 rfl rfl rfl rfl) fvA h (fun G66 h => ?_)
  refine r_aload_n dX2_init_12 rfl rfl iR ?_
  refine r_new dX2_init_13 fJ3 q152 q153 q97 dfJ3 h (fun a67 G68 h => ?_)
  refine r_dup dX2_init_16 c1R ?_
  refine r_callI dX2_init_17 (c_J3_init h) rfl q154 q155 q97 q156 yo_J3_init rfl (by decide) (by decide) rfl (rc1 c1R (rc1 c1R rc0)) (by decide) (Nat.zero_le _) (Nat.zero_le _) (ofV fun G69 h => ?_) nox
  refine r_put dX2_init_20 (fp1F (f := 1) fX2 (by decide) q637 rfl rfl rfl rfl) fvO h (fun G70 h => ?_)
  refine r_aload_n dX2_init_23 rfl rfl iR ?_
  refine r_new dX2_init_24 fJ3 q152 q153 q97 dfJ3 h (fun a71 G72 h => ?_)
  refine r_dup dX2_init_27 c1R ?_
  refine r_callI dX2_init_28 (c_J3_init h) rfl q154 q155 q97 q156 yo_J3_init rfl (by decide) (by decide) rfl (rc1 c1R (rc1 c1R rc0)) (by decide) (Nat.zero_le _) (Nat.zero_le _) (ofV fun G73 h => ?_) nox
  refine r_put dX2_init_31 (fp1F (f := 2) fX2 (by decide) q640 rfl rfl rfl rfl) fvO h (fun G74 h => ?_)
  refine r_aload_n dX2_init_34 rfl rfl iR ?_
  refine r_bipush dX2_init_35 (by decide) ?_
  refine r_newI dX2_init_37 h (fun a75 G76 h => ?_)
  refine r_put dX2_init_39 (fp1F (f := 3) fX2 (by decide) q642 rfl rfl rfl rfl) fvA h (fun G77 h => ?_)
  refine r_aload_n dX2_init_42 rfl rfl iR ?_
  refine r_iconst dX2_init_43 ?_
  refine r_newI dX2_init_44 h (fun a78 G79 h => ?_)
  refine r_dup dX2_init_46 c1R ?_
  refine r_iconst dX2_init_47 ?_
  refine r_iconst dX2_init_48 ?_
  refine r_iast dX2_init_49 h (fun G80 h => ?_)
  refine r_dup dX2_init_50 c1R ?_
  refine r_iconst dX2_init_51 ?_
  refine r_iconst dX2_init_52 ?_
  refine r_iast dX2_init_53 h (fun G81 h => ?_)
  refine r_dup dX2_init_54 c1R ?_
  refine r_iconst dX2_init_55 ?_
  refine r_iconst dX2_init_56 ?_
  refine r_iast dX2_init_57 h (fun G82 h => ?_)
  refine r_dup dX2_init_58 c1R ?_
  refine r_iconst dX2_init_59 ?_
  refine r_iconst dX2_init_60 ?_
  refine r_iast dX2_init_61 h (fun G83 h => ?_)
  refine r_put dX2_init_62 (fp1F (f := 4) fX2 (by decide) q644 rfl rfl rfl rfl) fvA h (fun G84 h => ?_)
  refine r_aload_n dX2_init_65 rfl rfl iR ?_
  refine r_iconst dX2_init_66 ?_
  refine r_newI dX2_init_67 h (fun a85 G86 h => ?_)
  refine r_dup dX2_init_69 c1R ?_
  refine r_iconst dX2_init_70 ?_
  refine r_iconst dX2_init_71 ?_
  refine r_iast dX2_init_72 h (fun G87 h => ?_)
  refine r_dup dX2_init_73 c1R ?_
  refine r_iconst dX2_init_74 ?_
  refine r_iconst dX2_init_75 ?_
  refine r_iast dX2_init_76 h (fun G88 h => ?_)
  refine r_dup dX2_init_77 c1R ?_
  refine r_iconst dX2_init_78 ?_
  refine r_iconst dX2_init_79 ?_
  refine r_iast dX2_init_80 h (fun G89 h => ?_)
  refine r_dup dX2_init_81 c1R ?_
  refine r_iconst dX2_init_82 ?_
  refine r_iconst dX2_init_83 ?_
  refine r_iast dX2_init_84 h (fun G90 h => ?_)
  refine r_put dX2_init_85 (fp1F (f := 5) fX2 (by decide) q646 rfl rfl rfl rfl) fvA h (fun G91 h => ?_)
  refine r_aload_n dX2_init_88 rfl rfl iR ?_
  refine r_iconst dX2_init_89 ?_
  refine r_newI dX2_init_90 h (fun a92 G93 h => ?_)
  refine r_dup dX2_init_92 c1R ?_
  refine r_iconst dX2_init_93 ?_
  refine r_iconst dX2_init_94 ?_
  refine r_iast dX2_init_95 h (fun G94 h => ?_)
  refine r_dup dX2_init_96 c1R ?_
  refine r_iconst dX2_init_97 ?_
  refine r_iconst dX2_init_98 ?_
  refine r_iast dX2_init_99 h (fun G95 h => ?_)
  refine r_dup dX2_init_100 c1R ?_
  refine r_iconst dX2_init_101 ?_
  refine r_iconst dX2_init_102 ?_
  refine r_iast dX2_init_103 h (fun G96 h => ?_)
  refine r_dup dX2_init_104 c1R ?_
  refine r_iconst dX2_init_105 ?_
  refine r_iconst dX2_init_106 ?_
  refine r_iast dX2_init_107 h (fun G97 h => ?_)
  refine r_put dX2_init_108 (fp1F (f := 6) fX2 (by decide) q648 rfl rfl rfl rfl) fvA h (fun G98 h => ?_)
  refine r_aload_n dX2_init_111 rfl rfl iR ?_
  refine r_iconst dX2_init_112 ?_
  refine r_newI dX2_init_113 h (fun a99 G100 h => ?_)
  refine r_put dX2_init_115 (fp1F (f := 7) fX2 (by decide) q649 rfl rfl rfl rfl) fvA h (fun G101 h => ?_)
  refine r_aload_n dX2_init_118 rfl rfl iR ?_
  refine r_iconst dX2_init_119 ?_
  refine r_put dX2_init_120 (fp1 (f := 9) fX2 (by decide) q653 rfl rfl rfl) fvI h (fun G102 h => ?_)
  refine r_iconst dX2_init_123 ?_
  refine r_istore_n (L' := [some (vR (some a0)), some (vI 0)]) dX2_init_124 rfl rfl iI cR (by decide) ?_
  obtain ⟨fl103, h⟩ := h
  exact w_X2_init_125 fl103 h
theorem c_X2_init {a0 : Nat} {k n : Nat} {Q : Wd → Prop} {G : Wd} (h : f_X2_init k n a0 G Q) : call yX2_init (Cond.code yX2_init cX2_init 2 (none)) 5 k n [vR (some a0)] G (qV Q) noX :=
  call.enter (by decide +kernel) (la_1 c1R (la_nil rfl)) rfl (w_X2_init h)
abbrev m_X2_be : Mt := (yX2_be.cls, cX2_be, 4, none, [], yX2_be.name)
theorem yo_X2_be : yOK yX2_be 1 := ⟨by decide +kernel, by decide +kernel, by decide +kernel⟩
def f_X2_be_99_b (a0 : Nat) (k99 : Nat → Nat → Option Nat → Option Nat → Wd → Prop) (k n : Nat) (l1 : Option Nat) (l2 : Option Nat) (G : Wd) (Q : Wd → Prop) : Prop :=
  nn l2 (fun a100 => (isC G a100 16 ∧ f_J25_hasNext a100  G (fun x102 G101 => brB x102 ((isC G101 a100 16 ∧ f_J25_next a100  G101 (fun x126 G125 => cst G125 x126 [9] (gR G125 a0 [1] 2 (fun x127 => nn x127 (fun a128 => (∃ k130 n131, (k130 ≤ k ∧ n131 ≤ n) ∧ (isC G125 a128 12 ∧ f_J3_addLast k130 n131 a128 x126 G125 (fun G129 => k99 (k - k130) (n - n131) l1 (some a100) G129))))))))) (nn l1 (fun a103 => gR G101 a103 [1] 3 (fun x104 => gR G101 a0 [1] 3 (fun x105 => nn x105 (fun a106 => nn x104 (fun a107 => cpI G101 a107 0 a106 0 10 (fun G108 => (isC G108 a0 1 ∧ f_X2_beTurns a0 (some a103) G108 (fun G109 => gR G109 a103 [1] 7 (fun x110 => gR G109 a0 [1] 7 (fun x111 => nn x111 (fun a112 => nn x110 (fun a113 => cpI G109 a113 0 a112 0 4 (fun G114 => gI G114 a103 [1] 9 (fun x115 => pF G114 a0 [1] 9 (vI x115) (fun G116 => gI G116 a103 [1] 10 (fun x117 => pF G116 a0 [1] 10 (vI x117) (fun G118 => gI G118 a103 [1] 11 (fun x119 => pF G118 a0 [1] 11 (vI x119) (fun G120 => gI G120 a103 [1] 12 (fun x121 => pF G120 a0 [1] 12 (vI x121) (fun G122 => pF G122 a0 [1] 13 (vI 0) (fun G123 => pF G123 a0 [1] 14 (vI 0) (fun G124 => Q G124)))))))))))))))))))))))))))
theorem w_X2_be_99_b {a0 : Nat} {Q : Wd → Prop} {k99 : Nat → Nat → Option Nat → Option Nat → Wd → Prop} (hk99 : ∀ {k n : Nat} {l1 : Option Nat} {l2 : Option Nat} {G : Wd}, k99 k n l1 l2 G → wp m_X2_be 6 k n 99 [some (vR (some a0)), some (vR l1), some (vR l2), none] [] G (qV Q) noX) {k n : Nat} {l1 : Option Nat} {l2 : Option Nat} {G : Wd} (h : f_X2_be_99_b a0 k99 k n l1 l2 G Q) : wp m_X2_be 6 k n 99 [some (vR (some a0)), some (vR l1), some (vR l2), none] [] G (qV Q) noX := by
  unfold f_X2_be_99_b at h
  refine r_aload_n dX2_be_99 rfl rfl iR ?_
  obtain ⟨a100, e, h⟩ := h
  refine wp.cast (L' := [some (vR (some a0)), some (vR l1), some (vR (some a100)), none]) (st' := [vR (some a100)]) (by rw [e]) (by rw [e]) ?_
  obtain ⟨hC, h⟩ := h
  refine r_callF dX2_be_100 hC (c_J25_hasNext h) q1391 q1135 q1137 q127 q1139 q1117 q1116 q1138 q1136 q1134 rfl ⟨by decide +kernel, by decide +kernel, by decide +kernel⟩ rfl (by decide) (by decide) rfl rc0 (by decide) (Nat.zero_le _) (Nat.zero_le _) (ofB fun x102 G101 h => ?_) nox
  refine r_ifZ_eq (tgt := 129) dX2_be_105 (by decide) h (fun h => ?_) (fun h => ?_)
  · refine r_aload_n dX2_be_129 rfl rfl iR ?_
    obtain ⟨a103, e, h⟩ := h
    refine wp.cast (L' := [some (vR (some a0)), some (vR (some a103)), some (vR (some a100)), none]) (st' := [vR (some a103)]) (by rw [e]) (by rw [e]) ?_
    refine r_getR dX2_be_130 (fg1 (f := 3) fX2 (by decide) q642 rfl) h (fun x104 h => ?_)
    refine r_iconst dX2_be_133 ?_
    refine r_aload_n dX2_be_134 rfl rfl iR ?_
    refine r_getR dX2_be_135 (fg1 (f := 3) fX2 (by decide) q642 rfl) h (fun x105 h => ?_)
    refine r_iconst dX2_be_138 ?_
    refine r_bipush dX2_be_139 (by decide) ?_
    obtain ⟨a106, e, h⟩ := h
    refine wp.cast (L' := [some (vR (some a0)), some (vR (some a103)), some (vR (some a100)), none]) (st' := [vI 10, vI 0, vR (some a106), vI 0, vR x104]) rfl (by rw [e]) ?_
    obtain ⟨a107, e, h⟩ := h
    refine wp.cast (L' := [some (vR (some a0)), some (vR (some a103)), some (vR (some a100)), none]) (st' := [vI 10, vI 0, vR (some a106), vI 0, vR (some a107)]) rfl (by rw [e]) ?_
    refine r_cpI dX2_be_141 q1425 rc0 (by decide) (by decide) h (fun G108 h => ?_)
    refine r_aload_n dX2_be_144 rfl rfl iR ?_
    refine r_aload_n dX2_be_145 rfl rfl iR ?_
    obtain ⟨hC, h⟩ := h
    refine r_callV dX2_be_146 hC (c_X2_beTurns h) q1426 q1427 q1428 q93 q1429 rfl yo_X2_beTurns rfl (by decide) (by decide) rfl rc0 (by decide) (Nat.zero_le _) (Nat.zero_le _) (ofV fun G109 h => ?_) nox
    refine r_aload_n dX2_be_149 rfl rfl iR ?_
    refine r_getR dX2_be_150 (fg1 (f := 7) fX2 (by decide) q649 rfl) h (fun x110 h => ?_)
    refine r_iconst dX2_be_153 ?_
    refine r_aload_n dX2_be_154 rfl rfl iR ?_
    refine r_getR dX2_be_155 (fg1 (f := 7) fX2 (by decide) q649 rfl) h (fun x111 h => ?_)
    refine r_iconst dX2_be_158 ?_
    refine r_iconst dX2_be_159 ?_
    obtain ⟨a112, e, h⟩ := h
    refine wp.cast (L' := [some (vR (some a0)), some (vR (some a103)), some (vR (some a100)), none]) (st' := [vI 4, vI 0, vR (some a112), vI 0, vR x110]) rfl (by rw [e]) ?_
    obtain ⟨a113, e, h⟩ := h
    refine wp.cast (L' := [some (vR (some a0)), some (vR (some a103)), some (vR (some a100)), none]) (st' := [vI 4, vI 0, vR (some a112), vI 0, vR (some a113)]) rfl (by rw [e]) ?_
    refine r_cpI dX2_be_160 q1425 rc0 (by decide) (by decide) h (fun G114 h => ?_)
    refine r_aload_n dX2_be_163 rfl rfl iR ?_
    refine r_aload_n dX2_be_164 rfl rfl iR ?_
    refine r_getI dX2_be_165 (fg1 (f := 9) fX2 (by decide) q653 rfl) h (fun x115 h => ?_)
    refine r_put dX2_be_168 (fp1 (f := 9) fX2 (by decide) q653 rfl rfl rfl) fvI h (fun G116 h => ?_)
    refine r_aload_n dX2_be_171 rfl rfl iR ?_
    refine r_aload_n dX2_be_172 rfl rfl iR ?_
    refine r_getI dX2_be_173 (fg1 (f := 10) fX2 (by decide) q655 rfl) h (fun x117 h => ?_)
    refine r_put dX2_be_176 (fp1 (f := 10) fX2 (by decide) q655 rfl rfl rfl) fvI h (fun G118 h => ?_)
    refine r_aload_n dX2_be_179 rfl rfl iR ?_
    refine r_aload_n dX2_be_180 rfl rfl iR ?_
    refine r_getI dX2_be_181 (fg1 (f := 11) fX2 (by decide) q658 rfl) h (fun x119 h => ?_)
    refine r_put dX2_be_184 (fp1 (f := 11) fX2 (by decide) q658 rfl rfl rfl) fvI h (fun G120 h => ?_)
    refine r_aload_n dX2_be_187 rfl rfl iR ?_
    refine r_aload_n dX2_be_188 rfl rfl iR ?_
    refine r_getI dX2_be_189 (fg1 (f := 12) fX2 (by decide) q660 rfl) h (fun x121 h => ?_)
    refine r_put dX2_be_192 (fp1 (f := 12) fX2 (by decide) q660 rfl rfl rfl) fvI h (fun G122 h => ?_)
    refine r_aload_n dX2_be_195 rfl rfl iR ?_
    refine r_iconst dX2_be_196 ?_
    refine r_put dX2_be_197 (fp1 (f := 13) fX2 (by decide) q662 rfl rfl rfl) fvI h (fun G123 h => ?_)
    refine r_aload_n dX2_be_200 rfl rfl iR ?_
    refine r_iconst dX2_be_201 ?_
    refine r_put dX2_be_202 (fp1 (f := 14) fX2 (by decide) q664 rfl rfl rfl) fvI h (fun G124 h => ?_)
    exact r_vret rfl dX2_be_205 ⟨rfl, h⟩
  · refine r_aload_n dX2_be_108 rfl rfl iR ?_
    obtain ⟨hC, h⟩ := h
    refine r_callF dX2_be_109 hC (c_J25_next h) q1393 q1272 q1274 q127 q1276 q1143 q1142 q1275 q1273 q1134 rfl ⟨by decide +kernel, by decide +kernel, by decide +kernel⟩ rfl (by decide) (by decide) rfl rc0 (by decide) (Nat.zero_le _) (Nat.zero_le _) (ofR fun x126 G125 h => ?_) nox
    refine r_ccast (ci := 9) dX2_be_114 q1424 rfl h (fun h => ?_)
    refine r_astore_n (L' := [some (vR (some a0)), some (vR l1), some (vR (some a100)), some (vR x126)]) dX2_be_117 rfl rfl iR cR (by decide) ?_
    refine r_aload_n dX2_be_118 rfl rfl iR ?_
    refine r_getR dX2_be_119 (fg1 (f := 2) fX2 (by decide) q640 rfl) h (fun x127 h => ?_)
    refine r_aload_n dX2_be_122 rfl rfl iR ?_
    obtain ⟨a128, e, h⟩ := h
    refine wp.cast (L' := [some (vR (some a0)), some (vR l1), some (vR (some a100)), some (vR x126)]) (st' := [vR x126, vR (some a128)]) rfl (by rw [e]) ?_
    obtain ⟨k130, n131, ⟨hk1, hn1⟩, h⟩ := h
    obtain ⟨hC, h⟩ := h
    refine r_callV dX2_be_123 hC (c_J3_addLast h) q1395 q1396 q1397 q97 q1398 rfl yo_J3_addLast rfl (by decide) (by decide) rfl rc0 (by decide) hk1 hn1 (ofV fun G129 h => ?_) nox
    refine r_goto (tgt := 99) dX2_be_126 (by decide) ?_
    refine wp.locals (L' := [some (vR (some a0)), some (vR l1), some (vR (some a100)), none]) (ls_s (ls_s (ls_s (ls_n ls_0)))) ?_
    exact hk99 h
def f_X2_be_99 (a0 : Nat) (Q : Wd → Prop) : Nat → Nat → Nat → Option Nat → Option Nat → Wd → Prop
  | 0, _, _, _, _, _ => False
  | fl + 1, k, n, l1, l2, G => f_X2_be_99_b a0  (fun k n l1 l2 G => f_X2_be_99 a0  Q fl k n l1 l2 G) k n l1 l2 G Q
theorem w_X2_be_99 {a0 : Nat} {Q : Wd → Prop} : ∀ (fl : Nat) {k n : Nat} {l1 : Option Nat} {l2 : Option Nat} {G : Wd}, f_X2_be_99 a0 Q fl k n l1 l2 G → wp m_X2_be 6 k n 99 [some (vR (some a0)), some (vR l1), some (vR l2), none] [] G (qV Q) noX := by
  intro fl
  induction fl with
  | zero => intro k n l1 l2 G h; exact (show False from h).elim
  | succ fl ih => intro k n l1 l2 G h; exact w_X2_be_99_b  (fun h => ih h) h
def f_X2_be_54_b (a0 : Nat) (k54 : Nat → Nat → Option Nat → Option Nat → Wd → Prop) (k n : Nat) (l1 : Option Nat) (l2 : Option Nat) (G : Wd) (Q : Wd → Prop) : Prop :=
  nn l2 (fun a132 => (isC G a132 16 ∧ f_J25_hasNext a132  G (fun x134 G133 => brB x134 ((isC G133 a132 16 ∧ f_J25_next a132  G133 (fun x147 G146 => cst G146 x147 [8] (gR G146 a0 [1] 1 (fun x148 => nn x148 (fun a149 => (∃ k151 n152, (k151 ≤ k ∧ n152 ≤ n) ∧ (isC G146 a149 12 ∧ f_J3_addLast k151 n152 a149 x147 G146 (fun G150 => k54 (k - k151) (n - n152) l1 (some a132) G150))))))))) (gR G133 a0 [1] 2 (fun x135 => nn x135 (fun a136 => (isC G133 a136 12 ∧ f_J3_clear a136  G133 (fun G137 => nn l1 (fun a138 => gR G137 a138 [1] 2 (fun x139 => nn x139 (fun a140 => (∃ k142 n143, (k142 ≤ k ∧ n143 ≤ n) ∧ (isC G137 a140 12 ∧ f_J2_iterator k142 n143 a140  G137 (fun x144 G141 => ∃ fl145, f_X2_be_99 a0 Q fl145 (k - k142) (n - n143) (some a138) x144 G141))))))))))))))
theorem w_X2_be_54_b {a0 : Nat} {Q : Wd → Prop} {k54 : Nat → Nat → Option Nat → Option Nat → Wd → Prop} (hk54 : ∀ {k n : Nat} {l1 : Option Nat} {l2 : Option Nat} {G : Wd}, k54 k n l1 l2 G → wp m_X2_be 6 k n 54 [some (vR (some a0)), some (vR l1), some (vR l2), none] [] G (qV Q) noX) {k n : Nat} {l1 : Option Nat} {l2 : Option Nat} {G : Wd} (h : f_X2_be_54_b a0 k54 k n l1 l2 G Q) : wp m_X2_be 6 k n 54 [some (vR (some a0)), some (vR l1), some (vR l2), none] [] G (qV Q) noX := by
  unfold f_X2_be_54_b at h
  refine r_aload_n dX2_be_54 rfl rfl iR ?_
  obtain ⟨a132, e, h⟩ := h
  refine wp.cast (L' := [some (vR (some a0)), some (vR l1), some (vR (some a132)), none]) (st' := [vR (some a132)]) (by rw [e]) (by rw [e]) ?_
  obtain ⟨hC, h⟩ := h
  refine r_callF dX2_be_55 hC (c_J25_hasNext h) q1391 q1135 q1137 q127 q1139 q1117 q1116 q1138 q1136 q1134 rfl ⟨by decide +kernel, by decide +kernel, by decide +kernel⟩ rfl (by decide) (by decide) rfl rc0 (by decide) (Nat.zero_le _) (Nat.zero_le _) (ofB fun x134 G133 h => ?_) nox
  refine r_ifZ_eq (tgt := 84) dX2_be_60 (by decide) h (fun h => ?_) (fun h => ?_)
  · refine r_aload_n dX2_be_84 rfl rfl iR ?_
    refine r_getR dX2_be_85 (fg1 (f := 2) fX2 (by decide) q640 rfl) h (fun x135 h => ?_)
    obtain ⟨a136, e, h⟩ := h
    refine wp.cast (L' := [some (vR (some a0)), some (vR l1), some (vR (some a132)), none]) (st' := [vR (some a136)]) rfl (by rw [e]) ?_
    obtain ⟨hC, h⟩ := h
    refine r_callV dX2_be_88 hC (c_J3_clear h) q1336 q1337 q1338 q97 q1339 rfl yo_J3_clear rfl (by decide) (by decide) rfl rc0 (by decide) (Nat.zero_le _) (Nat.zero_le _) (ofV fun G137 h => ?_) nox
    refine r_aload_n dX2_be_91 rfl rfl iR ?_
    obtain ⟨a138, e, h⟩ := h
    refine wp.cast (L' := [some (vR (some a0)), some (vR (some a138)), some (vR (some a132)), none]) (st' := [vR (some a138)]) (by rw [e]) (by rw [e]) ?_
    refine r_getR dX2_be_92 (fg1 (f := 2) fX2 (by decide) q640 rfl) h (fun x139 h => ?_)
    obtain ⟨a140, e, h⟩ := h
    refine wp.cast (L' := [some (vR (some a0)), some (vR (some a138)), some (vR (some a132)), none]) (st' := [vR (some a140)]) rfl (by rw [e]) ?_
    obtain ⟨k142, n143, ⟨hk1, hn1⟩, h⟩ := h
    obtain ⟨hC, h⟩ := h
    refine r_callU dX2_be_95 hC (c_J2_iterator h) q1340 q1341 q1343 q1344 q96 q1345 rfl rfl yo_J2_iterator rfl (by decide) (by decide) rfl rc0 (by decide) hk1 hn1 (ofR fun x144 G141 h => ?_) nox
    refine r_astore_n (L' := [some (vR (some a0)), some (vR (some a138)), some (vR x144), none]) dX2_be_98 rfl rfl iR cR (by decide) ?_
    obtain ⟨fl145, h⟩ := h
    exact w_X2_be_99 fl145 h
  · refine r_aload_n dX2_be_63 rfl rfl iR ?_
    obtain ⟨hC, h⟩ := h
    refine r_callF dX2_be_64 hC (c_J25_next h) q1393 q1272 q1274 q127 q1276 q1143 q1142 q1275 q1273 q1134 rfl ⟨by decide +kernel, by decide +kernel, by decide +kernel⟩ rfl (by decide) (by decide) rfl rc0 (by decide) (Nat.zero_le _) (Nat.zero_le _) (ofR fun x147 G146 h => ?_) nox
    refine r_ccast (ci := 8) dX2_be_69 q1394 rfl h (fun h => ?_)
    refine r_astore_n (L' := [some (vR (some a0)), some (vR l1), some (vR (some a132)), some (vR x147)]) dX2_be_72 rfl rfl iR cR (by decide) ?_
    refine r_aload_n dX2_be_73 rfl rfl iR ?_
    refine r_getR dX2_be_74 (fg1 (f := 1) fX2 (by decide) q637 rfl) h (fun x148 h => ?_)
    refine r_aload_n dX2_be_77 rfl rfl iR ?_
    obtain ⟨a149, e, h⟩ := h
    refine wp.cast (L' := [some (vR (some a0)), some (vR l1), some (vR (some a132)), some (vR x147)]) (st' := [vR x147, vR (some a149)]) rfl (by rw [e]) ?_
    obtain ⟨k151, n152, ⟨hk1, hn1⟩, h⟩ := h
    obtain ⟨hC, h⟩ := h
    refine r_callV dX2_be_78 hC (c_J3_addLast h) q1395 q1396 q1397 q97 q1398 rfl yo_J3_addLast rfl (by decide) (by decide) rfl rc0 (by decide) hk1 hn1 (ofV fun G150 h => ?_) nox
    refine r_goto (tgt := 54) dX2_be_81 (by decide) ?_
    refine wp.locals (L' := [some (vR (some a0)), some (vR l1), some (vR (some a132)), none]) (ls_s (ls_s (ls_s (ls_n ls_0)))) ?_
    exact hk54 h
def f_X2_be_54 (a0 : Nat) (Q : Wd → Prop) : Nat → Nat → Nat → Option Nat → Option Nat → Wd → Prop
  | 0, _, _, _, _, _ => False
  | fl + 1, k, n, l1, l2, G => f_X2_be_54_b a0  (fun k n l1 l2 G => f_X2_be_54 a0  Q fl k n l1 l2 G) k n l1 l2 G Q
theorem w_X2_be_54 {a0 : Nat} {Q : Wd → Prop} : ∀ (fl : Nat) {k n : Nat} {l1 : Option Nat} {l2 : Option Nat} {G : Wd}, f_X2_be_54 a0 Q fl k n l1 l2 G → wp m_X2_be 6 k n 54 [some (vR (some a0)), some (vR l1), some (vR l2), none] [] G (qV Q) noX := by
  intro fl
  induction fl with
  | zero => intro k n l1 l2 G h; exact (show False from h).elim
  | succ fl ih => intro k n l1 l2 G h; exact w_X2_be_54_b  (fun h => ih h) h
def f_X2_be_10_b (a0 : Nat) (k10 : Nat → Nat → Option Nat → Int → Wd → Prop) (k n : Nat) (l1 : Option Nat) (l2 : Int) (G : Wd) (Q : Wd → Prop) : Prop :=
  gI G a0 [1] 8 (fun x153 => br l2 x153 (x153 ≤ l2) (gR G a0 [1] 1 (fun x154 => nn x154 (fun a155 => (isC G a155 12 ∧ f_J3_clear a155  G (fun G156 => nn l1 (fun a157 => gR G156 a157 [1] 1 (fun x158 => nn x158 (fun a159 => (∃ k161 n162, (k161 ≤ k ∧ n162 ≤ n) ∧ (isC G156 a159 12 ∧ f_J2_iterator k161 n162 a159  G156 (fun x163 G160 => ∃ fl164, f_X2_be_54 a0 Q fl164 (k - k161) (n - n162) (some a157) x163 G160))))))))))) (gR G a0 [1] 0 (fun x165 => nn x165 (fun a166 => ldR G a166 7 l2 (fun x167 => nn l1 (fun a168 => gR G a168 [1] 0 (fun x169 => nn x169 (fun a170 => ldR G a170 7 l2 (fun x171 => nn x167 (fun a172 => (∃ k174 n175, (k174 ≤ k ∧ n175 ≤ n) ∧ (isC G a172 2 ∧ f_X3_be k174 n175 a172 x171 G (fun G173 => k10 (k - k174) (n - n175) (some a168) (l2 + 1) G173)))))))))))))
theorem w_X2_be_10_b {a0 : Nat} {Q : Wd → Prop} {k10 : Nat → Nat → Option Nat → Int → Wd → Prop} (hk10 : ∀ {k n : Nat} {l1 : Option Nat} {l2 : Int} {G : Wd}, k10 k n l1 l2 G → wp m_X2_be 6 k n 10 [some (vR (some a0)), some (vR l1), some (vI l2), none] [] G (qV Q) noX) {k n : Nat} {l1 : Option Nat} {l2 : Int} {G : Wd} (h : f_X2_be_10_b a0 k10 k n l1 l2 G Q) : wp m_X2_be 6 k n 10 [some (vR (some a0)), some (vR l1), some (vI l2), none] [] G (qV Q) noX := by
  unfold f_X2_be_10_b at h
  refine r_iload_n dX2_be_10 rfl rfl iI ?_
  refine r_aload_n dX2_be_11 rfl rfl iR ?_
  refine r_getI dX2_be_12 (fg1 (f := 8) fX2 (by decide) q651 rfl) h (fun x153 h => ?_)
  refine r_icmp_ge (tgt := 39) dX2_be_15 (by decide) h (fun h => ?_) (fun h => ?_)
  · refine r_aload_n dX2_be_39 rfl rfl iR ?_
    refine r_getR dX2_be_40 (fg1 (f := 1) fX2 (by decide) q637 rfl) h (fun x154 h => ?_)
    obtain ⟨a155, e, h⟩ := h
    refine wp.cast (L' := [some (vR (some a0)), some (vR l1), some (vI l2), none]) (st' := [vR (some a155)]) rfl (by rw [e]) ?_
    obtain ⟨hC, h⟩ := h
    refine r_callV dX2_be_43 hC (c_J3_clear h) q1336 q1337 q1338 q97 q1339 rfl yo_J3_clear rfl (by decide) (by decide) rfl rc0 (by decide) (Nat.zero_le _) (Nat.zero_le _) (ofV fun G156 h => ?_) nox
    refine r_aload_n dX2_be_46 rfl rfl iR ?_
    obtain ⟨a157, e, h⟩ := h
    refine wp.cast (L' := [some (vR (some a0)), some (vR (some a157)), some (vI l2), none]) (st' := [vR (some a157)]) (by rw [e]) (by rw [e]) ?_
    refine r_getR dX2_be_47 (fg1 (f := 1) fX2 (by decide) q637 rfl) h (fun x158 h => ?_)
    obtain ⟨a159, e, h⟩ := h
    refine wp.cast (L' := [some (vR (some a0)), some (vR (some a157)), some (vI l2), none]) (st' := [vR (some a159)]) rfl (by rw [e]) ?_
    obtain ⟨k161, n162, ⟨hk1, hn1⟩, h⟩ := h
    obtain ⟨hC, h⟩ := h
    refine r_callU dX2_be_50 hC (c_J2_iterator h) q1340 q1341 q1343 q1344 q96 q1345 rfl rfl yo_J2_iterator rfl (by decide) (by decide) rfl rc0 (by decide) hk1 hn1 (ofR fun x163 G160 h => ?_) nox
    refine r_astore_n (L' := [some (vR (some a0)), some (vR (some a157)), some (vR x163), none]) dX2_be_53 rfl rfl iR cR (by decide) ?_
    obtain ⟨fl164, h⟩ := h
    exact w_X2_be_54 fl164 h
  · refine r_aload_n dX2_be_18 rfl rfl iR ?_
    refine r_getR dX2_be_19 (fg1 (f := 0) fX2 (by decide) q635 rfl) h (fun x165 h => ?_)
    refine r_iload_n dX2_be_22 rfl rfl iI ?_
    obtain ⟨a166, e, h⟩ := h
    refine wp.cast (L' := [some (vR (some a0)), some (vR l1), some (vI l2), none]) (st' := [vI l2, vR (some a166)]) rfl (by rw [e]) ?_
    refine r_aald dX2_be_23 (by decide) (by decide) h (fun x167 h => ?_)
    refine r_aload_n dX2_be_24 rfl rfl iR ?_
    obtain ⟨a168, e, h⟩ := h
    refine wp.cast (L' := [some (vR (some a0)), some (vR (some a168)), some (vI l2), none]) (st' := [vR (some a168), vR x167]) (by rw [e]) (by rw [e]) ?_
    refine r_getR dX2_be_25 (fg1 (f := 0) fX2 (by decide) q635 rfl) h (fun x169 h => ?_)
    refine r_iload_n dX2_be_28 rfl rfl iI ?_
    obtain ⟨a170, e, h⟩ := h
    refine wp.cast (L' := [some (vR (some a0)), some (vR (some a168)), some (vI l2), none]) (st' := [vI l2, vR (some a170), vR x167]) rfl (by rw [e]) ?_
    refine r_aald dX2_be_29 (by decide) (by decide) h (fun x171 h => ?_)
    obtain ⟨a172, e, h⟩ := h
    refine wp.cast (L' := [some (vR (some a0)), some (vR (some a168)), some (vI l2), none]) (st' := [vR x171, vR (some a172)]) rfl (by rw [e]) ?_
    obtain ⟨k174, n175, ⟨hk1, hn1⟩, h⟩ := h
    obtain ⟨hC, h⟩ := h
    refine r_callV dX2_be_30 hC (c_X3_be h) q1080 q1081 q1082 q98 q1083 rfl yo_X3_be rfl (by decide) (by decide) rfl rc0 (by decide) hk1 hn1 (ofV fun G173 h => ?_) nox
    refine r_iinc (L' := [some (vR (some a0)), some (vR (some a168)), some (vI (l2 + 1)), none]) dX2_be_33 rfl rfl cR (by decide) ?_
    refine r_goto (tgt := 10) dX2_be_36 (by decide) ?_
    exact hk10 h
def f_X2_be_10 (a0 : Nat) (Q : Wd → Prop) : Nat → Nat → Nat → Option Nat → Int → Wd → Prop
  | 0, _, _, _, _, _ => False
  | fl + 1, k, n, l1, l2, G => f_X2_be_10_b a0  (fun k n l1 l2 G => f_X2_be_10 a0  Q fl k n l1 l2 G) k n l1 l2 G Q
theorem w_X2_be_10 {a0 : Nat} {Q : Wd → Prop} : ∀ (fl : Nat) {k n : Nat} {l1 : Option Nat} {l2 : Int} {G : Wd}, f_X2_be_10 a0 Q fl k n l1 l2 G → wp m_X2_be 6 k n 10 [some (vR (some a0)), some (vR l1), some (vI l2), none] [] G (qV Q) noX := by
  intro fl
  induction fl with
  | zero => intro k n l1 l2 G h; exact (show False from h).elim
  | succ fl ih => intro k n l1 l2 G h; exact w_X2_be_10_b  (fun h => ih h) h
def f_X2_be (k n : Nat) (a0 : Nat) (a1 : Option Nat) (G : Wd) (Q : Wd → Prop) : Prop :=
  nn a1 (fun a176 => gI G a176 [1] 8 (fun x177 => pF G a0 [1] 8 (vI x177) (fun G178 => ∃ fl179, f_X2_be_10 a0 Q fl179 k n (some a176) 0 G178)))
theorem w_X2_be {a0 : Nat} {Q : Wd → Prop} {k n : Nat} {a1 : Option Nat} {G : Wd} (h : f_X2_be k n a0 a1 G Q) : wp m_X2_be 6 k n 0 [some (vR (some a0)), some (vR a1), none, none] [] G (qV Q) noX := by
  unfold f_X2_be at h
  refine r_aload_n dX2_be_0 rfl rfl iR ?_
  refine r_aload_n dX2_be_1 rfl rfl iR ?_
  obtain ⟨a176, e, h⟩ := h
  refine wp.cast (L' := [some (vR (some a0)), some (vR (some a176)), none, none]) (st' := [vR (some a176), vR (some a0)]) (by rw [e]) (by rw [e]) ?_
  refine r_getI dX2_be_2 (fg1 (f := 8) fX2 (by decide) q651 rfl) h (fun x177 h => ?_)
  refine r_put dX2_be_5 (fp1 (f := 8) fX2 (by decide) q651 rfl rfl rfl) fvI h (fun G178 h => ?_)
  refine r_iconst dX2_be_8 ?_
  refine r_istore_n (L' := [some (vR (some a0)), some (vR (some a176)), some (vI 0), none]) dX2_be_9 rfl rfl iI cR (by decide) ?_
  obtain ⟨fl179, h⟩ := h
  exact w_X2_be_10 fl179 h
theorem c_X2_be {a0 : Nat} {a1 : Option Nat} {k n : Nat} {Q : Wd → Prop} {G : Wd} (h : f_X2_be k n a0 a1 G Q) : call yX2_be (Cond.code yX2_be cX2_be 4 (none)) 6 k n [vR (some a0), vR a1] G (qV Q) noX :=
  call.enter (by decide +kernel) (la_1 c1R (la_1 c1R (la_nil rfl))) rfl (w_X2_be h)
abbrev m_X2_ringUp : Mt := (yX2_ringUp.cls, cX2_ringUp, 3, some .int, [], yX2_ringUp.name)
theorem yo_X2_ringUp : yOK yX2_ringUp 1 := ⟨by decide +kernel, by decide +kernel, by decide +kernel⟩
def f_X2_ringUp (a0 : Nat) (a1 : Option Nat) (G : Wd) (Q : Int → Wd → Prop) : Prop :=
  nn a1 (fun a14 => (isC G a14 2 ∧ f_X3_bell a14  G (fun x16 G15 => br x16 (-2) (¬ x16 = ((-2) : Int)) (gI G15 a14 [2] 7 (fun x17 => pF G15 a14 [2] 8 (vI x17) (fun G18 => br0 x16 (¬ x16 = 0) (gI G18 a0 [1] 11 (fun x19 => pF G18 a0 [1] 11 (vI (x19 + 1)) (fun G20 => gI G20 a14 [2] 8 (fun x21 => pF G20 a14 [2] 9 (vI x21) (fun G22 => gZ G22 a14 [2] 15 (fun x23 => pF G22 a14 [2] 16 (vB x23) (fun G24 => Q 1 G24))))))) (gI G18 a0 [1] 12 (fun x25 => pF G18 a0 [1] 12 (vI (x25 + 1)) (fun G26 => Q 0 G26)))))) (Q x16 G15))))
theorem w_X2_ringUp {a0 : Nat} {Q : Int → Wd → Prop} {a1 : Option Nat} {G : Wd} (h : f_X2_ringUp a0 a1 G Q) : wp m_X2_ringUp 2 0 0 0 [some (vR (some a0)), some (vR a1), none] [] G (qI Q) noX := by
  unfold f_X2_ringUp at h
  refine r_aload_n dX2_ringUp_0 rfl rfl iR ?_
  obtain ⟨a14, e, h⟩ := h
  refine wp.cast (L' := [some (vR (some a0)), some (vR (some a14)), none]) (st' := [vR (some a14)]) (by rw [e]) (by rw [e]) ?_
  obtain ⟨hC, h⟩ := h
  refine r_callV dX2_ringUp_1 hC (c_X3_bell h) q1510 q1503 q1504 q98 q1505 rfl yo_X3_bell rfl (by decide) (by decide) rfl rc0 (by decide) (Nat.zero_le _) (Nat.zero_le _) (ofI fun x16 G15 h => ?_) nox
  refine r_istore_n (L' := [some (vR (some a0)), some (vR (some a14)), some (vI x16)]) dX2_ringUp_4 rfl rfl iI cR (by decide) ?_
  refine r_iload_n dX2_ringUp_5 rfl rfl iI ?_
  refine r_bipush dX2_ringUp_6 (by decide) ?_
  refine r_icmp_ne (tgt := 13) dX2_ringUp_8 (by decide) h (fun h => ?_) (fun h => ?_)
  · refine r_aload_n dX2_ringUp_13 rfl rfl iR ?_
    refine r_aload_n dX2_ringUp_14 rfl rfl iR ?_
    refine r_getI dX2_ringUp_15 (fg1 (f := 7) fX3 (by decide) q573 rfl) h (fun x17 h => ?_)
    refine r_put dX2_ringUp_18 (fp1 (f := 8) fX3 (by decide) q576 rfl rfl rfl) fvI h (fun G18 h => ?_)
    refine r_iload_n dX2_ringUp_21 rfl rfl iI ?_
    refine r_if_ne (tgt := 37) dX2_ringUp_22 (by decide) h (fun h => ?_) (fun h => ?_)
    · refine r_aload_n dX2_ringUp_37 rfl rfl iR ?_
      refine r_dup dX2_ringUp_38 c1R ?_
      refine r_getI dX2_ringUp_39 (fg1 (f := 11) fX2 (by decide) q658 rfl) h (fun x19 h => ?_)
      refine r_iconst dX2_ringUp_42 ?_
      refine r_iadd dX2_ringUp_43 ?_
      refine r_put dX2_ringUp_44 (fp1 (f := 11) fX2 (by decide) q658 rfl rfl rfl) fvI h (fun G20 h => ?_)
      refine r_aload_n dX2_ringUp_47 rfl rfl iR ?_
      refine r_aload_n dX2_ringUp_48 rfl rfl iR ?_
      refine r_getI dX2_ringUp_49 (fg1 (f := 8) fX3 (by decide) q576 rfl) h (fun x21 h => ?_)
      refine r_put dX2_ringUp_52 (fp1 (f := 9) fX3 (by decide) q579 rfl rfl rfl) fvI h (fun G22 h => ?_)
      refine r_aload_n dX2_ringUp_55 rfl rfl iR ?_
      refine r_aload_n dX2_ringUp_56 rfl rfl iR ?_
      refine r_getZ dX2_ringUp_57 (fg1 (f := 15) fX3 (by decide) q596 rfl) h (fun x23 h => ?_)
      refine r_put dX2_ringUp_60 (fp1 (f := 16) fX3 (by decide) q599 rfl rfl rfl) fvB h (fun G24 h => ?_)
      refine r_iconst dX2_ringUp_63 ?_
      exact r_iret rfl dX2_ringUp_64 ⟨_, rfl, h⟩
    · refine r_aload_n dX2_ringUp_25 rfl rfl iR ?_
      refine r_dup dX2_ringUp_26 c1R ?_
      refine r_getI dX2_ringUp_27 (fg1 (f := 12) fX2 (by decide) q660 rfl) h (fun x25 h => ?_)
      refine r_iconst dX2_ringUp_30 ?_
      refine r_iadd dX2_ringUp_31 ?_
      refine r_put dX2_ringUp_32 (fp1 (f := 12) fX2 (by decide) q660 rfl rfl rfl) fvI h (fun G26 h => ?_)
      refine r_iconst dX2_ringUp_35 ?_
      exact r_iret rfl dX2_ringUp_36 ⟨_, rfl, h⟩
  · refine r_iload_n dX2_ringUp_11 rfl rfl iI ?_
    exact r_iret rfl dX2_ringUp_12 ⟨_, rfl, h⟩
theorem c_X2_ringUp {a0 : Nat} {a1 : Option Nat} {Q : Int → Wd → Prop} {G : Wd} (h : f_X2_ringUp a0 a1 G Q) : call yX2_ringUp (Cond.code yX2_ringUp cX2_ringUp 3 (some .int)) 2 0 0 [vR (some a0), vR a1] G (qI Q) noX :=
  call.enter (by decide +kernel) (la_1 c1R (la_1 c1R (la_nil rfl))) rfl (w_X2_ringUp h)
abbrev m_X2_finish : Mt := (yX2_finish.cls, cX2_finish, 4, none, [], yX2_finish.name)
theorem yo_X2_finish : yOK yX2_finish 1 := ⟨by decide +kernel, by decide +kernel, by decide +kernel⟩
def f_X2_finish_91 (a0 : Nat) (k n : Nat) (s0 : Option Nat) (s1 : Option Nat) (s2 : Option Nat) (s3 : Option Nat) (s4 : Bool) (s5 : Int) (G : Wd) (Q : Wd → Prop) : Prop :=
  nn s2 (fun a39 => f_X10_init a39 s3 (b2i s4) s5 G (fun G40 => nn s0 (fun a41 => (∃ k43 n44, (k43 ≤ k ∧ n44 ≤ n) ∧ (isC G40 a41 12 ∧ f_J3_addLast k43 n44 a41 s1 G40 (fun G42 => Q G42))))))
theorem w_X2_finish_91 {a0 : Nat} {Q : Wd → Prop} {k n : Nat} {s0 : Option Nat} {s1 : Option Nat} {s2 : Option Nat} {s3 : Option Nat} {s4 : Bool} {s5 : Int} {G : Wd} (h : f_X2_finish_91 a0 k n s0 s1 s2 s3 s4 s5 G Q) : wp m_X2_finish 5 k n 91 [none, none, none, none] [vI s5, vB s4, vR s3, vR s2, vR s1, vR s0] G (qV Q) noX := by
  unfold f_X2_finish_91 at h
  refine wp.cast (st' := [vI s5, vI (b2i s4), vR s3, vR s2, vR s1, vR s0]) rfl (congrArg (fun q => [vI s5, q, vR s3, vR s2, vR s1, vR s0]) (vBI s4)) ?_
  obtain ⟨a39, e, h⟩ := h
  refine wp.cast (L' := [none, none, none, none]) (st' := [vI s5, vI (b2i s4), vR s3, vR (some a39), vR s1, vR s0]) rfl (by rw [e]) ?_
  refine r_callI dX2_finish_91 (c_X10_init h) rfl q1568 q1569 q131 q1570 yo_X10_init rfl (by decide) (by decide) rfl (rc1 c1R (rc1 c1R rc0)) (by decide) (Nat.zero_le _) (Nat.zero_le _) (ofV fun G40 h => ?_) nox
  obtain ⟨a41, e, h⟩ := h
  refine wp.cast (L' := [none, none, none, none]) (st' := [vR s1, vR (some a41)]) rfl (by rw [e]) ?_
  obtain ⟨k43, n44, ⟨hk1, hn1⟩, h⟩ := h
  obtain ⟨hC, h⟩ := h
  refine r_callV dX2_finish_94 hC (c_J3_addLast h) q1395 q1396 q1397 q97 q1398 rfl yo_J3_addLast rfl (by decide) (by decide) rfl rc0 (by decide) hk1 hn1 (ofV fun G42 h => ?_) nox
  exact r_vret rfl dX2_finish_97 ⟨rfl, h⟩
def f_X2_finish_54 (a0 : Nat) (k n : Nat) (l2 : Option Nat) (l3 : Int) (G : Wd) (Q : Wd → Prop) : Prop :=
  gR G a0 [1] 2 (fun x45 => nO G k n 9 4 zX10 (fun a46 G47 => nn l2 (fun a48 => gI G47 a48 [7] 2 (fun x49 => br0 x49 (¬ x49 = 0) (gI G47 a48 [7] 2 (fun x50 => br x50 1 (¬ x50 = (1 : Int)) (f_X2_finish_91 a0 (k - 1) (n - 4) x45 (some a46) (some a46) (some a48) false 0 G47 Q) (gI G47 a48 [7] 4 (fun x51 => f_X2_finish_91 a0 (k - 1) (n - 4) x45 (some a46) (some a46) (some a48) false x51 G47 Q)))) (f_X2_finish_91 a0 (k - 1) (n - 4) x45 (some a46) (some a46) (some a48) false l3 G47 Q)))))
theorem w_X2_finish_54 {a0 : Nat} {Q : Wd → Prop} {k n : Nat} {l2 : Option Nat} {l3 : Int} {G : Wd} (h : f_X2_finish_54 a0 k n l2 l3 G Q) : wp m_X2_finish 5 k n 54 [some (vR (some a0)), none, some (vR l2), some (vI l3)] [] G (qV Q) noX := by
  unfold f_X2_finish_54 at h
  refine r_aload_n dX2_finish_54 rfl rfl iR ?_
  refine r_getR dX2_finish_55 (fg1 (f := 2) fX2 (by decide) q640 rfl) h (fun x45 h => ?_)
  refine r_new dX2_finish_58 fX10 q1424 q1567 q131 dfX10 h (fun a46 G47 h => ?_)
  refine r_dup dX2_finish_61 c1R ?_
  refine r_aload_n dX2_finish_62 rfl rfl iR ?_
  refine r_iconst dX2_finish_63 ?_
  refine r_aload_n dX2_finish_64 rfl rfl iR ?_
  obtain ⟨a48, e, h⟩ := h
  refine wp.cast (L' := [some (vR (some a0)), none, some (vR (some a48)), some (vI l3)]) (st' := [vR (some a48), vI 0, vR (some a48), vR (some a46), vR (some a46), vR x45]) (by rw [e]) (by rw [e]) ?_
  refine r_getI dX2_finish_65 (fg1 (f := 2) fX8 (by decide) q1468 rfl) h (fun x49 h => ?_)
  refine r_if_ne (tgt := 75) dX2_finish_68 (by decide) h (fun h => ?_) (fun h => ?_)
  · refine r_aload_n dX2_finish_75 rfl rfl iR ?_
    refine r_getI dX2_finish_76 (fg1 (f := 2) fX8 (by decide) q1468 rfl) h (fun x50 h => ?_)
    refine r_iconst dX2_finish_79 ?_
    refine r_icmp_ne (tgt := 90) dX2_finish_80 (by decide) h (fun h => ?_) (fun h => ?_)
    · refine r_iconst dX2_finish_90 ?_
      refine wp.cast (st' := [vI 0, vB false, vR (some a48), vR (some a46), vR (some a46), vR x45]) rfl (congrArg (fun q => [vI 0, q, vR (some a48), vR (some a46), vR (some a46), vR x45]) vI0) ?_
      refine wp.locals (L' := [none, none, none, none]) (ls_n (ls_n (ls_n (ls_n ls_0)))) ?_
      exact w_X2_finish_91 h
    · refine r_aload_n dX2_finish_83 rfl rfl iR ?_
      refine r_getI dX2_finish_84 (fg1 (f := 4) fX8 (by decide) q1476 rfl) h (fun x51 h => ?_)
      refine r_goto (tgt := 91) dX2_finish_87 (by decide) ?_
      refine wp.cast (st' := [vI x51, vB false, vR (some a48), vR (some a46), vR (some a46), vR x45]) rfl (congrArg (fun q => [vI x51, q, vR (some a48), vR (some a46), vR (some a46), vR x45]) vI0) ?_
      refine wp.locals (L' := [none, none, none, none]) (ls_n (ls_n (ls_n (ls_n ls_0)))) ?_
      exact w_X2_finish_91 h
  · refine r_iload_n dX2_finish_71 rfl rfl iI ?_
    refine r_goto (tgt := 91) dX2_finish_72 (by decide) ?_
    refine wp.cast (st' := [vI l3, vB false, vR (some a48), vR (some a46), vR (some a46), vR x45]) rfl (congrArg (fun q => [vI l3, q, vR (some a48), vR (some a46), vR (some a46), vR x45]) vI0) ?_
    refine wp.locals (L' := [none, none, none, none]) (ls_n (ls_n (ls_n (ls_n ls_0)))) ?_
    exact w_X2_finish_91 h
def f_X2_finish (k n : Nat) (a0 : Nat) (a1 : Option Nat) (G : Wd) (Q : Wd → Prop) : Prop :=
  nn a1 (fun a52 => gR G a52 [8] 0 (fun x53 => gR G a0 [1] 3 (fun x54 => nn x53 (fun a55 => gI G a55 [7] 3 (fun x56 => nn x54 (fun a57 => ldI G a57 0 x56 (fun x58 => gR G a52 [8] 1 (fun x59 => brN x59 (gI G a55 [7] 2 (fun x61 => br x61 1 (¬ x61 = (1 : Int)) (f_X2_finish_54 a0 k n (some a55) x58 G Q) (gR G a0 [1] 3 (fun x62 => gI G a55 [7] 3 (fun x63 => gI G a55 [7] 4 (fun x64 => nn x62 (fun a65 => (stI G a65 0 x63 x64 (fun G66 => f_X2_finish_54 a0 k n (some a55) x58 G66 Q))))))))) (fun a60 => gR G a52 [8] 1 (fun x67 => (∃ k69 n70, (k69 ≤ k ∧ n70 ≤ n) ∧ (isC G a0 1 ∧ f_X2_finishPair k69 n70 a0 (some a55) x67 x58 G (fun G68 => Q G68)))))))))))))
theorem w_X2_finish {a0 : Nat} {Q : Wd → Prop} {k n : Nat} {a1 : Option Nat} {G : Wd} (h : f_X2_finish k n a0 a1 G Q) : wp m_X2_finish 5 k n 0 [some (vR (some a0)), some (vR a1), none, none] [] G (qV Q) noX := by
  unfold f_X2_finish at h
  refine r_aload_n dX2_finish_0 rfl rfl iR ?_
  obtain ⟨a52, e, h⟩ := h
  refine wp.cast (L' := [some (vR (some a0)), some (vR (some a52)), none, none]) (st' := [vR (some a52)]) (by rw [e]) (by rw [e]) ?_
  refine r_getR dX2_finish_1 (fg1 (f := 0) fX9 (by decide) q1544 rfl) h (fun x53 h => ?_)
  refine r_astore_n (L' := [some (vR (some a0)), some (vR (some a52)), some (vR x53), none]) dX2_finish_4 rfl rfl iR cR (by decide) ?_
  refine r_aload_n dX2_finish_5 rfl rfl iR ?_
  refine r_getR dX2_finish_6 (fg1 (f := 3) fX2 (by decide) q642 rfl) h (fun x54 h => ?_)
  refine r_aload_n dX2_finish_9 rfl rfl iR ?_
  obtain ⟨a55, e, h⟩ := h
  refine wp.cast (L' := [some (vR (some a0)), some (vR (some a52)), some (vR (some a55)), none]) (st' := [vR (some a55), vR x54]) (by rw [e]) (by rw [e]) ?_
  refine r_getI dX2_finish_10 (fg1 (f := 3) fX8 (by decide) q1472 rfl) h (fun x56 h => ?_)
  obtain ⟨a57, e, h⟩ := h
  refine wp.cast (L' := [some (vR (some a0)), some (vR (some a52)), some (vR (some a55)), none]) (st' := [vI x56, vR (some a57)]) rfl (by rw [e]) ?_
  refine r_iald dX2_finish_13 h (fun x58 h => ?_)
  refine r_istore_n (L' := [some (vR (some a0)), some (vR (some a52)), some (vR (some a55)), some (vI x58)]) dX2_finish_14 rfl rfl iI cR (by decide) ?_
  refine r_aload_n dX2_finish_15 rfl rfl iR ?_
  refine r_getR dX2_finish_16 (fg1 (f := 1) fX9 (by decide) q1547 rfl) h (fun x59 h => ?_)
  refine r_ifnullV (tgt := 33) dX2_finish_19 (by decide) h (fun e h => ?_) (fun a60 e h => ?_)
  · refine r_aload_n dX2_finish_33 rfl rfl iR ?_
    refine r_getI dX2_finish_34 (fg1 (f := 2) fX8 (by decide) q1468 rfl) h (fun x61 h => ?_)
    refine r_iconst dX2_finish_37 ?_
    refine r_icmp_ne (tgt := 54) dX2_finish_38 (by decide) h (fun h => ?_) (fun h => ?_)
    · refine wp.locals (L' := [some (vR (some a0)), none, some (vR (some a55)), some (vI x58)]) (ls_s (ls_n (ls_s (ls_s ls_0)))) ?_
      exact w_X2_finish_54 h
    · refine r_aload_n dX2_finish_41 rfl rfl iR ?_
      refine r_getR dX2_finish_42 (fg1 (f := 3) fX2 (by decide) q642 rfl) h (fun x62 h => ?_)
      refine r_aload_n dX2_finish_45 rfl rfl iR ?_
      refine r_getI dX2_finish_46 (fg1 (f := 3) fX8 (by decide) q1472 rfl) h (fun x63 h => ?_)
      refine r_aload_n dX2_finish_49 rfl rfl iR ?_
      refine r_getI dX2_finish_50 (fg1 (f := 4) fX8 (by decide) q1476 rfl) h (fun x64 h => ?_)
      obtain ⟨a65, e, h⟩ := h
      refine wp.cast (L' := [some (vR (some a0)), some (vR (some a52)), some (vR (some a55)), some (vI x58)]) (st' := [vI x64, vI x63, vR (some a65)]) rfl (by rw [e]) ?_
      refine r_iast dX2_finish_53 h (fun G66 h => ?_)
      refine wp.locals (L' := [some (vR (some a0)), none, some (vR (some a55)), some (vI x58)]) (ls_s (ls_n (ls_s (ls_s ls_0)))) ?_
      exact w_X2_finish_54 h
  · refine r_aload_n dX2_finish_22 rfl rfl iR ?_
    refine r_aload_n dX2_finish_23 rfl rfl iR ?_
    refine r_aload_n dX2_finish_24 rfl rfl iR ?_
    refine r_getR dX2_finish_25 (fg1 (f := 1) fX9 (by decide) q1547 rfl) h (fun x67 h => ?_)
    refine r_iload_n dX2_finish_28 rfl rfl iI ?_
    obtain ⟨k69, n70, ⟨hk1, hn1⟩, h⟩ := h
    obtain ⟨hC, h⟩ := h
    refine r_callV dX2_finish_29 hC (c_X2_finishPair h) q1563 q1565 qs22 q93 q1566 rfl yo_X2_finishPair rfl (by decide) (by decide) rfl rc0 (by decide) hk1 hn1 (ofV fun G68 h => ?_) nox
    exact r_vret rfl dX2_finish_32 ⟨rfl, h⟩
theorem c_X2_finish {a0 : Nat} {a1 : Option Nat} {k n : Nat} {Q : Wd → Prop} {G : Wd} (h : f_X2_finish k n a0 a1 G Q) : call yX2_finish (Cond.code yX2_finish cX2_finish 4 (none)) 5 k n [vR (some a0), vR a1] G (qV Q) noX :=
  call.enter (by decide +kernel) (la_1 c1R (la_1 c1R (la_nil rfl))) rfl (w_X2_finish h)
abbrev m_X2_look : Mt := (yX2_look.cls, cX2_look, 3, none, [], yX2_look.name)
theorem yo_X2_look : yOK yX2_look 0 := ⟨by decide +kernel, by decide +kernel, by decide +kernel⟩
def f_X2_look_65 (a0 : Nat) (k2 : Int → Wd → Prop) (l1 : Int) (G : Wd) (Q : Wd → Prop) : Prop :=
  k2 (l1 + 1) G
theorem w_X2_look_65 {a0 : Nat} {Q : Wd → Prop} {k2 : Int → Wd → Prop} (hk2 : ∀ {l1 : Int} {G : Wd}, k2 l1 G → wp m_X2_look 2 0 0 2 [some (vR (some a0)), some (vI l1), none] [] G (qV Q) noX) {l1 : Int} {G : Wd} (h : f_X2_look_65 a0 k2 l1 G Q) : wp m_X2_look 2 0 0 65 [some (vR (some a0)), some (vI l1), none] [] G (qV Q) noX := by
  unfold f_X2_look_65 at h
  refine r_iinc (L' := [some (vR (some a0)), some (vI (l1 + 1)), none]) dX2_look_65 rfl rfl cR (by decide) ?_
  refine r_goto (tgt := 2) dX2_look_68 (by decide) ?_
  exact hk2 h
def f_X2_look_2_b (a0 : Nat) (k2 : Int → Wd → Prop) (l1 : Int) (G : Wd) (Q : Wd → Prop) : Prop :=
  gI G a0 [1] 8 (fun x29 => br l1 x29 (x29 ≤ l1) (Q G) (gR G a0 [1] 0 (fun x30 => nn x30 (fun a31 => ldR G a31 7 l1 (fun x32 => nn x32 (fun a33 => gZ G a33 [2] 15 (fun x34 => brB x34 (gZ G a33 [2] 16 (fun x35 => brB x35 (gI G a33 [2] 8 (fun x36 => pF G a33 [2] 9 (vI x36) (fun G37 => (isC G37 a33 2 ∧ f_X3_hasWork a33  G37 (fun x39 G38 => brB x39 (f_X2_look_65 a0 k2 l1 G38 Q) (gI G38 a33 [2] 9 (fun x40 => pF G38 a33 [2] 14 (vI x40) (fun G41 => pF G41 a33 [2] 16 (vB false) (fun G42 => f_X2_look_65 a0 k2 l1 G42 Q))))))))) (f_X2_look_65 a0 k2 l1 G Q))) (f_X2_look_65 a0 k2 l1 G Q))))))))
theorem w_X2_look_2_b {a0 : Nat} {Q : Wd → Prop} {k2 : Int → Wd → Prop} (hk2 : ∀ {l1 : Int} {G : Wd}, k2 l1 G → wp m_X2_look 2 0 0 2 [some (vR (some a0)), some (vI l1), none] [] G (qV Q) noX) {l1 : Int} {G : Wd} (h : f_X2_look_2_b a0 k2 l1 G Q) : wp m_X2_look 2 0 0 2 [some (vR (some a0)), some (vI l1), none] [] G (qV Q) noX := by
  unfold f_X2_look_2_b at h
  refine r_iload_n dX2_look_2 rfl rfl iI ?_
  refine r_aload_n dX2_look_3 rfl rfl iR ?_
  refine r_getI dX2_look_4 (fg1 (f := 8) fX2 (by decide) q651 rfl) h (fun x29 h => ?_)
  refine r_icmp_ge (tgt := 71) dX2_look_7 (by decide) h (fun h => ?_) (fun h => ?_)
  · exact r_vret rfl dX2_look_71 ⟨rfl, h⟩
  · refine r_aload_n dX2_look_10 rfl rfl iR ?_
    refine r_getR dX2_look_11 (fg1 (f := 0) fX2 (by decide) q635 rfl) h (fun x30 h => ?_)
    refine r_iload_n dX2_look_14 rfl rfl iI ?_
    obtain ⟨a31, e, h⟩ := h
    refine wp.cast (L' := [some (vR (some a0)), some (vI l1), none]) (st' := [vI l1, vR (some a31)]) rfl (by rw [e]) ?_
    refine r_aald dX2_look_15 (by decide) (by decide) h (fun x32 h => ?_)
    refine r_astore_n (L' := [some (vR (some a0)), some (vI l1), some (vR x32)]) dX2_look_16 rfl rfl iR cI (by decide) ?_
    refine r_aload_n dX2_look_17 rfl rfl iR ?_
    obtain ⟨a33, e, h⟩ := h
    refine wp.cast (L' := [some (vR (some a0)), some (vI l1), some (vR (some a33))]) (st' := [vR (some a33)]) (by rw [e]) (by rw [e]) ?_
    refine r_getZ dX2_look_18 (fg1 (f := 15) fX3 (by decide) q596 rfl) h (fun x34 h => ?_)
    refine r_ifZ_eq (tgt := 65) dX2_look_21 (by decide) h (fun h => ?_) (fun h => ?_)
    · refine wp.locals (L' := [some (vR (some a0)), some (vI l1), none]) (ls_s (ls_s (ls_n ls_0))) ?_
      exact w_X2_look_65 hk2 h
    · refine r_aload_n dX2_look_24 rfl rfl iR ?_
      refine r_getZ dX2_look_25 (fg1 (f := 16) fX3 (by decide) q599 rfl) h (fun x35 h => ?_)
      refine r_ifZ_ne (tgt := 34) dX2_look_28 (by decide) h (fun h => ?_) (fun h => ?_)
      · refine r_aload_n dX2_look_34 rfl rfl iR ?_
        refine r_aload_n dX2_look_35 rfl rfl iR ?_
        refine r_getI dX2_look_36 (fg1 (f := 8) fX3 (by decide) q576 rfl) h (fun x36 h => ?_)
        refine r_put dX2_look_39 (fp1 (f := 9) fX3 (by decide) q579 rfl rfl rfl) fvI h (fun G37 h => ?_)
        refine r_aload_n dX2_look_42 rfl rfl iR ?_
        obtain ⟨hC, h⟩ := h
        refine r_callV dX2_look_43 hC (c_X3_hasWork h) q1702 q1703 q1704 q98 q1705 rfl yo_X3_hasWork rfl (by decide) (by decide) rfl rc0 (by decide) (Nat.zero_le _) (Nat.zero_le _) (ofB fun x39 G38 h => ?_) nox
        refine r_ifZ_eq (tgt := 52) dX2_look_46 (by decide) h (fun h => ?_) (fun h => ?_)
        · refine r_aload_n dX2_look_52 rfl rfl iR ?_
          refine r_aload_n dX2_look_53 rfl rfl iR ?_
          refine r_getI dX2_look_54 (fg1 (f := 9) fX3 (by decide) q579 rfl) h (fun x40 h => ?_)
          refine r_put dX2_look_57 (fp1 (f := 14) fX3 (by decide) q593 rfl rfl rfl) fvI h (fun G41 h => ?_)
          refine r_aload_n dX2_look_60 rfl rfl iR ?_
          refine r_iconst dX2_look_61 ?_
          refine wp.cast (st' := [vB false, vR (some a33)]) rfl (congrArg (fun q => [q, vR (some a33)]) vI0) ?_
          refine r_put dX2_look_62 (fp1 (f := 16) fX3 (by decide) q599 rfl rfl rfl) fvB h (fun G42 h => ?_)
          refine wp.locals (L' := [some (vR (some a0)), some (vI l1), none]) (ls_s (ls_s (ls_n ls_0))) ?_
          exact w_X2_look_65 hk2 h
        · refine r_goto (tgt := 65) dX2_look_49 (by decide) ?_
          refine wp.locals (L' := [some (vR (some a0)), some (vI l1), none]) (ls_s (ls_s (ls_n ls_0))) ?_
          exact w_X2_look_65 hk2 h
      · refine r_goto (tgt := 65) dX2_look_31 (by decide) ?_
        refine wp.locals (L' := [some (vR (some a0)), some (vI l1), none]) (ls_s (ls_s (ls_n ls_0))) ?_
        exact w_X2_look_65 hk2 h
def f_X2_look_2 (a0 : Nat) (Q : Wd → Prop) : Nat → Int → Wd → Prop
  | 0, _, _ => False
  | fl + 1, l1, G => f_X2_look_2_b a0  (fun l1 G => f_X2_look_2 a0  Q fl l1 G) l1 G Q
theorem w_X2_look_2 {a0 : Nat} {Q : Wd → Prop} : ∀ (fl : Nat) {l1 : Int} {G : Wd}, f_X2_look_2 a0 Q fl l1 G → wp m_X2_look 2 0 0 2 [some (vR (some a0)), some (vI l1), none] [] G (qV Q) noX := by
  intro fl
  induction fl with
  | zero => intro l1 G h; exact (show False from h).elim
  | succ fl ih => intro l1 G h; exact w_X2_look_2_b  (fun h => ih h) h
def f_X2_look (a0 : Nat) (G : Wd) (Q : Wd → Prop) : Prop :=
  ∃ fl43, f_X2_look_2 a0 Q fl43 0 G
theorem w_X2_look {a0 : Nat} {Q : Wd → Prop} {G : Wd} (h : f_X2_look a0 G Q) : wp m_X2_look 2 0 0 0 [some (vR (some a0)), none, none] [] G (qV Q) noX := by
  unfold f_X2_look at h
  refine r_iconst dX2_look_0 ?_
  refine r_istore_n (L' := [some (vR (some a0)), some (vI 0), none]) dX2_look_1 rfl rfl iI cR (by decide) ?_
  obtain ⟨fl43, h⟩ := h
  exact w_X2_look_2 fl43 h
theorem c_X2_look {a0 : Nat} {Q : Wd → Prop} {G : Wd} (h : f_X2_look a0 G Q) : call yX2_look (Cond.code yX2_look cX2_look 3 (none)) 2 0 0 [vR (some a0)] G (qV Q) noX :=
  call.enter (by decide +kernel) (la_1 c1R (la_nil rfl)) rfl (w_X2_look h)
abbrev m_X2_hasWork : Mt := (yX2_hasWork.cls, cX2_hasWork, 2, some .boolean, [], yX2_hasWork.name)
theorem yo_X2_hasWork : yOK yX2_hasWork 0 := ⟨by decide +kernel, by decide +kernel, by decide +kernel⟩
def f_X2_hasWork_2_b (a0 : Nat) (k2 : Int → Wd → Prop) (l1 : Int) (G : Wd) (Q : Bool → Wd → Prop) : Prop :=
  gI G a0 [1] 8 (fun x15 => br l1 x15 (x15 ≤ l1) (Q false G) (gR G a0 [1] 0 (fun x16 => nn x16 (fun a17 => ldR G a17 7 l1 (fun x18 => nn x18 (fun a19 => (isC G a19 2 ∧ f_X3_hasWork a19  G (fun x21 G20 => brB x21 (Q true G20) (k2 (l1 + 1) G20)))))))))
theorem w_X2_hasWork_2_b {a0 : Nat} {Q : Bool → Wd → Prop} {k2 : Int → Wd → Prop} (hk2 : ∀ {l1 : Int} {G : Wd}, k2 l1 G → wp m_X2_hasWork 2 0 0 2 [some (vR (some a0)), some (vI l1)] [] G (qB Q) noX) {l1 : Int} {G : Wd} (h : f_X2_hasWork_2_b a0 k2 l1 G Q) : wp m_X2_hasWork 2 0 0 2 [some (vR (some a0)), some (vI l1)] [] G (qB Q) noX := by
  unfold f_X2_hasWork_2_b at h
  refine r_iload_n dX2_hasWork_2 rfl rfl iI ?_
  refine r_aload_n dX2_hasWork_3 rfl rfl iR ?_
  refine r_getI dX2_hasWork_4 (fg1 (f := 8) fX2 (by decide) q651 rfl) h (fun x15 h => ?_)
  refine r_icmp_ge (tgt := 30) dX2_hasWork_7 (by decide) h (fun h => ?_) (fun h => ?_)
  · refine r_iconst dX2_hasWork_30 ?_
    refine wp.cast (st' := [vB false]) rfl (congrArg (fun q => [q]) vI0) ?_
    exact r_zret rfl dX2_hasWork_31 ⟨_, rfl, h⟩
  · refine r_aload_n dX2_hasWork_10 rfl rfl iR ?_
    refine r_getR dX2_hasWork_11 (fg1 (f := 0) fX2 (by decide) q635 rfl) h (fun x16 h => ?_)
    refine r_iload_n dX2_hasWork_14 rfl rfl iI ?_
    obtain ⟨a17, e, h⟩ := h
    refine wp.cast (L' := [some (vR (some a0)), some (vI l1)]) (st' := [vI l1, vR (some a17)]) rfl (by rw [e]) ?_
    refine r_aald dX2_hasWork_15 (by decide) (by decide) h (fun x18 h => ?_)
    obtain ⟨a19, e, h⟩ := h
    refine wp.cast (L' := [some (vR (some a0)), some (vI l1)]) (st' := [vR (some a19)]) rfl (by rw [e]) ?_
    obtain ⟨hC, h⟩ := h
    refine r_callV dX2_hasWork_16 hC (c_X3_hasWork h) q1702 q1703 q1704 q98 q1705 rfl yo_X3_hasWork rfl (by decide) (by decide) rfl rc0 (by decide) (Nat.zero_le _) (Nat.zero_le _) (ofB fun x21 G20 h => ?_) nox
    refine r_ifZ_eq (tgt := 24) dX2_hasWork_19 (by decide) h (fun h => ?_) (fun h => ?_)
    · refine r_iinc (L' := [some (vR (some a0)), some (vI (l1 + 1))]) dX2_hasWork_24 rfl rfl cR (by decide) ?_
      refine r_goto (tgt := 2) dX2_hasWork_27 (by decide) ?_
      exact hk2 h
    · refine r_iconst dX2_hasWork_22 ?_
      refine wp.cast (st' := [vB true]) rfl (congrArg (fun q => [q]) vI1) ?_
      exact r_zret rfl dX2_hasWork_23 ⟨_, rfl, h⟩
def f_X2_hasWork_2 (a0 : Nat) (Q : Bool → Wd → Prop) : Nat → Int → Wd → Prop
  | 0, _, _ => False
  | fl + 1, l1, G => f_X2_hasWork_2_b a0  (fun l1 G => f_X2_hasWork_2 a0  Q fl l1 G) l1 G Q
theorem w_X2_hasWork_2 {a0 : Nat} {Q : Bool → Wd → Prop} : ∀ (fl : Nat) {l1 : Int} {G : Wd}, f_X2_hasWork_2 a0 Q fl l1 G → wp m_X2_hasWork 2 0 0 2 [some (vR (some a0)), some (vI l1)] [] G (qB Q) noX := by
  intro fl
  induction fl with
  | zero => intro l1 G h; exact (show False from h).elim
  | succ fl ih => intro l1 G h; exact w_X2_hasWork_2_b  (fun h => ih h) h
def f_X2_hasWork (a0 : Nat) (G : Wd) (Q : Bool → Wd → Prop) : Prop :=
  ∃ fl22, f_X2_hasWork_2 a0 Q fl22 0 G
theorem w_X2_hasWork {a0 : Nat} {Q : Bool → Wd → Prop} {G : Wd} (h : f_X2_hasWork a0 G Q) : wp m_X2_hasWork 2 0 0 0 [some (vR (some a0)), none] [] G (qB Q) noX := by
  unfold f_X2_hasWork at h
  refine r_iconst dX2_hasWork_0 ?_
  refine r_istore_n (L' := [some (vR (some a0)), some (vI 0)]) dX2_hasWork_1 rfl rfl iI cR (by decide) ?_
  obtain ⟨fl22, h⟩ := h
  exact w_X2_hasWork_2 fl22 h
theorem c_X2_hasWork {a0 : Nat} {Q : Bool → Wd → Prop} {G : Wd} (h : f_X2_hasWork a0 G Q) : call yX2_hasWork (Cond.code yX2_hasWork cX2_hasWork 2 (some .boolean)) 2 0 0 [vR (some a0)] G (qB Q) noX :=
  call.enter (by decide +kernel) (la_1 c1R (la_nil rfl)) rfl (w_X2_hasWork h)
abbrev m_X2_turn : Mt := (yX2_turn.cls, cX2_turn, 4, some (.object "QueueDrive$Line"), [], yX2_turn.name)
theorem yo_X2_turn : yOK yX2_turn 1 := ⟨by decide +kernel, by decide +kernel, by decide +kernel⟩
def f_X2_turn_58 (a0 : Nat) (k2 : Int → Int → Wd → Prop) (l1 : Int) (l2 : Int) (G : Wd) (Q : Option Nat → Wd → Prop) : Prop :=
  k2 l1 (l2 + 1) G
theorem w_X2_turn_58 {a0 : Nat} {Q : Option Nat → Wd → Prop} {k2 : Int → Int → Wd → Prop} (hk2 : ∀ {l1 : Int} {l2 : Int} {G : Wd}, k2 l1 l2 G → wp m_X2_turn 2 0 0 2 [some (vR (some a0)), some (vI l1), some (vI l2), none] [] G (qR Q) noX) {l1 : Int} {l2 : Int} {G : Wd} (h : f_X2_turn_58 a0 k2 l1 l2 G Q) : wp m_X2_turn 2 0 0 58 [some (vR (some a0)), some (vI l1), some (vI l2), none] [] G (qR Q) noX := by
  unfold f_X2_turn_58 at h
  refine r_iinc (L' := [some (vR (some a0)), some (vI l1), some (vI (l2 + 1)), none]) dX2_turn_58 rfl rfl cI (by decide) ?_
  refine r_goto (tgt := 2) dX2_turn_61 (by decide) ?_
  exact hk2 h
def f_X2_turn_2_b (a0 : Nat) (k2 : Int → Int → Wd → Prop) (l1 : Int) (l2 : Int) (G : Wd) (Q : Option Nat → Wd → Prop) : Prop :=
  br l2 5 ((5 : Int) < l2) (Q none G) (gR G a0 [1] 6 (fun x37 => nn x37 (fun a38 => ldI G a38 0 l1 (fun x39 => okm (x39 + l2) 5 (gI G a0 [1] 8 (fun x40 => br ((x39 + l2) % 5) x40 (x40 ≤ ((x39 + l2) % 5)) (f_X2_turn_58 a0 k2 l1 l2 G Q) (gR G a0 [1] 0 (fun x41 => nn x41 (fun a42 => ldR G a42 7 ((x39 + l2) % 5) (fun x43 => nn x43 (fun a44 => gI G a44 [2] 6 (fun x45 => br x45 l1 (¬ x45 = l1) (f_X2_turn_58 a0 k2 l1 l2 G Q) (gR G a0 [1] 0 (fun x46 => nn x46 (fun a47 => ldR G a47 7 ((x39 + l2) % 5) (fun x48 => nn x48 (fun a49 => (isC G a49 2 ∧ f_X3_hasWork a49  G (fun x51 G50 => brB x51 (gR G50 a0 [1] 0 (fun x52 => nn x52 (fun a53 => ldR G50 a53 7 ((x39 + l2) % 5) (fun x54 => Q x54 G50)))) (f_X2_turn_58 a0 k2 l1 l2 G50 Q))))))))))))))))))))
theorem w_X2_turn_2_b {a0 : Nat} {Q : Option Nat → Wd → Prop} {k2 : Int → Int → Wd → Prop} (hk2 : ∀ {l1 : Int} {l2 : Int} {G : Wd}, k2 l1 l2 G → wp m_X2_turn 2 0 0 2 [some (vR (some a0)), some (vI l1), some (vI l2), none] [] G (qR Q) noX) {l1 : Int} {l2 : Int} {G : Wd} (h : f_X2_turn_2_b a0 k2 l1 l2 G Q) : wp m_X2_turn 2 0 0 2 [some (vR (some a0)), some (vI l1), some (vI l2), none] [] G (qR Q) noX := by
  unfold f_X2_turn_2_b at h
  refine r_iload_n dX2_turn_2 rfl rfl iI ?_
  refine r_iconst dX2_turn_3 ?_
  refine r_icmp_gt (tgt := 64) dX2_turn_4 (by decide) h (fun h => ?_) (fun h => ?_)
  · refine r_null dX2_turn_64 ?_
    exact r_aret rtO dX2_turn_65 ⟨_, rfl, h⟩
  · refine r_aload_n dX2_turn_7 rfl rfl iR ?_
    refine r_getR dX2_turn_8 (fg1 (f := 6) fX2 (by decide) q648 rfl) h (fun x37 h => ?_)
    refine r_iload_n dX2_turn_11 rfl rfl iI ?_
    obtain ⟨a38, e, h⟩ := h
    refine wp.cast (L' := [some (vR (some a0)), some (vI l1), some (vI l2), none]) (st' := [vI l1, vR (some a38)]) rfl (by rw [e]) ?_
    refine r_iald dX2_turn_12 h (fun x39 h => ?_)
    refine r_iload_n dX2_turn_13 rfl rfl iI ?_
    refine r_iadd dX2_turn_14 ?_
    refine r_iconst dX2_turn_15 ?_
    refine r_irem dX2_turn_16 h (fun h => ?_)
    refine r_istore_n (L' := [some (vR (some a0)), some (vI l1), some (vI l2), some (vI ((x39 + l2) % 5))]) dX2_turn_17 rfl rfl iI cI (by decide) ?_
    refine r_iload_n dX2_turn_18 rfl rfl iI ?_
    refine r_aload_n dX2_turn_19 rfl rfl iR ?_
    refine r_getI dX2_turn_20 (fg1 (f := 8) fX2 (by decide) q651 rfl) h (fun x40 h => ?_)
    refine r_icmp_ge (tgt := 58) dX2_turn_23 (by decide) h (fun h => ?_) (fun h => ?_)
    · refine wp.locals (L' := [some (vR (some a0)), some (vI l1), some (vI l2), none]) (ls_s (ls_s (ls_s (ls_n ls_0)))) ?_
      exact w_X2_turn_58 hk2 h
    · refine r_aload_n dX2_turn_26 rfl rfl iR ?_
      refine r_getR dX2_turn_27 (fg1 (f := 0) fX2 (by decide) q635 rfl) h (fun x41 h => ?_)
      refine r_iload_n dX2_turn_30 rfl rfl iI ?_
      obtain ⟨a42, e, h⟩ := h
      refine wp.cast (L' := [some (vR (some a0)), some (vI l1), some (vI l2), some (vI ((x39 + l2) % 5))]) (st' := [vI ((x39 + l2) % 5), vR (some a42)]) rfl (by rw [e]) ?_
      refine r_aald dX2_turn_31 (by decide) (by decide) h (fun x43 h => ?_)
      obtain ⟨a44, e, h⟩ := h
      refine wp.cast (L' := [some (vR (some a0)), some (vI l1), some (vI l2), some (vI ((x39 + l2) % 5))]) (st' := [vR (some a44)]) rfl (by rw [e]) ?_
      refine r_getI dX2_turn_32 (fg1 (f := 6) fX3 (by decide) q568 rfl) h (fun x45 h => ?_)
      refine r_iload_n dX2_turn_35 rfl rfl iI ?_
      refine r_icmp_ne (tgt := 58) dX2_turn_36 (by decide) h (fun h => ?_) (fun h => ?_)
      · refine wp.locals (L' := [some (vR (some a0)), some (vI l1), some (vI l2), none]) (ls_s (ls_s (ls_s (ls_n ls_0)))) ?_
        exact w_X2_turn_58 hk2 h
      · refine r_aload_n dX2_turn_39 rfl rfl iR ?_
        refine r_getR dX2_turn_40 (fg1 (f := 0) fX2 (by decide) q635 rfl) h (fun x46 h => ?_)
        refine r_iload_n dX2_turn_43 rfl rfl iI ?_
        obtain ⟨a47, e, h⟩ := h
        refine wp.cast (L' := [some (vR (some a0)), some (vI l1), some (vI l2), some (vI ((x39 + l2) % 5))]) (st' := [vI ((x39 + l2) % 5), vR (some a47)]) rfl (by rw [e]) ?_
        refine r_aald dX2_turn_44 (by decide) (by decide) h (fun x48 h => ?_)
        obtain ⟨a49, e, h⟩ := h
        refine wp.cast (L' := [some (vR (some a0)), some (vI l1), some (vI l2), some (vI ((x39 + l2) % 5))]) (st' := [vR (some a49)]) rfl (by rw [e]) ?_
        obtain ⟨hC, h⟩ := h
        refine r_callV dX2_turn_45 hC (c_X3_hasWork h) q1702 q1703 q1704 q98 q1705 rfl yo_X3_hasWork rfl (by decide) (by decide) rfl rc0 (by decide) (Nat.zero_le _) (Nat.zero_le _) (ofB fun x51 G50 h => ?_) nox
        refine r_ifZ_eq (tgt := 58) dX2_turn_48 (by decide) h (fun h => ?_) (fun h => ?_)
        · refine wp.locals (L' := [some (vR (some a0)), some (vI l1), some (vI l2), none]) (ls_s (ls_s (ls_s (ls_n ls_0)))) ?_
          exact w_X2_turn_58 hk2 h
        · refine r_aload_n dX2_turn_51 rfl rfl iR ?_
          refine r_getR dX2_turn_52 (fg1 (f := 0) fX2 (by decide) q635 rfl) h (fun x52 h => ?_)
          refine r_iload_n dX2_turn_55 rfl rfl iI ?_
          obtain ⟨a53, e, h⟩ := h
          refine wp.cast (L' := [some (vR (some a0)), some (vI l1), some (vI l2), some (vI ((x39 + l2) % 5))]) (st' := [vI ((x39 + l2) % 5), vR (some a53)]) rfl (by rw [e]) ?_
          refine r_aald dX2_turn_56 (by decide) (by decide) h (fun x54 h => ?_)
          exact r_aret rtO dX2_turn_57 ⟨_, rfl, h⟩
def f_X2_turn_2 (a0 : Nat) (Q : Option Nat → Wd → Prop) : Nat → Int → Int → Wd → Prop
  | 0, _, _, _ => False
  | fl + 1, l1, l2, G => f_X2_turn_2_b a0  (fun l1 l2 G => f_X2_turn_2 a0  Q fl l1 l2 G) l1 l2 G Q
theorem w_X2_turn_2 {a0 : Nat} {Q : Option Nat → Wd → Prop} : ∀ (fl : Nat) {l1 : Int} {l2 : Int} {G : Wd}, f_X2_turn_2 a0 Q fl l1 l2 G → wp m_X2_turn 2 0 0 2 [some (vR (some a0)), some (vI l1), some (vI l2), none] [] G (qR Q) noX := by
  intro fl
  induction fl with
  | zero => intro l1 l2 G h; exact (show False from h).elim
  | succ fl ih => intro l1 l2 G h; exact w_X2_turn_2_b  (fun h => ih h) h
def f_X2_turn (a0 : Nat) (a1 : Int) (G : Wd) (Q : Option Nat → Wd → Prop) : Prop :=
  ∃ fl55, f_X2_turn_2 a0 Q fl55 a1 1 G
theorem w_X2_turn {a0 : Nat} {Q : Option Nat → Wd → Prop} {a1 : Int} {G : Wd} (h : f_X2_turn a0 a1 G Q) : wp m_X2_turn 2 0 0 0 [some (vR (some a0)), some (vI a1), none, none] [] G (qR Q) noX := by
  unfold f_X2_turn at h
  refine r_iconst dX2_turn_0 ?_
  refine r_istore_n (L' := [some (vR (some a0)), some (vI a1), some (vI 1), none]) dX2_turn_1 rfl rfl iI cI (by decide) ?_
  obtain ⟨fl55, h⟩ := h
  exact w_X2_turn_2 fl55 h
theorem c_X2_turn {a0 : Nat} {a1 : Int} {Q : Option Nat → Wd → Prop} {G : Wd} (h : f_X2_turn a0 a1 G Q) : call yX2_turn (Cond.code yX2_turn cX2_turn 4 (some (.object "QueueDrive$Line"))) 2 0 0 [vR (some a0), vI a1] G (qR Q) noX :=
  call.enter (by decide +kernel) (la_1 c1R (la_1 c1I (la_nil rfl))) rfl (w_X2_turn h)
abbrev m_X2_hasCredit : Mt := (yX2_hasCredit.cls, cX2_hasCredit, 2, some .boolean, [], yX2_hasCredit.name)
theorem yo_X2_hasCredit : yOK yX2_hasCredit 0 := ⟨by decide +kernel, by decide +kernel, by decide +kernel⟩
def f_X2_hasCredit_26 (a0 : Nat) (k2 : Int → Wd → Prop) (l1 : Int) (G : Wd) (Q : Bool → Wd → Prop) : Prop :=
  k2 (l1 + 1) G
theorem w_X2_hasCredit_26 {a0 : Nat} {Q : Bool → Wd → Prop} {k2 : Int → Wd → Prop} (hk2 : ∀ {l1 : Int} {G : Wd}, k2 l1 G → wp m_X2_hasCredit 3 0 0 2 [some (vR (some a0)), some (vI l1)] [] G (qB Q) noX) {l1 : Int} {G : Wd} (h : f_X2_hasCredit_26 a0 k2 l1 G Q) : wp m_X2_hasCredit 3 0 0 26 [some (vR (some a0)), some (vI l1)] [] G (qB Q) noX := by
  unfold f_X2_hasCredit_26 at h
  refine r_iinc (L' := [some (vR (some a0)), some (vI (l1 + 1))]) dX2_hasCredit_26 rfl rfl cR (by decide) ?_
  refine r_goto (tgt := 2) dX2_hasCredit_29 (by decide) ?_
  exact hk2 h
def f_X2_hasCredit_2_b (a0 : Nat) (k2 : Int → Wd → Prop) (l1 : Int) (G : Wd) (Q : Bool → Wd → Prop) : Prop :=
  br l1 4 ((4 : Int) ≤ l1) (Q false G) (gR G a0 [1] 5 (fun x13 => nn x13 (fun a14 => ldI G a14 0 l1 (fun x15 => br0 x15 (x15 ≤ 0) (f_X2_hasCredit_26 a0 k2 l1 G Q) ((isC G a0 1 ∧ f_X2_turn a0 l1 G (fun x17 G16 => brN x17 (f_X2_hasCredit_26 a0 k2 l1 G16 Q) (fun a18 => Q true G16))))))))
theorem w_X2_hasCredit_2_b {a0 : Nat} {Q : Bool → Wd → Prop} {k2 : Int → Wd → Prop} (hk2 : ∀ {l1 : Int} {G : Wd}, k2 l1 G → wp m_X2_hasCredit 3 0 0 2 [some (vR (some a0)), some (vI l1)] [] G (qB Q) noX) {l1 : Int} {G : Wd} (h : f_X2_hasCredit_2_b a0 k2 l1 G Q) : wp m_X2_hasCredit 3 0 0 2 [some (vR (some a0)), some (vI l1)] [] G (qB Q) noX := by
  unfold f_X2_hasCredit_2_b at h
  refine r_iload_n dX2_hasCredit_2 rfl rfl iI ?_
  refine r_iconst dX2_hasCredit_3 ?_
  refine r_icmp_ge (tgt := 32) dX2_hasCredit_4 (by decide) h (fun h => ?_) (fun h => ?_)
  · refine r_iconst dX2_hasCredit_32 ?_
    refine wp.cast (st' := [vB false]) rfl (congrArg (fun q => [q]) vI0) ?_
    exact r_zret rfl dX2_hasCredit_33 ⟨_, rfl, h⟩
  · refine r_aload_n dX2_hasCredit_7 rfl rfl iR ?_
    refine r_getR dX2_hasCredit_8 (fg1 (f := 5) fX2 (by decide) q646 rfl) h (fun x13 h => ?_)
    refine r_iload_n dX2_hasCredit_11 rfl rfl iI ?_
    obtain ⟨a14, e, h⟩ := h
    refine wp.cast (L' := [some (vR (some a0)), some (vI l1)]) (st' := [vI l1, vR (some a14)]) rfl (by rw [e]) ?_
    refine r_iald dX2_hasCredit_12 h (fun x15 h => ?_)
    refine r_if_le (tgt := 26) dX2_hasCredit_13 (by decide) h (fun h => ?_) (fun h => ?_)
    · exact w_X2_hasCredit_26 hk2 h
    · refine r_aload_n dX2_hasCredit_16 rfl rfl iR ?_
      refine r_iload_n dX2_hasCredit_17 rfl rfl iI ?_
      obtain ⟨hC, h⟩ := h
      refine r_callV dX2_hasCredit_18 hC (c_X2_turn h) q1718 q1719 q1720 q93 q1721 rfl yo_X2_turn rfl (by decide) (by decide) rfl rc0 (by decide) (Nat.zero_le _) (Nat.zero_le _) (ofR fun x17 G16 h => ?_) nox
      refine r_ifnullV (tgt := 26) dX2_hasCredit_21 (by decide) h (fun e h => ?_) (fun a18 e h => ?_)
      · exact w_X2_hasCredit_26 hk2 h
      · refine r_iconst dX2_hasCredit_24 ?_
        refine wp.cast (st' := [vB true]) rfl (congrArg (fun q => [q]) vI1) ?_
        exact r_zret rfl dX2_hasCredit_25 ⟨_, rfl, h⟩
def f_X2_hasCredit_2 (a0 : Nat) (Q : Bool → Wd → Prop) : Nat → Int → Wd → Prop
  | 0, _, _ => False
  | fl + 1, l1, G => f_X2_hasCredit_2_b a0  (fun l1 G => f_X2_hasCredit_2 a0  Q fl l1 G) l1 G Q
theorem w_X2_hasCredit_2 {a0 : Nat} {Q : Bool → Wd → Prop} : ∀ (fl : Nat) {l1 : Int} {G : Wd}, f_X2_hasCredit_2 a0 Q fl l1 G → wp m_X2_hasCredit 3 0 0 2 [some (vR (some a0)), some (vI l1)] [] G (qB Q) noX := by
  intro fl
  induction fl with
  | zero => intro l1 G h; exact (show False from h).elim
  | succ fl ih => intro l1 G h; exact w_X2_hasCredit_2_b  (fun h => ih h) h
def f_X2_hasCredit (a0 : Nat) (G : Wd) (Q : Bool → Wd → Prop) : Prop :=
  ∃ fl19, f_X2_hasCredit_2 a0 Q fl19 1 G
theorem w_X2_hasCredit {a0 : Nat} {Q : Bool → Wd → Prop} {G : Wd} (h : f_X2_hasCredit a0 G Q) : wp m_X2_hasCredit 3 0 0 0 [some (vR (some a0)), none] [] G (qB Q) noX := by
  unfold f_X2_hasCredit at h
  refine r_iconst dX2_hasCredit_0 ?_
  refine r_istore_n (L' := [some (vR (some a0)), some (vI 1)]) dX2_hasCredit_1 rfl rfl iI cR (by decide) ?_
  obtain ⟨fl19, h⟩ := h
  exact w_X2_hasCredit_2 fl19 h
theorem c_X2_hasCredit {a0 : Nat} {Q : Bool → Wd → Prop} {G : Wd} (h : f_X2_hasCredit a0 G Q) : call yX2_hasCredit (Cond.code yX2_hasCredit cX2_hasCredit 2 (some .boolean)) 3 0 0 [vR (some a0)] G (qB Q) noX :=
  call.enter (by decide +kernel) (la_1 c1R (la_nil rfl)) rfl (w_X2_hasCredit h)
abbrev m_X2_empty : Mt := (yX2_empty.cls, cX2_empty, 2, none, [], yX2_empty.name)
theorem yo_X2_empty : yOK yX2_empty 0 := ⟨by decide +kernel, by decide +kernel, by decide +kernel⟩
def f_X2_empty_2_b (a0 : Nat) (k2 : Int → Wd → Prop) (l1 : Int) (G : Wd) (Q : Wd → Prop) : Prop :=
  gI G a0 [1] 8 (fun x43 => br l1 x43 (x43 ≤ l1) (gR G a0 [1] 1 (fun x44 => nn x44 (fun a45 => (isC G a45 12 ∧ f_J3_clear a45  G (fun G46 => gR G46 a0 [1] 2 (fun x47 => nn x47 (fun a48 => (isC G46 a48 12 ∧ f_J3_clear a48  G46 (fun G49 => gR G49 a0 [1] 4 (fun x50 => gR G49 a0 [1] 5 (fun x51 => nn x51 (fun a52 => nn x50 (fun a53 => cpI G49 a53 0 a52 0 4 (fun G54 => gR G54 a0 [1] 6 (fun x55 => f_J16_fill x55 4 G54 (fun G56 => gR G56 a0 [1] 7 (fun x57 => f_J16_fill x57 0 G56 (fun G58 => Q G58)))))))))))))))))) (gR G a0 [1] 0 (fun x59 => nn x59 (fun a60 => ldR G a60 7 l1 (fun x61 => nn x61 (fun a62 => (isC G a62 2 ∧ f_X3_empty a62  G (fun G63 => k2 (l1 + 1) G63))))))))
theorem w_X2_empty_2_b {a0 : Nat} {Q : Wd → Prop} {k2 : Int → Wd → Prop} (hk2 : ∀ {l1 : Int} {G : Wd}, k2 l1 G → wp m_X2_empty 4 0 0 2 [some (vR (some a0)), some (vI l1)] [] G (qV Q) noX) {l1 : Int} {G : Wd} (h : f_X2_empty_2_b a0 k2 l1 G Q) : wp m_X2_empty 4 0 0 2 [some (vR (some a0)), some (vI l1)] [] G (qV Q) noX := by
  unfold f_X2_empty_2_b at h
  refine r_iload_n dX2_empty_2 rfl rfl iI ?_
  refine r_aload_n dX2_empty_3 rfl rfl iR ?_
  refine r_getI dX2_empty_4 (fg1 (f := 8) fX2 (by decide) q651 rfl) h (fun x43 h => ?_)
  refine r_icmp_ge (tgt := 25) dX2_empty_7 (by decide) h (fun h => ?_) (fun h => ?_)
  · refine r_aload_n dX2_empty_25 rfl rfl iR ?_
    refine r_getR dX2_empty_26 (fg1 (f := 1) fX2 (by decide) q637 rfl) h (fun x44 h => ?_)
    obtain ⟨a45, e, h⟩ := h
    refine wp.cast (L' := [some (vR (some a0)), some (vI l1)]) (st' := [vR (some a45)]) rfl (by rw [e]) ?_
    obtain ⟨hC, h⟩ := h
    refine r_callV dX2_empty_29 hC (c_J3_clear h) q1336 q1337 q1338 q97 q1339 rfl yo_J3_clear rfl (by decide) (by decide) rfl rc0 (by decide) (Nat.zero_le _) (Nat.zero_le _) (ofV fun G46 h => ?_) nox
    refine r_aload_n dX2_empty_32 rfl rfl iR ?_
    refine r_getR dX2_empty_33 (fg1 (f := 2) fX2 (by decide) q640 rfl) h (fun x47 h => ?_)
    obtain ⟨a48, e, h⟩ := h
    refine wp.cast (L' := [some (vR (some a0)), some (vI l1)]) (st' := [vR (some a48)]) rfl (by rw [e]) ?_
    obtain ⟨hC, h⟩ := h
    refine r_callV dX2_empty_36 hC (c_J3_clear h) q1336 q1337 q1338 q97 q1339 rfl yo_J3_clear rfl (by decide) (by decide) rfl rc0 (by decide) (Nat.zero_le _) (Nat.zero_le _) (ofV fun G49 h => ?_) nox
    refine r_aload_n dX2_empty_39 rfl rfl iR ?_
    refine r_getR dX2_empty_40 (fg1 (f := 4) fX2 (by decide) q644 rfl) h (fun x50 h => ?_)
    refine r_iconst dX2_empty_43 ?_
    refine r_aload_n dX2_empty_44 rfl rfl iR ?_
    refine r_getR dX2_empty_45 (fg1 (f := 5) fX2 (by decide) q646 rfl) h (fun x51 h => ?_)
    refine r_iconst dX2_empty_48 ?_
    refine r_iconst dX2_empty_49 ?_
    obtain ⟨a52, e, h⟩ := h
    refine wp.cast (L' := [some (vR (some a0)), some (vI l1)]) (st' := [vI 4, vI 0, vR (some a52), vI 0, vR x50]) rfl (by rw [e]) ?_
    obtain ⟨a53, e, h⟩ := h
    refine wp.cast (L' := [some (vR (some a0)), some (vI l1)]) (st' := [vI 4, vI 0, vR (some a52), vI 0, vR (some a53)]) rfl (by rw [e]) ?_
    refine r_cpI dX2_empty_50 q1425 rc0 (by decide) (by decide) h (fun G54 h => ?_)
    refine r_aload_n dX2_empty_53 rfl rfl iR ?_
    refine r_getR dX2_empty_54 (fg1 (f := 6) fX2 (by decide) q648 rfl) h (fun x55 h => ?_)
    refine r_iconst dX2_empty_57 ?_
    refine r_callS dX2_empty_58 (c_J16_fill h) q1851 q1852 q111 q1853 yo_J16_fill rfl (by decide) (by decide) rfl rc0 (by decide) (Nat.zero_le _) (Nat.zero_le _) (ofV fun G56 h => ?_) nox
    refine r_aload_n dX2_empty_61 rfl rfl iR ?_
    refine r_getR dX2_empty_62 (fg1 (f := 7) fX2 (by decide) q649 rfl) h (fun x57 h => ?_)
    refine r_iconst dX2_empty_65 ?_
    refine r_callS dX2_empty_66 (c_J16_fill h) q1851 q1852 q111 q1853 yo_J16_fill rfl (by decide) (by decide) rfl rc0 (by decide) (Nat.zero_le _) (Nat.zero_le _) (ofV fun G58 h => ?_) nox
    exact r_vret rfl dX2_empty_69 ⟨rfl, h⟩
  · refine r_aload_n dX2_empty_10 rfl rfl iR ?_
    refine r_getR dX2_empty_11 (fg1 (f := 0) fX2 (by decide) q635 rfl) h (fun x59 h => ?_)
    refine r_iload_n dX2_empty_14 rfl rfl iI ?_
    obtain ⟨a60, e, h⟩ := h
    refine wp.cast (L' := [some (vR (some a0)), some (vI l1)]) (st' := [vI l1, vR (some a60)]) rfl (by rw [e]) ?_
    refine r_aald dX2_empty_15 (by decide) (by decide) h (fun x61 h => ?_)
    obtain ⟨a62, e, h⟩ := h
    refine wp.cast (L' := [some (vR (some a0)), some (vI l1)]) (st' := [vR (some a62)]) rfl (by rw [e]) ?_
    obtain ⟨hC, h⟩ := h
    refine r_callV dX2_empty_16 hC (c_X3_empty h) q1850 q924 q925 q98 q926 rfl yo_X3_empty rfl (by decide) (by decide) rfl rc0 (by decide) (Nat.zero_le _) (Nat.zero_le _) (ofV fun G63 h => ?_) nox
    refine r_iinc (L' := [some (vR (some a0)), some (vI (l1 + 1))]) dX2_empty_19 rfl rfl cR (by decide) ?_
    refine r_goto (tgt := 2) dX2_empty_22 (by decide) ?_
    exact hk2 h
def f_X2_empty_2 (a0 : Nat) (Q : Wd → Prop) : Nat → Int → Wd → Prop
  | 0, _, _ => False
  | fl + 1, l1, G => f_X2_empty_2_b a0  (fun l1 G => f_X2_empty_2 a0  Q fl l1 G) l1 G Q
theorem w_X2_empty_2 {a0 : Nat} {Q : Wd → Prop} : ∀ (fl : Nat) {l1 : Int} {G : Wd}, f_X2_empty_2 a0 Q fl l1 G → wp m_X2_empty 4 0 0 2 [some (vR (some a0)), some (vI l1)] [] G (qV Q) noX := by
  intro fl
  induction fl with
  | zero => intro l1 G h; exact (show False from h).elim
  | succ fl ih => intro l1 G h; exact w_X2_empty_2_b  (fun h => ih h) h
def f_X2_empty (a0 : Nat) (G : Wd) (Q : Wd → Prop) : Prop :=
  ∃ fl64, f_X2_empty_2 a0 Q fl64 0 G
theorem w_X2_empty {a0 : Nat} {Q : Wd → Prop} {G : Wd} (h : f_X2_empty a0 G Q) : wp m_X2_empty 4 0 0 0 [some (vR (some a0)), none] [] G (qV Q) noX := by
  unfold f_X2_empty at h
  refine r_iconst dX2_empty_0 ?_
  refine r_istore_n (L' := [some (vR (some a0)), some (vI 0)]) dX2_empty_1 rfl rfl iI cR (by decide) ?_
  obtain ⟨fl64, h⟩ := h
  exact w_X2_empty_2 fl64 h
theorem c_X2_empty {a0 : Nat} {Q : Wd → Prop} {G : Wd} (h : f_X2_empty a0 G Q) : call yX2_empty (Cond.code yX2_empty cX2_empty 2 (none)) 4 0 0 [vR (some a0)] G (qV Q) noX :=
  call.enter (by decide +kernel) (la_1 c1R (la_nil rfl)) rfl (w_X2_empty h)
abbrev m_X2_takeAll : Mt := (yX2_takeAll.cls, cX2_takeAll, 3, some .int, [], yX2_takeAll.name)
theorem yo_X2_takeAll : yOK yX2_takeAll 0 := ⟨by decide +kernel, by decide +kernel, by decide +kernel⟩
def f_X2_takeAll_12_b (a0 : Nat) (k4 : Int → Int → Wd → Prop) (k12 : Int → Int → Wd → Prop) (l1 : Int) (l2 : Int) (G : Wd) (Q : Int → Wd → Prop) : Prop :=
  gR G a0 [1] 0 (fun x52 => nn x52 (fun a53 => ldR G a53 7 l2 (fun x54 => nn x54 (fun a55 => gI G a55 [2] 12 (fun x56 => gR G a0 [1] 0 (fun x57 => nn x57 (fun a58 => ldR G a58 7 l2 (fun x59 => nn x59 (fun a60 => gI G a60 [2] 13 (fun x61 => br x56 x61 (x56 ≤ x61) (k4 l1 (l2 + 1) G) (gR G a0 [1] 0 (fun x62 => nn x62 (fun a63 => ldR G a63 7 l2 (fun x64 => nn x64 (fun a65 => (isC G a65 2 ∧ f_X3_take a65  G (fun x67 G66 => k12 (l1 + 1) l2 G66)))))))))))))))))
theorem w_X2_takeAll_12_b {a0 : Nat} {Q : Int → Wd → Prop} {k4 : Int → Int → Wd → Prop} (hk4 : ∀ {l1 : Int} {l2 : Int} {G : Wd}, k4 l1 l2 G → wp m_X2_takeAll 4 0 0 4 [some (vR (some a0)), some (vI l1), some (vI l2)] [] G (qI Q) noX) {k12 : Int → Int → Wd → Prop} (hk12 : ∀ {l1 : Int} {l2 : Int} {G : Wd}, k12 l1 l2 G → wp m_X2_takeAll 4 0 0 12 [some (vR (some a0)), some (vI l1), some (vI l2)] [] G (qI Q) noX) {l1 : Int} {l2 : Int} {G : Wd} (h : f_X2_takeAll_12_b a0 k4 k12 l1 l2 G Q) : wp m_X2_takeAll 4 0 0 12 [some (vR (some a0)), some (vI l1), some (vI l2)] [] G (qI Q) noX := by
  unfold f_X2_takeAll_12_b at h
  refine r_aload_n dX2_takeAll_12 rfl rfl iR ?_
  refine r_getR dX2_takeAll_13 (fg1 (f := 0) fX2 (by decide) q635 rfl) h (fun x52 h => ?_)
  refine r_iload_n dX2_takeAll_16 rfl rfl iI ?_
  obtain ⟨a53, e, h⟩ := h
  refine wp.cast (L' := [some (vR (some a0)), some (vI l1), some (vI l2)]) (st' := [vI l2, vR (some a53)]) rfl (by rw [e]) ?_
  refine r_aald dX2_takeAll_17 (by decide) (by decide) h (fun x54 h => ?_)
  obtain ⟨a55, e, h⟩ := h
  refine wp.cast (L' := [some (vR (some a0)), some (vI l1), some (vI l2)]) (st' := [vR (some a55)]) rfl (by rw [e]) ?_
  refine r_getI dX2_takeAll_18 (fg1 (f := 12) fX3 (by decide) q587 rfl) h (fun x56 h => ?_)
  refine r_aload_n dX2_takeAll_21 rfl rfl iR ?_
  refine r_getR dX2_takeAll_22 (fg1 (f := 0) fX2 (by decide) q635 rfl) h (fun x57 h => ?_)
  refine r_iload_n dX2_takeAll_25 rfl rfl iI ?_
  obtain ⟨a58, e, h⟩ := h
  refine wp.cast (L' := [some (vR (some a0)), some (vI l1), some (vI l2)]) (st' := [vI l2, vR (some a58), vI x56]) rfl (by rw [e]) ?_
  refine r_aald dX2_takeAll_26 (by decide) (by decide) h (fun x59 h => ?_)
  obtain ⟨a60, e, h⟩ := h
  refine wp.cast (L' := [some (vR (some a0)), some (vI l1), some (vI l2)]) (st' := [vR (some a60), vI x56]) rfl (by rw [e]) ?_
  refine r_getI dX2_takeAll_27 (fg1 (f := 13) fX3 (by decide) q590 rfl) h (fun x61 h => ?_)
  refine r_icmp_le (tgt := 49) dX2_takeAll_30 (by decide) h (fun h => ?_) (fun h => ?_)
  · refine r_iinc (L' := [some (vR (some a0)), some (vI l1), some (vI (l2 + 1))]) dX2_takeAll_49 rfl rfl cI (by decide) ?_
    refine r_goto (tgt := 4) dX2_takeAll_52 (by decide) ?_
    exact hk4 h
  · refine r_aload_n dX2_takeAll_33 rfl rfl iR ?_
    refine r_getR dX2_takeAll_34 (fg1 (f := 0) fX2 (by decide) q635 rfl) h (fun x62 h => ?_)
    refine r_iload_n dX2_takeAll_37 rfl rfl iI ?_
    obtain ⟨a63, e, h⟩ := h
    refine wp.cast (L' := [some (vR (some a0)), some (vI l1), some (vI l2)]) (st' := [vI l2, vR (some a63)]) rfl (by rw [e]) ?_
    refine r_aald dX2_takeAll_38 (by decide) (by decide) h (fun x64 h => ?_)
    obtain ⟨a65, e, h⟩ := h
    refine wp.cast (L' := [some (vR (some a0)), some (vI l1), some (vI l2)]) (st' := [vR (some a65)]) rfl (by rw [e]) ?_
    obtain ⟨hC, h⟩ := h
    refine r_callV dX2_takeAll_39 hC (c_X3_take h) q2005 q1777 q1778 q98 q1779 rfl yo_X3_take rfl (by decide) (by decide) rfl rc0 (by decide) (Nat.zero_le _) (Nat.zero_le _) (ofR fun x67 G66 h => ?_) nox
    refine r_pop dX2_takeAll_42 c1R ?_
    refine r_iinc (L' := [some (vR (some a0)), some (vI (l1 + 1)), some (vI l2)]) dX2_takeAll_43 rfl rfl cR (by decide) ?_
    refine r_goto (tgt := 12) dX2_takeAll_46 (by decide) ?_
    exact hk12 h
def f_X2_takeAll_12 (a0 : Nat) (k4 : Int → Int → Wd → Prop) (Q : Int → Wd → Prop) : Nat → Int → Int → Wd → Prop
  | 0, _, _, _ => False
  | fl + 1, l1, l2, G => f_X2_takeAll_12_b a0 k4 (fun l1 l2 G => f_X2_takeAll_12 a0 k4 Q fl l1 l2 G) l1 l2 G Q
theorem w_X2_takeAll_12 {a0 : Nat} {Q : Int → Wd → Prop} {k4 : Int → Int → Wd → Prop} (hk4 : ∀ {l1 : Int} {l2 : Int} {G : Wd}, k4 l1 l2 G → wp m_X2_takeAll 4 0 0 4 [some (vR (some a0)), some (vI l1), some (vI l2)] [] G (qI Q) noX) : ∀ (fl : Nat) {l1 : Int} {l2 : Int} {G : Wd}, f_X2_takeAll_12 a0 k4 Q fl l1 l2 G → wp m_X2_takeAll 4 0 0 12 [some (vR (some a0)), some (vI l1), some (vI l2)] [] G (qI Q) noX := by
  intro fl
  induction fl with
  | zero => intro l1 l2 G h; exact (show False from h).elim
  | succ fl ih => intro l1 l2 G h; exact w_X2_takeAll_12_b hk4 (fun h => ih h) h
def f_X2_takeAll_4_b (a0 : Nat) (k4 : Int → Int → Wd → Prop) (l1 : Int) (l2 : Int) (G : Wd) (Q : Int → Wd → Prop) : Prop :=
  gI G a0 [1] 8 (fun x68 => br l2 x68 (x68 ≤ l2) (Q l1 G) (∃ fl69, f_X2_takeAll_12 a0 k4 Q fl69 l1 l2 G))
theorem w_X2_takeAll_4_b {a0 : Nat} {Q : Int → Wd → Prop} {k4 : Int → Int → Wd → Prop} (hk4 : ∀ {l1 : Int} {l2 : Int} {G : Wd}, k4 l1 l2 G → wp m_X2_takeAll 4 0 0 4 [some (vR (some a0)), some (vI l1), some (vI l2)] [] G (qI Q) noX) {l1 : Int} {l2 : Int} {G : Wd} (h : f_X2_takeAll_4_b a0 k4 l1 l2 G Q) : wp m_X2_takeAll 4 0 0 4 [some (vR (some a0)), some (vI l1), some (vI l2)] [] G (qI Q) noX := by
  unfold f_X2_takeAll_4_b at h
  refine r_iload_n dX2_takeAll_4 rfl rfl iI ?_
  refine r_aload_n dX2_takeAll_5 rfl rfl iR ?_
  refine r_getI dX2_takeAll_6 (fg1 (f := 8) fX2 (by decide) q651 rfl) h (fun x68 h => ?_)
  refine r_icmp_ge (tgt := 55) dX2_takeAll_9 (by decide) h (fun h => ?_) (fun h => ?_)
  · refine r_iload_n dX2_takeAll_55 rfl rfl iI ?_
    exact r_iret rfl dX2_takeAll_56 ⟨_, rfl, h⟩
  · obtain ⟨fl69, h⟩ := h
    exact w_X2_takeAll_12 hk4 fl69 h
def f_X2_takeAll_4 (a0 : Nat) (Q : Int → Wd → Prop) : Nat → Int → Int → Wd → Prop
  | 0, _, _, _ => False
  | fl + 1, l1, l2, G => f_X2_takeAll_4_b a0  (fun l1 l2 G => f_X2_takeAll_4 a0  Q fl l1 l2 G) l1 l2 G Q
theorem w_X2_takeAll_4 {a0 : Nat} {Q : Int → Wd → Prop} : ∀ (fl : Nat) {l1 : Int} {l2 : Int} {G : Wd}, f_X2_takeAll_4 a0 Q fl l1 l2 G → wp m_X2_takeAll 4 0 0 4 [some (vR (some a0)), some (vI l1), some (vI l2)] [] G (qI Q) noX := by
  intro fl
  induction fl with
  | zero => intro l1 l2 G h; exact (show False from h).elim
  | succ fl ih => intro l1 l2 G h; exact w_X2_takeAll_4_b  (fun h => ih h) h
def f_X2_takeAll (a0 : Nat) (G : Wd) (Q : Int → Wd → Prop) : Prop :=
  ∃ fl70, f_X2_takeAll_4 a0 Q fl70 0 0 G
theorem w_X2_takeAll {a0 : Nat} {Q : Int → Wd → Prop} {G : Wd} (h : f_X2_takeAll a0 G Q) : wp m_X2_takeAll 4 0 0 0 [some (vR (some a0)), none, none] [] G (qI Q) noX := by
  unfold f_X2_takeAll at h
  refine r_iconst dX2_takeAll_0 ?_
  refine r_istore_n (L' := [some (vR (some a0)), some (vI 0), none]) dX2_takeAll_1 rfl rfl iI cR (by decide) ?_
  refine r_iconst dX2_takeAll_2 ?_
  refine r_istore_n (L' := [some (vR (some a0)), some (vI 0), some (vI 0)]) dX2_takeAll_3 rfl rfl iI cI (by decide) ?_
  obtain ⟨fl70, h⟩ := h
  exact w_X2_takeAll_4 fl70 h
theorem c_X2_takeAll {a0 : Nat} {Q : Int → Wd → Prop} {G : Wd} (h : f_X2_takeAll a0 G Q) : call yX2_takeAll (Cond.code yX2_takeAll cX2_takeAll 3 (some .int)) 4 0 0 [vR (some a0)] G (qI Q) noX :=
  call.enter (by decide +kernel) (la_1 c1R (la_nil rfl)) rfl (w_X2_takeAll h)
abbrev m_X3_post : Mt := (yX3_post.cls, cX3_post, 2, none, [], yX3_post.name)
theorem yo_X3_post : yOK yX3_post 1 := ⟨by decide +kernel, by decide +kernel, by decide +kernel⟩
def f_X3_post (k n : Nat) (a0 : Nat) (a1 : Option Nat) (G : Wd) (Q : Wd → Prop) : Prop :=
  gR G a0 [2] 2 (fun x13 => nO G k n 10 3 zX11 (fun a14 G15 => gI G15 a0 [2] 10 (fun x16 => gI G15 a0 [2] 12 (fun x17 => (isC G15 a0 2 ∧ f_X3_phaseOf a0 x17 G15 (fun x19 G18 => f_X11_init a14 a1 x16 x19 G18 (fun G20 => nn x13 (fun a21 => (isC G20 a21 13 ∧ f_J4_addLast a21 (some a14) G20 (fun G22 => gI G22 a0 [2] 12 (fun x23 => pF G22 a0 [2] 12 (vI (x23 + 1)) (fun G24 => Q G24))))))))))))
theorem w_X3_post {a0 : Nat} {Q : Wd → Prop} {k n : Nat} {a1 : Option Nat} {G : Wd} (h : f_X3_post k n a0 a1 G Q) : wp m_X3_post 3 k n 0 [some (vR (some a0)), some (vR a1)] [] G (qV Q) noX := by
  unfold f_X3_post at h
  refine r_aload_n dX3_post_0 rfl rfl iR ?_
  refine r_getR dX3_post_1 (fg1 (f := 2) fX3 (by decide) q559 rfl) h (fun x13 h => ?_)
  refine r_new dX3_post_4 fX11 q1310 q1603 q132 dfX11 h (fun a14 G15 h => ?_)
  refine r_dup dX3_post_7 c1R ?_
  refine r_aload_n dX3_post_8 rfl rfl iR ?_
  refine r_aload_n dX3_post_9 rfl rfl iR ?_
  refine r_getI dX3_post_10 (fg1 (f := 10) fX3 (by decide) q580 rfl) h (fun x16 h => ?_)
  refine r_aload_n dX3_post_13 rfl rfl iR ?_
  refine r_aload_n dX3_post_14 rfl rfl iR ?_
  refine r_getI dX3_post_15 (fg1 (f := 12) fX3 (by decide) q585 rfl) h (fun x17 h => ?_)
  obtain ⟨hC, h⟩ := h
  refine r_callV dX3_post_18 hC (c_X3_phaseOf h) q1604 q1605 q1606 q98 q1607 rfl yo_X3_phaseOf rfl (by decide) (by decide) rfl (rc1 c1I (rc1 c1R (rc1 c1R (rc1 c1R (rc1 c1R rc0))))) (by decide) (Nat.zero_le _) (Nat.zero_le _) (ofI fun x19 G18 h => ?_) nox
  refine r_callI dX3_post_21 (c_X11_init h) rfl q1608 q1609 q132 q1610 yo_X11_init rfl (by decide) (by decide) rfl (rc1 c1R (rc1 c1R rc0)) (by decide) (Nat.zero_le _) (Nat.zero_le _) (ofV fun G20 h => ?_) nox
  obtain ⟨a21, e, h⟩ := h
  refine wp.cast (L' := [some (vR (some a0)), some (vR a1)]) (st' := [vR (some a14), vR (some a21)]) rfl (by rw [e]) ?_
  obtain ⟨hC, h⟩ := h
  refine r_callV dX3_post_24 hC (c_J4_addLast h) q1285 q1286 q1287 q99 q1288 rfl yo_J4_addLast rfl (by decide) (by decide) rfl rc0 (by decide) (Nat.zero_le _) (Nat.zero_le _) (ofV fun G22 h => ?_) nox
  refine r_aload_n dX3_post_27 rfl rfl iR ?_
  refine r_dup dX3_post_28 c1R ?_
  refine r_getI dX3_post_29 (fg1 (f := 12) fX3 (by decide) q585 rfl) h (fun x23 h => ?_)
  refine r_iconst dX3_post_32 ?_
  refine r_iadd dX3_post_33 ?_
  refine r_put dX3_post_34 (fp1 (f := 12) fX3 (by decide) q585 rfl rfl rfl) fvI h (fun G24 h => ?_)
  exact r_vret rfl dX3_post_37 ⟨rfl, h⟩
theorem c_X3_post {a0 : Nat} {a1 : Option Nat} {k n : Nat} {Q : Wd → Prop} {G : Wd} (h : f_X3_post k n a0 a1 G Q) : call yX3_post (Cond.code yX3_post cX3_post 2 (none)) 3 k n [vR (some a0), vR a1] G (qV Q) noX :=
  call.enter (by decide +kernel) (la_1 c1R (la_1 c1R (la_nil rfl))) rfl (w_X3_post h)
abbrev m_X9_shorter : Mt := (yX9_shorter.cls, cX9_shorter, 1, some (.object "QueueDrive$Work"), [], yX9_shorter.name)
theorem yo_X9_shorter : yOK yX9_shorter 0 := ⟨by decide +kernel, by decide +kernel, by decide +kernel⟩
def f_X9_shorter (k n : Nat) (a0 : Nat) (G : Wd) (Q : Option Nat → Wd → Prop) : Prop :=
  nO G k n 8 3 zX9 (fun a7 G8 => gR G8 a0 [8] 0 (fun x9 => gR G8 a0 [8] 1 (fun x10 => gI G8 a0 [8] 2 (fun x11 => f_X9_init a7 x9 x10 (x11 - 1) G8 (fun G12 => Q (some a7) G12)))))
theorem w_X9_shorter {a0 : Nat} {Q : Option Nat → Wd → Prop} {k n : Nat} {G : Wd} (h : f_X9_shorter k n a0 G Q) : wp m_X9_shorter 2 k n 0 [some (vR (some a0))] [] G (qR Q) noX := by
  unfold f_X9_shorter at h
  refine r_new dX9_shorter_0 fX9 q1537 q1538 q130 dfX9 h (fun a7 G8 h => ?_)
  refine r_dup dX9_shorter_3 c1R ?_
  refine r_aload_n dX9_shorter_4 rfl rfl iR ?_
  refine r_getR dX9_shorter_5 (fg1 (f := 0) fX9 (by decide) q1543 rfl) h (fun x9 h => ?_)
  refine r_aload_n dX9_shorter_8 rfl rfl iR ?_
  refine r_getR dX9_shorter_9 (fg1 (f := 1) fX9 (by decide) q1546 rfl) h (fun x10 h => ?_)
  refine r_aload_n dX9_shorter_12 rfl rfl iR ?_
  refine r_getI dX9_shorter_13 (fg1 (f := 2) fX9 (by decide) q1549 rfl) h (fun x11 h => ?_)
  refine r_iconst dX9_shorter_16 ?_
  refine r_isub dX9_shorter_17 ?_
  refine r_callI dX9_shorter_18 (c_X9_init h) rfl q1539 q1540 q130 q1541 yo_X9_init rfl (by decide) (by decide) rfl (rc1 c1R rc0) (by decide) (Nat.zero_le _) (Nat.zero_le _) (ofV fun G12 h => ?_) nox
  exact r_aret rtO dX9_shorter_21 ⟨_, rfl, h⟩
theorem c_X9_shorter {a0 : Nat} {k n : Nat} {Q : Option Nat → Wd → Prop} {G : Wd} (h : f_X9_shorter k n a0 G Q) : call yX9_shorter (Cond.code yX9_shorter cX9_shorter 1 (some (.object "QueueDrive$Work"))) 2 k n [vR (some a0)] G (qR Q) noX :=
  call.enter (by decide +kernel) (la_1 c1R (la_nil rfl)) rfl (w_X9_shorter h)
abbrev m_X1_init : Mt := (yX1_init.cls, cX1_init, 2, none, [], yX1_init.name)
theorem yo_X1_init : yOK yX1_init 0 := ⟨by decide +kernel, by decide +kernel, by decide +kernel⟩
def f_X1_init_112_b (a0 : Nat) (k112 : Nat → Nat → Int → Wd → Prop) (k n : Nat) (l1 : Int) (G : Wd) (Q : Wd → Prop) : Prop :=
  br l1 8 ((8 : Int) ≤ l1) (Q G) (gR G a0 [0] 3 (fun x62 => nO G k n 1 15 zX2 (fun a63 G64 => (∃ k66 n67, (k66 ≤ (k - 1) ∧ n67 ≤ (n - 15)) ∧ f_X2_init k66 n67 a63  G64 (fun G65 => nn x62 (fun a68 => stR G65 a68 6 l1 (some a63) [1] (fun G69 => k112 ((k - 1) - k66) ((n - 15) - n67) (l1 + 1) G69)))))))
theorem w_X1_init_112_b {a0 : Nat} {Q : Wd → Prop} {k112 : Nat → Nat → Int → Wd → Prop} (hk112 : ∀ {k n : Nat} {l1 : Int} {G : Wd}, k112 k n l1 G → wp m_X1_init 6 k n 112 [some (vR (some a0)), some (vI l1)] [] G (qV Q) noX) {k n : Nat} {l1 : Int} {G : Wd} (h : f_X1_init_112_b a0 k112 k n l1 G Q) : wp m_X1_init 6 k n 112 [some (vR (some a0)), some (vI l1)] [] G (qV Q) noX := by
  unfold f_X1_init_112_b at h
  refine r_iload_n dX1_init_112 rfl rfl iI ?_
  refine r_bipush dX1_init_113 (by decide) ?_
  refine r_icmp_ge (tgt := 137) dX1_init_115 (by decide) h (fun h => ?_) (fun h => ?_)
  · exact r_vret rfl dX1_init_137 ⟨rfl, h⟩
  · refine r_aload_n dX1_init_118 rfl rfl iR ?_
    refine r_getR dX1_init_119 (fg1 (f := 3) fX1 (by decide) q703 rfl) h (fun x62 h => ?_)
    refine r_iload_n dX1_init_122 rfl rfl iI ?_
    refine r_new dX1_init_123 fX2 q144 q145 q93 dfX2 h (fun a63 G64 h => ?_)
    refine r_dup dX1_init_126 c1R ?_
    obtain ⟨k66, n67, ⟨hk1, hn1⟩, h⟩ := h
    refine r_callI dX1_init_127 (c_X2_init h) rfl q146 q147 q93 q148 yo_X2_init rfl (by decide) (by decide) rfl (rc1 c1R (rc1 c1I (rc1 c1R rc0))) (by decide) hk1 hn1 (ofV fun G65 h => ?_) nox
    obtain ⟨a68, e, h⟩ := h
    refine wp.cast (L' := [some (vR (some a0)), some (vI l1)]) (st' := [vR (some a63), vI l1, vR (some a68)]) rfl (by rw [e]) ?_
    refine r_aast dX1_init_130 kd6 h (fun G69 h => ?_)
    refine r_iinc (L' := [some (vR (some a0)), some (vI (l1 + 1))]) dX1_init_131 rfl rfl cR (by decide) ?_
    refine r_goto (tgt := 112) dX1_init_134 (by decide) ?_
    exact hk112 h
def f_X1_init_112 (a0 : Nat) (Q : Wd → Prop) : Nat → Nat → Nat → Int → Wd → Prop
  | 0, _, _, _, _ => False
  | fl + 1, k, n, l1, G => f_X1_init_112_b a0  (fun k n l1 G => f_X1_init_112 a0  Q fl k n l1 G) k n l1 G Q
theorem w_X1_init_112 {a0 : Nat} {Q : Wd → Prop} : ∀ (fl : Nat) {k n : Nat} {l1 : Int} {G : Wd}, f_X1_init_112 a0 Q fl k n l1 G → wp m_X1_init 6 k n 112 [some (vR (some a0)), some (vI l1)] [] G (qV Q) noX := by
  intro fl
  induction fl with
  | zero => intro k n l1 G h; exact (show False from h).elim
  | succ fl ih => intro k n l1 G h; exact w_X1_init_112_b  (fun h => ih h) h
def f_X1_init (k n : Nat) (a0 : Nat) (G : Wd) (Q : Wd → Prop) : Prop :=
  nO G k n 1 15 zX2 (fun a70 G71 => (∃ k73 n74, (k73 ≤ (k - 1) ∧ n74 ≤ (n - 15)) ∧ f_X2_init k73 n74 a70  G71 (fun G72 => pF G72 a0 [0] 0 (vR (some a70)) (fun G75 => nO G75 ((k - 1) - k73) ((n - 15) - n74) 1 15 zX2 (fun a76 G77 => (∃ k79 n80, (k79 ≤ (((k - 1) - k73) - 1) ∧ n80 ≤ (((n - 15) - n74) - 15)) ∧ f_X2_init k79 n80 a76  G77 (fun G78 => pF G78 a0 [0] 1 (vR (some a76)) (fun G81 => nO G81 ((((k - 1) - k73) - 1) - k79) ((((n - 15) - n74) - 15) - n80) 1 15 zX2 (fun a82 G83 => (∃ k85 n86, (k85 ≤ (((((k - 1) - k73) - 1) - k79) - 1) ∧ n86 ≤ (((((n - 15) - n74) - 15) - n80) - 15)) ∧ f_X2_init k85 n86 a82  G83 (fun G84 => pF G84 a0 [0] 2 (vR (some a82)) (fun G87 => nA G87 ((((((k - 1) - k73) - 1) - k79) - 1) - k85) ((((((n - 15) - n74) - 15) - n80) - 15) - n86) 8 (fun l => aR 6 l (fun _ => none)) (fun a88 G89 => pF G89 a0 [0] 3 (vR (some a88)) (fun G90 => nA G90 (((((((k - 1) - k73) - 1) - k79) - 1) - k85) - 1) (((((((n - 15) - n74) - 15) - n80) - 15) - n86) - (8 : Int).toNat) 80 (fun l => aI 1 l (fun _ => 0)) (fun a91 G92 => pF G92 a0 [0] 6 (vR (some a91)) (fun G93 => nA G93 ((((((((k - 1) - k73) - 1) - k79) - 1) - k85) - 1) - 1) ((((((((n - 15) - n74) - 15) - n80) - 15) - n86) - (8 : Int).toNat) - (80 : Int).toNat) 16 (fun l => aJ l (fun _ => 0)) (fun a94 G95 => pF G95 a0 [0] 8 (vR (some a94)) (fun G96 => nA G96 (((((((((k - 1) - k73) - 1) - k79) - 1) - k85) - 1) - 1) - 1) (((((((((n - 15) - n74) - 15) - n80) - 15) - n86) - (8 : Int).toNat) - (80 : Int).toNat) - (16 : Int).toNat) 12 (fun l => aI 0 l (fun _ => 0)) (fun a97 G98 => pF G98 a0 [0] 14 (vR (some a97)) (fun G99 => nA G99 ((((((((((k - 1) - k73) - 1) - k79) - 1) - k85) - 1) - 1) - 1) - 1) ((((((((((n - 15) - n74) - 15) - n80) - 15) - n86) - (8 : Int).toNat) - (80 : Int).toNat) - (16 : Int).toNat) - (12 : Int).toNat) 12 (fun l => aI 0 l (fun _ => 0)) (fun a100 G101 => pF G101 a0 [0] 15 (vR (some a100)) (fun G102 => nA G102 (((((((((((k - 1) - k73) - 1) - k79) - 1) - k85) - 1) - 1) - 1) - 1) - 1) (((((((((((n - 15) - n74) - 15) - n80) - 15) - n86) - (8 : Int).toNat) - (80 : Int).toNat) - (16 : Int).toNat) - (12 : Int).toNat) - (12 : Int).toNat) 80 (fun l => aR 8 l (fun _ => none)) (fun a103 G104 => pF G104 a0 [0] 17 (vR (some a103)) (fun G105 => nA G105 ((((((((((((k - 1) - k73) - 1) - k79) - 1) - k85) - 1) - 1) - 1) - 1) - 1) - 1) ((((((((((((n - 15) - n74) - 15) - n80) - 15) - n86) - (8 : Int).toNat) - (80 : Int).toNat) - (16 : Int).toNat) - (12 : Int).toNat) - (12 : Int).toNat) - (80 : Int).toNat) 80 (fun l => aI 2 l (fun _ => 0)) (fun a106 G107 => pF G107 a0 [0] 18 (vR (some a106)) (fun G108 => nA G108 (((((((((((((k - 1) - k73) - 1) - k79) - 1) - k85) - 1) - 1) - 1) - 1) - 1) - 1) - 1) (((((((((((((n - 15) - n74) - 15) - n80) - 15) - n86) - (8 : Int).toNat) - (80 : Int).toNat) - (16 : Int).toNat) - (12 : Int).toNat) - (12 : Int).toNat) - (80 : Int).toNat) - (80 : Int).toNat) 2 (fun l => aR 6 l (fun _ => none)) (fun a109 G110 => pF G110 a0 [0] 20 (vR (some a109)) (fun G111 => nA G111 ((((((((((((((k - 1) - k73) - 1) - k79) - 1) - k85) - 1) - 1) - 1) - 1) - 1) - 1) - 1) - 1) ((((((((((((((n - 15) - n74) - 15) - n80) - 15) - n86) - (8 : Int).toNat) - (80 : Int).toNat) - (16 : Int).toNat) - (12 : Int).toNat) - (12 : Int).toNat) - (80 : Int).toNat) - (80 : Int).toNat) - (2 : Int).toNat) 2 (fun l => aI 0 l (fun _ => 0)) (fun a112 G113 => pF G113 a0 [0] 21 (vR (some a112)) (fun G114 => ∃ fl115, f_X1_init_112 a0 Q fl115 (((((((((((((((k - 1) - k73) - 1) - k79) - 1) - k85) - 1) - 1) - 1) - 1) - 1) - 1) - 1) - 1) - 1) (((((((((((((((n - 15) - n74) - 15) - n80) - 15) - n86) - (8 : Int).toNat) - (80 : Int).toNat) - (16 : Int).toNat) - (12 : Int).toNat) - (12 : Int).toNat) - (80 : Int).toNat) - (80 : Int).toNat) - (2 : Int).toNat) - (2 : Int).toNat) 0 G114))))))))))))))))))))))))))))))
theorem w_X1_init {a0 : Nat} {Q : Wd → Prop} {k n : Nat} {G : Wd} (h : f_X1_init k n a0 G Q) : wp m_X1_init 6 k n 0 [some (vR (some a0)), none] [] G (qV Q) noX := by
  unfold f_X1_init at h
  refine r_aload_n dX1_init_0 rfl rfl iR ?_
  refine r_objInit dX1_init_1 q141 q142 q143 rc0 (by decide) (by decide) ?_
  refine r_aload_n dX1_init_4 rfl rfl iR ?_
  refine r_new dX1_init_5 fX2 q144 q145 q93 dfX2 h (fun a70 G71 h => ?_)
  refine r_dup dX1_init_8 c1R ?_
  obtain ⟨k73, n74, ⟨hk1, hn1⟩, h⟩ := h
  refine r_callI dX1_init_9 (c_X2_init h) rfl q146 q147 q93 q148 yo_X2_init rfl (by decide) (by decide) rfl (rc1 c1R (rc1 c1R rc0)) (by decide) hk1 hn1 (ofV fun G72 h => ?_) nox
  refine r_put dX1_init_12 (fp1F (f := 0) fX1 (by decide) q700 rfl rfl rfl rfl) fvO h (fun G75 h => ?_)
  refine r_aload_n dX1_init_15 rfl rfl iR ?_
  refine r_new dX1_init_16 fX2 q144 q145 q93 dfX2 h (fun a76 G77 h => ?_)
  refine r_dup dX1_init_19 c1R ?_
  obtain ⟨k79, n80, ⟨hk1, hn1⟩, h⟩ := h
  refine r_callI dX1_init_20 (c_X2_init h) rfl q146 q147 q93 q148 yo_X2_init rfl (by decide) (by decide) rfl (rc1 c1R (rc1 c1R rc0)) (by decide) hk1 hn1 (ofV fun G78 h => ?_) nox
  refine r_put dX1_init_23 (fp1F (f := 1) fX1 (by decide) q701 rfl rfl rfl rfl) fvO h (fun G81 h => ?_)
  refine r_aload_n dX1_init_26 rfl rfl iR ?_
  refine r_new dX1_init_27 fX2 q144 q145 q93 dfX2 h (fun a82 G83 h => ?_)
  refine r_dup dX1_init_30 c1R ?_
  obtain ⟨k85, n86, ⟨hk1, hn1⟩, h⟩ := h
  refine r_callI dX1_init_31 (c_X2_init h) rfl q146 q147 q93 q148 yo_X2_init rfl (by decide) (by decide) rfl (rc1 c1R (rc1 c1R rc0)) (by decide) hk1 hn1 (ofV fun G84 h => ?_) nox
  refine r_put dX1_init_34 (fp1F (f := 2) fX1 (by decide) q702 rfl rfl rfl rfl) fvO h (fun G87 h => ?_)
  refine r_aload_n dX1_init_37 rfl rfl iR ?_
  refine r_bipush dX1_init_38 (by decide) ?_
  refine r_newR (kd := 6) dX1_init_40 (fun _ => rfl) q144 q697 h (fun a88 G89 h => ?_)
  refine r_put dX1_init_43 (fp1F (f := 3) fX1 (by decide) q703 rfl rfl rfl rfl) fvA h (fun G90 h => ?_)
  refine r_aload_n dX1_init_46 rfl rfl iR ?_
  refine r_bipush dX1_init_47 (by decide) ?_
  refine r_newB dX1_init_49 h (fun a91 G92 h => ?_)
  refine r_put dX1_init_51 (fp1F (f := 6) fX1 (by decide) q706 rfl rfl rfl rfl) fvA h (fun G93 h => ?_)
  refine r_aload_n dX1_init_54 rfl rfl iR ?_
  refine r_bipush dX1_init_55 (by decide) ?_
  refine r_newJ dX1_init_57 h (fun a94 G95 h => ?_)
  refine r_put dX1_init_59 (fp1F (f := 8) fX1 (by decide) q708 rfl rfl rfl rfl) fvA h (fun G96 h => ?_)
  refine r_aload_n dX1_init_62 rfl rfl iR ?_
  refine r_bipush dX1_init_63 (by decide) ?_
  refine r_newI dX1_init_65 h (fun a97 G98 h => ?_)
  refine r_put dX1_init_67 (fp1F (f := 14) fX1 (by decide) q714 rfl rfl rfl rfl) fvA h (fun G99 h => ?_)
  refine r_aload_n dX1_init_70 rfl rfl iR ?_
  refine r_bipush dX1_init_71 (by decide) ?_
  refine r_newI dX1_init_73 h (fun a100 G101 h => ?_)
  refine r_put dX1_init_75 (fp1F (f := 15) fX1 (by decide) q715 rfl rfl rfl rfl) fvA h (fun G102 h => ?_)
  refine r_aload_n dX1_init_78 rfl rfl iR ?_
  refine r_bipush dX1_init_79 (by decide) ?_
  refine r_newR (kd := 8) dX1_init_81 (fun _ => rfl) q698 q699 h (fun a103 G104 h => ?_)
  refine r_put dX1_init_84 (fp1F (f := 17) fX1 (by decide) q717 rfl rfl rfl rfl) fvA h (fun G105 h => ?_)
  refine r_aload_n dX1_init_87 rfl rfl iR ?_
  refine r_bipush dX1_init_88 (by decide) ?_
  refine r_newZ dX1_init_90 h (fun a106 G107 h => ?_)
  refine r_put dX1_init_92 (fp1F (f := 18) fX1 (by decide) q718 rfl rfl rfl rfl) fvA h (fun G108 h => ?_)
  refine r_aload_n dX1_init_95 rfl rfl iR ?_
  refine r_iconst dX1_init_96 ?_
  refine r_newR (kd := 6) dX1_init_97 (fun _ => rfl) q144 q697 h (fun a109 G110 h => ?_)
  refine r_put dX1_init_100 (fp1F (f := 20) fX1 (by decide) q720 rfl rfl rfl rfl) fvA h (fun G111 h => ?_)
  refine r_aload_n dX1_init_103 rfl rfl iR ?_
  refine r_iconst dX1_init_104 ?_
  refine r_newI dX1_init_105 h (fun a112 G113 h => ?_)
  refine r_put dX1_init_107 (fp1F (f := 21) fX1 (by decide) q721 rfl rfl rfl rfl) fvA h (fun G114 h => ?_)
  refine r_iconst dX1_init_110 ?_
  refine r_istore_n (L' := [some (vR (some a0)), some (vI 0)]) dX1_init_111 rfl rfl iI cR (by decide) ?_
  obtain ⟨fl115, h⟩ := h
  exact w_X1_init_112 fl115 h
theorem c_X1_init {a0 : Nat} {k n : Nat} {Q : Wd → Prop} {G : Wd} (h : f_X1_init k n a0 G Q) : call yX1_init (Cond.code yX1_init cX1_init 2 (none)) 6 k n [vR (some a0)] G (qV Q) noX :=
  call.enter (by decide +kernel) (la_1 c1R (la_nil rfl)) rfl (w_X1_init h)
abbrev m_X1_remember : Mt := (yX1_remember.cls, cX1_remember, 3, none, [], yX1_remember.name)
theorem yo_X1_remember : yOK yX1_remember 1 := ⟨by decide +kernel, by decide +kernel, by decide +kernel⟩
def f_X1_remember_49 (a0 : Nat) (k n : Nat) (l1 : Option Nat) (G : Wd) (Q : Wd → Prop) : Prop :=
  gR G a0 [0] 3 (fun x25 => gI G a0 [0] 4 (fun x26 => nn x25 (fun a27 => ldR G a27 6 x26 (fun x28 => nn x28 (fun a29 => (∃ k31 n32, (k31 ≤ k ∧ n32 ≤ n) ∧ (isC G a29 1 ∧ f_X2_be k31 n32 a29 l1 G (fun G30 => gI G30 a0 [0] 4 (fun x33 => pF G30 a0 [0] 4 (vI (x33 + 1)) (fun G34 => Q G34))))))))))
theorem w_X1_remember_49 {a0 : Nat} {Q : Wd → Prop} {k n : Nat} {l1 : Option Nat} {G : Wd} (h : f_X1_remember_49 a0 k n l1 G Q) : wp m_X1_remember 7 k n 49 [some (vR (some a0)), some (vR l1), none] [] G (qV Q) noX := by
  unfold f_X1_remember_49 at h
  refine r_aload_n dX1_remember_49 rfl rfl iR ?_
  refine r_getR dX1_remember_50 (fg1 (f := 3) fX1 (by decide) q703 rfl) h (fun x25 h => ?_)
  refine r_aload_n dX1_remember_53 rfl rfl iR ?_
  refine r_getI dX1_remember_54 (fg1 (f := 4) fX1 (by decide) q704 rfl) h (fun x26 h => ?_)
  obtain ⟨a27, e, h⟩ := h
  refine wp.cast (L' := [some (vR (some a0)), some (vR l1), none]) (st' := [vI x26, vR (some a27)]) rfl (by rw [e]) ?_
  refine r_aald dX1_remember_57 (by decide) (by decide) h (fun x28 h => ?_)
  refine r_aload_n dX1_remember_58 rfl rfl iR ?_
  obtain ⟨a29, e, h⟩ := h
  refine wp.cast (L' := [some (vR (some a0)), some (vR l1), none]) (st' := [vR l1, vR (some a29)]) rfl (by rw [e]) ?_
  obtain ⟨k31, n32, ⟨hk1, hn1⟩, h⟩ := h
  obtain ⟨hC, h⟩ := h
  refine r_callV dX1_remember_59 hC (c_X2_be h) q1076 q1077 q1078 q93 q1079 rfl yo_X2_be rfl (by decide) (by decide) rfl rc0 (by decide) hk1 hn1 (ofV fun G30 h => ?_) nox
  refine r_aload_n dX1_remember_62 rfl rfl iR ?_
  refine r_dup dX1_remember_63 c1R ?_
  refine r_getI dX1_remember_64 (fg1 (f := 4) fX1 (by decide) q704 rfl) h (fun x33 h => ?_)
  refine r_iconst dX1_remember_67 ?_
  refine r_iadd dX1_remember_68 ?_
  refine r_put dX1_remember_69 (fp1 (f := 4) fX1 (by decide) q704 rfl rfl rfl) fvI h (fun G34 h => ?_)
  exact r_vret rfl dX1_remember_72 ⟨rfl, h⟩
def f_X1_remember (k n : Nat) (a0 : Nat) (a1 : Option Nat) (G : Wd) (Q : Wd → Prop) : Prop :=
  gI G a0 [0] 4 (fun x35 => br x35 8 (¬ x35 = (8 : Int)) (f_X1_remember_49 a0 k n a1 G Q) (gR G a0 [0] 3 (fun x36 => nn x36 (fun a37 => ldR G a37 6 0 (fun x38 => gR G a0 [0] 3 (fun x39 => gR G a0 [0] 3 (fun x40 => nn x40 (fun a41 => nn x39 (fun a42 => cpD G a42 1 a41 0 7 (fun G43 => gR G43 a0 [0] 3 (fun x44 => nn x44 (fun a45 => stR G43 a45 6 7 x38 [1] (fun G46 => gI G46 a0 [0] 4 (fun x47 => pF G46 a0 [0] 4 (vI (x47 - 1)) (fun G48 => f_X1_remember_49 a0 k n a1 G48 Q)))))))))))))))
theorem w_X1_remember {a0 : Nat} {Q : Wd → Prop} {k n : Nat} {a1 : Option Nat} {G : Wd} (h : f_X1_remember k n a0 a1 G Q) : wp m_X1_remember 7 k n 0 [some (vR (some a0)), some (vR a1), none] [] G (qV Q) noX := by
  unfold f_X1_remember at h
  refine r_aload_n dX1_remember_0 rfl rfl iR ?_
  refine r_getI dX1_remember_1 (fg1 (f := 4) fX1 (by decide) q704 rfl) h (fun x35 h => ?_)
  refine r_bipush dX1_remember_4 (by decide) ?_
  refine r_icmp_ne (tgt := 49) dX1_remember_6 (by decide) h (fun h => ?_) (fun h => ?_)
  · exact w_X1_remember_49 h
  · refine r_aload_n dX1_remember_9 rfl rfl iR ?_
    refine r_getR dX1_remember_10 (fg1 (f := 3) fX1 (by decide) q703 rfl) h (fun x36 h => ?_)
    refine r_iconst dX1_remember_13 ?_
    obtain ⟨a37, e, h⟩ := h
    refine wp.cast (L' := [some (vR (some a0)), some (vR a1), none]) (st' := [vI 0, vR (some a37)]) rfl (by rw [e]) ?_
    refine r_aald dX1_remember_14 (by decide) (by decide) h (fun x38 h => ?_)
    refine r_astore_n (L' := [some (vR (some a0)), some (vR a1), some (vR x38)]) dX1_remember_15 rfl rfl iR cR (by decide) ?_
    refine r_aload_n dX1_remember_16 rfl rfl iR ?_
    refine r_getR dX1_remember_17 (fg1 (f := 3) fX1 (by decide) q703 rfl) h (fun x39 h => ?_)
    refine r_iconst dX1_remember_20 ?_
    refine r_aload_n dX1_remember_21 rfl rfl iR ?_
    refine r_getR dX1_remember_22 (fg1 (f := 3) fX1 (by decide) q703 rfl) h (fun x40 h => ?_)
    refine r_iconst dX1_remember_25 ?_
    refine r_bipush dX1_remember_26 (by decide) ?_
    obtain ⟨a41, e, h⟩ := h
    refine wp.cast (L' := [some (vR (some a0)), some (vR a1), some (vR x38)]) (st' := [vI 7, vI 0, vR (some a41), vI 1, vR x39]) rfl (by rw [e]) ?_
    obtain ⟨a42, e, h⟩ := h
    refine wp.cast (L' := [some (vR (some a0)), some (vR a1), some (vR x38)]) (st' := [vI 7, vI 0, vR (some a41), vI 1, vR (some a42)]) rfl (by rw [e]) ?_
    refine r_cpD dX1_remember_28 q1075 rc0 (by decide) (by decide) h (fun G43 h => ?_)
    refine r_aload_n dX1_remember_31 rfl rfl iR ?_
    refine r_getR dX1_remember_32 (fg1 (f := 3) fX1 (by decide) q703 rfl) h (fun x44 h => ?_)
    refine r_bipush dX1_remember_35 (by decide) ?_
    refine r_aload_n dX1_remember_37 rfl rfl iR ?_
    obtain ⟨a45, e, h⟩ := h
    refine wp.cast (L' := [some (vR (some a0)), some (vR a1), some (vR x38)]) (st' := [vR x38, vI 7, vR (some a45)]) rfl (by rw [e]) ?_
    refine r_aast dX1_remember_38 kd6 h (fun G46 h => ?_)
    refine r_aload_n dX1_remember_39 rfl rfl iR ?_
    refine r_dup dX1_remember_40 c1R ?_
    refine r_getI dX1_remember_41 (fg1 (f := 4) fX1 (by decide) q704 rfl) h (fun x47 h => ?_)
    refine r_iconst dX1_remember_44 ?_
    refine r_isub dX1_remember_45 ?_
    refine r_put dX1_remember_46 (fp1 (f := 4) fX1 (by decide) q704 rfl rfl rfl) fvI h (fun G48 h => ?_)
    refine wp.locals (L' := [some (vR (some a0)), some (vR a1), none]) (ls_s (ls_s (ls_n ls_0))) ?_
    exact w_X1_remember_49 h
theorem c_X1_remember {a0 : Nat} {a1 : Option Nat} {k n : Nat} {Q : Wd → Prop} {G : Wd} (h : f_X1_remember k n a0 a1 G Q) : call yX1_remember (Cond.code yX1_remember cX1_remember 3 (none)) 7 k n [vR (some a0), vR a1] G (qV Q) noX :=
  call.enter (by decide +kernel) (la_1 c1R (la_1 c1R (la_nil rfl))) rfl (w_X1_remember h)
abbrev m_X1_ring : Mt := (yX1_ring.cls, cX1_ring, 2, some .int, [], yX1_ring.name)
theorem yo_X1_ring : yOK yX1_ring 1 := ⟨by decide +kernel, by decide +kernel, by decide +kernel⟩
def f_X1_ring (k n : Nat) (a0 : Nat) (a1 : Int) (G : Wd) (Q : Int → Wd → Prop) : Prop :=
  (isC G a0 0 ∧ f_X1_isQueue a0 a1 G (fun x25 G24 => brB x25 (gR G24 a0 [0] 0 (fun x26 => nn x26 (fun a27 => gR G24 a27 [1] 0 (fun x28 => nn x28 (fun a29 => ldR G24 a29 7 a1 (fun x30 => nn x30 (fun a31 => (isC G24 a31 2 ∧ f_X3_bell a31  G24 (fun x33 G32 => br x33 (-2) (¬ x33 = ((-2) : Int)) (gR G32 a0 [0] 0 (fun x34 => (∃ k36 n37, (k36 ≤ k ∧ n37 ≤ n) ∧ (isC G32 a0 0 ∧ f_X1_remember k36 n37 a0 x34 G32 (fun G35 => gR G35 a0 [0] 0 (fun x38 => gR G35 a0 [0] 0 (fun x39 => nn x39 (fun a40 => gR G35 a40 [1] 0 (fun x41 => nn x41 (fun a42 => ldR G35 a42 7 a1 (fun x43 => nn x38 (fun a44 => (isC G35 a44 1 ∧ f_X2_ringUp a44 x43 G35 (fun x46 G45 => Q x46 G45)))))))))))))) (Q (-2) G32)))))))))) (Q (-1) G24)))
theorem w_X1_ring {a0 : Nat} {Q : Int → Wd → Prop} {k n : Nat} {a1 : Int} {G : Wd} (h : f_X1_ring k n a0 a1 G Q) : wp m_X1_ring 8 k n 0 [some (vR (some a0)), some (vI a1)] [] G (qI Q) noX := by
  unfold f_X1_ring at h
  refine r_aload_n dX1_ring_0 rfl rfl iR ?_
  refine r_iload_n dX1_ring_1 rfl rfl iI ?_
  obtain ⟨hC, h⟩ := h
  refine r_callV dX1_ring_2 hC (c_X1_isQueue h) q1498 q1500 qs18 q92 q1501 rfl yo_X1_isQueue rfl (by decide) (by decide) rfl rc0 (by decide) (Nat.zero_le _) (Nat.zero_le _) (ofB fun x25 G24 h => ?_) nox
  refine r_ifZ_ne (tgt := 10) dX1_ring_5 (by decide) h (fun h => ?_) (fun h => ?_)
  · refine r_aload_n dX1_ring_10 rfl rfl iR ?_
    refine r_getR dX1_ring_11 (fg1 (f := 0) fX1 (by decide) q700 rfl) h (fun x26 h => ?_)
    obtain ⟨a27, e, h⟩ := h
    refine wp.cast (L' := [some (vR (some a0)), some (vI a1)]) (st' := [vR (some a27)]) rfl (by rw [e]) ?_
    refine r_getR dX1_ring_14 (fg1 (f := 0) fX2 (by decide) q636 rfl) h (fun x28 h => ?_)
    refine r_iload_n dX1_ring_17 rfl rfl iI ?_
    obtain ⟨a29, e, h⟩ := h
    refine wp.cast (L' := [some (vR (some a0)), some (vI a1)]) (st' := [vI a1, vR (some a29)]) rfl (by rw [e]) ?_
    refine r_aald dX1_ring_18 (by decide) (by decide) h (fun x30 h => ?_)
    obtain ⟨a31, e, h⟩ := h
    refine wp.cast (L' := [some (vR (some a0)), some (vI a1)]) (st' := [vR (some a31)]) rfl (by rw [e]) ?_
    obtain ⟨hC, h⟩ := h
    refine r_callV dX1_ring_19 hC (c_X3_bell h) q1502 q1503 q1504 q98 q1505 rfl yo_X3_bell rfl (by decide) (by decide) rfl rc0 (by decide) (Nat.zero_le _) (Nat.zero_le _) (ofI fun x33 G32 h => ?_) nox
    refine r_bipush dX1_ring_22 (by decide) ?_
    refine r_icmp_ne (tgt := 30) dX1_ring_24 (by decide) h (fun h => ?_) (fun h => ?_)
    · refine r_aload_n dX1_ring_30 rfl rfl iR ?_
      refine r_aload_n dX1_ring_31 rfl rfl iR ?_
      refine r_getR dX1_ring_32 (fg1 (f := 0) fX1 (by decide) q700 rfl) h (fun x34 h => ?_)
      obtain ⟨k36, n37, ⟨hk1, hn1⟩, h⟩ := h
      obtain ⟨hC, h⟩ := h
      refine r_callV dX1_ring_35 hC (c_X1_remember h) q1071 q1073 qs8 q92 q1074 rfl yo_X1_remember rfl (by decide) (by decide) rfl rc0 (by decide) hk1 hn1 (ofV fun G35 h => ?_) nox
      refine r_aload_n dX1_ring_38 rfl rfl iR ?_
      refine r_getR dX1_ring_39 (fg1 (f := 0) fX1 (by decide) q700 rfl) h (fun x38 h => ?_)
      refine r_aload_n dX1_ring_42 rfl rfl iR ?_
      refine r_getR dX1_ring_43 (fg1 (f := 0) fX1 (by decide) q700 rfl) h (fun x39 h => ?_)
      obtain ⟨a40, e, h⟩ := h
      refine wp.cast (L' := [some (vR (some a0)), some (vI a1)]) (st' := [vR (some a40), vR x38]) rfl (by rw [e]) ?_
      refine r_getR dX1_ring_46 (fg1 (f := 0) fX2 (by decide) q636 rfl) h (fun x41 h => ?_)
      refine r_iload_n dX1_ring_49 rfl rfl iI ?_
      obtain ⟨a42, e, h⟩ := h
      refine wp.cast (L' := [some (vR (some a0)), some (vI a1)]) (st' := [vI a1, vR (some a42), vR x38]) rfl (by rw [e]) ?_
      refine r_aald dX1_ring_50 (by decide) (by decide) h (fun x43 h => ?_)
      obtain ⟨a44, e, h⟩ := h
      refine wp.cast (L' := [some (vR (some a0)), some (vI a1)]) (st' := [vR x43, vR (some a44)]) rfl (by rw [e]) ?_
      obtain ⟨hC, h⟩ := h
      refine r_callV dX1_ring_51 hC (c_X2_ringUp h) q1506 q1507 q1508 q93 q1509 rfl yo_X2_ringUp rfl (by decide) (by decide) rfl rc0 (by decide) (Nat.zero_le _) (Nat.zero_le _) (ofI fun x46 G45 h => ?_) nox
      exact r_iret rfl dX1_ring_54 ⟨_, rfl, h⟩
    · refine r_bipush dX1_ring_27 (by decide) ?_
      exact r_iret rfl dX1_ring_29 ⟨_, rfl, h⟩
  · refine r_iconst dX1_ring_8 ?_
    exact r_iret rfl dX1_ring_9 ⟨_, rfl, h⟩
theorem c_X1_ring {a0 : Nat} {a1 : Int} {k n : Nat} {Q : Int → Wd → Prop} {G : Wd} (h : f_X1_ring k n a0 a1 G Q) : call yX1_ring (Cond.code yX1_ring cX1_ring 2 (some .int)) 8 k n [vR (some a0), vI a1] G (qI Q) noX :=
  call.enter (by decide +kernel) (la_1 c1R (la_1 c1I (la_nil rfl))) rfl (w_X1_ring h)
abbrev m_X1_takes : Mt := (yX1_takes.cls, cX1_takes, 4, some .int, [], yX1_takes.name)
theorem yo_X1_takes : yOK yX1_takes 1 := ⟨by decide +kernel, by decide +kernel, by decide +kernel⟩
def f_X1_takes (k n : Nat) (a0 : Nat) (a1 : Int) (G : Wd) (Q : Int → Wd → Prop) : Prop :=
  gR G a0 [0] 0 (fun x32 => f_X1_refusesTaking x32 a1 G (fun x34 G33 => br0 x34 (0 ≤ x34) (gR G33 a0 [0] 0 (fun x35 => (∃ k37 n38, (k37 ≤ k ∧ n38 ≤ n) ∧ (isC G33 a0 0 ∧ f_X1_remember k37 n38 a0 x35 G33 (fun G36 => gR G36 a0 [0] 0 (fun x39 => nn x39 (fun a40 => gR G36 a40 [1] 0 (fun x41 => nn x41 (fun a42 => ldR G36 a42 7 a1 (fun x43 => nn x43 (fun a44 => (isC G36 a44 2 ∧ f_X3_take a44  G36 (fun x46 G45 => pF G45 a0 [0] 9 (vI 0) (fun G47 => nn x46 (fun a48 => gR G47 a48 [10] 0 (fun x49 => nn x49 (fun a50 => gI G47 a50 [9] 3 (fun x51 => ok32 x51 ((isC G47 a0 0 ∧ f_X1_tell a0 x51 G47 (fun G52 => gI G52 a48 [10] 1 (fun x53 => ok32 x53 ((isC G52 a0 0 ∧ f_X1_tell a0 x53 G52 (fun G54 => gI G54 a48 [10] 2 (fun x55 => ok32 x55 ((isC G54 a0 0 ∧ f_X1_tell a0 x55 G54 (fun G56 => gR G56 a48 [10] 0 (fun x57 => nn x57 (fun a58 => gI G56 a58 [9] 1 (fun x59 => gR G56 a48 [10] 0 (fun x60 => nn x60 (fun a61 => gI G56 a61 [9] 2 (fun x62 => Q ((10 * x59) + x62) G56))))))))))))))))))))))))))))))))))) (Q x34 G33)))
theorem w_X1_takes {a0 : Nat} {Q : Int → Wd → Prop} {k n : Nat} {a1 : Int} {G : Wd} (h : f_X1_takes k n a0 a1 G Q) : wp m_X1_takes 8 k n 0 [some (vR (some a0)), some (vI a1), none, none] [] G (qI Q) noX := by
  unfold f_X1_takes at h
  refine r_aload_n dX1_takes_0 rfl rfl iR ?_
  refine r_getR dX1_takes_1 (fg1 (f := 0) fX1 (by decide) q700 rfl) h (fun x32 h => ?_)
  refine r_iload_n dX1_takes_4 rfl rfl iI ?_
  refine r_callS dX1_takes_5 (c_X1_refusesTaking h) q1769 q1770 q92 q1771 yo_X1_refusesTaking rfl (by decide) (by decide) rfl rc0 (by decide) (Nat.zero_le _) (Nat.zero_le _) (ofI fun x34 G33 h => ?_) nox
  refine r_istore_n (L' := [some (vR (some a0)), some (vI a1), some (vI x34), none]) dX1_takes_8 rfl rfl iI cI (by decide) ?_
  refine r_iload_n dX1_takes_9 rfl rfl iI ?_
  refine r_if_ge (tgt := 15) dX1_takes_10 (by decide) h (fun h => ?_) (fun h => ?_)
  · refine r_aload_n dX1_takes_15 rfl rfl iR ?_
    refine r_aload_n dX1_takes_16 rfl rfl iR ?_
    refine r_getR dX1_takes_17 (fg1 (f := 0) fX1 (by decide) q700 rfl) h (fun x35 h => ?_)
    obtain ⟨k37, n38, ⟨hk1, hn1⟩, h⟩ := h
    obtain ⟨hC, h⟩ := h
    refine r_callV dX1_takes_20 hC (c_X1_remember h) q1071 q1073 qs8 q92 q1074 rfl yo_X1_remember rfl (by decide) (by decide) rfl rc0 (by decide) hk1 hn1 (ofV fun G36 h => ?_) nox
    refine r_aload_n dX1_takes_23 rfl rfl iR ?_
    refine r_getR dX1_takes_24 (fg1 (f := 0) fX1 (by decide) q700 rfl) h (fun x39 h => ?_)
    obtain ⟨a40, e, h⟩ := h
    refine wp.cast (L' := [some (vR (some a0)), some (vI a1), some (vI x34), none]) (st' := [vR (some a40)]) rfl (by rw [e]) ?_
    refine r_getR dX1_takes_27 (fg1 (f := 0) fX2 (by decide) q636 rfl) h (fun x41 h => ?_)
    refine r_iload_n dX1_takes_30 rfl rfl iI ?_
    obtain ⟨a42, e, h⟩ := h
    refine wp.cast (L' := [some (vR (some a0)), some (vI a1), some (vI x34), none]) (st' := [vI a1, vR (some a42)]) rfl (by rw [e]) ?_
    refine r_aald dX1_takes_31 (by decide) (by decide) h (fun x43 h => ?_)
    obtain ⟨a44, e, h⟩ := h
    refine wp.cast (L' := [some (vR (some a0)), some (vI a1), some (vI x34), none]) (st' := [vR (some a44)]) rfl (by rw [e]) ?_
    obtain ⟨hC, h⟩ := h
    refine r_callV dX1_takes_32 hC (c_X3_take h) q1776 q1777 q1778 q98 q1779 rfl yo_X3_take rfl (by decide) (by decide) rfl rc0 (by decide) (Nat.zero_le _) (Nat.zero_le _) (ofR fun x46 G45 h => ?_) nox
    refine r_astore_n (L' := [some (vR (some a0)), some (vI a1), some (vI x34), some (vR x46)]) dX1_takes_35 rfl rfl iR cI (by decide) ?_
    refine r_aload_n dX1_takes_36 rfl rfl iR ?_
    refine r_iconst dX1_takes_37 ?_
    refine r_put dX1_takes_38 (fp1 (f := 9) fX1 (by decide) q709 rfl rfl rfl) fvI h (fun G47 h => ?_)
    refine r_aload_n dX1_takes_41 rfl rfl iR ?_
    refine r_aload_n dX1_takes_42 rfl rfl iR ?_
    obtain ⟨a48, e, h⟩ := h
    refine wp.cast (L' := [some (vR (some a0)), some (vI a1), some (vI x34), some (vR (some a48))]) (st' := [vR (some a48), vR (some a0)]) (by rw [e]) (by rw [e]) ?_
    refine r_getR dX1_takes_43 (fg1 (f := 0) fX11 (by decide) q1614 rfl) h (fun x49 h => ?_)
    obtain ⟨a50, e, h⟩ := h
    refine wp.cast (L' := [some (vR (some a0)), some (vI a1), some (vI x34), some (vR (some a48))]) (st' := [vR (some a50), vR (some a0)]) rfl (by rw [e]) ?_
    refine r_getI dX1_takes_46 (fg1 (f := 3) fX10 (by decide) q1581 rfl) h (fun x51 h => ?_)
    refine r_i2l dX1_takes_49 h (fun h => ?_)
    obtain ⟨hC, h⟩ := h
    refine r_callV dX1_takes_50 hC (c_X1_tell h) q1761 q1763 qs27 q92 q1764 rfl yo_X1_tell rfl (by decide) (by decide) rfl rc0 (by decide) (Nat.zero_le _) (Nat.zero_le _) (ofV fun G52 h => ?_) nox
    refine r_aload_n dX1_takes_53 rfl rfl iR ?_
    refine r_aload_n dX1_takes_54 rfl rfl iR ?_
    refine r_getI dX1_takes_55 (fg1 (f := 1) fX11 (by decide) q1617 rfl) h (fun x53 h => ?_)
    refine r_i2l dX1_takes_58 h (fun h => ?_)
    obtain ⟨hC, h⟩ := h
    refine r_callV dX1_takes_59 hC (c_X1_tell h) q1761 q1763 qs27 q92 q1764 rfl yo_X1_tell rfl (by decide) (by decide) rfl rc0 (by decide) (Nat.zero_le _) (Nat.zero_le _) (ofV fun G54 h => ?_) nox
    refine r_aload_n dX1_takes_62 rfl rfl iR ?_
    refine r_aload_n dX1_takes_63 rfl rfl iR ?_
    refine r_getI dX1_takes_64 (fg1 (f := 2) fX11 (by decide) q1619 rfl) h (fun x55 h => ?_)
    refine r_i2l dX1_takes_67 h (fun h => ?_)
    obtain ⟨hC, h⟩ := h
    refine r_callV dX1_takes_68 hC (c_X1_tell h) q1761 q1763 qs27 q92 q1764 rfl yo_X1_tell rfl (by decide) (by decide) rfl rc0 (by decide) (Nat.zero_le _) (Nat.zero_le _) (ofV fun G56 h => ?_) nox
    refine r_bipush dX1_takes_71 (by decide) ?_
    refine r_aload_n dX1_takes_73 rfl rfl iR ?_
    refine r_getR dX1_takes_74 (fg1 (f := 0) fX11 (by decide) q1614 rfl) h (fun x57 h => ?_)
    obtain ⟨a58, e, h⟩ := h
    refine wp.cast (L' := [some (vR (some a0)), some (vI a1), some (vI x34), some (vR (some a48))]) (st' := [vR (some a58), vI 10]) rfl (by rw [e]) ?_
    refine r_getI dX1_takes_77 (fg1 (f := 1) fX10 (by decide) q1577 rfl) h (fun x59 h => ?_)
    refine r_imul dX1_takes_80 ?_
    refine r_aload_n dX1_takes_81 rfl rfl iR ?_
    refine r_getR dX1_takes_82 (fg1 (f := 0) fX11 (by decide) q1614 rfl) h (fun x60 h => ?_)
    obtain ⟨a61, e, h⟩ := h
    refine wp.cast (L' := [some (vR (some a0)), some (vI a1), some (vI x34), some (vR (some a48))]) (st' := [vR (some a61), vI (10 * x59)]) rfl (by rw [e]) ?_
    refine r_getI dX1_takes_85 (fg1 (f := 2) fX10 (by decide) q1579 rfl) h (fun x62 h => ?_)
    refine r_iadd dX1_takes_88 ?_
    exact r_iret rfl dX1_takes_89 ⟨_, rfl, h⟩
  · refine r_iload_n dX1_takes_13 rfl rfl iI ?_
    exact r_iret rfl dX1_takes_14 ⟨_, rfl, h⟩
theorem c_X1_takes {a0 : Nat} {a1 : Int} {k n : Nat} {Q : Int → Wd → Prop} {G : Wd} (h : f_X1_takes k n a0 a1 G Q) : call yX1_takes (Cond.code yX1_takes cX1_takes 4 (some .int)) 8 k n [vR (some a0), vI a1] G (qI Q) noX :=
  call.enter (by decide +kernel) (la_1 c1R (la_1 c1I (la_nil rfl))) rfl (w_X1_takes h)
abbrev m_X1_calls : Mt := (yX1_calls.cls, cX1_calls, 4, some .int, [], yX1_calls.name)
theorem yo_X1_calls : yOK yX1_calls 2 := ⟨by decide +kernel, by decide +kernel, by decide +kernel⟩
def f_X1_calls (k n : Nat) (a0 : Nat) (a1 : Int) (a2 : Int) (G : Wd) (Q : Int → Wd → Prop) : Prop :=
  gR G a0 [0] 0 (fun x14 => (∃ k16 n17, (k16 ≤ k ∧ n17 ≤ n) ∧ (isC G a0 0 ∧ f_X1_recallOf k16 n17 a0 x14 a1 a2 G (fun x18 G15 => br0 x18 (0 ≤ x18) (gR G15 a0 [0] 0 (fun x19 => (∃ k21 n22, (k21 ≤ (k - k16) ∧ n22 ≤ (n - n17)) ∧ (isC G15 a0 0 ∧ f_X1_remember k21 n22 a0 x19 G15 (fun G20 => gR G20 a0 [0] 0 (fun x23 => (∃ k25 n26, (k25 ≤ ((k - k16) - k21) ∧ n26 ≤ ((n - n17) - n22)) ∧ f_X1_goCall k25 n26 x23 a1 a2 G20 (fun G24 => Q x18 G24)))))))) (Q x18 G15)))))
theorem w_X1_calls {a0 : Nat} {Q : Int → Wd → Prop} {k n : Nat} {a1 : Int} {a2 : Int} {G : Wd} (h : f_X1_calls k n a0 a1 a2 G Q) : wp m_X1_calls 8 k n 0 [some (vR (some a0)), some (vI a1), some (vI a2), none] [] G (qI Q) noX := by
  unfold f_X1_calls at h
  refine r_aload_n dX1_calls_0 rfl rfl iR ?_
  refine r_aload_n dX1_calls_1 rfl rfl iR ?_
  refine r_getR dX1_calls_2 (fg1 (f := 0) fX1 (by decide) q700 rfl) h (fun x14 h => ?_)
  refine r_iload_n dX1_calls_5 rfl rfl iI ?_
  refine r_iload_n dX1_calls_6 rfl rfl iI ?_
  obtain ⟨k16, n17, ⟨hk1, hn1⟩, h⟩ := h
  obtain ⟨hC, h⟩ := h
  refine r_callV dX1_calls_7 hC (c_X1_recallOf h) q1793 q1795 qs29 q92 q1796 rfl yo_X1_recallOf rfl (by decide) (by decide) rfl rc0 (by decide) hk1 hn1 (ofI fun x18 G15 h => ?_) nox
  refine r_istore_n (L' := [some (vR (some a0)), some (vI a1), some (vI a2), some (vI x18)]) dX1_calls_10 rfl rfl iI cI (by decide) ?_
  refine r_iload_n dX1_calls_11 rfl rfl iI ?_
  refine r_if_ge (tgt := 17) dX1_calls_12 (by decide) h (fun h => ?_) (fun h => ?_)
  · refine r_aload_n dX1_calls_17 rfl rfl iR ?_
    refine r_aload_n dX1_calls_18 rfl rfl iR ?_
    refine r_getR dX1_calls_19 (fg1 (f := 0) fX1 (by decide) q700 rfl) h (fun x19 h => ?_)
    obtain ⟨k21, n22, ⟨hk1, hn1⟩, h⟩ := h
    obtain ⟨hC, h⟩ := h
    refine r_callV dX1_calls_22 hC (c_X1_remember h) q1071 q1073 qs8 q92 q1074 rfl yo_X1_remember rfl (by decide) (by decide) rfl rc0 (by decide) hk1 hn1 (ofV fun G20 h => ?_) nox
    refine r_aload_n dX1_calls_25 rfl rfl iR ?_
    refine r_getR dX1_calls_26 (fg1 (f := 0) fX1 (by decide) q700 rfl) h (fun x23 h => ?_)
    refine r_iload_n dX1_calls_29 rfl rfl iI ?_
    refine r_iload_n dX1_calls_30 rfl rfl iI ?_
    obtain ⟨k25, n26, ⟨hk1, hn1⟩, h⟩ := h
    refine r_callS dX1_calls_31 (c_X1_goCall h) q1812 q1813 q92 q1814 yo_X1_goCall rfl (by decide) (by decide) rfl rc0 (by decide) hk1 hn1 (ofV fun G24 h => ?_) nox
    refine r_iload_n dX1_calls_34 rfl rfl iI ?_
    exact r_iret rfl dX1_calls_35 ⟨_, rfl, h⟩
  · refine r_iload_n dX1_calls_15 rfl rfl iI ?_
    exact r_iret rfl dX1_calls_16 ⟨_, rfl, h⟩
theorem c_X1_calls {a0 : Nat} {a1 : Int} {a2 : Int} {k n : Nat} {Q : Int → Wd → Prop} {G : Wd} (h : f_X1_calls k n a0 a1 a2 G Q) : call yX1_calls (Cond.code yX1_calls cX1_calls 4 (some .int)) 8 k n [vR (some a0), vI a1, vI a2] G (qI Q) noX :=
  call.enter (by decide +kernel) (la_1 c1R (la_1 c1I (la_1 c1I (la_nil rfl)))) rfl (w_X1_calls h)
abbrev m_X1_resets : Mt := (yX1_resets.cls, cX1_resets, 4, some .int, [], yX1_resets.name)
theorem yo_X1_resets : yOK yX1_resets 0 := ⟨by decide +kernel, by decide +kernel, by decide +kernel⟩
def f_X1_resets (k n : Nat) (a0 : Nat) (G : Wd) (Q : Int → Wd → Prop) : Prop :=
  gR G a0 [0] 0 (fun x32 => (∃ k34 n35, (k34 ≤ k ∧ n35 ≤ n) ∧ (isC G a0 0 ∧ f_X1_remember k34 n35 a0 x32 G (fun G33 => gR G33 a0 [0] 0 (fun x36 => nn x36 (fun a37 => (isC G33 a37 1 ∧ f_X2_inRings a37  G33 (fun x39 G38 => gR G38 a0 [0] 0 (fun x40 => nn x40 (fun a41 => (∃ k43 n44, (k43 ≤ (k - k34) ∧ n44 ≤ (n - n35)) ∧ (isC G38 a41 1 ∧ f_X2_inWork k43 n44 a41  G38 (fun x45 G42 => gR G42 a0 [0] 0 (fun x46 => nn x46 (fun a47 => gR G42 a47 [1] 2 (fun x48 => nn x48 (fun a49 => (isC G42 a49 12 ∧ f_J3_size a49  G42 (fun x51 G50 => gR G50 a0 [0] 0 (fun x52 => nn x52 (fun a53 => (isC G50 a53 1 ∧ f_X2_notTaken a53  G50 (fun x55 G54 => gR G54 a0 [0] 0 (fun x56 => nn x56 (fun a57 => (isC G54 a57 1 ∧ f_X2_empty a57  G54 (fun G58 => pF G58 a0 [0] 9 (vI 0) (fun G59 => ok32 x39 ((isC G59 a0 0 ∧ f_X1_tell a0 x39 G59 (fun G60 => ok32 x45 ((isC G60 a0 0 ∧ f_X1_tell a0 x45 G60 (fun G61 => ok32 (x51 + x55) ((isC G61 a0 0 ∧ f_X1_tell a0 (x51 + x55) G61 (fun G62 => Q ((x39 + x45) + (x51 + x55)) G62)))))))))))))))))))))))))))))))))))))
theorem w_X1_resets {a0 : Nat} {Q : Int → Wd → Prop} {k n : Nat} {G : Wd} (h : f_X1_resets k n a0 G Q) : wp m_X1_resets 8 k n 0 [some (vR (some a0)), none, none, none] [] G (qI Q) noX := by
  unfold f_X1_resets at h
  refine r_aload_n dX1_resets_0 rfl rfl iR ?_
  refine r_aload_n dX1_resets_1 rfl rfl iR ?_
  refine r_getR dX1_resets_2 (fg1 (f := 0) fX1 (by decide) q700 rfl) h (fun x32 h => ?_)
  obtain ⟨k34, n35, ⟨hk1, hn1⟩, h⟩ := h
  obtain ⟨hC, h⟩ := h
  refine r_callV dX1_resets_5 hC (c_X1_remember h) q1071 q1073 qs8 q92 q1074 rfl yo_X1_remember rfl (by decide) (by decide) rfl rc0 (by decide) hk1 hn1 (ofV fun G33 h => ?_) nox
  refine r_aload_n dX1_resets_8 rfl rfl iR ?_
  refine r_getR dX1_resets_9 (fg1 (f := 0) fX1 (by decide) q700 rfl) h (fun x36 h => ?_)
  obtain ⟨a37, e, h⟩ := h
  refine wp.cast (L' := [some (vR (some a0)), none, none, none]) (st' := [vR (some a37)]) rfl (by rw [e]) ?_
  obtain ⟨hC, h⟩ := h
  refine r_callV dX1_resets_12 hC (c_X2_inRings h) q1832 q1833 q1834 q93 q1835 rfl yo_X2_inRings rfl (by decide) (by decide) rfl rc0 (by decide) (Nat.zero_le _) (Nat.zero_le _) (ofI fun x39 G38 h => ?_) nox
  refine r_istore_n (L' := [some (vR (some a0)), some (vI x39), none, none]) dX1_resets_15 rfl rfl iI cR (by decide) ?_
  refine r_aload_n dX1_resets_16 rfl rfl iR ?_
  refine r_getR dX1_resets_17 (fg1 (f := 0) fX1 (by decide) q700 rfl) h (fun x40 h => ?_)
  obtain ⟨a41, e, h⟩ := h
  refine wp.cast (L' := [some (vR (some a0)), some (vI x39), none, none]) (st' := [vR (some a41)]) rfl (by rw [e]) ?_
  obtain ⟨k43, n44, ⟨hk1, hn1⟩, h⟩ := h
  obtain ⟨hC, h⟩ := h
  refine r_callV dX1_resets_20 hC (c_X2_inWork h) q1837 q1838 q1839 q93 q1840 rfl yo_X2_inWork rfl (by decide) (by decide) rfl rc0 (by decide) hk1 hn1 (ofI fun x45 G42 h => ?_) nox
  refine r_istore_n (L' := [some (vR (some a0)), some (vI x39), some (vI x45), none]) dX1_resets_23 rfl rfl iI cI (by decide) ?_
  refine r_aload_n dX1_resets_24 rfl rfl iR ?_
  refine r_getR dX1_resets_25 (fg1 (f := 0) fX1 (by decide) q700 rfl) h (fun x46 h => ?_)
  obtain ⟨a47, e, h⟩ := h
  refine wp.cast (L' := [some (vR (some a0)), some (vI x39), some (vI x45), none]) (st' := [vR (some a47)]) rfl (by rw [e]) ?_
  refine r_getR dX1_resets_28 (fg1 (f := 2) fX2 (by decide) q641 rfl) h (fun x48 h => ?_)
  obtain ⟨a49, e, h⟩ := h
  refine wp.cast (L' := [some (vR (some a0)), some (vI x39), some (vI x45), none]) (st' := [vR (some a49)]) rfl (by rw [e]) ?_
  obtain ⟨hC, h⟩ := h
  refine r_callV dX1_resets_31 hC (c_J3_size h) q1841 q1015 q1016 q97 q1017 rfl yo_J3_size rfl (by decide) (by decide) rfl rc0 (by decide) (Nat.zero_le _) (Nat.zero_le _) (ofI fun x51 G50 h => ?_) nox
  refine r_aload_n dX1_resets_34 rfl rfl iR ?_
  refine r_getR dX1_resets_35 (fg1 (f := 0) fX1 (by decide) q700 rfl) h (fun x52 h => ?_)
  obtain ⟨a53, e, h⟩ := h
  refine wp.cast (L' := [some (vR (some a0)), some (vI x39), some (vI x45), none]) (st' := [vR (some a53), vI x51]) rfl (by rw [e]) ?_
  obtain ⟨hC, h⟩ := h
  refine r_callV dX1_resets_38 hC (c_X2_notTaken h) q1842 q1843 q1844 q93 q1845 rfl yo_X2_notTaken rfl (by decide) (by decide) rfl (rc1 c1I rc0) (by decide) (Nat.zero_le _) (Nat.zero_le _) (ofI fun x55 G54 h => ?_) nox
  refine r_iadd dX1_resets_41 ?_
  refine r_istore_n (L' := [some (vR (some a0)), some (vI x39), some (vI x45), some (vI (x51 + x55))]) dX1_resets_42 rfl rfl iI cI (by decide) ?_
  refine r_aload_n dX1_resets_43 rfl rfl iR ?_
  refine r_getR dX1_resets_44 (fg1 (f := 0) fX1 (by decide) q700 rfl) h (fun x56 h => ?_)
  obtain ⟨a57, e, h⟩ := h
  refine wp.cast (L' := [some (vR (some a0)), some (vI x39), some (vI x45), some (vI (x51 + x55))]) (st' := [vR (some a57)]) rfl (by rw [e]) ?_
  obtain ⟨hC, h⟩ := h
  refine r_callV dX1_resets_47 hC (c_X2_empty h) q1846 q1847 q1848 q93 q1849 rfl yo_X2_empty rfl (by decide) (by decide) rfl rc0 (by decide) (Nat.zero_le _) (Nat.zero_le _) (ofV fun G58 h => ?_) nox
  refine r_aload_n dX1_resets_50 rfl rfl iR ?_
  refine r_iconst dX1_resets_51 ?_
  refine r_put dX1_resets_52 (fp1 (f := 9) fX1 (by decide) q709 rfl rfl rfl) fvI h (fun G59 h => ?_)
  refine r_aload_n dX1_resets_55 rfl rfl iR ?_
  refine r_iload_n dX1_resets_56 rfl rfl iI ?_
  refine r_i2l dX1_resets_57 h (fun h => ?_)
  obtain ⟨hC, h⟩ := h
  refine r_callV dX1_resets_58 hC (c_X1_tell h) q1761 q1763 qs27 q92 q1764 rfl yo_X1_tell rfl (by decide) (by decide) rfl rc0 (by decide) (Nat.zero_le _) (Nat.zero_le _) (ofV fun G60 h => ?_) nox
  refine r_aload_n dX1_resets_61 rfl rfl iR ?_
  refine r_iload_n dX1_resets_62 rfl rfl iI ?_
  refine r_i2l dX1_resets_63 h (fun h => ?_)
  obtain ⟨hC, h⟩ := h
  refine r_callV dX1_resets_64 hC (c_X1_tell h) q1761 q1763 qs27 q92 q1764 rfl yo_X1_tell rfl (by decide) (by decide) rfl rc0 (by decide) (Nat.zero_le _) (Nat.zero_le _) (ofV fun G61 h => ?_) nox
  refine r_aload_n dX1_resets_67 rfl rfl iR ?_
  refine r_iload_n dX1_resets_68 rfl rfl iI ?_
  refine r_i2l dX1_resets_69 h (fun h => ?_)
  obtain ⟨hC, h⟩ := h
  refine r_callV dX1_resets_70 hC (c_X1_tell h) q1761 q1763 qs27 q92 q1764 rfl yo_X1_tell rfl (by decide) (by decide) rfl rc0 (by decide) (Nat.zero_le _) (Nat.zero_le _) (ofV fun G62 h => ?_) nox
  refine r_iload_n dX1_resets_73 rfl rfl iI ?_
  refine r_iload_n dX1_resets_74 rfl rfl iI ?_
  refine r_iadd dX1_resets_75 ?_
  refine r_iload_n dX1_resets_76 rfl rfl iI ?_
  refine r_iadd dX1_resets_77 ?_
  exact r_iret rfl dX1_resets_78 ⟨_, rfl, h⟩
theorem c_X1_resets {a0 : Nat} {k n : Nat} {Q : Int → Wd → Prop} {G : Wd} (h : f_X1_resets k n a0 G Q) : call yX1_resets (Cond.code yX1_resets cX1_resets 4 (some .int)) 8 k n [vR (some a0)] G (qI Q) noX :=
  call.enter (by decide +kernel) (la_1 c1R (la_nil rfl)) rfl (w_X1_resets h)
abbrev m_X1_weighs : Mt := (yX1_weighs.cls, cX1_weighs, 4, some .int, [], yX1_weighs.name)
theorem yo_X1_weighs : yOK yX1_weighs 2 := ⟨by decide +kernel, by decide +kernel, by decide +kernel⟩
def f_X1_weighs (k n : Nat) (a0 : Nat) (a1 : Int) (a2 : Int) (G : Wd) (Q : Int → Wd → Prop) : Prop :=
  ok32 a1 (f_X1_in a1 1 3 G (fun x25 G24 => brB x25 (ok32 a2 (f_X1_in a2 1 9 G24 (fun x27 G26 => brB x27 (gR G26 a0 [0] 0 (fun x28 => nn x28 (fun a29 => gR G26 a29 [1] 4 (fun x30 => nn x30 (fun a31 => ldI G26 a31 0 a1 (fun x32 => br x32 a2 (¬ x32 = a2) (gR G26 a0 [0] 0 (fun x33 => (∃ k35 n36, (k35 ≤ k ∧ n36 ≤ n) ∧ (isC G26 a0 0 ∧ f_X1_remember k35 n36 a0 x33 G26 (fun G34 => gR G34 a0 [0] 0 (fun x37 => nn x37 (fun a38 => gR G34 a38 [1] 4 (fun x39 => nn x39 (fun a40 => (stI G34 a40 0 a1 a2 (fun G41 => gR G41 a0 [0] 0 (fun x42 => nn x42 (fun a43 => gR G41 a43 [1] 5 (fun x44 => nn x44 (fun a45 => (stI G41 a45 0 a1 a2 (fun G46 => Q (10 + x32) G46))))))))))))))))) (Q (-2) G26))))))) (Q (-1) G26)))) (Q (-1) G24)))
theorem w_X1_weighs {a0 : Nat} {Q : Int → Wd → Prop} {k n : Nat} {a1 : Int} {a2 : Int} {G : Wd} (h : f_X1_weighs k n a0 a1 a2 G Q) : wp m_X1_weighs 8 k n 0 [some (vR (some a0)), some (vI a1), some (vI a2), none] [] G (qI Q) noX := by
  unfold f_X1_weighs at h
  refine r_iload_n dX1_weighs_0 rfl rfl iI ?_
  refine r_i2l dX1_weighs_1 h (fun h => ?_)
  refine r_lconst (y := 1) dX1_weighs_2 (by decide) ?_
  refine r_ldc2 (x := 3) dX1_weighs_3 q1027 (by decide) ?_
  refine r_callS dX1_weighs_6 (c_X1_in h) q776 q777 q92 q778 yo_X1_in rfl (by decide) (by decide) rfl rc0 (by decide) (Nat.zero_le _) (Nat.zero_le _) (ofB fun x25 G24 h => ?_) nox
  refine r_ifZ_eq (tgt := 24) dX1_weighs_9 (by decide) h (fun h => ?_) (fun h => ?_)
  · refine r_iconst dX1_weighs_24 ?_
    exact r_iret rfl dX1_weighs_25 ⟨_, rfl, h⟩
  · refine r_iload_n dX1_weighs_12 rfl rfl iI ?_
    refine r_i2l dX1_weighs_13 h (fun h => ?_)
    refine r_lconst (y := 1) dX1_weighs_14 (by decide) ?_
    refine r_ldc2 (x := 9) dX1_weighs_15 q1051 (by decide) ?_
    refine r_callS dX1_weighs_18 (c_X1_in h) q776 q777 q92 q778 yo_X1_in rfl (by decide) (by decide) rfl rc0 (by decide) (Nat.zero_le _) (Nat.zero_le _) (ofB fun x27 G26 h => ?_) nox
    refine r_ifZ_ne (tgt := 26) dX1_weighs_21 (by decide) h (fun h => ?_) (fun h => ?_)
    · refine r_aload_n dX1_weighs_26 rfl rfl iR ?_
      refine r_getR dX1_weighs_27 (fg1 (f := 0) fX1 (by decide) q700 rfl) h (fun x28 h => ?_)
      obtain ⟨a29, e, h⟩ := h
      refine wp.cast (L' := [some (vR (some a0)), some (vI a1), some (vI a2), none]) (st' := [vR (some a29)]) rfl (by rw [e]) ?_
      refine r_getR dX1_weighs_30 (fg1 (f := 4) fX2 (by decide) q645 rfl) h (fun x30 h => ?_)
      refine r_iload_n dX1_weighs_33 rfl rfl iI ?_
      obtain ⟨a31, e, h⟩ := h
      refine wp.cast (L' := [some (vR (some a0)), some (vI a1), some (vI a2), none]) (st' := [vI a1, vR (some a31)]) rfl (by rw [e]) ?_
      refine r_iald dX1_weighs_34 h (fun x32 h => ?_)
      refine r_istore_n (L' := [some (vR (some a0)), some (vI a1), some (vI a2), some (vI x32)]) dX1_weighs_35 rfl rfl iI cI (by decide) ?_
      refine r_iload_n dX1_weighs_36 rfl rfl iI ?_
      refine r_iload_n dX1_weighs_37 rfl rfl iI ?_
      refine r_icmp_ne (tgt := 44) dX1_weighs_38 (by decide) h (fun h => ?_) (fun h => ?_)
      · refine r_aload_n dX1_weighs_44 rfl rfl iR ?_
        refine r_aload_n dX1_weighs_45 rfl rfl iR ?_
        refine r_getR dX1_weighs_46 (fg1 (f := 0) fX1 (by decide) q700 rfl) h (fun x33 h => ?_)
        obtain ⟨k35, n36, ⟨hk1, hn1⟩, h⟩ := h
        obtain ⟨hC, h⟩ := h
        refine r_callV dX1_weighs_49 hC (c_X1_remember h) q1071 q1073 qs8 q92 q1074 rfl yo_X1_remember rfl (by decide) (by decide) rfl rc0 (by decide) hk1 hn1 (ofV fun G34 h => ?_) nox
        refine r_aload_n dX1_weighs_52 rfl rfl iR ?_
        refine r_getR dX1_weighs_53 (fg1 (f := 0) fX1 (by decide) q700 rfl) h (fun x37 h => ?_)
        obtain ⟨a38, e, h⟩ := h
        refine wp.cast (L' := [some (vR (some a0)), some (vI a1), some (vI a2), some (vI x32)]) (st' := [vR (some a38)]) rfl (by rw [e]) ?_
        refine r_getR dX1_weighs_56 (fg1 (f := 4) fX2 (by decide) q645 rfl) h (fun x39 h => ?_)
        refine r_iload_n dX1_weighs_59 rfl rfl iI ?_
        refine r_iload_n dX1_weighs_60 rfl rfl iI ?_
        obtain ⟨a40, e, h⟩ := h
        refine wp.cast (L' := [some (vR (some a0)), some (vI a1), some (vI a2), some (vI x32)]) (st' := [vI a2, vI a1, vR (some a40)]) rfl (by rw [e]) ?_
        refine r_iast dX1_weighs_61 h (fun G41 h => ?_)
        refine r_aload_n dX1_weighs_62 rfl rfl iR ?_
        refine r_getR dX1_weighs_63 (fg1 (f := 0) fX1 (by decide) q700 rfl) h (fun x42 h => ?_)
        obtain ⟨a43, e, h⟩ := h
        refine wp.cast (L' := [some (vR (some a0)), some (vI a1), some (vI a2), some (vI x32)]) (st' := [vR (some a43)]) rfl (by rw [e]) ?_
        refine r_getR dX1_weighs_66 (fg1 (f := 5) fX2 (by decide) q647 rfl) h (fun x44 h => ?_)
        refine r_iload_n dX1_weighs_69 rfl rfl iI ?_
        refine r_iload_n dX1_weighs_70 rfl rfl iI ?_
        obtain ⟨a45, e, h⟩ := h
        refine wp.cast (L' := [some (vR (some a0)), some (vI a1), some (vI a2), some (vI x32)]) (st' := [vI a2, vI a1, vR (some a45)]) rfl (by rw [e]) ?_
        refine r_iast dX1_weighs_71 h (fun G46 h => ?_)
        refine r_bipush dX1_weighs_72 (by decide) ?_
        refine r_iload_n dX1_weighs_74 rfl rfl iI ?_
        refine r_iadd dX1_weighs_75 ?_
        exact r_iret rfl dX1_weighs_76 ⟨_, rfl, h⟩
      · refine r_bipush dX1_weighs_41 (by decide) ?_
        exact r_iret rfl dX1_weighs_43 ⟨_, rfl, h⟩
    · refine r_iconst dX1_weighs_24 ?_
      exact r_iret rfl dX1_weighs_25 ⟨_, rfl, h⟩
theorem c_X1_weighs {a0 : Nat} {a1 : Int} {a2 : Int} {k n : Nat} {Q : Int → Wd → Prop} {G : Wd} (h : f_X1_weighs k n a0 a1 a2 G Q) : call yX1_weighs (Cond.code yX1_weighs cX1_weighs 4 (some .int)) 8 k n [vR (some a0), vI a1, vI a2] G (qI Q) noX :=
  call.enter (by decide +kernel) (la_1 c1R (la_1 c1I (la_1 c1I (la_nil rfl)))) rfl (w_X1_weighs h)
abbrev m_X1_depth : Mt := (yX1_depth.cls, cX1_depth, 3, some .int, [], yX1_depth.name)
theorem yo_X1_depth : yOK yX1_depth 1 := ⟨by decide +kernel, by decide +kernel, by decide +kernel⟩
def f_X1_depth (k n : Nat) (a0 : Nat) (a1 : Int) (G : Wd) (Q : Int → Wd → Prop) : Prop :=
  ok32 a1 (f_X1_in a1 1 4 G (fun x14 G13 => brB x14 (gR G13 a0 [0] 0 (fun x15 => nn x15 (fun a16 => gI G13 a16 [1] 9 (fun x17 => br x17 a1 (¬ x17 = a1) (gR G13 a0 [0] 0 (fun x18 => (∃ k20 n21, (k20 ≤ k ∧ n21 ≤ n) ∧ (isC G13 a0 0 ∧ f_X1_remember k20 n21 a0 x18 G13 (fun G19 => gR G19 a0 [0] 0 (fun x22 => nn x22 (fun a23 => pF G19 a23 [1] 9 (vI a1) (fun G24 => Q (10 + x17) G24)))))))) (Q (-2) G13))))) (Q (-1) G13)))
theorem w_X1_depth {a0 : Nat} {Q : Int → Wd → Prop} {k n : Nat} {a1 : Int} {G : Wd} (h : f_X1_depth k n a0 a1 G Q) : wp m_X1_depth 8 k n 0 [some (vR (some a0)), some (vI a1), none] [] G (qI Q) noX := by
  unfold f_X1_depth at h
  refine r_iload_n dX1_depth_0 rfl rfl iI ?_
  refine r_i2l dX1_depth_1 h (fun h => ?_)
  refine r_lconst (y := 1) dX1_depth_2 (by decide) ?_
  refine r_ldc2 (x := 4) dX1_depth_3 q1050 (by decide) ?_
  refine r_callS dX1_depth_6 (c_X1_in h) q776 q777 q92 q778 yo_X1_in rfl (by decide) (by decide) rfl rc0 (by decide) (Nat.zero_le _) (Nat.zero_le _) (ofB fun x14 G13 h => ?_) nox
  refine r_ifZ_ne (tgt := 14) dX1_depth_9 (by decide) h (fun h => ?_) (fun h => ?_)
  · refine r_aload_n dX1_depth_14 rfl rfl iR ?_
    refine r_getR dX1_depth_15 (fg1 (f := 0) fX1 (by decide) q700 rfl) h (fun x15 h => ?_)
    obtain ⟨a16, e, h⟩ := h
    refine wp.cast (L' := [some (vR (some a0)), some (vI a1), none]) (st' := [vR (some a16)]) rfl (by rw [e]) ?_
    refine r_getI dX1_depth_18 (fg1 (f := 9) fX2 (by decide) q654 rfl) h (fun x17 h => ?_)
    refine r_istore_n (L' := [some (vR (some a0)), some (vI a1), some (vI x17)]) dX1_depth_21 rfl rfl iI cI (by decide) ?_
    refine r_iload_n dX1_depth_22 rfl rfl iI ?_
    refine r_iload_n dX1_depth_23 rfl rfl iI ?_
    refine r_icmp_ne (tgt := 30) dX1_depth_24 (by decide) h (fun h => ?_) (fun h => ?_)
    · refine r_aload_n dX1_depth_30 rfl rfl iR ?_
      refine r_aload_n dX1_depth_31 rfl rfl iR ?_
      refine r_getR dX1_depth_32 (fg1 (f := 0) fX1 (by decide) q700 rfl) h (fun x18 h => ?_)
      obtain ⟨k20, n21, ⟨hk1, hn1⟩, h⟩ := h
      obtain ⟨hC, h⟩ := h
      refine r_callV dX1_depth_35 hC (c_X1_remember h) q1071 q1073 qs8 q92 q1074 rfl yo_X1_remember rfl (by decide) (by decide) rfl rc0 (by decide) hk1 hn1 (ofV fun G19 h => ?_) nox
      refine r_aload_n dX1_depth_38 rfl rfl iR ?_
      refine r_getR dX1_depth_39 (fg1 (f := 0) fX1 (by decide) q700 rfl) h (fun x22 h => ?_)
      refine r_iload_n dX1_depth_42 rfl rfl iI ?_
      obtain ⟨a23, e, h⟩ := h
      refine wp.cast (L' := [some (vR (some a0)), some (vI a1), some (vI x17)]) (st' := [vI a1, vR (some a23)]) rfl (by rw [e]) ?_
      refine r_put dX1_depth_43 (fp1 (f := 9) fX2 (by decide) q654 rfl rfl rfl) fvI h (fun G24 h => ?_)
      refine r_bipush dX1_depth_46 (by decide) ?_
      refine r_iload_n dX1_depth_48 rfl rfl iI ?_
      refine r_iadd dX1_depth_49 ?_
      exact r_iret rfl dX1_depth_50 ⟨_, rfl, h⟩
    · refine r_bipush dX1_depth_27 (by decide) ?_
      exact r_iret rfl dX1_depth_29 ⟨_, rfl, h⟩
  · refine r_iconst dX1_depth_12 ?_
    exact r_iret rfl dX1_depth_13 ⟨_, rfl, h⟩
theorem c_X1_depth {a0 : Nat} {a1 : Int} {k n : Nat} {Q : Int → Wd → Prop} {G : Wd} (h : f_X1_depth k n a0 a1 G Q) : call yX1_depth (Cond.code yX1_depth cX1_depth 3 (some .int)) 8 k n [vR (some a0), vI a1] G (qI Q) noX :=
  call.enter (by decide +kernel) (la_1 c1R (la_1 c1I (la_nil rfl))) rfl (w_X1_depth h)
abbrev m_X1_undo : Mt := (yX1_undo.cls, cX1_undo, 1, some .int, [], yX1_undo.name)
theorem yo_X1_undo : yOK yX1_undo 0 := ⟨by decide +kernel, by decide +kernel, by decide +kernel⟩
def f_X1_undo (k n : Nat) (a0 : Nat) (G : Wd) (Q : Int → Wd → Prop) : Prop :=
  gI G a0 [0] 4 (fun x14 => br0 x14 (¬ x14 = 0) (gI G a0 [0] 4 (fun x15 => pF G a0 [0] 4 (vI (x15 - 1)) (fun G16 => gR G16 a0 [0] 0 (fun x17 => gR G16 a0 [0] 3 (fun x18 => gI G16 a0 [0] 4 (fun x19 => nn x18 (fun a20 => ldR G16 a20 6 x19 (fun x21 => nn x17 (fun a22 => (∃ k24 n25, (k24 ≤ k ∧ n25 ≤ n) ∧ (isC G16 a22 1 ∧ f_X2_be k24 n25 a22 x21 G16 (fun G23 => gI G23 a0 [0] 4 (fun x26 => Q x26 G23))))))))))))) (Q (-1) G))
theorem w_X1_undo {a0 : Nat} {Q : Int → Wd → Prop} {k n : Nat} {G : Wd} (h : f_X1_undo k n a0 G Q) : wp m_X1_undo 7 k n 0 [some (vR (some a0))] [] G (qI Q) noX := by
  unfold f_X1_undo at h
  refine r_aload_n dX1_undo_0 rfl rfl iR ?_
  refine r_getI dX1_undo_1 (fg1 (f := 4) fX1 (by decide) q704 rfl) h (fun x14 h => ?_)
  refine r_if_ne (tgt := 9) dX1_undo_4 (by decide) h (fun h => ?_) (fun h => ?_)
  · refine r_aload_n dX1_undo_9 rfl rfl iR ?_
    refine r_dup dX1_undo_10 c1R ?_
    refine r_getI dX1_undo_11 (fg1 (f := 4) fX1 (by decide) q704 rfl) h (fun x15 h => ?_)
    refine r_iconst dX1_undo_14 ?_
    refine r_isub dX1_undo_15 ?_
    refine r_put dX1_undo_16 (fp1 (f := 4) fX1 (by decide) q704 rfl rfl rfl) fvI h (fun G16 h => ?_)
    refine r_aload_n dX1_undo_19 rfl rfl iR ?_
    refine r_getR dX1_undo_20 (fg1 (f := 0) fX1 (by decide) q700 rfl) h (fun x17 h => ?_)
    refine r_aload_n dX1_undo_23 rfl rfl iR ?_
    refine r_getR dX1_undo_24 (fg1 (f := 3) fX1 (by decide) q703 rfl) h (fun x18 h => ?_)
    refine r_aload_n dX1_undo_27 rfl rfl iR ?_
    refine r_getI dX1_undo_28 (fg1 (f := 4) fX1 (by decide) q704 rfl) h (fun x19 h => ?_)
    obtain ⟨a20, e, h⟩ := h
    refine wp.cast (L' := [some (vR (some a0))]) (st' := [vI x19, vR (some a20), vR x17]) rfl (by rw [e]) ?_
    refine r_aald dX1_undo_31 (by decide) (by decide) h (fun x21 h => ?_)
    obtain ⟨a22, e, h⟩ := h
    refine wp.cast (L' := [some (vR (some a0))]) (st' := [vR x21, vR (some a22)]) rfl (by rw [e]) ?_
    obtain ⟨k24, n25, ⟨hk1, hn1⟩, h⟩ := h
    obtain ⟨hC, h⟩ := h
    refine r_callV dX1_undo_32 hC (c_X2_be h) q1076 q1077 q1078 q93 q1079 rfl yo_X2_be rfl (by decide) (by decide) rfl rc0 (by decide) hk1 hn1 (ofV fun G23 h => ?_) nox
    refine r_aload_n dX1_undo_35 rfl rfl iR ?_
    refine r_getI dX1_undo_36 (fg1 (f := 4) fX1 (by decide) q704 rfl) h (fun x26 h => ?_)
    exact r_iret rfl dX1_undo_39 ⟨_, rfl, h⟩
  · refine r_iconst dX1_undo_7 ?_
    exact r_iret rfl dX1_undo_8 ⟨_, rfl, h⟩
theorem c_X1_undo {a0 : Nat} {k n : Nat} {Q : Int → Wd → Prop} {G : Wd} (h : f_X1_undo k n a0 G Q) : call yX1_undo (Cond.code yX1_undo cX1_undo 1 (some .int)) 7 k n [vR (some a0)] G (qI Q) noX :=
  call.enter (by decide +kernel) (la_1 c1R (la_nil rfl)) rfl (w_X1_undo h)
abbrev m_X1_fits : Mt := (yX1_fits.cls, cX1_fits, 3, some .int, [], yX1_fits.name)
theorem yo_X1_fits : yOK yX1_fits 0 := ⟨by decide +kernel, by decide +kernel, by decide +kernel⟩
def f_X1_fits_55 (a0 : Nat) (k12 : Nat → Nat → Int → Int → Wd → Prop) (k n : Nat) (l1 : Int) (l2 : Int) (G : Wd) (Q : Int → Wd → Prop) : Prop :=
  k12 k n l1 (l2 + 1) G
theorem w_X1_fits_55 {a0 : Nat} {Q : Int → Wd → Prop} {k12 : Nat → Nat → Int → Int → Wd → Prop} (hk12 : ∀ {k n : Nat} {l1 : Int} {l2 : Int} {G : Wd}, k12 k n l1 l2 G → wp m_X1_fits 7 k n 12 [some (vR (some a0)), some (vI l1), some (vI l2)] [] G (qI Q) noX) {k n : Nat} {l1 : Int} {l2 : Int} {G : Wd} (h : f_X1_fits_55 a0 k12 k n l1 l2 G Q) : wp m_X1_fits 7 k n 55 [some (vR (some a0)), some (vI l1), some (vI l2)] [] G (qI Q) noX := by
  unfold f_X1_fits_55 at h
  refine r_iinc (L' := [some (vR (some a0)), some (vI l1), some (vI (l2 + 1))]) dX1_fits_55 rfl rfl cI (by decide) ?_
  refine r_goto (tgt := 12) dX1_fits_58 (by decide) ?_
  exact hk12 h
def f_X1_fits_12_b (a0 : Nat) (k12 : Nat → Nat → Int → Int → Wd → Prop) (k n : Nat) (l1 : Int) (l2 : Int) (G : Wd) (Q : Int → Wd → Prop) : Prop :=
  br l2 80 ((80 : Int) ≤ l2) (Q l1 G) (gI G a0 [0] 9 (fun x20 => br0 x20 (¬ x20 = 0) (Q l1 G) (gR G a0 [0] 17 (fun x21 => nn x21 (fun a22 => ldR G a22 8 l2 (fun x23 => brN x23 (f_X1_fits_55 a0 k12 k n l1 l2 G Q) (fun a24 => okd l2 16 (ok32 (l2.tdiv 16) ((isC G a0 0 ∧ f_X1_tell a0 (l2.tdiv 16) G (fun G25 => okm l2 16 (ok32 (l2 % 16) ((isC G25 a0 0 ∧ f_X1_tell a0 (l2 % 16) G25 (fun G26 => f_X1_fits_55 a0 k12 k n l1 l2 G26 Q)))))))))))))))
theorem w_X1_fits_12_b {a0 : Nat} {Q : Int → Wd → Prop} {k12 : Nat → Nat → Int → Int → Wd → Prop} (hk12 : ∀ {k n : Nat} {l1 : Int} {l2 : Int} {G : Wd}, k12 k n l1 l2 G → wp m_X1_fits 7 k n 12 [some (vR (some a0)), some (vI l1), some (vI l2)] [] G (qI Q) noX) {k n : Nat} {l1 : Int} {l2 : Int} {G : Wd} (h : f_X1_fits_12_b a0 k12 k n l1 l2 G Q) : wp m_X1_fits 7 k n 12 [some (vR (some a0)), some (vI l1), some (vI l2)] [] G (qI Q) noX := by
  unfold f_X1_fits_12_b at h
  refine r_iload_n dX1_fits_12 rfl rfl iI ?_
  refine r_bipush dX1_fits_13 (by decide) ?_
  refine r_icmp_ge (tgt := 61) dX1_fits_15 (by decide) h (fun h => ?_) (fun h => ?_)
  · refine r_iload_n dX1_fits_61 rfl rfl iI ?_
    exact r_iret rfl dX1_fits_62 ⟨_, rfl, h⟩
  · refine r_aload_n dX1_fits_18 rfl rfl iR ?_
    refine r_getI dX1_fits_19 (fg1 (f := 9) fX1 (by decide) q709 rfl) h (fun x20 h => ?_)
    refine r_if_ne (tgt := 61) dX1_fits_22 (by decide) h (fun h => ?_) (fun h => ?_)
    · refine r_iload_n dX1_fits_61 rfl rfl iI ?_
      exact r_iret rfl dX1_fits_62 ⟨_, rfl, h⟩
    · refine r_aload_n dX1_fits_25 rfl rfl iR ?_
      refine r_getR dX1_fits_26 (fg1 (f := 17) fX1 (by decide) q717 rfl) h (fun x21 h => ?_)
      refine r_iload_n dX1_fits_29 rfl rfl iI ?_
      obtain ⟨a22, e, h⟩ := h
      refine wp.cast (L' := [some (vR (some a0)), some (vI l1), some (vI l2)]) (st' := [vI l2, vR (some a22)]) rfl (by rw [e]) ?_
      refine r_aald dX1_fits_30 (by decide) (by decide) h (fun x23 h => ?_)
      refine r_ifnonnullV (tgt := 37) dX1_fits_31 (by decide) h (fun a24 e h => ?_) (fun e h => ?_)
      · refine r_aload_n dX1_fits_37 rfl rfl iR ?_
        refine r_iload_n dX1_fits_38 rfl rfl iI ?_
        refine r_bipush dX1_fits_39 (by decide) ?_
        refine r_idiv dX1_fits_41 h (fun h => ?_)
        refine r_i2l dX1_fits_42 h (fun h => ?_)
        obtain ⟨hC, h⟩ := h
        refine r_callV dX1_fits_43 hC (c_X1_tell h) q1761 q1763 qs27 q92 q1764 rfl yo_X1_tell rfl (by decide) (by decide) rfl rc0 (by decide) (Nat.zero_le _) (Nat.zero_le _) (ofV fun G25 h => ?_) nox
        refine r_aload_n dX1_fits_46 rfl rfl iR ?_
        refine r_iload_n dX1_fits_47 rfl rfl iI ?_
        refine r_bipush dX1_fits_48 (by decide) ?_
        refine r_irem dX1_fits_50 h (fun h => ?_)
        refine r_i2l dX1_fits_51 h (fun h => ?_)
        obtain ⟨hC, h⟩ := h
        refine r_callV dX1_fits_52 hC (c_X1_tell h) q1761 q1763 qs27 q92 q1764 rfl yo_X1_tell rfl (by decide) (by decide) rfl rc0 (by decide) (Nat.zero_le _) (Nat.zero_le _) (ofV fun G26 h => ?_) nox
        exact w_X1_fits_55 hk12 h
      · refine r_goto (tgt := 55) dX1_fits_34 (by decide) ?_
        exact w_X1_fits_55 hk12 h
def f_X1_fits_12 (a0 : Nat) (Q : Int → Wd → Prop) : Nat → Nat → Nat → Int → Int → Wd → Prop
  | 0, _, _, _, _, _ => False
  | fl + 1, k, n, l1, l2, G => f_X1_fits_12_b a0  (fun k n l1 l2 G => f_X1_fits_12 a0  Q fl k n l1 l2 G) k n l1 l2 G Q
theorem w_X1_fits_12 {a0 : Nat} {Q : Int → Wd → Prop} : ∀ (fl : Nat) {k n : Nat} {l1 : Int} {l2 : Int} {G : Wd}, f_X1_fits_12 a0 Q fl k n l1 l2 G → wp m_X1_fits 7 k n 12 [some (vR (some a0)), some (vI l1), some (vI l2)] [] G (qI Q) noX := by
  intro fl
  induction fl with
  | zero => intro k n l1 l2 G h; exact (show False from h).elim
  | succ fl ih => intro k n l1 l2 G h; exact w_X1_fits_12_b  (fun h => ih h) h
def f_X1_fits (k n : Nat) (a0 : Nat) (G : Wd) (Q : Int → Wd → Prop) : Prop :=
  (∃ k28 n29, (k28 ≤ k ∧ n29 ≤ n) ∧ (isC G a0 0 ∧ f_X1_layThought k28 n29 a0  G (fun x30 G27 => pF G27 a0 [0] 9 (vI 0) (fun G31 => ∃ fl32, f_X1_fits_12 a0 Q fl32 (k - k28) (n - n29) x30 0 G31))))
theorem w_X1_fits {a0 : Nat} {Q : Int → Wd → Prop} {k n : Nat} {G : Wd} (h : f_X1_fits k n a0 G Q) : wp m_X1_fits 7 k n 0 [some (vR (some a0)), none, none] [] G (qI Q) noX := by
  unfold f_X1_fits at h
  refine r_aload_n dX1_fits_0 rfl rfl iR ?_
  obtain ⟨k28, n29, ⟨hk1, hn1⟩, h⟩ := h
  obtain ⟨hC, h⟩ := h
  refine r_callV dX1_fits_1 hC (c_X1_layThought h) q2041 q2043 qs34 q92 q2044 rfl yo_X1_layThought rfl (by decide) (by decide) rfl rc0 (by decide) hk1 hn1 (ofI fun x30 G27 h => ?_) nox
  refine r_istore_n (L' := [some (vR (some a0)), some (vI x30), none]) dX1_fits_4 rfl rfl iI cR (by decide) ?_
  refine r_aload_n dX1_fits_5 rfl rfl iR ?_
  refine r_iconst dX1_fits_6 ?_
  refine r_put dX1_fits_7 (fp1 (f := 9) fX1 (by decide) q709 rfl rfl rfl) fvI h (fun G31 h => ?_)
  refine r_iconst dX1_fits_10 ?_
  refine r_istore_n (L' := [some (vR (some a0)), some (vI x30), some (vI 0)]) dX1_fits_11 rfl rfl iI cI (by decide) ?_
  obtain ⟨fl32, h⟩ := h
  exact w_X1_fits_12 fl32 h
theorem c_X1_fits {a0 : Nat} {k n : Nat} {Q : Int → Wd → Prop} {G : Wd} (h : f_X1_fits k n a0 G Q) : call yX1_fits (Cond.code yX1_fits cX1_fits 3 (some .int)) 7 k n [vR (some a0)] G (qI Q) noX :=
  call.enter (by decide +kernel) (la_1 c1R (la_nil rfl)) rfl (w_X1_fits h)
abbrev m_X1_keep : Mt := (yX1_keep.cls, cX1_keep, 2, some .boolean, [], yX1_keep.name)
theorem yo_X1_keep : yOK yX1_keep 1 := ⟨by decide +kernel, by decide +kernel, by decide +kernel⟩
def f_X1_keep_34 (a0 : Nat) (k n : Nat) (l1 : Int) (G : Wd) (Q : Bool → Wd → Prop) : Prop :=
  gR G a0 [0] 20 (fun x27 => nn x27 (fun a28 => ldR G a28 6 l1 (fun x29 => gR G a0 [0] 0 (fun x30 => nn x29 (fun a31 => (∃ k33 n34, (k33 ≤ k ∧ n34 ≤ n) ∧ (isC G a31 1 ∧ f_X2_be k33 n34 a31 x30 G (fun G32 => gR G32 a0 [0] 21 (fun x35 => gI G32 a0 [0] 5 (fun x36 => nn x35 (fun a37 => (stI G32 a37 0 l1 x36 (fun G38 => Q true G38)))))))))))))
theorem w_X1_keep_34 {a0 : Nat} {Q : Bool → Wd → Prop} {k n : Nat} {l1 : Int} {G : Wd} (h : f_X1_keep_34 a0 k n l1 G Q) : wp m_X1_keep 7 k n 34 [some (vR (some a0)), some (vI l1)] [] G (qB Q) noX := by
  unfold f_X1_keep_34 at h
  refine r_aload_n dX1_keep_34 rfl rfl iR ?_
  refine r_getR dX1_keep_35 (fg1 (f := 20) fX1 (by decide) q720 rfl) h (fun x27 h => ?_)
  refine r_iload_n dX1_keep_38 rfl rfl iI ?_
  obtain ⟨a28, e, h⟩ := h
  refine wp.cast (L' := [some (vR (some a0)), some (vI l1)]) (st' := [vI l1, vR (some a28)]) rfl (by rw [e]) ?_
  refine r_aald dX1_keep_39 (by decide) (by decide) h (fun x29 h => ?_)
  refine r_aload_n dX1_keep_40 rfl rfl iR ?_
  refine r_getR dX1_keep_41 (fg1 (f := 0) fX1 (by decide) q700 rfl) h (fun x30 h => ?_)
  obtain ⟨a31, e, h⟩ := h
  refine wp.cast (L' := [some (vR (some a0)), some (vI l1)]) (st' := [vR x30, vR (some a31)]) rfl (by rw [e]) ?_
  obtain ⟨k33, n34, ⟨hk1, hn1⟩, h⟩ := h
  obtain ⟨hC, h⟩ := h
  refine r_callV dX1_keep_44 hC (c_X2_be h) q1076 q1077 q1078 q93 q1079 rfl yo_X2_be rfl (by decide) (by decide) rfl rc0 (by decide) hk1 hn1 (ofV fun G32 h => ?_) nox
  refine r_aload_n dX1_keep_47 rfl rfl iR ?_
  refine r_getR dX1_keep_48 (fg1 (f := 21) fX1 (by decide) q721 rfl) h (fun x35 h => ?_)
  refine r_iload_n dX1_keep_51 rfl rfl iI ?_
  refine r_aload_n dX1_keep_52 rfl rfl iR ?_
  refine r_getI dX1_keep_53 (fg1 (f := 5) fX1 (by decide) q705 rfl) h (fun x36 h => ?_)
  obtain ⟨a37, e, h⟩ := h
  refine wp.cast (L' := [some (vR (some a0)), some (vI l1)]) (st' := [vI x36, vI l1, vR (some a37)]) rfl (by rw [e]) ?_
  refine r_iast dX1_keep_56 h (fun G38 h => ?_)
  refine r_iconst dX1_keep_57 ?_
  refine wp.cast (st' := [vB true]) rfl (congrArg (fun q => [q]) vI1) ?_
  exact r_zret rfl dX1_keep_58 ⟨_, rfl, h⟩
def f_X1_keep (k n : Nat) (a0 : Nat) (a1 : Int) (G : Wd) (Q : Bool → Wd → Prop) : Prop :=
  ok32 a1 (f_X1_in a1 0 1 G (fun x40 G39 => brB x40 (gR G39 a0 [0] 20 (fun x41 => nn x41 (fun a42 => ldR G39 a42 6 a1 (fun x43 => brN x43 (gR G39 a0 [0] 20 (fun x45 => nO G39 k n 1 15 zX2 (fun a46 G47 => (∃ k49 n50, (k49 ≤ (k - 1) ∧ n50 ≤ (n - 15)) ∧ f_X2_init k49 n50 a46  G47 (fun G48 => nn x45 (fun a51 => stR G48 a51 6 a1 (some a46) [1] (fun G52 => f_X1_keep_34 a0 ((k - 1) - k49) ((n - 15) - n50) a1 G52 Q))))))) (fun a44 => f_X1_keep_34 a0 k n a1 G39 Q))))) (Q false G39)))
theorem w_X1_keep {a0 : Nat} {Q : Bool → Wd → Prop} {k n : Nat} {a1 : Int} {G : Wd} (h : f_X1_keep k n a0 a1 G Q) : wp m_X1_keep 7 k n 0 [some (vR (some a0)), some (vI a1)] [] G (qB Q) noX := by
  unfold f_X1_keep at h
  refine r_iload_n dX1_keep_0 rfl rfl iI ?_
  refine r_i2l dX1_keep_1 h (fun h => ?_)
  refine r_lconst (y := 0) dX1_keep_2 (by decide) ?_
  refine r_lconst (y := 1) dX1_keep_3 (by decide) ?_
  refine r_callS dX1_keep_4 (c_X1_in h) q776 q777 q92 q778 yo_X1_in rfl (by decide) (by decide) rfl rc0 (by decide) (Nat.zero_le _) (Nat.zero_le _) (ofB fun x40 G39 h => ?_) nox
  refine r_ifZ_ne (tgt := 12) dX1_keep_7 (by decide) h (fun h => ?_) (fun h => ?_)
  · refine r_aload_n dX1_keep_12 rfl rfl iR ?_
    refine r_getR dX1_keep_13 (fg1 (f := 20) fX1 (by decide) q720 rfl) h (fun x41 h => ?_)
    refine r_iload_n dX1_keep_16 rfl rfl iI ?_
    obtain ⟨a42, e, h⟩ := h
    refine wp.cast (L' := [some (vR (some a0)), some (vI a1)]) (st' := [vI a1, vR (some a42)]) rfl (by rw [e]) ?_
    refine r_aald dX1_keep_17 (by decide) (by decide) h (fun x43 h => ?_)
    refine r_ifnonnullV (tgt := 34) dX1_keep_18 (by decide) h (fun a44 e h => ?_) (fun e h => ?_)
    · exact w_X1_keep_34 h
    · refine r_aload_n dX1_keep_21 rfl rfl iR ?_
      refine r_getR dX1_keep_22 (fg1 (f := 20) fX1 (by decide) q720 rfl) h (fun x45 h => ?_)
      refine r_iload_n dX1_keep_25 rfl rfl iI ?_
      refine r_new dX1_keep_26 fX2 q144 q145 q93 dfX2 h (fun a46 G47 h => ?_)
      refine r_dup dX1_keep_29 c1R ?_
      obtain ⟨k49, n50, ⟨hk1, hn1⟩, h⟩ := h
      refine r_callI dX1_keep_30 (c_X2_init h) rfl q146 q147 q93 q148 yo_X2_init rfl (by decide) (by decide) rfl (rc1 c1R (rc1 c1I (rc1 c1R rc0))) (by decide) hk1 hn1 (ofV fun G48 h => ?_) nox
      obtain ⟨a51, e, h⟩ := h
      refine wp.cast (L' := [some (vR (some a0)), some (vI a1)]) (st' := [vR (some a46), vI a1, vR (some a51)]) rfl (by rw [e]) ?_
      refine r_aast dX1_keep_33 kd6 h (fun G52 h => ?_)
      exact w_X1_keep_34 h
  · refine r_iconst dX1_keep_10 ?_
    refine wp.cast (st' := [vB false]) rfl (congrArg (fun q => [q]) vI0) ?_
    exact r_zret rfl dX1_keep_11 ⟨_, rfl, h⟩
theorem c_X1_keep {a0 : Nat} {a1 : Int} {k n : Nat} {Q : Bool → Wd → Prop} {G : Wd} (h : f_X1_keep k n a0 a1 G Q) : call yX1_keep (Cond.code yX1_keep cX1_keep 2 (some .boolean)) 7 k n [vR (some a0), vI a1] G (qB Q) noX :=
  call.enter (by decide +kernel) (la_1 c1R (la_1 c1I (la_nil rfl))) rfl (w_X1_keep h)
abbrev m_X1_again : Mt := (yX1_again.cls, cX1_again, 2, some .boolean, [], yX1_again.name)
theorem yo_X1_again : yOK yX1_again 1 := ⟨by decide +kernel, by decide +kernel, by decide +kernel⟩
def f_X1_again (k n : Nat) (a0 : Nat) (a1 : Int) (G : Wd) (Q : Bool → Wd → Prop) : Prop :=
  ok32 a1 (f_X1_in a1 0 1 G (fun x21 G20 => brB x21 (gR G20 a0 [0] 20 (fun x22 => nn x22 (fun a23 => ldR G20 a23 6 a1 (fun x24 => brN x24 (Q false G20) (fun a25 => gR G20 a0 [0] 21 (fun x26 => nn x26 (fun a27 => ldI G20 a27 0 a1 (fun x28 => gI G20 a0 [0] 5 (fun x29 => br x28 x29 (x28 = x29) (gR G20 a0 [0] 0 (fun x30 => gR G20 a0 [0] 20 (fun x31 => nn x31 (fun a32 => ldR G20 a32 6 a1 (fun x33 => nn x30 (fun a34 => (∃ k36 n37, (k36 ≤ k ∧ n37 ≤ n) ∧ (isC G20 a34 1 ∧ f_X2_be k36 n37 a34 x33 G20 (fun G35 => pF G35 a0 [0] 4 (vI 0) (fun G38 => Q true G38)))))))))) (Q false G20)))))))))) (Q false G20)))
theorem w_X1_again {a0 : Nat} {Q : Bool → Wd → Prop} {k n : Nat} {a1 : Int} {G : Wd} (h : f_X1_again k n a0 a1 G Q) : wp m_X1_again 7 k n 0 [some (vR (some a0)), some (vI a1)] [] G (qB Q) noX := by
  unfold f_X1_again at h
  refine r_iload_n dX1_again_0 rfl rfl iI ?_
  refine r_i2l dX1_again_1 h (fun h => ?_)
  refine r_lconst (y := 0) dX1_again_2 (by decide) ?_
  refine r_lconst (y := 1) dX1_again_3 (by decide) ?_
  refine r_callS dX1_again_4 (c_X1_in h) q776 q777 q92 q778 yo_X1_in rfl (by decide) (by decide) rfl rc0 (by decide) (Nat.zero_le _) (Nat.zero_le _) (ofB fun x21 G20 h => ?_) nox
  refine r_ifZ_eq (tgt := 32) dX1_again_7 (by decide) h (fun h => ?_) (fun h => ?_)
  · refine r_iconst dX1_again_32 ?_
    refine wp.cast (st' := [vB false]) rfl (congrArg (fun q => [q]) vI0) ?_
    exact r_zret rfl dX1_again_33 ⟨_, rfl, h⟩
  · refine r_aload_n dX1_again_10 rfl rfl iR ?_
    refine r_getR dX1_again_11 (fg1 (f := 20) fX1 (by decide) q720 rfl) h (fun x22 h => ?_)
    refine r_iload_n dX1_again_14 rfl rfl iI ?_
    obtain ⟨a23, e, h⟩ := h
    refine wp.cast (L' := [some (vR (some a0)), some (vI a1)]) (st' := [vI a1, vR (some a23)]) rfl (by rw [e]) ?_
    refine r_aald dX1_again_15 (by decide) (by decide) h (fun x24 h => ?_)
    refine r_ifnullV (tgt := 32) dX1_again_16 (by decide) h (fun e h => ?_) (fun a25 e h => ?_)
    · refine r_iconst dX1_again_32 ?_
      refine wp.cast (st' := [vB false]) rfl (congrArg (fun q => [q]) vI0) ?_
      exact r_zret rfl dX1_again_33 ⟨_, rfl, h⟩
    · refine r_aload_n dX1_again_19 rfl rfl iR ?_
      refine r_getR dX1_again_20 (fg1 (f := 21) fX1 (by decide) q721 rfl) h (fun x26 h => ?_)
      refine r_iload_n dX1_again_23 rfl rfl iI ?_
      obtain ⟨a27, e, h⟩ := h
      refine wp.cast (L' := [some (vR (some a0)), some (vI a1)]) (st' := [vI a1, vR (some a27)]) rfl (by rw [e]) ?_
      refine r_iald dX1_again_24 h (fun x28 h => ?_)
      refine r_aload_n dX1_again_25 rfl rfl iR ?_
      refine r_getI dX1_again_26 (fg1 (f := 5) fX1 (by decide) q705 rfl) h (fun x29 h => ?_)
      refine r_icmp_eq (tgt := 34) dX1_again_29 (by decide) h (fun h => ?_) (fun h => ?_)
      · refine r_aload_n dX1_again_34 rfl rfl iR ?_
        refine r_getR dX1_again_35 (fg1 (f := 0) fX1 (by decide) q700 rfl) h (fun x30 h => ?_)
        refine r_aload_n dX1_again_38 rfl rfl iR ?_
        refine r_getR dX1_again_39 (fg1 (f := 20) fX1 (by decide) q720 rfl) h (fun x31 h => ?_)
        refine r_iload_n dX1_again_42 rfl rfl iI ?_
        obtain ⟨a32, e, h⟩ := h
        refine wp.cast (L' := [some (vR (some a0)), some (vI a1)]) (st' := [vI a1, vR (some a32), vR x30]) rfl (by rw [e]) ?_
        refine r_aald dX1_again_43 (by decide) (by decide) h (fun x33 h => ?_)
        obtain ⟨a34, e, h⟩ := h
        refine wp.cast (L' := [some (vR (some a0)), some (vI a1)]) (st' := [vR x33, vR (some a34)]) rfl (by rw [e]) ?_
        obtain ⟨k36, n37, ⟨hk1, hn1⟩, h⟩ := h
        obtain ⟨hC, h⟩ := h
        refine r_callV dX1_again_44 hC (c_X2_be h) q1076 q1077 q1078 q93 q1079 rfl yo_X2_be rfl (by decide) (by decide) rfl rc0 (by decide) hk1 hn1 (ofV fun G35 h => ?_) nox
        refine r_aload_n dX1_again_47 rfl rfl iR ?_
        refine r_iconst dX1_again_48 ?_
        refine r_put dX1_again_49 (fp1 (f := 4) fX1 (by decide) q704 rfl rfl rfl) fvI h (fun G38 h => ?_)
        refine r_iconst dX1_again_52 ?_
        refine wp.cast (st' := [vB true]) rfl (congrArg (fun q => [q]) vI1) ?_
        exact r_zret rfl dX1_again_53 ⟨_, rfl, h⟩
      · refine r_iconst dX1_again_32 ?_
        refine wp.cast (st' := [vB false]) rfl (congrArg (fun q => [q]) vI0) ?_
        exact r_zret rfl dX1_again_33 ⟨_, rfl, h⟩
theorem c_X1_again {a0 : Nat} {a1 : Int} {k n : Nat} {Q : Bool → Wd → Prop} {G : Wd} (h : f_X1_again k n a0 a1 G Q) : call yX1_again (Cond.code yX1_again cX1_again 2 (some .boolean)) 7 k n [vR (some a0), vI a1] G (qB Q) noX :=
  call.enter (by decide +kernel) (la_1 c1R (la_1 c1I (la_nil rfl))) rfl (w_X1_again h)
abbrev m_X2_run : Mt := (yX2_run.cls, cX2_run, 4, none, [], yX2_run.name)
theorem yo_X2_run : yOK yX2_run 0 := ⟨by decide +kernel, by decide +kernel, by decide +kernel⟩
def f_X2_run_52 (a0 : Nat) (k10 : Nat → Nat → Int → Int → Wd → Prop) (k n : Nat) (l1 : Int) (l2 : Int) (G : Wd) (Q : Wd → Prop) : Prop :=
  k10 k n l1 (l2 + 1) G
theorem w_X2_run_52 {a0 : Nat} {Q : Wd → Prop} {k10 : Nat → Nat → Int → Int → Wd → Prop} (hk10 : ∀ {k n : Nat} {l1 : Int} {l2 : Int} {G : Wd}, k10 k n l1 l2 G → wp m_X2_run 6 k n 10 [some (vR (some a0)), some (vI l1), some (vI l2), none] [] G (qV Q) noX) {k n : Nat} {l1 : Int} {l2 : Int} {G : Wd} (h : f_X2_run_52 a0 k10 k n l1 l2 G Q) : wp m_X2_run 6 k n 52 [some (vR (some a0)), some (vI l1), some (vI l2), none] [] G (qV Q) noX := by
  unfold f_X2_run_52 at h
  refine r_iinc (L' := [some (vR (some a0)), some (vI l1), some (vI (l2 + 1)), none]) dX2_run_52 rfl rfl cI (by decide) ?_
  refine r_goto (tgt := 10) dX2_run_55 (by decide) ?_
  exact hk10 h
def f_X2_run_10_b (a0 : Nat) (k10 : Nat → Nat → Int → Int → Wd → Prop) (k n : Nat) (l1 : Int) (l2 : Int) (G : Wd) (Q : Wd → Prop) : Prop :=
  br l2 l1 (l1 ≤ l2) (Q G) (gR G a0 [1] 1 (fun x43 => nn x43 (fun a44 => (isC G a44 12 ∧ f_J3_pollFirst a44  G (fun x46 G45 => cst G45 x46 [8] (nn x46 (fun a47 => (∃ k49 n50, (k49 ≤ k ∧ n50 ≤ n) ∧ (isC G45 a47 8 ∧ f_X9_shorter k49 n50 a47  G45 (fun x51 G48 => nn x51 (fun a52 => gI G48 a52 [8] 2 (fun x53 => br0 x53 (x53 ≤ 0) ((∃ k55 n56, (k55 ≤ (k - k49) ∧ n56 ≤ (n - n50)) ∧ (isC G48 a0 1 ∧ f_X2_finish k55 n56 a0 (some a52) G48 (fun G54 => f_X2_run_52 a0 k10 ((k - k49) - k55) ((n - n50) - n56) l1 l2 G54 Q)))) (gR G48 a0 [1] 1 (fun x57 => nn x57 (fun a58 => (∃ k60 n61, (k60 ≤ (k - k49) ∧ n61 ≤ (n - n50)) ∧ (isC G48 a58 12 ∧ f_J3_addLast k60 n61 a58 (some a52) G48 (fun G59 => f_X2_run_52 a0 k10 ((k - k49) - k60) ((n - n50) - n61) l1 l2 G59 Q))))))))))))))))))
theorem w_X2_run_10_b {a0 : Nat} {Q : Wd → Prop} {k10 : Nat → Nat → Int → Int → Wd → Prop} (hk10 : ∀ {k n : Nat} {l1 : Int} {l2 : Int} {G : Wd}, k10 k n l1 l2 G → wp m_X2_run 6 k n 10 [some (vR (some a0)), some (vI l1), some (vI l2), none] [] G (qV Q) noX) {k n : Nat} {l1 : Int} {l2 : Int} {G : Wd} (h : f_X2_run_10_b a0 k10 k n l1 l2 G Q) : wp m_X2_run 6 k n 10 [some (vR (some a0)), some (vI l1), some (vI l2), none] [] G (qV Q) noX := by
  unfold f_X2_run_10_b at h
  refine r_iload_n dX2_run_10 rfl rfl iI ?_
  refine r_iload_n dX2_run_11 rfl rfl iI ?_
  refine r_icmp_ge (tgt := 58) dX2_run_12 (by decide) h (fun h => ?_) (fun h => ?_)
  · exact r_vret rfl dX2_run_58 ⟨rfl, h⟩
  · refine r_aload_n dX2_run_15 rfl rfl iR ?_
    refine r_getR dX2_run_16 (fg1 (f := 1) fX2 (by decide) q637 rfl) h (fun x43 h => ?_)
    obtain ⟨a44, e, h⟩ := h
    refine wp.cast (L' := [some (vR (some a0)), some (vI l1), some (vI l2), none]) (st' := [vR (some a44)]) rfl (by rw [e]) ?_
    obtain ⟨hC, h⟩ := h
    refine r_callV dX2_run_19 hC (c_J3_pollFirst h) q1525 q1526 q1527 q97 q1528 rfl yo_J3_pollFirst rfl (by decide) (by decide) rfl rc0 (by decide) (Nat.zero_le _) (Nat.zero_le _) (ofR fun x46 G45 h => ?_) nox
    refine r_ccast (ci := 8) dX2_run_22 q1394 rfl h (fun h => ?_)
    obtain ⟨a47, e, h⟩ := h
    refine wp.cast (L' := [some (vR (some a0)), some (vI l1), some (vI l2), none]) (st' := [vR (some a47)]) rfl (by rw [e]) ?_
    obtain ⟨k49, n50, ⟨hk1, hn1⟩, h⟩ := h
    obtain ⟨hC, h⟩ := h
    refine r_callV dX2_run_25 hC (c_X9_shorter h) q1533 q1534 q1535 q130 q1536 rfl yo_X9_shorter rfl (by decide) (by decide) rfl rc0 (by decide) hk1 hn1 (ofR fun x51 G48 h => ?_) nox
    refine r_astore_n (L' := [some (vR (some a0)), some (vI l1), some (vI l2), some (vR x51)]) dX2_run_28 rfl rfl iR cI (by decide) ?_
    refine r_aload_n dX2_run_29 rfl rfl iR ?_
    obtain ⟨a52, e, h⟩ := h
    refine wp.cast (L' := [some (vR (some a0)), some (vI l1), some (vI l2), some (vR (some a52))]) (st' := [vR (some a52)]) (by rw [e]) (by rw [e]) ?_
    refine r_getI dX2_run_30 (fg1 (f := 2) fX9 (by decide) q1550 rfl) h (fun x53 h => ?_)
    refine r_if_le (tgt := 47) dX2_run_33 (by decide) h (fun h => ?_) (fun h => ?_)
    · refine r_aload_n dX2_run_47 rfl rfl iR ?_
      refine r_aload_n dX2_run_48 rfl rfl iR ?_
      obtain ⟨k55, n56, ⟨hk1, hn1⟩, h⟩ := h
      obtain ⟨hC, h⟩ := h
      refine r_callV dX2_run_49 hC (c_X2_finish h) q1559 q1561 qs21 q93 q1562 rfl yo_X2_finish rfl (by decide) (by decide) rfl rc0 (by decide) hk1 hn1 (ofV fun G54 h => ?_) nox
      refine wp.locals (L' := [some (vR (some a0)), some (vI l1), some (vI l2), none]) (ls_s (ls_s (ls_s (ls_n ls_0)))) ?_
      exact w_X2_run_52 hk10 h
    · refine r_aload_n dX2_run_36 rfl rfl iR ?_
      refine r_getR dX2_run_37 (fg1 (f := 1) fX2 (by decide) q637 rfl) h (fun x57 h => ?_)
      refine r_aload_n dX2_run_40 rfl rfl iR ?_
      obtain ⟨a58, e, h⟩ := h
      refine wp.cast (L' := [some (vR (some a0)), some (vI l1), some (vI l2), some (vR (some a52))]) (st' := [vR (some a52), vR (some a58)]) rfl (by rw [e]) ?_
      obtain ⟨k60, n61, ⟨hk1, hn1⟩, h⟩ := h
      obtain ⟨hC, h⟩ := h
      refine r_callV dX2_run_41 hC (c_J3_addLast h) q1395 q1396 q1397 q97 q1398 rfl yo_J3_addLast rfl (by decide) (by decide) rfl rc0 (by decide) hk1 hn1 (ofV fun G59 h => ?_) nox
      refine r_goto (tgt := 52) dX2_run_44 (by decide) ?_
      refine wp.locals (L' := [some (vR (some a0)), some (vI l1), some (vI l2), none]) (ls_s (ls_s (ls_s (ls_n ls_0)))) ?_
      exact w_X2_run_52 hk10 h
def f_X2_run_10 (a0 : Nat) (Q : Wd → Prop) : Nat → Nat → Nat → Int → Int → Wd → Prop
  | 0, _, _, _, _, _ => False
  | fl + 1, k, n, l1, l2, G => f_X2_run_10_b a0  (fun k n l1 l2 G => f_X2_run_10 a0  Q fl k n l1 l2 G) k n l1 l2 G Q
theorem w_X2_run_10 {a0 : Nat} {Q : Wd → Prop} : ∀ (fl : Nat) {k n : Nat} {l1 : Int} {l2 : Int} {G : Wd}, f_X2_run_10 a0 Q fl k n l1 l2 G → wp m_X2_run 6 k n 10 [some (vR (some a0)), some (vI l1), some (vI l2), none] [] G (qV Q) noX := by
  intro fl
  induction fl with
  | zero => intro k n l1 l2 G h; exact (show False from h).elim
  | succ fl ih => intro k n l1 l2 G h; exact w_X2_run_10_b  (fun h => ih h) h
def f_X2_run (k n : Nat) (a0 : Nat) (G : Wd) (Q : Wd → Prop) : Prop :=
  gR G a0 [1] 1 (fun x62 => nn x62 (fun a63 => (isC G a63 12 ∧ f_J3_size a63  G (fun x65 G64 => ∃ fl66, f_X2_run_10 a0 Q fl66 k n x65 0 G64))))
theorem w_X2_run {a0 : Nat} {Q : Wd → Prop} {k n : Nat} {G : Wd} (h : f_X2_run k n a0 G Q) : wp m_X2_run 6 k n 0 [some (vR (some a0)), none, none, none] [] G (qV Q) noX := by
  unfold f_X2_run at h
  refine r_aload_n dX2_run_0 rfl rfl iR ?_
  refine r_getR dX2_run_1 (fg1 (f := 1) fX2 (by decide) q637 rfl) h (fun x62 h => ?_)
  obtain ⟨a63, e, h⟩ := h
  refine wp.cast (L' := [some (vR (some a0)), none, none, none]) (st' := [vR (some a63)]) rfl (by rw [e]) ?_
  obtain ⟨hC, h⟩ := h
  refine r_callV dX2_run_4 hC (c_J3_size h) q1524 q1015 q1016 q97 q1017 rfl yo_J3_size rfl (by decide) (by decide) rfl rc0 (by decide) (Nat.zero_le _) (Nat.zero_le _) (ofI fun x65 G64 h => ?_) nox
  refine r_istore_n (L' := [some (vR (some a0)), some (vI x65), none, none]) dX2_run_7 rfl rfl iI cR (by decide) ?_
  refine r_iconst dX2_run_8 ?_
  refine r_istore_n (L' := [some (vR (some a0)), some (vI x65), some (vI 0), none]) dX2_run_9 rfl rfl iI cI (by decide) ?_
  obtain ⟨fl66, h⟩ := h
  exact w_X2_run_10 fl66 h
theorem c_X2_run {a0 : Nat} {k n : Nat} {Q : Wd → Prop} {G : Wd} (h : f_X2_run k n a0 G Q) : call yX2_run (Cond.code yX2_run cX2_run 4 (none)) 6 k n [vR (some a0)] G (qV Q) noX :=
  call.enter (by decide +kernel) (la_1 c1R (la_nil rfl)) rfl (w_X2_run h)
abbrev m_X2_postAll : Mt := (yX2_postAll.cls, cX2_postAll, 3, none, [], yX2_postAll.name)
theorem yo_X2_postAll : yOK yX2_postAll 0 := ⟨by decide +kernel, by decide +kernel, by decide +kernel⟩
def f_X2_postAll_8_b (a0 : Nat) (k8 : Nat → Nat → Option Nat → Wd → Prop) (k n : Nat) (l1 : Option Nat) (G : Wd) (Q : Wd → Prop) : Prop :=
  nn l1 (fun a31 => (isC G a31 16 ∧ f_J25_hasNext a31  G (fun x33 G32 => brB x33 ((isC G32 a31 16 ∧ f_J25_next a31  G32 (fun x35 G34 => cst G34 x35 [9] (gR G34 a0 [1] 0 (fun x36 => nn x35 (fun a37 => gI G34 a37 [9] 0 (fun x38 => nn x36 (fun a39 => ldR G34 a39 7 x38 (fun x40 => nn x40 (fun a41 => (isC G34 a41 2 ∧ f_X3_hasPlace a41  G34 (fun x43 G42 => brB x43 (gR G42 a0 [1] 0 (fun x44 => gI G42 a37 [9] 0 (fun x45 => nn x44 (fun a46 => ldR G42 a46 7 x45 (fun x47 => nn x47 (fun a48 => (∃ k50 n51, (k50 ≤ k ∧ n51 ≤ n) ∧ (isC G42 a48 2 ∧ f_X3_post k50 n51 a48 (some a37) G42 (fun G49 => (isC G49 a31 16 ∧ f_J25_remove a31  G49 (fun G52 => gI G52 a0 [1] 14 (fun x53 => pF G52 a0 [1] 14 (vI (x53 + 1)) (fun G54 => k8 (k - k50) (n - n51) (some a31) G54))))))))))))) (k8 k n (some a31) G42))))))))))))) (Q G32))))
theorem w_X2_postAll_8_b {a0 : Nat} {Q : Wd → Prop} {k8 : Nat → Nat → Option Nat → Wd → Prop} (hk8 : ∀ {k n : Nat} {l1 : Option Nat} {G : Wd}, k8 k n l1 G → wp m_X2_postAll 6 k n 8 [some (vR (some a0)), some (vR l1), none] [] G (qV Q) noX) {k n : Nat} {l1 : Option Nat} {G : Wd} (h : f_X2_postAll_8_b a0 k8 k n l1 G Q) : wp m_X2_postAll 6 k n 8 [some (vR (some a0)), some (vR l1), none] [] G (qV Q) noX := by
  unfold f_X2_postAll_8_b at h
  refine r_aload_n dX2_postAll_8 rfl rfl iR ?_
  obtain ⟨a31, e, h⟩ := h
  refine wp.cast (L' := [some (vR (some a0)), some (vR (some a31)), none]) (st' := [vR (some a31)]) (by rw [e]) (by rw [e]) ?_
  obtain ⟨hC, h⟩ := h
  refine r_callF dX2_postAll_9 hC (c_J25_hasNext h) q1391 q1135 q1137 q127 q1139 q1117 q1116 q1138 q1136 q1134 rfl ⟨by decide +kernel, by decide +kernel, by decide +kernel⟩ rfl (by decide) (by decide) rfl rc0 (by decide) (Nat.zero_le _) (Nat.zero_le _) (ofB fun x33 G32 h => ?_) nox
  refine r_ifZ_eq (tgt := 77) dX2_postAll_14 (by decide) h (fun h => ?_) (fun h => ?_)
  · exact r_vret rfl dX2_postAll_77 ⟨rfl, h⟩
  · refine r_aload_n dX2_postAll_17 rfl rfl iR ?_
    obtain ⟨hC, h⟩ := h
    refine r_callF dX2_postAll_18 hC (c_J25_next h) q1393 q1272 q1274 q127 q1276 q1143 q1142 q1275 q1273 q1134 rfl ⟨by decide +kernel, by decide +kernel, by decide +kernel⟩ rfl (by decide) (by decide) rfl rc0 (by decide) (Nat.zero_le _) (Nat.zero_le _) (ofR fun x35 G34 h => ?_) nox
    refine r_ccast (ci := 9) dX2_postAll_23 q1424 rfl h (fun h => ?_)
    refine r_astore_n (L' := [some (vR (some a0)), some (vR (some a31)), some (vR x35)]) dX2_postAll_26 rfl rfl iR cR (by decide) ?_
    refine r_aload_n dX2_postAll_27 rfl rfl iR ?_
    refine r_getR dX2_postAll_28 (fg1 (f := 0) fX2 (by decide) q635 rfl) h (fun x36 h => ?_)
    refine r_aload_n dX2_postAll_31 rfl rfl iR ?_
    obtain ⟨a37, e, h⟩ := h
    refine wp.cast (L' := [some (vR (some a0)), some (vR (some a31)), some (vR (some a37))]) (st' := [vR (some a37), vR x36]) (by rw [e]) (by rw [e]) ?_
    refine r_getI dX2_postAll_32 (fg1 (f := 0) fX10 (by decide) q1573 rfl) h (fun x38 h => ?_)
    obtain ⟨a39, e, h⟩ := h
    refine wp.cast (L' := [some (vR (some a0)), some (vR (some a31)), some (vR (some a37))]) (st' := [vI x38, vR (some a39)]) rfl (by rw [e]) ?_
    refine r_aald dX2_postAll_35 (by decide) (by decide) h (fun x40 h => ?_)
    obtain ⟨a41, e, h⟩ := h
    refine wp.cast (L' := [some (vR (some a0)), some (vR (some a31)), some (vR (some a37))]) (st' := [vR (some a41)]) rfl (by rw [e]) ?_
    obtain ⟨hC, h⟩ := h
    refine r_callV dX2_postAll_36 hC (c_X3_hasPlace h) q1595 q1596 q1597 q98 q1598 rfl yo_X3_hasPlace rfl (by decide) (by decide) rfl rc0 (by decide) (Nat.zero_le _) (Nat.zero_le _) (ofB fun x43 G42 h => ?_) nox
    refine r_ifZ_ne (tgt := 45) dX2_postAll_39 (by decide) h (fun h => ?_) (fun h => ?_)
    · refine r_aload_n dX2_postAll_45 rfl rfl iR ?_
      refine r_getR dX2_postAll_46 (fg1 (f := 0) fX2 (by decide) q635 rfl) h (fun x44 h => ?_)
      refine r_aload_n dX2_postAll_49 rfl rfl iR ?_
      refine r_getI dX2_postAll_50 (fg1 (f := 0) fX10 (by decide) q1573 rfl) h (fun x45 h => ?_)
      obtain ⟨a46, e, h⟩ := h
      refine wp.cast (L' := [some (vR (some a0)), some (vR (some a31)), some (vR (some a37))]) (st' := [vI x45, vR (some a46)]) rfl (by rw [e]) ?_
      refine r_aald dX2_postAll_53 (by decide) (by decide) h (fun x47 h => ?_)
      refine r_aload_n dX2_postAll_54 rfl rfl iR ?_
      obtain ⟨a48, e, h⟩ := h
      refine wp.cast (L' := [some (vR (some a0)), some (vR (some a31)), some (vR (some a37))]) (st' := [vR (some a37), vR (some a48)]) rfl (by rw [e]) ?_
      obtain ⟨k50, n51, ⟨hk1, hn1⟩, h⟩ := h
      obtain ⟨hC, h⟩ := h
      refine r_callV dX2_postAll_55 hC (c_X3_post h) q1599 q1600 q1601 q98 q1602 rfl yo_X3_post rfl (by decide) (by decide) rfl rc0 (by decide) hk1 hn1 (ofV fun G49 h => ?_) nox
      refine r_aload_n dX2_postAll_58 rfl rfl iR ?_
      obtain ⟨hC, h⟩ := h
      refine r_callF dX2_postAll_59 hC (c_J25_remove h) q1628 q1692 q1694 q127 q1696 q1630 q1629 q1695 q1693 q1134 rfl ⟨by decide +kernel, by decide +kernel, by decide +kernel⟩ rfl (by decide) (by decide) rfl rc0 (by decide) (Nat.zero_le _) (Nat.zero_le _) (ofV fun G52 h => ?_) nox
      refine r_aload_n dX2_postAll_64 rfl rfl iR ?_
      refine r_dup dX2_postAll_65 c1R ?_
      refine r_getI dX2_postAll_66 (fg1 (f := 14) fX2 (by decide) q664 rfl) h (fun x53 h => ?_)
      refine r_iconst dX2_postAll_69 ?_
      refine r_iadd dX2_postAll_70 ?_
      refine r_put dX2_postAll_71 (fp1 (f := 14) fX2 (by decide) q664 rfl rfl rfl) fvI h (fun G54 h => ?_)
      refine r_goto (tgt := 8) dX2_postAll_74 (by decide) ?_
      refine wp.locals (L' := [some (vR (some a0)), some (vR (some a31)), none]) (ls_s (ls_s (ls_n ls_0))) ?_
      exact hk8 h
    · refine r_goto (tgt := 8) dX2_postAll_42 (by decide) ?_
      refine wp.locals (L' := [some (vR (some a0)), some (vR (some a31)), none]) (ls_s (ls_s (ls_n ls_0))) ?_
      exact hk8 h
def f_X2_postAll_8 (a0 : Nat) (Q : Wd → Prop) : Nat → Nat → Nat → Option Nat → Wd → Prop
  | 0, _, _, _, _ => False
  | fl + 1, k, n, l1, G => f_X2_postAll_8_b a0  (fun k n l1 G => f_X2_postAll_8 a0  Q fl k n l1 G) k n l1 G Q
theorem w_X2_postAll_8 {a0 : Nat} {Q : Wd → Prop} : ∀ (fl : Nat) {k n : Nat} {l1 : Option Nat} {G : Wd}, f_X2_postAll_8 a0 Q fl k n l1 G → wp m_X2_postAll 6 k n 8 [some (vR (some a0)), some (vR l1), none] [] G (qV Q) noX := by
  intro fl
  induction fl with
  | zero => intro k n l1 G h; exact (show False from h).elim
  | succ fl ih => intro k n l1 G h; exact w_X2_postAll_8_b  (fun h => ih h) h
def f_X2_postAll (k n : Nat) (a0 : Nat) (G : Wd) (Q : Wd → Prop) : Prop :=
  gR G a0 [1] 2 (fun x55 => nn x55 (fun a56 => (∃ k58 n59, (k58 ≤ k ∧ n59 ≤ n) ∧ (isC G a56 12 ∧ f_J2_iterator k58 n59 a56  G (fun x60 G57 => ∃ fl61, f_X2_postAll_8 a0 Q fl61 (k - k58) (n - n59) x60 G57)))))
theorem w_X2_postAll {a0 : Nat} {Q : Wd → Prop} {k n : Nat} {G : Wd} (h : f_X2_postAll k n a0 G Q) : wp m_X2_postAll 6 k n 0 [some (vR (some a0)), none, none] [] G (qV Q) noX := by
  unfold f_X2_postAll at h
  refine r_aload_n dX2_postAll_0 rfl rfl iR ?_
  refine r_getR dX2_postAll_1 (fg1 (f := 2) fX2 (by decide) q640 rfl) h (fun x55 h => ?_)
  obtain ⟨a56, e, h⟩ := h
  refine wp.cast (L' := [some (vR (some a0)), none, none]) (st' := [vR (some a56)]) rfl (by rw [e]) ?_
  obtain ⟨k58, n59, ⟨hk1, hn1⟩, h⟩ := h
  obtain ⟨hC, h⟩ := h
  refine r_callU dX2_postAll_4 hC (c_J2_iterator h) q1340 q1341 q1343 q1344 q96 q1345 rfl rfl yo_J2_iterator rfl (by decide) (by decide) rfl rc0 (by decide) hk1 hn1 (ofR fun x60 G57 h => ?_) nox
  refine r_astore_n (L' := [some (vR (some a0)), some (vR x60), none]) dX2_postAll_7 rfl rfl iR cR (by decide) ?_
  obtain ⟨fl61, h⟩ := h
  exact w_X2_postAll_8 fl61 h
theorem c_X2_postAll {a0 : Nat} {k n : Nat} {Q : Wd → Prop} {G : Wd} (h : f_X2_postAll k n a0 G Q) : call yX2_postAll (Cond.code yX2_postAll cX2_postAll 3 (none)) 6 k n [vR (some a0)] G (qV Q) noX :=
  call.enter (by decide +kernel) (la_1 c1R (la_nil rfl)) rfl (w_X2_postAll h)
abbrev m_X2_chosen : Mt := (yX2_chosen.cls, cX2_chosen, 3, some (.object "QueueDrive$Line"), [], yX2_chosen.name)
theorem yo_X2_chosen : yOK yX2_chosen 0 := ⟨by decide +kernel, by decide +kernel, by decide +kernel⟩
def f_X2_chosen_74 (a0 : Nat) (k33 : Option Nat → Int → Wd → Prop) (l1 : Option Nat) (l2 : Int) (G : Wd) (Q : Option Nat → Wd → Prop) : Prop :=
  k33 l1 (l2 + 1) G
theorem w_X2_chosen_74 {a0 : Nat} {Q : Option Nat → Wd → Prop} {k33 : Option Nat → Int → Wd → Prop} (hk33 : ∀ {l1 : Option Nat} {l2 : Int} {G : Wd}, k33 l1 l2 G → wp m_X2_chosen 4 0 0 33 [some (vR (some a0)), some (vR l1), some (vI l2)] [] G (qR Q) noX) {l1 : Option Nat} {l2 : Int} {G : Wd} (h : f_X2_chosen_74 a0 k33 l1 l2 G Q) : wp m_X2_chosen 4 0 0 74 [some (vR (some a0)), some (vR l1), some (vI l2)] [] G (qR Q) noX := by
  unfold f_X2_chosen_74 at h
  refine r_iinc (L' := [some (vR (some a0)), some (vR l1), some (vI (l2 + 1))]) dX2_chosen_74 rfl rfl cR (by decide) ?_
  refine r_goto (tgt := 33) dX2_chosen_77 (by decide) ?_
  exact hk33 h
def f_X2_chosen_80 (a0 : Nat) (l1 : Option Nat) (G : Wd) (Q : Option Nat → Wd → Prop) : Prop :=
  brN l1 (Q none G) (fun a39 => gR G a0 [1] 6 (fun x40 => gI G a39 [2] 6 (fun x41 => gI G a39 [2] 0 (fun x42 => nn x40 (fun a43 => (stI G a43 0 x41 x42 (fun G44 => Q (some a39) G44)))))))
theorem w_X2_chosen_80 {a0 : Nat} {Q : Option Nat → Wd → Prop} {l1 : Option Nat} {G : Wd} (h : f_X2_chosen_80 a0 l1 G Q) : wp m_X2_chosen 4 0 0 80 [some (vR (some a0)), some (vR l1), none] [] G (qR Q) noX := by
  unfold f_X2_chosen_80 at h
  refine r_aload_n dX2_chosen_80 rfl rfl iR ?_
  refine r_ifnullV (tgt := 97) dX2_chosen_81 (by decide) h (fun e h => ?_) (fun a39 e h => ?_)
  · refine wp.cast (L' := [some (vR (some a0)), some (vR none), none]) (st' := []) (by rw [e]) rfl ?_
    refine r_aload_n dX2_chosen_97 rfl rfl iR ?_
    exact r_aret rtO dX2_chosen_98 ⟨_, rfl, h⟩
  · refine wp.cast (L' := [some (vR (some a0)), some (vR (some a39)), none]) (st' := []) (by rw [e]) rfl ?_
    refine r_aload_n dX2_chosen_84 rfl rfl iR ?_
    refine r_getR dX2_chosen_85 (fg1 (f := 6) fX2 (by decide) q648 rfl) h (fun x40 h => ?_)
    refine r_aload_n dX2_chosen_88 rfl rfl iR ?_
    refine r_getI dX2_chosen_89 (fg1 (f := 6) fX3 (by decide) q568 rfl) h (fun x41 h => ?_)
    refine r_aload_n dX2_chosen_92 rfl rfl iR ?_
    refine r_getI dX2_chosen_93 (fg1 (f := 0) fX3 (by decide) q553 rfl) h (fun x42 h => ?_)
    obtain ⟨a43, e, h⟩ := h
    refine wp.cast (L' := [some (vR (some a0)), some (vR (some a39)), none]) (st' := [vI x42, vI x41, vR (some a43)]) rfl (by rw [e]) ?_
    refine r_iast dX2_chosen_96 h (fun G44 h => ?_)
    refine r_aload_n dX2_chosen_97 rfl rfl iR ?_
    exact r_aret rtO dX2_chosen_98 ⟨_, rfl, h⟩
def f_X2_chosen_33_b (a0 : Nat) (k33 : Option Nat → Int → Wd → Prop) (l1 : Option Nat) (l2 : Int) (G : Wd) (Q : Option Nat → Wd → Prop) : Prop :=
  br l2 4 ((4 : Int) ≤ l2) (f_X2_chosen_80 a0 l1 G Q) (brN l1 (gR G a0 [1] 5 (fun x46 => nn x46 (fun a47 => ldI G a47 0 l2 (fun x48 => br0 x48 (¬ x48 = 0) ((isC G a0 1 ∧ f_X2_turn a0 l2 G (fun x50 G49 => brN x50 (f_X2_chosen_74 a0 k33 none l2 G49 Q) (fun a51 => gR G49 a0 [1] 5 (fun x52 => nn x52 (fun a53 => ldI G49 a53 0 l2 (fun x54 => (stI G49 a53 0 l2 (x54 - 1) (fun G55 => f_X2_chosen_74 a0 k33 (some a51) l2 G55 Q))))))))) (f_X2_chosen_74 a0 k33 none l2 G Q))))) (fun a45 => f_X2_chosen_80 a0 (some a45) G Q))
theorem w_X2_chosen_33_b {a0 : Nat} {Q : Option Nat → Wd → Prop} {k33 : Option Nat → Int → Wd → Prop} (hk33 : ∀ {l1 : Option Nat} {l2 : Int} {G : Wd}, k33 l1 l2 G → wp m_X2_chosen 4 0 0 33 [some (vR (some a0)), some (vR l1), some (vI l2)] [] G (qR Q) noX) {l1 : Option Nat} {l2 : Int} {G : Wd} (h : f_X2_chosen_33_b a0 k33 l1 l2 G Q) : wp m_X2_chosen 4 0 0 33 [some (vR (some a0)), some (vR l1), some (vI l2)] [] G (qR Q) noX := by
  unfold f_X2_chosen_33_b at h
  refine r_iload_n dX2_chosen_33 rfl rfl iI ?_
  refine r_iconst dX2_chosen_34 ?_
  refine r_icmp_ge (tgt := 80) dX2_chosen_35 (by decide) h (fun h => ?_) (fun h => ?_)
  · refine wp.locals (L' := [some (vR (some a0)), some (vR l1), none]) (ls_s (ls_s (ls_n ls_0))) ?_
    exact w_X2_chosen_80 h
  · refine r_aload_n dX2_chosen_38 rfl rfl iR ?_
    refine r_ifnonnullV (tgt := 80) dX2_chosen_39 (by decide) h (fun a45 e h => ?_) (fun e h => ?_)
    · refine wp.cast (L' := [some (vR (some a0)), some (vR (some a45)), some (vI l2)]) (st' := []) (by rw [e]) rfl ?_
      refine wp.locals (L' := [some (vR (some a0)), some (vR (some a45)), none]) (ls_s (ls_s (ls_n ls_0))) ?_
      exact w_X2_chosen_80 h
    · refine wp.cast (L' := [some (vR (some a0)), some (vR none), some (vI l2)]) (st' := []) (by rw [e]) rfl ?_
      refine r_aload_n dX2_chosen_42 rfl rfl iR ?_
      refine r_getR dX2_chosen_43 (fg1 (f := 5) fX2 (by decide) q646 rfl) h (fun x46 h => ?_)
      refine r_iload_n dX2_chosen_46 rfl rfl iI ?_
      obtain ⟨a47, e, h⟩ := h
      refine wp.cast (L' := [some (vR (some a0)), some (vR none), some (vI l2)]) (st' := [vI l2, vR (some a47)]) rfl (by rw [e]) ?_
      refine r_iald dX2_chosen_47 h (fun x48 h => ?_)
      refine r_if_ne (tgt := 54) dX2_chosen_48 (by decide) h (fun h => ?_) (fun h => ?_)
      · refine r_aload_n dX2_chosen_54 rfl rfl iR ?_
        refine r_iload_n dX2_chosen_55 rfl rfl iI ?_
        obtain ⟨hC, h⟩ := h
        refine r_callV dX2_chosen_56 hC (c_X2_turn h) q1718 q1719 q1720 q93 q1721 rfl yo_X2_turn rfl (by decide) (by decide) rfl rc0 (by decide) (Nat.zero_le _) (Nat.zero_le _) (ofR fun x50 G49 h => ?_) nox
        refine r_astore_n (L' := [some (vR (some a0)), some (vR x50), some (vI l2)]) dX2_chosen_59 rfl rfl iR cR (by decide) ?_
        refine r_aload_n dX2_chosen_60 rfl rfl iR ?_
        refine r_ifnullV (tgt := 74) dX2_chosen_61 (by decide) h (fun e h => ?_) (fun a51 e h => ?_)
        · refine wp.cast (L' := [some (vR (some a0)), some (vR none), some (vI l2)]) (st' := []) (by rw [e]) rfl ?_
          exact w_X2_chosen_74 hk33 h
        · refine wp.cast (L' := [some (vR (some a0)), some (vR (some a51)), some (vI l2)]) (st' := []) (by rw [e]) rfl ?_
          refine r_aload_n dX2_chosen_64 rfl rfl iR ?_
          refine r_getR dX2_chosen_65 (fg1 (f := 5) fX2 (by decide) q646 rfl) h (fun x52 h => ?_)
          refine r_iload_n dX2_chosen_68 rfl rfl iI ?_
          refine r_dup2 dX2_chosen_69 c1I c1R ?_
          obtain ⟨a53, e, h⟩ := h
          refine wp.cast (L' := [some (vR (some a0)), some (vR (some a51)), some (vI l2)]) (st' := [vI l2, vR (some a53), vI l2, vR (some a53)]) rfl (by rw [e]) ?_
          refine r_iald dX2_chosen_70 h (fun x54 h => ?_)
          refine r_iconst dX2_chosen_71 ?_
          refine r_isub dX2_chosen_72 ?_
          refine r_iast dX2_chosen_73 h (fun G55 h => ?_)
          exact w_X2_chosen_74 hk33 h
      · refine r_goto (tgt := 74) dX2_chosen_51 (by decide) ?_
        exact w_X2_chosen_74 hk33 h
def f_X2_chosen_33 (a0 : Nat) (Q : Option Nat → Wd → Prop) : Nat → Option Nat → Int → Wd → Prop
  | 0, _, _, _ => False
  | fl + 1, l1, l2, G => f_X2_chosen_33_b a0  (fun l1 l2 G => f_X2_chosen_33 a0  Q fl l1 l2 G) l1 l2 G Q
theorem w_X2_chosen_33 {a0 : Nat} {Q : Option Nat → Wd → Prop} : ∀ (fl : Nat) {l1 : Option Nat} {l2 : Int} {G : Wd}, f_X2_chosen_33 a0 Q fl l1 l2 G → wp m_X2_chosen 4 0 0 33 [some (vR (some a0)), some (vR l1), some (vI l2)] [] G (qR Q) noX := by
  intro fl
  induction fl with
  | zero => intro l1 l2 G h; exact (show False from h).elim
  | succ fl ih => intro l1 l2 G h; exact w_X2_chosen_33_b  (fun h => ih h) h
def f_X2_chosen_31 (a0 : Nat) (l1 : Option Nat) (G : Wd) (Q : Option Nat → Wd → Prop) : Prop :=
  ∃ fl56, f_X2_chosen_33 a0 Q fl56 l1 1 G
theorem w_X2_chosen_31 {a0 : Nat} {Q : Option Nat → Wd → Prop} {l1 : Option Nat} {G : Wd} (h : f_X2_chosen_31 a0 l1 G Q) : wp m_X2_chosen 4 0 0 31 [some (vR (some a0)), some (vR l1), none] [] G (qR Q) noX := by
  unfold f_X2_chosen_31 at h
  refine r_iconst dX2_chosen_31 ?_
  refine r_istore_n (L' := [some (vR (some a0)), some (vR l1), some (vI 1)]) dX2_chosen_32 rfl rfl iI cR (by decide) ?_
  obtain ⟨fl56, h⟩ := h
  exact w_X2_chosen_33 fl56 h
def f_X2_chosen (a0 : Nat) (G : Wd) (Q : Option Nat → Wd → Prop) : Prop :=
  (isC G a0 1 ∧ f_X2_turn a0 0 G (fun x58 G57 => brN x58 ((isC G57 a0 1 ∧ f_X2_hasCredit a0  G57 (fun x61 G60 => brB x61 (f_X2_chosen_31 a0 none G60 Q) (gR G60 a0 [1] 4 (fun x62 => gR G60 a0 [1] 5 (fun x63 => nn x63 (fun a64 => nn x62 (fun a65 => cpI G60 a65 0 a64 0 4 (fun G66 => f_X2_chosen_31 a0 none G66 Q))))))))) (fun a59 => f_X2_chosen_31 a0 (some a59) G57 Q)))
theorem w_X2_chosen {a0 : Nat} {Q : Option Nat → Wd → Prop} {G : Wd} (h : f_X2_chosen a0 G Q) : wp m_X2_chosen 4 0 0 0 [some (vR (some a0)), none, none] [] G (qR Q) noX := by
  unfold f_X2_chosen at h
  refine r_aload_n dX2_chosen_0 rfl rfl iR ?_
  refine r_iconst dX2_chosen_1 ?_
  obtain ⟨hC, h⟩ := h
  refine r_callV dX2_chosen_2 hC (c_X2_turn h) q1718 q1719 q1720 q93 q1721 rfl yo_X2_turn rfl (by decide) (by decide) rfl rc0 (by decide) (Nat.zero_le _) (Nat.zero_le _) (ofR fun x58 G57 h => ?_) nox
  refine r_astore_n (L' := [some (vR (some a0)), some (vR x58), none]) dX2_chosen_5 rfl rfl iR cR (by decide) ?_
  refine r_aload_n dX2_chosen_6 rfl rfl iR ?_
  refine r_ifnonnullV (tgt := 31) dX2_chosen_7 (by decide) h (fun a59 e h => ?_) (fun e h => ?_)
  · refine wp.cast (L' := [some (vR (some a0)), some (vR (some a59)), none]) (st' := []) (by rw [e]) rfl ?_
    exact w_X2_chosen_31 h
  · refine wp.cast (L' := [some (vR (some a0)), some (vR none), none]) (st' := []) (by rw [e]) rfl ?_
    refine r_aload_n dX2_chosen_10 rfl rfl iR ?_
    obtain ⟨hC, h⟩ := h
    refine r_callV dX2_chosen_11 hC (c_X2_hasCredit h) q1722 q1724 qs25 q93 q1725 rfl yo_X2_hasCredit rfl (by decide) (by decide) rfl rc0 (by decide) (Nat.zero_le _) (Nat.zero_le _) (ofB fun x61 G60 h => ?_) nox
    refine r_ifZ_ne (tgt := 31) dX2_chosen_14 (by decide) h (fun h => ?_) (fun h => ?_)
    · exact w_X2_chosen_31 h
    · refine r_aload_n dX2_chosen_17 rfl rfl iR ?_
      refine r_getR dX2_chosen_18 (fg1 (f := 4) fX2 (by decide) q644 rfl) h (fun x62 h => ?_)
      refine r_iconst dX2_chosen_21 ?_
      refine r_aload_n dX2_chosen_22 rfl rfl iR ?_
      refine r_getR dX2_chosen_23 (fg1 (f := 5) fX2 (by decide) q646 rfl) h (fun x63 h => ?_)
      refine r_iconst dX2_chosen_26 ?_
      refine r_iconst dX2_chosen_27 ?_
      obtain ⟨a64, e, h⟩ := h
      refine wp.cast (L' := [some (vR (some a0)), some (vR none), none]) (st' := [vI 4, vI 0, vR (some a64), vI 0, vR x62]) rfl (by rw [e]) ?_
      obtain ⟨a65, e, h⟩ := h
      refine wp.cast (L' := [some (vR (some a0)), some (vR none), none]) (st' := [vI 4, vI 0, vR (some a64), vI 0, vR (some a65)]) rfl (by rw [e]) ?_
      refine r_cpI dX2_chosen_28 q1425 rc0 (by decide) (by decide) h (fun G66 h => ?_)
      exact w_X2_chosen_31 h
theorem c_X2_chosen {a0 : Nat} {Q : Option Nat → Wd → Prop} {G : Wd} (h : f_X2_chosen a0 G Q) : call yX2_chosen (Cond.code yX2_chosen cX2_chosen 3 (some (.object "QueueDrive$Line"))) 4 0 0 [vR (some a0)] G (qR Q) noX :=
  call.enter (by decide +kernel) (la_1 c1R (la_nil rfl)) rfl (w_X2_chosen h)
abbrev m_X1_puts : Mt := (yX1_puts.cls, cX1_puts, 6, some .int, [], yX1_puts.name)
theorem yo_X1_puts : yOK yX1_puts 4 := ⟨by decide +kernel, by decide +kernel, by decide +kernel⟩
def f_X1_puts (k n : Nat) (a0 : Nat) (a1 : Int) (a2 : Int) (a3 : Int) (a4 : Int) (G : Wd) (Q : Int → Wd → Prop) : Prop :=
  gR G a0 [0] 0 (fun x13 => f_X1_refusesPut x13 a1 a2 a3 a4 G (fun x15 G14 => br0 x15 (0 ≤ x15) (gR G14 a0 [0] 0 (fun x16 => (∃ k18 n19, (k18 ≤ k ∧ n19 ≤ n) ∧ (isC G14 a0 0 ∧ f_X1_remember k18 n19 a0 x16 G14 (fun G17 => gR G17 a0 [0] 0 (fun x20 => (∃ k22 n23, (k22 ≤ (k - k18) ∧ n23 ≤ (n - n19)) ∧ f_X1_goPut k22 n23 x20 a1 a2 a3 a4 G17 (fun x24 G21 => Q x24 G21)))))))) (Q x15 G14)))
theorem w_X1_puts {a0 : Nat} {Q : Int → Wd → Prop} {k n : Nat} {a1 : Int} {a2 : Int} {a3 : Int} {a4 : Int} {G : Wd} (h : f_X1_puts k n a0 a1 a2 a3 a4 G Q) : wp m_X1_puts 8 k n 0 [some (vR (some a0)), some (vI a1), some (vI a2), some (vI a3), some (vI a4), none] [] G (qI Q) noX := by
  unfold f_X1_puts at h
  refine r_aload_n dX1_puts_0 rfl rfl iR ?_
  refine r_getR dX1_puts_1 (fg1 (f := 0) fX1 (by decide) q700 rfl) h (fun x13 h => ?_)
  refine r_iload_n dX1_puts_4 rfl rfl iI ?_
  refine r_iload_n dX1_puts_5 rfl rfl iI ?_
  refine r_iload_n dX1_puts_6 rfl rfl iI ?_
  refine r_iload dX1_puts_7 rfl iI ?_
  refine r_callS dX1_puts_9 (c_X1_refusesPut h) q1047 q1048 q92 q1049 yo_X1_refusesPut rfl (by decide) (by decide) rfl rc0 (by decide) (Nat.zero_le _) (Nat.zero_le _) (ofI fun x15 G14 h => ?_) nox
  refine r_istore (L' := [some (vR (some a0)), some (vI a1), some (vI a2), some (vI a3), some (vI a4), some (vI x15)]) dX1_puts_12 rfl iI cI (by decide) ?_
  refine r_iload dX1_puts_14 rfl iI ?_
  refine r_if_ge (tgt := 22) dX1_puts_16 (by decide) h (fun h => ?_) (fun h => ?_)
  · refine r_aload_n dX1_puts_22 rfl rfl iR ?_
    refine r_aload_n dX1_puts_23 rfl rfl iR ?_
    refine r_getR dX1_puts_24 (fg1 (f := 0) fX1 (by decide) q700 rfl) h (fun x16 h => ?_)
    obtain ⟨k18, n19, ⟨hk1, hn1⟩, h⟩ := h
    obtain ⟨hC, h⟩ := h
    refine r_callV dX1_puts_27 hC (c_X1_remember h) q1071 q1073 qs8 q92 q1074 rfl yo_X1_remember rfl (by decide) (by decide) rfl rc0 (by decide) hk1 hn1 (ofV fun G17 h => ?_) nox
    refine r_aload_n dX1_puts_30 rfl rfl iR ?_
    refine r_getR dX1_puts_31 (fg1 (f := 0) fX1 (by decide) q700 rfl) h (fun x20 h => ?_)
    refine r_iload_n dX1_puts_34 rfl rfl iI ?_
    refine r_iload_n dX1_puts_35 rfl rfl iI ?_
    refine r_iload_n dX1_puts_36 rfl rfl iI ?_
    refine r_iload dX1_puts_37 rfl iI ?_
    obtain ⟨k22, n23, ⟨hk1, hn1⟩, h⟩ := h
    refine r_callS dX1_puts_39 (c_X1_goPut h) q1430 q1431 q92 q1432 yo_X1_goPut rfl (by decide) (by decide) rfl rc0 (by decide) hk1 hn1 (ofI fun x24 G21 h => ?_) nox
    exact r_iret rfl dX1_puts_42 ⟨_, rfl, h⟩
  · refine r_iload dX1_puts_19 rfl iI ?_
    exact r_iret rfl dX1_puts_21 ⟨_, rfl, h⟩
theorem c_X1_puts {a0 : Nat} {a1 : Int} {a2 : Int} {a3 : Int} {a4 : Int} {k n : Nat} {Q : Int → Wd → Prop} {G : Wd} (h : f_X1_puts k n a0 a1 a2 a3 a4 G Q) : call yX1_puts (Cond.code yX1_puts cX1_puts 6 (some .int)) 8 k n [vR (some a0), vI a1, vI a2, vI a3, vI a4] G (qI Q) noX :=
  call.enter (by decide +kernel) (la_1 c1R (la_1 c1I (la_1 c1I (la_1 c1I (la_1 c1I (la_nil rfl)))))) rfl (w_X1_puts h)
abbrev m_X1_next : Mt := (yX1_next.cls, cX1_next, 2, some .int, [], yX1_next.name)
theorem yo_X1_next : yOK yX1_next 0 := ⟨by decide +kernel, by decide +kernel, by decide +kernel⟩
def f_X1_next_71 (a0 : Nat) (k n : Nat) (l1 : Option Nat) (s1 : Int) (G : Wd) (Q : Int → Wd → Prop) : Prop :=
  (isC G a0 0 ∧ f_X1_tell a0 s1 G (fun G29 => nn l1 (fun a30 => gI G29 a30 [2] 0 (fun x31 => Q x31 G29))))
theorem w_X1_next_71 {a0 : Nat} {Q : Int → Wd → Prop} {k n : Nat} {l1 : Option Nat} {s1 : Int} {G : Wd} (h : f_X1_next_71 a0 k n l1 s1 G Q) : wp m_X1_next 7 k n 71 [none, some (vR l1)] [vJ s1, vR (some a0)] G (qI Q) noX := by
  unfold f_X1_next_71 at h
  obtain ⟨hC, h⟩ := h
  refine r_callV dX1_next_71 hC (c_X1_tell h) q1761 q1763 qs27 q92 q1764 rfl yo_X1_tell rfl (by decide) (by decide) rfl rc0 (by decide) (Nat.zero_le _) (Nat.zero_le _) (ofV fun G29 h => ?_) nox
  refine r_aload_n dX1_next_74 rfl rfl iR ?_
  obtain ⟨a30, e, h⟩ := h
  refine wp.cast (L' := [none, some (vR (some a30))]) (st' := [vR (some a30)]) (by rw [e]) (by rw [e]) ?_
  refine r_getI dX1_next_75 (fg1 (f := 0) fX3 (by decide) q555 rfl) h (fun x31 h => ?_)
  exact r_iret rfl dX1_next_78 ⟨_, rfl, h⟩
def f_X1_next (k n : Nat) (a0 : Nat) (G : Wd) (Q : Int → Wd → Prop) : Prop :=
  gR G a0 [0] 0 (fun x32 => nn x32 (fun a33 => (isC G a33 1 ∧ f_X2_hasWork a33  G (fun x35 G34 => brB x35 (gR G34 a0 [0] 2 (fun x36 => gR G34 a0 [0] 0 (fun x37 => nn x36 (fun a38 => (∃ k40 n41, (k40 ≤ k ∧ n41 ≤ n) ∧ (isC G34 a38 1 ∧ f_X2_be k40 n41 a38 x37 G34 (fun G39 => gR G39 a0 [0] 2 (fun x42 => nn x42 (fun a43 => (isC G39 a43 1 ∧ f_X2_chosen a43  G39 (fun x45 G44 => pF G44 a0 [0] 9 (vI 0) (fun G46 => nn x45 (fun a47 => gI G46 a47 [2] 6 (fun x48 => ok32 x48 ((isC G46 a0 0 ∧ f_X1_tell a0 x48 G46 (fun G49 => gI G49 a47 [2] 6 (fun x50 => br0 x50 (¬ x50 = 0) (gR G49 a0 [0] 2 (fun x51 => nn x51 (fun a52 => gR G49 a52 [1] 5 (fun x53 => gI G49 a47 [2] 6 (fun x54 => nn x53 (fun a55 => ldI G49 a55 0 x54 (fun x56 => ok32 x56 (f_X1_next_71 a0 (k - k40) (n - n41) (some a47) x56 G49 Q)))))))) (f_X1_next_71 a0 (k - k40) (n - n41) (some a47) 0 G49 Q))))))))))))))))))) (Q (-2) G34)))))
theorem w_X1_next {a0 : Nat} {Q : Int → Wd → Prop} {k n : Nat} {G : Wd} (h : f_X1_next k n a0 G Q) : wp m_X1_next 7 k n 0 [some (vR (some a0)), none] [] G (qI Q) noX := by
  unfold f_X1_next at h
  refine r_aload_n dX1_next_0 rfl rfl iR ?_
  refine r_getR dX1_next_1 (fg1 (f := 0) fX1 (by decide) q700 rfl) h (fun x32 h => ?_)
  obtain ⟨a33, e, h⟩ := h
  refine wp.cast (L' := [some (vR (some a0)), none]) (st' := [vR (some a33)]) rfl (by rw [e]) ?_
  obtain ⟨hC, h⟩ := h
  refine r_callV dX1_next_4 hC (c_X2_hasWork h) q1970 q1707 q1708 q93 q1709 rfl yo_X2_hasWork rfl (by decide) (by decide) rfl rc0 (by decide) (Nat.zero_le _) (Nat.zero_le _) (ofB fun x35 G34 h => ?_) nox
  refine r_ifZ_ne (tgt := 13) dX1_next_7 (by decide) h (fun h => ?_) (fun h => ?_)
  · refine r_aload_n dX1_next_13 rfl rfl iR ?_
    refine r_getR dX1_next_14 (fg1 (f := 2) fX1 (by decide) q702 rfl) h (fun x36 h => ?_)
    refine r_aload_n dX1_next_17 rfl rfl iR ?_
    refine r_getR dX1_next_18 (fg1 (f := 0) fX1 (by decide) q700 rfl) h (fun x37 h => ?_)
    obtain ⟨a38, e, h⟩ := h
    refine wp.cast (L' := [some (vR (some a0)), none]) (st' := [vR x37, vR (some a38)]) rfl (by rw [e]) ?_
    obtain ⟨k40, n41, ⟨hk1, hn1⟩, h⟩ := h
    obtain ⟨hC, h⟩ := h
    refine r_callV dX1_next_21 hC (c_X2_be h) q1076 q1077 q1078 q93 q1079 rfl yo_X2_be rfl (by decide) (by decide) rfl rc0 (by decide) hk1 hn1 (ofV fun G39 h => ?_) nox
    refine r_aload_n dX1_next_24 rfl rfl iR ?_
    refine r_getR dX1_next_25 (fg1 (f := 2) fX1 (by decide) q702 rfl) h (fun x42 h => ?_)
    obtain ⟨a43, e, h⟩ := h
    refine wp.cast (L' := [some (vR (some a0)), none]) (st' := [vR (some a43)]) rfl (by rw [e]) ?_
    obtain ⟨hC, h⟩ := h
    refine r_callV dX1_next_28 hC (c_X2_chosen h) q1971 q1715 q1716 q93 q1717 rfl yo_X2_chosen rfl (by decide) (by decide) rfl rc0 (by decide) (Nat.zero_le _) (Nat.zero_le _) (ofR fun x45 G44 h => ?_) nox
    refine r_astore_n (L' := [some (vR (some a0)), some (vR x45)]) dX1_next_31 rfl rfl iR cR (by decide) ?_
    refine r_aload_n dX1_next_32 rfl rfl iR ?_
    refine r_iconst dX1_next_33 ?_
    refine r_put dX1_next_34 (fp1 (f := 9) fX1 (by decide) q709 rfl rfl rfl) fvI h (fun G46 h => ?_)
    refine r_aload_n dX1_next_37 rfl rfl iR ?_
    refine r_aload_n dX1_next_38 rfl rfl iR ?_
    obtain ⟨a47, e, h⟩ := h
    refine wp.cast (L' := [some (vR (some a0)), some (vR (some a47))]) (st' := [vR (some a47), vR (some a0)]) (by rw [e]) (by rw [e]) ?_
    refine r_getI dX1_next_39 (fg1 (f := 6) fX3 (by decide) q570 rfl) h (fun x48 h => ?_)
    refine r_i2l dX1_next_42 h (fun h => ?_)
    obtain ⟨hC, h⟩ := h
    refine r_callV dX1_next_43 hC (c_X1_tell h) q1761 q1763 qs27 q92 q1764 rfl yo_X1_tell rfl (by decide) (by decide) rfl rc0 (by decide) (Nat.zero_le _) (Nat.zero_le _) (ofV fun G49 h => ?_) nox
    refine r_aload_n dX1_next_46 rfl rfl iR ?_
    refine r_aload_n dX1_next_47 rfl rfl iR ?_
    refine r_getI dX1_next_48 (fg1 (f := 6) fX3 (by decide) q570 rfl) h (fun x50 h => ?_)
    refine r_if_ne (tgt := 58) dX1_next_51 (by decide) h (fun h => ?_) (fun h => ?_)
    · refine r_aload_n dX1_next_58 rfl rfl iR ?_
      refine r_getR dX1_next_59 (fg1 (f := 2) fX1 (by decide) q702 rfl) h (fun x51 h => ?_)
      obtain ⟨a52, e, h⟩ := h
      refine wp.cast (L' := [some (vR (some a0)), some (vR (some a47))]) (st' := [vR (some a52), vR (some a0)]) rfl (by rw [e]) ?_
      refine r_getR dX1_next_62 (fg1 (f := 5) fX2 (by decide) q647 rfl) h (fun x53 h => ?_)
      refine r_aload_n dX1_next_65 rfl rfl iR ?_
      refine r_getI dX1_next_66 (fg1 (f := 6) fX3 (by decide) q570 rfl) h (fun x54 h => ?_)
      obtain ⟨a55, e, h⟩ := h
      refine wp.cast (L' := [some (vR (some a0)), some (vR (some a47))]) (st' := [vI x54, vR (some a55), vR (some a0)]) rfl (by rw [e]) ?_
      refine r_iald dX1_next_69 h (fun x56 h => ?_)
      refine r_i2l dX1_next_70 h (fun h => ?_)
      refine wp.locals (L' := [none, some (vR (some a47))]) (ls_n (ls_s ls_0)) ?_
      exact w_X1_next_71 h
    · refine r_lconst (y := 0) dX1_next_54 (by decide) ?_
      refine r_goto (tgt := 71) dX1_next_55 (by decide) ?_
      refine wp.locals (L' := [none, some (vR (some a47))]) (ls_n (ls_s ls_0)) ?_
      exact w_X1_next_71 h
  · refine r_bipush dX1_next_10 (by decide) ?_
    exact r_iret rfl dX1_next_12 ⟨_, rfl, h⟩
theorem c_X1_next {a0 : Nat} {k n : Nat} {Q : Int → Wd → Prop} {G : Wd} (h : f_X1_next k n a0 G Q) : call yX1_next (Cond.code yX1_next cX1_next 2 (some .int)) 7 k n [vR (some a0)] G (qI Q) noX :=
  call.enter (by decide +kernel) (la_1 c1R (la_nil rfl)) rfl (w_X1_next h)
abbrev m_X1_deals : Mt := (yX1_deals.cls, cX1_deals, 8, some .int, [], yX1_deals.name)
theorem yo_X1_deals : yOK yX1_deals 1 := ⟨by decide +kernel, by decide +kernel, by decide +kernel⟩
def f_X1_deals_132_b (a0 : Nat) (k132 : Nat → Nat → Option Nat → Option Nat → Int → Int → Wd → Prop) (k n : Nat) (l2 : Option Nat) (l4 : Option Nat) (l5 : Int) (l6 : Int) (G : Wd) (Q : Int → Wd → Prop) : Prop :=
  br l6 l5 (l5 ≤ l6) (nn l2 (fun a65 => ldI G a65 0 0 (fun x66 => Q x66 G))) (nn l4 (fun a67 => ldI G a67 0 l6 (fun x68 => ok32 x68 ((isC G a0 0 ∧ f_X1_tell a0 x68 G (fun G69 => k132 k n l2 (some a67) l5 (l6 + 1) G69))))))
theorem w_X1_deals_132_b {a0 : Nat} {Q : Int → Wd → Prop} {k132 : Nat → Nat → Option Nat → Option Nat → Int → Int → Wd → Prop} (hk132 : ∀ {k n : Nat} {l2 : Option Nat} {l4 : Option Nat} {l5 : Int} {l6 : Int} {G : Wd}, k132 k n l2 l4 l5 l6 G → wp m_X1_deals 7 k n 132 [some (vR (some a0)), none, some (vR l2), none, some (vR l4), some (vI l5), some (vI l6), none] [] G (qI Q) noX) {k n : Nat} {l2 : Option Nat} {l4 : Option Nat} {l5 : Int} {l6 : Int} {G : Wd} (h : f_X1_deals_132_b a0 k132 k n l2 l4 l5 l6 G Q) : wp m_X1_deals 7 k n 132 [some (vR (some a0)), none, some (vR l2), none, some (vR l4), some (vI l5), some (vI l6), none] [] G (qI Q) noX := by
  unfold f_X1_deals_132_b at h
  refine r_iload dX1_deals_132 rfl iI ?_
  refine r_iload dX1_deals_134 rfl iI ?_
  refine r_icmp_ge (tgt := 159) dX1_deals_136 (by decide) h (fun h => ?_) (fun h => ?_)
  · refine r_aload_n dX1_deals_159 rfl rfl iR ?_
    refine r_iconst dX1_deals_160 ?_
    obtain ⟨a65, e, h⟩ := h
    refine wp.cast (L' := [some (vR (some a0)), none, some (vR (some a65)), none, some (vR l4), some (vI l5), some (vI l6), none]) (st' := [vI 0, vR (some a65)]) (by rw [e]) (by rw [e]) ?_
    refine r_iald dX1_deals_161 h (fun x66 h => ?_)
    exact r_iret rfl dX1_deals_162 ⟨_, rfl, h⟩
  · refine r_aload dX1_deals_139 rfl iR ?_
    refine r_iload dX1_deals_141 rfl iI ?_
    obtain ⟨a67, e, h⟩ := h
    refine wp.cast (L' := [some (vR (some a0)), none, some (vR l2), none, some (vR (some a67)), some (vI l5), some (vI l6), none]) (st' := [vI l6, vR (some a67)]) (by rw [e]) (by rw [e]) ?_
    refine r_iald dX1_deals_143 h (fun x68 h => ?_)
    refine r_istore (L' := [some (vR (some a0)), none, some (vR l2), none, some (vR (some a67)), some (vI l5), some (vI l6), some (vI x68)]) dX1_deals_144 rfl iI cI (by decide) ?_
    refine r_aload_n dX1_deals_146 rfl rfl iR ?_
    refine r_iload dX1_deals_147 rfl iI ?_
    refine r_i2l dX1_deals_149 h (fun h => ?_)
    obtain ⟨hC, h⟩ := h
    refine r_callV dX1_deals_150 hC (c_X1_tell h) q1761 q1763 qs27 q92 q1764 rfl yo_X1_tell rfl (by decide) (by decide) rfl rc0 (by decide) (Nat.zero_le _) (Nat.zero_le _) (ofV fun G69 h => ?_) nox
    refine r_iinc (L' := [some (vR (some a0)), none, some (vR l2), none, some (vR (some a67)), some (vI l5), some (vI (l6 + 1)), some (vI x68)]) dX1_deals_153 rfl rfl cI (by decide) ?_
    refine r_goto (tgt := 132) dX1_deals_156 (by decide) ?_
    refine wp.locals (L' := [some (vR (some a0)), none, some (vR l2), none, some (vR (some a67)), some (vI l5), some (vI (l6 + 1)), none]) (ls_s (ls_n (ls_s (ls_n (ls_s (ls_s (ls_s (ls_n ls_0)))))))) ?_
    exact hk132 h
def f_X1_deals_132 (a0 : Nat) (Q : Int → Wd → Prop) : Nat → Nat → Nat → Option Nat → Option Nat → Int → Int → Wd → Prop
  | 0, _, _, _, _, _, _, _ => False
  | fl + 1, k, n, l2, l4, l5, l6, G => f_X1_deals_132_b a0  (fun k n l2 l4 l5 l6 G => f_X1_deals_132 a0  Q fl k n l2 l4 l5 l6 G) k n l2 l4 l5 l6 G Q
theorem w_X1_deals_132 {a0 : Nat} {Q : Int → Wd → Prop} : ∀ (fl : Nat) {k n : Nat} {l2 : Option Nat} {l4 : Option Nat} {l5 : Int} {l6 : Int} {G : Wd}, f_X1_deals_132 a0 Q fl k n l2 l4 l5 l6 G → wp m_X1_deals 7 k n 132 [some (vR (some a0)), none, some (vR l2), none, some (vR l4), some (vI l5), some (vI l6), none] [] G (qI Q) noX := by
  intro fl
  induction fl with
  | zero => intro k n l2 l4 l5 l6 G h; exact (show False from h).elim
  | succ fl ih => intro k n l2 l4 l5 l6 G h; exact w_X1_deals_132_b  (fun h => ih h) h
def f_X1_deals_100_b (a0 : Nat) (k100 : Nat → Nat → Option Nat → Option Nat → Int → Wd → Prop) (k n : Nat) (l2 : Option Nat) (l3 : Option Nat) (l4 : Int) (G : Wd) (Q : Int → Wd → Prop) : Prop :=
  br l4 4 ((4 : Int) ≤ l4) (nn l3 (fun a70 => lnI G a70 0 (fun x71 => ∃ fl72, f_X1_deals_132 a0 Q fl72 k n l2 (some a70) x71 0 G))) (nn l2 (fun a73 => ldI G a73 0 l4 (fun x74 => ok32 x74 ((isC G a0 0 ∧ f_X1_tell a0 x74 G (fun G75 => k100 k n (some a73) l3 (l4 + 1) G75))))))
theorem w_X1_deals_100_b {a0 : Nat} {Q : Int → Wd → Prop} {k100 : Nat → Nat → Option Nat → Option Nat → Int → Wd → Prop} (hk100 : ∀ {k n : Nat} {l2 : Option Nat} {l3 : Option Nat} {l4 : Int} {G : Wd}, k100 k n l2 l3 l4 G → wp m_X1_deals 7 k n 100 [some (vR (some a0)), none, some (vR l2), some (vR l3), some (vI l4), none, none, none] [] G (qI Q) noX) {k n : Nat} {l2 : Option Nat} {l3 : Option Nat} {l4 : Int} {G : Wd} (h : f_X1_deals_100_b a0 k100 k n l2 l3 l4 G Q) : wp m_X1_deals 7 k n 100 [some (vR (some a0)), none, some (vR l2), some (vR l3), some (vI l4), none, none, none] [] G (qI Q) noX := by
  unfold f_X1_deals_100_b at h
  refine r_iload dX1_deals_100 rfl iI ?_
  refine r_iconst dX1_deals_102 ?_
  refine r_icmp_ge (tgt := 121) dX1_deals_103 (by decide) h (fun h => ?_) (fun h => ?_)
  · refine r_aload_n dX1_deals_121 rfl rfl iR ?_
    refine r_astore (L' := [some (vR (some a0)), none, some (vR l2), some (vR l3), some (vR l3), none, none, none]) dX1_deals_122 rfl iR cR (by decide) ?_
    refine r_aload dX1_deals_124 rfl iR ?_
    obtain ⟨a70, e, h⟩ := h
    refine wp.cast (L' := [some (vR (some a0)), none, some (vR l2), some (vR (some a70)), some (vR (some a70)), none, none, none]) (st' := [vR (some a70)]) (by rw [e]) (by rw [e]) ?_
    refine r_lenI (kd := 0) (by decide) dX1_deals_126 h (fun x71 h => ?_)
    refine r_istore (L' := [some (vR (some a0)), none, some (vR l2), some (vR (some a70)), some (vR (some a70)), some (vI x71), none, none]) dX1_deals_127 rfl iI cR (by decide) ?_
    refine r_iconst dX1_deals_129 ?_
    refine r_istore (L' := [some (vR (some a0)), none, some (vR l2), some (vR (some a70)), some (vR (some a70)), some (vI x71), some (vI 0), none]) dX1_deals_130 rfl iI cI (by decide) ?_
    refine wp.locals (L' := [some (vR (some a0)), none, some (vR l2), none, some (vR (some a70)), some (vI x71), some (vI 0), none]) (ls_s (ls_n (ls_s (ls_n (ls_s (ls_s (ls_s (ls_n ls_0)))))))) ?_
    obtain ⟨fl72, h⟩ := h
    exact w_X1_deals_132 fl72 h
  · refine r_aload_n dX1_deals_106 rfl rfl iR ?_
    refine r_aload_n dX1_deals_107 rfl rfl iR ?_
    refine r_iload dX1_deals_108 rfl iI ?_
    obtain ⟨a73, e, h⟩ := h
    refine wp.cast (L' := [some (vR (some a0)), none, some (vR (some a73)), some (vR l3), some (vI l4), none, none, none]) (st' := [vI l4, vR (some a73), vR (some a0)]) (by rw [e]) (by rw [e]) ?_
    refine r_iald dX1_deals_110 h (fun x74 h => ?_)
    refine r_i2l dX1_deals_111 h (fun h => ?_)
    obtain ⟨hC, h⟩ := h
    refine r_callV dX1_deals_112 hC (c_X1_tell h) q1761 q1763 qs27 q92 q1764 rfl yo_X1_tell rfl (by decide) (by decide) rfl rc0 (by decide) (Nat.zero_le _) (Nat.zero_le _) (ofV fun G75 h => ?_) nox
    refine r_iinc (L' := [some (vR (some a0)), none, some (vR (some a73)), some (vR l3), some (vI (l4 + 1)), none, none, none]) dX1_deals_115 rfl rfl cR (by decide) ?_
    refine r_goto (tgt := 100) dX1_deals_118 (by decide) ?_
    exact hk100 h
def f_X1_deals_100 (a0 : Nat) (Q : Int → Wd → Prop) : Nat → Nat → Nat → Option Nat → Option Nat → Int → Wd → Prop
  | 0, _, _, _, _, _, _ => False
  | fl + 1, k, n, l2, l3, l4, G => f_X1_deals_100_b a0  (fun k n l2 l3 l4 G => f_X1_deals_100 a0  Q fl k n l2 l3 l4 G) k n l2 l3 l4 G Q
theorem w_X1_deals_100 {a0 : Nat} {Q : Int → Wd → Prop} : ∀ (fl : Nat) {k n : Nat} {l2 : Option Nat} {l3 : Option Nat} {l4 : Int} {G : Wd}, f_X1_deals_100 a0 Q fl k n l2 l3 l4 G → wp m_X1_deals 7 k n 100 [some (vR (some a0)), none, some (vR l2), some (vR l3), some (vI l4), none, none, none] [] G (qI Q) noX := by
  intro fl
  induction fl with
  | zero => intro k n l2 l3 l4 G h; exact (show False from h).elim
  | succ fl ih => intro k n l2 l3 l4 G h; exact w_X1_deals_100_b  (fun h => ih h) h
def f_X1_deals_49_b (a0 : Nat) (k49 : Nat → Nat → Int → Option Nat → Option Nat → Int → Wd → Prop) (k n : Nat) (l1 : Int) (l2 : Option Nat) (l3 : Option Nat) (l4 : Int) (G : Wd) (Q : Int → Wd → Prop) : Prop :=
  br l4 l1 (l1 ≤ l4) (pF G a0 [0] 9 (vI 0) (fun G76 => ∃ fl77, f_X1_deals_100 a0 Q fl77 k n l2 l3 1 G76)) (gR G a0 [0] 2 (fun x78 => nn x78 (fun a79 => (isC G a79 1 ∧ f_X2_chosen a79  G (fun x81 G80 => nn x81 (fun a82 => gI G80 a82 [2] 6 (fun x83 => nn l2 (fun a84 => ldI G80 a84 0 x83 (fun x85 => (stI G80 a84 0 x83 (x85 + 1) (fun G86 => gI G86 a82 [2] 0 (fun x87 => nn l3 (fun a88 => ldI G86 a88 0 x87 (fun x89 => (stI G86 a88 0 x87 (x89 + 1) (fun G90 => k49 k n l1 (some a84) (some a88) (l4 + 1) G90))))))))))))))))
theorem w_X1_deals_49_b {a0 : Nat} {Q : Int → Wd → Prop} {k49 : Nat → Nat → Int → Option Nat → Option Nat → Int → Wd → Prop} (hk49 : ∀ {k n : Nat} {l1 : Int} {l2 : Option Nat} {l3 : Option Nat} {l4 : Int} {G : Wd}, k49 k n l1 l2 l3 l4 G → wp m_X1_deals 7 k n 49 [some (vR (some a0)), some (vI l1), some (vR l2), some (vR l3), some (vI l4), none, none, none] [] G (qI Q) noX) {k n : Nat} {l1 : Int} {l2 : Option Nat} {l3 : Option Nat} {l4 : Int} {G : Wd} (h : f_X1_deals_49_b a0 k49 k n l1 l2 l3 l4 G Q) : wp m_X1_deals 7 k n 49 [some (vR (some a0)), some (vI l1), some (vR l2), some (vR l3), some (vI l4), none, none, none] [] G (qI Q) noX := by
  unfold f_X1_deals_49_b at h
  refine r_iload dX1_deals_49 rfl iI ?_
  refine r_iload_n dX1_deals_51 rfl rfl iI ?_
  refine r_icmp_ge (tgt := 92) dX1_deals_52 (by decide) h (fun h => ?_) (fun h => ?_)
  · refine r_aload_n dX1_deals_92 rfl rfl iR ?_
    refine r_iconst dX1_deals_93 ?_
    refine r_put dX1_deals_94 (fp1 (f := 9) fX1 (by decide) q709 rfl rfl rfl) fvI h (fun G76 h => ?_)
    refine r_iconst dX1_deals_97 ?_
    refine r_istore (L' := [some (vR (some a0)), some (vI l1), some (vR l2), some (vR l3), some (vI 1), none, none, none]) dX1_deals_98 rfl iI cR (by decide) ?_
    refine wp.locals (L' := [some (vR (some a0)), none, some (vR l2), some (vR l3), some (vI 1), none, none, none]) (ls_s (ls_n (ls_s (ls_s (ls_s (ls_n (ls_n (ls_n ls_0)))))))) ?_
    obtain ⟨fl77, h⟩ := h
    exact w_X1_deals_100 fl77 h
  · refine r_aload_n dX1_deals_55 rfl rfl iR ?_
    refine r_getR dX1_deals_56 (fg1 (f := 2) fX1 (by decide) q702 rfl) h (fun x78 h => ?_)
    obtain ⟨a79, e, h⟩ := h
    refine wp.cast (L' := [some (vR (some a0)), some (vI l1), some (vR l2), some (vR l3), some (vI l4), none, none, none]) (st' := [vR (some a79)]) rfl (by rw [e]) ?_
    obtain ⟨hC, h⟩ := h
    refine r_callV dX1_deals_59 hC (c_X2_chosen h) q1971 q1715 q1716 q93 q1717 rfl yo_X2_chosen rfl (by decide) (by decide) rfl rc0 (by decide) (Nat.zero_le _) (Nat.zero_le _) (ofR fun x81 G80 h => ?_) nox
    refine r_astore (L' := [some (vR (some a0)), some (vI l1), some (vR l2), some (vR l3), some (vI l4), some (vR x81), none, none]) dX1_deals_62 rfl iR cI (by decide) ?_
    refine r_aload_n dX1_deals_64 rfl rfl iR ?_
    refine r_aload dX1_deals_65 rfl iR ?_
    obtain ⟨a82, e, h⟩ := h
    refine wp.cast (L' := [some (vR (some a0)), some (vI l1), some (vR l2), some (vR l3), some (vI l4), some (vR (some a82)), none, none]) (st' := [vR (some a82), vR l2]) (by rw [e]) (by rw [e]) ?_
    refine r_getI dX1_deals_67 (fg1 (f := 6) fX3 (by decide) q570 rfl) h (fun x83 h => ?_)
    refine r_dup2 dX1_deals_70 c1I c1R ?_
    obtain ⟨a84, e, h⟩ := h
    refine wp.cast (L' := [some (vR (some a0)), some (vI l1), some (vR (some a84)), some (vR l3), some (vI l4), some (vR (some a82)), none, none]) (st' := [vI x83, vR (some a84), vI x83, vR (some a84)]) (by rw [e]) (by rw [e]) ?_
    refine r_iald dX1_deals_71 h (fun x85 h => ?_)
    refine r_iconst dX1_deals_72 ?_
    refine r_iadd dX1_deals_73 ?_
    refine r_iast dX1_deals_74 h (fun G86 h => ?_)
    refine r_aload_n dX1_deals_75 rfl rfl iR ?_
    refine r_aload dX1_deals_76 rfl iR ?_
    refine r_getI dX1_deals_78 (fg1 (f := 0) fX3 (by decide) q555 rfl) h (fun x87 h => ?_)
    refine r_dup2 dX1_deals_81 c1I c1R ?_
    obtain ⟨a88, e, h⟩ := h
    refine wp.cast (L' := [some (vR (some a0)), some (vI l1), some (vR (some a84)), some (vR (some a88)), some (vI l4), some (vR (some a82)), none, none]) (st' := [vI x87, vR (some a88), vI x87, vR (some a88)]) (by rw [e]) (by rw [e]) ?_
    refine r_iald dX1_deals_82 h (fun x89 h => ?_)
    refine r_iconst dX1_deals_83 ?_
    refine r_iadd dX1_deals_84 ?_
    refine r_iast dX1_deals_85 h (fun G90 h => ?_)
    refine r_iinc (L' := [some (vR (some a0)), some (vI l1), some (vR (some a84)), some (vR (some a88)), some (vI (l4 + 1)), some (vR (some a82)), none, none]) dX1_deals_86 rfl rfl cR (by decide) ?_
    refine r_goto (tgt := 49) dX1_deals_89 (by decide) ?_
    refine wp.locals (L' := [some (vR (some a0)), some (vI l1), some (vR (some a84)), some (vR (some a88)), some (vI (l4 + 1)), none, none, none]) (ls_s (ls_s (ls_s (ls_s (ls_s (ls_n (ls_n (ls_n ls_0)))))))) ?_
    exact hk49 h
def f_X1_deals_49 (a0 : Nat) (Q : Int → Wd → Prop) : Nat → Nat → Nat → Int → Option Nat → Option Nat → Int → Wd → Prop
  | 0, _, _, _, _, _, _, _ => False
  | fl + 1, k, n, l1, l2, l3, l4, G => f_X1_deals_49_b a0  (fun k n l1 l2 l3 l4 G => f_X1_deals_49 a0  Q fl k n l1 l2 l3 l4 G) k n l1 l2 l3 l4 G Q
theorem w_X1_deals_49 {a0 : Nat} {Q : Int → Wd → Prop} : ∀ (fl : Nat) {k n : Nat} {l1 : Int} {l2 : Option Nat} {l3 : Option Nat} {l4 : Int} {G : Wd}, f_X1_deals_49 a0 Q fl k n l1 l2 l3 l4 G → wp m_X1_deals 7 k n 49 [some (vR (some a0)), some (vI l1), some (vR l2), some (vR l3), some (vI l4), none, none, none] [] G (qI Q) noX := by
  intro fl
  induction fl with
  | zero => intro k n l1 l2 l3 l4 G h; exact (show False from h).elim
  | succ fl ih => intro k n l1 l2 l3 l4 G h; exact w_X1_deals_49_b  (fun h => ih h) h
def f_X1_deals (k n : Nat) (a0 : Nat) (a1 : Int) (G : Wd) (Q : Int → Wd → Prop) : Prop :=
  ok32 a1 (f_X1_in a1 1 60 G (fun x92 G91 => brB x92 (gR G91 a0 [0] 0 (fun x93 => nn x93 (fun a94 => (isC G91 a94 1 ∧ f_X2_hasWork a94  G91 (fun x96 G95 => brB x96 (gR G95 a0 [0] 2 (fun x97 => gR G95 a0 [0] 0 (fun x98 => nn x97 (fun a99 => (∃ k101 n102, (k101 ≤ k ∧ n102 ≤ n) ∧ (isC G95 a99 1 ∧ f_X2_be k101 n102 a99 x98 G95 (fun G100 => nA G100 (k - k101) (n - n102) 4 (fun l => aI 0 l (fun _ => 0)) (fun a103 G104 => nA G104 ((k - k101) - 1) ((n - n102) - (4 : Int).toNat) 5 (fun l => aI 0 l (fun _ => 0)) (fun a105 G106 => ∃ fl107, f_X1_deals_49 a0 Q fl107 (((k - k101) - 1) - 1) (((n - n102) - (4 : Int).toNat) - (5 : Int).toNat) a1 (some a103) (some a105) 0 G106))))))))) (Q (-2) G95)))))) (Q (-1) G91)))
theorem w_X1_deals {a0 : Nat} {Q : Int → Wd → Prop} {k n : Nat} {a1 : Int} {G : Wd} (h : f_X1_deals k n a0 a1 G Q) : wp m_X1_deals 7 k n 0 [some (vR (some a0)), some (vI a1), none, none, none, none, none, none] [] G (qI Q) noX := by
  unfold f_X1_deals at h
  refine r_iload_n dX1_deals_0 rfl rfl iI ?_
  refine r_i2l dX1_deals_1 h (fun h => ?_)
  refine r_lconst (y := 1) dX1_deals_2 (by decide) ?_
  refine r_ldc2 (x := 60) dX1_deals_3 q1515 (by decide) ?_
  refine r_callS dX1_deals_6 (c_X1_in h) q776 q777 q92 q778 yo_X1_in rfl (by decide) (by decide) rfl rc0 (by decide) (Nat.zero_le _) (Nat.zero_le _) (ofB fun x92 G91 h => ?_) nox
  refine r_ifZ_ne (tgt := 14) dX1_deals_9 (by decide) h (fun h => ?_) (fun h => ?_)
  · refine r_aload_n dX1_deals_14 rfl rfl iR ?_
    refine r_getR dX1_deals_15 (fg1 (f := 0) fX1 (by decide) q700 rfl) h (fun x93 h => ?_)
    obtain ⟨a94, e, h⟩ := h
    refine wp.cast (L' := [some (vR (some a0)), some (vI a1), none, none, none, none, none, none]) (st' := [vR (some a94)]) rfl (by rw [e]) ?_
    obtain ⟨hC, h⟩ := h
    refine r_callV dX1_deals_18 hC (c_X2_hasWork h) q1970 q1707 q1708 q93 q1709 rfl yo_X2_hasWork rfl (by decide) (by decide) rfl rc0 (by decide) (Nat.zero_le _) (Nat.zero_le _) (ofB fun x96 G95 h => ?_) nox
    refine r_ifZ_ne (tgt := 27) dX1_deals_21 (by decide) h (fun h => ?_) (fun h => ?_)
    · refine r_aload_n dX1_deals_27 rfl rfl iR ?_
      refine r_getR dX1_deals_28 (fg1 (f := 2) fX1 (by decide) q702 rfl) h (fun x97 h => ?_)
      refine r_aload_n dX1_deals_31 rfl rfl iR ?_
      refine r_getR dX1_deals_32 (fg1 (f := 0) fX1 (by decide) q700 rfl) h (fun x98 h => ?_)
      obtain ⟨a99, e, h⟩ := h
      refine wp.cast (L' := [some (vR (some a0)), some (vI a1), none, none, none, none, none, none]) (st' := [vR x98, vR (some a99)]) rfl (by rw [e]) ?_
      obtain ⟨k101, n102, ⟨hk1, hn1⟩, h⟩ := h
      obtain ⟨hC, h⟩ := h
      refine r_callV dX1_deals_35 hC (c_X2_be h) q1076 q1077 q1078 q93 q1079 rfl yo_X2_be rfl (by decide) (by decide) rfl rc0 (by decide) hk1 hn1 (ofV fun G100 h => ?_) nox
      refine r_iconst dX1_deals_38 ?_
      refine r_newI dX1_deals_39 h (fun a103 G104 h => ?_)
      refine r_astore_n (L' := [some (vR (some a0)), some (vI a1), some (vR (some a103)), none, none, none, none, none]) dX1_deals_41 rfl rfl iR cI (by decide) ?_
      refine r_iconst dX1_deals_42 ?_
      refine r_newI dX1_deals_43 h (fun a105 G106 h => ?_)
      refine r_astore_n (L' := [some (vR (some a0)), some (vI a1), some (vR (some a103)), some (vR (some a105)), none, none, none, none]) dX1_deals_45 rfl rfl iR cR (by decide) ?_
      refine r_iconst dX1_deals_46 ?_
      refine r_istore (L' := [some (vR (some a0)), some (vI a1), some (vR (some a103)), some (vR (some a105)), some (vI 0), none, none, none]) dX1_deals_47 rfl iI cR (by decide) ?_
      obtain ⟨fl107, h⟩ := h
      exact w_X1_deals_49 fl107 h
    · refine r_bipush dX1_deals_24 (by decide) ?_
      exact r_iret rfl dX1_deals_26 ⟨_, rfl, h⟩
  · refine r_iconst dX1_deals_12 ?_
    exact r_iret rfl dX1_deals_13 ⟨_, rfl, h⟩
theorem c_X1_deals {a0 : Nat} {a1 : Int} {k n : Nat} {Q : Int → Wd → Prop} {G : Wd} (h : f_X1_deals k n a0 a1 G Q) : call yX1_deals (Cond.code yX1_deals cX1_deals 8 (some .int)) 7 k n [vR (some a0), vI a1] G (qI Q) noX :=
  call.enter (by decide +kernel) (la_1 c1R (la_1 c1I (la_nil rfl))) rfl (w_X1_deals h)
abbrev m_X2_fetch : Mt := (yX2_fetch.cls, cX2_fetch, 6, none, [], yX2_fetch.name)
theorem yo_X2_fetch : yOK yX2_fetch 1 := ⟨by decide +kernel, by decide +kernel, by decide +kernel⟩
def f_X2_fetch_105 (a0 : Nat) (k n : Nat) (l3 : Option Nat) (G : Wd) (Q : Wd → Prop) : Prop :=
  gR G a0 [1] 2 (fun x63 => nO G k n 9 4 zX10 (fun a64 G65 => f_X10_init a64 l3 4 0 G65 (fun G66 => nn x63 (fun a67 => (∃ k69 n70, (k69 ≤ (k - 1) ∧ n70 ≤ (n - 4)) ∧ (isC G66 a67 12 ∧ f_J3_addLast k69 n70 a67 (some a64) G66 (fun G68 => Q G68)))))))
theorem w_X2_fetch_105 {a0 : Nat} {Q : Wd → Prop} {k n : Nat} {l3 : Option Nat} {G : Wd} (h : f_X2_fetch_105 a0 k n l3 G Q) : wp m_X2_fetch 222 k n 105 [some (vR (some a0)), none, none, some (vR l3), none, none] [] G (qV Q) noX := by
  unfold f_X2_fetch_105 at h
  refine r_aload_n dX2_fetch_105 rfl rfl iR ?_
  refine r_getR dX2_fetch_106 (fg1 (f := 2) fX2 (by decide) q640 rfl) h (fun x63 h => ?_)
  refine r_new dX2_fetch_109 fX10 q1424 q1567 q131 dfX10 h (fun a64 G65 h => ?_)
  refine r_dup dX2_fetch_112 c1R ?_
  refine r_aload_n dX2_fetch_113 rfl rfl iR ?_
  refine r_iconst dX2_fetch_114 ?_
  refine r_iconst dX2_fetch_115 ?_
  refine r_callI dX2_fetch_116 (c_X10_init h) rfl q1568 q1569 q131 q1570 yo_X10_init rfl (by decide) (by decide) rfl (rc1 c1R (rc1 c1R rc0)) (by decide) (Nat.zero_le _) (Nat.zero_le _) (ofV fun G66 h => ?_) nox
  obtain ⟨a67, e, h⟩ := h
  refine wp.cast (L' := [some (vR (some a0)), none, none, some (vR l3), none, none]) (st' := [vR (some a64), vR (some a67)]) rfl (by rw [e]) ?_
  obtain ⟨k69, n70, ⟨hk1, hn1⟩, h⟩ := h
  obtain ⟨hC, h⟩ := h
  refine r_callV dX2_fetch_119 hC (c_J3_addLast h) q1395 q1396 q1397 q97 q1398 rfl yo_J3_addLast rfl (by decide) (by decide) rfl rc0 (by decide) hk1 hn1 (ofV fun G68 h => ?_) nox
  exact r_vret rfl dX2_fetch_122 ⟨rfl, h⟩
def f_X2_fetch_81 (a0 : Nat) (k n : Nat) (l1 : Option Nat) (l2 : Option Nat) (l3 : Option Nat) (s0 : Option Nat) (G : Wd) (Q : Wd → Prop) : Prop :=
  brN s0 (f_X2_fetch_105 a0 k n l3 G Q) (fun a71 => gI G a71 [7] 2 (fun x72 => br x72 3 (¬ x72 = (3 : Int)) (f_X2_fetch_105 a0 k n l3 G Q) (gZ G a71 [7] 5 (fun x73 => brB x73 (f_X2_fetch_105 a0 k n l3 G Q) ((∃ k75 n76, (k75 ≤ k ∧ n76 ≤ n) ∧ (isC G a0 1 ∧ f_X2_timeOf k75 n76 a0 l1 l3 l2 G (fun x77 G74 => gR G74 a0 [1] 1 (fun x78 => nO G74 (k - k75) (n - n76) 8 3 zX9 (fun a79 G80 => (isC G80 a0 1 ∧ f_X2_nextOf a0 l2 G80 (fun x82 G81 => f_X9_init a79 l3 x82 x77 G81 (fun G83 => nn x78 (fun a84 => (∃ k86 n87, (k86 ≤ ((k - k75) - 1) ∧ n87 ≤ ((n - n76) - 3)) ∧ (isC G83 a84 12 ∧ f_J3_addLast k86 n87 a84 (some a79) G83 (fun G85 => Q G85)))))))))))))))))
theorem w_X2_fetch_81 {a0 : Nat} {Q : Wd → Prop} {k n : Nat} {l1 : Option Nat} {l2 : Option Nat} {l3 : Option Nat} {s0 : Option Nat} {G : Wd} (h : f_X2_fetch_81 a0 k n l1 l2 l3 s0 G Q) : wp m_X2_fetch 222 k n 81 [some (vR (some a0)), some (vR l1), some (vR l2), some (vR l3), none, none] [vR s0] G (qV Q) noX := by
  unfold f_X2_fetch_81 at h
  refine r_astore (L' := [some (vR (some a0)), some (vR l1), some (vR l2), some (vR l3), some (vR s0), none]) dX2_fetch_81 rfl iR cR (by decide) ?_
  refine r_aload dX2_fetch_83 rfl iR ?_
  refine r_ifnullV (tgt := 105) dX2_fetch_85 (by decide) h (fun e h => ?_) (fun a71 e h => ?_)
  · refine wp.cast (L' := [some (vR (some a0)), some (vR l1), some (vR l2), some (vR l3), some (vR none), none]) (st' := []) (by rw [e]) rfl ?_
    refine wp.locals (L' := [some (vR (some a0)), none, none, some (vR l3), none, none]) (ls_s (ls_n (ls_n (ls_s (ls_n (ls_n ls_0)))))) ?_
    exact w_X2_fetch_105 h
  · refine wp.cast (L' := [some (vR (some a0)), some (vR l1), some (vR l2), some (vR l3), some (vR (some a71)), none]) (st' := []) (by rw [e]) rfl ?_
    refine r_aload dX2_fetch_88 rfl iR ?_
    refine r_getI dX2_fetch_90 (fg1 (f := 2) fX8 (by decide) q1468 rfl) h (fun x72 h => ?_)
    refine r_iconst dX2_fetch_93 ?_
    refine r_icmp_ne (tgt := 105) dX2_fetch_94 (by decide) h (fun h => ?_) (fun h => ?_)
    · refine wp.locals (L' := [some (vR (some a0)), none, none, some (vR l3), none, none]) (ls_s (ls_n (ls_n (ls_s (ls_n (ls_n ls_0)))))) ?_
      exact w_X2_fetch_105 h
    · refine r_aload dX2_fetch_97 rfl iR ?_
      refine r_getZ dX2_fetch_99 (fg1 (f := 5) fX8 (by decide) q1478 rfl) h (fun x73 h => ?_)
      refine r_ifZ_eq (tgt := 123) dX2_fetch_102 (by decide) h (fun h => ?_) (fun h => ?_)
      · refine r_aload_n dX2_fetch_123 rfl rfl iR ?_
        refine r_aload_n dX2_fetch_124 rfl rfl iR ?_
        refine r_aload_n dX2_fetch_125 rfl rfl iR ?_
        refine r_aload_n dX2_fetch_126 rfl rfl iR ?_
        obtain ⟨k75, n76, ⟨hk1, hn1⟩, h⟩ := h
        obtain ⟨hC, h⟩ := h
        refine r_callV dX2_fetch_127 hC (c_X2_timeOf h) q1742 q1743 q1744 q93 q1745 rfl yo_X2_timeOf rfl (by decide) (by decide) rfl rc0 (by decide) hk1 hn1 (ofI fun x77 G74 h => ?_) nox
        refine r_istore (L' := [some (vR (some a0)), some (vR l1), some (vR l2), some (vR l3), some (vR (some a71)), some (vI x77)]) dX2_fetch_130 rfl iI cR (by decide) ?_
        refine r_aload_n dX2_fetch_132 rfl rfl iR ?_
        refine r_getR dX2_fetch_133 (fg1 (f := 1) fX2 (by decide) q637 rfl) h (fun x78 h => ?_)
        refine r_new dX2_fetch_136 fX9 q1394 q1538 q130 dfX9 h (fun a79 G80 h => ?_)
        refine r_dup dX2_fetch_139 c1R ?_
        refine r_aload_n dX2_fetch_140 rfl rfl iR ?_
        refine r_aload_n dX2_fetch_141 rfl rfl iR ?_
        refine r_aload_n dX2_fetch_142 rfl rfl iR ?_
        obtain ⟨hC, h⟩ := h
        refine r_callV dX2_fetch_143 hC (c_X2_nextOf h) q1726 q1728 qs26 q93 q1729 rfl yo_X2_nextOf rfl (by decide) (by decide) rfl (rc1 c1R (rc1 c1R (rc1 c1R (rc1 c1R rc0)))) (by decide) (Nat.zero_le _) (Nat.zero_le _) (ofR fun x82 G81 h => ?_) nox
        refine r_iload dX2_fetch_146 rfl iI ?_
        refine r_callI dX2_fetch_148 (c_X9_init h) rfl q1753 q1540 q130 q1541 yo_X9_init rfl (by decide) (by decide) rfl (rc1 c1R (rc1 c1R rc0)) (by decide) (Nat.zero_le _) (Nat.zero_le _) (ofV fun G83 h => ?_) nox
        obtain ⟨a84, e, h⟩ := h
        refine wp.cast (L' := [some (vR (some a0)), some (vR l1), some (vR l2), some (vR l3), some (vR (some a71)), some (vI x77)]) (st' := [vR (some a79), vR (some a84)]) rfl (by rw [e]) ?_
        obtain ⟨k86, n87, ⟨hk1, hn1⟩, h⟩ := h
        obtain ⟨hC, h⟩ := h
        refine r_callV dX2_fetch_151 hC (c_J3_addLast h) q1395 q1396 q1397 q97 q1398 rfl yo_J3_addLast rfl (by decide) (by decide) rfl rc0 (by decide) hk1 hn1 (ofV fun G85 h => ?_) nox
        exact r_vret rfl dX2_fetch_154 ⟨rfl, h⟩
      · refine wp.locals (L' := [some (vR (some a0)), none, none, some (vR l3), none, none]) (ls_s (ls_n (ls_n (ls_s (ls_n (ls_n ls_0)))))) ?_
        exact w_X2_fetch_105 h
def f_X2_fetch_80 (a0 : Nat) (k n : Nat) (l1 : Option Nat) (l2 : Option Nat) (l3 : Option Nat) (G : Wd) (Q : Wd → Prop) : Prop :=
  f_X2_fetch_81 a0 k n l1 l2 l3 none G Q
theorem w_X2_fetch_80 {a0 : Nat} {Q : Wd → Prop} {k n : Nat} {l1 : Option Nat} {l2 : Option Nat} {l3 : Option Nat} {G : Wd} (h : f_X2_fetch_80 a0 k n l1 l2 l3 G Q) : wp m_X2_fetch 222 k n 80 [some (vR (some a0)), some (vR l1), some (vR l2), some (vR l3), none, none] [] G (qV Q) noX := by
  unfold f_X2_fetch_80 at h
  refine r_null dX2_fetch_80 ?_
  exact w_X2_fetch_81 h
def f_X2_fetch_52 (a0 : Nat) (k n : Nat) (l1 : Option Nat) (l2 : Option Nat) (l3 : Option Nat) (G : Wd) (Q : Wd → Prop) : Prop :=
  nn l3 (fun a88 => gI G a88 [7] 2 (fun x89 => br x89 2 (¬ x89 = (2 : Int)) (f_X2_fetch_80 a0 k n l1 l2 (some a88) G Q) (nn l2 (fun a90 => (isC G a90 2 ∧ f_X3_hasWork a90  G (fun x92 G91 => brB x92 (gR G91 a90 [2] 1 (fun x93 => nn x93 (fun a94 => (isC G91 a94 13 ∧ f_J4_peekFirst a94  G91 (fun x96 G95 => cst G95 x96 [7] (f_X2_fetch_81 a0 k n l1 (some a90) (some a88) x96 G95 Q)))))) (f_X2_fetch_80 a0 k n l1 (some a90) (some a88) G91 Q)))))))
theorem w_X2_fetch_52 {a0 : Nat} {Q : Wd → Prop} {k n : Nat} {l1 : Option Nat} {l2 : Option Nat} {l3 : Option Nat} {G : Wd} (h : f_X2_fetch_52 a0 k n l1 l2 l3 G Q) : wp m_X2_fetch 222 k n 52 [some (vR (some a0)), some (vR l1), some (vR l2), some (vR l3), none, none] [] G (qV Q) noX := by
  unfold f_X2_fetch_52 at h
  refine r_aload_n dX2_fetch_52 rfl rfl iR ?_
  obtain ⟨a88, e, h⟩ := h
  refine wp.cast (L' := [some (vR (some a0)), some (vR l1), some (vR l2), some (vR (some a88)), none, none]) (st' := [vR (some a88)]) (by rw [e]) (by rw [e]) ?_
  refine r_getI dX2_fetch_53 (fg1 (f := 2) fX8 (by decide) q1468 rfl) h (fun x89 h => ?_)
  refine r_iconst dX2_fetch_56 ?_
  refine r_icmp_ne (tgt := 80) dX2_fetch_57 (by decide) h (fun h => ?_) (fun h => ?_)
  · exact w_X2_fetch_80 h
  · refine r_aload_n dX2_fetch_60 rfl rfl iR ?_
    obtain ⟨a90, e, h⟩ := h
    refine wp.cast (L' := [some (vR (some a0)), some (vR l1), some (vR (some a90)), some (vR (some a88)), none, none]) (st' := [vR (some a90)]) (by rw [e]) (by rw [e]) ?_
    obtain ⟨hC, h⟩ := h
    refine r_callV dX2_fetch_61 hC (c_X3_hasWork h) q1702 q1703 q1704 q98 q1705 rfl yo_X3_hasWork rfl (by decide) (by decide) rfl rc0 (by decide) (Nat.zero_le _) (Nat.zero_le _) (ofB fun x92 G91 h => ?_) nox
    refine r_ifZ_eq (tgt := 80) dX2_fetch_64 (by decide) h (fun h => ?_) (fun h => ?_)
    · exact w_X2_fetch_80 h
    · refine r_aload_n dX2_fetch_67 rfl rfl iR ?_
      refine r_getR dX2_fetch_68 (fg1 (f := 1) fX3 (by decide) q557 rfl) h (fun x93 h => ?_)
      obtain ⟨a94, e, h⟩ := h
      refine wp.cast (L' := [some (vR (some a0)), some (vR l1), some (vR (some a90)), some (vR (some a88)), none, none]) (st' := [vR (some a94)]) rfl (by rw [e]) ?_
      obtain ⟨hC, h⟩ := h
      refine r_callV dX2_fetch_71 hC (c_J4_peekFirst h) q1738 q1739 q1740 q99 q1741 rfl yo_J4_peekFirst rfl (by decide) (by decide) rfl rc0 (by decide) (Nat.zero_le _) (Nat.zero_le _) (ofR fun x96 G95 h => ?_) nox
      refine r_ccast (ci := 7) dX2_fetch_74 q1737 rfl h (fun h => ?_)
      refine r_goto (tgt := 81) dX2_fetch_77 (by decide) ?_
      exact w_X2_fetch_81 h
def f_X2_fetch (k n : Nat) (a0 : Nat) (a1 : Option Nat) (G : Wd) (Q : Wd → Prop) : Prop :=
  (isC G a0 1 ∧ f_X2_chosen a0  G (fun x98 G97 => (isC G97 a0 1 ∧ f_X2_nextOf a0 x98 G97 (fun x100 G99 => nn x100 (fun a101 => gZ G99 a101 [7] 5 (fun x102 => brB x102 (gR G99 a0 [1] 2 (fun x117 => nO G99 k n 9 4 zX10 (fun a118 G119 => f_X10_init a118 (some a101) 1 0 G119 (fun G120 => nn x117 (fun a121 => (∃ k123 n124, (k123 ≤ (k - 1) ∧ n124 ≤ (n - 4)) ∧ (isC G120 a121 12 ∧ f_J3_addLast k123 n124 a121 (some a118) G120 (fun G122 => Q G122)))))))) (gI G99 a101 [7] 2 (fun x103 => br x103 2 (x103 = (2 : Int)) (f_X2_fetch_52 a0 k n a1 x98 (some a101) G99 Q) (gI G99 a101 [7] 2 (fun x104 => br x104 3 (¬ x104 = (3 : Int)) (gR G99 a0 [1] 1 (fun x105 => nO G99 k n 8 3 zX9 (fun a106 G107 => (∃ k109 n110, (k109 ≤ (k - 1) ∧ n110 ≤ (n - 3)) ∧ (isC G107 a0 1 ∧ f_X2_timeOf k109 n110 a0 a1 (some a101) x98 G107 (fun x111 G108 => f_X9_init a106 (some a101) none x111 G108 (fun G112 => nn x105 (fun a113 => (∃ k115 n116, (k115 ≤ ((k - 1) - k109) ∧ n116 ≤ ((n - 3) - n110)) ∧ (isC G112 a113 12 ∧ f_J3_addLast k115 n116 a113 (some a106) G112 (fun G114 => Q G114))))))))))) (f_X2_fetch_52 a0 k n a1 x98 (some a101) G99 Q)))))))))))
theorem w_X2_fetch {a0 : Nat} {Q : Wd → Prop} {k n : Nat} {a1 : Option Nat} {G : Wd} (h : f_X2_fetch k n a0 a1 G Q) : wp m_X2_fetch 222 k n 0 [some (vR (some a0)), some (vR a1), none, none, none, none] [] G (qV Q) noX := by
  unfold f_X2_fetch at h
  refine r_aload_n dX2_fetch_0 rfl rfl iR ?_
  obtain ⟨hC, h⟩ := h
  refine r_callV dX2_fetch_1 hC (c_X2_chosen h) q1714 q1715 q1716 q93 q1717 rfl yo_X2_chosen rfl (by decide) (by decide) rfl rc0 (by decide) (Nat.zero_le _) (Nat.zero_le _) (ofR fun x98 G97 h => ?_) nox
  refine r_astore_n (L' := [some (vR (some a0)), some (vR a1), some (vR x98), none, none, none]) dX2_fetch_4 rfl rfl iR cR (by decide) ?_
  refine r_aload_n dX2_fetch_5 rfl rfl iR ?_
  refine r_aload_n dX2_fetch_6 rfl rfl iR ?_
  obtain ⟨hC, h⟩ := h
  refine r_callV dX2_fetch_7 hC (c_X2_nextOf h) q1726 q1728 qs26 q93 q1729 rfl yo_X2_nextOf rfl (by decide) (by decide) rfl rc0 (by decide) (Nat.zero_le _) (Nat.zero_le _) (ofR fun x100 G99 h => ?_) nox
  refine r_astore_n (L' := [some (vR (some a0)), some (vR a1), some (vR x98), some (vR x100), none, none]) dX2_fetch_10 rfl rfl iR cR (by decide) ?_
  refine r_aload_n dX2_fetch_11 rfl rfl iR ?_
  obtain ⟨a101, e, h⟩ := h
  refine wp.cast (L' := [some (vR (some a0)), some (vR a1), some (vR x98), some (vR (some a101)), none, none]) (st' := [vR (some a101)]) (by rw [e]) (by rw [e]) ?_
  refine r_getZ dX2_fetch_12 (fg1 (f := 5) fX8 (by decide) q1478 rfl) h (fun x102 h => ?_)
  refine r_ifZ_eq (tgt := 36) dX2_fetch_15 (by decide) h (fun h => ?_) (fun h => ?_)
  · refine r_aload_n dX2_fetch_36 rfl rfl iR ?_
    refine r_getI dX2_fetch_37 (fg1 (f := 2) fX8 (by decide) q1468 rfl) h (fun x103 h => ?_)
    refine r_iconst dX2_fetch_40 ?_
    refine r_icmp_eq (tgt := 52) dX2_fetch_41 (by decide) h (fun h => ?_) (fun h => ?_)
    · exact w_X2_fetch_52 h
    · refine r_aload_n dX2_fetch_44 rfl rfl iR ?_
      refine r_getI dX2_fetch_45 (fg1 (f := 2) fX8 (by decide) q1468 rfl) h (fun x104 h => ?_)
      refine r_iconst dX2_fetch_48 ?_
      refine r_icmp_ne (tgt := 155) dX2_fetch_49 (by decide) h (fun h => ?_) (fun h => ?_)
      · refine r_aload_n dX2_fetch_155 rfl rfl iR ?_
        refine r_getR dX2_fetch_156 (fg1 (f := 1) fX2 (by decide) q637 rfl) h (fun x105 h => ?_)
        refine r_new dX2_fetch_159 fX9 q1394 q1538 q130 dfX9 h (fun a106 G107 h => ?_)
        refine r_dup dX2_fetch_162 c1R ?_
        refine r_aload_n dX2_fetch_163 rfl rfl iR ?_
        refine r_null dX2_fetch_164 ?_
        refine r_aload_n dX2_fetch_165 rfl rfl iR ?_
        refine r_aload_n dX2_fetch_166 rfl rfl iR ?_
        refine r_aload_n dX2_fetch_167 rfl rfl iR ?_
        refine r_aload_n dX2_fetch_168 rfl rfl iR ?_
        obtain ⟨k109, n110, ⟨hk1, hn1⟩, h⟩ := h
        obtain ⟨hC, h⟩ := h
        refine r_callV dX2_fetch_169 hC (c_X2_timeOf h) q1742 q1743 q1744 q93 q1745 rfl yo_X2_timeOf rfl (by decide) (by decide) rfl (rc1 c1R (rc1 c1R (rc1 c1R (rc1 c1R (rc1 c1R rc0))))) (by decide) hk1 hn1 (ofI fun x111 G108 h => ?_) nox
        refine r_callI dX2_fetch_172 (c_X9_init h) rfl q1753 q1540 q130 q1541 yo_X9_init rfl (by decide) (by decide) rfl (rc1 c1R (rc1 c1R rc0)) (by decide) (Nat.zero_le _) (Nat.zero_le _) (ofV fun G112 h => ?_) nox
        obtain ⟨a113, e, h⟩ := h
        refine wp.cast (L' := [some (vR (some a0)), some (vR a1), some (vR x98), some (vR (some a101)), none, none]) (st' := [vR (some a106), vR (some a113)]) rfl (by rw [e]) ?_
        obtain ⟨k115, n116, ⟨hk1, hn1⟩, h⟩ := h
        obtain ⟨hC, h⟩ := h
        refine r_callV dX2_fetch_175 hC (c_J3_addLast h) q1395 q1396 q1397 q97 q1398 rfl yo_J3_addLast rfl (by decide) (by decide) rfl rc0 (by decide) hk1 hn1 (ofV fun G114 h => ?_) nox
        exact r_vret rfl dX2_fetch_178 ⟨rfl, h⟩
      · exact w_X2_fetch_52 h
  · refine r_aload_n dX2_fetch_18 rfl rfl iR ?_
    refine r_getR dX2_fetch_19 (fg1 (f := 2) fX2 (by decide) q640 rfl) h (fun x117 h => ?_)
    refine r_new dX2_fetch_22 fX10 q1424 q1567 q131 dfX10 h (fun a118 G119 h => ?_)
    refine r_dup dX2_fetch_25 c1R ?_
    refine r_aload_n dX2_fetch_26 rfl rfl iR ?_
    refine r_iconst dX2_fetch_27 ?_
    refine r_iconst dX2_fetch_28 ?_
    refine r_callI dX2_fetch_29 (c_X10_init h) rfl q1568 q1569 q131 q1570 yo_X10_init rfl (by decide) (by decide) rfl (rc1 c1R (rc1 c1R rc0)) (by decide) (Nat.zero_le _) (Nat.zero_le _) (ofV fun G120 h => ?_) nox
    obtain ⟨a121, e, h⟩ := h
    refine wp.cast (L' := [some (vR (some a0)), some (vR a1), some (vR x98), some (vR (some a101)), none, none]) (st' := [vR (some a118), vR (some a121)]) rfl (by rw [e]) ?_
    obtain ⟨k123, n124, ⟨hk1, hn1⟩, h⟩ := h
    obtain ⟨hC, h⟩ := h
    refine r_callV dX2_fetch_32 hC (c_J3_addLast h) q1395 q1396 q1397 q97 q1398 rfl yo_J3_addLast rfl (by decide) (by decide) rfl rc0 (by decide) hk1 hn1 (ofV fun G122 h => ?_) nox
    exact r_vret rfl dX2_fetch_35 ⟨rfl, h⟩
theorem c_X2_fetch {a0 : Nat} {a1 : Option Nat} {k n : Nat} {Q : Wd → Prop} {G : Wd} (h : f_X2_fetch k n a0 a1 G Q) : call yX2_fetch (Cond.code yX2_fetch cX2_fetch 6 (none)) 222 k n [vR (some a0), vR a1] G (qV Q) noX :=
  call.enter (by decide +kernel) (la_1 c1R (la_1 c1R (la_nil rfl))) rfl (w_X2_fetch h)
abbrev m_X2_goTick : Mt := (yX2_goTick.cls, cX2_goTick, 2, none, [], yX2_goTick.name)
theorem yo_X2_goTick : yOK yX2_goTick 1 := ⟨by decide +kernel, by decide +kernel, by decide +kernel⟩
def f_X2_goTick_41 (a0 : Nat) (k n : Nat) (G : Wd) (Q : Wd → Prop) : Prop :=
  gI G a0 [1] 10 (fun x20 => pF G a0 [1] 10 (vI (x20 + 1)) (fun G21 => Q G21))
theorem w_X2_goTick_41 {a0 : Nat} {Q : Wd → Prop} {k n : Nat} {G : Wd} (h : f_X2_goTick_41 a0 k n G Q) : wp m_X2_goTick 223 k n 41 [some (vR (some a0)), none] [] G (qV Q) noX := by
  unfold f_X2_goTick_41 at h
  refine r_aload_n dX2_goTick_41 rfl rfl iR ?_
  refine r_dup dX2_goTick_42 c1R ?_
  refine r_getI dX2_goTick_43 (fg1 (f := 10) fX2 (by decide) q655 rfl) h (fun x20 h => ?_)
  refine r_iconst dX2_goTick_46 ?_
  refine r_iadd dX2_goTick_47 ?_
  refine r_put dX2_goTick_48 (fp1 (f := 10) fX2 (by decide) q655 rfl rfl rfl) fvI h (fun G21 h => ?_)
  exact r_vret rfl dX2_goTick_51 ⟨rfl, h⟩
def f_X2_goTick_12_b (a0 : Nat) (k12 : Nat → Nat → Option Nat → Wd → Prop) (k n : Nat) (l1 : Option Nat) (G : Wd) (Q : Wd → Prop) : Prop :=
  gR G a0 [1] 1 (fun x22 => nn x22 (fun a23 => (isC G a23 12 ∧ f_J3_size a23  G (fun x25 G24 => gI G24 a0 [1] 9 (fun x26 => br x25 x26 (x26 ≤ x25) (f_X2_goTick_41 a0 k n G24 Q) ((isC G24 a0 1 ∧ f_X2_hasWork a0  G24 (fun x28 G27 => brB x28 ((∃ k30 n31, (k30 ≤ k ∧ n31 ≤ n) ∧ (isC G27 a0 1 ∧ f_X2_fetch k30 n31 a0 l1 G27 (fun G29 => k12 (k - k30) (n - n31) l1 G29)))) (f_X2_goTick_41 a0 k n G27 Q)))))))))
theorem w_X2_goTick_12_b {a0 : Nat} {Q : Wd → Prop} {k12 : Nat → Nat → Option Nat → Wd → Prop} (hk12 : ∀ {k n : Nat} {l1 : Option Nat} {G : Wd}, k12 k n l1 G → wp m_X2_goTick 223 k n 12 [some (vR (some a0)), some (vR l1)] [] G (qV Q) noX) {k n : Nat} {l1 : Option Nat} {G : Wd} (h : f_X2_goTick_12_b a0 k12 k n l1 G Q) : wp m_X2_goTick 223 k n 12 [some (vR (some a0)), some (vR l1)] [] G (qV Q) noX := by
  unfold f_X2_goTick_12_b at h
  refine r_aload_n dX2_goTick_12 rfl rfl iR ?_
  refine r_getR dX2_goTick_13 (fg1 (f := 1) fX2 (by decide) q637 rfl) h (fun x22 h => ?_)
  obtain ⟨a23, e, h⟩ := h
  refine wp.cast (L' := [some (vR (some a0)), some (vR l1)]) (st' := [vR (some a23)]) rfl (by rw [e]) ?_
  obtain ⟨hC, h⟩ := h
  refine r_callV dX2_goTick_16 hC (c_J3_size h) q1524 q1015 q1016 q97 q1017 rfl yo_J3_size rfl (by decide) (by decide) rfl rc0 (by decide) (Nat.zero_le _) (Nat.zero_le _) (ofI fun x25 G24 h => ?_) nox
  refine r_aload_n dX2_goTick_19 rfl rfl iR ?_
  refine r_getI dX2_goTick_20 (fg1 (f := 9) fX2 (by decide) q653 rfl) h (fun x26 h => ?_)
  refine r_icmp_ge (tgt := 41) dX2_goTick_23 (by decide) h (fun h => ?_) (fun h => ?_)
  · refine wp.locals (L' := [some (vR (some a0)), none]) (ls_s (ls_n ls_0)) ?_
    exact w_X2_goTick_41 h
  · refine r_aload_n dX2_goTick_26 rfl rfl iR ?_
    obtain ⟨hC, h⟩ := h
    refine r_callV dX2_goTick_27 hC (c_X2_hasWork h) q1706 q1707 q1708 q93 q1709 rfl yo_X2_hasWork rfl (by decide) (by decide) rfl rc0 (by decide) (Nat.zero_le _) (Nat.zero_le _) (ofB fun x28 G27 h => ?_) nox
    refine r_ifZ_eq (tgt := 41) dX2_goTick_30 (by decide) h (fun h => ?_) (fun h => ?_)
    · refine wp.locals (L' := [some (vR (some a0)), none]) (ls_s (ls_n ls_0)) ?_
      exact w_X2_goTick_41 h
    · refine r_aload_n dX2_goTick_33 rfl rfl iR ?_
      refine r_aload_n dX2_goTick_34 rfl rfl iR ?_
      obtain ⟨k30, n31, ⟨hk1, hn1⟩, h⟩ := h
      obtain ⟨hC, h⟩ := h
      refine r_callV dX2_goTick_35 hC (c_X2_fetch h) q1710 q1711 q1712 q93 q1713 rfl yo_X2_fetch rfl (by decide) (by decide) rfl rc0 (by decide) hk1 hn1 (ofV fun G29 h => ?_) nox
      refine r_goto (tgt := 12) dX2_goTick_38 (by decide) ?_
      exact hk12 h
def f_X2_goTick_12 (a0 : Nat) (Q : Wd → Prop) : Nat → Nat → Nat → Option Nat → Wd → Prop
  | 0, _, _, _, _ => False
  | fl + 1, k, n, l1, G => f_X2_goTick_12_b a0  (fun k n l1 G => f_X2_goTick_12 a0  Q fl k n l1 G) k n l1 G Q
theorem w_X2_goTick_12 {a0 : Nat} {Q : Wd → Prop} : ∀ (fl : Nat) {k n : Nat} {l1 : Option Nat} {G : Wd}, f_X2_goTick_12 a0 Q fl k n l1 G → wp m_X2_goTick 223 k n 12 [some (vR (some a0)), some (vR l1)] [] G (qV Q) noX := by
  intro fl
  induction fl with
  | zero => intro k n l1 G h; exact (show False from h).elim
  | succ fl ih => intro k n l1 G h; exact w_X2_goTick_12_b  (fun h => ih h) h
def f_X2_goTick (k n : Nat) (a0 : Nat) (a1 : Option Nat) (G : Wd) (Q : Wd → Prop) : Prop :=
  (∃ k33 n34, (k33 ≤ k ∧ n34 ≤ n) ∧ (isC G a0 1 ∧ f_X2_run k33 n34 a0  G (fun G32 => (∃ k36 n37, (k36 ≤ (k - k33) ∧ n37 ≤ (n - n34)) ∧ (isC G32 a0 1 ∧ f_X2_postAll k36 n37 a0  G32 (fun G35 => (isC G35 a0 1 ∧ f_X2_look a0  G35 (fun G38 => ∃ fl39, f_X2_goTick_12 a0 Q fl39 ((k - k33) - k36) ((n - n34) - n37) a1 G38))))))))
theorem w_X2_goTick {a0 : Nat} {Q : Wd → Prop} {k n : Nat} {a1 : Option Nat} {G : Wd} (h : f_X2_goTick k n a0 a1 G Q) : wp m_X2_goTick 223 k n 0 [some (vR (some a0)), some (vR a1)] [] G (qV Q) noX := by
  unfold f_X2_goTick at h
  refine r_aload_n dX2_goTick_0 rfl rfl iR ?_
  obtain ⟨k33, n34, ⟨hk1, hn1⟩, h⟩ := h
  obtain ⟨hC, h⟩ := h
  refine r_callV dX2_goTick_1 hC (c_X2_run h) q1520 q1522 qs19 q93 q1523 rfl yo_X2_run rfl (by decide) (by decide) rfl rc0 (by decide) hk1 hn1 (ofV fun G32 h => ?_) nox
  refine r_aload_n dX2_goTick_4 rfl rfl iR ?_
  obtain ⟨k36, n37, ⟨hk1, hn1⟩, h⟩ := h
  obtain ⟨hC, h⟩ := h
  refine r_callV dX2_goTick_5 hC (c_X2_postAll h) q1591 q1593 qs23 q93 q1594 rfl yo_X2_postAll rfl (by decide) (by decide) rfl rc0 (by decide) hk1 hn1 (ofV fun G35 h => ?_) nox
  refine r_aload_n dX2_goTick_8 rfl rfl iR ?_
  obtain ⟨hC, h⟩ := h
  refine r_callV dX2_goTick_9 hC (c_X2_look h) q1698 q1700 qs24 q93 q1701 rfl yo_X2_look rfl (by decide) (by decide) rfl rc0 (by decide) (Nat.zero_le _) (Nat.zero_le _) (ofV fun G38 h => ?_) nox
  obtain ⟨fl39, h⟩ := h
  exact w_X2_goTick_12 fl39 h
theorem c_X2_goTick {a0 : Nat} {a1 : Option Nat} {k n : Nat} {Q : Wd → Prop} {G : Wd} (h : f_X2_goTick k n a0 a1 G Q) : call yX2_goTick (Cond.code yX2_goTick cX2_goTick 2 (none)) 223 k n [vR (some a0), vR a1] G (qV Q) noX :=
  call.enter (by decide +kernel) (la_1 c1R (la_1 c1R (la_nil rfl))) rfl (w_X2_goTick h)
abbrev m_X1_ticks : Mt := (yX1_ticks.cls, cX1_ticks, 4, some .int, [], yX1_ticks.name)
theorem yo_X1_ticks : yOK yX1_ticks 1 := ⟨by decide +kernel, by decide +kernel, by decide +kernel⟩
def f_X1_ticks_77 (a0 : Nat) (k42 : Nat → Nat → Int → Int → Int → Wd → Prop) (k n : Nat) (l1 : Int) (l3 : Int) (s0 : Int) (s1 : Bool) (G : Wd) (Q : Int → Wd → Prop) : Prop :=
  k42 k n l1 (s0 + (b2i s1)) (l3 + 1) G
theorem w_X1_ticks_77 {a0 : Nat} {Q : Int → Wd → Prop} {k42 : Nat → Nat → Int → Int → Int → Wd → Prop} (hk42 : ∀ {k n : Nat} {l1 : Int} {l2 : Int} {l3 : Int} {G : Wd}, k42 k n l1 l2 l3 G → wp m_X1_ticks 224 k n 42 [some (vR (some a0)), some (vI l1), some (vI l2), some (vI l3)] [] G (qI Q) noX) {k n : Nat} {l1 : Int} {l3 : Int} {s0 : Int} {s1 : Bool} {G : Wd} (h : f_X1_ticks_77 a0 k42 k n l1 l3 s0 s1 G Q) : wp m_X1_ticks 224 k n 77 [some (vR (some a0)), some (vI l1), none, some (vI l3)] [vB s1, vI s0] G (qI Q) noX := by
  unfold f_X1_ticks_77 at h
  refine wp.cast (st' := [vI (b2i s1), vI s0]) rfl (congrArg (fun q => [q, vI s0]) (vBI s1)) ?_
  refine r_iadd dX1_ticks_77 ?_
  refine r_istore_n (L' := [some (vR (some a0)), some (vI l1), some (vI (s0 + (b2i s1))), some (vI l3)]) dX1_ticks_78 rfl rfl iI cI (by decide) ?_
  refine r_iinc (L' := [some (vR (some a0)), some (vI l1), some (vI (s0 + (b2i s1))), some (vI (l3 + 1))]) dX1_ticks_79 rfl rfl cI (by decide) ?_
  refine r_goto (tgt := 42) dX1_ticks_82 (by decide) ?_
  exact hk42 h
def f_X1_ticks_42_b (a0 : Nat) (k42 : Nat → Nat → Int → Int → Int → Wd → Prop) (k n : Nat) (l1 : Int) (l2 : Int) (l3 : Int) (G : Wd) (Q : Int → Wd → Prop) : Prop :=
  br l3 l1 (l1 ≤ l3) (pF G a0 [0] 9 (vI 0) (fun G55 => gR G55 a0 [0] 0 (fun x56 => nn x56 (fun a57 => gI G55 a57 [1] 13 (fun x58 => ok32 x58 ((isC G55 a0 0 ∧ f_X1_tell a0 x58 G55 (fun G59 => ok32 l2 ((isC G59 a0 0 ∧ f_X1_tell a0 l2 G59 (fun G60 => gR G60 a0 [0] 0 (fun x61 => nn x61 (fun a62 => gI G60 a62 [1] 14 (fun x63 => Q x63 G60)))))))))))))) (gR G a0 [0] 0 (fun x64 => gR G a0 [0] 10 (fun x65 => nn x64 (fun a66 => (∃ k68 n69, (k68 ≤ k ∧ n69 ≤ n) ∧ (isC G a66 1 ∧ f_X2_goTick k68 n69 a66 x65 G (fun G67 => gR G67 a0 [0] 0 (fun x70 => nn x70 (fun a71 => gR G67 a71 [1] 1 (fun x72 => nn x72 (fun a73 => (isC G67 a73 12 ∧ f_J0_isEmpty a73  G67 (fun x75 G74 => brB x75 (f_X1_ticks_77 a0 k42 (k - k68) (n - n69) l1 l3 l2 true G74 Q) (f_X1_ticks_77 a0 k42 (k - k68) (n - n69) l1 l3 l2 false G74 Q))))))))))))))
theorem w_X1_ticks_42_b {a0 : Nat} {Q : Int → Wd → Prop} {k42 : Nat → Nat → Int → Int → Int → Wd → Prop} (hk42 : ∀ {k n : Nat} {l1 : Int} {l2 : Int} {l3 : Int} {G : Wd}, k42 k n l1 l2 l3 G → wp m_X1_ticks 224 k n 42 [some (vR (some a0)), some (vI l1), some (vI l2), some (vI l3)] [] G (qI Q) noX) {k n : Nat} {l1 : Int} {l2 : Int} {l3 : Int} {G : Wd} (h : f_X1_ticks_42_b a0 k42 k n l1 l2 l3 G Q) : wp m_X1_ticks 224 k n 42 [some (vR (some a0)), some (vI l1), some (vI l2), some (vI l3)] [] G (qI Q) noX := by
  unfold f_X1_ticks_42_b at h
  refine r_iload_n dX1_ticks_42 rfl rfl iI ?_
  refine r_iload_n dX1_ticks_43 rfl rfl iI ?_
  refine r_icmp_ge (tgt := 85) dX1_ticks_44 (by decide) h (fun h => ?_) (fun h => ?_)
  · refine r_aload_n dX1_ticks_85 rfl rfl iR ?_
    refine r_iconst dX1_ticks_86 ?_
    refine r_put dX1_ticks_87 (fp1 (f := 9) fX1 (by decide) q709 rfl rfl rfl) fvI h (fun G55 h => ?_)
    refine r_aload_n dX1_ticks_90 rfl rfl iR ?_
    refine r_aload_n dX1_ticks_91 rfl rfl iR ?_
    refine r_getR dX1_ticks_92 (fg1 (f := 0) fX1 (by decide) q700 rfl) h (fun x56 h => ?_)
    obtain ⟨a57, e, h⟩ := h
    refine wp.cast (L' := [some (vR (some a0)), some (vI l1), some (vI l2), some (vI l3)]) (st' := [vR (some a57), vR (some a0)]) rfl (by rw [e]) ?_
    refine r_getI dX1_ticks_95 (fg1 (f := 13) fX2 (by decide) q663 rfl) h (fun x58 h => ?_)
    refine r_i2l dX1_ticks_98 h (fun h => ?_)
    obtain ⟨hC, h⟩ := h
    refine r_callV dX1_ticks_99 hC (c_X1_tell h) q1761 q1763 qs27 q92 q1764 rfl yo_X1_tell rfl (by decide) (by decide) rfl rc0 (by decide) (Nat.zero_le _) (Nat.zero_le _) (ofV fun G59 h => ?_) nox
    refine r_aload_n dX1_ticks_102 rfl rfl iR ?_
    refine r_iload_n dX1_ticks_103 rfl rfl iI ?_
    refine r_i2l dX1_ticks_104 h (fun h => ?_)
    obtain ⟨hC, h⟩ := h
    refine r_callV dX1_ticks_105 hC (c_X1_tell h) q1761 q1763 qs27 q92 q1764 rfl yo_X1_tell rfl (by decide) (by decide) rfl rc0 (by decide) (Nat.zero_le _) (Nat.zero_le _) (ofV fun G60 h => ?_) nox
    refine r_aload_n dX1_ticks_108 rfl rfl iR ?_
    refine r_getR dX1_ticks_109 (fg1 (f := 0) fX1 (by decide) q700 rfl) h (fun x61 h => ?_)
    obtain ⟨a62, e, h⟩ := h
    refine wp.cast (L' := [some (vR (some a0)), some (vI l1), some (vI l2), some (vI l3)]) (st' := [vR (some a62)]) rfl (by rw [e]) ?_
    refine r_getI dX1_ticks_112 (fg1 (f := 14) fX2 (by decide) q665 rfl) h (fun x63 h => ?_)
    exact r_iret rfl dX1_ticks_115 ⟨_, rfl, h⟩
  · refine r_aload_n dX1_ticks_47 rfl rfl iR ?_
    refine r_getR dX1_ticks_48 (fg1 (f := 0) fX1 (by decide) q700 rfl) h (fun x64 h => ?_)
    refine r_aload_n dX1_ticks_51 rfl rfl iR ?_
    refine r_getR dX1_ticks_52 (fg1 (f := 10) fX1 (by decide) q710 rfl) h (fun x65 h => ?_)
    obtain ⟨a66, e, h⟩ := h
    refine wp.cast (L' := [some (vR (some a0)), some (vI l1), some (vI l2), some (vI l3)]) (st' := [vR x65, vR (some a66)]) rfl (by rw [e]) ?_
    obtain ⟨k68, n69, ⟨hk1, hn1⟩, h⟩ := h
    obtain ⟨hC, h⟩ := h
    refine r_callV dX1_ticks_55 hC (c_X2_goTick h) q1516 q1517 q1518 q93 q1519 rfl yo_X2_goTick rfl (by decide) (by decide) rfl rc0 (by decide) hk1 hn1 (ofV fun G67 h => ?_) nox
    refine r_iload_n dX1_ticks_58 rfl rfl iI ?_
    refine r_aload_n dX1_ticks_59 rfl rfl iR ?_
    refine r_getR dX1_ticks_60 (fg1 (f := 0) fX1 (by decide) q700 rfl) h (fun x70 h => ?_)
    obtain ⟨a71, e, h⟩ := h
    refine wp.cast (L' := [some (vR (some a0)), some (vI l1), some (vI l2), some (vI l3)]) (st' := [vR (some a71), vI l2]) rfl (by rw [e]) ?_
    refine r_getR dX1_ticks_63 (fg1 (f := 1) fX2 (by decide) q639 rfl) h (fun x72 h => ?_)
    obtain ⟨a73, e, h⟩ := h
    refine wp.cast (L' := [some (vR (some a0)), some (vI l1), some (vI l2), some (vI l3)]) (st' := [vR (some a73), vI l2]) rfl (by rw [e]) ?_
    obtain ⟨hC, h⟩ := h
    refine r_callU dX1_ticks_66 hC (c_J0_isEmpty h) q1754 q1755 q1757 q1758 q94 q1759 rfl rfl yo_J0_isEmpty rfl (by decide) (by decide) rfl (rc1 c1I rc0) (by decide) (Nat.zero_le _) (Nat.zero_le _) (ofB fun x75 G74 h => ?_) nox
    refine r_ifZ_eq (tgt := 76) dX1_ticks_69 (by decide) h (fun h => ?_) (fun h => ?_)
    · refine r_iconst dX1_ticks_76 ?_
      refine wp.cast (st' := [vB false, vI l2]) rfl (congrArg (fun q => [q, vI l2]) vI0) ?_
      refine wp.locals (L' := [some (vR (some a0)), some (vI l1), none, some (vI l3)]) (ls_s (ls_s (ls_n (ls_s ls_0)))) ?_
      exact w_X1_ticks_77 hk42 h
    · refine r_iconst dX1_ticks_72 ?_
      refine r_goto (tgt := 77) dX1_ticks_73 (by decide) ?_
      refine wp.cast (st' := [vB true, vI l2]) rfl (congrArg (fun q => [q, vI l2]) vI1) ?_
      refine wp.locals (L' := [some (vR (some a0)), some (vI l1), none, some (vI l3)]) (ls_s (ls_s (ls_n (ls_s ls_0)))) ?_
      exact w_X1_ticks_77 hk42 h
def f_X1_ticks_42 (a0 : Nat) (Q : Int → Wd → Prop) : Nat → Nat → Nat → Int → Int → Int → Wd → Prop
  | 0, _, _, _, _, _, _ => False
  | fl + 1, k, n, l1, l2, l3, G => f_X1_ticks_42_b a0  (fun k n l1 l2 l3 G => f_X1_ticks_42 a0  Q fl k n l1 l2 l3 G) k n l1 l2 l3 G Q
theorem w_X1_ticks_42 {a0 : Nat} {Q : Int → Wd → Prop} : ∀ (fl : Nat) {k n : Nat} {l1 : Int} {l2 : Int} {l3 : Int} {G : Wd}, f_X1_ticks_42 a0 Q fl k n l1 l2 l3 G → wp m_X1_ticks 224 k n 42 [some (vR (some a0)), some (vI l1), some (vI l2), some (vI l3)] [] G (qI Q) noX := by
  intro fl
  induction fl with
  | zero => intro k n l1 l2 l3 G h; exact (show False from h).elim
  | succ fl ih => intro k n l1 l2 l3 G h; exact w_X1_ticks_42_b  (fun h => ih h) h
def f_X1_ticks (k n : Nat) (a0 : Nat) (a1 : Int) (G : Wd) (Q : Int → Wd → Prop) : Prop :=
  ok32 a1 (f_X1_in a1 0 60 G (fun x77 G76 => brB x77 (gR G76 a0 [0] 0 (fun x78 => (∃ k80 n81, (k80 ≤ k ∧ n81 ≤ n) ∧ (isC G76 a0 0 ∧ f_X1_remember k80 n81 a0 x78 G76 (fun G79 => gR G79 a0 [0] 0 (fun x82 => nn x82 (fun a83 => pF G79 a83 [1] 13 (vI 0) (fun G84 => gR G84 a0 [0] 0 (fun x85 => nn x85 (fun a86 => pF G84 a86 [1] 14 (vI 0) (fun G87 => ∃ fl88, f_X1_ticks_42 a0 Q fl88 (k - k80) (n - n81) a1 0 0 G87))))))))))) (Q (-1) G76)))
theorem w_X1_ticks {a0 : Nat} {Q : Int → Wd → Prop} {k n : Nat} {a1 : Int} {G : Wd} (h : f_X1_ticks k n a0 a1 G Q) : wp m_X1_ticks 224 k n 0 [some (vR (some a0)), some (vI a1), none, none] [] G (qI Q) noX := by
  unfold f_X1_ticks at h
  refine r_iload_n dX1_ticks_0 rfl rfl iI ?_
  refine r_i2l dX1_ticks_1 h (fun h => ?_)
  refine r_lconst (y := 0) dX1_ticks_2 (by decide) ?_
  refine r_ldc2 (x := 60) dX1_ticks_3 q1515 (by decide) ?_
  refine r_callS dX1_ticks_6 (c_X1_in h) q776 q777 q92 q778 yo_X1_in rfl (by decide) (by decide) rfl rc0 (by decide) (Nat.zero_le _) (Nat.zero_le _) (ofB fun x77 G76 h => ?_) nox
  refine r_ifZ_ne (tgt := 14) dX1_ticks_9 (by decide) h (fun h => ?_) (fun h => ?_)
  · refine r_aload_n dX1_ticks_14 rfl rfl iR ?_
    refine r_aload_n dX1_ticks_15 rfl rfl iR ?_
    refine r_getR dX1_ticks_16 (fg1 (f := 0) fX1 (by decide) q700 rfl) h (fun x78 h => ?_)
    obtain ⟨k80, n81, ⟨hk1, hn1⟩, h⟩ := h
    obtain ⟨hC, h⟩ := h
    refine r_callV dX1_ticks_19 hC (c_X1_remember h) q1071 q1073 qs8 q92 q1074 rfl yo_X1_remember rfl (by decide) (by decide) rfl rc0 (by decide) hk1 hn1 (ofV fun G79 h => ?_) nox
    refine r_aload_n dX1_ticks_22 rfl rfl iR ?_
    refine r_getR dX1_ticks_23 (fg1 (f := 0) fX1 (by decide) q700 rfl) h (fun x82 h => ?_)
    refine r_iconst dX1_ticks_26 ?_
    obtain ⟨a83, e, h⟩ := h
    refine wp.cast (L' := [some (vR (some a0)), some (vI a1), none, none]) (st' := [vI 0, vR (some a83)]) rfl (by rw [e]) ?_
    refine r_put dX1_ticks_27 (fp1 (f := 13) fX2 (by decide) q663 rfl rfl rfl) fvI h (fun G84 h => ?_)
    refine r_aload_n dX1_ticks_30 rfl rfl iR ?_
    refine r_getR dX1_ticks_31 (fg1 (f := 0) fX1 (by decide) q700 rfl) h (fun x85 h => ?_)
    refine r_iconst dX1_ticks_34 ?_
    obtain ⟨a86, e, h⟩ := h
    refine wp.cast (L' := [some (vR (some a0)), some (vI a1), none, none]) (st' := [vI 0, vR (some a86)]) rfl (by rw [e]) ?_
    refine r_put dX1_ticks_35 (fp1 (f := 14) fX2 (by decide) q665 rfl rfl rfl) fvI h (fun G87 h => ?_)
    refine r_iconst dX1_ticks_38 ?_
    refine r_istore_n (L' := [some (vR (some a0)), some (vI a1), some (vI 0), none]) dX1_ticks_39 rfl rfl iI cI (by decide) ?_
    refine r_iconst dX1_ticks_40 ?_
    refine r_istore_n (L' := [some (vR (some a0)), some (vI a1), some (vI 0), some (vI 0)]) dX1_ticks_41 rfl rfl iI cI (by decide) ?_
    obtain ⟨fl88, h⟩ := h
    exact w_X1_ticks_42 fl88 h
  · refine r_iconst dX1_ticks_12 ?_
    exact r_iret rfl dX1_ticks_13 ⟨_, rfl, h⟩
theorem c_X1_ticks {a0 : Nat} {a1 : Int} {k n : Nat} {Q : Int → Wd → Prop} {G : Wd} (h : f_X1_ticks k n a0 a1 G Q) : call yX1_ticks (Cond.code yX1_ticks cX1_ticks 4 (some .int)) 224 k n [vR (some a0), vI a1] G (qI Q) noX :=
  call.enter (by decide +kernel) (la_1 c1R (la_1 c1I (la_nil rfl))) rfl (w_X1_ticks h)
abbrev m_X1_act : Mt := (yX1_act.cls, cX1_act, 5, some .boolean, [], yX1_act.name)
theorem yo_X1_act : yOK yX1_act 2 := ⟨by decide +kernel, by decide +kernel, by decide +kernel⟩
def f_X1_act_160_b (a0 : Nat) (k160 : Nat → Nat → Int → Int → Wd → Prop) (k n : Nat) (l3 : Int) (l4 : Int) (G : Wd) (Q : Bool → Wd → Prop) : Prop :=
  br l4 l3 (l3 ≤ l4) (Q true G) (gR G a0 [0] 0 (fun x86 => gR G a0 [0] 10 (fun x87 => nn x86 (fun a88 => (∃ k90 n91, (k90 ≤ k ∧ n91 ≤ n) ∧ (isC G a88 1 ∧ f_X2_goTick k90 n91 a88 x87 G (fun G89 => k160 (k - k90) (n - n91) l3 (l4 + 1) G89)))))))
theorem w_X1_act_160_b {a0 : Nat} {Q : Bool → Wd → Prop} {k160 : Nat → Nat → Int → Int → Wd → Prop} (hk160 : ∀ {k n : Nat} {l3 : Int} {l4 : Int} {G : Wd}, k160 k n l3 l4 G → wp m_X1_act 224 k n 160 [some (vR (some a0)), none, none, some (vI l3), some (vI l4)] [] G (qB Q) noX) {k n : Nat} {l3 : Int} {l4 : Int} {G : Wd} (h : f_X1_act_160_b a0 k160 k n l3 l4 G Q) : wp m_X1_act 224 k n 160 [some (vR (some a0)), none, none, some (vI l3), some (vI l4)] [] G (qB Q) noX := by
  unfold f_X1_act_160_b at h
  refine r_iload dX1_act_160 rfl iI ?_
  refine r_iload_n dX1_act_162 rfl rfl iI ?_
  refine r_icmp_ge (tgt := 183) dX1_act_163 (by decide) h (fun h => ?_) (fun h => ?_)
  · refine r_iconst dX1_act_183 ?_
    refine wp.cast (st' := [vB true]) rfl (congrArg (fun q => [q]) vI1) ?_
    exact r_zret rfl dX1_act_184 ⟨_, rfl, h⟩
  · refine r_aload_n dX1_act_166 rfl rfl iR ?_
    refine r_getR dX1_act_167 (fg1 (f := 0) fX1 (by decide) q700 rfl) h (fun x86 h => ?_)
    refine r_aload_n dX1_act_170 rfl rfl iR ?_
    refine r_getR dX1_act_171 (fg1 (f := 10) fX1 (by decide) q710 rfl) h (fun x87 h => ?_)
    obtain ⟨a88, e, h⟩ := h
    refine wp.cast (L' := [some (vR (some a0)), none, none, some (vI l3), some (vI l4)]) (st' := [vR x87, vR (some a88)]) rfl (by rw [e]) ?_
    obtain ⟨k90, n91, ⟨hk1, hn1⟩, h⟩ := h
    obtain ⟨hC, h⟩ := h
    refine r_callV dX1_act_174 hC (c_X2_goTick h) q1516 q1517 q1518 q93 q1519 rfl yo_X2_goTick rfl (by decide) (by decide) rfl rc0 (by decide) hk1 hn1 (ofV fun G89 h => ?_) nox
    refine r_iinc (L' := [some (vR (some a0)), none, none, some (vI l3), some (vI (l4 + 1))]) dX1_act_177 rfl rfl cI (by decide) ?_
    refine r_goto (tgt := 160) dX1_act_180 (by decide) ?_
    exact hk160 h
def f_X1_act_160 (a0 : Nat) (Q : Bool → Wd → Prop) : Nat → Nat → Nat → Int → Int → Wd → Prop
  | 0, _, _, _, _, _ => False
  | fl + 1, k, n, l3, l4, G => f_X1_act_160_b a0  (fun k n l3 l4 G => f_X1_act_160 a0  Q fl k n l3 l4 G) k n l3 l4 G Q
theorem w_X1_act_160 {a0 : Nat} {Q : Bool → Wd → Prop} : ∀ (fl : Nat) {k n : Nat} {l3 : Int} {l4 : Int} {G : Wd}, f_X1_act_160 a0 Q fl k n l3 l4 G → wp m_X1_act 224 k n 160 [some (vR (some a0)), none, none, some (vI l3), some (vI l4)] [] G (qB Q) noX := by
  intro fl
  induction fl with
  | zero => intro k n l3 l4 G h; exact (show False from h).elim
  | succ fl ih => intro k n l3 l4 G h; exact w_X1_act_160_b  (fun h => ih h) h
def f_X1_act_155 (a0 : Nat) (k n : Nat) (G : Wd) (Q : Bool → Wd → Prop) : Prop :=
  Q false G
theorem w_X1_act_155 {a0 : Nat} {Q : Bool → Wd → Prop} {k n : Nat} {G : Wd} (h : f_X1_act_155 a0 k n G Q) : wp m_X1_act 224 k n 155 [none, none, none, none, none] [] G (qB Q) noX := by
  unfold f_X1_act_155 at h
  refine r_iconst dX1_act_155 ?_
  refine wp.cast (st' := [vB false]) rfl (congrArg (fun q => [q]) vI0) ?_
  exact r_zret rfl dX1_act_156 ⟨_, rfl, h⟩
def f_X1_act (k n : Nat) (a0 : Nat) (a1 : Option Nat) (a2 : Int) (G : Wd) (Q : Bool → Wd → Prop) : Prop :=
  nn a1 (fun a92 => gR G a92 [11] 5 (fun x93 => nn x93 (fun a94 => ldI G a94 0 a2 (fun x95 => gR G a92 [11] 4 (fun x96 => nn x96 (fun a97 => ldI G a97 3 a2 (fun x98 => ok32 x98 (swc x98 99 (gR G a0 [0] 0 (fun x99 => gR G a92 [11] 8 (fun x100 => nn x100 (fun a101 => ldI G a101 0 a2 (fun x102 => (∃ k104 n105, (k104 ≤ k ∧ n105 ≤ n) ∧ (isC G a0 0 ∧ f_X1_recallOf k104 n105 a0 x99 x95 x102 G (fun x106 G103 => br0 x106 (0 ≤ x106) (gR G103 a0 [0] 0 (fun x107 => gR G103 a92 [11] 8 (fun x108 => nn x108 (fun a109 => ldI G103 a109 0 a2 (fun x110 => (∃ k112 n113, (k112 ≤ (k - k104) ∧ n113 ≤ (n - n105)) ∧ f_X1_goCall k112 n113 x107 x95 x110 G103 (fun G111 => Q true G111))))))) (Q false G103))))))))) (swc x98 107 (gR G a0 [0] 0 (fun x114 => f_X1_refusesTaking x114 x95 G (fun x116 G115 => br0 x116 (0 ≤ x116) (gR G115 a0 [0] 0 (fun x117 => nn x117 (fun a118 => gR G115 a118 [1] 0 (fun x119 => nn x119 (fun a120 => ldR G115 a120 7 x95 (fun x121 => nn x121 (fun a122 => (isC G115 a122 2 ∧ f_X3_take a122  G115 (fun x124 G123 => Q true G123))))))))) (Q false G115)))) (swc x98 112 (gR G a0 [0] 0 (fun x125 => gR G a92 [11] 6 (fun x126 => nn x126 (fun a127 => ldI G a127 0 a2 (fun x128 => gR G a92 [11] 7 (fun x129 => nn x129 (fun a130 => ldI G a130 0 a2 (fun x131 => gR G a92 [11] 8 (fun x132 => nn x132 (fun a133 => ldI G a133 0 a2 (fun x134 => f_X1_refusesPut x125 x95 x128 x131 x134 G (fun x136 G135 => br0 x136 (0 ≤ x136) (gR G135 a0 [0] 0 (fun x137 => gR G135 a92 [11] 6 (fun x138 => nn x138 (fun a139 => ldI G135 a139 0 a2 (fun x140 => gR G135 a92 [11] 7 (fun x141 => nn x141 (fun a142 => ldI G135 a142 0 a2 (fun x143 => gR G135 a92 [11] 8 (fun x144 => nn x144 (fun a145 => ldI G135 a145 0 a2 (fun x146 => (∃ k148 n149, (k148 ≤ k ∧ n149 ≤ n) ∧ f_X1_goPut k148 n149 x137 x95 x140 x143 x146 G135 (fun x150 G147 => Q true G147))))))))))))) (Q false G135))))))))))))) (swc x98 114 ((isC G a0 0 ∧ f_X1_isQueue a0 x95 G (fun x152 G151 => brB x152 (gR G151 a0 [0] 0 (fun x153 => gR G151 a0 [0] 0 (fun x154 => nn x154 (fun a155 => gR G151 a155 [1] 0 (fun x156 => nn x156 (fun a157 => ldR G151 a157 7 x95 (fun x158 => nn x153 (fun a159 => (isC G151 a159 1 ∧ f_X2_ringUp a159 x158 G151 (fun x161 G160 => br0 x161 (x161 < 0) (f_X1_act_155 a0 k n G160 Q) (Q true G160))))))))))) (f_X1_act_155 a0 k n G151 Q)))) (swc x98 116 (∃ fl162, f_X1_act_160 a0 Q fl162 k n x95 0 G) (gR G a0 [0] 0 (fun x163 => nn x163 (fun a164 => (isC G a164 1 ∧ f_X2_empty a164  G (fun G165 => Q true G165)))))))))))))))))
theorem w_X1_act {a0 : Nat} {Q : Bool → Wd → Prop} {k n : Nat} {a1 : Option Nat} {a2 : Int} {G : Wd} (h : f_X1_act k n a0 a1 a2 G Q) : wp m_X1_act 224 k n 0 [some (vR (some a0)), some (vR a1), some (vI a2), none, none] [] G (qB Q) noX := by
  unfold f_X1_act at h
  refine r_aload_n dX1_act_0 rfl rfl iR ?_
  obtain ⟨a92, e, h⟩ := h
  refine wp.cast (L' := [some (vR (some a0)), some (vR (some a92)), some (vI a2), none, none]) (st' := [vR (some a92)]) (by rw [e]) (by rw [e]) ?_
  refine r_getR dX1_act_1 (fg1 (f := 5) fX12 (by decide) q1875 rfl) h (fun x93 h => ?_)
  refine r_iload_n dX1_act_4 rfl rfl iI ?_
  obtain ⟨a94, e, h⟩ := h
  refine wp.cast (L' := [some (vR (some a0)), some (vR (some a92)), some (vI a2), none, none]) (st' := [vI a2, vR (some a94)]) rfl (by rw [e]) ?_
  refine r_iald dX1_act_5 h (fun x95 h => ?_)
  refine r_istore_n (L' := [some (vR (some a0)), some (vR (some a92)), some (vI a2), some (vI x95), none]) dX1_act_6 rfl rfl iI cI (by decide) ?_
  refine r_aload_n dX1_act_7 rfl rfl iR ?_
  refine r_getR dX1_act_8 (fg1 (f := 4) fX12 (by decide) q1873 rfl) h (fun x96 h => ?_)
  refine r_iload_n dX1_act_11 rfl rfl iI ?_
  obtain ⟨a97, e, h⟩ := h
  refine wp.cast (L' := [some (vR (some a0)), some (vR (some a92)), some (vI a2), some (vI x95), none]) (st' := [vI a2, vR (some a97)]) rfl (by rw [e]) ?_
  refine r_cald dX1_act_12 h (fun x98 h => ?_)
  obtain ⟨hr, h⟩ := h
  refine r_swc h (fun e99 h => ?_) (fun e99 h => ?_)
  · refine r_ls (off := 200) (tgt := 213) dX1_act_13 (by decide) hr (by rw [e99]; rfl) (by decide) ?_
    refine r_aload_n dX1_act_213 rfl rfl iR ?_
    refine r_aload_n dX1_act_214 rfl rfl iR ?_
    refine r_getR dX1_act_215 (fg1 (f := 0) fX1 (by decide) q700 rfl) h (fun x99 h => ?_)
    refine r_iload_n dX1_act_218 rfl rfl iI ?_
    refine r_aload_n dX1_act_219 rfl rfl iR ?_
    refine r_getR dX1_act_220 (fg1 (f := 8) fX12 (by decide) q1881 rfl) h (fun x100 h => ?_)
    refine r_iload_n dX1_act_223 rfl rfl iI ?_
    obtain ⟨a101, e, h⟩ := h
    refine wp.cast (L' := [some (vR (some a0)), some (vR (some a92)), some (vI a2), some (vI x95), none]) (st' := [vI a2, vR (some a101), vI x95, vR x99, vR (some a0)]) rfl (by rw [e]) ?_
    refine r_iald dX1_act_224 h (fun x102 h => ?_)
    obtain ⟨k104, n105, ⟨hk1, hn1⟩, h⟩ := h
    obtain ⟨hC, h⟩ := h
    refine r_callV dX1_act_225 hC (c_X1_recallOf h) q1793 q1795 qs29 q92 q1796 rfl yo_X1_recallOf rfl (by decide) (by decide) rfl rc0 (by decide) hk1 hn1 (ofI fun x106 G103 h => ?_) nox
    refine r_if_ge (tgt := 233) dX1_act_228 (by decide) h (fun h => ?_) (fun h => ?_)
    · refine r_aload_n dX1_act_233 rfl rfl iR ?_
      refine r_getR dX1_act_234 (fg1 (f := 0) fX1 (by decide) q700 rfl) h (fun x107 h => ?_)
      refine r_iload_n dX1_act_237 rfl rfl iI ?_
      refine r_aload_n dX1_act_238 rfl rfl iR ?_
      refine r_getR dX1_act_239 (fg1 (f := 8) fX12 (by decide) q1881 rfl) h (fun x108 h => ?_)
      refine r_iload_n dX1_act_242 rfl rfl iI ?_
      obtain ⟨a109, e, h⟩ := h
      refine wp.cast (L' := [some (vR (some a0)), some (vR (some a92)), some (vI a2), some (vI x95), none]) (st' := [vI a2, vR (some a109), vI x95, vR x107]) rfl (by rw [e]) ?_
      refine r_iald dX1_act_243 h (fun x110 h => ?_)
      obtain ⟨k112, n113, ⟨hk1, hn1⟩, h⟩ := h
      refine r_callS dX1_act_244 (c_X1_goCall h) q1812 q1813 q92 q1814 yo_X1_goCall rfl (by decide) (by decide) rfl rc0 (by decide) hk1 hn1 (ofV fun G111 h => ?_) nox
      refine r_iconst dX1_act_247 ?_
      refine wp.cast (st' := [vB true]) rfl (congrArg (fun q => [q]) vI1) ?_
      exact r_zret rfl dX1_act_248 ⟨_, rfl, h⟩
    · refine r_iconst dX1_act_231 ?_
      refine wp.cast (st' := [vB false]) rfl (congrArg (fun q => [q]) vI0) ?_
      exact r_zret rfl dX1_act_232 ⟨_, rfl, h⟩
  · refine r_swc h (fun e107 h => ?_) (fun e107 h => ?_)
    · refine r_ls (off := 172) (tgt := 185) dX1_act_13 (by decide) hr (by rw [e107]; rfl) (by decide) ?_
      refine r_aload_n dX1_act_185 rfl rfl iR ?_
      refine r_getR dX1_act_186 (fg1 (f := 0) fX1 (by decide) q700 rfl) h (fun x114 h => ?_)
      refine r_iload_n dX1_act_189 rfl rfl iI ?_
      refine r_callS dX1_act_190 (c_X1_refusesTaking h) q1769 q1770 q92 q1771 yo_X1_refusesTaking rfl (by decide) (by decide) rfl rc0 (by decide) (Nat.zero_le _) (Nat.zero_le _) (ofI fun x116 G115 h => ?_) nox
      refine r_if_ge (tgt := 198) dX1_act_193 (by decide) h (fun h => ?_) (fun h => ?_)
      · refine r_aload_n dX1_act_198 rfl rfl iR ?_
        refine r_getR dX1_act_199 (fg1 (f := 0) fX1 (by decide) q700 rfl) h (fun x117 h => ?_)
        obtain ⟨a118, e, h⟩ := h
        refine wp.cast (L' := [some (vR (some a0)), some (vR (some a92)), some (vI a2), some (vI x95), none]) (st' := [vR (some a118)]) rfl (by rw [e]) ?_
        refine r_getR dX1_act_202 (fg1 (f := 0) fX2 (by decide) q636 rfl) h (fun x119 h => ?_)
        refine r_iload_n dX1_act_205 rfl rfl iI ?_
        obtain ⟨a120, e, h⟩ := h
        refine wp.cast (L' := [some (vR (some a0)), some (vR (some a92)), some (vI a2), some (vI x95), none]) (st' := [vI x95, vR (some a120)]) rfl (by rw [e]) ?_
        refine r_aald dX1_act_206 (by decide) (by decide) h (fun x121 h => ?_)
        obtain ⟨a122, e, h⟩ := h
        refine wp.cast (L' := [some (vR (some a0)), some (vR (some a92)), some (vI a2), some (vI x95), none]) (st' := [vR (some a122)]) rfl (by rw [e]) ?_
        obtain ⟨hC, h⟩ := h
        refine r_callV dX1_act_207 hC (c_X3_take h) q1776 q1777 q1778 q98 q1779 rfl yo_X3_take rfl (by decide) (by decide) rfl rc0 (by decide) (Nat.zero_le _) (Nat.zero_le _) (ofR fun x124 G123 h => ?_) nox
        refine r_pop dX1_act_210 c1R ?_
        refine r_iconst dX1_act_211 ?_
        refine wp.cast (st' := [vB true]) rfl (congrArg (fun q => [q]) vI1) ?_
        exact r_zret rfl dX1_act_212 ⟨_, rfl, h⟩
      · refine r_iconst dX1_act_196 ?_
        refine wp.cast (st' := [vB false]) rfl (congrArg (fun q => [q]) vI0) ?_
        exact r_zret rfl dX1_act_197 ⟨_, rfl, h⟩
    · refine r_swc h (fun e112 h => ?_) (fun e112 h => ?_)
      · refine r_ls (off := 51) (tgt := 64) dX1_act_13 (by decide) hr (by rw [e112]; rfl) (by decide) ?_
        refine r_aload_n dX1_act_64 rfl rfl iR ?_
        refine r_getR dX1_act_65 (fg1 (f := 0) fX1 (by decide) q700 rfl) h (fun x125 h => ?_)
        refine r_iload_n dX1_act_68 rfl rfl iI ?_
        refine r_aload_n dX1_act_69 rfl rfl iR ?_
        refine r_getR dX1_act_70 (fg1 (f := 6) fX12 (by decide) q1877 rfl) h (fun x126 h => ?_)
        refine r_iload_n dX1_act_73 rfl rfl iI ?_
        obtain ⟨a127, e, h⟩ := h
        refine wp.cast (L' := [some (vR (some a0)), some (vR (some a92)), some (vI a2), some (vI x95), none]) (st' := [vI a2, vR (some a127), vI x95, vR x125]) rfl (by rw [e]) ?_
        refine r_iald dX1_act_74 h (fun x128 h => ?_)
        refine r_aload_n dX1_act_75 rfl rfl iR ?_
        refine r_getR dX1_act_76 (fg1 (f := 7) fX12 (by decide) q1879 rfl) h (fun x129 h => ?_)
        refine r_iload_n dX1_act_79 rfl rfl iI ?_
        obtain ⟨a130, e, h⟩ := h
        refine wp.cast (L' := [some (vR (some a0)), some (vR (some a92)), some (vI a2), some (vI x95), none]) (st' := [vI a2, vR (some a130), vI x128, vI x95, vR x125]) rfl (by rw [e]) ?_
        refine r_iald dX1_act_80 h (fun x131 h => ?_)
        refine r_aload_n dX1_act_81 rfl rfl iR ?_
        refine r_getR dX1_act_82 (fg1 (f := 8) fX12 (by decide) q1881 rfl) h (fun x132 h => ?_)
        refine r_iload_n dX1_act_85 rfl rfl iI ?_
        obtain ⟨a133, e, h⟩ := h
        refine wp.cast (L' := [some (vR (some a0)), some (vR (some a92)), some (vI a2), some (vI x95), none]) (st' := [vI a2, vR (some a133), vI x131, vI x128, vI x95, vR x125]) rfl (by rw [e]) ?_
        refine r_iald dX1_act_86 h (fun x134 h => ?_)
        refine r_callS dX1_act_87 (c_X1_refusesPut h) q1047 q1048 q92 q1049 yo_X1_refusesPut rfl (by decide) (by decide) rfl rc0 (by decide) (Nat.zero_le _) (Nat.zero_le _) (ofI fun x136 G135 h => ?_) nox
        refine r_if_ge (tgt := 95) dX1_act_90 (by decide) h (fun h => ?_) (fun h => ?_)
        · refine r_aload_n dX1_act_95 rfl rfl iR ?_
          refine r_getR dX1_act_96 (fg1 (f := 0) fX1 (by decide) q700 rfl) h (fun x137 h => ?_)
          refine r_iload_n dX1_act_99 rfl rfl iI ?_
          refine r_aload_n dX1_act_100 rfl rfl iR ?_
          refine r_getR dX1_act_101 (fg1 (f := 6) fX12 (by decide) q1877 rfl) h (fun x138 h => ?_)
          refine r_iload_n dX1_act_104 rfl rfl iI ?_
          obtain ⟨a139, e, h⟩ := h
          refine wp.cast (L' := [some (vR (some a0)), some (vR (some a92)), some (vI a2), some (vI x95), none]) (st' := [vI a2, vR (some a139), vI x95, vR x137]) rfl (by rw [e]) ?_
          refine r_iald dX1_act_105 h (fun x140 h => ?_)
          refine r_aload_n dX1_act_106 rfl rfl iR ?_
          refine r_getR dX1_act_107 (fg1 (f := 7) fX12 (by decide) q1879 rfl) h (fun x141 h => ?_)
          refine r_iload_n dX1_act_110 rfl rfl iI ?_
          obtain ⟨a142, e, h⟩ := h
          refine wp.cast (L' := [some (vR (some a0)), some (vR (some a92)), some (vI a2), some (vI x95), none]) (st' := [vI a2, vR (some a142), vI x140, vI x95, vR x137]) rfl (by rw [e]) ?_
          refine r_iald dX1_act_111 h (fun x143 h => ?_)
          refine r_aload_n dX1_act_112 rfl rfl iR ?_
          refine r_getR dX1_act_113 (fg1 (f := 8) fX12 (by decide) q1881 rfl) h (fun x144 h => ?_)
          refine r_iload_n dX1_act_116 rfl rfl iI ?_
          obtain ⟨a145, e, h⟩ := h
          refine wp.cast (L' := [some (vR (some a0)), some (vR (some a92)), some (vI a2), some (vI x95), none]) (st' := [vI a2, vR (some a145), vI x143, vI x140, vI x95, vR x137]) rfl (by rw [e]) ?_
          refine r_iald dX1_act_117 h (fun x146 h => ?_)
          obtain ⟨k148, n149, ⟨hk1, hn1⟩, h⟩ := h
          refine r_callS dX1_act_118 (c_X1_goPut h) q1430 q1431 q92 q1432 yo_X1_goPut rfl (by decide) (by decide) rfl rc0 (by decide) hk1 hn1 (ofI fun x150 G147 h => ?_) nox
          refine r_pop dX1_act_121 c1I ?_
          refine r_iconst dX1_act_122 ?_
          refine wp.cast (st' := [vB true]) rfl (congrArg (fun q => [q]) vI1) ?_
          exact r_zret rfl dX1_act_123 ⟨_, rfl, h⟩
        · refine r_iconst dX1_act_93 ?_
          refine wp.cast (st' := [vB false]) rfl (congrArg (fun q => [q]) vI0) ?_
          exact r_zret rfl dX1_act_94 ⟨_, rfl, h⟩
      · refine r_swc h (fun e114 h => ?_) (fun e114 h => ?_)
        · refine r_ls (off := 111) (tgt := 124) dX1_act_13 (by decide) hr (by rw [e114]; rfl) (by decide) ?_
          refine r_aload_n dX1_act_124 rfl rfl iR ?_
          refine r_iload_n dX1_act_125 rfl rfl iI ?_
          obtain ⟨hC, h⟩ := h
          refine r_callV dX1_act_126 hC (c_X1_isQueue h) q1498 q1500 qs18 q92 q1501 rfl yo_X1_isQueue rfl (by decide) (by decide) rfl rc0 (by decide) (Nat.zero_le _) (Nat.zero_le _) (ofB fun x152 G151 h => ?_) nox
          refine r_ifZ_eq (tgt := 155) dX1_act_129 (by decide) h (fun h => ?_) (fun h => ?_)
          · refine wp.locals (L' := [none, none, none, none, none]) (ls_n (ls_n (ls_n (ls_n (ls_n ls_0))))) ?_
            exact w_X1_act_155 h
          · refine r_aload_n dX1_act_132 rfl rfl iR ?_
            refine r_getR dX1_act_133 (fg1 (f := 0) fX1 (by decide) q700 rfl) h (fun x153 h => ?_)
            refine r_aload_n dX1_act_136 rfl rfl iR ?_
            refine r_getR dX1_act_137 (fg1 (f := 0) fX1 (by decide) q700 rfl) h (fun x154 h => ?_)
            obtain ⟨a155, e, h⟩ := h
            refine wp.cast (L' := [some (vR (some a0)), some (vR (some a92)), some (vI a2), some (vI x95), none]) (st' := [vR (some a155), vR x153]) rfl (by rw [e]) ?_
            refine r_getR dX1_act_140 (fg1 (f := 0) fX2 (by decide) q636 rfl) h (fun x156 h => ?_)
            refine r_iload_n dX1_act_143 rfl rfl iI ?_
            obtain ⟨a157, e, h⟩ := h
            refine wp.cast (L' := [some (vR (some a0)), some (vR (some a92)), some (vI a2), some (vI x95), none]) (st' := [vI x95, vR (some a157), vR x153]) rfl (by rw [e]) ?_
            refine r_aald dX1_act_144 (by decide) (by decide) h (fun x158 h => ?_)
            obtain ⟨a159, e, h⟩ := h
            refine wp.cast (L' := [some (vR (some a0)), some (vR (some a92)), some (vI a2), some (vI x95), none]) (st' := [vR x158, vR (some a159)]) rfl (by rw [e]) ?_
            obtain ⟨hC, h⟩ := h
            refine r_callV dX1_act_145 hC (c_X2_ringUp h) q1506 q1507 q1508 q93 q1509 rfl yo_X2_ringUp rfl (by decide) (by decide) rfl rc0 (by decide) (Nat.zero_le _) (Nat.zero_le _) (ofI fun x161 G160 h => ?_) nox
            refine r_if_lt (tgt := 155) dX1_act_148 (by decide) h (fun h => ?_) (fun h => ?_)
            · refine wp.locals (L' := [none, none, none, none, none]) (ls_n (ls_n (ls_n (ls_n (ls_n ls_0))))) ?_
              exact w_X1_act_155 h
            · refine r_iconst dX1_act_151 ?_
              refine r_goto (tgt := 156) dX1_act_152 (by decide) ?_
              refine wp.cast (st' := [vB true]) rfl (congrArg (fun q => [q]) vI1) ?_
              exact r_zret rfl dX1_act_156 ⟨_, rfl, h⟩
        · refine r_swc h (fun e116 h => ?_) (fun e116 h => ?_)
          · refine r_ls (off := 144) (tgt := 157) dX1_act_13 (by decide) hr (by rw [e116]; rfl) (by decide) ?_
            refine r_iconst dX1_act_157 ?_
            refine r_istore (L' := [some (vR (some a0)), some (vR (some a92)), some (vI a2), some (vI x95), some (vI 0)]) dX1_act_158 rfl iI cI (by decide) ?_
            refine wp.locals (L' := [some (vR (some a0)), none, none, some (vI x95), some (vI 0)]) (ls_s (ls_n (ls_n (ls_s (ls_s ls_0))))) ?_
            obtain ⟨fl162, h⟩ := h
            exact w_X1_act_160 fl162 h
          · refine r_ls (off := 236) (tgt := 249) dX1_act_13 (by decide) hr (by simp [Op.lookupswitch.offset]; rw [if_neg (fun q => e99 q.symm), if_neg (fun q => e107 q.symm), if_neg (fun q => e112 q.symm), if_neg (fun q => e114 q.symm), if_neg (fun q => e116 q.symm)]) (by decide) ?_
            refine r_aload_n dX1_act_249 rfl rfl iR ?_
            refine r_getR dX1_act_250 (fg1 (f := 0) fX1 (by decide) q700 rfl) h (fun x163 h => ?_)
            obtain ⟨a164, e, h⟩ := h
            refine wp.cast (L' := [some (vR (some a0)), some (vR (some a92)), some (vI a2), some (vI x95), none]) (st' := [vR (some a164)]) rfl (by rw [e]) ?_
            obtain ⟨hC, h⟩ := h
            refine r_callV dX1_act_253 hC (c_X2_empty h) q1846 q1847 q1848 q93 q1849 rfl yo_X2_empty rfl (by decide) (by decide) rfl rc0 (by decide) (Nat.zero_le _) (Nat.zero_le _) (ofV fun G165 h => ?_) nox
            refine r_iconst dX1_act_256 ?_
            refine wp.cast (st' := [vB true]) rfl (congrArg (fun q => [q]) vI1) ?_
            exact r_zret rfl dX1_act_257 ⟨_, rfl, h⟩
theorem c_X1_act {a0 : Nat} {a1 : Option Nat} {a2 : Int} {k n : Nat} {Q : Bool → Wd → Prop} {G : Wd} (h : f_X1_act k n a0 a1 a2 G Q) : call yX1_act (Cond.code yX1_act cX1_act 5 (some .boolean)) 224 k n [vR (some a0), vR a1, vI a2] G (qB Q) noX :=
  call.enter (by decide +kernel) (la_1 c1R (la_1 c1R (la_1 c1I (la_nil rfl)))) rfl (w_X1_act h)
abbrev m_X1_when : Mt := (yX1_when.cls, cX1_when, 5, some .int, [], yX1_when.name)
theorem yo_X1_when : yOK yX1_when 2 := ⟨by decide +kernel, by decide +kernel, by decide +kernel⟩
def f_X1_when_73_b (a0 : Nat) (k73 : Nat → Nat → Int → Int → Int → Wd → Prop) (k n : Nat) (l1 : Int) (l2 : Int) (l3 : Int) (G : Wd) (Q : Int → Wd → Prop) : Prop :=
  br l3 99 ((99 : Int) < l3) (Q (-2) G) (gR G a0 [0] 2 (fun x81 => gR G a0 [0] 10 (fun x82 => nn x81 (fun a83 => (∃ k85 n86, (k85 ≤ k ∧ n86 ≤ n) ∧ (isC G a83 1 ∧ f_X2_goTick k85 n86 a83 x82 G (fun G84 => gR G84 a0 [0] 2 (fun x87 => nn x87 (fun a88 => gR G84 a88 [1] 0 (fun x89 => nn x89 (fun a90 => ldR G84 a90 7 l1 (fun x91 => (∃ k93 n94, (k93 ≤ (k - k85) ∧ n94 ≤ (n - n86)) ∧ f_X1_postOf k93 n94 x91 l2 G84 (fun x95 G92 => brN x95 (k73 ((k - k85) - k93) ((n - n86) - n94) l1 l2 (l3 + 1) G92) (fun a96 => pF G92 a0 [0] 9 (vI 0) (fun G97 => gR G97 a96 [10] 0 (fun x98 => nn x98 (fun a99 => gI G97 a99 [9] 2 (fun x100 => ok32 x100 ((isC G97 a0 0 ∧ f_X1_tell a0 x100 G97 (fun G101 => gR G101 a96 [10] 0 (fun x102 => nn x102 (fun a103 => gI G101 a103 [9] 3 (fun x104 => ok32 x104 ((isC G101 a0 0 ∧ f_X1_tell a0 x104 G101 (fun G105 => Q l3 G105))))))))))))))))))))))))))))
theorem w_X1_when_73_b {a0 : Nat} {Q : Int → Wd → Prop} {k73 : Nat → Nat → Int → Int → Int → Wd → Prop} (hk73 : ∀ {k n : Nat} {l1 : Int} {l2 : Int} {l3 : Int} {G : Wd}, k73 k n l1 l2 l3 G → wp m_X1_when 224 k n 73 [some (vR (some a0)), some (vI l1), some (vI l2), some (vI l3), none] [] G (qI Q) noX) {k n : Nat} {l1 : Int} {l2 : Int} {l3 : Int} {G : Wd} (h : f_X1_when_73_b a0 k73 k n l1 l2 l3 G Q) : wp m_X1_when 224 k n 73 [some (vR (some a0)), some (vI l1), some (vI l2), some (vI l3), none] [] G (qI Q) noX := by
  unfold f_X1_when_73_b at h
  refine r_iload_n dX1_when_73 rfl rfl iI ?_
  refine r_bipush dX1_when_74 (by decide) ?_
  refine r_icmp_gt (tgt := 152) dX1_when_76 (by decide) h (fun h => ?_) (fun h => ?_)
  · refine r_bipush dX1_when_152 (by decide) ?_
    exact r_iret rfl dX1_when_154 ⟨_, rfl, h⟩
  · refine r_aload_n dX1_when_79 rfl rfl iR ?_
    refine r_getR dX1_when_80 (fg1 (f := 2) fX1 (by decide) q702 rfl) h (fun x81 h => ?_)
    refine r_aload_n dX1_when_83 rfl rfl iR ?_
    refine r_getR dX1_when_84 (fg1 (f := 10) fX1 (by decide) q710 rfl) h (fun x82 h => ?_)
    obtain ⟨a83, e, h⟩ := h
    refine wp.cast (L' := [some (vR (some a0)), some (vI l1), some (vI l2), some (vI l3), none]) (st' := [vR x82, vR (some a83)]) rfl (by rw [e]) ?_
    obtain ⟨k85, n86, ⟨hk1, hn1⟩, h⟩ := h
    obtain ⟨hC, h⟩ := h
    refine r_callV dX1_when_87 hC (c_X2_goTick h) q1516 q1517 q1518 q93 q1519 rfl yo_X2_goTick rfl (by decide) (by decide) rfl rc0 (by decide) hk1 hn1 (ofV fun G84 h => ?_) nox
    refine r_aload_n dX1_when_90 rfl rfl iR ?_
    refine r_getR dX1_when_91 (fg1 (f := 2) fX1 (by decide) q702 rfl) h (fun x87 h => ?_)
    obtain ⟨a88, e, h⟩ := h
    refine wp.cast (L' := [some (vR (some a0)), some (vI l1), some (vI l2), some (vI l3), none]) (st' := [vR (some a88)]) rfl (by rw [e]) ?_
    refine r_getR dX1_when_94 (fg1 (f := 0) fX2 (by decide) q636 rfl) h (fun x89 h => ?_)
    refine r_iload_n dX1_when_97 rfl rfl iI ?_
    obtain ⟨a90, e, h⟩ := h
    refine wp.cast (L' := [some (vR (some a0)), some (vI l1), some (vI l2), some (vI l3), none]) (st' := [vI l1, vR (some a90)]) rfl (by rw [e]) ?_
    refine r_aald dX1_when_98 (by decide) (by decide) h (fun x91 h => ?_)
    refine r_iload_n dX1_when_99 rfl rfl iI ?_
    obtain ⟨k93, n94, ⟨hk1, hn1⟩, h⟩ := h
    refine r_callS dX1_when_100 (c_X1_postOf h) q1984 q1985 q92 q1986 yo_X1_postOf rfl (by decide) (by decide) rfl rc0 (by decide) hk1 hn1 (ofR fun x95 G92 h => ?_) nox
    refine r_astore (L' := [some (vR (some a0)), some (vI l1), some (vI l2), some (vI l3), some (vR x95)]) dX1_when_103 rfl iR cI (by decide) ?_
    refine r_aload dX1_when_105 rfl iR ?_
    refine r_ifnonnullV (tgt := 113) dX1_when_107 (by decide) h (fun a96 e h => ?_) (fun e h => ?_)
    · refine wp.cast (L' := [some (vR (some a0)), some (vI l1), some (vI l2), some (vI l3), some (vR (some a96))]) (st' := []) (by rw [e]) rfl ?_
      refine r_aload_n dX1_when_113 rfl rfl iR ?_
      refine r_iconst dX1_when_114 ?_
      refine r_put dX1_when_115 (fp1 (f := 9) fX1 (by decide) q709 rfl rfl rfl) fvI h (fun G97 h => ?_)
      refine r_aload_n dX1_when_118 rfl rfl iR ?_
      refine r_aload dX1_when_119 rfl iR ?_
      refine r_getR dX1_when_121 (fg1 (f := 0) fX11 (by decide) q1614 rfl) h (fun x98 h => ?_)
      obtain ⟨a99, e, h⟩ := h
      refine wp.cast (L' := [some (vR (some a0)), some (vI l1), some (vI l2), some (vI l3), some (vR (some a96))]) (st' := [vR (some a99), vR (some a0)]) rfl (by rw [e]) ?_
      refine r_getI dX1_when_124 (fg1 (f := 2) fX10 (by decide) q1579 rfl) h (fun x100 h => ?_)
      refine r_i2l dX1_when_127 h (fun h => ?_)
      obtain ⟨hC, h⟩ := h
      refine r_callV dX1_when_128 hC (c_X1_tell h) q1761 q1763 qs27 q92 q1764 rfl yo_X1_tell rfl (by decide) (by decide) rfl rc0 (by decide) (Nat.zero_le _) (Nat.zero_le _) (ofV fun G101 h => ?_) nox
      refine r_aload_n dX1_when_131 rfl rfl iR ?_
      refine r_aload dX1_when_132 rfl iR ?_
      refine r_getR dX1_when_134 (fg1 (f := 0) fX11 (by decide) q1614 rfl) h (fun x102 h => ?_)
      obtain ⟨a103, e, h⟩ := h
      refine wp.cast (L' := [some (vR (some a0)), some (vI l1), some (vI l2), some (vI l3), some (vR (some a96))]) (st' := [vR (some a103), vR (some a0)]) rfl (by rw [e]) ?_
      refine r_getI dX1_when_137 (fg1 (f := 3) fX10 (by decide) q1581 rfl) h (fun x104 h => ?_)
      refine r_i2l dX1_when_140 h (fun h => ?_)
      obtain ⟨hC, h⟩ := h
      refine r_callV dX1_when_141 hC (c_X1_tell h) q1761 q1763 qs27 q92 q1764 rfl yo_X1_tell rfl (by decide) (by decide) rfl rc0 (by decide) (Nat.zero_le _) (Nat.zero_le _) (ofV fun G105 h => ?_) nox
      refine r_iload_n dX1_when_144 rfl rfl iI ?_
      exact r_iret rfl dX1_when_145 ⟨_, rfl, h⟩
    · refine wp.cast (L' := [some (vR (some a0)), some (vI l1), some (vI l2), some (vI l3), some (vR none)]) (st' := []) (by rw [e]) rfl ?_
      refine r_goto (tgt := 146) dX1_when_110 (by decide) ?_
      refine r_iinc (L' := [some (vR (some a0)), some (vI l1), some (vI l2), some (vI (l3 + 1)), some (vR none)]) dX1_when_146 rfl rfl cI (by decide) ?_
      refine r_goto (tgt := 73) dX1_when_149 (by decide) ?_
      refine wp.locals (L' := [some (vR (some a0)), some (vI l1), some (vI l2), some (vI (l3 + 1)), none]) (ls_s (ls_s (ls_s (ls_s (ls_n ls_0))))) ?_
      exact hk73 h
def f_X1_when_73 (a0 : Nat) (Q : Int → Wd → Prop) : Nat → Nat → Nat → Int → Int → Int → Wd → Prop
  | 0, _, _, _, _, _, _ => False
  | fl + 1, k, n, l1, l2, l3, G => f_X1_when_73_b a0  (fun k n l1 l2 l3 G => f_X1_when_73 a0  Q fl k n l1 l2 l3 G) k n l1 l2 l3 G Q
theorem w_X1_when_73 {a0 : Nat} {Q : Int → Wd → Prop} : ∀ (fl : Nat) {k n : Nat} {l1 : Int} {l2 : Int} {l3 : Int} {G : Wd}, f_X1_when_73 a0 Q fl k n l1 l2 l3 G → wp m_X1_when 224 k n 73 [some (vR (some a0)), some (vI l1), some (vI l2), some (vI l3), none] [] G (qI Q) noX := by
  intro fl
  induction fl with
  | zero => intro k n l1 l2 l3 G h; exact (show False from h).elim
  | succ fl ih => intro k n l1 l2 l3 G h; exact w_X1_when_73_b  (fun h => ih h) h
def f_X1_when (k n : Nat) (a0 : Nat) (a1 : Int) (a2 : Int) (G : Wd) (Q : Int → Wd → Prop) : Prop :=
  (isC G a0 0 ∧ f_X1_isQueue a0 a1 G (fun x107 G106 => brB x107 (ok32 a2 (f_X1_in a2 0 15 G106 (fun x109 G108 => brB x109 (gR G108 a0 [0] 0 (fun x110 => nn x110 (fun a111 => gR G108 a111 [1] 0 (fun x112 => nn x112 (fun a113 => ldR G108 a113 7 a1 (fun x114 => nn x114 (fun a115 => gR G108 a115 [2] 3 (fun x116 => nn x116 (fun a117 => (isC G108 a117 14 ∧ f_J5_get a117 a2 G108 (fun x119 G118 => brB x119 (gR G118 a0 [0] 0 (fun x120 => nn x120 (fun a121 => gR G118 a121 [1] 0 (fun x122 => nn x122 (fun a123 => ldR G118 a123 7 a1 (fun x124 => (∃ k126 n127, (k126 ≤ k ∧ n127 ≤ n) ∧ f_X1_postOf k126 n127 x124 a2 G118 (fun x128 G125 => brN x128 (gR G125 a0 [0] 2 (fun x130 => gR G125 a0 [0] 0 (fun x131 => nn x130 (fun a132 => (∃ k134 n135, (k134 ≤ (k - k126) ∧ n135 ≤ (n - n127)) ∧ (isC G125 a132 1 ∧ f_X2_be k134 n135 a132 x131 G125 (fun G133 => ∃ fl136, f_X1_when_73 a0 Q fl136 ((k - k126) - k134) ((n - n127) - n135) a1 a2 1 G133))))))) (fun a129 => Q (-3) G125))))))))) (Q (-3) G118)))))))))))) (Q (-1) G108)))) (Q (-1) G106)))
theorem w_X1_when {a0 : Nat} {Q : Int → Wd → Prop} {k n : Nat} {a1 : Int} {a2 : Int} {G : Wd} (h : f_X1_when k n a0 a1 a2 G Q) : wp m_X1_when 224 k n 0 [some (vR (some a0)), some (vI a1), some (vI a2), none, none] [] G (qI Q) noX := by
  unfold f_X1_when at h
  refine r_aload_n dX1_when_0 rfl rfl iR ?_
  refine r_iload_n dX1_when_1 rfl rfl iI ?_
  obtain ⟨hC, h⟩ := h
  refine r_callV dX1_when_2 hC (c_X1_isQueue h) q1498 q1500 qs18 q92 q1501 rfl yo_X1_isQueue rfl (by decide) (by decide) rfl rc0 (by decide) (Nat.zero_le _) (Nat.zero_le _) (ofB fun x107 G106 h => ?_) nox
  refine r_ifZ_eq (tgt := 20) dX1_when_5 (by decide) h (fun h => ?_) (fun h => ?_)
  · refine r_iconst dX1_when_20 ?_
    exact r_iret rfl dX1_when_21 ⟨_, rfl, h⟩
  · refine r_iload_n dX1_when_8 rfl rfl iI ?_
    refine r_i2l dX1_when_9 h (fun h => ?_)
    refine r_lconst (y := 0) dX1_when_10 (by decide) ?_
    refine r_ldc2 (x := 15) dX1_when_11 q1797 (by decide) ?_
    refine r_callS dX1_when_14 (c_X1_in h) q776 q777 q92 q778 yo_X1_in rfl (by decide) (by decide) rfl rc0 (by decide) (Nat.zero_le _) (Nat.zero_le _) (ofB fun x109 G108 h => ?_) nox
    refine r_ifZ_ne (tgt := 22) dX1_when_17 (by decide) h (fun h => ?_) (fun h => ?_)
    · refine r_aload_n dX1_when_22 rfl rfl iR ?_
      refine r_getR dX1_when_23 (fg1 (f := 0) fX1 (by decide) q700 rfl) h (fun x110 h => ?_)
      obtain ⟨a111, e, h⟩ := h
      refine wp.cast (L' := [some (vR (some a0)), some (vI a1), some (vI a2), none, none]) (st' := [vR (some a111)]) rfl (by rw [e]) ?_
      refine r_getR dX1_when_26 (fg1 (f := 0) fX2 (by decide) q636 rfl) h (fun x112 h => ?_)
      refine r_iload_n dX1_when_29 rfl rfl iI ?_
      obtain ⟨a113, e, h⟩ := h
      refine wp.cast (L' := [some (vR (some a0)), some (vI a1), some (vI a2), none, none]) (st' := [vI a1, vR (some a113)]) rfl (by rw [e]) ?_
      refine r_aald dX1_when_30 (by decide) (by decide) h (fun x114 h => ?_)
      obtain ⟨a115, e, h⟩ := h
      refine wp.cast (L' := [some (vR (some a0)), some (vI a1), some (vI a2), none, none]) (st' := [vR (some a115)]) rfl (by rw [e]) ?_
      refine r_getR dX1_when_31 (fg1 (f := 3) fX3 (by decide) q562 rfl) h (fun x116 h => ?_)
      refine r_iload_n dX1_when_34 rfl rfl iI ?_
      obtain ⟨a117, e, h⟩ := h
      refine wp.cast (L' := [some (vR (some a0)), some (vI a1), some (vI a2), none, none]) (st' := [vI a2, vR (some a117)]) rfl (by rw [e]) ?_
      obtain ⟨hC, h⟩ := h
      refine r_callV dX1_when_35 hC (c_J5_get h) q1980 q1981 q1982 q100 q1983 rfl yo_J5_get rfl (by decide) (by decide) rfl rc0 (by decide) (Nat.zero_le _) (Nat.zero_le _) (ofB fun x119 G118 h => ?_) nox
      refine r_ifZ_eq (tgt := 57) dX1_when_38 (by decide) h (fun h => ?_) (fun h => ?_)
      · refine r_bipush dX1_when_57 (by decide) ?_
        exact r_iret rfl dX1_when_59 ⟨_, rfl, h⟩
      · refine r_aload_n dX1_when_41 rfl rfl iR ?_
        refine r_getR dX1_when_42 (fg1 (f := 0) fX1 (by decide) q700 rfl) h (fun x120 h => ?_)
        obtain ⟨a121, e, h⟩ := h
        refine wp.cast (L' := [some (vR (some a0)), some (vI a1), some (vI a2), none, none]) (st' := [vR (some a121)]) rfl (by rw [e]) ?_
        refine r_getR dX1_when_45 (fg1 (f := 0) fX2 (by decide) q636 rfl) h (fun x122 h => ?_)
        refine r_iload_n dX1_when_48 rfl rfl iI ?_
        obtain ⟨a123, e, h⟩ := h
        refine wp.cast (L' := [some (vR (some a0)), some (vI a1), some (vI a2), none, none]) (st' := [vI a1, vR (some a123)]) rfl (by rw [e]) ?_
        refine r_aald dX1_when_49 (by decide) (by decide) h (fun x124 h => ?_)
        refine r_iload_n dX1_when_50 rfl rfl iI ?_
        obtain ⟨k126, n127, ⟨hk1, hn1⟩, h⟩ := h
        refine r_callS dX1_when_51 (c_X1_postOf h) q1984 q1985 q92 q1986 yo_X1_postOf rfl (by decide) (by decide) rfl rc0 (by decide) hk1 hn1 (ofR fun x128 G125 h => ?_) nox
        refine r_ifnullV (tgt := 60) dX1_when_54 (by decide) h (fun e h => ?_) (fun a129 e h => ?_)
        · refine r_aload_n dX1_when_60 rfl rfl iR ?_
          refine r_getR dX1_when_61 (fg1 (f := 2) fX1 (by decide) q702 rfl) h (fun x130 h => ?_)
          refine r_aload_n dX1_when_64 rfl rfl iR ?_
          refine r_getR dX1_when_65 (fg1 (f := 0) fX1 (by decide) q700 rfl) h (fun x131 h => ?_)
          obtain ⟨a132, e, h⟩ := h
          refine wp.cast (L' := [some (vR (some a0)), some (vI a1), some (vI a2), none, none]) (st' := [vR x131, vR (some a132)]) rfl (by rw [e]) ?_
          obtain ⟨k134, n135, ⟨hk1, hn1⟩, h⟩ := h
          obtain ⟨hC, h⟩ := h
          refine r_callV dX1_when_68 hC (c_X2_be h) q1076 q1077 q1078 q93 q1079 rfl yo_X2_be rfl (by decide) (by decide) rfl rc0 (by decide) hk1 hn1 (ofV fun G133 h => ?_) nox
          refine r_iconst dX1_when_71 ?_
          refine r_istore_n (L' := [some (vR (some a0)), some (vI a1), some (vI a2), some (vI 1), none]) dX1_when_72 rfl rfl iI cI (by decide) ?_
          obtain ⟨fl136, h⟩ := h
          exact w_X1_when_73 fl136 h
        · refine r_bipush dX1_when_57 (by decide) ?_
          exact r_iret rfl dX1_when_59 ⟨_, rfl, h⟩
    · refine r_iconst dX1_when_20 ?_
      exact r_iret rfl dX1_when_21 ⟨_, rfl, h⟩
theorem c_X1_when {a0 : Nat} {a1 : Int} {a2 : Int} {k n : Nat} {Q : Int → Wd → Prop} {G : Wd} (h : f_X1_when k n a0 a1 a2 G Q) : call yX1_when (Cond.code yX1_when cX1_when 5 (some .int)) 224 k n [vR (some a0), vI a1, vI a2] G (qI Q) noX :=
  call.enter (by decide +kernel) (la_1 c1R (la_1 c1I (la_1 c1I (la_nil rfl)))) rfl (w_X1_when h)
abbrev m_X1_drained : Mt := (yX1_drained.cls, cX1_drained, 2, some .int, [], yX1_drained.name)
theorem yo_X1_drained : yOK yX1_drained 0 := ⟨by decide +kernel, by decide +kernel, by decide +kernel⟩
def f_X1_drained_7_b (a0 : Nat) (k7 : Nat → Nat → Int → Wd → Prop) (k n : Nat) (l1 : Int) (G : Wd) (Q : Int → Wd → Prop) : Prop :=
  br l1 99 ((99 : Int) < l1) (Q (-2) G) (gR G a0 [0] 2 (fun x34 => nn x34 (fun a35 => (isC G a35 1 ∧ f_X2_isDrained a35  G (fun x37 G36 => brB x37 (Q l1 G36) (br l1 99 (¬ l1 = (99 : Int)) (gI G36 a0 [0] 13 (fun x38 => gR G36 a0 [0] 2 (fun x39 => nn x39 (fun a40 => (isC G36 a40 1 ∧ f_X2_takeAll a40  G36 (fun x42 G41 => pF G41 a0 [0] 13 (vI (x38 + x42)) (fun G43 => gR G43 a0 [0] 2 (fun x44 => gR G43 a0 [0] 10 (fun x45 => nn x44 (fun a46 => (∃ k48 n49, (k48 ≤ k ∧ n49 ≤ n) ∧ (isC G43 a46 1 ∧ f_X2_goTick k48 n49 a46 x45 G43 (fun G47 => k7 (k - k48) (n - n49) (l1 + 1) G47))))))))))))) (Q (-2) G36)))))))
theorem w_X1_drained_7_b {a0 : Nat} {Q : Int → Wd → Prop} {k7 : Nat → Nat → Int → Wd → Prop} (hk7 : ∀ {k n : Nat} {l1 : Int} {G : Wd}, k7 k n l1 G → wp m_X1_drained 224 k n 7 [some (vR (some a0)), some (vI l1)] [] G (qI Q) noX) {k n : Nat} {l1 : Int} {G : Wd} (h : f_X1_drained_7_b a0 k7 k n l1 G Q) : wp m_X1_drained 224 k n 7 [some (vR (some a0)), some (vI l1)] [] G (qI Q) noX := by
  unfold f_X1_drained_7_b at h
  refine r_iload_n dX1_drained_7 rfl rfl iI ?_
  refine r_bipush dX1_drained_8 (by decide) ?_
  refine r_icmp_gt (tgt := 67) dX1_drained_10 (by decide) h (fun h => ?_) (fun h => ?_)
  · refine r_bipush dX1_drained_67 (by decide) ?_
    exact r_iret rfl dX1_drained_69 ⟨_, rfl, h⟩
  · refine r_aload_n dX1_drained_13 rfl rfl iR ?_
    refine r_getR dX1_drained_14 (fg1 (f := 2) fX1 (by decide) q702 rfl) h (fun x34 h => ?_)
    obtain ⟨a35, e, h⟩ := h
    refine wp.cast (L' := [some (vR (some a0)), some (vI l1)]) (st' := [vR (some a35)]) rfl (by rw [e]) ?_
    obtain ⟨hC, h⟩ := h
    refine r_callV dX1_drained_17 hC (c_X2_isDrained h) q1996 q1997 q1998 q93 q1999 rfl yo_X2_isDrained rfl (by decide) (by decide) rfl rc0 (by decide) (Nat.zero_le _) (Nat.zero_le _) (ofB fun x37 G36 h => ?_) nox
    refine r_ifZ_eq (tgt := 25) dX1_drained_20 (by decide) h (fun h => ?_) (fun h => ?_)
    · refine r_iload_n dX1_drained_25 rfl rfl iI ?_
      refine r_bipush dX1_drained_26 (by decide) ?_
      refine r_icmp_ne (tgt := 34) dX1_drained_28 (by decide) h (fun h => ?_) (fun h => ?_)
      · refine r_aload_n dX1_drained_34 rfl rfl iR ?_
        refine r_dup dX1_drained_35 c1R ?_
        refine r_getI dX1_drained_36 (fg1 (f := 13) fX1 (by decide) q713 rfl) h (fun x38 h => ?_)
        refine r_aload_n dX1_drained_39 rfl rfl iR ?_
        refine r_getR dX1_drained_40 (fg1 (f := 2) fX1 (by decide) q702 rfl) h (fun x39 h => ?_)
        obtain ⟨a40, e, h⟩ := h
        refine wp.cast (L' := [some (vR (some a0)), some (vI l1)]) (st' := [vR (some a40), vI x38, vR (some a0)]) rfl (by rw [e]) ?_
        obtain ⟨hC, h⟩ := h
        refine r_callV dX1_drained_43 hC (c_X2_takeAll h) q2001 q2002 q2003 q93 q2004 rfl yo_X2_takeAll rfl (by decide) (by decide) rfl (rc1 c1I (rc1 c1R rc0)) (by decide) (Nat.zero_le _) (Nat.zero_le _) (ofI fun x42 G41 h => ?_) nox
        refine r_iadd dX1_drained_46 ?_
        refine r_put dX1_drained_47 (fp1 (f := 13) fX1 (by decide) q713 rfl rfl rfl) fvI h (fun G43 h => ?_)
        refine r_aload_n dX1_drained_50 rfl rfl iR ?_
        refine r_getR dX1_drained_51 (fg1 (f := 2) fX1 (by decide) q702 rfl) h (fun x44 h => ?_)
        refine r_aload_n dX1_drained_54 rfl rfl iR ?_
        refine r_getR dX1_drained_55 (fg1 (f := 10) fX1 (by decide) q710 rfl) h (fun x45 h => ?_)
        obtain ⟨a46, e, h⟩ := h
        refine wp.cast (L' := [some (vR (some a0)), some (vI l1)]) (st' := [vR x45, vR (some a46)]) rfl (by rw [e]) ?_
        obtain ⟨k48, n49, ⟨hk1, hn1⟩, h⟩ := h
        obtain ⟨hC, h⟩ := h
        refine r_callV dX1_drained_58 hC (c_X2_goTick h) q1516 q1517 q1518 q93 q1519 rfl yo_X2_goTick rfl (by decide) (by decide) rfl rc0 (by decide) hk1 hn1 (ofV fun G47 h => ?_) nox
        refine r_iinc (L' := [some (vR (some a0)), some (vI (l1 + 1))]) dX1_drained_61 rfl rfl cR (by decide) ?_
        refine r_goto (tgt := 7) dX1_drained_64 (by decide) ?_
        exact hk7 h
      · refine r_goto (tgt := 67) dX1_drained_31 (by decide) ?_
        refine r_bipush dX1_drained_67 (by decide) ?_
        exact r_iret rfl dX1_drained_69 ⟨_, rfl, h⟩
    · refine r_iload_n dX1_drained_23 rfl rfl iI ?_
      exact r_iret rfl dX1_drained_24 ⟨_, rfl, h⟩
def f_X1_drained_7 (a0 : Nat) (Q : Int → Wd → Prop) : Nat → Nat → Nat → Int → Wd → Prop
  | 0, _, _, _, _ => False
  | fl + 1, k, n, l1, G => f_X1_drained_7_b a0  (fun k n l1 G => f_X1_drained_7 a0  Q fl k n l1 G) k n l1 G Q
theorem w_X1_drained_7 {a0 : Nat} {Q : Int → Wd → Prop} : ∀ (fl : Nat) {k n : Nat} {l1 : Int} {G : Wd}, f_X1_drained_7 a0 Q fl k n l1 G → wp m_X1_drained 224 k n 7 [some (vR (some a0)), some (vI l1)] [] G (qI Q) noX := by
  intro fl
  induction fl with
  | zero => intro k n l1 G h; exact (show False from h).elim
  | succ fl ih => intro k n l1 G h; exact w_X1_drained_7_b  (fun h => ih h) h
def f_X1_drained (k n : Nat) (a0 : Nat) (G : Wd) (Q : Int → Wd → Prop) : Prop :=
  pF G a0 [0] 13 (vI 0) (fun G50 => ∃ fl51, f_X1_drained_7 a0 Q fl51 k n 0 G50)
theorem w_X1_drained {a0 : Nat} {Q : Int → Wd → Prop} {k n : Nat} {G : Wd} (h : f_X1_drained k n a0 G Q) : wp m_X1_drained 224 k n 0 [some (vR (some a0)), none] [] G (qI Q) noX := by
  unfold f_X1_drained at h
  refine r_aload_n dX1_drained_0 rfl rfl iR ?_
  refine r_iconst dX1_drained_1 ?_
  refine r_put dX1_drained_2 (fp1 (f := 13) fX1 (by decide) q713 rfl rfl rfl) fvI h (fun G50 h => ?_)
  refine r_iconst dX1_drained_5 ?_
  refine r_istore_n (L' := [some (vR (some a0)), some (vI 0)]) dX1_drained_6 rfl rfl iI cR (by decide) ?_
  obtain ⟨fl51, h⟩ := h
  exact w_X1_drained_7 fl51 h
theorem c_X1_drained {a0 : Nat} {k n : Nat} {Q : Int → Wd → Prop} {G : Wd} (h : f_X1_drained k n a0 G Q) : call yX1_drained (Cond.code yX1_drained cX1_drained 2 (some .int)) 224 k n [vR (some a0)] G (qI Q) noX :=
  call.enter (by decide +kernel) (la_1 c1R (la_nil rfl)) rfl (w_X1_drained h)
abbrev m_X1_would : Mt := (yX1_would.cls, cX1_would, 3, some .int, [], yX1_would.name)
theorem yo_X1_would : yOK yX1_would 1 := ⟨by decide +kernel, by decide +kernel, by decide +kernel⟩
def f_X1_would_81 (a0 : Nat) (k n : Nat) (l1 : Int) (s1 : Int) (G : Wd) (Q : Int → Wd → Prop) : Prop :=
  (isC G a0 0 ∧ f_X1_tell a0 s1 G (fun G49 => gR G49 a0 [0] 2 (fun x50 => nn x50 (fun a51 => gR G49 a51 [1] 3 (fun x52 => nn x52 (fun a53 => ldI G49 a53 0 l1 (fun x54 => Q x54 G49)))))))
theorem w_X1_would_81 {a0 : Nat} {Q : Int → Wd → Prop} {k n : Nat} {l1 : Int} {s1 : Int} {G : Wd} (h : f_X1_would_81 a0 k n l1 s1 G Q) : wp m_X1_would 225 k n 81 [some (vR (some a0)), some (vI l1), none] [vJ s1, vR (some a0)] G (qI Q) noX := by
  unfold f_X1_would_81 at h
  obtain ⟨hC, h⟩ := h
  refine r_callV dX1_would_81 hC (c_X1_tell h) q1761 q1763 qs27 q92 q1764 rfl yo_X1_tell rfl (by decide) (by decide) rfl rc0 (by decide) (Nat.zero_le _) (Nat.zero_le _) (ofV fun G49 h => ?_) nox
  refine r_aload_n dX1_would_84 rfl rfl iR ?_
  refine r_getR dX1_would_85 (fg1 (f := 2) fX1 (by decide) q702 rfl) h (fun x50 h => ?_)
  obtain ⟨a51, e, h⟩ := h
  refine wp.cast (L' := [some (vR (some a0)), some (vI l1), none]) (st' := [vR (some a51)]) rfl (by rw [e]) ?_
  refine r_getR dX1_would_88 (fg1 (f := 3) fX2 (by decide) q643 rfl) h (fun x52 h => ?_)
  refine r_iload_n dX1_would_91 rfl rfl iI ?_
  obtain ⟨a53, e, h⟩ := h
  refine wp.cast (L' := [some (vR (some a0)), some (vI l1), none]) (st' := [vI l1, vR (some a53)]) rfl (by rw [e]) ?_
  refine r_iald dX1_would_92 h (fun x54 h => ?_)
  exact r_iret rfl dX1_would_93 ⟨_, rfl, h⟩
def f_X1_would_27_b (a0 : Nat) (k27 : Nat → Nat → Int → Int → Wd → Prop) (k n : Nat) (l1 : Int) (l2 : Int) (G : Wd) (Q : Int → Wd → Prop) : Prop :=
  gR G a0 [0] 2 (fun x55 => nn x55 (fun a56 => gI G a56 [1] 8 (fun x57 => br l2 x57 (x57 ≤ l2) ((∃ k59 n60, (k59 ≤ k ∧ n60 ≤ n) ∧ (isC G a0 0 ∧ f_X1_drained k59 n60 a0  G (fun x61 G58 => pF G58 a0 [0] 9 (vI 0) (fun G62 => br0 x61 (0 ≤ x61) (f_X1_would_81 a0 (k - k59) (n - n60) l1 1 G62 Q) (f_X1_would_81 a0 (k - k59) (n - n60) l1 0 G62 Q)))))) (gR G a0 [0] 2 (fun x63 => gR G a0 [0] 2 (fun x64 => nn x64 (fun a65 => gR G a65 [1] 0 (fun x66 => nn x66 (fun a67 => ldR G a67 7 l2 (fun x68 => nn x63 (fun a69 => (isC G a69 1 ∧ f_X2_ringUp a69 x68 G (fun x71 G70 => k27 k n l1 (l2 + 1) G70)))))))))))))
theorem w_X1_would_27_b {a0 : Nat} {Q : Int → Wd → Prop} {k27 : Nat → Nat → Int → Int → Wd → Prop} (hk27 : ∀ {k n : Nat} {l1 : Int} {l2 : Int} {G : Wd}, k27 k n l1 l2 G → wp m_X1_would 225 k n 27 [some (vR (some a0)), some (vI l1), some (vI l2)] [] G (qI Q) noX) {k n : Nat} {l1 : Int} {l2 : Int} {G : Wd} (h : f_X1_would_27_b a0 k27 k n l1 l2 G Q) : wp m_X1_would 225 k n 27 [some (vR (some a0)), some (vI l1), some (vI l2)] [] G (qI Q) noX := by
  unfold f_X1_would_27_b at h
  refine r_iload_n dX1_would_27 rfl rfl iI ?_
  refine r_aload_n dX1_would_28 rfl rfl iR ?_
  refine r_getR dX1_would_29 (fg1 (f := 2) fX1 (by decide) q702 rfl) h (fun x55 h => ?_)
  obtain ⟨a56, e, h⟩ := h
  refine wp.cast (L' := [some (vR (some a0)), some (vI l1), some (vI l2)]) (st' := [vR (some a56), vI l2]) rfl (by rw [e]) ?_
  refine r_getI dX1_would_32 (fg1 (f := 8) fX2 (by decide) q652 rfl) h (fun x57 h => ?_)
  refine r_icmp_ge (tgt := 61) dX1_would_35 (by decide) h (fun h => ?_) (fun h => ?_)
  · refine r_aload_n dX1_would_61 rfl rfl iR ?_
    obtain ⟨k59, n60, ⟨hk1, hn1⟩, h⟩ := h
    obtain ⟨hC, h⟩ := h
    refine r_callV dX1_would_62 hC (c_X1_drained h) q1992 q1994 qs33 q92 q1995 rfl yo_X1_drained rfl (by decide) (by decide) rfl rc0 (by decide) hk1 hn1 (ofI fun x61 G58 h => ?_) nox
    refine r_istore_n (L' := [some (vR (some a0)), some (vI l1), some (vI x61)]) dX1_would_65 rfl rfl iI cI (by decide) ?_
    refine r_aload_n dX1_would_66 rfl rfl iR ?_
    refine r_iconst dX1_would_67 ?_
    refine r_put dX1_would_68 (fp1 (f := 9) fX1 (by decide) q709 rfl rfl rfl) fvI h (fun G62 h => ?_)
    refine r_aload_n dX1_would_71 rfl rfl iR ?_
    refine r_iload_n dX1_would_72 rfl rfl iI ?_
    refine r_if_ge (tgt := 80) dX1_would_73 (by decide) h (fun h => ?_) (fun h => ?_)
    · refine r_lconst (y := 1) dX1_would_80 (by decide) ?_
      refine wp.locals (L' := [some (vR (some a0)), some (vI l1), none]) (ls_s (ls_s (ls_n ls_0))) ?_
      exact w_X1_would_81 h
    · refine r_lconst (y := 0) dX1_would_76 (by decide) ?_
      refine r_goto (tgt := 81) dX1_would_77 (by decide) ?_
      refine wp.locals (L' := [some (vR (some a0)), some (vI l1), none]) (ls_s (ls_s (ls_n ls_0))) ?_
      exact w_X1_would_81 h
  · refine r_aload_n dX1_would_38 rfl rfl iR ?_
    refine r_getR dX1_would_39 (fg1 (f := 2) fX1 (by decide) q702 rfl) h (fun x63 h => ?_)
    refine r_aload_n dX1_would_42 rfl rfl iR ?_
    refine r_getR dX1_would_43 (fg1 (f := 2) fX1 (by decide) q702 rfl) h (fun x64 h => ?_)
    obtain ⟨a65, e, h⟩ := h
    refine wp.cast (L' := [some (vR (some a0)), some (vI l1), some (vI l2)]) (st' := [vR (some a65), vR x63]) rfl (by rw [e]) ?_
    refine r_getR dX1_would_46 (fg1 (f := 0) fX2 (by decide) q636 rfl) h (fun x66 h => ?_)
    refine r_iload_n dX1_would_49 rfl rfl iI ?_
    obtain ⟨a67, e, h⟩ := h
    refine wp.cast (L' := [some (vR (some a0)), some (vI l1), some (vI l2)]) (st' := [vI l2, vR (some a67), vR x63]) rfl (by rw [e]) ?_
    refine r_aald dX1_would_50 (by decide) (by decide) h (fun x68 h => ?_)
    obtain ⟨a69, e, h⟩ := h
    refine wp.cast (L' := [some (vR (some a0)), some (vI l1), some (vI l2)]) (st' := [vR x68, vR (some a69)]) rfl (by rw [e]) ?_
    obtain ⟨hC, h⟩ := h
    refine r_callV dX1_would_51 hC (c_X2_ringUp h) q1506 q1507 q1508 q93 q1509 rfl yo_X2_ringUp rfl (by decide) (by decide) rfl rc0 (by decide) (Nat.zero_le _) (Nat.zero_le _) (ofI fun x71 G70 h => ?_) nox
    refine r_pop dX1_would_54 c1I ?_
    refine r_iinc (L' := [some (vR (some a0)), some (vI l1), some (vI (l2 + 1))]) dX1_would_55 rfl rfl cI (by decide) ?_
    refine r_goto (tgt := 27) dX1_would_58 (by decide) ?_
    exact hk27 h
def f_X1_would_27 (a0 : Nat) (Q : Int → Wd → Prop) : Nat → Nat → Nat → Int → Int → Wd → Prop
  | 0, _, _, _, _, _ => False
  | fl + 1, k, n, l1, l2, G => f_X1_would_27_b a0  (fun k n l1 l2 G => f_X1_would_27 a0  Q fl k n l1 l2 G) k n l1 l2 G Q
theorem w_X1_would_27 {a0 : Nat} {Q : Int → Wd → Prop} : ∀ (fl : Nat) {k n : Nat} {l1 : Int} {l2 : Int} {G : Wd}, f_X1_would_27 a0 Q fl k n l1 l2 G → wp m_X1_would 225 k n 27 [some (vR (some a0)), some (vI l1), some (vI l2)] [] G (qI Q) noX := by
  intro fl
  induction fl with
  | zero => intro k n l1 l2 G h; exact (show False from h).elim
  | succ fl ih => intro k n l1 l2 G h; exact w_X1_would_27_b  (fun h => ih h) h
def f_X1_would (k n : Nat) (a0 : Nat) (a1 : Int) (G : Wd) (Q : Int → Wd → Prop) : Prop :=
  ok32 a1 (f_X1_in a1 0 9 G (fun x73 G72 => brB x73 (gR G72 a0 [0] 2 (fun x74 => gR G72 a0 [0] 0 (fun x75 => nn x74 (fun a76 => (∃ k78 n79, (k78 ≤ k ∧ n79 ≤ n) ∧ (isC G72 a76 1 ∧ f_X2_be k78 n79 a76 x75 G72 (fun G77 => ∃ fl80, f_X1_would_27 a0 Q fl80 (k - k78) (n - n79) a1 0 G77))))))) (Q (-1) G72)))
theorem w_X1_would {a0 : Nat} {Q : Int → Wd → Prop} {k n : Nat} {a1 : Int} {G : Wd} (h : f_X1_would k n a0 a1 G Q) : wp m_X1_would 225 k n 0 [some (vR (some a0)), some (vI a1), none] [] G (qI Q) noX := by
  unfold f_X1_would at h
  refine r_iload_n dX1_would_0 rfl rfl iI ?_
  refine r_i2l dX1_would_1 h (fun h => ?_)
  refine r_lconst (y := 0) dX1_would_2 (by decide) ?_
  refine r_ldc2 (x := 9) dX1_would_3 q1051 (by decide) ?_
  refine r_callS dX1_would_6 (c_X1_in h) q776 q777 q92 q778 yo_X1_in rfl (by decide) (by decide) rfl rc0 (by decide) (Nat.zero_le _) (Nat.zero_le _) (ofB fun x73 G72 h => ?_) nox
  refine r_ifZ_ne (tgt := 14) dX1_would_9 (by decide) h (fun h => ?_) (fun h => ?_)
  · refine r_aload_n dX1_would_14 rfl rfl iR ?_
    refine r_getR dX1_would_15 (fg1 (f := 2) fX1 (by decide) q702 rfl) h (fun x74 h => ?_)
    refine r_aload_n dX1_would_18 rfl rfl iR ?_
    refine r_getR dX1_would_19 (fg1 (f := 0) fX1 (by decide) q700 rfl) h (fun x75 h => ?_)
    obtain ⟨a76, e, h⟩ := h
    refine wp.cast (L' := [some (vR (some a0)), some (vI a1), none]) (st' := [vR x75, vR (some a76)]) rfl (by rw [e]) ?_
    obtain ⟨k78, n79, ⟨hk1, hn1⟩, h⟩ := h
    obtain ⟨hC, h⟩ := h
    refine r_callV dX1_would_22 hC (c_X2_be h) q1076 q1077 q1078 q93 q1079 rfl yo_X2_be rfl (by decide) (by decide) rfl rc0 (by decide) hk1 hn1 (ofV fun G77 h => ?_) nox
    refine r_iconst dX1_would_25 ?_
    refine r_istore_n (L' := [some (vR (some a0)), some (vI a1), some (vI 0)]) dX1_would_26 rfl rfl iI cI (by decide) ?_
    obtain ⟨fl80, h⟩ := h
    exact w_X1_would_27 fl80 h
  · refine r_iconst dX1_would_12 ?_
    exact r_iret rfl dX1_would_13 ⟨_, rfl, h⟩
theorem c_X1_would {a0 : Nat} {a1 : Int} {k n : Nat} {Q : Int → Wd → Prop} {G : Wd} (h : f_X1_would k n a0 a1 G Q) : call yX1_would (Cond.code yX1_would cX1_would 3 (some .int)) 225 k n [vR (some a0), vI a1] G (qI Q) noX :=
  call.enter (by decide +kernel) (la_1 c1R (la_1 c1I (la_nil rfl))) rfl (w_X1_would h)
abbrev m_X1_drainedBy : Mt := (yX1_drainedBy.cls, cX1_drainedBy, 2, some .int, [], yX1_drainedBy.name)
theorem yo_X1_drainedBy : yOK yX1_drainedBy 0 := ⟨by decide +kernel, by decide +kernel, by decide +kernel⟩
def f_X1_drainedBy (k n : Nat) (a0 : Nat) (G : Wd) (Q : Int → Wd → Prop) : Prop :=
  gR G a0 [0] 2 (fun x11 => gR G a0 [0] 0 (fun x12 => nn x11 (fun a13 => (∃ k15 n16, (k15 ≤ k ∧ n16 ≤ n) ∧ (isC G a13 1 ∧ f_X2_be k15 n16 a13 x12 G (fun G14 => (∃ k18 n19, (k18 ≤ (k - k15) ∧ n19 ≤ (n - n16)) ∧ (isC G14 a0 0 ∧ f_X1_drained k18 n19 a0  G14 (fun x20 G17 => br0 x20 (0 ≤ x20) (Q x20 G17) (Q 100 G17))))))))))
theorem w_X1_drainedBy {a0 : Nat} {Q : Int → Wd → Prop} {k n : Nat} {G : Wd} (h : f_X1_drainedBy k n a0 G Q) : wp m_X1_drainedBy 225 k n 0 [some (vR (some a0)), none] [] G (qI Q) noX := by
  unfold f_X1_drainedBy at h
  refine r_aload_n dX1_drainedBy_0 rfl rfl iR ?_
  refine r_getR dX1_drainedBy_1 (fg1 (f := 2) fX1 (by decide) q702 rfl) h (fun x11 h => ?_)
  refine r_aload_n dX1_drainedBy_4 rfl rfl iR ?_
  refine r_getR dX1_drainedBy_5 (fg1 (f := 0) fX1 (by decide) q700 rfl) h (fun x12 h => ?_)
  obtain ⟨a13, e, h⟩ := h
  refine wp.cast (L' := [some (vR (some a0)), none]) (st' := [vR x12, vR (some a13)]) rfl (by rw [e]) ?_
  obtain ⟨k15, n16, ⟨hk1, hn1⟩, h⟩ := h
  obtain ⟨hC, h⟩ := h
  refine r_callV dX1_drainedBy_8 hC (c_X2_be h) q1076 q1077 q1078 q93 q1079 rfl yo_X2_be rfl (by decide) (by decide) rfl rc0 (by decide) hk1 hn1 (ofV fun G14 h => ?_) nox
  refine r_aload_n dX1_drainedBy_11 rfl rfl iR ?_
  obtain ⟨k18, n19, ⟨hk1, hn1⟩, h⟩ := h
  obtain ⟨hC, h⟩ := h
  refine r_callV dX1_drainedBy_12 hC (c_X1_drained h) q1992 q1994 qs33 q92 q1995 rfl yo_X1_drained rfl (by decide) (by decide) rfl rc0 (by decide) hk1 hn1 (ofI fun x20 G17 h => ?_) nox
  refine r_istore_n (L' := [some (vR (some a0)), some (vI x20)]) dX1_drainedBy_15 rfl rfl iI cR (by decide) ?_
  refine r_iload_n dX1_drainedBy_16 rfl rfl iI ?_
  refine r_if_ge (tgt := 25) dX1_drainedBy_17 (by decide) h (fun h => ?_) (fun h => ?_)
  · refine r_iload_n dX1_drainedBy_25 rfl rfl iI ?_
    exact r_iret rfl dX1_drainedBy_26 ⟨_, rfl, h⟩
  · refine r_bipush dX1_drainedBy_20 (by decide) ?_
    refine r_goto (tgt := 26) dX1_drainedBy_22 (by decide) ?_
    exact r_iret rfl dX1_drainedBy_26 ⟨_, rfl, h⟩
theorem c_X1_drainedBy {a0 : Nat} {k n : Nat} {Q : Int → Wd → Prop} {G : Wd} (h : f_X1_drainedBy k n a0 G Q) : call yX1_drainedBy (Cond.code yX1_drainedBy cX1_drainedBy 2 (some .int)) 225 k n [vR (some a0)] G (qI Q) noX :=
  call.enter (by decide +kernel) (la_1 c1R (la_nil rfl)) rfl (w_X1_drainedBy h)
abbrev m_X1_goDrawn : Mt := (yX1_goDrawn.cls, cX1_goDrawn, 7, some .int, [], yX1_goDrawn.name)
theorem yo_X1_goDrawn : yOK yX1_goDrawn 3 := ⟨by decide +kernel, by decide +kernel, by decide +kernel⟩
def f_X1_goDrawn (k n : Nat) (a0 : Nat) (a1 : Option Nat) (a2 : Int) (a3 : Int) (G : Wd) (Q : Int → Wd → Prop) : Prop :=
  ok32 a2 (swc a2 0 ((isC G a0 0 ∧ f_X1_draw a0 5 G (fun x55 G54 => (isC G54 a0 0 ∧ f_X1_draw a0 10 G54 (fun x57 G56 => (isC G56 a0 0 ∧ f_X1_draw a0 100 G56 (fun x59 G58 => f_X1_refusesPut a1 a3 x55 x57 x59 G58 (fun x61 G60 => br0 x61 (¬ x61 = 0) (Q 0 G60) ((∃ k63 n64, (k63 ≤ k ∧ n64 ≤ n) ∧ f_X1_goPut k63 n64 a1 a3 x55 x57 x59 G60 (fun x65 G62 => Q 0 G62))))))))))) (swc a2 1 ((isC G a0 0 ∧ f_X1_draw a0 5 G (fun x67 G66 => (isC G66 a0 0 ∧ f_X1_draw a0 10 G66 (fun x69 G68 => (isC G68 a0 0 ∧ f_X1_draw a0 100 G68 (fun x71 G70 => f_X1_refusesPut a1 a3 x67 x69 x71 G70 (fun x73 G72 => br0 x73 (¬ x73 = 0) (Q 0 G72) ((∃ k75 n76, (k75 ≤ k ∧ n76 ≤ n) ∧ f_X1_goPut k75 n76 a1 a3 x67 x69 x71 G72 (fun x77 G74 => Q 0 G74))))))))))) (swc a2 2 (nn a1 (fun a78 => gR G a78 [1] 0 (fun x79 => nn x79 (fun a80 => ldR G a80 7 a3 (fun x81 => (isC G a78 1 ∧ f_X2_ringUp a78 x81 G (fun x83 G82 => Q 0 G82))))))) (swc a2 3 (gR G a0 [0] 10 (fun x84 => nn a1 (fun a85 => (∃ k87 n88, (k87 ≤ k ∧ n88 ≤ n) ∧ (isC G a85 1 ∧ f_X2_goTick k87 n88 a85 x84 G (fun G86 => Q 0 G86)))))) (swc a2 4 (f_X1_refusesTaking a1 a3 G (fun x90 G89 => br0 x90 (0 ≤ x90) (nn a1 (fun a91 => gR G89 a91 [1] 0 (fun x92 => nn x92 (fun a93 => ldR G89 a93 7 a3 (fun x94 => nn x94 (fun a95 => (isC G89 a95 2 ∧ f_X3_take a95  G89 (fun x97 G96 => Q 1 G96)))))))) (Q 0 G89))) ((isC G a0 0 ∧ f_X1_draw a0 16 G (fun x99 G98 => (∃ k101 n102, (k101 ≤ k ∧ n102 ≤ n) ∧ (isC G98 a0 0 ∧ f_X1_recallOf k101 n102 a0 a1 a3 x99 G98 (fun x103 G100 => br0 x103 (x103 < 0) (Q 0 G100) ((∃ k105 n106, (k105 ≤ (k - k101) ∧ n106 ≤ (n - n102)) ∧ f_X1_goCall k105 n106 a1 a3 x99 G100 (fun G104 => Q 0 G104))))))))))))))
theorem w_X1_goDrawn {a0 : Nat} {Q : Int → Wd → Prop} {k n : Nat} {a1 : Option Nat} {a2 : Int} {a3 : Int} {G : Wd} (h : f_X1_goDrawn k n a0 a1 a2 a3 G Q) : wp m_X1_goDrawn 224 k n 0 [some (vR (some a0)), some (vR a1), some (vI a2), some (vI a3), none, none, none] [] G (qI Q) noX := by
  unfold f_X1_goDrawn at h
  refine r_iload_n dX1_goDrawn_0 rfl rfl iI ?_
  obtain ⟨hr, h⟩ := h
  refine r_swc h (fun e0 h => ?_) (fun e0 h => ?_)
  · refine r_tsIn (tgt := 36) dX1_goDrawn_1 hr e0 (by decide) (by decide) rfl (by decide) ?_
    refine r_aload_n dX1_goDrawn_36 rfl rfl iR ?_
    refine r_iconst dX1_goDrawn_37 ?_
    obtain ⟨hC, h⟩ := h
    refine r_callV dX1_goDrawn_38 hC (c_X1_draw h) q2079 q2081 qs38 q92 q2082 rfl yo_X1_draw rfl (by decide) (by decide) rfl rc0 (by decide) (Nat.zero_le _) (Nat.zero_le _) (ofI fun x55 G54 h => ?_) nox
    refine r_istore (L' := [some (vR (some a0)), some (vR a1), some (vI a2), some (vI a3), some (vI x55), none, none]) dX1_goDrawn_41 rfl iI cI (by decide) ?_
    refine r_aload_n dX1_goDrawn_43 rfl rfl iR ?_
    refine r_bipush dX1_goDrawn_44 (by decide) ?_
    obtain ⟨hC, h⟩ := h
    refine r_callV dX1_goDrawn_46 hC (c_X1_draw h) q2079 q2081 qs38 q92 q2082 rfl yo_X1_draw rfl (by decide) (by decide) rfl rc0 (by decide) (Nat.zero_le _) (Nat.zero_le _) (ofI fun x57 G56 h => ?_) nox
    refine r_istore (L' := [some (vR (some a0)), some (vR a1), some (vI a2), some (vI a3), some (vI x55), some (vI x57), none]) dX1_goDrawn_49 rfl iI cI (by decide) ?_
    refine r_aload_n dX1_goDrawn_51 rfl rfl iR ?_
    refine r_bipush dX1_goDrawn_52 (by decide) ?_
    obtain ⟨hC, h⟩ := h
    refine r_callV dX1_goDrawn_54 hC (c_X1_draw h) q2079 q2081 qs38 q92 q2082 rfl yo_X1_draw rfl (by decide) (by decide) rfl rc0 (by decide) (Nat.zero_le _) (Nat.zero_le _) (ofI fun x59 G58 h => ?_) nox
    refine r_istore (L' := [some (vR (some a0)), some (vR a1), some (vI a2), some (vI a3), some (vI x55), some (vI x57), some (vI x59)]) dX1_goDrawn_57 rfl iI cI (by decide) ?_
    refine r_aload_n dX1_goDrawn_59 rfl rfl iR ?_
    refine r_iload_n dX1_goDrawn_60 rfl rfl iI ?_
    refine r_iload dX1_goDrawn_61 rfl iI ?_
    refine r_iload dX1_goDrawn_63 rfl iI ?_
    refine r_iload dX1_goDrawn_65 rfl iI ?_
    refine r_callS dX1_goDrawn_67 (c_X1_refusesPut h) q1047 q1048 q92 q1049 yo_X1_refusesPut rfl (by decide) (by decide) rfl rc0 (by decide) (Nat.zero_le _) (Nat.zero_le _) (ofI fun x61 G60 h => ?_) nox
    refine r_if_ne (tgt := 85) dX1_goDrawn_70 (by decide) h (fun h => ?_) (fun h => ?_)
    · refine r_iconst dX1_goDrawn_85 ?_
      exact r_iret rfl dX1_goDrawn_86 ⟨_, rfl, h⟩
    · refine r_aload_n dX1_goDrawn_73 rfl rfl iR ?_
      refine r_iload_n dX1_goDrawn_74 rfl rfl iI ?_
      refine r_iload dX1_goDrawn_75 rfl iI ?_
      refine r_iload dX1_goDrawn_77 rfl iI ?_
      refine r_iload dX1_goDrawn_79 rfl iI ?_
      obtain ⟨k63, n64, ⟨hk1, hn1⟩, h⟩ := h
      refine r_callS dX1_goDrawn_81 (c_X1_goPut h) q1430 q1431 q92 q1432 yo_X1_goPut rfl (by decide) (by decide) rfl rc0 (by decide) hk1 hn1 (ofI fun x65 G62 h => ?_) nox
      refine r_pop dX1_goDrawn_84 c1I ?_
      refine r_iconst dX1_goDrawn_85 ?_
      exact r_iret rfl dX1_goDrawn_86 ⟨_, rfl, h⟩
  · refine r_swc h (fun e1 h => ?_) (fun e1 h => ?_)
    · refine r_tsIn (tgt := 36) dX1_goDrawn_1 hr e1 (by decide) (by decide) rfl (by decide) ?_
      refine r_aload_n dX1_goDrawn_36 rfl rfl iR ?_
      refine r_iconst dX1_goDrawn_37 ?_
      obtain ⟨hC, h⟩ := h
      refine r_callV dX1_goDrawn_38 hC (c_X1_draw h) q2079 q2081 qs38 q92 q2082 rfl yo_X1_draw rfl (by decide) (by decide) rfl rc0 (by decide) (Nat.zero_le _) (Nat.zero_le _) (ofI fun x67 G66 h => ?_) nox
      refine r_istore (L' := [some (vR (some a0)), some (vR a1), some (vI a2), some (vI a3), some (vI x67), none, none]) dX1_goDrawn_41 rfl iI cI (by decide) ?_
      refine r_aload_n dX1_goDrawn_43 rfl rfl iR ?_
      refine r_bipush dX1_goDrawn_44 (by decide) ?_
      obtain ⟨hC, h⟩ := h
      refine r_callV dX1_goDrawn_46 hC (c_X1_draw h) q2079 q2081 qs38 q92 q2082 rfl yo_X1_draw rfl (by decide) (by decide) rfl rc0 (by decide) (Nat.zero_le _) (Nat.zero_le _) (ofI fun x69 G68 h => ?_) nox
      refine r_istore (L' := [some (vR (some a0)), some (vR a1), some (vI a2), some (vI a3), some (vI x67), some (vI x69), none]) dX1_goDrawn_49 rfl iI cI (by decide) ?_
      refine r_aload_n dX1_goDrawn_51 rfl rfl iR ?_
      refine r_bipush dX1_goDrawn_52 (by decide) ?_
      obtain ⟨hC, h⟩ := h
      refine r_callV dX1_goDrawn_54 hC (c_X1_draw h) q2079 q2081 qs38 q92 q2082 rfl yo_X1_draw rfl (by decide) (by decide) rfl rc0 (by decide) (Nat.zero_le _) (Nat.zero_le _) (ofI fun x71 G70 h => ?_) nox
      refine r_istore (L' := [some (vR (some a0)), some (vR a1), some (vI a2), some (vI a3), some (vI x67), some (vI x69), some (vI x71)]) dX1_goDrawn_57 rfl iI cI (by decide) ?_
      refine r_aload_n dX1_goDrawn_59 rfl rfl iR ?_
      refine r_iload_n dX1_goDrawn_60 rfl rfl iI ?_
      refine r_iload dX1_goDrawn_61 rfl iI ?_
      refine r_iload dX1_goDrawn_63 rfl iI ?_
      refine r_iload dX1_goDrawn_65 rfl iI ?_
      refine r_callS dX1_goDrawn_67 (c_X1_refusesPut h) q1047 q1048 q92 q1049 yo_X1_refusesPut rfl (by decide) (by decide) rfl rc0 (by decide) (Nat.zero_le _) (Nat.zero_le _) (ofI fun x73 G72 h => ?_) nox
      refine r_if_ne (tgt := 85) dX1_goDrawn_70 (by decide) h (fun h => ?_) (fun h => ?_)
      · refine r_iconst dX1_goDrawn_85 ?_
        exact r_iret rfl dX1_goDrawn_86 ⟨_, rfl, h⟩
      · refine r_aload_n dX1_goDrawn_73 rfl rfl iR ?_
        refine r_iload_n dX1_goDrawn_74 rfl rfl iI ?_
        refine r_iload dX1_goDrawn_75 rfl iI ?_
        refine r_iload dX1_goDrawn_77 rfl iI ?_
        refine r_iload dX1_goDrawn_79 rfl iI ?_
        obtain ⟨k75, n76, ⟨hk1, hn1⟩, h⟩ := h
        refine r_callS dX1_goDrawn_81 (c_X1_goPut h) q1430 q1431 q92 q1432 yo_X1_goPut rfl (by decide) (by decide) rfl rc0 (by decide) hk1 hn1 (ofI fun x77 G74 h => ?_) nox
        refine r_pop dX1_goDrawn_84 c1I ?_
        refine r_iconst dX1_goDrawn_85 ?_
        exact r_iret rfl dX1_goDrawn_86 ⟨_, rfl, h⟩
    · refine r_swc h (fun e2 h => ?_) (fun e2 h => ?_)
      · refine r_tsIn (tgt := 87) dX1_goDrawn_1 hr e2 (by decide) (by decide) rfl (by decide) ?_
        refine r_aload_n dX1_goDrawn_87 rfl rfl iR ?_
        refine r_aload_n dX1_goDrawn_88 rfl rfl iR ?_
        obtain ⟨a78, e, h⟩ := h
        refine wp.cast (L' := [some (vR (some a0)), some (vR (some a78)), some (vI a2), some (vI a3), none, none, none]) (st' := [vR (some a78), vR (some a78)]) (by rw [e]) (by rw [e]) ?_
        refine r_getR dX1_goDrawn_89 (fg1 (f := 0) fX2 (by decide) q636 rfl) h (fun x79 h => ?_)
        refine r_iload_n dX1_goDrawn_92 rfl rfl iI ?_
        obtain ⟨a80, e, h⟩ := h
        refine wp.cast (L' := [some (vR (some a0)), some (vR (some a78)), some (vI a2), some (vI a3), none, none, none]) (st' := [vI a3, vR (some a80), vR (some a78)]) rfl (by rw [e]) ?_
        refine r_aald dX1_goDrawn_93 (by decide) (by decide) h (fun x81 h => ?_)
        obtain ⟨hC, h⟩ := h
        refine r_callV dX1_goDrawn_94 hC (c_X2_ringUp h) q1506 q1507 q1508 q93 q1509 rfl yo_X2_ringUp rfl (by decide) (by decide) rfl rc0 (by decide) (Nat.zero_le _) (Nat.zero_le _) (ofI fun x83 G82 h => ?_) nox
        refine r_pop dX1_goDrawn_97 c1I ?_
        refine r_iconst dX1_goDrawn_98 ?_
        exact r_iret rfl dX1_goDrawn_99 ⟨_, rfl, h⟩
      · refine r_swc h (fun e3 h => ?_) (fun e3 h => ?_)
        · refine r_tsIn (tgt := 100) dX1_goDrawn_1 hr e3 (by decide) (by decide) rfl (by decide) ?_
          refine r_aload_n dX1_goDrawn_100 rfl rfl iR ?_
          refine r_aload_n dX1_goDrawn_101 rfl rfl iR ?_
          refine r_getR dX1_goDrawn_102 (fg1 (f := 10) fX1 (by decide) q710 rfl) h (fun x84 h => ?_)
          obtain ⟨a85, e, h⟩ := h
          refine wp.cast (L' := [some (vR (some a0)), some (vR (some a85)), some (vI a2), some (vI a3), none, none, none]) (st' := [vR x84, vR (some a85)]) (by rw [e]) (by rw [e]) ?_
          obtain ⟨k87, n88, ⟨hk1, hn1⟩, h⟩ := h
          obtain ⟨hC, h⟩ := h
          refine r_callV dX1_goDrawn_105 hC (c_X2_goTick h) q1516 q1517 q1518 q93 q1519 rfl yo_X2_goTick rfl (by decide) (by decide) rfl rc0 (by decide) hk1 hn1 (ofV fun G86 h => ?_) nox
          refine r_iconst dX1_goDrawn_108 ?_
          exact r_iret rfl dX1_goDrawn_109 ⟨_, rfl, h⟩
        · refine r_swc h (fun e4 h => ?_) (fun e4 h => ?_)
          · refine r_tsIn (tgt := 110) dX1_goDrawn_1 hr e4 (by decide) (by decide) rfl (by decide) ?_
            refine r_aload_n dX1_goDrawn_110 rfl rfl iR ?_
            refine r_iload_n dX1_goDrawn_111 rfl rfl iI ?_
            refine r_callS dX1_goDrawn_112 (c_X1_refusesTaking h) q1769 q1770 q92 q1771 yo_X1_refusesTaking rfl (by decide) (by decide) rfl rc0 (by decide) (Nat.zero_le _) (Nat.zero_le _) (ofI fun x90 G89 h => ?_) nox
            refine r_if_ge (tgt := 120) dX1_goDrawn_115 (by decide) h (fun h => ?_) (fun h => ?_)
            · refine r_aload_n dX1_goDrawn_120 rfl rfl iR ?_
              obtain ⟨a91, e, h⟩ := h
              refine wp.cast (L' := [some (vR (some a0)), some (vR (some a91)), some (vI a2), some (vI a3), none, none, none]) (st' := [vR (some a91)]) (by rw [e]) (by rw [e]) ?_
              refine r_getR dX1_goDrawn_121 (fg1 (f := 0) fX2 (by decide) q636 rfl) h (fun x92 h => ?_)
              refine r_iload_n dX1_goDrawn_124 rfl rfl iI ?_
              obtain ⟨a93, e, h⟩ := h
              refine wp.cast (L' := [some (vR (some a0)), some (vR (some a91)), some (vI a2), some (vI a3), none, none, none]) (st' := [vI a3, vR (some a93)]) rfl (by rw [e]) ?_
              refine r_aald dX1_goDrawn_125 (by decide) (by decide) h (fun x94 h => ?_)
              obtain ⟨a95, e, h⟩ := h
              refine wp.cast (L' := [some (vR (some a0)), some (vR (some a91)), some (vI a2), some (vI a3), none, none, none]) (st' := [vR (some a95)]) rfl (by rw [e]) ?_
              obtain ⟨hC, h⟩ := h
              refine r_callV dX1_goDrawn_126 hC (c_X3_take h) q1776 q1777 q1778 q98 q1779 rfl yo_X3_take rfl (by decide) (by decide) rfl rc0 (by decide) (Nat.zero_le _) (Nat.zero_le _) (ofR fun x97 G96 h => ?_) nox
              refine r_pop dX1_goDrawn_129 c1R ?_
              refine r_iconst dX1_goDrawn_130 ?_
              exact r_iret rfl dX1_goDrawn_131 ⟨_, rfl, h⟩
            · refine r_iconst dX1_goDrawn_118 ?_
              exact r_iret rfl dX1_goDrawn_119 ⟨_, rfl, h⟩
          · refine r_tsOut (tgt := 132) dX1_goDrawn_1 hr (by omega) (by decide) ?_
            refine r_aload_n dX1_goDrawn_132 rfl rfl iR ?_
            refine r_bipush dX1_goDrawn_133 (by decide) ?_
            obtain ⟨hC, h⟩ := h
            refine r_callV dX1_goDrawn_135 hC (c_X1_draw h) q2079 q2081 qs38 q92 q2082 rfl yo_X1_draw rfl (by decide) (by decide) rfl rc0 (by decide) (Nat.zero_le _) (Nat.zero_le _) (ofI fun x99 G98 h => ?_) nox
            refine r_istore (L' := [some (vR (some a0)), some (vR a1), some (vI a2), some (vI a3), some (vI x99), none, none]) dX1_goDrawn_138 rfl iI cI (by decide) ?_
            refine r_aload_n dX1_goDrawn_140 rfl rfl iR ?_
            refine r_aload_n dX1_goDrawn_141 rfl rfl iR ?_
            refine r_iload_n dX1_goDrawn_142 rfl rfl iI ?_
            refine r_iload dX1_goDrawn_143 rfl iI ?_
            obtain ⟨k101, n102, ⟨hk1, hn1⟩, h⟩ := h
            obtain ⟨hC, h⟩ := h
            refine r_callV dX1_goDrawn_145 hC (c_X1_recallOf h) q1793 q1795 qs29 q92 q1796 rfl yo_X1_recallOf rfl (by decide) (by decide) rfl rc0 (by decide) hk1 hn1 (ofI fun x103 G100 h => ?_) nox
            refine r_if_lt (tgt := 158) dX1_goDrawn_148 (by decide) h (fun h => ?_) (fun h => ?_)
            · refine r_iconst dX1_goDrawn_158 ?_
              exact r_iret rfl dX1_goDrawn_159 ⟨_, rfl, h⟩
            · refine r_aload_n dX1_goDrawn_151 rfl rfl iR ?_
              refine r_iload_n dX1_goDrawn_152 rfl rfl iI ?_
              refine r_iload dX1_goDrawn_153 rfl iI ?_
              obtain ⟨k105, n106, ⟨hk1, hn1⟩, h⟩ := h
              refine r_callS dX1_goDrawn_155 (c_X1_goCall h) q1812 q1813 q92 q1814 yo_X1_goCall rfl (by decide) (by decide) rfl rc0 (by decide) hk1 hn1 (ofV fun G104 h => ?_) nox
              refine r_iconst dX1_goDrawn_158 ?_
              exact r_iret rfl dX1_goDrawn_159 ⟨_, rfl, h⟩
theorem c_X1_goDrawn {a0 : Nat} {a1 : Option Nat} {a2 : Int} {a3 : Int} {k n : Nat} {Q : Int → Wd → Prop} {G : Wd} (h : f_X1_goDrawn k n a0 a1 a2 a3 G Q) : call yX1_goDrawn (Cond.code yX1_goDrawn cX1_goDrawn 7 (some .int)) 224 k n [vR (some a0), vR a1, vI a2, vI a3] G (qI Q) noX :=
  call.enter (by decide +kernel) (la_1 c1R (la_1 c1R (la_1 c1I (la_1 c1I (la_nil rfl))))) rfl (w_X1_goDrawn h)
abbrev m_X1_day : Mt := (yX1_day.cls, cX1_day, 3, some .int, [(21, 25, 28, 110)], yX1_day.name)
theorem yo_X1_day : yOK yX1_day 0 := ⟨by decide +kernel, by decide +kernel, by decide +kernel⟩
def f_X1_day_28 (a0 : Nat) (k n : Nat) (s0 : Option Nat) (G : Wd) (Q : Int → Wd → Prop) : Prop :=
  nn s0 (fun a58 => gI G a58 [5] 0 (fun x59 => Q ((-1) - x59) G))
theorem w_X1_day_28 {a0 : Nat} {Q : Int → Wd → Prop} {k n : Nat} {s0 : Option Nat} {G : Wd} (h : f_X1_day_28 a0 k n s0 G Q) : wp m_X1_day 225 k n 28 [none, none, none] [vR s0] G (qI Q) noX := by
  unfold f_X1_day_28 at h
  refine r_astore_n (L' := [none, none, some (vR s0)]) dX1_day_28 rfl rfl iR cN (by decide) ?_
  refine r_iconst dX1_day_29 ?_
  refine r_aload_n dX1_day_30 rfl rfl iR ?_
  obtain ⟨a58, e, h⟩ := h
  refine wp.cast (L' := [none, none, some (vR (some a58))]) (st' := [vR (some a58), vI (-1)]) (by rw [e]) (by rw [e]) ?_
  refine r_getN dX1_day_31 q851 h (fun x59 h => ?_)
  refine r_isub dX1_day_34 ?_
  exact r_iret rfl dX1_day_35 ⟨_, rfl, h⟩
def f_X1_day_103 (a0 : Nat) (k n : Nat) (l2 : Int) (s1 : Int) (G : Wd) (Q : Int → Wd → Prop) : Prop :=
  (isC G a0 0 ∧ f_X1_tell a0 s1 G (fun G60 => gR G60 a0 [0] 0 (fun x61 => nn x61 (fun a62 => gI G60 a62 [1] 10 (fun x63 => ok32 x63 ((isC G60 a0 0 ∧ f_X1_tell a0 x63 G60 (fun G64 => Q l2 G64))))))))
theorem w_X1_day_103 {a0 : Nat} {Q : Int → Wd → Prop} {k n : Nat} {l2 : Int} {s1 : Int} {G : Wd} (h : f_X1_day_103 a0 k n l2 s1 G Q) : wp m_X1_day 225 k n 103 [some (vR (some a0)), none, some (vI l2)] [vJ s1, vR (some a0)] G (qI Q) noX := by
  unfold f_X1_day_103 at h
  obtain ⟨hC, h⟩ := h
  refine r_callV dX1_day_103 hC (c_X1_tell h) q1761 q1763 qs27 q92 q1764 rfl yo_X1_tell rfl (by decide) (by decide) rfl rc0 (by decide) (Nat.zero_le _) (Nat.zero_le _) (ofV fun G60 h => ?_) nox
  refine r_aload_n dX1_day_106 rfl rfl iR ?_
  refine r_aload_n dX1_day_107 rfl rfl iR ?_
  refine r_getR dX1_day_108 (fg1 (f := 0) fX1 (by decide) q700 rfl) h (fun x61 h => ?_)
  obtain ⟨a62, e, h⟩ := h
  refine wp.cast (L' := [some (vR (some a0)), none, some (vI l2)]) (st' := [vR (some a62), vR (some a0)]) rfl (by rw [e]) ?_
  refine r_getI dX1_day_111 (fg1 (f := 10) fX2 (by decide) q657 rfl) h (fun x63 h => ?_)
  refine r_i2l dX1_day_114 h (fun h => ?_)
  obtain ⟨hC, h⟩ := h
  refine r_callV dX1_day_115 hC (c_X1_tell h) q1761 q1763 qs27 q92 q1764 rfl yo_X1_tell rfl (by decide) (by decide) rfl rc0 (by decide) (Nat.zero_le _) (Nat.zero_le _) (ofV fun G64 h => ?_) nox
  refine r_iload_n dX1_day_118 rfl rfl iI ?_
  exact r_iret rfl dX1_day_119 ⟨_, rfl, h⟩
def f_X1_day_84 (a0 : Nat) (k n : Nat) (l1 : Option Nat) (l2 : Int) (G : Wd) (Q : Int → Wd → Prop) : Prop :=
  pF G a0 [0] 9 (vI 0) (fun G65 => nn l1 (fun a66 => gI G65 a66 [11] 9 (fun x67 => br l2 x67 (x67 ≤ l2) (f_X1_day_103 a0 k n l2 0 G65 Q) (f_X1_day_103 a0 k n l2 1 G65 Q))))
theorem w_X1_day_84 {a0 : Nat} {Q : Int → Wd → Prop} {k n : Nat} {l1 : Option Nat} {l2 : Int} {G : Wd} (h : f_X1_day_84 a0 k n l1 l2 G Q) : wp m_X1_day 225 k n 84 [some (vR (some a0)), some (vR l1), some (vI l2)] [] G (qI Q) noX := by
  unfold f_X1_day_84 at h
  refine r_aload_n dX1_day_84 rfl rfl iR ?_
  refine r_iconst dX1_day_85 ?_
  refine r_put dX1_day_86 (fp1 (f := 9) fX1 (by decide) q709 rfl rfl rfl) fvI h (fun G65 h => ?_)
  refine r_aload_n dX1_day_89 rfl rfl iR ?_
  refine r_iload_n dX1_day_90 rfl rfl iI ?_
  refine r_aload_n dX1_day_91 rfl rfl iR ?_
  obtain ⟨a66, e, h⟩ := h
  refine wp.cast (L' := [some (vR (some a0)), some (vR (some a66)), some (vI l2)]) (st' := [vR (some a66), vI l2, vR (some a0)]) (by rw [e]) (by rw [e]) ?_
  refine r_getI dX1_day_92 (fg1 (f := 9) fX12 (by decide) q1883 rfl) h (fun x67 h => ?_)
  refine r_icmp_ge (tgt := 102) dX1_day_95 (by decide) h (fun h => ?_) (fun h => ?_)
  · refine r_lconst (y := 0) dX1_day_102 (by decide) ?_
    refine wp.locals (L' := [some (vR (some a0)), none, some (vI l2)]) (ls_s (ls_n (ls_s ls_0))) ?_
    exact w_X1_day_103 h
  · refine r_lconst (y := 1) dX1_day_98 (by decide) ?_
    refine r_goto (tgt := 103) dX1_day_99 (by decide) ?_
    refine wp.locals (L' := [some (vR (some a0)), none, some (vI l2)]) (ls_s (ls_n (ls_s ls_0))) ?_
    exact w_X1_day_103 h
def f_X1_day_72 (a0 : Nat) (k n : Nat) (l1 : Option Nat) (l2 : Int) (G : Wd) (Q : Int → Wd → Prop) : Prop :=
  br0 l2 (l2 ≤ 0) (f_X1_day_84 a0 k n l1 l2 G Q) (gR G a0 [0] 1 (fun x68 => (∃ k70 n71, (k70 ≤ k ∧ n71 ≤ n) ∧ (isC G a0 0 ∧ f_X1_remember k70 n71 a0 x68 G (fun G69 => f_X1_day_84 a0 (k - k70) (n - n71) l1 l2 G69 Q)))))
theorem w_X1_day_72 {a0 : Nat} {Q : Int → Wd → Prop} {k n : Nat} {l1 : Option Nat} {l2 : Int} {G : Wd} (h : f_X1_day_72 a0 k n l1 l2 G Q) : wp m_X1_day 225 k n 72 [some (vR (some a0)), some (vR l1), some (vI l2)] [] G (qI Q) noX := by
  unfold f_X1_day_72 at h
  refine r_iload_n dX1_day_72 rfl rfl iI ?_
  refine r_if_le (tgt := 84) dX1_day_73 (by decide) h (fun h => ?_) (fun h => ?_)
  · exact w_X1_day_84 h
  · refine r_aload_n dX1_day_76 rfl rfl iR ?_
    refine r_aload_n dX1_day_77 rfl rfl iR ?_
    refine r_getR dX1_day_78 (fg1 (f := 1) fX1 (by decide) q701 rfl) h (fun x68 h => ?_)
    obtain ⟨k70, n71, ⟨hk1, hn1⟩, h⟩ := h
    obtain ⟨hC, h⟩ := h
    refine r_callV dX1_day_81 hC (c_X1_remember h) q1071 q1073 qs8 q92 q1074 rfl yo_X1_remember rfl (by decide) (by decide) rfl rc0 (by decide) hk1 hn1 (ofV fun G69 h => ?_) nox
    exact w_X1_day_84 h
def f_X1_day_49_b (a0 : Nat) (k49 : Nat → Nat → Option Nat → Int → Wd → Prop) (k n : Nat) (l1 : Option Nat) (l2 : Int) (G : Wd) (Q : Int → Wd → Prop) : Prop :=
  nn l1 (fun a72 => gI G a72 [11] 9 (fun x73 => br l2 x73 (x73 ≤ l2) (f_X1_day_72 a0 k n (some a72) l2 G Q) ((∃ k75 n76, (k75 ≤ k ∧ n76 ≤ n) ∧ (isC G a0 0 ∧ f_X1_act k75 n76 a0 (some a72) l2 G (fun x77 G74 => brB x77 (k49 (k - k75) (n - n76) (some a72) (l2 + 1) G74) (f_X1_day_72 a0 (k - k75) (n - n76) (some a72) l2 G74 Q)))))))
theorem w_X1_day_49_b {a0 : Nat} {Q : Int → Wd → Prop} {k49 : Nat → Nat → Option Nat → Int → Wd → Prop} (hk49 : ∀ {k n : Nat} {l1 : Option Nat} {l2 : Int} {G : Wd}, k49 k n l1 l2 G → wp m_X1_day 225 k n 49 [some (vR (some a0)), some (vR l1), some (vI l2)] [] G (qI Q) noX) {k n : Nat} {l1 : Option Nat} {l2 : Int} {G : Wd} (h : f_X1_day_49_b a0 k49 k n l1 l2 G Q) : wp m_X1_day 225 k n 49 [some (vR (some a0)), some (vR l1), some (vI l2)] [] G (qI Q) noX := by
  unfold f_X1_day_49_b at h
  refine r_iload_n dX1_day_49 rfl rfl iI ?_
  refine r_aload_n dX1_day_50 rfl rfl iR ?_
  obtain ⟨a72, e, h⟩ := h
  refine wp.cast (L' := [some (vR (some a0)), some (vR (some a72)), some (vI l2)]) (st' := [vR (some a72), vI l2]) (by rw [e]) (by rw [e]) ?_
  refine r_getI dX1_day_51 (fg1 (f := 9) fX12 (by decide) q1883 rfl) h (fun x73 h => ?_)
  refine r_icmp_ge (tgt := 72) dX1_day_54 (by decide) h (fun h => ?_) (fun h => ?_)
  · exact w_X1_day_72 h
  · refine r_aload_n dX1_day_57 rfl rfl iR ?_
    refine r_aload_n dX1_day_58 rfl rfl iR ?_
    refine r_iload_n dX1_day_59 rfl rfl iI ?_
    obtain ⟨k75, n76, ⟨hk1, hn1⟩, h⟩ := h
    obtain ⟨hC, h⟩ := h
    refine r_callV dX1_day_60 hC (c_X1_act h) q1929 q1931 qs32 q92 q1932 rfl yo_X1_act rfl (by decide) (by decide) rfl rc0 (by decide) hk1 hn1 (ofB fun x77 G74 h => ?_) nox
    refine r_ifZ_eq (tgt := 72) dX1_day_63 (by decide) h (fun h => ?_) (fun h => ?_)
    · exact w_X1_day_72 h
    · refine r_iinc (L' := [some (vR (some a0)), some (vR (some a72)), some (vI (l2 + 1))]) dX1_day_66 rfl rfl cR (by decide) ?_
      refine r_goto (tgt := 49) dX1_day_69 (by decide) ?_
      exact hk49 h
def f_X1_day_49 (a0 : Nat) (Q : Int → Wd → Prop) : Nat → Nat → Nat → Option Nat → Int → Wd → Prop
  | 0, _, _, _, _, _ => False
  | fl + 1, k, n, l1, l2, G => f_X1_day_49_b a0  (fun k n l1 l2 G => f_X1_day_49 a0  Q fl k n l1 l2 G) k n l1 l2 G Q
theorem w_X1_day_49 {a0 : Nat} {Q : Int → Wd → Prop} : ∀ (fl : Nat) {k n : Nat} {l1 : Option Nat} {l2 : Int} {G : Wd}, f_X1_day_49 a0 Q fl k n l1 l2 G → wp m_X1_day 225 k n 49 [some (vR (some a0)), some (vR l1), some (vI l2)] [] G (qI Q) noX := by
  intro fl
  induction fl with
  | zero => intro k n l1 l2 G h; exact (show False from h).elim
  | succ fl ih => intro k n l1 l2 G h; exact w_X1_day_49_b  (fun h => ih h) h
def f_X1_day (k n : Nat) (a0 : Nat) (G : Wd) (Q : Int → Wd → Prop) : Prop :=
  nO G k n 11 10 zX12 (fun a78 G79 => gR G79 a0 [0] 6 (fun x80 => gI G79 a0 [0] 7 (fun x81 => (∃ k83 n84, (k83 ≤ (k - 1) ∧ n84 ≤ (n - 10)) ∧ f_X12_init k83 n84 a78 x80 x81 G79 (fun G82 => pF G82 a0 [0] 7 (vI 0) (fun G85 => (∃ k87 n88, (k87 ≤ ((k - 1) - k83) ∧ n88 ≤ ((n - 10) - n84)) ∧ (isC G85 a78 11 ∧ f_X12_read k87 n88 a78  G85 (fun G86 => gR G86 a0 [0] 1 (fun x91 => gR G86 a0 [0] 0 (fun x92 => nn x91 (fun a93 => (∃ k95 n96, (k95 ≤ (((k - 1) - k83) - k87) ∧ n96 ≤ (((n - 10) - n84) - n88)) ∧ (isC G86 a93 1 ∧ f_X2_be k95 n96 a93 x92 G86 (fun G94 => ∃ fl97, f_X1_day_49 a0 Q fl97 ((((k - 1) - k83) - k87) - k95) ((((n - 10) - n84) - n88) - n96) (some a78) 0 G94))))))) (fun E q90 G89 => E = "QueueDrive$Fault" ∧ f_X1_day_28 a0 (((k - 1) - k83) - k87) (((n - 10) - n84) - n88) (some q90) G89 Q)))))))))
theorem w_X1_day {a0 : Nat} {Q : Int → Wd → Prop} {k n : Nat} {G : Wd} (h : f_X1_day k n a0 G Q) : wp m_X1_day 225 k n 0 [some (vR (some a0)), none, none] [] G (qI Q) noX := by
  unfold f_X1_day at h
  refine r_new dX1_day_0 fX12 q1866 q1867 q135 dfX12 h (fun a78 G79 h => ?_)
  refine r_dup dX1_day_3 c1R ?_
  refine r_aload_n dX1_day_4 rfl rfl iR ?_
  refine r_getR dX1_day_5 (fg1 (f := 6) fX1 (by decide) q706 rfl) h (fun x80 h => ?_)
  refine r_aload_n dX1_day_8 rfl rfl iR ?_
  refine r_getI dX1_day_9 (fg1 (f := 7) fX1 (by decide) q707 rfl) h (fun x81 h => ?_)
  obtain ⟨k83, n84, ⟨hk1, hn1⟩, h⟩ := h
  refine r_callI dX1_day_12 (c_X12_init h) rfl q1868 q1869 q135 q1870 yo_X12_init rfl (by decide) (by decide) rfl (rc1 c1R rc0) (by decide) hk1 hn1 (ofV fun G82 h => ?_) nox
  refine r_astore_n (L' := [some (vR (some a0)), some (vR (some a78)), none]) dX1_day_15 rfl rfl iR cR (by decide) ?_
  refine r_aload_n dX1_day_16 rfl rfl iR ?_
  refine r_iconst dX1_day_17 ?_
  refine r_put dX1_day_18 (fp1 (f := 7) fX1 (by decide) q707 rfl rfl rfl) fvI h (fun G85 h => ?_)
  refine r_aload_n dX1_day_21 rfl rfl iR ?_
  obtain ⟨k87, n88, ⟨hk1, hn1⟩, h⟩ := h
  obtain ⟨hC, h⟩ := h
  refine r_callV dX1_day_22 hC (c_X12_read h) q1902 q1903 q1904 q135 q1905 rfl yo_X12_read rfl (by decide) (by decide) rfl rc0 (by decide) hk1 hn1 (ofV fun G86 h => ?_) (fun E q90 G89 h => ?_)
  · refine r_goto (tgt := 36) dX1_day_25 (by decide) ?_
    refine r_aload_n dX1_day_36 rfl rfl iR ?_
    refine r_getR dX1_day_37 (fg1 (f := 1) fX1 (by decide) q701 rfl) h (fun x91 h => ?_)
    refine r_aload_n dX1_day_40 rfl rfl iR ?_
    refine r_getR dX1_day_41 (fg1 (f := 0) fX1 (by decide) q700 rfl) h (fun x92 h => ?_)
    obtain ⟨a93, e, h⟩ := h
    refine wp.cast (L' := [some (vR (some a0)), some (vR (some a78)), none]) (st' := [vR x92, vR (some a93)]) rfl (by rw [e]) ?_
    obtain ⟨k95, n96, ⟨hk1, hn1⟩, h⟩ := h
    obtain ⟨hC, h⟩ := h
    refine r_callV dX1_day_44 hC (c_X2_be h) q1076 q1077 q1078 q93 q1079 rfl yo_X2_be rfl (by decide) (by decide) rfl rc0 (by decide) hk1 hn1 (ofV fun G94 h => ?_) nox
    refine r_iconst dX1_day_47 ?_
    refine r_istore_n (L' := [some (vR (some a0)), some (vR (some a78)), some (vI 0)]) dX1_day_48 rfl rfl iI cR (by decide) ?_
    obtain ⟨fl97, h⟩ := h
    exact w_X1_day_49 fl97 h
  · obtain ⟨rfl, h⟩ := h
    refine wpX.catch [] ⟨21, 25, 28, 110⟩ [] rfl (by decide) (by decide) (by decide) q783 q839 ?_
    refine wp.locals (L' := [none, none, none]) (ls_n (ls_n (ls_n ls_0))) ?_
    exact w_X1_day_28 h
theorem c_X1_day {a0 : Nat} {k n : Nat} {Q : Int → Wd → Prop} {G : Wd} (h : f_X1_day k n a0 G Q) : call yX1_day (Cond.codeWith yX1_day cX1_day 3 (some .int) [(21, 25, 28, 110)]) 225 k n [vR (some a0)] G (qI Q) noX :=
  call.enterW (by decide +kernel) (la_1 c1R (la_nil rfl)) rfl (w_X1_day h)
abbrev m_X1_drains : Mt := (yX1_drains.cls, cX1_drains, 2, some .int, [], yX1_drains.name)
theorem yo_X1_drains : yOK yX1_drains 0 := ⟨by decide +kernel, by decide +kernel, by decide +kernel⟩
def f_X1_drains (k n : Nat) (a0 : Nat) (G : Wd) (Q : Int → Wd → Prop) : Prop :=
  gR G a0 [0] 2 (fun x19 => gR G a0 [0] 0 (fun x20 => nn x19 (fun a21 => (∃ k23 n24, (k23 ≤ k ∧ n24 ≤ n) ∧ (isC G a21 1 ∧ f_X2_be k23 n24 a21 x20 G (fun G22 => (∃ k26 n27, (k26 ≤ (k - k23) ∧ n27 ≤ (n - n24)) ∧ (isC G22 a0 0 ∧ f_X1_drained k26 n27 a0  G22 (fun x28 G25 => br0 x28 (0 ≤ x28) (pF G25 a0 [0] 9 (vI 0) (fun G29 => gI G29 a0 [0] 13 (fun x30 => ok32 x30 ((isC G29 a0 0 ∧ f_X1_tell a0 x30 G29 (fun G31 => gR G31 a0 [0] 2 (fun x32 => nn x32 (fun a33 => (isC G31 a33 1 ∧ f_X2_blocksSum a33  G31 (fun x35 G34 => ok32 x35 ((isC G34 a0 0 ∧ f_X1_tell a0 x35 G34 (fun G36 => Q x28 G36))))))))))))) (Q x28 G25))))))))))
theorem w_X1_drains {a0 : Nat} {Q : Int → Wd → Prop} {k n : Nat} {G : Wd} (h : f_X1_drains k n a0 G Q) : wp m_X1_drains 225 k n 0 [some (vR (some a0)), none] [] G (qI Q) noX := by
  unfold f_X1_drains at h
  refine r_aload_n dX1_drains_0 rfl rfl iR ?_
  refine r_getR dX1_drains_1 (fg1 (f := 2) fX1 (by decide) q702 rfl) h (fun x19 h => ?_)
  refine r_aload_n dX1_drains_4 rfl rfl iR ?_
  refine r_getR dX1_drains_5 (fg1 (f := 0) fX1 (by decide) q700 rfl) h (fun x20 h => ?_)
  obtain ⟨a21, e, h⟩ := h
  refine wp.cast (L' := [some (vR (some a0)), none]) (st' := [vR x20, vR (some a21)]) rfl (by rw [e]) ?_
  obtain ⟨k23, n24, ⟨hk1, hn1⟩, h⟩ := h
  obtain ⟨hC, h⟩ := h
  refine r_callV dX1_drains_8 hC (c_X2_be h) q1076 q1077 q1078 q93 q1079 rfl yo_X2_be rfl (by decide) (by decide) rfl rc0 (by decide) hk1 hn1 (ofV fun G22 h => ?_) nox
  refine r_aload_n dX1_drains_11 rfl rfl iR ?_
  obtain ⟨k26, n27, ⟨hk1, hn1⟩, h⟩ := h
  obtain ⟨hC, h⟩ := h
  refine r_callV dX1_drains_12 hC (c_X1_drained h) q1992 q1994 qs33 q92 q1995 rfl yo_X1_drained rfl (by decide) (by decide) rfl rc0 (by decide) hk1 hn1 (ofI fun x28 G25 h => ?_) nox
  refine r_istore_n (L' := [some (vR (some a0)), some (vI x28)]) dX1_drains_15 rfl rfl iI cR (by decide) ?_
  refine r_iload_n dX1_drains_16 rfl rfl iI ?_
  refine r_if_ge (tgt := 22) dX1_drains_17 (by decide) h (fun h => ?_) (fun h => ?_)
  · refine r_aload_n dX1_drains_22 rfl rfl iR ?_
    refine r_iconst dX1_drains_23 ?_
    refine r_put dX1_drains_24 (fp1 (f := 9) fX1 (by decide) q709 rfl rfl rfl) fvI h (fun G29 h => ?_)
    refine r_aload_n dX1_drains_27 rfl rfl iR ?_
    refine r_aload_n dX1_drains_28 rfl rfl iR ?_
    refine r_getI dX1_drains_29 (fg1 (f := 13) fX1 (by decide) q713 rfl) h (fun x30 h => ?_)
    refine r_i2l dX1_drains_32 h (fun h => ?_)
    obtain ⟨hC, h⟩ := h
    refine r_callV dX1_drains_33 hC (c_X1_tell h) q1761 q1763 qs27 q92 q1764 rfl yo_X1_tell rfl (by decide) (by decide) rfl rc0 (by decide) (Nat.zero_le _) (Nat.zero_le _) (ofV fun G31 h => ?_) nox
    refine r_aload_n dX1_drains_36 rfl rfl iR ?_
    refine r_aload_n dX1_drains_37 rfl rfl iR ?_
    refine r_getR dX1_drains_38 (fg1 (f := 2) fX1 (by decide) q702 rfl) h (fun x32 h => ?_)
    obtain ⟨a33, e, h⟩ := h
    refine wp.cast (L' := [some (vR (some a0)), some (vI x28)]) (st' := [vR (some a33), vR (some a0)]) rfl (by rw [e]) ?_
    obtain ⟨hC, h⟩ := h
    refine r_callV dX1_drains_41 hC (c_X2_blocksSum h) q1038 q1039 q1040 q93 q1041 rfl yo_X2_blocksSum rfl (by decide) (by decide) rfl (rc1 c1R rc0) (by decide) (Nat.zero_le _) (Nat.zero_le _) (ofI fun x35 G34 h => ?_) nox
    refine r_i2l dX1_drains_44 h (fun h => ?_)
    obtain ⟨hC, h⟩ := h
    refine r_callV dX1_drains_45 hC (c_X1_tell h) q1761 q1763 qs27 q92 q1764 rfl yo_X1_tell rfl (by decide) (by decide) rfl rc0 (by decide) (Nat.zero_le _) (Nat.zero_le _) (ofV fun G36 h => ?_) nox
    refine r_iload_n dX1_drains_48 rfl rfl iI ?_
    exact r_iret rfl dX1_drains_49 ⟨_, rfl, h⟩
  · refine r_iload_n dX1_drains_20 rfl rfl iI ?_
    exact r_iret rfl dX1_drains_21 ⟨_, rfl, h⟩
theorem c_X1_drains {a0 : Nat} {k n : Nat} {Q : Int → Wd → Prop} {G : Wd} (h : f_X1_drains k n a0 G Q) : call yX1_drains (Cond.code yX1_drains cX1_drains 2 (some .int)) 225 k n [vR (some a0)] G (qI Q) noX :=
  call.enter (by decide +kernel) (la_1 c1R (la_nil rfl)) rfl (w_X1_drains h)
abbrev m_X1_law : Mt := (yX1_law.cls, cX1_law, 9, some .int, [(32, 62, 70, 110), (32, 62, 91, 0), (70, 83, 91, 0), (91, 93, 91, 0)], yX1_law.name)
theorem yo_X1_law : yOK yX1_law 0 := ⟨by decide +kernel, by decide +kernel, by decide +kernel⟩
def f_X1_law_70 (a0 : Nat) (k n : Nat) (l1 : Option Nat) (s0 : Option Nat) (G : Wd) (Q : Int → Wd → Prop) : Prop :=
  nn s0 (fun a34 => gI G a34 [5] 0 (fun x35 => pF G a0 [0] 10 (vR l1) (fun G36 => Q ((-1000) - x35) G36)))
theorem w_X1_law_70 {a0 : Nat} {Q : Int → Wd → Prop} {k n : Nat} {l1 : Option Nat} {s0 : Option Nat} {G : Wd} (h : f_X1_law_70 a0 k n l1 s0 G Q) : wp m_X1_law 226 k n 70 [some (vR (some a0)), some (vR l1), none, none, none, none, none, none, none] [vR s0] G (qI Q) noX := by
  unfold f_X1_law_70 at h
  refine r_astore (L' := [some (vR (some a0)), some (vR l1), none, none, none, none, some (vR s0), none, none]) dX1_law_70 rfl iR cN (by decide) ?_
  refine r_sipush dX1_law_72 (by decide) ?_
  refine r_aload dX1_law_75 rfl iR ?_
  obtain ⟨a34, e, h⟩ := h
  refine wp.cast (L' := [some (vR (some a0)), some (vR l1), none, none, none, none, some (vR (some a34)), none, none]) (st' := [vR (some a34), vI (-1000)]) (by rw [e]) (by rw [e]) ?_
  refine r_getN dX1_law_77 q851 h (fun x35 h => ?_)
  refine r_isub dX1_law_80 ?_
  refine r_istore (L' := [some (vR (some a0)), some (vR l1), none, none, none, none, some (vR (some a34)), some (vI ((-1000) - x35)), none]) dX1_law_81 rfl iI cR (by decide) ?_
  refine r_aload_n dX1_law_83 rfl rfl iR ?_
  refine r_aload_n dX1_law_84 rfl rfl iR ?_
  refine r_put dX1_law_85 (fp1 (f := 10) fX1 (by decide) q710 rfl rfl rfl) fvO h (fun G36 h => ?_)
  refine r_iload dX1_law_88 rfl iI ?_
  exact r_iret rfl dX1_law_90 ⟨_, rfl, h⟩
def f_X1_law_53 (a0 : Nat) (k n : Nat) (l1 : Option Nat) (l4 : Int) (s1 : Option Nat) (G : Wd) (Q : Int → Wd → Prop) : Prop :=
  pF G a0 [0] 10 (vR s1) (fun G37 => (∃ k39 n40, (k39 ≤ k ∧ n40 ≤ n) ∧ (isC G37 a0 0 ∧ f_X1_drainedBy k39 n40 a0  G37 (fun x41 G38 => pF G38 a0 [0] 10 (vR l1) (fun G42 => pF G42 a0 [0] 9 (vI 0) (fun G43 => ok32 x41 ((isC G43 a0 0 ∧ f_X1_tell a0 x41 G43 (fun G44 => ok32 l4 ((isC G44 a0 0 ∧ f_X1_tell a0 l4 G44 (fun G45 => Q (x41 - l4) G45))))))))))))
theorem w_X1_law_53 {a0 : Nat} {Q : Int → Wd → Prop} {k n : Nat} {l1 : Option Nat} {l4 : Int} {s1 : Option Nat} {G : Wd} (h : f_X1_law_53 a0 k n l1 l4 s1 G Q) : wp m_X1_law 226 k n 53 [some (vR (some a0)), some (vR l1), none, none, some (vI l4), none, none, none, none] [vR s1, vR (some a0)] G (qI Q) noX := by
  unfold f_X1_law_53 at h
  refine r_put dX1_law_53 (fp1 (f := 10) fX1 (by decide) q710 rfl rfl rfl) fvO h (fun G37 h => ?_)
  refine r_aload_n dX1_law_56 rfl rfl iR ?_
  obtain ⟨k39, n40, ⟨hk1, hn1⟩, h⟩ := h
  obtain ⟨hC, h⟩ := h
  refine r_callV dX1_law_57 hC (c_X1_drainedBy h) q2071 q2073 qs37 q92 q2074 rfl yo_X1_drainedBy rfl (by decide) (by decide) rfl rc0 (by decide) hk1 hn1 (ofI fun x41 G38 h => ?_) nox
  refine r_istore (L' := [some (vR (some a0)), some (vR l1), none, none, some (vI l4), some (vI x41), none, none, none]) dX1_law_60 rfl iI cI (by decide) ?_
  refine r_aload_n dX1_law_62 rfl rfl iR ?_
  refine r_aload_n dX1_law_63 rfl rfl iR ?_
  refine r_put dX1_law_64 (fp1 (f := 10) fX1 (by decide) q710 rfl rfl rfl) fvO h (fun G42 h => ?_)
  refine r_goto (tgt := 101) dX1_law_67 (by decide) ?_
  refine r_aload_n dX1_law_101 rfl rfl iR ?_
  refine r_iconst dX1_law_102 ?_
  refine r_put dX1_law_103 (fp1 (f := 9) fX1 (by decide) q709 rfl rfl rfl) fvI h (fun G43 h => ?_)
  refine r_aload_n dX1_law_106 rfl rfl iR ?_
  refine r_iload dX1_law_107 rfl iI ?_
  refine r_i2l dX1_law_109 h (fun h => ?_)
  obtain ⟨hC, h⟩ := h
  refine r_callV dX1_law_110 hC (c_X1_tell h) q1761 q1763 qs27 q92 q1764 rfl yo_X1_tell rfl (by decide) (by decide) rfl rc0 (by decide) (Nat.zero_le _) (Nat.zero_le _) (ofV fun G44 h => ?_) nox
  refine r_aload_n dX1_law_113 rfl rfl iR ?_
  refine r_iload dX1_law_114 rfl iI ?_
  refine r_i2l dX1_law_116 h (fun h => ?_)
  obtain ⟨hC, h⟩ := h
  refine r_callV dX1_law_117 hC (c_X1_tell h) q1761 q1763 qs27 q92 q1764 rfl yo_X1_tell rfl (by decide) (by decide) rfl rc0 (by decide) (Nat.zero_le _) (Nat.zero_le _) (ofV fun G45 h => ?_) nox
  refine r_iload dX1_law_120 rfl iI ?_
  refine r_iload dX1_law_122 rfl iI ?_
  refine r_isub dX1_law_124 ?_
  exact r_iret rfl dX1_law_125 ⟨_, rfl, h⟩
def f_X1_law (k n : Nat) (a0 : Nat) (G : Wd) (Q : Int → Wd → Prop) : Prop :=
  gR G a0 [0] 10 (fun x46 => gR G a0 [0] 6 (fun x47 => nn x47 (fun a48 => clB G k n a48 (fun m49 a50 G51 => ((∃ r n f, G51 r a50 = some (aI 1 n f)) ∧ gI G51 a0 [0] 7 (fun x52 => pF G51 a0 [0] 7 (vI 0) (fun G53 => (∃ k55 n56, (k55 ≤ (k - 1) ∧ n56 ≤ (n - m49)) ∧ (isC G53 a0 0 ∧ f_X1_drainedBy k55 n56 a0  G53 (fun x57 G54 => br0 x52 (¬ x52 = 0) (nO G54 ((k - 1) - k55) ((n - m49) - n56) 6 7 zX7 (fun a58 G59 => f_X7_init a58 (some a50) x52 G59 (fun G60 => (∃ k62 n63, (k62 ≤ (((k - 1) - k55) - 1) ∧ n63 ≤ (((n - m49) - n56) - 7)) ∧ (isC G60 a58 6 ∧ f_X7_read k62 n63 a58  G60 (fun x64 G61 => f_X1_law_53 a0 ((((k - 1) - k55) - 1) - k62) ((((n - m49) - n56) - 7) - n63) x46 x57 x64 G61 Q) (fun E q66 G65 => E = "QueueDrive$Fault" ∧ f_X1_law_70 a0 ((((k - 1) - k55) - 1) - k62) ((((n - m49) - n56) - 7) - n63) x46 (some q66) G65 Q)))))) (f_X1_law_53 a0 ((k - 1) - k55) ((n - m49) - n56) x46 x57 none G54 Q)))))))))))
theorem w_X1_law {a0 : Nat} {Q : Int → Wd → Prop} {k n : Nat} {G : Wd} (h : f_X1_law k n a0 G Q) : wp m_X1_law 226 k n 0 [some (vR (some a0)), none, none, none, none, none, none, none, none] [] G (qI Q) noX := by
  unfold f_X1_law at h
  refine r_aload_n dX1_law_0 rfl rfl iR ?_
  refine r_getR dX1_law_1 (fg1 (f := 10) fX1 (by decide) q710 rfl) h (fun x46 h => ?_)
  refine r_astore_n (L' := [some (vR (some a0)), some (vR x46), none, none, none, none, none, none, none]) dX1_law_4 rfl rfl iR cR (by decide) ?_
  refine r_aload_n dX1_law_5 rfl rfl iR ?_
  refine r_getR dX1_law_6 (fg1 (f := 6) fX1 (by decide) q706 rfl) h (fun x47 h => ?_)
  obtain ⟨a48, e, h⟩ := h
  refine wp.cast (L' := [some (vR (some a0)), some (vR x46), none, none, none, none, none, none, none]) (st' := [vR (some a48)]) rfl (by rw [e]) ?_
  refine r_clone dX1_law_9 q942 rc0 (by decide) (by decide) h (fun m49 a50 G51 h => ?_)
  refine r_castA (kd := 1) dX1_law_12 q943 nmB (by decide) h (fun h => ?_)
  refine r_astore_n (L' := [some (vR (some a0)), some (vR x46), some (vR (some a50)), none, none, none, none, none, none]) dX1_law_15 rfl rfl iR cR (by decide) ?_
  refine r_aload_n dX1_law_16 rfl rfl iR ?_
  refine r_getI dX1_law_17 (fg1 (f := 7) fX1 (by decide) q707 rfl) h (fun x52 h => ?_)
  refine r_istore_n (L' := [some (vR (some a0)), some (vR x46), some (vR (some a50)), some (vI x52), none, none, none, none, none]) dX1_law_20 rfl rfl iI cR (by decide) ?_
  refine r_aload_n dX1_law_21 rfl rfl iR ?_
  refine r_iconst dX1_law_22 ?_
  refine r_put dX1_law_23 (fp1 (f := 7) fX1 (by decide) q707 rfl rfl rfl) fvI h (fun G53 h => ?_)
  refine r_aload_n dX1_law_26 rfl rfl iR ?_
  obtain ⟨k55, n56, ⟨hk1, hn1⟩, h⟩ := h
  obtain ⟨hC, h⟩ := h
  refine r_callV dX1_law_27 hC (c_X1_drainedBy h) q2071 q2073 qs37 q92 q2074 rfl yo_X1_drainedBy rfl (by decide) (by decide) rfl rc0 (by decide) hk1 hn1 (ofI fun x57 G54 h => ?_) nox
  refine r_istore (L' := [some (vR (some a0)), some (vR x46), some (vR (some a50)), some (vI x52), some (vI x57), none, none, none, none]) dX1_law_30 rfl iI cI (by decide) ?_
  refine r_aload_n dX1_law_32 rfl rfl iR ?_
  refine r_iload_n dX1_law_33 rfl rfl iI ?_
  refine r_if_ne (tgt := 41) dX1_law_34 (by decide) h (fun h => ?_) (fun h => ?_)
  · refine r_new dX1_law_41 fX7 q944 q945 q121 dfX7 h (fun a58 G59 h => ?_)
    refine r_dup dX1_law_44 c1R ?_
    refine r_aload_n dX1_law_45 rfl rfl iR ?_
    refine r_iload_n dX1_law_46 rfl rfl iI ?_
    refine r_callI dX1_law_47 (c_X7_init h) rfl q946 q947 q121 q948 yo_X7_init rfl (by decide) (by decide) rfl (rc1 c1R (rc1 c1R rc0)) (by decide) (Nat.zero_le _) (Nat.zero_le _) (ofV fun G60 h => ?_) nox
    obtain ⟨k62, n63, ⟨hk1, hn1⟩, h⟩ := h
    obtain ⟨hC, h⟩ := h
    refine r_callV dX1_law_50 hC (c_X7_read h) q964 q965 q966 q121 q967 rfl yo_X7_read rfl (by decide) (by decide) rfl (rc1 c1R rc0) (by decide) hk1 hn1 (ofR fun x64 G61 h => ?_) (fun E q66 G65 h => ?_)
    · refine wp.locals (L' := [some (vR (some a0)), some (vR x46), none, none, some (vI x57), none, none, none, none]) (ls_s (ls_s (ls_n (ls_n (ls_s (ls_n (ls_n (ls_n (ls_n ls_0))))))))) ?_
      exact w_X1_law_53 h
    · obtain ⟨rfl, h⟩ := h
      refine wpX.catch [] ⟨32, 62, 70, 110⟩ [⟨32, 62, 91, 0⟩, ⟨70, 83, 91, 0⟩, ⟨91, 93, 91, 0⟩] rfl (by decide) (by decide) (by decide) q783 q839 ?_
      refine wp.locals (L' := [some (vR (some a0)), some (vR x46), none, none, none, none, none, none, none]) (ls_s (ls_s (ls_n (ls_n (ls_n (ls_n (ls_n (ls_n (ls_n ls_0))))))))) ?_
      exact w_X1_law_70 h
  · refine r_null dX1_law_37 ?_
    refine r_goto (tgt := 53) dX1_law_38 (by decide) ?_
    refine wp.locals (L' := [some (vR (some a0)), some (vR x46), none, none, some (vI x57), none, none, none, none]) (ls_s (ls_s (ls_n (ls_n (ls_s (ls_n (ls_n (ls_n (ls_n ls_0))))))))) ?_
    exact w_X1_law_53 h
theorem c_X1_law {a0 : Nat} {k n : Nat} {Q : Int → Wd → Prop} {G : Wd} (h : f_X1_law k n a0 G Q) : call yX1_law (Cond.codeWith yX1_law cX1_law 9 (some .int) [(32, 62, 70, 110), (32, 62, 91, 0), (70, 83, 91, 0), (91, 93, 91, 0)]) 226 k n [vR (some a0)] G (qI Q) noX :=
  call.enterW (by decide +kernel) (la_1 c1R (la_nil rfl)) rfl (w_X1_law h)
abbrev m_X1_years : Mt := (yX1_years.cls, cX1_years, 6, some .int, [], yX1_years.name)
theorem yo_X1_years : yOK yX1_years 2 := ⟨by decide +kernel, by decide +kernel, by decide +kernel⟩
def f_X1_years_83 (a0 : Nat) (k35 : Nat → Nat → Int → Int → Int → Wd → Prop) (k n : Nat) (l2 : Int) (l3 : Int) (l4 : Int) (G : Wd) (Q : Int → Wd → Prop) : Prop :=
  k35 k n l2 l3 (l4 + 1) G
theorem w_X1_years_83 {a0 : Nat} {Q : Int → Wd → Prop} {k35 : Nat → Nat → Int → Int → Int → Wd → Prop} (hk35 : ∀ {k n : Nat} {l2 : Int} {l3 : Int} {l4 : Int} {G : Wd}, k35 k n l2 l3 l4 G → wp m_X1_years 225 k n 35 [some (vR (some a0)), none, some (vI l2), some (vI l3), some (vI l4), none] [] G (qI Q) noX) {k n : Nat} {l2 : Int} {l3 : Int} {l4 : Int} {G : Wd} (h : f_X1_years_83 a0 k35 k n l2 l3 l4 G Q) : wp m_X1_years 225 k n 83 [some (vR (some a0)), none, some (vI l2), some (vI l3), some (vI l4), none] [] G (qI Q) noX := by
  unfold f_X1_years_83 at h
  refine r_iinc (L' := [some (vR (some a0)), none, some (vI l2), some (vI l3), some (vI (l4 + 1)), none]) dX1_years_83 rfl rfl cI (by decide) ?_
  refine r_goto (tgt := 35) dX1_years_86 (by decide) ?_
  exact hk35 h
def f_X1_years_35_b (a0 : Nat) (k35 : Nat → Nat → Int → Int → Int → Wd → Prop) (k n : Nat) (l2 : Int) (l3 : Int) (l4 : Int) (G : Wd) (Q : Int → Wd → Prop) : Prop :=
  br l4 l2 (l2 ≤ l4) (pF G a0 [0] 9 (vI 0) (fun G78 => gR G78 a0 [0] 2 (fun x79 => nn x79 (fun a80 => (isC G78 a80 1 ∧ f_X2_fetched a80  G78 (fun x82 G81 => gR G81 a0 [0] 0 (fun x83 => nn x83 (fun a84 => (isC G81 a84 1 ∧ f_X2_fetched a84  G81 (fun x86 G85 => ok32 (x82 - x86) ((isC G85 a0 0 ∧ f_X1_tell a0 (x82 - x86) G85 (fun G87 => gR G87 a0 [0] 2 (fun x88 => nn x88 (fun a89 => (isC G87 a89 1 ∧ f_X2_blocksSum a89  G87 (fun x91 G90 => ok32 x91 ((isC G90 a0 0 ∧ f_X1_tell a0 x91 G90 (fun G92 => gR G92 a0 [0] 2 (fun x93 => nn x93 (fun a94 => gI G92 a94 [1] 10 (fun x95 => ok32 x95 ((isC G92 a0 0 ∧ f_X1_tell a0 x95 G92 (fun G96 => Q l3 G96)))))))))))))))))))))))))) ((isC G a0 0 ∧ f_X1_draw a0 6 G (fun x98 G97 => gR G97 a0 [0] 2 (fun x99 => nn x99 (fun a100 => gI G97 a100 [1] 8 (fun x101 => br0 x101 (x101 ≤ 0) (f_X1_years_83 a0 k35 k n l2 l3 l4 G97 Q) (gR G97 a0 [0] 2 (fun x102 => gR G97 a0 [0] 2 (fun x103 => nn x103 (fun a104 => gI G97 a104 [1] 8 (fun x105 => (isC G97 a0 0 ∧ f_X1_draw a0 x105 G97 (fun x107 G106 => (∃ k109 n110, (k109 ≤ k ∧ n110 ≤ n) ∧ (isC G106 a0 0 ∧ f_X1_goDrawn k109 n110 a0 x102 x98 x107 G106 (fun x111 G108 => f_X1_years_83 a0 k35 (k - k109) (n - n110) l2 (l3 + x111) l4 G108 Q))))))))))))))))
theorem w_X1_years_35_b {a0 : Nat} {Q : Int → Wd → Prop} {k35 : Nat → Nat → Int → Int → Int → Wd → Prop} (hk35 : ∀ {k n : Nat} {l2 : Int} {l3 : Int} {l4 : Int} {G : Wd}, k35 k n l2 l3 l4 G → wp m_X1_years 225 k n 35 [some (vR (some a0)), none, some (vI l2), some (vI l3), some (vI l4), none] [] G (qI Q) noX) {k n : Nat} {l2 : Int} {l3 : Int} {l4 : Int} {G : Wd} (h : f_X1_years_35_b a0 k35 k n l2 l3 l4 G Q) : wp m_X1_years 225 k n 35 [some (vR (some a0)), none, some (vI l2), some (vI l3), some (vI l4), none] [] G (qI Q) noX := by
  unfold f_X1_years_35_b at h
  refine r_iload dX1_years_35 rfl iI ?_
  refine r_iload_n dX1_years_37 rfl rfl iI ?_
  refine r_icmp_ge (tgt := 89) dX1_years_38 (by decide) h (fun h => ?_) (fun h => ?_)
  · refine r_aload_n dX1_years_89 rfl rfl iR ?_
    refine r_iconst dX1_years_90 ?_
    refine r_put dX1_years_91 (fp1 (f := 9) fX1 (by decide) q709 rfl rfl rfl) fvI h (fun G78 h => ?_)
    refine r_aload_n dX1_years_94 rfl rfl iR ?_
    refine r_aload_n dX1_years_95 rfl rfl iR ?_
    refine r_getR dX1_years_96 (fg1 (f := 2) fX1 (by decide) q702 rfl) h (fun x79 h => ?_)
    obtain ⟨a80, e, h⟩ := h
    refine wp.cast (L' := [some (vR (some a0)), none, some (vI l2), some (vI l3), some (vI l4), none]) (st' := [vR (some a80), vR (some a0)]) rfl (by rw [e]) ?_
    obtain ⟨hC, h⟩ := h
    refine r_callV dX1_years_99 hC (c_X2_fetched h) q2088 q2089 q2090 q93 q2091 rfl yo_X2_fetched rfl (by decide) (by decide) rfl (rc1 c1R rc0) (by decide) (Nat.zero_le _) (Nat.zero_le _) (ofI fun x82 G81 h => ?_) nox
    refine r_aload_n dX1_years_102 rfl rfl iR ?_
    refine r_getR dX1_years_103 (fg1 (f := 0) fX1 (by decide) q700 rfl) h (fun x83 h => ?_)
    obtain ⟨a84, e, h⟩ := h
    refine wp.cast (L' := [some (vR (some a0)), none, some (vI l2), some (vI l3), some (vI l4), none]) (st' := [vR (some a84), vI x82, vR (some a0)]) rfl (by rw [e]) ?_
    obtain ⟨hC, h⟩ := h
    refine r_callV dX1_years_106 hC (c_X2_fetched h) q2088 q2089 q2090 q93 q2091 rfl yo_X2_fetched rfl (by decide) (by decide) rfl (rc1 c1I (rc1 c1R rc0)) (by decide) (Nat.zero_le _) (Nat.zero_le _) (ofI fun x86 G85 h => ?_) nox
    refine r_isub dX1_years_109 ?_
    refine r_i2l dX1_years_110 h (fun h => ?_)
    obtain ⟨hC, h⟩ := h
    refine r_callV dX1_years_111 hC (c_X1_tell h) q1761 q1763 qs27 q92 q1764 rfl yo_X1_tell rfl (by decide) (by decide) rfl rc0 (by decide) (Nat.zero_le _) (Nat.zero_le _) (ofV fun G87 h => ?_) nox
    refine r_aload_n dX1_years_114 rfl rfl iR ?_
    refine r_aload_n dX1_years_115 rfl rfl iR ?_
    refine r_getR dX1_years_116 (fg1 (f := 2) fX1 (by decide) q702 rfl) h (fun x88 h => ?_)
    obtain ⟨a89, e, h⟩ := h
    refine wp.cast (L' := [some (vR (some a0)), none, some (vI l2), some (vI l3), some (vI l4), none]) (st' := [vR (some a89), vR (some a0)]) rfl (by rw [e]) ?_
    obtain ⟨hC, h⟩ := h
    refine r_callV dX1_years_119 hC (c_X2_blocksSum h) q1038 q1039 q1040 q93 q1041 rfl yo_X2_blocksSum rfl (by decide) (by decide) rfl (rc1 c1R rc0) (by decide) (Nat.zero_le _) (Nat.zero_le _) (ofI fun x91 G90 h => ?_) nox
    refine r_i2l dX1_years_122 h (fun h => ?_)
    obtain ⟨hC, h⟩ := h
    refine r_callV dX1_years_123 hC (c_X1_tell h) q1761 q1763 qs27 q92 q1764 rfl yo_X1_tell rfl (by decide) (by decide) rfl rc0 (by decide) (Nat.zero_le _) (Nat.zero_le _) (ofV fun G92 h => ?_) nox
    refine r_aload_n dX1_years_126 rfl rfl iR ?_
    refine r_aload_n dX1_years_127 rfl rfl iR ?_
    refine r_getR dX1_years_128 (fg1 (f := 2) fX1 (by decide) q702 rfl) h (fun x93 h => ?_)
    obtain ⟨a94, e, h⟩ := h
    refine wp.cast (L' := [some (vR (some a0)), none, some (vI l2), some (vI l3), some (vI l4), none]) (st' := [vR (some a94), vR (some a0)]) rfl (by rw [e]) ?_
    refine r_getI dX1_years_131 (fg1 (f := 10) fX2 (by decide) q657 rfl) h (fun x95 h => ?_)
    refine r_i2l dX1_years_134 h (fun h => ?_)
    obtain ⟨hC, h⟩ := h
    refine r_callV dX1_years_135 hC (c_X1_tell h) q1761 q1763 qs27 q92 q1764 rfl yo_X1_tell rfl (by decide) (by decide) rfl rc0 (by decide) (Nat.zero_le _) (Nat.zero_le _) (ofV fun G96 h => ?_) nox
    refine r_iload_n dX1_years_138 rfl rfl iI ?_
    exact r_iret rfl dX1_years_139 ⟨_, rfl, h⟩
  · refine r_aload_n dX1_years_41 rfl rfl iR ?_
    refine r_bipush dX1_years_42 (by decide) ?_
    obtain ⟨hC, h⟩ := h
    refine r_callV dX1_years_44 hC (c_X1_draw h) q2079 q2081 qs38 q92 q2082 rfl yo_X1_draw rfl (by decide) (by decide) rfl rc0 (by decide) (Nat.zero_le _) (Nat.zero_le _) (ofI fun x98 G97 h => ?_) nox
    refine r_istore (L' := [some (vR (some a0)), none, some (vI l2), some (vI l3), some (vI l4), some (vI x98)]) dX1_years_47 rfl iI cI (by decide) ?_
    refine r_aload_n dX1_years_49 rfl rfl iR ?_
    refine r_getR dX1_years_50 (fg1 (f := 2) fX1 (by decide) q702 rfl) h (fun x99 h => ?_)
    obtain ⟨a100, e, h⟩ := h
    refine wp.cast (L' := [some (vR (some a0)), none, some (vI l2), some (vI l3), some (vI l4), some (vI x98)]) (st' := [vR (some a100)]) rfl (by rw [e]) ?_
    refine r_getI dX1_years_53 (fg1 (f := 8) fX2 (by decide) q652 rfl) h (fun x101 h => ?_)
    refine r_if_le (tgt := 83) dX1_years_56 (by decide) h (fun h => ?_) (fun h => ?_)
    · refine wp.locals (L' := [some (vR (some a0)), none, some (vI l2), some (vI l3), some (vI l4), none]) (ls_s (ls_n (ls_s (ls_s (ls_s (ls_n ls_0)))))) ?_
      exact w_X1_years_83 hk35 h
    · refine r_iload_n dX1_years_59 rfl rfl iI ?_
      refine r_aload_n dX1_years_60 rfl rfl iR ?_
      refine r_aload_n dX1_years_61 rfl rfl iR ?_
      refine r_getR dX1_years_62 (fg1 (f := 2) fX1 (by decide) q702 rfl) h (fun x102 h => ?_)
      refine r_iload dX1_years_65 rfl iI ?_
      refine r_aload_n dX1_years_67 rfl rfl iR ?_
      refine r_aload_n dX1_years_68 rfl rfl iR ?_
      refine r_getR dX1_years_69 (fg1 (f := 2) fX1 (by decide) q702 rfl) h (fun x103 h => ?_)
      obtain ⟨a104, e, h⟩ := h
      refine wp.cast (L' := [some (vR (some a0)), none, some (vI l2), some (vI l3), some (vI l4), some (vI x98)]) (st' := [vR (some a104), vR (some a0), vI x98, vR x102, vR (some a0), vI l3]) rfl (by rw [e]) ?_
      refine r_getI dX1_years_72 (fg1 (f := 8) fX2 (by decide) q652 rfl) h (fun x105 h => ?_)
      obtain ⟨hC, h⟩ := h
      refine r_callV dX1_years_75 hC (c_X1_draw h) q2079 q2081 qs38 q92 q2082 rfl yo_X1_draw rfl (by decide) (by decide) rfl (rc1 c1I (rc1 c1R (rc1 c1R (rc1 c1I rc0)))) (by decide) (Nat.zero_le _) (Nat.zero_le _) (ofI fun x107 G106 h => ?_) nox
      obtain ⟨k109, n110, ⟨hk1, hn1⟩, h⟩ := h
      obtain ⟨hC, h⟩ := h
      refine r_callV dX1_years_78 hC (c_X1_goDrawn h) q2084 q2086 qs39 q92 q2087 rfl yo_X1_goDrawn rfl (by decide) (by decide) rfl (rc1 c1I rc0) (by decide) hk1 hn1 (ofI fun x111 G108 h => ?_) nox
      refine r_iadd dX1_years_81 ?_
      refine r_istore_n (L' := [some (vR (some a0)), none, some (vI l2), some (vI (l3 + x111)), some (vI l4), some (vI x98)]) dX1_years_82 rfl rfl iI cI (by decide) ?_
      refine wp.locals (L' := [some (vR (some a0)), none, some (vI l2), some (vI (l3 + x111)), some (vI l4), none]) (ls_s (ls_n (ls_s (ls_s (ls_s (ls_n ls_0)))))) ?_
      exact w_X1_years_83 hk35 h
def f_X1_years_35 (a0 : Nat) (Q : Int → Wd → Prop) : Nat → Nat → Nat → Int → Int → Int → Wd → Prop
  | 0, _, _, _, _, _, _ => False
  | fl + 1, k, n, l2, l3, l4, G => f_X1_years_35_b a0  (fun k n l2 l3 l4 G => f_X1_years_35 a0  Q fl k n l2 l3 l4 G) k n l2 l3 l4 G Q
theorem w_X1_years_35 {a0 : Nat} {Q : Int → Wd → Prop} : ∀ (fl : Nat) {k n : Nat} {l2 : Int} {l3 : Int} {l4 : Int} {G : Wd}, f_X1_years_35 a0 Q fl k n l2 l3 l4 G → wp m_X1_years 225 k n 35 [some (vR (some a0)), none, some (vI l2), some (vI l3), some (vI l4), none] [] G (qI Q) noX := by
  intro fl
  induction fl with
  | zero => intro k n l2 l3 l4 G h; exact (show False from h).elim
  | succ fl ih => intro k n l2 l3 l4 G h; exact w_X1_years_35_b  (fun h => ih h) h
def f_X1_years (k n : Nat) (a0 : Nat) (a1 : Int) (a2 : Int) (G : Wd) (Q : Int → Wd → Prop) : Prop :=
  ok32 a2 (f_X1_in a2 1 40 G (fun x113 G112 => brB x113 (pF G112 a0 [0] 19 (vI a1) (fun G114 => gR G114 a0 [0] 2 (fun x115 => gR G114 a0 [0] 0 (fun x116 => nn x115 (fun a117 => (∃ k119 n120, (k119 ≤ k ∧ n120 ≤ n) ∧ (isC G114 a117 1 ∧ f_X2_be k119 n120 a117 x116 G114 (fun G118 => ∃ fl121, f_X1_years_35 a0 Q fl121 (k - k119) (n - n120) a2 0 0 G118)))))))) (Q (-1) G112)))
theorem w_X1_years {a0 : Nat} {Q : Int → Wd → Prop} {k n : Nat} {a1 : Int} {a2 : Int} {G : Wd} (h : f_X1_years k n a0 a1 a2 G Q) : wp m_X1_years 225 k n 0 [some (vR (some a0)), some (vI a1), some (vI a2), none, none, none] [] G (qI Q) noX := by
  unfold f_X1_years at h
  refine r_iload_n dX1_years_0 rfl rfl iI ?_
  refine r_i2l dX1_years_1 h (fun h => ?_)
  refine r_lconst (y := 1) dX1_years_2 (by decide) ?_
  refine r_ldc2 (x := 40) dX1_years_3 q2066 (by decide) ?_
  refine r_callS dX1_years_6 (c_X1_in h) q776 q777 q92 q778 yo_X1_in rfl (by decide) (by decide) rfl rc0 (by decide) (Nat.zero_le _) (Nat.zero_le _) (ofB fun x113 G112 h => ?_) nox
  refine r_ifZ_ne (tgt := 14) dX1_years_9 (by decide) h (fun h => ?_) (fun h => ?_)
  · refine r_aload_n dX1_years_14 rfl rfl iR ?_
    refine r_iload_n dX1_years_15 rfl rfl iI ?_
    refine r_put dX1_years_16 (fp1 (f := 19) fX1 (by decide) q719 rfl rfl rfl) fvI h (fun G114 h => ?_)
    refine r_aload_n dX1_years_19 rfl rfl iR ?_
    refine r_getR dX1_years_20 (fg1 (f := 2) fX1 (by decide) q702 rfl) h (fun x115 h => ?_)
    refine r_aload_n dX1_years_23 rfl rfl iR ?_
    refine r_getR dX1_years_24 (fg1 (f := 0) fX1 (by decide) q700 rfl) h (fun x116 h => ?_)
    obtain ⟨a117, e, h⟩ := h
    refine wp.cast (L' := [some (vR (some a0)), some (vI a1), some (vI a2), none, none, none]) (st' := [vR x116, vR (some a117)]) rfl (by rw [e]) ?_
    obtain ⟨k119, n120, ⟨hk1, hn1⟩, h⟩ := h
    obtain ⟨hC, h⟩ := h
    refine r_callV dX1_years_27 hC (c_X2_be h) q1076 q1077 q1078 q93 q1079 rfl yo_X2_be rfl (by decide) (by decide) rfl rc0 (by decide) hk1 hn1 (ofV fun G118 h => ?_) nox
    refine r_iconst dX1_years_30 ?_
    refine r_istore_n (L' := [some (vR (some a0)), some (vI a1), some (vI a2), some (vI 0), none, none]) dX1_years_31 rfl rfl iI cI (by decide) ?_
    refine r_iconst dX1_years_32 ?_
    refine r_istore (L' := [some (vR (some a0)), some (vI a1), some (vI a2), some (vI 0), some (vI 0), none]) dX1_years_33 rfl iI cI (by decide) ?_
    refine wp.locals (L' := [some (vR (some a0)), none, some (vI a2), some (vI 0), some (vI 0), none]) (ls_s (ls_n (ls_s (ls_s (ls_s (ls_n ls_0)))))) ?_
    obtain ⟨fl121, h⟩ := h
    exact w_X1_years_35 fl121 h
  · refine r_iconst dX1_years_12 ?_
    exact r_iret rfl dX1_years_13 ⟨_, rfl, h⟩
theorem c_X1_years {a0 : Nat} {a1 : Int} {a2 : Int} {k n : Nat} {Q : Int → Wd → Prop} {G : Wd} (h : f_X1_years k n a0 a1 a2 G Q) : call yX1_years (Cond.code yX1_years cX1_years 6 (some .int)) 225 k n [vR (some a0), vI a1, vI a2] G (qI Q) noX :=
  call.enter (by decide +kernel) (la_1 c1R (la_1 c1I (la_1 c1I (la_nil rfl)))) rfl (w_X1_years h)
