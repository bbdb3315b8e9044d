/-! the twin's methods, decompiled (printed by gentw.py) -/
set_option maxRecDepth 100000
theorem yo_X4_readsThing : yOK yX4_readsThing 0 := ⟨by decide +kernel, by decide +kernel, by decide +kernel⟩
theorem yo_X4_readsRank : yOK yX4_readsRank 1 := ⟨by decide +kernel, by decide +kernel, by decide +kernel⟩
abbrev m_X4_thrown : Mt := (yX4_thrown.cls, cX4_thrown, 1, some .int, [], yX4_thrown.name)
theorem yo_X4_thrown : yOK yX4_thrown 0 := ⟨by decide +kernel, by decide +kernel, by decide +kernel⟩
def f_X4_thrown (w : Tw) (Q : Int → Tw → Prop) : Prop :=
  Q (w 0 0) w
theorem w_X4_thrown {t : Nat} {ad : Nat → Nat} {G0 : Wd} {Q : Int → Tw → Prop} {w : Tw} {G : Wd} (h : f_X4_thrown w Q) (hT : TwAt t ad w (G 2)) (hG : ∀ r, r ≠ 2 → G r = G0 r) : wp m_X4_thrown 1 0 0 0 [some (vR (some t))] [] G (twQ t ad G0 (uI Q)) noX := by
  unfold f_X4_thrown at h
  refine r_aload_n dX4_thrown_0 rfl rfl iR ?_
  refine t_getI (j := 0) hT dX4_thrown_1 (fg1 (f := 0) fX4 (by decide) q2221 rfl) rfl ?_
  exact r_iret rfl dX4_thrown_4 ⟨_, hT, hG, _, rfl, h⟩
theorem c_X4_thrown {t : Nat} {ad : Nat → Nat} {G0 : Wd} {Q : Int → Tw → Prop} {w : Tw} {G : Wd} (h : f_X4_thrown w Q) (hT : TwAt t ad w (G 2)) (hG : ∀ r, r ≠ 2 → G r = G0 r) : call yX4_thrown (Cond.code yX4_thrown cX4_thrown 1 (some .int)) 1 0 0 [vR (some t)] G (twQ t ad G0 (uI Q)) noX :=
  call.enter (by decide +kernel) (la_1 c1R (la_nil rfl)) rfl (w_X4_thrown  h hT hG)
abbrev m_X4_sign : Mt := (yX4_sign.cls, cX4_sign, 3, some .int, [], yX4_sign.name)
theorem yo_X4_sign : yOK yX4_sign 1 := ⟨by decide +kernel, by decide +kernel, by decide +kernel⟩
def f_X4_sign_18_b (k18 : Int → Int → Tw → Prop) (l1 : Int) (l2 : Int) (w : Tw) (Q : Int → Tw → Prop) : Prop :=
  br l2 4 ((4 : Int) ≤ l2) (tS w 4 0 ((w 4 0) + 4) (fun w6 => Q (w6 4 0) w6)) (wrA w 3 80 ((w 4 0) + l2) (iand (ishr l1 (24 - (8 * l2))) 255) (fun w7 => k18 l1 (l2 + 1) w7))
theorem w_X4_sign_18_b {t : Nat} {ad : Nat → Nat} {G0 : Wd} {Q : Int → Tw → Prop} {k18 : Int → Int → Tw → Prop} (hk18 : ∀ {l1 : Int} {l2 : Int} {w : Tw} {G : Wd}, k18 l1 l2 w → TwAt t ad w (G 2) → (∀ r, r ≠ 2 → G r = G0 r) → wp m_X4_sign 1 0 0 18 [some (vR (some t)), some (vI l1), some (vI l2)] [] G (twQ t ad G0 (uI Q)) noX) {l1 : Int} {l2 : Int} {w : Tw} {G : Wd} (h : f_X4_sign_18_b k18 l1 l2 w Q) (hT : TwAt t ad w (G 2)) (hG : ∀ r, r ≠ 2 → G r = G0 r) : wp m_X4_sign 1 0 0 18 [some (vR (some t)), some (vI l1), some (vI l2)] [] G (twQ t ad G0 (uI Q)) noX := by
  unfold f_X4_sign_18_b at h
  refine r_iload_n dX4_sign_18 rfl rfl iI ?_
  refine r_iconst dX4_sign_19 ?_
  refine r_icmp_ge (tgt := 53) dX4_sign_20 (by decide) h (fun h => ?_) (fun h => ?_)
  · refine r_aload_n dX4_sign_53 rfl rfl iR ?_
    refine r_dup dX4_sign_54 c1R ?_
    refine t_getI (j := 4) hT dX4_sign_55 (fg1 (f := 4) fX4 (by decide) q2225 rfl) rfl ?_
    refine r_iconst dX4_sign_58 ?_
    refine r_iadd dX4_sign_59 ?_
    refine t_put (j := 4) hT hG dX4_sign_60 (fp1 (f := 4) fX4 (by decide) q2225 rfl rfl rfl) tF4 (by decide) h (fun w6 G h hT hG => ?_)
    refine r_aload_n dX4_sign_63 rfl rfl iR ?_
    refine t_getI (j := 4) hT dX4_sign_64 (fg1 (f := 4) fX4 (by decide) q2225 rfl) rfl ?_
    exact r_iret rfl dX4_sign_67 ⟨_, hT, hG, _, rfl, h⟩
  · refine r_aload_n dX4_sign_23 rfl rfl iR ?_
    refine t_getA (j := 3) hT dX4_sign_24 (fg1 (f := 3) fX4 (by decide) q2224 rfl) rfl ?_
    refine r_aload_n dX4_sign_27 rfl rfl iR ?_
    refine t_getI (j := 4) hT dX4_sign_28 (fg1 (f := 4) fX4 (by decide) q2225 rfl) rfl ?_
    refine r_iload_n dX4_sign_31 rfl rfl iI ?_
    refine r_iadd dX4_sign_32 ?_
    refine r_iload_n dX4_sign_33 rfl rfl iI ?_
    refine r_bipush dX4_sign_34 (by decide) ?_
    refine r_bipush dX4_sign_36 (by decide) ?_
    refine r_iload_n dX4_sign_38 rfl rfl iI ?_
    refine r_imul dX4_sign_39 ?_
    refine r_isub dX4_sign_40 ?_
    refine r_ishr dX4_sign_41 ?_
    refine r_sipush dX4_sign_42 (by decide) ?_
    refine r_iand dX4_sign_45 ?_
    refine t_iast hT hG dX4_sign_46 tA3 (by decide) h (fun w7 G h hT hG => ?_)
    refine r_iinc (L' := [some (vR (some t)), some (vI l1), some (vI (l2 + 1))]) dX4_sign_47 rfl rfl cI (by decide) ?_
    refine r_goto (tgt := 18) dX4_sign_50 (by decide) ?_
    exact hk18 h hT hG
def f_X4_sign_18 (Q : Int → Tw → Prop) : Nat → Int → Int → Tw → Prop
  | 0, _, _, _ => False
  | fl + 1, l1, l2, w => f_X4_sign_18_b    (fun l1 l2 w => f_X4_sign_18    Q fl l1 l2 w) l1 l2 w Q
theorem w_X4_sign_18 {t : Nat} {ad : Nat → Nat} {G0 : Wd} {Q : Int → Tw → Prop} : ∀ (fl : Nat) {l1 : Int} {l2 : Int} {w : Tw} {G : Wd}, f_X4_sign_18 Q fl l1 l2 w → TwAt t ad w (G 2) → (∀ r, r ≠ 2 → G r = G0 r) → wp m_X4_sign 1 0 0 18 [some (vR (some t)), some (vI l1), some (vI l2)] [] G (twQ t ad G0 (uI Q)) noX := by
  intro fl
  induction fl with
  | zero => intro l1 l2 w G h; exact (show False from h).elim
  | succ fl ih => intro l1 l2 w G h hT hG; exact w_X4_sign_18_b   (fun h hT hG => ih h hT hG) h hT hG
def f_X4_sign (a1 : Int) (w : Tw) (Q : Int → Tw → Prop) : Prop :=
  tS w 0 0 0 (fun w8 => br (w8 4 0) 76 ((w8 4 0) ≤ (76 : Int)) (∃ fl9, f_X4_sign_18 Q fl9 a1 0 w8) (Q (-1) w8))
theorem w_X4_sign {t : Nat} {ad : Nat → Nat} {G0 : Wd} {Q : Int → Tw → Prop} {a1 : Int} {w : Tw} {G : Wd} (h : f_X4_sign a1 w Q) (hT : TwAt t ad w (G 2)) (hG : ∀ r, r ≠ 2 → G r = G0 r) : wp m_X4_sign 1 0 0 0 [some (vR (some t)), some (vI a1), none] [] G (twQ t ad G0 (uI Q)) noX := by
  unfold f_X4_sign at h
  refine r_aload_n dX4_sign_0 rfl rfl iR ?_
  refine r_iconst dX4_sign_1 ?_
  refine t_put (j := 0) hT hG dX4_sign_2 (fp1 (f := 0) fX4 (by decide) q2221 rfl rfl rfl) tF0 (by decide) h (fun w8 G h hT hG => ?_)
  refine r_aload_n dX4_sign_5 rfl rfl iR ?_
  refine t_getI (j := 4) hT dX4_sign_6 (fg1 (f := 4) fX4 (by decide) q2225 rfl) rfl ?_
  refine r_bipush dX4_sign_9 (by decide) ?_
  refine r_icmp_le (tgt := 16) dX4_sign_11 (by decide) h (fun h => ?_) (fun h => ?_)
  · refine r_iconst dX4_sign_16 ?_
    refine r_istore_n (L' := [some (vR (some t)), some (vI a1), some (vI 0)]) dX4_sign_17 rfl rfl iI cI (by decide) ?_
    obtain ⟨fl9, h⟩ := h
    exact w_X4_sign_18 fl9 h hT hG
  · refine r_iconst dX4_sign_14 ?_
    exact r_iret rfl dX4_sign_15 ⟨_, hT, hG, _, rfl, h⟩
theorem c_X4_sign {t : Nat} {ad : Nat → Nat} {G0 : Wd} {a1 : Int} {Q : Int → Tw → Prop} {w : Tw} {G : Wd} (h : f_X4_sign a1 w Q) (hT : TwAt t ad w (G 2)) (hG : ∀ r, r ≠ 2 → G r = G0 r) : call yX4_sign (Cond.code yX4_sign cX4_sign 3 (some .int)) 1 0 0 [vR (some t), vI a1] G (twQ t ad G0 (uI Q)) noX :=
  call.enter (by decide +kernel) (la_1 c1R (la_1 c1I (la_nil rfl))) rfl (w_X4_sign  h hT hG)
abbrev m_X4_in : Mt := (yX4_in.cls, cX4_in, 6, some .boolean, [], yX4_in.name)
theorem yo_X4_in : yOK yX4_in 3 := ⟨by decide +kernel, by decide +kernel, by decide +kernel⟩
def f_X4_in_17 (w : Tw) (Q : Bool → Tw → Prop) : Prop :=
  Q false w
theorem w_X4_in_17 {t : Nat} {ad : Nat → Nat} {G0 : Wd} {Q : Bool → Tw → Prop} {w : Tw} {G : Wd} (h : f_X4_in_17 w Q) (hT : TwAt t ad w (G 2)) (hG : ∀ r, r ≠ 2 → G r = G0 r) : wp m_X4_in 1 0 0 17 [none, none, none, none, none, none] [] G (twQ t ad G0 (uB Q)) noX := by
  unfold f_X4_in_17 at h
  refine r_iconst dX4_in_17 ?_
  refine wp.cast (st' := [vB false]) rfl (congrArg (fun q => [q]) vI0) ?_
  exact r_zret rfl dX4_in_18 ⟨_, hT, hG, _, rfl, h⟩
def f_X4_in (a0 : Int) (a2 : Int) (a4 : Int) (w : Tw) (Q : Bool → Tw → Prop) : Prop :=
  ((R64 a0 ∧ R64 a2) ∧ br0 (sg a0 a2) ((sg a0 a2) < 0) (f_X4_in_17 w Q) (((R64 a0 ∧ R64 a4) ∧ br0 (sg a0 a4) (0 < (sg a0 a4)) (f_X4_in_17 w Q) (Q true w))))
theorem w_X4_in {t : Nat} {ad : Nat → Nat} {G0 : Wd} {Q : Bool → Tw → Prop} {a0 : Int} {a2 : Int} {a4 : Int} {w : Tw} {G : Wd} (h : f_X4_in a0 a2 a4 w Q) (hT : TwAt t ad w (G 2)) (hG : ∀ r, r ≠ 2 → G r = G0 r) : wp m_X4_in 1 0 0 0 [some (vJ a0), none, some (vJ a2), none, some (vJ a4), none] [] G (twQ t ad G0 (uB Q)) noX := by
  unfold f_X4_in at h
  refine r_lload_n dX4_in_0 rfl rfl iJ ?_
  refine r_lload_n dX4_in_1 rfl rfl iJ ?_
  refine r_lcmp dX4_in_2 h (fun h => ?_)
  refine r_if_lt (tgt := 17) dX4_in_3 (by decide) h (fun h => ?_) (fun h => ?_)
  · refine wp.locals (L' := [none, none, none, none, none, none]) (ls_n (ls_n (ls_n (ls_n (ls_n (ls_n ls_0)))))) ?_
    exact w_X4_in_17 h hT hG
  · refine r_lload_n dX4_in_6 rfl rfl iJ ?_
    refine r_lload dX4_in_7 rfl iJ ?_
    refine r_lcmp dX4_in_9 h (fun h => ?_)
    refine r_if_gt (tgt := 17) dX4_in_10 (by decide) h (fun h => ?_) (fun h => ?_)
    · refine wp.locals (L' := [none, none, none, none, none, none]) (ls_n (ls_n (ls_n (ls_n (ls_n (ls_n ls_0)))))) ?_
      exact w_X4_in_17 h hT hG
    · refine r_iconst dX4_in_13 ?_
      refine r_goto (tgt := 18) dX4_in_14 (by decide) ?_
      refine wp.cast (st' := [vB true]) rfl (congrArg (fun q => [q]) vI1) ?_
      exact r_zret rfl dX4_in_18 ⟨_, hT, hG, _, rfl, h⟩
theorem c_X4_in {t : Nat} {ad : Nat → Nat} {G0 : Wd} {a0 : Int} {a2 : Int} {a4 : Int} {Q : Bool → Tw → Prop} {w : Tw} {G : Wd} (h : f_X4_in a0 a2 a4 w Q) (hT : TwAt t ad w (G 2)) (hG : ∀ r, r ≠ 2 → G r = G0 r) : call yX4_in (Cond.code yX4_in cX4_in 6 (some .boolean)) 1 0 0 [vJ a0, vJ a2, vJ a4] G (twQ t ad G0 (uB Q)) noX :=
  call.enter (by decide +kernel) (la_2 (la_2 (la_2 (la_nil rfl)))) rfl (w_X4_in  h hT hG)
abbrev m_X4_begins : Mt := (yX4_begins.cls, cX4_begins, 3, some .int, [], yX4_begins.name)
theorem yo_X4_begins : yOK yX4_begins 1 := ⟨by decide +kernel, by decide +kernel, by decide +kernel⟩
def f_X4_begins (a1 : Int) (w : Tw) (Q : Int → Tw → Prop) : Prop :=
  tS w 4 0 0 (fun w5 => tS w5 5 0 0 (fun w6 => tS w6 7 0 0 (fun w7 => ((R32 (w 4 0) ∧ R32 a1) ∧ tS w7 6 0 (min (w 4 0) a1) (fun w8 => Q (w 4 0) w8)))))
theorem w_X4_begins {t : Nat} {ad : Nat → Nat} {G0 : Wd} {Q : Int → Tw → Prop} {a1 : Int} {w : Tw} {G : Wd} (h : f_X4_begins a1 w Q) (hT : TwAt t ad w (G 2)) (hG : ∀ r, r ≠ 2 → G r = G0 r) : wp m_X4_begins 1 0 0 0 [some (vR (some t)), some (vI a1), none] [] G (twQ t ad G0 (uI Q)) noX := by
  unfold f_X4_begins at h
  refine r_aload_n dX4_begins_0 rfl rfl iR ?_
  refine t_getI (j := 4) hT dX4_begins_1 (fg1 (f := 4) fX4 (by decide) q2225 rfl) rfl ?_
  refine r_istore_n (L' := [some (vR (some t)), some (vI a1), some (vI (w 4 0))]) dX4_begins_4 rfl rfl iI cI (by decide) ?_
  refine r_aload_n dX4_begins_5 rfl rfl iR ?_
  refine r_iconst dX4_begins_6 ?_
  refine t_put (j := 4) hT hG dX4_begins_7 (fp1 (f := 4) fX4 (by decide) q2225 rfl rfl rfl) tF4 (by decide) h (fun w5 G h hT hG => ?_)
  refine r_aload_n dX4_begins_10 rfl rfl iR ?_
  refine r_iconst dX4_begins_11 ?_
  refine t_put (j := 5) hT hG dX4_begins_12 (fp1 (f := 5) fX4 (by decide) q2226 rfl rfl rfl) tF5 (by decide) h (fun w6 G h hT hG => ?_)
  refine r_aload_n dX4_begins_15 rfl rfl iR ?_
  refine r_iconst dX4_begins_16 ?_
  refine t_put (j := 7) hT hG dX4_begins_17 (fp1 (f := 7) fX4 (by decide) q2228 rfl rfl rfl) tF7 (by decide) h (fun w7 G h hT hG => ?_)
  refine r_aload_n dX4_begins_20 rfl rfl iR ?_
  refine r_iload_n dX4_begins_21 rfl rfl iI ?_
  refine r_iload_n dX4_begins_22 rfl rfl iI ?_
  refine r_mmin dX4_begins_23 q2149 (rc1 c1R rc0) (by decide) (by decide) h (fun h => ?_)
  refine t_put (j := 6) hT hG dX4_begins_26 (fp1 (f := 6) fX4 (by decide) q2227 rfl rfl rfl) tF6 (by decide) h (fun w8 G h hT hG => ?_)
  refine r_iload_n dX4_begins_29 rfl rfl iI ?_
  exact r_iret rfl dX4_begins_30 ⟨_, hT, hG, _, rfl, h⟩
theorem c_X4_begins {t : Nat} {ad : Nat → Nat} {G0 : Wd} {a1 : Int} {Q : Int → Tw → Prop} {w : Tw} {G : Wd} (h : f_X4_begins a1 w Q) (hT : TwAt t ad w (G 2)) (hG : ∀ r, r ≠ 2 → G r = G0 r) : call yX4_begins (Cond.code yX4_begins cX4_begins 3 (some .int)) 1 0 0 [vR (some t), vI a1] G (twQ t ad G0 (uI Q)) noX :=
  call.enter (by decide +kernel) (la_1 c1R (la_1 c1I (la_nil rfl))) rfl (w_X4_begins  h hT hG)
abbrev m_X4_flag : Mt := (yX4_flag.cls, cX4_flag, 1, some .int, [], yX4_flag.name)
theorem yo_X4_flag : yOK yX4_flag 1 := ⟨by decide +kernel, by decide +kernel, by decide +kernel⟩
def f_X4_flag (a0 : Bool) (w : Tw) (Q : Int → Tw → Prop) : Prop :=
  brB a0 (Q 1 w) (Q 0 w)
theorem w_X4_flag {t : Nat} {ad : Nat → Nat} {G0 : Wd} {Q : Int → Tw → Prop} {a0 : Bool} {w : Tw} {G : Wd} (h : f_X4_flag a0 w Q) (hT : TwAt t ad w (G 2)) (hG : ∀ r, r ≠ 2 → G r = G0 r) : wp m_X4_flag 1 0 0 0 [some (vB a0)] [] G (twQ t ad G0 (uI Q)) noX := by
  unfold f_X4_flag at h
  refine r_iload_n dX4_flag_0 rfl rfl iB ?_
  refine r_ifZ_eq (tgt := 8) dX4_flag_1 (by decide) h (fun h => ?_) (fun h => ?_)
  · refine r_iconst dX4_flag_8 ?_
    exact r_iret rfl dX4_flag_9 ⟨_, hT, hG, _, rfl, h⟩
  · refine r_iconst dX4_flag_4 ?_
    refine r_goto (tgt := 9) dX4_flag_5 (by decide) ?_
    exact r_iret rfl dX4_flag_9 ⟨_, hT, hG, _, rfl, h⟩
theorem c_X4_flag {t : Nat} {ad : Nat → Nat} {G0 : Wd} {a0 : Bool} {Q : Int → Tw → Prop} {w : Tw} {G : Wd} (h : f_X4_flag a0 w Q) (hT : TwAt t ad w (G 2)) (hG : ∀ r, r ≠ 2 → G r = G0 r) : call yX4_flag (Cond.code yX4_flag cX4_flag 1 (some .int)) 1 0 0 [vB a0] G (twQ t ad G0 (uI Q)) noX :=
  call.enter (by decide +kernel) (la_1 c1B (la_nil rfl)) rfl (w_X4_flag  h hT hG)
abbrev m_X4_codes : Mt := (yX4_codes.cls, cX4_codes, 2, none, [], yX4_codes.name)
theorem yo_X4_codes : yOK yX4_codes 1 := ⟨by decide +kernel, by decide +kernel, by decide +kernel⟩
def f_X4_codes (a1 : Int) (w : Tw) (Q : Tw → Prop) : Prop :=
  wrA w 9 80 (w 11 0) a1 (fun w3 => tS w3 11 0 ((w3 11 0) + 1) (fun w4 => Q w4))
theorem w_X4_codes {t : Nat} {ad : Nat → Nat} {G0 : Wd} {Q : Tw → Prop} {a1 : Int} {w : Tw} {G : Wd} (h : f_X4_codes a1 w Q) (hT : TwAt t ad w (G 2)) (hG : ∀ r, r ≠ 2 → G r = G0 r) : wp m_X4_codes 1 0 0 0 [some (vR (some t)), some (vI a1)] [] G (twQ t ad G0 (uV Q)) noX := by
  unfold f_X4_codes at h
  refine r_aload_n dX4_codes_0 rfl rfl iR ?_
  refine t_getA (j := 9) hT dX4_codes_1 (fg1 (f := 9) fX4 (by decide) q2230 rfl) rfl ?_
  refine r_aload_n dX4_codes_4 rfl rfl iR ?_
  refine t_getI (j := 11) hT dX4_codes_5 (fg1 (f := 11) fX4 (by decide) q2232 rfl) rfl ?_
  refine r_iload_n dX4_codes_8 rfl rfl iI ?_
  refine t_iast hT hG dX4_codes_9 tA9 (by decide) h (fun w3 G h hT hG => ?_)
  refine r_aload_n dX4_codes_10 rfl rfl iR ?_
  refine r_dup dX4_codes_11 c1R ?_
  refine t_getI (j := 11) hT dX4_codes_12 (fg1 (f := 11) fX4 (by decide) q2232 rfl) rfl ?_
  refine r_iconst dX4_codes_15 ?_
  refine r_iadd dX4_codes_16 ?_
  refine t_put (j := 11) hT hG dX4_codes_17 (fp1 (f := 11) fX4 (by decide) q2232 rfl rfl rfl) tF11 (by decide) h (fun w4 G h hT hG => ?_)
  exact r_vret rfl dX4_codes_20 ⟨_, hT, hG, rfl, h⟩
theorem c_X4_codes {t : Nat} {ad : Nat → Nat} {G0 : Wd} {a1 : Int} {Q : Tw → Prop} {w : Tw} {G : Wd} (h : f_X4_codes a1 w Q) (hT : TwAt t ad w (G 2)) (hG : ∀ r, r ≠ 2 → G r = G0 r) : call yX4_codes (Cond.code yX4_codes cX4_codes 2 (none)) 1 0 0 [vR (some t), vI a1] G (twQ t ad G0 (uV Q)) noX :=
  call.enter (by decide +kernel) (la_1 c1R (la_1 c1I (la_nil rfl))) rfl (w_X4_codes  h hT hG)
abbrev m_X4_isDigit : Mt := (yX4_isDigit.cls, cX4_isDigit, 1, some .boolean, [], yX4_isDigit.name)
theorem yo_X4_isDigit : yOK yX4_isDigit 0 := ⟨by decide +kernel, by decide +kernel, by decide +kernel⟩
def f_X4_isDigit_37 (w : Tw) (Q : Bool → Tw → Prop) : Prop :=
  Q false w
theorem w_X4_isDigit_37 {t : Nat} {ad : Nat → Nat} {G0 : Wd} {Q : Bool → Tw → Prop} {w : Tw} {G : Wd} (h : f_X4_isDigit_37 w Q) (hT : TwAt t ad w (G 2)) (hG : ∀ r, r ≠ 2 → G r = G0 r) : wp m_X4_isDigit 2 0 0 37 [none] [] G (twQ t ad G0 (uB Q)) noX := by
  unfold f_X4_isDigit_37 at h
  refine r_iconst dX4_isDigit_37 ?_
  refine wp.cast (st' := [vB false]) rfl (congrArg (fun q => [q]) vI0) ?_
  exact r_zret rfl dX4_isDigit_38 ⟨_, hT, hG, _, rfl, h⟩
def f_X4_isDigit (w : Tw) (Q : Bool → Tw → Prop) : Prop :=
  br (w 5 0) (w 6 0) ((w 6 0) ≤ (w 5 0)) (f_X4_isDigit_37 w Q) (rdA w 3 80 (w 5 0) (fun _ => ok32 (w 3 (w 5 0)) (f_X4_in (w 3 (w 5 0)) 48 57 w (fun x4 w3 => brB x4 (Q true w3) (f_X4_isDigit_37 w3 Q)))))
theorem w_X4_isDigit {t : Nat} {ad : Nat → Nat} {G0 : Wd} {Q : Bool → Tw → Prop} {w : Tw} {G : Wd} (h : f_X4_isDigit w Q) (hT : TwAt t ad w (G 2)) (hG : ∀ r, r ≠ 2 → G r = G0 r) : wp m_X4_isDigit 2 0 0 0 [some (vR (some t))] [] G (twQ t ad G0 (uB Q)) noX := by
  unfold f_X4_isDigit at h
  refine r_aload_n dX4_isDigit_0 rfl rfl iR ?_
  refine t_getI (j := 5) hT dX4_isDigit_1 (fg1 (f := 5) fX4 (by decide) q2226 rfl) rfl ?_
  refine r_aload_n dX4_isDigit_4 rfl rfl iR ?_
  refine t_getI (j := 6) hT dX4_isDigit_5 (fg1 (f := 6) fX4 (by decide) q2227 rfl) rfl ?_
  refine r_icmp_ge (tgt := 37) dX4_isDigit_8 (by decide) h (fun h => ?_) (fun h => ?_)
  · refine wp.locals (L' := [none]) (ls_n ls_0) ?_
    exact w_X4_isDigit_37 h hT hG
  · refine r_aload_n dX4_isDigit_11 rfl rfl iR ?_
    refine t_getA (j := 3) hT dX4_isDigit_12 (fg1 (f := 3) fX4 (by decide) q2224 rfl) rfl ?_
    refine r_aload_n dX4_isDigit_15 rfl rfl iR ?_
    refine t_getI (j := 5) hT dX4_isDigit_16 (fg1 (f := 5) fX4 (by decide) q2226 rfl) rfl ?_
    refine t_iald hT dX4_isDigit_19 tA3 (by decide) h (fun h => ?_)
    refine r_i2l dX4_isDigit_20 h (fun h => ?_)
    refine r_ldc2 (x := 48) dX4_isDigit_21 q2173 (by decide) ?_
    refine r_ldc2 (x := 57) dX4_isDigit_24 q2174 (by decide) ?_
    refine r_callS dX4_isDigit_27 (c_X4_in h hT hG) q2133 q2134 q117 q2135 yo_X4_in rfl (by decide) (by decide) rfl rc0 (by decide) (Nat.le_refl _) (Nat.le_refl _) (tofB fun x4 w3 G h hT hG => ?_) nox
    refine r_ifZ_eq (tgt := 37) dX4_isDigit_30 (by decide) h (fun h => ?_) (fun h => ?_)
    · refine wp.locals (L' := [none]) (ls_n ls_0) ?_
      exact w_X4_isDigit_37 h hT hG
    · refine r_iconst dX4_isDigit_33 ?_
      refine r_goto (tgt := 38) dX4_isDigit_34 (by decide) ?_
      refine wp.cast (st' := [vB true]) rfl (congrArg (fun q => [q]) vI1) ?_
      exact r_zret rfl dX4_isDigit_38 ⟨_, hT, hG, _, rfl, h⟩
theorem c_X4_isDigit {t : Nat} {ad : Nat → Nat} {G0 : Wd} {Q : Bool → Tw → Prop} {w : Tw} {G : Wd} (h : f_X4_isDigit w Q) (hT : TwAt t ad w (G 2)) (hG : ∀ r, r ≠ 2 → G r = G0 r) : call yX4_isDigit (Cond.code yX4_isDigit cX4_isDigit 1 (some .boolean)) 2 0 0 [vR (some t)] G (twQ t ad G0 (uB Q)) noX :=
  call.enter (by decide +kernel) (la_1 c1R (la_nil rfl)) rfl (w_X4_isDigit  h hT hG)
abbrev m_X4_number : Mt := (yX4_number.cls, cX4_number, 4, some .int, [], yX4_number.name)
theorem yo_X4_number : yOK yX4_number 1 := ⟨by decide +kernel, by decide +kernel, by decide +kernel⟩
def f_X4_number_13_b (k13 : Int → Int → Int → Tw → Prop) (l1 : Int) (l2 : Int) (l3 : Int) (w : Tw) (Q : Int → Tw → Prop) : Prop :=
  br l3 l1 (l1 ≤ l3) (Q l2 w) (f_X4_isDigit  w (fun x10 w9 => brB x10 (rdA w9 3 80 (w9 5 0) (fun _ => tS w9 5 0 ((w9 5 0) + 1) (fun w11 => k13 l1 (((10 * l2) + (w9 3 (w9 5 0))) - 48) (l3 + 1) w11))) (Q l2 w9)))
theorem w_X4_number_13_b {t : Nat} {ad : Nat → Nat} {G0 : Wd} {Q : Int → Tw → Prop} {k13 : Int → Int → Int → Tw → Prop} (hk13 : ∀ {l1 : Int} {l2 : Int} {l3 : Int} {w : Tw} {G : Wd}, k13 l1 l2 l3 w → TwAt t ad w (G 2) → (∀ r, r ≠ 2 → G r = G0 r) → wp m_X4_number 3 0 0 13 [some (vR (some t)), some (vI l1), some (vI l2), some (vI l3)] [] G (twQ t ad G0 (uI Q)) noX) {l1 : Int} {l2 : Int} {l3 : Int} {w : Tw} {G : Wd} (h : f_X4_number_13_b k13 l1 l2 l3 w Q) (hT : TwAt t ad w (G 2)) (hG : ∀ r, r ≠ 2 → G r = G0 r) : wp m_X4_number 3 0 0 13 [some (vR (some t)), some (vI l1), some (vI l2), some (vI l3)] [] G (twQ t ad G0 (uI Q)) noX := by
  unfold f_X4_number_13_b at h
  refine r_iload_n dX4_number_13 rfl rfl iI ?_
  refine r_iload_n dX4_number_14 rfl rfl iI ?_
  refine r_icmp_ge (tgt := 59) dX4_number_15 (by decide) h (fun h => ?_) (fun h => ?_)
  · refine r_iload_n dX4_number_59 rfl rfl iI ?_
    exact r_iret rfl dX4_number_60 ⟨_, hT, hG, _, rfl, h⟩
  · refine r_aload_n dX4_number_18 rfl rfl iR ?_
    refine r_callV dX4_number_19 (tisC hT) (c_X4_isDigit h hT hG) q2169 q2171 qs46 q117 q2172 rfl yo_X4_isDigit rfl (by decide) (by decide) rfl rc0 (by decide) (Nat.le_refl _) (Nat.le_refl _) (tofB fun x10 w9 G h hT hG => ?_) nox
    refine r_ifZ_eq (tgt := 59) dX4_number_22 (by decide) h (fun h => ?_) (fun h => ?_)
    · refine r_iload_n dX4_number_59 rfl rfl iI ?_
      exact r_iret rfl dX4_number_60 ⟨_, hT, hG, _, rfl, h⟩
    · refine r_bipush dX4_number_25 (by decide) ?_
      refine r_iload_n dX4_number_27 rfl rfl iI ?_
      refine r_imul dX4_number_28 ?_
      refine r_aload_n dX4_number_29 rfl rfl iR ?_
      refine t_getA (j := 3) hT dX4_number_30 (fg1 (f := 3) fX4 (by decide) q2224 rfl) rfl ?_
      refine r_aload_n dX4_number_33 rfl rfl iR ?_
      refine t_getI (j := 5) hT dX4_number_34 (fg1 (f := 5) fX4 (by decide) q2226 rfl) rfl ?_
      refine t_iald hT dX4_number_37 tA3 (by decide) h (fun h => ?_)
      refine r_iadd dX4_number_38 ?_
      refine r_bipush dX4_number_39 (by decide) ?_
      refine r_isub dX4_number_41 ?_
      refine r_istore_n (L' := [some (vR (some t)), some (vI l1), some (vI (((10 * l2) + (w9 3 (w9 5 0))) - 48)), some (vI l3)]) dX4_number_42 rfl rfl iI cI (by decide) ?_
      refine r_aload_n dX4_number_43 rfl rfl iR ?_
      refine r_dup dX4_number_44 c1R ?_
      refine t_getI (j := 5) hT dX4_number_45 (fg1 (f := 5) fX4 (by decide) q2226 rfl) rfl ?_
      refine r_iconst dX4_number_48 ?_
      refine r_iadd dX4_number_49 ?_
      refine t_put (j := 5) hT hG dX4_number_50 (fp1 (f := 5) fX4 (by decide) q2226 rfl rfl rfl) tF5 (by decide) h (fun w11 G h hT hG => ?_)
      refine r_iinc (L' := [some (vR (some t)), some (vI l1), some (vI (((10 * l2) + (w9 3 (w9 5 0))) - 48)), some (vI (l3 + 1))]) dX4_number_53 rfl rfl cI (by decide) ?_
      refine r_goto (tgt := 13) dX4_number_56 (by decide) ?_
      exact hk13 h hT hG
def f_X4_number_13 (Q : Int → Tw → Prop) : Nat → Int → Int → Int → Tw → Prop
  | 0, _, _, _, _ => False
  | fl + 1, l1, l2, l3, w => f_X4_number_13_b    (fun l1 l2 l3 w => f_X4_number_13    Q fl l1 l2 l3 w) l1 l2 l3 w Q
theorem w_X4_number_13 {t : Nat} {ad : Nat → Nat} {G0 : Wd} {Q : Int → Tw → Prop} : ∀ (fl : Nat) {l1 : Int} {l2 : Int} {l3 : Int} {w : Tw} {G : Wd}, f_X4_number_13 Q fl l1 l2 l3 w → TwAt t ad w (G 2) → (∀ r, r ≠ 2 → G r = G0 r) → wp m_X4_number 3 0 0 13 [some (vR (some t)), some (vI l1), some (vI l2), some (vI l3)] [] G (twQ t ad G0 (uI Q)) noX := by
  intro fl
  induction fl with
  | zero => intro l1 l2 l3 w G h; exact (show False from h).elim
  | succ fl ih => intro l1 l2 l3 w G h hT hG; exact w_X4_number_13_b   (fun h hT hG => ih h hT hG) h hT hG
def f_X4_number (a1 : Int) (w : Tw) (Q : Int → Tw → Prop) : Prop :=
  f_X4_isDigit  w (fun x13 w12 => brB x13 (∃ fl14, f_X4_number_13 Q fl14 a1 0 0 w12) (Q (-1) w12))
theorem w_X4_number {t : Nat} {ad : Nat → Nat} {G0 : Wd} {Q : Int → Tw → Prop} {a1 : Int} {w : Tw} {G : Wd} (h : f_X4_number a1 w Q) (hT : TwAt t ad w (G 2)) (hG : ∀ r, r ≠ 2 → G r = G0 r) : wp m_X4_number 3 0 0 0 [some (vR (some t)), some (vI a1), none, none] [] G (twQ t ad G0 (uI Q)) noX := by
  unfold f_X4_number at h
  refine r_aload_n dX4_number_0 rfl rfl iR ?_
  refine r_callV dX4_number_1 (tisC hT) (c_X4_isDigit h hT hG) q2169 q2171 qs46 q117 q2172 rfl yo_X4_isDigit rfl (by decide) (by decide) rfl rc0 (by decide) (Nat.le_refl _) (Nat.le_refl _) (tofB fun x13 w12 G h hT hG => ?_) nox
  refine r_ifZ_ne (tgt := 9) dX4_number_4 (by decide) h (fun h => ?_) (fun h => ?_)
  · refine r_iconst dX4_number_9 ?_
    refine r_istore_n (L' := [some (vR (some t)), some (vI a1), some (vI 0), none]) dX4_number_10 rfl rfl iI cI (by decide) ?_
    refine r_iconst dX4_number_11 ?_
    refine r_istore_n (L' := [some (vR (some t)), some (vI a1), some (vI 0), some (vI 0)]) dX4_number_12 rfl rfl iI cI (by decide) ?_
    obtain ⟨fl14, h⟩ := h
    exact w_X4_number_13 fl14 h hT hG
  · refine r_iconst dX4_number_7 ?_
    exact r_iret rfl dX4_number_8 ⟨_, hT, hG, _, rfl, h⟩
theorem c_X4_number {t : Nat} {ad : Nat → Nat} {G0 : Wd} {a1 : Int} {Q : Int → Tw → Prop} {w : Tw} {G : Wd} (h : f_X4_number a1 w Q) (hT : TwAt t ad w (G 2)) (hG : ∀ r, r ≠ 2 → G r = G0 r) : call yX4_number (Cond.code yX4_number cX4_number 4 (some .int)) 3 0 0 [vR (some t), vI a1] G (twQ t ad G0 (uI Q)) noX :=
  call.enter (by decide +kernel) (la_1 c1R (la_1 c1I (la_nil rfl))) rfl (w_X4_number  h hT hG)
abbrev m_X4_takesOf : Mt := (yX4_takesOf.cls, cX4_takesOf, 3, some .int, [], yX4_takesOf.name)
theorem yo_X4_takesOf : yOK yX4_takesOf 1 := ⟨by decide +kernel, by decide +kernel, by decide +kernel⟩
def f_X4_takesOf_2_b (k2 : List Int → Int → Tw → Prop) (l1 : List Int) (l2 : Int) (w : Tw) (Q : Int → Tw → Prop) : Prop :=
  br l2 (l1.length : Int) ((l1.length : Int) ≤ l2) (Q (-1) w) (br (w 5 0) (w 6 0) ((w 6 0) ≤ (w 5 0)) (Q (-1) w) (chA l1 l2 (fun x5 => rdA w 3 80 (w 5 0) (fun _ => br x5 (w 3 (w 5 0)) (¬ x5 = (w 3 (w 5 0))) (k2 l1 (l2 + 1) w) (tS w 5 0 ((w 5 0) + 1) (fun w6 => Q l2 w6))))))
theorem w_X4_takesOf_2_b {t : Nat} {ad : Nat → Nat} {G0 : Wd} {Q : Int → Tw → Prop} {k2 : List Int → Int → Tw → Prop} (hk2 : ∀ {l1 : List Int} {l1_a : Nat} {l2 : Int} {w : Tw} {G : Wd}, k2 l1 l2 w → stA G0 l1_a l1 → TwAt t ad w (G 2) → (∀ r, r ≠ 2 → G r = G0 r) → wp m_X4_takesOf 8 0 0 2 [some (vR (some t)), some (vR (some l1_a)), some (vI l2)] [] G (twQ t ad G0 (uI Q)) noX) {l1 : List Int} {l2 : Int} {l1_a : Nat} {w : Tw} {G : Wd} (h : f_X4_takesOf_2_b k2 l1 l2 w Q) (hS_l1_a : stA G0 l1_a l1) (hT : TwAt t ad w (G 2)) (hG : ∀ r, r ≠ 2 → G r = G0 r) : wp m_X4_takesOf 8 0 0 2 [some (vR (some t)), some (vR (some l1_a)), some (vI l2)] [] G (twQ t ad G0 (uI Q)) noX := by
  unfold f_X4_takesOf_2_b at h
  refine r_iload_n dX4_takesOf_2 rfl rfl iI ?_
  refine r_aload_n dX4_takesOf_3 rfl rfl iR ?_
  refine t_slen hG hS_l1_a dX4_takesOf_4 q2184 (rc1 c1I rc0) (by decide) (by decide) ?_
  refine r_icmp_ge (tgt := 56) dX4_takesOf_7 (by decide) h (fun h => ?_) (fun h => ?_)
  · refine r_iconst dX4_takesOf_56 ?_
    exact r_iret rfl dX4_takesOf_57 ⟨_, hT, hG, _, rfl, h⟩
  · refine r_aload_n dX4_takesOf_10 rfl rfl iR ?_
    refine t_getI (j := 5) hT dX4_takesOf_11 (fg1 (f := 5) fX4 (by decide) q2226 rfl) rfl ?_
    refine r_aload_n dX4_takesOf_14 rfl rfl iR ?_
    refine t_getI (j := 6) hT dX4_takesOf_15 (fg1 (f := 6) fX4 (by decide) q2227 rfl) rfl ?_
    refine r_icmp_ge (tgt := 56) dX4_takesOf_18 (by decide) h (fun h => ?_) (fun h => ?_)
    · refine r_iconst dX4_takesOf_56 ?_
      exact r_iret rfl dX4_takesOf_57 ⟨_, hT, hG, _, rfl, h⟩
    · refine r_aload_n dX4_takesOf_21 rfl rfl iR ?_
      refine r_iload_n dX4_takesOf_22 rfl rfl iI ?_
      refine t_schar hG hS_l1_a dX4_takesOf_23 q2185 rc0 (by decide) (by decide) h (fun x5 h => ?_)
      refine r_aload_n dX4_takesOf_26 rfl rfl iR ?_
      refine t_getA (j := 3) hT dX4_takesOf_27 (fg1 (f := 3) fX4 (by decide) q2224 rfl) rfl ?_
      refine r_aload_n dX4_takesOf_30 rfl rfl iR ?_
      refine t_getI (j := 5) hT dX4_takesOf_31 (fg1 (f := 5) fX4 (by decide) q2226 rfl) rfl ?_
      refine t_iald hT dX4_takesOf_34 tA3 (by decide) h (fun h => ?_)
      refine r_icmp_ne (tgt := 50) dX4_takesOf_35 (by decide) h (fun h => ?_) (fun h => ?_)
      · refine r_iinc (L' := [some (vR (some t)), some (vR (some l1_a)), some (vI (l2 + 1))]) dX4_takesOf_50 rfl rfl cR (by decide) ?_
        refine r_goto (tgt := 2) dX4_takesOf_53 (by decide) ?_
        exact hk2 h hS_l1_a hT hG
      · refine r_aload_n dX4_takesOf_38 rfl rfl iR ?_
        refine r_dup dX4_takesOf_39 c1R ?_
        refine t_getI (j := 5) hT dX4_takesOf_40 (fg1 (f := 5) fX4 (by decide) q2226 rfl) rfl ?_
        refine r_iconst dX4_takesOf_43 ?_
        refine r_iadd dX4_takesOf_44 ?_
        refine t_put (j := 5) hT hG dX4_takesOf_45 (fp1 (f := 5) fX4 (by decide) q2226 rfl rfl rfl) tF5 (by decide) h (fun w6 G h hT hG => ?_)
        refine r_iload_n dX4_takesOf_48 rfl rfl iI ?_
        exact r_iret rfl dX4_takesOf_49 ⟨_, hT, hG, _, rfl, h⟩
def f_X4_takesOf_2 (Q : Int → Tw → Prop) : Nat → List Int → Int → Tw → Prop
  | 0, _, _, _ => False
  | fl + 1, l1, l2, w => f_X4_takesOf_2_b    (fun l1 l2 w => f_X4_takesOf_2    Q fl l1 l2 w) l1 l2 w Q
theorem w_X4_takesOf_2 {t : Nat} {ad : Nat → Nat} {G0 : Wd} {Q : Int → Tw → Prop} : ∀ (fl : Nat) {l1 : List Int} {l2 : Int} {l1_a : Nat} {w : Tw} {G : Wd}, f_X4_takesOf_2 Q fl l1 l2 w → stA G0 l1_a l1 → TwAt t ad w (G 2) → (∀ r, r ≠ 2 → G r = G0 r) → wp m_X4_takesOf 8 0 0 2 [some (vR (some t)), some (vR (some l1_a)), some (vI l2)] [] G (twQ t ad G0 (uI Q)) noX := by
  intro fl
  induction fl with
  | zero => intro l1 l2 l1_a w G h; exact (show False from h).elim
  | succ fl ih => intro l1 l2 l1_a w G h hS_l1_a hT hG; exact w_X4_takesOf_2_b   (fun h hS_l1_a hT hG => ih h hS_l1_a hT hG) h hS_l1_a hT hG
def f_X4_takesOf (a1 : List Int) (w : Tw) (Q : Int → Tw → Prop) : Prop :=
  ∃ fl7, f_X4_takesOf_2 Q fl7 a1 0 w
theorem w_X4_takesOf {t : Nat} {ad : Nat → Nat} {G0 : Wd} {Q : Int → Tw → Prop} {a1 : List Int} {a1_a : Nat} {w : Tw} {G : Wd} (h : f_X4_takesOf a1 w Q) (hS_a1_a : stA G0 a1_a a1) (hT : TwAt t ad w (G 2)) (hG : ∀ r, r ≠ 2 → G r = G0 r) : wp m_X4_takesOf 8 0 0 0 [some (vR (some t)), some (vR (some a1_a)), none] [] G (twQ t ad G0 (uI Q)) noX := by
  unfold f_X4_takesOf at h
  refine r_iconst dX4_takesOf_0 ?_
  refine r_istore_n (L' := [some (vR (some t)), some (vR (some a1_a)), some (vI 0)]) dX4_takesOf_1 rfl rfl iI cR (by decide) ?_
  obtain ⟨fl7, h⟩ := h
  exact w_X4_takesOf_2 fl7 h hS_a1_a hT hG
theorem c_X4_takesOf {t : Nat} {ad : Nat → Nat} {G0 : Wd} {a1 : List Int} {a1_a : Nat} {Q : Int → Tw → Prop} {w : Tw} {G : Wd} (h : f_X4_takesOf a1 w Q) (hS_a1_a : stA G0 a1_a a1) (hT : TwAt t ad w (G 2)) (hG : ∀ r, r ≠ 2 → G r = G0 r) : call yX4_takesOf (Cond.code yX4_takesOf cX4_takesOf 3 (some .int)) 8 0 0 [vR (some t), vR (some a1_a)] G (twQ t ad G0 (uI Q)) noX :=
  call.enter (by decide +kernel) (la_1 c1R (la_1 c1R (la_nil rfl))) rfl (w_X4_takesOf  h hS_a1_a hT hG)
abbrev m_X4_faultOf : Mt := (yX4_faultOf.cls, cX4_faultOf, 5, some .int, [], yX4_faultOf.name)
theorem yo_X4_faultOf : yOK yX4_faultOf 3 := ⟨by decide +kernel, by decide +kernel, by decide +kernel⟩
def f_X4_faultOf_44 (l4 : Bool) (w : Tw) (Q : Int → Tw → Prop) : Prop :=
  brB l4 (Q 0 w) (Q ((-1) - (w 5 0)) w)
theorem w_X4_faultOf_44 {t : Nat} {ad : Nat → Nat} {G0 : Wd} {Q : Int → Tw → Prop} {l4 : Bool} {w : Tw} {G : Wd} (h : f_X4_faultOf_44 l4 w Q) (hT : TwAt t ad w (G 2)) (hG : ∀ r, r ≠ 2 → G r = G0 r) : wp m_X4_faultOf 1 0 0 44 [some (vR (some t)), none, none, none, some (vB l4)] [] G (twQ t ad G0 (uI Q)) noX := by
  unfold f_X4_faultOf_44 at h
  refine r_iload dX4_faultOf_44 rfl iB ?_
  refine r_ifZ_eq (tgt := 53) dX4_faultOf_46 (by decide) h (fun h => ?_) (fun h => ?_)
  · refine r_iconst dX4_faultOf_53 ?_
    refine r_aload_n dX4_faultOf_54 rfl rfl iR ?_
    refine t_getI (j := 5) hT dX4_faultOf_55 (fg1 (f := 5) fX4 (by decide) q2226 rfl) rfl ?_
    refine r_isub dX4_faultOf_58 ?_
    exact r_iret rfl dX4_faultOf_59 ⟨_, hT, hG, _, rfl, h⟩
  · refine r_iconst dX4_faultOf_49 ?_
    refine r_goto (tgt := 59) dX4_faultOf_50 (by decide) ?_
    exact r_iret rfl dX4_faultOf_59 ⟨_, hT, hG, _, rfl, h⟩
def f_X4_faultOf_20 (l1 : Int) (l2 : Int) (s0 : Bool) (w : Tw) (Q : Int → Tw → Prop) : Prop :=
  br l1 l2 (l1 ≤ l2) (f_X4_faultOf_44 s0 w Q) (brB s0 (Q ((-1) - l2) w) (br (w 5 0) l2 ((w 5 0) < l2) (f_X4_faultOf_44 s0 w Q) (Q ((-1) - l2) w)))
theorem w_X4_faultOf_20 {t : Nat} {ad : Nat → Nat} {G0 : Wd} {Q : Int → Tw → Prop} {l1 : Int} {l2 : Int} {s0 : Bool} {w : Tw} {G : Wd} (h : f_X4_faultOf_20 l1 l2 s0 w Q) (hT : TwAt t ad w (G 2)) (hG : ∀ r, r ≠ 2 → G r = G0 r) : wp m_X4_faultOf 1 0 0 20 [some (vR (some t)), some (vI l1), some (vI l2), none, none] [vB s0] G (twQ t ad G0 (uI Q)) noX := by
  unfold f_X4_faultOf_20 at h
  refine r_istore (L' := [some (vR (some t)), some (vI l1), some (vI l2), none, some (vB s0)]) dX4_faultOf_20 rfl iB cN (by decide) ?_
  refine r_iload_n dX4_faultOf_22 rfl rfl iI ?_
  refine r_iload_n dX4_faultOf_23 rfl rfl iI ?_
  refine r_icmp_le (tgt := 44) dX4_faultOf_24 (by decide) h (fun h => ?_) (fun h => ?_)
  · refine wp.locals (L' := [some (vR (some t)), none, none, none, some (vB s0)]) (ls_s (ls_n (ls_n (ls_n (ls_s ls_0))))) ?_
    exact w_X4_faultOf_44 h hT hG
  · refine r_iload dX4_faultOf_27 rfl iB ?_
    refine r_ifZ_ne (tgt := 40) dX4_faultOf_29 (by decide) h (fun h => ?_) (fun h => ?_)
    · refine r_iconst dX4_faultOf_40 ?_
      refine r_iload_n dX4_faultOf_41 rfl rfl iI ?_
      refine r_isub dX4_faultOf_42 ?_
      exact r_iret rfl dX4_faultOf_43 ⟨_, hT, hG, _, rfl, h⟩
    · refine r_aload_n dX4_faultOf_32 rfl rfl iR ?_
      refine t_getI (j := 5) hT dX4_faultOf_33 (fg1 (f := 5) fX4 (by decide) q2226 rfl) rfl ?_
      refine r_iload_n dX4_faultOf_36 rfl rfl iI ?_
      refine r_icmp_lt (tgt := 44) dX4_faultOf_37 (by decide) h (fun h => ?_) (fun h => ?_)
      · refine wp.locals (L' := [some (vR (some t)), none, none, none, some (vB s0)]) (ls_s (ls_n (ls_n (ls_n (ls_s ls_0))))) ?_
        exact w_X4_faultOf_44 h hT hG
      · refine r_iconst dX4_faultOf_40 ?_
        refine r_iload_n dX4_faultOf_41 rfl rfl iI ?_
        refine r_isub dX4_faultOf_42 ?_
        exact r_iret rfl dX4_faultOf_43 ⟨_, hT, hG, _, rfl, h⟩
def f_X4_faultOf_19 (l1 : Int) (l2 : Int) (w : Tw) (Q : Int → Tw → Prop) : Prop :=
  f_X4_faultOf_20 l1 l2 false w Q
theorem w_X4_faultOf_19 {t : Nat} {ad : Nat → Nat} {G0 : Wd} {Q : Int → Tw → Prop} {l1 : Int} {l2 : Int} {w : Tw} {G : Wd} (h : f_X4_faultOf_19 l1 l2 w Q) (hT : TwAt t ad w (G 2)) (hG : ∀ r, r ≠ 2 → G r = G0 r) : wp m_X4_faultOf 1 0 0 19 [some (vR (some t)), some (vI l1), some (vI l2), none, none] [] G (twQ t ad G0 (uI Q)) noX := by
  unfold f_X4_faultOf_19 at h
  refine r_iconst dX4_faultOf_19 ?_
  refine wp.cast (st' := [vB false]) rfl (congrArg (fun q => [q]) vI0) ?_
  exact w_X4_faultOf_20 h hT hG
def f_X4_faultOf (a1 : Int) (a2 : Int) (a3 : Bool) (w : Tw) (Q : Int → Tw → Prop) : Prop :=
  brB a3 (br (w 5 0) (w 6 0) (¬ (w 5 0) = (w 6 0)) (f_X4_faultOf_19 a1 a2 w Q) (f_X4_faultOf_20 a1 a2 true w Q)) (f_X4_faultOf_19 a1 a2 w Q)
theorem w_X4_faultOf {t : Nat} {ad : Nat → Nat} {G0 : Wd} {Q : Int → Tw → Prop} {a1 : Int} {a2 : Int} {a3 : Bool} {w : Tw} {G : Wd} (h : f_X4_faultOf a1 a2 a3 w Q) (hT : TwAt t ad w (G 2)) (hG : ∀ r, r ≠ 2 → G r = G0 r) : wp m_X4_faultOf 1 0 0 0 [some (vR (some t)), some (vI a1), some (vI a2), some (vB a3), none] [] G (twQ t ad G0 (uI Q)) noX := by
  unfold f_X4_faultOf at h
  refine r_iload_n dX4_faultOf_0 rfl rfl iB ?_
  refine r_ifZ_eq (tgt := 19) dX4_faultOf_1 (by decide) h (fun h => ?_) (fun h => ?_)
  · refine wp.locals (L' := [some (vR (some t)), some (vI a1), some (vI a2), none, none]) (ls_s (ls_s (ls_s (ls_n (ls_n ls_0))))) ?_
    exact w_X4_faultOf_19 h hT hG
  · refine r_aload_n dX4_faultOf_4 rfl rfl iR ?_
    refine t_getI (j := 5) hT dX4_faultOf_5 (fg1 (f := 5) fX4 (by decide) q2226 rfl) rfl ?_
    refine r_aload_n dX4_faultOf_8 rfl rfl iR ?_
    refine t_getI (j := 6) hT dX4_faultOf_9 (fg1 (f := 6) fX4 (by decide) q2227 rfl) rfl ?_
    refine r_icmp_ne (tgt := 19) dX4_faultOf_12 (by decide) h (fun h => ?_) (fun h => ?_)
    · refine wp.locals (L' := [some (vR (some t)), some (vI a1), some (vI a2), none, none]) (ls_s (ls_s (ls_s (ls_n (ls_n ls_0))))) ?_
      exact w_X4_faultOf_19 h hT hG
    · refine r_iconst dX4_faultOf_15 ?_
      refine r_goto (tgt := 20) dX4_faultOf_16 (by decide) ?_
      refine wp.cast (st' := [vB true]) rfl (congrArg (fun q => [q]) vI1) ?_
      refine wp.locals (L' := [some (vR (some t)), some (vI a1), some (vI a2), none, none]) (ls_s (ls_s (ls_s (ls_n (ls_n ls_0))))) ?_
      exact w_X4_faultOf_20 h hT hG
theorem c_X4_faultOf {t : Nat} {ad : Nat → Nat} {G0 : Wd} {a1 : Int} {a2 : Int} {a3 : Bool} {Q : Int → Tw → Prop} {w : Tw} {G : Wd} (h : f_X4_faultOf a1 a2 a3 w Q) (hT : TwAt t ad w (G 2)) (hG : ∀ r, r ≠ 2 → G r = G0 r) : call yX4_faultOf (Cond.code yX4_faultOf cX4_faultOf 5 (some .int)) 1 0 0 [vR (some t), vI a1, vI a2, vB a3] G (twQ t ad G0 (uI Q)) noX :=
  call.enter (by decide +kernel) (la_1 c1R (la_1 c1I (la_1 c1I (la_1 c1B (la_nil rfl))))) rfl (w_X4_faultOf  h hT hG)
abbrev m_X4_laysCode : Mt := (yX4_laysCode.cls, cX4_laysCode, 4, none, [], yX4_laysCode.name)
theorem yo_X4_laysCode : yOK yX4_laysCode 2 := ⟨by decide +kernel, by decide +kernel, by decide +kernel⟩
def f_X4_laysCode_7_b (a1 : Nat) (k7 : Int → Int → Tw → Prop) (l2 : Int) (l3 : Int) (w : Tw) (Q : Tw → Prop) : Prop :=
  br l3 l2 (l2 ≤ l3) (Q w) (rdA w a1 80 l3 (fun _ => wrA w 8 80 l3 (w a1 l3) (fun w4 => k7 l2 (l3 + 1) w4)))
theorem w_X4_laysCode_7_b {t : Nat} {ad : Nat → Nat} {G0 : Wd} {a1 : Nat} (hA_a1 : (a1, 0, 80) ∈ twA) {Q : Tw → Prop} {k7 : Int → Int → Tw → Prop} (hk7 : ∀ {l2 : Int} {l3 : Int} {w : Tw} {G : Wd}, k7 l2 l3 w → TwAt t ad w (G 2) → (∀ r, r ≠ 2 → G r = G0 r) → wp m_X4_laysCode 1 0 0 7 [some (vR (some t)), some (vR (some (ad a1))), some (vI l2), some (vI l3)] [] G (twQ t ad G0 (uV Q)) noX) {l2 : Int} {l3 : Int} {w : Tw} {G : Wd} (h : f_X4_laysCode_7_b a1 k7 l2 l3 w Q) (hT : TwAt t ad w (G 2)) (hG : ∀ r, r ≠ 2 → G r = G0 r) : wp m_X4_laysCode 1 0 0 7 [some (vR (some t)), some (vR (some (ad a1))), some (vI l2), some (vI l3)] [] G (twQ t ad G0 (uV Q)) noX := by
  unfold f_X4_laysCode_7_b at h
  refine r_iload_n dX4_laysCode_7 rfl rfl iI ?_
  refine r_iload_n dX4_laysCode_8 rfl rfl iI ?_
  refine r_icmp_ge (tgt := 27) dX4_laysCode_9 (by decide) h (fun h => ?_) (fun h => ?_)
  · exact r_vret rfl dX4_laysCode_27 ⟨_, hT, hG, rfl, h⟩
  · refine r_aload_n dX4_laysCode_12 rfl rfl iR ?_
    refine t_getA (j := 8) hT dX4_laysCode_13 (fg1 (f := 8) fX4 (by decide) q2229 rfl) rfl ?_
    refine r_iload_n dX4_laysCode_16 rfl rfl iI ?_
    refine r_aload_n dX4_laysCode_17 rfl rfl iR ?_
    refine r_iload_n dX4_laysCode_18 rfl rfl iI ?_
    refine t_iald hT dX4_laysCode_19 hA_a1 (by decide) h (fun h => ?_)
    refine t_iast hT hG dX4_laysCode_20 tA8 (by decide) h (fun w4 G h hT hG => ?_)
    refine r_iinc (L' := [some (vR (some t)), some (vR (some (ad a1))), some (vI l2), some (vI (l3 + 1))]) dX4_laysCode_21 rfl rfl cI (by decide) ?_
    refine r_goto (tgt := 7) dX4_laysCode_24 (by decide) ?_
    exact hk7 h hT hG
def f_X4_laysCode_7 (a1 : Nat) (Q : Tw → Prop) : Nat → Int → Int → Tw → Prop
  | 0, _, _, _ => False
  | fl + 1, l2, l3, w => f_X4_laysCode_7_b  a1  (fun l2 l3 w => f_X4_laysCode_7  a1  Q fl l2 l3 w) l2 l3 w Q
theorem w_X4_laysCode_7 {t : Nat} {ad : Nat → Nat} {G0 : Wd} {a1 : Nat} (hA_a1 : (a1, 0, 80) ∈ twA) {Q : Tw → Prop} : ∀ (fl : Nat) {l2 : Int} {l3 : Int} {w : Tw} {G : Wd}, f_X4_laysCode_7 a1 Q fl l2 l3 w → TwAt t ad w (G 2) → (∀ r, r ≠ 2 → G r = G0 r) → wp m_X4_laysCode 1 0 0 7 [some (vR (some t)), some (vR (some (ad a1))), some (vI l2), some (vI l3)] [] G (twQ t ad G0 (uV Q)) noX := by
  intro fl
  induction fl with
  | zero => intro l2 l3 w G h; exact (show False from h).elim
  | succ fl ih => intro l2 l3 w G h hT hG; exact w_X4_laysCode_7_b hA_a1  (fun h hT hG => ih h hT hG) h hT hG
def f_X4_laysCode (a1 : Nat) (a2 : Int) (w : Tw) (Q : Tw → Prop) : Prop :=
  tS w 10 0 a2 (fun w5 => ∃ fl6, f_X4_laysCode_7 a1 Q fl6 a2 0 w5)
theorem w_X4_laysCode {t : Nat} {ad : Nat → Nat} {G0 : Wd} {a1 : Nat} (hA_a1 : (a1, 0, 80) ∈ twA) {Q : Tw → Prop} {a2 : Int} {w : Tw} {G : Wd} (h : f_X4_laysCode a1 a2 w Q) (hT : TwAt t ad w (G 2)) (hG : ∀ r, r ≠ 2 → G r = G0 r) : wp m_X4_laysCode 1 0 0 0 [some (vR (some t)), some (vR (some (ad a1))), some (vI a2), none] [] G (twQ t ad G0 (uV Q)) noX := by
  unfold f_X4_laysCode at h
  refine r_aload_n dX4_laysCode_0 rfl rfl iR ?_
  refine r_iload_n dX4_laysCode_1 rfl rfl iI ?_
  refine t_put (j := 10) hT hG dX4_laysCode_2 (fp1 (f := 10) fX4 (by decide) q2231 rfl rfl rfl) tF10 (by decide) h (fun w5 G h hT hG => ?_)
  refine r_iconst dX4_laysCode_5 ?_
  refine r_istore_n (L' := [some (vR (some t)), some (vR (some (ad a1))), some (vI a2), some (vI 0)]) dX4_laysCode_6 rfl rfl iI cI (by decide) ?_
  obtain ⟨fl6, h⟩ := h
  exact w_X4_laysCode_7 hA_a1 fl6 h hT hG
theorem c_X4_laysCode {t : Nat} {ad : Nat → Nat} {G0 : Wd} {a1 : Nat} {a2 : Int} (hA_a1 : (a1, 0, 80) ∈ twA) {Q : Tw → Prop} {w : Tw} {G : Wd} (h : f_X4_laysCode a1 a2 w Q) (hT : TwAt t ad w (G 2)) (hG : ∀ r, r ≠ 2 → G r = G0 r) : call yX4_laysCode (Cond.code yX4_laysCode cX4_laysCode 4 (none)) 1 0 0 [vR (some t), vR (some (ad a1)), vI a2] G (twQ t ad G0 (uV Q)) noX :=
  call.enter (by decide +kernel) (la_1 c1R (la_1 c1R (la_1 c1I (la_nil rfl)))) rfl (w_X4_laysCode hA_a1 h hT hG)
abbrev m_X4_digitIn : Mt := (yX4_digitIn.cls, cX4_digitIn, 3, some .int, [], yX4_digitIn.name)
theorem yo_X4_digitIn : yOK yX4_digitIn 2 := ⟨by decide +kernel, by decide +kernel, by decide +kernel⟩
def f_X4_digitIn (a1 : Int) (a2 : Int) (w : Tw) (Q : Int → Tw → Prop) : Prop :=
  br (w 5 0) (w 6 0) ((w 6 0) ≤ (w 5 0)) (Q (-1) w) (rdA w 3 80 (w 5 0) (fun _ => ok32 ((w 3 (w 5 0)) - 48) (ok32 a1 (ok32 a2 (f_X4_in ((w 3 (w 5 0)) - 48) a1 a2 w (fun x5 w4 => brB x5 (tS w4 5 0 ((w4 5 0) + 1) (fun w6 => rdA w6 3 80 ((w6 5 0) - 1) (fun _ => Q ((w6 3 ((w6 5 0) - 1)) - 48) w6))) (Q (-1) w4)))))))
theorem w_X4_digitIn {t : Nat} {ad : Nat → Nat} {G0 : Wd} {Q : Int → Tw → Prop} {a1 : Int} {a2 : Int} {w : Tw} {G : Wd} (h : f_X4_digitIn a1 a2 w Q) (hT : TwAt t ad w (G 2)) (hG : ∀ r, r ≠ 2 → G r = G0 r) : wp m_X4_digitIn 2 0 0 0 [some (vR (some t)), some (vI a1), some (vI a2)] [] G (twQ t ad G0 (uI Q)) noX := by
  unfold f_X4_digitIn at h
  refine r_aload_n dX4_digitIn_0 rfl rfl iR ?_
  refine t_getI (j := 5) hT dX4_digitIn_1 (fg1 (f := 5) fX4 (by decide) q2226 rfl) rfl ?_
  refine r_aload_n dX4_digitIn_4 rfl rfl iR ?_
  refine t_getI (j := 6) hT dX4_digitIn_5 (fg1 (f := 6) fX4 (by decide) q2227 rfl) rfl ?_
  refine r_icmp_ge (tgt := 34) dX4_digitIn_8 (by decide) h (fun h => ?_) (fun h => ?_)
  · refine r_iconst dX4_digitIn_34 ?_
    exact r_iret rfl dX4_digitIn_35 ⟨_, hT, hG, _, rfl, h⟩
  · refine r_aload_n dX4_digitIn_11 rfl rfl iR ?_
    refine t_getA (j := 3) hT dX4_digitIn_12 (fg1 (f := 3) fX4 (by decide) q2224 rfl) rfl ?_
    refine r_aload_n dX4_digitIn_15 rfl rfl iR ?_
    refine t_getI (j := 5) hT dX4_digitIn_16 (fg1 (f := 5) fX4 (by decide) q2226 rfl) rfl ?_
    refine t_iald hT dX4_digitIn_19 tA3 (by decide) h (fun h => ?_)
    refine r_bipush dX4_digitIn_20 (by decide) ?_
    refine r_isub dX4_digitIn_22 ?_
    refine r_i2l dX4_digitIn_23 h (fun h => ?_)
    refine r_iload_n dX4_digitIn_24 rfl rfl iI ?_
    refine r_i2l dX4_digitIn_25 h (fun h => ?_)
    refine r_iload_n dX4_digitIn_26 rfl rfl iI ?_
    refine r_i2l dX4_digitIn_27 h (fun h => ?_)
    refine r_callS dX4_digitIn_28 (c_X4_in h hT hG) q2133 q2134 q117 q2135 yo_X4_in rfl (by decide) (by decide) rfl rc0 (by decide) (Nat.le_refl _) (Nat.le_refl _) (tofB fun x5 w4 G h hT hG => ?_) nox
    refine r_ifZ_ne (tgt := 36) dX4_digitIn_31 (by decide) h (fun h => ?_) (fun h => ?_)
    · refine r_aload_n dX4_digitIn_36 rfl rfl iR ?_
      refine r_dup dX4_digitIn_37 c1R ?_
      refine t_getI (j := 5) hT dX4_digitIn_38 (fg1 (f := 5) fX4 (by decide) q2226 rfl) rfl ?_
      refine r_iconst dX4_digitIn_41 ?_
      refine r_iadd dX4_digitIn_42 ?_
      refine t_put (j := 5) hT hG dX4_digitIn_43 (fp1 (f := 5) fX4 (by decide) q2226 rfl rfl rfl) tF5 (by decide) h (fun w6 G h hT hG => ?_)
      refine r_aload_n dX4_digitIn_46 rfl rfl iR ?_
      refine t_getA (j := 3) hT dX4_digitIn_47 (fg1 (f := 3) fX4 (by decide) q2224 rfl) rfl ?_
      refine r_aload_n dX4_digitIn_50 rfl rfl iR ?_
      refine t_getI (j := 5) hT dX4_digitIn_51 (fg1 (f := 5) fX4 (by decide) q2226 rfl) rfl ?_
      refine r_iconst dX4_digitIn_54 ?_
      refine r_isub dX4_digitIn_55 ?_
      refine t_iald hT dX4_digitIn_56 tA3 (by decide) h (fun h => ?_)
      refine r_bipush dX4_digitIn_57 (by decide) ?_
      refine r_isub dX4_digitIn_59 ?_
      exact r_iret rfl dX4_digitIn_60 ⟨_, hT, hG, _, rfl, h⟩
    · refine r_iconst dX4_digitIn_34 ?_
      exact r_iret rfl dX4_digitIn_35 ⟨_, hT, hG, _, rfl, h⟩
theorem c_X4_digitIn {t : Nat} {ad : Nat → Nat} {G0 : Wd} {a1 : Int} {a2 : Int} {Q : Int → Tw → Prop} {w : Tw} {G : Wd} (h : f_X4_digitIn a1 a2 w Q) (hT : TwAt t ad w (G 2)) (hG : ∀ r, r ≠ 2 → G r = G0 r) : call yX4_digitIn (Cond.code yX4_digitIn cX4_digitIn 3 (some .int)) 2 0 0 [vR (some t), vI a1, vI a2] G (twQ t ad G0 (uI Q)) noX :=
  call.enter (by decide +kernel) (la_1 c1R (la_1 c1I (la_1 c1I (la_nil rfl)))) rfl (w_X4_digitIn  h hT hG)
abbrev m_X4_isQueue : Mt := (yX4_isQueue.cls, cX4_isQueue, 2, some .boolean, [], yX4_isQueue.name)
theorem yo_X4_isQueue : yOK yX4_isQueue 1 := ⟨by decide +kernel, by decide +kernel, by decide +kernel⟩
def f_X4_isQueue (a1 : Int) (w : Tw) (Q : Bool → Tw → Prop) : Prop :=
  ok32 a1 (ok32 ((w 14 0) - 1) (f_X4_in a1 0 ((w 14 0) - 1) w (fun x4 w3 => Q x4 w3)))
theorem w_X4_isQueue {t : Nat} {ad : Nat → Nat} {G0 : Wd} {Q : Bool → Tw → Prop} {a1 : Int} {w : Tw} {G : Wd} (h : f_X4_isQueue a1 w Q) (hT : TwAt t ad w (G 2)) (hG : ∀ r, r ≠ 2 → G r = G0 r) : wp m_X4_isQueue 2 0 0 0 [some (vR (some t)), some (vI a1)] [] G (twQ t ad G0 (uB Q)) noX := by
  unfold f_X4_isQueue at h
  refine r_iload_n dX4_isQueue_0 rfl rfl iI ?_
  refine r_i2l dX4_isQueue_1 h (fun h => ?_)
  refine r_lconst (y := 0) dX4_isQueue_2 (by decide) ?_
  refine r_aload_n dX4_isQueue_3 rfl rfl iR ?_
  refine t_getI (j := 14) hT dX4_isQueue_4 (fg1 (f := 14) fX4 (by decide) q2235 rfl) rfl ?_
  refine r_iconst dX4_isQueue_7 ?_
  refine r_isub dX4_isQueue_8 ?_
  refine r_i2l dX4_isQueue_9 h (fun h => ?_)
  refine r_callS dX4_isQueue_10 (c_X4_in h hT hG) q2133 q2134 q117 q2135 yo_X4_in rfl (by decide) (by decide) rfl rc0 (by decide) (Nat.le_refl _) (Nat.le_refl _) (tofB fun x4 w3 G h hT hG => ?_) nox
  exact r_zret rfl dX4_isQueue_13 ⟨_, hT, hG, _, rfl, h⟩
theorem c_X4_isQueue {t : Nat} {ad : Nat → Nat} {G0 : Wd} {a1 : Int} {Q : Bool → Tw → Prop} {w : Tw} {G : Wd} (h : f_X4_isQueue a1 w Q) (hT : TwAt t ad w (G 2)) (hG : ∀ r, r ≠ 2 → G r = G0 r) : call yX4_isQueue (Cond.code yX4_isQueue cX4_isQueue 2 (some .boolean)) 2 0 0 [vR (some t), vI a1] G (twQ t ad G0 (uB Q)) noX :=
  call.enter (by decide +kernel) (la_1 c1R (la_1 c1I (la_nil rfl))) rfl (w_X4_isQueue  h hT hG)
abbrev m_X4_refuse : Mt := (yX4_refuse.cls, cX4_refuse, 1, some .int, [], yX4_refuse.name)
theorem yo_X4_refuse : yOK yX4_refuse 0 := ⟨by decide +kernel, by decide +kernel, by decide +kernel⟩
def f_X4_refuse (w : Tw) (Q : Int → Tw → Prop) : Prop :=
  tS w 0 0 1 (fun w2 => Q 0 w2)
theorem w_X4_refuse {t : Nat} {ad : Nat → Nat} {G0 : Wd} {Q : Int → Tw → Prop} {w : Tw} {G : Wd} (h : f_X4_refuse w Q) (hT : TwAt t ad w (G 2)) (hG : ∀ r, r ≠ 2 → G r = G0 r) : wp m_X4_refuse 1 0 0 0 [some (vR (some t))] [] G (twQ t ad G0 (uI Q)) noX := by
  unfold f_X4_refuse at h
  refine r_aload_n dX4_refuse_0 rfl rfl iR ?_
  refine r_iconst dX4_refuse_1 ?_
  refine t_put (j := 0) hT hG dX4_refuse_2 (fp1 (f := 0) fX4 (by decide) q2221 rfl rfl rfl) tF0 (by decide) h (fun w2 G h hT hG => ?_)
  refine r_iconst dX4_refuse_5 ?_
  exact r_iret rfl dX4_refuse_6 ⟨_, hT, hG, _, rfl, h⟩
theorem c_X4_refuse {t : Nat} {ad : Nat → Nat} {G0 : Wd} {Q : Int → Tw → Prop} {w : Tw} {G : Wd} (h : f_X4_refuse w Q) (hT : TwAt t ad w (G 2)) (hG : ∀ r, r ≠ 2 → G r = G0 r) : call yX4_refuse (Cond.code yX4_refuse cX4_refuse 1 (some .int)) 1 0 0 [vR (some t)] G (twQ t ad G0 (uI Q)) noX :=
  call.enter (by decide +kernel) (la_1 c1R (la_nil rfl)) rfl (w_X4_refuse  h hT hG)
abbrev m_X4_of : Mt := (yX4_of.cls, cX4_of, 3, some .int, [], yX4_of.name)
theorem yo_X4_of : yOK yX4_of 3 := ⟨by decide +kernel, by decide +kernel, by decide +kernel⟩
def f_X4_of (a0 : Nat) (a1 : Int) (a2 : Int) (w : Tw) (Q : Int → Tw → Prop) : Prop :=
  rdA w a0 844 ((89 * a1) + a2) (fun _ => Q (w a0 ((89 * a1) + a2)) w)
theorem w_X4_of {t : Nat} {ad : Nat → Nat} {G0 : Wd} {a0 : Nat} (hA_a0 : (a0, 0, 844) ∈ twA) {Q : Int → Tw → Prop} {a1 : Int} {a2 : Int} {w : Tw} {G : Wd} (h : f_X4_of a0 a1 a2 w Q) (hT : TwAt t ad w (G 2)) (hG : ∀ r, r ≠ 2 → G r = G0 r) : wp m_X4_of 1 0 0 0 [some (vR (some (ad a0))), some (vI a1), some (vI a2)] [] G (twQ t ad G0 (uI Q)) noX := by
  unfold f_X4_of at h
  refine r_aload_n dX4_of_0 rfl rfl iR ?_
  refine r_bipush dX4_of_1 (by decide) ?_
  refine r_iload_n dX4_of_3 rfl rfl iI ?_
  refine r_imul dX4_of_4 ?_
  refine r_iload_n dX4_of_5 rfl rfl iI ?_
  refine r_iadd dX4_of_6 ?_
  refine t_iald hT dX4_of_7 hA_a0 (by decide) h (fun h => ?_)
  exact r_iret rfl dX4_of_8 ⟨_, hT, hG, _, rfl, h⟩
theorem c_X4_of {t : Nat} {ad : Nat → Nat} {G0 : Wd} {a0 : Nat} {a1 : Int} {a2 : Int} (hA_a0 : (a0, 0, 844) ∈ twA) {Q : Int → Tw → Prop} {w : Tw} {G : Wd} (h : f_X4_of a0 a1 a2 w Q) (hT : TwAt t ad w (G 2)) (hG : ∀ r, r ≠ 2 → G r = G0 r) : call yX4_of (Cond.code yX4_of cX4_of 3 (some .int)) 1 0 0 [vR (some (ad a0)), vI a1, vI a2] G (twQ t ad G0 (uI Q)) noX :=
  call.enter (by decide +kernel) (la_1 c1R (la_1 c1I (la_1 c1I (la_nil rfl)))) rfl (w_X4_of hA_a0 h hT hG)
abbrev m_X4_blocksOf : Mt := (yX4_blocksOf.cls, cX4_blocksOf, 3, some .int, [], yX4_blocksOf.name)
theorem yo_X4_blocksOf : yOK yX4_blocksOf 1 := ⟨by decide +kernel, by decide +kernel, by decide +kernel⟩
def f_X4_blocksOf_4_b (a0 : Nat) (k4 : Int → Int → Tw → Prop) (l1 : Int) (l2 : Int) (w : Tw) (Q : Int → Tw → Prop) : Prop :=
  br l2 10 ((10 : Int) ≤ l2) (Q l1 w) (rdA w a0 844 (828 + l2) (fun _ => k4 (l1 + (w a0 (828 + l2))) (l2 + 1) w))
theorem w_X4_blocksOf_4_b {t : Nat} {ad : Nat → Nat} {G0 : Wd} {a0 : Nat} (hA_a0 : (a0, 0, 844) ∈ twA) {Q : Int → Tw → Prop} {k4 : Int → Int → Tw → Prop} (hk4 : ∀ {l1 : Int} {l2 : Int} {w : Tw} {G : Wd}, k4 l1 l2 w → TwAt t ad w (G 2) → (∀ r, r ≠ 2 → G r = G0 r) → wp m_X4_blocksOf 1 0 0 4 [some (vR (some (ad a0))), some (vI l1), some (vI l2)] [] G (twQ t ad G0 (uI Q)) noX) {l1 : Int} {l2 : Int} {w : Tw} {G : Wd} (h : f_X4_blocksOf_4_b a0 k4 l1 l2 w Q) (hT : TwAt t ad w (G 2)) (hG : ∀ r, r ≠ 2 → G r = G0 r) : wp m_X4_blocksOf 1 0 0 4 [some (vR (some (ad a0))), some (vI l1), some (vI l2)] [] G (twQ t ad G0 (uI Q)) noX := by
  unfold f_X4_blocksOf_4_b at h
  refine r_iload_n dX4_blocksOf_4 rfl rfl iI ?_
  refine r_bipush dX4_blocksOf_5 (by decide) ?_
  refine r_icmp_ge (tgt := 26) dX4_blocksOf_7 (by decide) h (fun h => ?_) (fun h => ?_)
  · refine r_iload_n dX4_blocksOf_26 rfl rfl iI ?_
    exact r_iret rfl dX4_blocksOf_27 ⟨_, hT, hG, _, rfl, h⟩
  · refine r_iload_n dX4_blocksOf_10 rfl rfl iI ?_
    refine r_aload_n dX4_blocksOf_11 rfl rfl iR ?_
    refine r_sipush dX4_blocksOf_12 (by decide) ?_
    refine r_iload_n dX4_blocksOf_15 rfl rfl iI ?_
    refine r_iadd dX4_blocksOf_16 ?_
    refine t_iald hT dX4_blocksOf_17 hA_a0 (by decide) h (fun h => ?_)
    refine r_iadd dX4_blocksOf_18 ?_
    refine r_istore_n (L' := [some (vR (some (ad a0))), some (vI (l1 + (w a0 (828 + l2)))), some (vI l2)]) dX4_blocksOf_19 rfl rfl iI cR (by decide) ?_
    refine r_iinc (L' := [some (vR (some (ad a0))), some (vI (l1 + (w a0 (828 + l2)))), some (vI (l2 + 1))]) dX4_blocksOf_20 rfl rfl cI (by decide) ?_
    refine r_goto (tgt := 4) dX4_blocksOf_23 (by decide) ?_
    exact hk4 h hT hG
def f_X4_blocksOf_4 (a0 : Nat) (Q : Int → Tw → Prop) : Nat → Int → Int → Tw → Prop
  | 0, _, _, _ => False
  | fl + 1, l1, l2, w => f_X4_blocksOf_4_b  a0  (fun l1 l2 w => f_X4_blocksOf_4  a0  Q fl l1 l2 w) l1 l2 w Q
theorem w_X4_blocksOf_4 {t : Nat} {ad : Nat → Nat} {G0 : Wd} {a0 : Nat} (hA_a0 : (a0, 0, 844) ∈ twA) {Q : Int → Tw → Prop} : ∀ (fl : Nat) {l1 : Int} {l2 : Int} {w : Tw} {G : Wd}, f_X4_blocksOf_4 a0 Q fl l1 l2 w → TwAt t ad w (G 2) → (∀ r, r ≠ 2 → G r = G0 r) → wp m_X4_blocksOf 1 0 0 4 [some (vR (some (ad a0))), some (vI l1), some (vI l2)] [] G (twQ t ad G0 (uI Q)) noX := by
  intro fl
  induction fl with
  | zero => intro l1 l2 w G h; exact (show False from h).elim
  | succ fl ih => intro l1 l2 w G h hT hG; exact w_X4_blocksOf_4_b hA_a0  (fun h hT hG => ih h hT hG) h hT hG
def f_X4_blocksOf (a0 : Nat) (w : Tw) (Q : Int → Tw → Prop) : Prop :=
  ∃ fl1, f_X4_blocksOf_4 a0 Q fl1 0 0 w
theorem w_X4_blocksOf {t : Nat} {ad : Nat → Nat} {G0 : Wd} {a0 : Nat} (hA_a0 : (a0, 0, 844) ∈ twA) {Q : Int → Tw → Prop} {w : Tw} {G : Wd} (h : f_X4_blocksOf a0 w Q) (hT : TwAt t ad w (G 2)) (hG : ∀ r, r ≠ 2 → G r = G0 r) : wp m_X4_blocksOf 1 0 0 0 [some (vR (some (ad a0))), none, none] [] G (twQ t ad G0 (uI Q)) noX := by
  unfold f_X4_blocksOf at h
  refine r_iconst dX4_blocksOf_0 ?_
  refine r_istore_n (L' := [some (vR (some (ad a0))), some (vI 0), none]) dX4_blocksOf_1 rfl rfl iI cR (by decide) ?_
  refine r_iconst dX4_blocksOf_2 ?_
  refine r_istore_n (L' := [some (vR (some (ad a0))), some (vI 0), some (vI 0)]) dX4_blocksOf_3 rfl rfl iI cI (by decide) ?_
  obtain ⟨fl1, h⟩ := h
  exact w_X4_blocksOf_4 hA_a0 fl1 h hT hG
theorem c_X4_blocksOf {t : Nat} {ad : Nat → Nat} {G0 : Wd} {a0 : Nat} (hA_a0 : (a0, 0, 844) ∈ twA) {Q : Int → Tw → Prop} {w : Tw} {G : Wd} (h : f_X4_blocksOf a0 w Q) (hT : TwAt t ad w (G 2)) (hG : ∀ r, r ≠ 2 → G r = G0 r) : call yX4_blocksOf (Cond.code yX4_blocksOf cX4_blocksOf 3 (some .int)) 1 0 0 [vR (some (ad a0))] G (twQ t ad G0 (uI Q)) noX :=
  call.enter (by decide +kernel) (la_1 c1R (la_nil rfl)) rfl (w_X4_blocksOf hA_a0 h hT hG)
abbrev m_X4_undo : Mt := (yX4_undo.cls, cX4_undo, 2, some .int, [], yX4_undo.name)
theorem yo_X4_undo : yOK yX4_undo 0 := ⟨by decide +kernel, by decide +kernel, by decide +kernel⟩
def f_X4_undo_26_b (k26 : Int → Tw → Prop) (l1 : Int) (w : Tw) (Q : Int → Tw → Prop) : Prop :=
  br l1 844 ((844 : Int) ≤ l1) (Q (w 22 0) w) (rdA w 23 7596 ((844 * (w 22 0)) + l1) (fun _ => wrA w 20 844 l1 (w 23 ((844 * (w 22 0)) + l1)) (fun w5 => k26 (l1 + 1) w5)))
theorem w_X4_undo_26_b {t : Nat} {ad : Nat → Nat} {G0 : Wd} {Q : Int → Tw → Prop} {k26 : Int → Tw → Prop} (hk26 : ∀ {l1 : Int} {w : Tw} {G : Wd}, k26 l1 w → TwAt t ad w (G 2) → (∀ r, r ≠ 2 → G r = G0 r) → wp m_X4_undo 1 0 0 26 [some (vR (some t)), some (vI l1)] [] G (twQ t ad G0 (uI Q)) noX) {l1 : Int} {w : Tw} {G : Wd} (h : f_X4_undo_26_b k26 l1 w Q) (hT : TwAt t ad w (G 2)) (hG : ∀ r, r ≠ 2 → G r = G0 r) : wp m_X4_undo 1 0 0 26 [some (vR (some t)), some (vI l1)] [] G (twQ t ad G0 (uI Q)) noX := by
  unfold f_X4_undo_26_b at h
  refine r_iload_n dX4_undo_26 rfl rfl iI ?_
  refine r_sipush dX4_undo_27 (by decide) ?_
  refine r_icmp_ge (tgt := 60) dX4_undo_30 (by decide) h (fun h => ?_) (fun h => ?_)
  · refine r_aload_n dX4_undo_60 rfl rfl iR ?_
    refine t_getI (j := 22) hT dX4_undo_61 (fg1 (f := 22) fX4 (by decide) q2243 rfl) rfl ?_
    exact r_iret rfl dX4_undo_64 ⟨_, hT, hG, _, rfl, h⟩
  · refine r_aload_n dX4_undo_33 rfl rfl iR ?_
    refine t_getA (j := 20) hT dX4_undo_34 (fg1 (f := 20) fX4 (by decide) q2241 rfl) rfl ?_
    refine r_iload_n dX4_undo_37 rfl rfl iI ?_
    refine r_aload_n dX4_undo_38 rfl rfl iR ?_
    refine t_getA (j := 23) hT dX4_undo_39 (fg1 (f := 23) fX4 (by decide) q2244 rfl) rfl ?_
    refine r_sipush dX4_undo_42 (by decide) ?_
    refine r_aload_n dX4_undo_45 rfl rfl iR ?_
    refine t_getI (j := 22) hT dX4_undo_46 (fg1 (f := 22) fX4 (by decide) q2243 rfl) rfl ?_
    refine r_imul dX4_undo_49 ?_
    refine r_iload_n dX4_undo_50 rfl rfl iI ?_
    refine r_iadd dX4_undo_51 ?_
    refine t_iald hT dX4_undo_52 tA23 (by decide) h (fun h => ?_)
    refine t_iast hT hG dX4_undo_53 tA20 (by decide) h (fun w5 G h hT hG => ?_)
    refine r_iinc (L' := [some (vR (some t)), some (vI (l1 + 1))]) dX4_undo_54 rfl rfl cR (by decide) ?_
    refine r_goto (tgt := 26) dX4_undo_57 (by decide) ?_
    exact hk26 h hT hG
def f_X4_undo_26 (Q : Int → Tw → Prop) : Nat → Int → Tw → Prop
  | 0, _, _ => False
  | fl + 1, l1, w => f_X4_undo_26_b    (fun l1 w => f_X4_undo_26    Q fl l1 w) l1 w Q
theorem w_X4_undo_26 {t : Nat} {ad : Nat → Nat} {G0 : Wd} {Q : Int → Tw → Prop} : ∀ (fl : Nat) {l1 : Int} {w : Tw} {G : Wd}, f_X4_undo_26 Q fl l1 w → TwAt t ad w (G 2) → (∀ r, r ≠ 2 → G r = G0 r) → wp m_X4_undo 1 0 0 26 [some (vR (some t)), some (vI l1)] [] G (twQ t ad G0 (uI Q)) noX := by
  intro fl
  induction fl with
  | zero => intro l1 w G h; exact (show False from h).elim
  | succ fl ih => intro l1 w G h hT hG; exact w_X4_undo_26_b   (fun h hT hG => ih h hT hG) h hT hG
def f_X4_undo (w : Tw) (Q : Int → Tw → Prop) : Prop :=
  tS w 0 0 0 (fun w6 => br0 (w6 22 0) (¬ (w6 22 0) = 0) (tS w6 22 0 ((w6 22 0) - 1) (fun w7 => ∃ fl8, f_X4_undo_26 Q fl8 0 w7)) (Q (-1) w6))
theorem w_X4_undo {t : Nat} {ad : Nat → Nat} {G0 : Wd} {Q : Int → Tw → Prop} {w : Tw} {G : Wd} (h : f_X4_undo w Q) (hT : TwAt t ad w (G 2)) (hG : ∀ r, r ≠ 2 → G r = G0 r) : wp m_X4_undo 1 0 0 0 [some (vR (some t)), none] [] G (twQ t ad G0 (uI Q)) noX := by
  unfold f_X4_undo at h
  refine r_aload_n dX4_undo_0 rfl rfl iR ?_
  refine r_iconst dX4_undo_1 ?_
  refine t_put (j := 0) hT hG dX4_undo_2 (fp1 (f := 0) fX4 (by decide) q2221 rfl rfl rfl) tF0 (by decide) h (fun w6 G h hT hG => ?_)
  refine r_aload_n dX4_undo_5 rfl rfl iR ?_
  refine t_getI (j := 22) hT dX4_undo_6 (fg1 (f := 22) fX4 (by decide) q2243 rfl) rfl ?_
  refine r_if_ne (tgt := 14) dX4_undo_9 (by decide) h (fun h => ?_) (fun h => ?_)
  · refine r_aload_n dX4_undo_14 rfl rfl iR ?_
    refine r_dup dX4_undo_15 c1R ?_
    refine t_getI (j := 22) hT dX4_undo_16 (fg1 (f := 22) fX4 (by decide) q2243 rfl) rfl ?_
    refine r_iconst dX4_undo_19 ?_
    refine r_isub dX4_undo_20 ?_
    refine t_put (j := 22) hT hG dX4_undo_21 (fp1 (f := 22) fX4 (by decide) q2243 rfl rfl rfl) tF22 (by decide) h (fun w7 G h hT hG => ?_)
    refine r_iconst dX4_undo_24 ?_
    refine r_istore_n (L' := [some (vR (some t)), some (vI 0)]) dX4_undo_25 rfl rfl iI cR (by decide) ?_
    obtain ⟨fl8, h⟩ := h
    exact w_X4_undo_26 fl8 h hT hG
  · refine r_iconst dX4_undo_12 ?_
    exact r_iret rfl dX4_undo_13 ⟨_, hT, hG, _, rfl, h⟩
theorem c_X4_undo {t : Nat} {ad : Nat → Nat} {G0 : Wd} {Q : Int → Tw → Prop} {w : Tw} {G : Wd} (h : f_X4_undo w Q) (hT : TwAt t ad w (G 2)) (hG : ∀ r, r ≠ 2 → G r = G0 r) : call yX4_undo (Cond.code yX4_undo cX4_undo 2 (some .int)) 1 0 0 [vR (some t)] G (twQ t ad G0 (uI Q)) noX :=
  call.enter (by decide +kernel) (la_1 c1R (la_nil rfl)) rfl (w_X4_undo  h hT hG)
abbrev m_X4_putsBy : Mt := (yX4_putsBy.cls, cX4_putsBy, 2, none, [], yX4_putsBy.name)
theorem yo_X4_putsBy : yOK yX4_putsBy 0 := ⟨by decide +kernel, by decide +kernel, by decide +kernel⟩
def f_X4_putsBy_2_b (k2 : Int → Tw → Prop) (l1 : Int) (w : Tw) (Q : Tw → Prop) : Prop :=
  br l1 844 ((844 : Int) ≤ l1) (Q w) (rdA w 20 844 l1 (fun _ => wrA w 23 7596 ((844 * (w 22 0)) + l1) (w 20 l1) (fun w3 => k2 (l1 + 1) w3)))
theorem w_X4_putsBy_2_b {t : Nat} {ad : Nat → Nat} {G0 : Wd} {Q : Tw → Prop} {k2 : Int → Tw → Prop} (hk2 : ∀ {l1 : Int} {w : Tw} {G : Wd}, k2 l1 w → TwAt t ad w (G 2) → (∀ r, r ≠ 2 → G r = G0 r) → wp m_X4_putsBy 1 0 0 2 [some (vR (some t)), some (vI l1)] [] G (twQ t ad G0 (uV Q)) noX) {l1 : Int} {w : Tw} {G : Wd} (h : f_X4_putsBy_2_b k2 l1 w Q) (hT : TwAt t ad w (G 2)) (hG : ∀ r, r ≠ 2 → G r = G0 r) : wp m_X4_putsBy 1 0 0 2 [some (vR (some t)), some (vI l1)] [] G (twQ t ad G0 (uV Q)) noX := by
  unfold f_X4_putsBy_2_b at h
  refine r_iload_n dX4_putsBy_2 rfl rfl iI ?_
  refine r_sipush dX4_putsBy_3 (by decide) ?_
  refine r_icmp_ge (tgt := 36) dX4_putsBy_6 (by decide) h (fun h => ?_) (fun h => ?_)
  · exact r_vret rfl dX4_putsBy_36 ⟨_, hT, hG, rfl, h⟩
  · refine r_aload_n dX4_putsBy_9 rfl rfl iR ?_
    refine t_getA (j := 23) hT dX4_putsBy_10 (fg1 (f := 23) fX4 (by decide) q2244 rfl) rfl ?_
    refine r_sipush dX4_putsBy_13 (by decide) ?_
    refine r_aload_n dX4_putsBy_16 rfl rfl iR ?_
    refine t_getI (j := 22) hT dX4_putsBy_17 (fg1 (f := 22) fX4 (by decide) q2243 rfl) rfl ?_
    refine r_imul dX4_putsBy_20 ?_
    refine r_iload_n dX4_putsBy_21 rfl rfl iI ?_
    refine r_iadd dX4_putsBy_22 ?_
    refine r_aload_n dX4_putsBy_23 rfl rfl iR ?_
    refine t_getA (j := 20) hT dX4_putsBy_24 (fg1 (f := 20) fX4 (by decide) q2241 rfl) rfl ?_
    refine r_iload_n dX4_putsBy_27 rfl rfl iI ?_
    refine t_iald hT dX4_putsBy_28 tA20 (by decide) h (fun h => ?_)
    refine t_iast hT hG dX4_putsBy_29 tA23 (by decide) h (fun w3 G h hT hG => ?_)
    refine r_iinc (L' := [some (vR (some t)), some (vI (l1 + 1))]) dX4_putsBy_30 rfl rfl cR (by decide) ?_
    refine r_goto (tgt := 2) dX4_putsBy_33 (by decide) ?_
    exact hk2 h hT hG
def f_X4_putsBy_2 (Q : Tw → Prop) : Nat → Int → Tw → Prop
  | 0, _, _ => False
  | fl + 1, l1, w => f_X4_putsBy_2_b    (fun l1 w => f_X4_putsBy_2    Q fl l1 w) l1 w Q
theorem w_X4_putsBy_2 {t : Nat} {ad : Nat → Nat} {G0 : Wd} {Q : Tw → Prop} : ∀ (fl : Nat) {l1 : Int} {w : Tw} {G : Wd}, f_X4_putsBy_2 Q fl l1 w → TwAt t ad w (G 2) → (∀ r, r ≠ 2 → G r = G0 r) → wp m_X4_putsBy 1 0 0 2 [some (vR (some t)), some (vI l1)] [] G (twQ t ad G0 (uV Q)) noX := by
  intro fl
  induction fl with
  | zero => intro l1 w G h; exact (show False from h).elim
  | succ fl ih => intro l1 w G h hT hG; exact w_X4_putsBy_2_b   (fun h hT hG => ih h hT hG) h hT hG
def f_X4_putsBy (w : Tw) (Q : Tw → Prop) : Prop :=
  ∃ fl4, f_X4_putsBy_2 Q fl4 0 w
theorem w_X4_putsBy {t : Nat} {ad : Nat → Nat} {G0 : Wd} {Q : Tw → Prop} {w : Tw} {G : Wd} (h : f_X4_putsBy w Q) (hT : TwAt t ad w (G 2)) (hG : ∀ r, r ≠ 2 → G r = G0 r) : wp m_X4_putsBy 1 0 0 0 [some (vR (some t)), none] [] G (twQ t ad G0 (uV Q)) noX := by
  unfold f_X4_putsBy at h
  refine r_iconst dX4_putsBy_0 ?_
  refine r_istore_n (L' := [some (vR (some t)), some (vI 0)]) dX4_putsBy_1 rfl rfl iI cR (by decide) ?_
  obtain ⟨fl4, h⟩ := h
  exact w_X4_putsBy_2 fl4 h hT hG
theorem c_X4_putsBy {t : Nat} {ad : Nat → Nat} {G0 : Wd} {Q : Tw → Prop} {w : Tw} {G : Wd} (h : f_X4_putsBy w Q) (hT : TwAt t ad w (G 2)) (hG : ∀ r, r ≠ 2 → G r = G0 r) : call yX4_putsBy (Cond.code yX4_putsBy cX4_putsBy 2 (none)) 1 0 0 [vR (some t)] G (twQ t ad G0 (uV Q)) noX :=
  call.enter (by decide +kernel) (la_1 c1R (la_nil rfl)) rfl (w_X4_putsBy  h hT hG)
abbrev m_X4_ringAt : Mt := (yX4_ringAt.cls, cX4_ringAt, 2, some .int, [], yX4_ringAt.name)
theorem yo_X4_ringAt : yOK yX4_ringAt 2 := ⟨by decide +kernel, by decide +kernel, by decide +kernel⟩
def f_X4_ringAt (a0 : Int) (a1 : Int) (w : Tw) (Q : Int → Tw → Prop) : Prop :=
  okm a1 8 (Q (((89 * a0) + 9) + (5 * (a1 % 8))) w)
theorem w_X4_ringAt {t : Nat} {ad : Nat → Nat} {G0 : Wd} {Q : Int → Tw → Prop} {a0 : Int} {a1 : Int} {w : Tw} {G : Wd} (h : f_X4_ringAt a0 a1 w Q) (hT : TwAt t ad w (G 2)) (hG : ∀ r, r ≠ 2 → G r = G0 r) : wp m_X4_ringAt 1 0 0 0 [some (vI a0), some (vI a1)] [] G (twQ t ad G0 (uI Q)) noX := by
  unfold f_X4_ringAt at h
  refine r_bipush dX4_ringAt_0 (by decide) ?_
  refine r_iload_n dX4_ringAt_2 rfl rfl iI ?_
  refine r_imul dX4_ringAt_3 ?_
  refine r_bipush dX4_ringAt_4 (by decide) ?_
  refine r_iadd dX4_ringAt_6 ?_
  refine r_iconst dX4_ringAt_7 ?_
  refine r_iload_n dX4_ringAt_8 rfl rfl iI ?_
  refine r_bipush dX4_ringAt_9 (by decide) ?_
  refine r_irem dX4_ringAt_11 h (fun h => ?_)
  refine r_imul dX4_ringAt_12 ?_
  refine r_iadd dX4_ringAt_13 ?_
  exact r_iret rfl dX4_ringAt_14 ⟨_, hT, hG, _, rfl, h⟩
theorem c_X4_ringAt {t : Nat} {ad : Nat → Nat} {G0 : Wd} {a0 : Int} {a1 : Int} {Q : Int → Tw → Prop} {w : Tw} {G : Wd} (h : f_X4_ringAt a0 a1 w Q) (hT : TwAt t ad w (G 2)) (hG : ∀ r, r ≠ 2 → G r = G0 r) : call yX4_ringAt (Cond.code yX4_ringAt cX4_ringAt 2 (some .int)) 1 0 0 [vI a0, vI a1] G (twQ t ad G0 (uI Q)) noX :=
  call.enter (by decide +kernel) (la_1 c1I (la_1 c1I (la_nil rfl))) rfl (w_X4_ringAt  h hT hG)
abbrev m_X4_runAt : Mt := (yX4_runAt.cls, cX4_runAt, 1, some .int, [], yX4_runAt.name)
theorem yo_X4_runAt : yOK yX4_runAt 1 := ⟨by decide +kernel, by decide +kernel, by decide +kernel⟩
def f_X4_runAt (a0 : Int) (w : Tw) (Q : Int → Tw → Prop) : Prop :=
  Q (445 + (12 * a0)) w
theorem w_X4_runAt {t : Nat} {ad : Nat → Nat} {G0 : Wd} {Q : Int → Tw → Prop} {a0 : Int} {w : Tw} {G : Wd} (h : f_X4_runAt a0 w Q) (hT : TwAt t ad w (G 2)) (hG : ∀ r, r ≠ 2 → G r = G0 r) : wp m_X4_runAt 1 0 0 0 [some (vI a0)] [] G (twQ t ad G0 (uI Q)) noX := by
  unfold f_X4_runAt at h
  refine r_sipush dX4_runAt_0 (by decide) ?_
  refine r_bipush dX4_runAt_3 (by decide) ?_
  refine r_iload_n dX4_runAt_5 rfl rfl iI ?_
  refine r_imul dX4_runAt_6 ?_
  refine r_iadd dX4_runAt_7 ?_
  exact r_iret rfl dX4_runAt_8 ⟨_, hT, hG, _, rfl, h⟩
theorem c_X4_runAt {t : Nat} {ad : Nat → Nat} {G0 : Wd} {a0 : Int} {Q : Int → Tw → Prop} {w : Tw} {G : Wd} (h : f_X4_runAt a0 w Q) (hT : TwAt t ad w (G 2)) (hG : ∀ r, r ≠ 2 → G r = G0 r) : call yX4_runAt (Cond.code yX4_runAt cX4_runAt 1 (some .int)) 1 0 0 [vI a0] G (twQ t ad G0 (uI Q)) noX :=
  call.enter (by decide +kernel) (la_1 c1I (la_nil rfl)) rfl (w_X4_runAt  h hT hG)
abbrev m_X4_hasSecond : Mt := (yX4_hasSecond.cls, cX4_hasSecond, 2, some .boolean, [], yX4_hasSecond.name)
theorem yo_X4_hasSecond : yOK yX4_hasSecond 2 := ⟨by decide +kernel, by decide +kernel, by decide +kernel⟩
def f_X4_hasSecond (a0 : Nat) (a1 : Int) (w : Tw) (Q : Bool → Tw → Prop) : Prop :=
  f_X4_runAt a1 w (fun x4 w3 => rdA w3 a0 844 ((x4 + 6) + 1) (fun _ => br0 (w3 a0 ((x4 + 6) + 1)) ((w3 a0 ((x4 + 6) + 1)) < 0) (Q false w3) (Q true w3)))
theorem w_X4_hasSecond {t : Nat} {ad : Nat → Nat} {G0 : Wd} {a0 : Nat} (hA_a0 : (a0, 0, 844) ∈ twA) {Q : Bool → Tw → Prop} {a1 : Int} {w : Tw} {G : Wd} (h : f_X4_hasSecond a0 a1 w Q) (hT : TwAt t ad w (G 2)) (hG : ∀ r, r ≠ 2 → G r = G0 r) : wp m_X4_hasSecond 2 0 0 0 [some (vR (some (ad a0))), some (vI a1)] [] G (twQ t ad G0 (uB Q)) noX := by
  unfold f_X4_hasSecond at h
  refine r_aload_n dX4_hasSecond_0 rfl rfl iR ?_
  refine r_iload_n dX4_hasSecond_1 rfl rfl iI ?_
  refine r_callS dX4_hasSecond_2 (c_X4_runAt h hT hG) q2425 q2426 q117 q2427 yo_X4_runAt rfl (by decide) (by decide) rfl (rc1 c1R rc0) (by decide) (Nat.le_refl _) (Nat.le_refl _) (tofI fun x4 w3 G h hT hG => ?_) nox
  refine r_bipush dX4_hasSecond_5 (by decide) ?_
  refine r_iadd dX4_hasSecond_7 ?_
  refine r_iconst dX4_hasSecond_8 ?_
  refine r_iadd dX4_hasSecond_9 ?_
  refine t_iald hT dX4_hasSecond_10 hA_a0 (by decide) h (fun h => ?_)
  refine r_if_lt (tgt := 18) dX4_hasSecond_11 (by decide) h (fun h => ?_) (fun h => ?_)
  · refine r_iconst dX4_hasSecond_18 ?_
    refine wp.cast (st' := [vB false]) rfl (congrArg (fun q => [q]) vI0) ?_
    exact r_zret rfl dX4_hasSecond_19 ⟨_, hT, hG, _, rfl, h⟩
  · refine r_iconst dX4_hasSecond_14 ?_
    refine r_goto (tgt := 19) dX4_hasSecond_15 (by decide) ?_
    refine wp.cast (st' := [vB true]) rfl (congrArg (fun q => [q]) vI1) ?_
    exact r_zret rfl dX4_hasSecond_19 ⟨_, hT, hG, _, rfl, h⟩
theorem c_X4_hasSecond {t : Nat} {ad : Nat → Nat} {G0 : Wd} {a0 : Nat} {a1 : Int} (hA_a0 : (a0, 0, 844) ∈ twA) {Q : Bool → Tw → Prop} {w : Tw} {G : Wd} (h : f_X4_hasSecond a0 a1 w Q) (hT : TwAt t ad w (G 2)) (hG : ∀ r, r ≠ 2 → G r = G0 r) : call yX4_hasSecond (Cond.code yX4_hasSecond cX4_hasSecond 2 (some .boolean)) 2 0 0 [vR (some (ad a0)), vI a1] G (twQ t ad G0 (uB Q)) noX :=
  call.enter (by decide +kernel) (la_1 c1R (la_1 c1I (la_nil rfl))) rfl (w_X4_hasSecond hA_a0 h hT hG)
abbrev m_X4_outAt : Mt := (yX4_outAt.cls, cX4_outAt, 1, some .int, [], yX4_outAt.name)
theorem yo_X4_outAt : yOK yX4_outAt 1 := ⟨by decide +kernel, by decide +kernel, by decide +kernel⟩
def f_X4_outAt (a0 : Int) (w : Tw) (Q : Int → Tw → Prop) : Prop :=
  Q (494 + (4 * a0)) w
theorem w_X4_outAt {t : Nat} {ad : Nat → Nat} {G0 : Wd} {Q : Int → Tw → Prop} {a0 : Int} {w : Tw} {G : Wd} (h : f_X4_outAt a0 w Q) (hT : TwAt t ad w (G 2)) (hG : ∀ r, r ≠ 2 → G r = G0 r) : wp m_X4_outAt 1 0 0 0 [some (vI a0)] [] G (twQ t ad G0 (uI Q)) noX := by
  unfold f_X4_outAt at h
  refine r_sipush dX4_outAt_0 (by decide) ?_
  refine r_iconst dX4_outAt_3 ?_
  refine r_iload_n dX4_outAt_4 rfl rfl iI ?_
  refine r_imul dX4_outAt_5 ?_
  refine r_iadd dX4_outAt_6 ?_
  exact r_iret rfl dX4_outAt_7 ⟨_, hT, hG, _, rfl, h⟩
theorem c_X4_outAt {t : Nat} {ad : Nat → Nat} {G0 : Wd} {a0 : Int} {Q : Int → Tw → Prop} {w : Tw} {G : Wd} (h : f_X4_outAt a0 w Q) (hT : TwAt t ad w (G 2)) (hG : ∀ r, r ≠ 2 → G r = G0 r) : call yX4_outAt (Cond.code yX4_outAt cX4_outAt 1 (some .int)) 1 0 0 [vI a0] G (twQ t ad G0 (uI Q)) noX :=
  call.enter (by decide +kernel) (la_1 c1I (la_nil rfl)) rfl (w_X4_outAt  h hT hG)
abbrev m_X4_placeAt : Mt := (yX4_placeAt.cls, cX4_placeAt, 2, some .int, [], yX4_placeAt.name)
theorem yo_X4_placeAt : yOK yX4_placeAt 2 := ⟨by decide +kernel, by decide +kernel, by decide +kernel⟩
def f_X4_placeAt (a0 : Int) (a1 : Int) (w : Tw) (Q : Int → Tw → Prop) : Prop :=
  okm a1 8 (Q (((89 * a0) + 49) + (5 * (a1 % 8))) w)
theorem w_X4_placeAt {t : Nat} {ad : Nat → Nat} {G0 : Wd} {Q : Int → Tw → Prop} {a0 : Int} {a1 : Int} {w : Tw} {G : Wd} (h : f_X4_placeAt a0 a1 w Q) (hT : TwAt t ad w (G 2)) (hG : ∀ r, r ≠ 2 → G r = G0 r) : wp m_X4_placeAt 1 0 0 0 [some (vI a0), some (vI a1)] [] G (twQ t ad G0 (uI Q)) noX := by
  unfold f_X4_placeAt at h
  refine r_bipush dX4_placeAt_0 (by decide) ?_
  refine r_iload_n dX4_placeAt_2 rfl rfl iI ?_
  refine r_imul dX4_placeAt_3 ?_
  refine r_bipush dX4_placeAt_4 (by decide) ?_
  refine r_iadd dX4_placeAt_6 ?_
  refine r_iconst dX4_placeAt_7 ?_
  refine r_iload_n dX4_placeAt_8 rfl rfl iI ?_
  refine r_bipush dX4_placeAt_9 (by decide) ?_
  refine r_irem dX4_placeAt_11 h (fun h => ?_)
  refine r_imul dX4_placeAt_12 ?_
  refine r_iadd dX4_placeAt_13 ?_
  exact r_iret rfl dX4_placeAt_14 ⟨_, hT, hG, _, rfl, h⟩
theorem c_X4_placeAt {t : Nat} {ad : Nat → Nat} {G0 : Wd} {a0 : Int} {a1 : Int} {Q : Int → Tw → Prop} {w : Tw} {G : Wd} (h : f_X4_placeAt a0 a1 w Q) (hT : TwAt t ad w (G 2)) (hG : ∀ r, r ≠ 2 → G r = G0 r) : call yX4_placeAt (Cond.code yX4_placeAt cX4_placeAt 2 (some .int)) 1 0 0 [vI a0, vI a1] G (twQ t ad G0 (uI Q)) noX :=
  call.enter (by decide +kernel) (la_1 c1I (la_1 c1I (la_nil rfl))) rfl (w_X4_placeAt  h hT hG)
abbrev m_X4_sets : Mt := (yX4_sets.cls, cX4_sets, 4, none, [], yX4_sets.name)
theorem yo_X4_sets : yOK yX4_sets 4 := ⟨by decide +kernel, by decide +kernel, by decide +kernel⟩
def f_X4_sets (a0 : Nat) (a1 : Int) (a2 : Int) (a3 : Int) (w : Tw) (Q : Tw → Prop) : Prop :=
  wrA w a0 844 ((89 * a1) + a2) a3 (fun w2 => Q w2)
theorem w_X4_sets {t : Nat} {ad : Nat → Nat} {G0 : Wd} {a0 : Nat} (hA_a0 : (a0, 0, 844) ∈ twA) {Q : Tw → Prop} {a1 : Int} {a2 : Int} {a3 : Int} {w : Tw} {G : Wd} (h : f_X4_sets a0 a1 a2 a3 w Q) (hT : TwAt t ad w (G 2)) (hG : ∀ r, r ≠ 2 → G r = G0 r) : wp m_X4_sets 1 0 0 0 [some (vR (some (ad a0))), some (vI a1), some (vI a2), some (vI a3)] [] G (twQ t ad G0 (uV Q)) noX := by
  unfold f_X4_sets at h
  refine r_aload_n dX4_sets_0 rfl rfl iR ?_
  refine r_bipush dX4_sets_1 (by decide) ?_
  refine r_iload_n dX4_sets_3 rfl rfl iI ?_
  refine r_imul dX4_sets_4 ?_
  refine r_iload_n dX4_sets_5 rfl rfl iI ?_
  refine r_iadd dX4_sets_6 ?_
  refine r_iload_n dX4_sets_7 rfl rfl iI ?_
  refine t_iast hT hG dX4_sets_8 hA_a0 (by decide) h (fun w2 G h hT hG => ?_)
  exact r_vret rfl dX4_sets_9 ⟨_, hT, hG, rfl, h⟩
theorem c_X4_sets {t : Nat} {ad : Nat → Nat} {G0 : Wd} {a0 : Nat} {a1 : Int} {a2 : Int} {a3 : Int} (hA_a0 : (a0, 0, 844) ∈ twA) {Q : Tw → Prop} {w : Tw} {G : Wd} (h : f_X4_sets a0 a1 a2 a3 w Q) (hT : TwAt t ad w (G 2)) (hG : ∀ r, r ≠ 2 → G r = G0 r) : call yX4_sets (Cond.code yX4_sets cX4_sets 4 (none)) 1 0 0 [vR (some (ad a0)), vI a1, vI a2, vI a3] G (twQ t ad G0 (uV Q)) noX :=
  call.enter (by decide +kernel) (la_1 c1R (la_1 c1I (la_1 c1I (la_1 c1I (la_nil rfl))))) rfl (w_X4_sets hA_a0 h hT hG)
abbrev m_X4_adds : Mt := (yX4_adds.cls, cX4_adds, 3, some .int, [], yX4_adds.name)
theorem yo_X4_adds : yOK yX4_adds 1 := ⟨by decide +kernel, by decide +kernel, by decide +kernel⟩
def f_X4_adds_21_b (k21 : Int → Int → Tw → Prop) (l1 : Int) (l2 : Int) (w : Tw) (Q : Int → Tw → Prop) : Prop :=
  br l2 6752 ((6752 : Int) ≤ l2) (tS w 22 0 ((w 22 0) - 1) (fun w6 => Q l1 w6)) (rdA w 23 7596 (l2 + 844) (fun _ => wrA w 23 7596 l2 (w 23 (l2 + 844)) (fun w7 => k21 l1 (l2 + 1) w7)))
theorem w_X4_adds_21_b {t : Nat} {ad : Nat → Nat} {G0 : Wd} {Q : Int → Tw → Prop} {k21 : Int → Int → Tw → Prop} (hk21 : ∀ {l1 : Int} {l2 : Int} {w : Tw} {G : Wd}, k21 l1 l2 w → TwAt t ad w (G 2) → (∀ r, r ≠ 2 → G r = G0 r) → wp m_X4_adds 1 0 0 21 [some (vR (some t)), some (vI l1), some (vI l2)] [] G (twQ t ad G0 (uI Q)) noX) {l1 : Int} {l2 : Int} {w : Tw} {G : Wd} (h : f_X4_adds_21_b k21 l1 l2 w Q) (hT : TwAt t ad w (G 2)) (hG : ∀ r, r ≠ 2 → G r = G0 r) : wp m_X4_adds 1 0 0 21 [some (vR (some t)), some (vI l1), some (vI l2)] [] G (twQ t ad G0 (uI Q)) noX := by
  unfold f_X4_adds_21_b at h
  refine r_iload_n dX4_adds_21 rfl rfl iI ?_
  refine r_sipush dX4_adds_22 (by decide) ?_
  refine r_icmp_ge (tgt := 50) dX4_adds_25 (by decide) h (fun h => ?_) (fun h => ?_)
  · refine r_aload_n dX4_adds_50 rfl rfl iR ?_
    refine r_dup dX4_adds_51 c1R ?_
    refine t_getI (j := 22) hT dX4_adds_52 (fg1 (f := 22) fX4 (by decide) q2243 rfl) rfl ?_
    refine r_iconst dX4_adds_55 ?_
    refine r_isub dX4_adds_56 ?_
    refine t_put (j := 22) hT hG dX4_adds_57 (fp1 (f := 22) fX4 (by decide) q2243 rfl rfl rfl) tF22 (by decide) h (fun w6 G h hT hG => ?_)
    refine r_iload_n dX4_adds_60 rfl rfl iI ?_
    exact r_iret rfl dX4_adds_61 ⟨_, hT, hG, _, rfl, h⟩
  · refine r_aload_n dX4_adds_28 rfl rfl iR ?_
    refine t_getA (j := 23) hT dX4_adds_29 (fg1 (f := 23) fX4 (by decide) q2244 rfl) rfl ?_
    refine r_iload_n dX4_adds_32 rfl rfl iI ?_
    refine r_aload_n dX4_adds_33 rfl rfl iR ?_
    refine t_getA (j := 23) hT dX4_adds_34 (fg1 (f := 23) fX4 (by decide) q2244 rfl) rfl ?_
    refine r_iload_n dX4_adds_37 rfl rfl iI ?_
    refine r_sipush dX4_adds_38 (by decide) ?_
    refine r_iadd dX4_adds_41 ?_
    refine t_iald hT dX4_adds_42 tA23 (by decide) h (fun h => ?_)
    refine t_iast hT hG dX4_adds_43 tA23 (by decide) h (fun w7 G h hT hG => ?_)
    refine r_iinc (L' := [some (vR (some t)), some (vI l1), some (vI (l2 + 1))]) dX4_adds_44 rfl rfl cI (by decide) ?_
    refine r_goto (tgt := 21) dX4_adds_47 (by decide) ?_
    exact hk21 h hT hG
def f_X4_adds_21 (Q : Int → Tw → Prop) : Nat → Int → Int → Tw → Prop
  | 0, _, _, _ => False
  | fl + 1, l1, l2, w => f_X4_adds_21_b    (fun l1 l2 w => f_X4_adds_21    Q fl l1 l2 w) l1 l2 w Q
theorem w_X4_adds_21 {t : Nat} {ad : Nat → Nat} {G0 : Wd} {Q : Int → Tw → Prop} : ∀ (fl : Nat) {l1 : Int} {l2 : Int} {w : Tw} {G : Wd}, f_X4_adds_21 Q fl l1 l2 w → TwAt t ad w (G 2) → (∀ r, r ≠ 2 → G r = G0 r) → wp m_X4_adds 1 0 0 21 [some (vR (some t)), some (vI l1), some (vI l2)] [] G (twQ t ad G0 (uI Q)) noX := by
  intro fl
  induction fl with
  | zero => intro l1 l2 w G h; exact (show False from h).elim
  | succ fl ih => intro l1 l2 w G h hT hG; exact w_X4_adds_21_b   (fun h hT hG => ih h hT hG) h hT hG
def f_X4_adds (a1 : Int) (w : Tw) (Q : Int → Tw → Prop) : Prop :=
  tS w 22 0 ((w 22 0) + 1) (fun w8 => br (w8 22 0) 8 ((w8 22 0) ≤ (8 : Int)) (Q a1 w8) (∃ fl9, f_X4_adds_21 Q fl9 a1 0 w8))
theorem w_X4_adds {t : Nat} {ad : Nat → Nat} {G0 : Wd} {Q : Int → Tw → Prop} {a1 : Int} {w : Tw} {G : Wd} (h : f_X4_adds a1 w Q) (hT : TwAt t ad w (G 2)) (hG : ∀ r, r ≠ 2 → G r = G0 r) : wp m_X4_adds 1 0 0 0 [some (vR (some t)), some (vI a1), none] [] G (twQ t ad G0 (uI Q)) noX := by
  unfold f_X4_adds at h
  refine r_aload_n dX4_adds_0 rfl rfl iR ?_
  refine r_dup dX4_adds_1 c1R ?_
  refine t_getI (j := 22) hT dX4_adds_2 (fg1 (f := 22) fX4 (by decide) q2243 rfl) rfl ?_
  refine r_iconst dX4_adds_5 ?_
  refine r_iadd dX4_adds_6 ?_
  refine t_put (j := 22) hT hG dX4_adds_7 (fp1 (f := 22) fX4 (by decide) q2243 rfl rfl rfl) tF22 (by decide) h (fun w8 G h hT hG => ?_)
  refine r_aload_n dX4_adds_10 rfl rfl iR ?_
  refine t_getI (j := 22) hT dX4_adds_11 (fg1 (f := 22) fX4 (by decide) q2243 rfl) rfl ?_
  refine r_bipush dX4_adds_14 (by decide) ?_
  refine r_icmp_le (tgt := 60) dX4_adds_16 (by decide) h (fun h => ?_) (fun h => ?_)
  · refine r_iload_n dX4_adds_60 rfl rfl iI ?_
    exact r_iret rfl dX4_adds_61 ⟨_, hT, hG, _, rfl, h⟩
  · refine r_iconst dX4_adds_19 ?_
    refine r_istore_n (L' := [some (vR (some t)), some (vI a1), some (vI 0)]) dX4_adds_20 rfl rfl iI cI (by decide) ?_
    obtain ⟨fl9, h⟩ := h
    exact w_X4_adds_21 fl9 h hT hG
theorem c_X4_adds {t : Nat} {ad : Nat → Nat} {G0 : Wd} {a1 : Int} {Q : Int → Tw → Prop} {w : Tw} {G : Wd} (h : f_X4_adds a1 w Q) (hT : TwAt t ad w (G 2)) (hG : ∀ r, r ≠ 2 → G r = G0 r) : call yX4_adds (Cond.code yX4_adds cX4_adds 3 (some .int)) 1 0 0 [vR (some t), vI a1] G (twQ t ad G0 (uI Q)) noX :=
  call.enter (by decide +kernel) (la_1 c1R (la_1 c1I (la_nil rfl))) rfl (w_X4_adds  h hT hG)
abbrev m_X4_ringsOne : Mt := (yX4_ringsOne.cls, cX4_ringsOne, 6, some .int, [], yX4_ringsOne.name)
theorem yo_X4_ringsOne : yOK yX4_ringsOne 2 := ⟨by decide +kernel, by decide +kernel, by decide +kernel⟩
def f_X4_ringsOne_119 (a1 : Nat) (l5 : Bool) (s1 : Int) (s2 : Bool) (w : Tw) (Q : Int → Tw → Prop) : Prop :=
  f_X4_flag s2 w (fun x20 w19 => rdA w19 a1 844 (s1 + x20) (fun _ => wrA w19 a1 844 (s1 + x20) ((w19 a1 (s1 + x20)) + 1) (fun w21 => f_X4_flag l5 w21 (fun x23 w22 => Q x23 w22))))
theorem w_X4_ringsOne_119 {t : Nat} {ad : Nat → Nat} {G0 : Wd} {a1 : Nat} (hA_a1 : (a1, 0, 844) ∈ twA) {Q : Int → Tw → Prop} {l5 : Bool} {s1 : Int} {s2 : Bool} {w : Tw} {G : Wd} (h : f_X4_ringsOne_119 a1 l5 s1 s2 w Q) (hT : TwAt t ad w (G 2)) (hG : ∀ r, r ≠ 2 → G r = G0 r) : wp m_X4_ringsOne 3 0 0 119 [none, none, none, none, none, some (vB l5)] [vB s2, vI s1, vR (some (ad a1))] G (twQ t ad G0 (uI Q)) noX := by
  unfold f_X4_ringsOne_119 at h
  refine r_callS dX4_ringsOne_119 (c_X4_flag h hT hG) q2162 q2163 q117 q2164 yo_X4_flag rfl (by decide) (by decide) rfl (rc1 c1I (rc1 c1R rc0)) (by decide) (Nat.le_refl _) (Nat.le_refl _) (tofI fun x20 w19 G h hT hG => ?_) nox
  refine r_iadd dX4_ringsOne_122 ?_
  refine r_dup2 dX4_ringsOne_123 c1I c1R ?_
  refine t_iald hT dX4_ringsOne_124 hA_a1 (by decide) h (fun h => ?_)
  refine r_iconst dX4_ringsOne_125 ?_
  refine r_iadd dX4_ringsOne_126 ?_
  refine t_iast hT hG dX4_ringsOne_127 hA_a1 (by decide) h (fun w21 G h hT hG => ?_)
  refine r_iload dX4_ringsOne_128 rfl iB ?_
  refine r_callS dX4_ringsOne_130 (c_X4_flag h hT hG) q2162 q2163 q117 q2164 yo_X4_flag rfl (by decide) (by decide) rfl rc0 (by decide) (Nat.le_refl _) (Nat.le_refl _) (tofI fun x23 w22 G h hT hG => ?_) nox
  exact r_iret rfl dX4_ringsOne_133 ⟨_, hT, hG, _, rfl, h⟩
def f_X4_ringsOne_105 (a1 : Nat) (l5 : Bool) (w : Tw) (Q : Int → Tw → Prop) : Prop :=
  brB l5 (f_X4_ringsOne_119 a1 l5 838 false w Q) (f_X4_ringsOne_119 a1 l5 838 true w Q)
theorem w_X4_ringsOne_105 {t : Nat} {ad : Nat → Nat} {G0 : Wd} {a1 : Nat} (hA_a1 : (a1, 0, 844) ∈ twA) {Q : Int → Tw → Prop} {l5 : Bool} {w : Tw} {G : Wd} (h : f_X4_ringsOne_105 a1 l5 w Q) (hT : TwAt t ad w (G 2)) (hG : ∀ r, r ≠ 2 → G r = G0 r) : wp m_X4_ringsOne 3 0 0 105 [none, some (vR (some (ad a1))), none, none, none, some (vB l5)] [] G (twQ t ad G0 (uI Q)) noX := by
  unfold f_X4_ringsOne_105 at h
  refine r_aload_n dX4_ringsOne_105 rfl rfl iR ?_
  refine r_sipush dX4_ringsOne_106 (by decide) ?_
  refine r_iload dX4_ringsOne_109 rfl iB ?_
  refine r_ifZ_ne (tgt := 118) dX4_ringsOne_111 (by decide) h (fun h => ?_) (fun h => ?_)
  · refine r_iconst dX4_ringsOne_118 ?_
    refine wp.cast (st' := [vB false, vI 838, vR (some (ad a1))]) rfl (congrArg (fun q => [q, vI 838, vR (some (ad a1))]) vI0) ?_
    refine wp.locals (L' := [none, none, none, none, none, some (vB l5)]) (ls_n (ls_n (ls_n (ls_n (ls_n (ls_s ls_0)))))) ?_
    exact w_X4_ringsOne_119 hA_a1 h hT hG
  · refine r_iconst dX4_ringsOne_114 ?_
    refine r_goto (tgt := 119) dX4_ringsOne_115 (by decide) ?_
    refine wp.cast (st' := [vB true, vI 838, vR (some (ad a1))]) rfl (congrArg (fun q => [q, vI 838, vR (some (ad a1))]) vI1) ?_
    refine wp.locals (L' := [none, none, none, none, none, some (vB l5)]) (ls_n (ls_n (ls_n (ls_n (ls_n (ls_s ls_0)))))) ?_
    exact w_X4_ringsOne_119 hA_a1 h hT hG
def f_X4_ringsOne_77 (a1 : Nat) (l2 : Int) (l4 : Int) (s0 : Bool) (w : Tw) (Q : Int → Tw → Prop) : Prop :=
  brB s0 (f_X4_sets a1 l2 2 l4 w (fun w24 => rdA w24 19 5 l2 (fun _ => f_X4_sets a1 l2 8 (w24 19 l2) w24 (fun w25 => f_X4_ringsOne_105 a1 s0 w25 Q)))) (f_X4_ringsOne_105 a1 s0 w Q)
theorem w_X4_ringsOne_77 {t : Nat} {ad : Nat → Nat} {G0 : Wd} {a1 : Nat} (hA_a1 : (a1, 0, 844) ∈ twA) {Q : Int → Tw → Prop} {l2 : Int} {l4 : Int} {s0 : Bool} {w : Tw} {G : Wd} (h : f_X4_ringsOne_77 a1 l2 l4 s0 w Q) (hT : TwAt t ad w (G 2)) (hG : ∀ r, r ≠ 2 → G r = G0 r) : wp m_X4_ringsOne 3 0 0 77 [some (vR (some t)), some (vR (some (ad a1))), some (vI l2), none, some (vI l4), none] [vB s0] G (twQ t ad G0 (uI Q)) noX := by
  unfold f_X4_ringsOne_77 at h
  refine r_istore (L' := [some (vR (some t)), some (vR (some (ad a1))), some (vI l2), none, some (vI l4), some (vB s0)]) dX4_ringsOne_77 rfl iB cI (by decide) ?_
  refine r_iload dX4_ringsOne_79 rfl iB ?_
  refine r_ifZ_eq (tgt := 105) dX4_ringsOne_81 (by decide) h (fun h => ?_) (fun h => ?_)
  · refine wp.locals (L' := [none, some (vR (some (ad a1))), none, none, none, some (vB s0)]) (ls_n (ls_s (ls_n (ls_n (ls_n (ls_s ls_0)))))) ?_
    exact w_X4_ringsOne_105 hA_a1 h hT hG
  · refine r_aload_n dX4_ringsOne_84 rfl rfl iR ?_
    refine r_iload_n dX4_ringsOne_85 rfl rfl iI ?_
    refine r_iconst dX4_ringsOne_86 ?_
    refine r_iload dX4_ringsOne_87 rfl iI ?_
    refine r_callS dX4_ringsOne_89 (c_X4_sets hA_a1 h hT hG) q2443 q2444 q117 q2445 yo_X4_sets rfl (by decide) (by decide) rfl rc0 (by decide) (Nat.le_refl _) (Nat.le_refl _) (tofV fun w24 G h hT hG => ?_) nox
    refine r_aload_n dX4_ringsOne_92 rfl rfl iR ?_
    refine r_iload_n dX4_ringsOne_93 rfl rfl iI ?_
    refine r_bipush dX4_ringsOne_94 (by decide) ?_
    refine r_aload_n dX4_ringsOne_96 rfl rfl iR ?_
    refine t_getA (j := 19) hT dX4_ringsOne_97 (fg1 (f := 19) fX4 (by decide) q2240 rfl) rfl ?_
    refine r_iload_n dX4_ringsOne_100 rfl rfl iI ?_
    refine t_iald hT dX4_ringsOne_101 tA19 (by decide) h (fun h => ?_)
    refine r_callS dX4_ringsOne_102 (c_X4_sets hA_a1 h hT hG) q2443 q2444 q117 q2445 yo_X4_sets rfl (by decide) (by decide) rfl rc0 (by decide) (Nat.le_refl _) (Nat.le_refl _) (tofV fun w25 G h hT hG => ?_) nox
    refine wp.locals (L' := [none, some (vR (some (ad a1))), none, none, none, some (vB s0)]) (ls_n (ls_s (ls_n (ls_n (ls_n (ls_s ls_0)))))) ?_
    exact w_X4_ringsOne_105 hA_a1 h hT hG
def f_X4_ringsOne_72 (a1 : Nat) (l2 : Int) (l4 : Int) (w : Tw) (Q : Int → Tw → Prop) : Prop :=
  f_X4_ringsOne_77 a1 l2 l4 true w Q
theorem w_X4_ringsOne_72 {t : Nat} {ad : Nat → Nat} {G0 : Wd} {a1 : Nat} (hA_a1 : (a1, 0, 844) ∈ twA) {Q : Int → Tw → Prop} {l2 : Int} {l4 : Int} {w : Tw} {G : Wd} (h : f_X4_ringsOne_72 a1 l2 l4 w Q) (hT : TwAt t ad w (G 2)) (hG : ∀ r, r ≠ 2 → G r = G0 r) : wp m_X4_ringsOne 3 0 0 72 [some (vR (some t)), some (vR (some (ad a1))), some (vI l2), none, some (vI l4), none] [] G (twQ t ad G0 (uI Q)) noX := by
  unfold f_X4_ringsOne_72 at h
  refine r_iconst dX4_ringsOne_72 ?_
  refine r_goto (tgt := 77) dX4_ringsOne_73 (by decide) ?_
  refine wp.cast (st' := [vB true]) rfl (congrArg (fun q => [q]) vI1) ?_
  exact w_X4_ringsOne_77 hA_a1 h hT hG
def f_X4_ringsOne (a1 : Nat) (a2 : Int) (w : Tw) (Q : Int → Tw → Prop) : Prop :=
  f_X4_isQueue a2 w (fun x27 w26 => brB x27 (f_X4_of a1 a2 1 w26 (fun x29 w28 => f_X4_of a1 a2 0 w28 (fun x31 w30 => br x29 x31 (¬ x29 = x31) (f_X4_sets a1 a2 1 x31 w30 (fun w32 => rdA w32 19 5 a2 (fun _ => br0 (w32 19 a2) ((w32 19 a2) = 0) (f_X4_ringsOne_72 a1 a2 x31 w32 Q) (f_X4_of a1 a2 7 w32 (fun x34 w33 => ok32 x34 (ok32 x29 (ok32 (x31 - 1) (f_X4_in x34 x29 (x31 - 1) w33 (fun x36 w35 => brB x36 (f_X4_ringsOne_72 a1 a2 x31 w35 Q) (f_X4_ringsOne_77 a1 a2 x31 false w35 Q)))))))))) (Q (-2) w30)))) (Q (-1) w26))
theorem w_X4_ringsOne {t : Nat} {ad : Nat → Nat} {G0 : Wd} {a1 : Nat} (hA_a1 : (a1, 0, 844) ∈ twA) {Q : Int → Tw → Prop} {a2 : Int} {w : Tw} {G : Wd} (h : f_X4_ringsOne a1 a2 w Q) (hT : TwAt t ad w (G 2)) (hG : ∀ r, r ≠ 2 → G r = G0 r) : wp m_X4_ringsOne 3 0 0 0 [some (vR (some t)), some (vR (some (ad a1))), some (vI a2), none, none, none] [] G (twQ t ad G0 (uI Q)) noX := by
  unfold f_X4_ringsOne at h
  refine r_aload_n dX4_ringsOne_0 rfl rfl iR ?_
  refine r_iload_n dX4_ringsOne_1 rfl rfl iI ?_
  refine r_callV dX4_ringsOne_2 (tisC hT) (c_X4_isQueue h hT hG) q2370 q2372 qs52 q117 q2373 rfl yo_X4_isQueue rfl (by decide) (by decide) rfl rc0 (by decide) (Nat.le_refl _) (Nat.le_refl _) (tofB fun x27 w26 G h hT hG => ?_) nox
  refine r_ifZ_ne (tgt := 10) dX4_ringsOne_5 (by decide) h (fun h => ?_) (fun h => ?_)
  · refine r_aload_n dX4_ringsOne_10 rfl rfl iR ?_
    refine r_iload_n dX4_ringsOne_11 rfl rfl iI ?_
    refine r_iconst dX4_ringsOne_12 ?_
    refine r_callS dX4_ringsOne_13 (c_X4_of hA_a1 h hT hG) q2379 q2380 q117 q2381 yo_X4_of rfl (by decide) (by decide) rfl rc0 (by decide) (Nat.le_refl _) (Nat.le_refl _) (tofI fun x29 w28 G h hT hG => ?_) nox
    refine r_istore_n (L' := [some (vR (some t)), some (vR (some (ad a1))), some (vI a2), some (vI x29), none, none]) dX4_ringsOne_16 rfl rfl iI cI (by decide) ?_
    refine r_aload_n dX4_ringsOne_17 rfl rfl iR ?_
    refine r_iload_n dX4_ringsOne_18 rfl rfl iI ?_
    refine r_iconst dX4_ringsOne_19 ?_
    refine r_callS dX4_ringsOne_20 (c_X4_of hA_a1 h hT hG) q2379 q2380 q117 q2381 yo_X4_of rfl (by decide) (by decide) rfl rc0 (by decide) (Nat.le_refl _) (Nat.le_refl _) (tofI fun x31 w30 G h hT hG => ?_) nox
    refine r_istore (L' := [some (vR (some t)), some (vR (some (ad a1))), some (vI a2), some (vI x29), some (vI x31), none]) dX4_ringsOne_23 rfl iI cI (by decide) ?_
    refine r_iload_n dX4_ringsOne_25 rfl rfl iI ?_
    refine r_iload dX4_ringsOne_26 rfl iI ?_
    refine r_icmp_ne (tgt := 34) dX4_ringsOne_28 (by decide) h (fun h => ?_) (fun h => ?_)
    · refine r_aload_n dX4_ringsOne_34 rfl rfl iR ?_
      refine r_iload_n dX4_ringsOne_35 rfl rfl iI ?_
      refine r_iconst dX4_ringsOne_36 ?_
      refine r_iload dX4_ringsOne_37 rfl iI ?_
      refine r_callS dX4_ringsOne_39 (c_X4_sets hA_a1 h hT hG) q2443 q2444 q117 q2445 yo_X4_sets rfl (by decide) (by decide) rfl rc0 (by decide) (Nat.le_refl _) (Nat.le_refl _) (tofV fun w32 G h hT hG => ?_) nox
      refine r_aload_n dX4_ringsOne_42 rfl rfl iR ?_
      refine t_getA (j := 19) hT dX4_ringsOne_43 (fg1 (f := 19) fX4 (by decide) q2240 rfl) rfl ?_
      refine r_iload_n dX4_ringsOne_46 rfl rfl iI ?_
      refine t_iald hT dX4_ringsOne_47 tA19 (by decide) h (fun h => ?_)
      refine r_if_eq (tgt := 72) dX4_ringsOne_48 (by decide) h (fun h => ?_) (fun h => ?_)
      · refine wp.locals (L' := [some (vR (some t)), some (vR (some (ad a1))), some (vI a2), none, some (vI x31), none]) (ls_s (ls_s (ls_s (ls_n (ls_s (ls_n ls_0)))))) ?_
        exact w_X4_ringsOne_72 hA_a1 h hT hG
      · refine r_aload_n dX4_ringsOne_51 rfl rfl iR ?_
        refine r_iload_n dX4_ringsOne_52 rfl rfl iI ?_
        refine r_bipush dX4_ringsOne_53 (by decide) ?_
        refine r_callS dX4_ringsOne_55 (c_X4_of hA_a1 h hT hG) q2379 q2380 q117 q2381 yo_X4_of rfl (by decide) (by decide) rfl rc0 (by decide) (Nat.le_refl _) (Nat.le_refl _) (tofI fun x34 w33 G h hT hG => ?_) nox
        refine r_i2l dX4_ringsOne_58 h (fun h => ?_)
        refine r_iload_n dX4_ringsOne_59 rfl rfl iI ?_
        refine r_i2l dX4_ringsOne_60 h (fun h => ?_)
        refine r_iload dX4_ringsOne_61 rfl iI ?_
        refine r_iconst dX4_ringsOne_63 ?_
        refine r_isub dX4_ringsOne_64 ?_
        refine r_i2l dX4_ringsOne_65 h (fun h => ?_)
        refine r_callS dX4_ringsOne_66 (c_X4_in h hT hG) q2133 q2134 q117 q2135 yo_X4_in rfl (by decide) (by decide) rfl rc0 (by decide) (Nat.le_refl _) (Nat.le_refl _) (tofB fun x36 w35 G h hT hG => ?_) nox
        refine r_ifZ_eq (tgt := 76) dX4_ringsOne_69 (by decide) h (fun h => ?_) (fun h => ?_)
        · refine r_iconst dX4_ringsOne_76 ?_
          refine wp.cast (st' := [vB false]) rfl (congrArg (fun q => [q]) vI0) ?_
          refine wp.locals (L' := [some (vR (some t)), some (vR (some (ad a1))), some (vI a2), none, some (vI x31), none]) (ls_s (ls_s (ls_s (ls_n (ls_s (ls_n ls_0)))))) ?_
          exact w_X4_ringsOne_77 hA_a1 h hT hG
        · refine wp.locals (L' := [some (vR (some t)), some (vR (some (ad a1))), some (vI a2), none, some (vI x31), none]) (ls_s (ls_s (ls_s (ls_n (ls_s (ls_n ls_0)))))) ?_
          exact w_X4_ringsOne_72 hA_a1 h hT hG
    · refine r_bipush dX4_ringsOne_31 (by decide) ?_
      exact r_iret rfl dX4_ringsOne_33 ⟨_, hT, hG, _, rfl, h⟩
  · refine r_iconst dX4_ringsOne_8 ?_
    exact r_iret rfl dX4_ringsOne_9 ⟨_, hT, hG, _, rfl, h⟩
theorem c_X4_ringsOne {t : Nat} {ad : Nat → Nat} {G0 : Wd} {a1 : Nat} {a2 : Int} (hA_a1 : (a1, 0, 844) ∈ twA) {Q : Int → Tw → Prop} {w : Tw} {G : Wd} (h : f_X4_ringsOne a1 a2 w Q) (hT : TwAt t ad w (G 2)) (hG : ∀ r, r ≠ 2 → G r = G0 r) : call yX4_ringsOne (Cond.code yX4_ringsOne cX4_ringsOne 6 (some .int)) 3 0 0 [vR (some t), vR (some (ad a1)), vI a2] G (twQ t ad G0 (uI Q)) noX :=
  call.enter (by decide +kernel) (la_1 c1R (la_1 c1R (la_1 c1I (la_nil rfl)))) rfl (w_X4_ringsOne hA_a1 h hT hG)
abbrev m_X4_comesOut : Mt := (yX4_comesOut.cls, cX4_comesOut, 6, none, [], yX4_comesOut.name)
theorem yo_X4_comesOut : yOK yX4_comesOut 5 := ⟨by decide +kernel, by decide +kernel, by decide +kernel⟩
def f_X4_comesOut (a0 : Nat) (a1 : Int) (a2 : Int) (a3 : Int) (a4 : Int) (w : Tw) (Q : Tw → Prop) : Prop :=
  rdA w a0 844 814 (fun _ => f_X4_outAt (w a0 814) w (fun x9 w8 => wrA w8 a0 844 (x9 + 0) a1 (fun w10 => wrA w10 a0 844 (x9 + 1) a2 (fun w11 => wrA w11 a0 844 (x9 + 2) a3 (fun w12 => wrA w12 a0 844 (x9 + 3) a4 (fun w13 => rdA w13 a0 844 814 (fun _ => wrA w13 a0 844 814 ((w13 a0 814) + 1) (fun w14 => Q w14))))))))
theorem w_X4_comesOut {t : Nat} {ad : Nat → Nat} {G0 : Wd} {a0 : Nat} (hA_a0 : (a0, 0, 844) ∈ twA) {Q : Tw → Prop} {a1 : Int} {a2 : Int} {a3 : Int} {a4 : Int} {w : Tw} {G : Wd} (h : f_X4_comesOut a0 a1 a2 a3 a4 w Q) (hT : TwAt t ad w (G 2)) (hG : ∀ r, r ≠ 2 → G r = G0 r) : wp m_X4_comesOut 2 0 0 0 [some (vR (some (ad a0))), some (vI a1), some (vI a2), some (vI a3), some (vI a4), none] [] G (twQ t ad G0 (uV Q)) noX := by
  unfold f_X4_comesOut at h
  refine r_aload_n dX4_comesOut_0 rfl rfl iR ?_
  refine r_sipush dX4_comesOut_1 (by decide) ?_
  refine t_iald hT dX4_comesOut_4 hA_a0 (by decide) h (fun h => ?_)
  refine r_callS dX4_comesOut_5 (c_X4_outAt h hT hG) q2434 q2435 q117 q2436 yo_X4_outAt rfl (by decide) (by decide) rfl rc0 (by decide) (Nat.le_refl _) (Nat.le_refl _) (tofI fun x9 w8 G h hT hG => ?_) nox
  refine r_istore (L' := [some (vR (some (ad a0))), some (vI a1), some (vI a2), some (vI a3), some (vI a4), some (vI x9)]) dX4_comesOut_8 rfl iI cI (by decide) ?_
  refine r_aload_n dX4_comesOut_10 rfl rfl iR ?_
  refine r_iload dX4_comesOut_11 rfl iI ?_
  refine r_iconst dX4_comesOut_13 ?_
  refine r_iadd dX4_comesOut_14 ?_
  refine r_iload_n dX4_comesOut_15 rfl rfl iI ?_
  refine t_iast hT hG dX4_comesOut_16 hA_a0 (by decide) h (fun w10 G h hT hG => ?_)
  refine r_aload_n dX4_comesOut_17 rfl rfl iR ?_
  refine r_iload dX4_comesOut_18 rfl iI ?_
  refine r_iconst dX4_comesOut_20 ?_
  refine r_iadd dX4_comesOut_21 ?_
  refine r_iload_n dX4_comesOut_22 rfl rfl iI ?_
  refine t_iast hT hG dX4_comesOut_23 hA_a0 (by decide) h (fun w11 G h hT hG => ?_)
  refine r_aload_n dX4_comesOut_24 rfl rfl iR ?_
  refine r_iload dX4_comesOut_25 rfl iI ?_
  refine r_iconst dX4_comesOut_27 ?_
  refine r_iadd dX4_comesOut_28 ?_
  refine r_iload_n dX4_comesOut_29 rfl rfl iI ?_
  refine t_iast hT hG dX4_comesOut_30 hA_a0 (by decide) h (fun w12 G h hT hG => ?_)
  refine r_aload_n dX4_comesOut_31 rfl rfl iR ?_
  refine r_iload dX4_comesOut_32 rfl iI ?_
  refine r_iconst dX4_comesOut_34 ?_
  refine r_iadd dX4_comesOut_35 ?_
  refine r_iload dX4_comesOut_36 rfl iI ?_
  refine t_iast hT hG dX4_comesOut_38 hA_a0 (by decide) h (fun w13 G h hT hG => ?_)
  refine r_aload_n dX4_comesOut_39 rfl rfl iR ?_
  refine r_sipush dX4_comesOut_40 (by decide) ?_
  refine r_dup2 dX4_comesOut_43 c1I c1R ?_
  refine t_iald hT dX4_comesOut_44 hA_a0 (by decide) h (fun h => ?_)
  refine r_iconst dX4_comesOut_45 ?_
  refine r_iadd dX4_comesOut_46 ?_
  refine t_iast hT hG dX4_comesOut_47 hA_a0 (by decide) h (fun w14 G h hT hG => ?_)
  exact r_vret rfl dX4_comesOut_48 ⟨_, hT, hG, rfl, h⟩
theorem c_X4_comesOut {t : Nat} {ad : Nat → Nat} {G0 : Wd} {a0 : Nat} {a1 : Int} {a2 : Int} {a3 : Int} {a4 : Int} (hA_a0 : (a0, 0, 844) ∈ twA) {Q : Tw → Prop} {w : Tw} {G : Wd} (h : f_X4_comesOut a0 a1 a2 a3 a4 w Q) (hT : TwAt t ad w (G 2)) (hG : ∀ r, r ≠ 2 → G r = G0 r) : call yX4_comesOut (Cond.code yX4_comesOut cX4_comesOut 6 (none)) 2 0 0 [vR (some (ad a0)), vI a1, vI a2, vI a3, vI a4] G (twQ t ad G0 (uV Q)) noX :=
  call.enter (by decide +kernel) (la_1 c1R (la_1 c1I (la_1 c1I (la_1 c1I (la_1 c1I (la_nil rfl)))))) rfl (w_X4_comesOut hA_a0 h hT hG)
abbrev m_X4_runGoes : Mt := (yX4_runGoes.cls, cX4_runGoes, 3, none, [], yX4_runGoes.name)
theorem yo_X4_runGoes : yOK yX4_runGoes 2 := ⟨by decide +kernel, by decide +kernel, by decide +kernel⟩
def f_X4_runGoes_14_b (a0 : Nat) (k14 : Int → Tw → Prop) (l2 : Int) (w : Tw) (Q : Tw → Prop) : Prop :=
  rdA w a0 844 493 (fun _ => f_X4_runAt (w a0 493) w (fun x8 w7 => br l2 x8 (x8 ≤ l2) (Q w7) (rdA w7 a0 844 (l2 + 12) (fun _ => wrA w7 a0 844 l2 (w7 a0 (l2 + 12)) (fun w9 => k14 (l2 + 1) w9)))))
theorem w_X4_runGoes_14_b {t : Nat} {ad : Nat → Nat} {G0 : Wd} {a0 : Nat} (hA_a0 : (a0, 0, 844) ∈ twA) {Q : Tw → Prop} {k14 : Int → Tw → Prop} (hk14 : ∀ {l2 : Int} {w : Tw} {G : Wd}, k14 l2 w → TwAt t ad w (G 2) → (∀ r, r ≠ 2 → G r = G0 r) → wp m_X4_runGoes 2 0 0 14 [some (vR (some (ad a0))), none, some (vI l2)] [] G (twQ t ad G0 (uV Q)) noX) {l2 : Int} {w : Tw} {G : Wd} (h : f_X4_runGoes_14_b a0 k14 l2 w Q) (hT : TwAt t ad w (G 2)) (hG : ∀ r, r ≠ 2 → G r = G0 r) : wp m_X4_runGoes 2 0 0 14 [some (vR (some (ad a0))), none, some (vI l2)] [] G (twQ t ad G0 (uV Q)) noX := by
  unfold f_X4_runGoes_14_b at h
  refine r_iload_n dX4_runGoes_14 rfl rfl iI ?_
  refine r_aload_n dX4_runGoes_15 rfl rfl iR ?_
  refine r_sipush dX4_runGoes_16 (by decide) ?_
  refine t_iald hT dX4_runGoes_19 hA_a0 (by decide) h (fun h => ?_)
  refine r_callS dX4_runGoes_20 (c_X4_runAt h hT hG) q2425 q2426 q117 q2427 yo_X4_runAt rfl (by decide) (by decide) rfl (rc1 c1I rc0) (by decide) (Nat.le_refl _) (Nat.le_refl _) (tofI fun x8 w7 G h hT hG => ?_) nox
  refine r_icmp_ge (tgt := 41) dX4_runGoes_23 (by decide) h (fun h => ?_) (fun h => ?_)
  · exact r_vret rfl dX4_runGoes_41 ⟨_, hT, hG, rfl, h⟩
  · refine r_aload_n dX4_runGoes_26 rfl rfl iR ?_
    refine r_iload_n dX4_runGoes_27 rfl rfl iI ?_
    refine r_aload_n dX4_runGoes_28 rfl rfl iR ?_
    refine r_iload_n dX4_runGoes_29 rfl rfl iI ?_
    refine r_bipush dX4_runGoes_30 (by decide) ?_
    refine r_iadd dX4_runGoes_32 ?_
    refine t_iald hT dX4_runGoes_33 hA_a0 (by decide) h (fun h => ?_)
    refine t_iast hT hG dX4_runGoes_34 hA_a0 (by decide) h (fun w9 G h hT hG => ?_)
    refine r_iinc (L' := [some (vR (some (ad a0))), none, some (vI (l2 + 1))]) dX4_runGoes_35 rfl rfl cN (by decide) ?_
    refine r_goto (tgt := 14) dX4_runGoes_38 (by decide) ?_
    exact hk14 h hT hG
def f_X4_runGoes_14 (a0 : Nat) (Q : Tw → Prop) : Nat → Int → Tw → Prop
  | 0, _, _ => False
  | fl + 1, l2, w => f_X4_runGoes_14_b  a0  (fun l2 w => f_X4_runGoes_14  a0  Q fl l2 w) l2 w Q
theorem w_X4_runGoes_14 {t : Nat} {ad : Nat → Nat} {G0 : Wd} {a0 : Nat} (hA_a0 : (a0, 0, 844) ∈ twA) {Q : Tw → Prop} : ∀ (fl : Nat) {l2 : Int} {w : Tw} {G : Wd}, f_X4_runGoes_14 a0 Q fl l2 w → TwAt t ad w (G 2) → (∀ r, r ≠ 2 → G r = G0 r) → wp m_X4_runGoes 2 0 0 14 [some (vR (some (ad a0))), none, some (vI l2)] [] G (twQ t ad G0 (uV Q)) noX := by
  intro fl
  induction fl with
  | zero => intro l2 w G h; exact (show False from h).elim
  | succ fl ih => intro l2 w G h hT hG; exact w_X4_runGoes_14_b hA_a0  (fun h hT hG => ih h hT hG) h hT hG
def f_X4_runGoes (a0 : Nat) (a1 : Int) (w : Tw) (Q : Tw → Prop) : Prop :=
  rdA w a0 844 493 (fun _ => wrA w a0 844 493 ((w a0 493) - 1) (fun w10 => f_X4_runAt a1 w10 (fun x12 w11 => ∃ fl13, f_X4_runGoes_14 a0 Q fl13 x12 w11)))
theorem w_X4_runGoes {t : Nat} {ad : Nat → Nat} {G0 : Wd} {a0 : Nat} (hA_a0 : (a0, 0, 844) ∈ twA) {Q : Tw → Prop} {a1 : Int} {w : Tw} {G : Wd} (h : f_X4_runGoes a0 a1 w Q) (hT : TwAt t ad w (G 2)) (hG : ∀ r, r ≠ 2 → G r = G0 r) : wp m_X4_runGoes 2 0 0 0 [some (vR (some (ad a0))), some (vI a1), none] [] G (twQ t ad G0 (uV Q)) noX := by
  unfold f_X4_runGoes at h
  refine r_aload_n dX4_runGoes_0 rfl rfl iR ?_
  refine r_sipush dX4_runGoes_1 (by decide) ?_
  refine r_dup2 dX4_runGoes_4 c1I c1R ?_
  refine t_iald hT dX4_runGoes_5 hA_a0 (by decide) h (fun h => ?_)
  refine r_iconst dX4_runGoes_6 ?_
  refine r_isub dX4_runGoes_7 ?_
  refine t_iast hT hG dX4_runGoes_8 hA_a0 (by decide) h (fun w10 G h hT hG => ?_)
  refine r_iload_n dX4_runGoes_9 rfl rfl iI ?_
  refine r_callS dX4_runGoes_10 (c_X4_runAt h hT hG) q2425 q2426 q117 q2427 yo_X4_runAt rfl (by decide) (by decide) rfl rc0 (by decide) (Nat.le_refl _) (Nat.le_refl _) (tofI fun x12 w11 G h hT hG => ?_) nox
  refine r_istore_n (L' := [some (vR (some (ad a0))), some (vI a1), some (vI x12)]) dX4_runGoes_13 rfl rfl iI cI (by decide) ?_
  refine wp.locals (L' := [some (vR (some (ad a0))), none, some (vI x12)]) (ls_s (ls_n (ls_s ls_0))) ?_
  obtain ⟨fl13, h⟩ := h
  exact w_X4_runGoes_14 hA_a0 fl13 h hT hG
theorem c_X4_runGoes {t : Nat} {ad : Nat → Nat} {G0 : Wd} {a0 : Nat} {a1 : Int} (hA_a0 : (a0, 0, 844) ∈ twA) {Q : Tw → Prop} {w : Tw} {G : Wd} (h : f_X4_runGoes a0 a1 w Q) (hT : TwAt t ad w (G 2)) (hG : ∀ r, r ≠ 2 → G r = G0 r) : call yX4_runGoes (Cond.code yX4_runGoes cX4_runGoes 3 (none)) 2 0 0 [vR (some (ad a0)), vI a1] G (twQ t ad G0 (uV Q)) noX :=
  call.enter (by decide +kernel) (la_1 c1R (la_1 c1I (la_nil rfl))) rfl (w_X4_runGoes hA_a0 h hT hG)
abbrev m_X4_outGoes : Mt := (yX4_outGoes.cls, cX4_outGoes, 3, none, [], yX4_outGoes.name)
theorem yo_X4_outGoes : yOK yX4_outGoes 2 := ⟨by decide +kernel, by decide +kernel, by decide +kernel⟩
def f_X4_outGoes_14_b (a0 : Nat) (k14 : Int → Tw → Prop) (l2 : Int) (w : Tw) (Q : Tw → Prop) : Prop :=
  rdA w a0 844 814 (fun _ => f_X4_outAt (w a0 814) w (fun x8 w7 => br l2 x8 (x8 ≤ l2) (Q w7) (rdA w7 a0 844 (l2 + 4) (fun _ => wrA w7 a0 844 l2 (w7 a0 (l2 + 4)) (fun w9 => k14 (l2 + 1) w9)))))
theorem w_X4_outGoes_14_b {t : Nat} {ad : Nat → Nat} {G0 : Wd} {a0 : Nat} (hA_a0 : (a0, 0, 844) ∈ twA) {Q : Tw → Prop} {k14 : Int → Tw → Prop} (hk14 : ∀ {l2 : Int} {w : Tw} {G : Wd}, k14 l2 w → TwAt t ad w (G 2) → (∀ r, r ≠ 2 → G r = G0 r) → wp m_X4_outGoes 2 0 0 14 [some (vR (some (ad a0))), none, some (vI l2)] [] G (twQ t ad G0 (uV Q)) noX) {l2 : Int} {w : Tw} {G : Wd} (h : f_X4_outGoes_14_b a0 k14 l2 w Q) (hT : TwAt t ad w (G 2)) (hG : ∀ r, r ≠ 2 → G r = G0 r) : wp m_X4_outGoes 2 0 0 14 [some (vR (some (ad a0))), none, some (vI l2)] [] G (twQ t ad G0 (uV Q)) noX := by
  unfold f_X4_outGoes_14_b at h
  refine r_iload_n dX4_outGoes_14 rfl rfl iI ?_
  refine r_aload_n dX4_outGoes_15 rfl rfl iR ?_
  refine r_sipush dX4_outGoes_16 (by decide) ?_
  refine t_iald hT dX4_outGoes_19 hA_a0 (by decide) h (fun h => ?_)
  refine r_callS dX4_outGoes_20 (c_X4_outAt h hT hG) q2434 q2435 q117 q2436 yo_X4_outAt rfl (by decide) (by decide) rfl (rc1 c1I rc0) (by decide) (Nat.le_refl _) (Nat.le_refl _) (tofI fun x8 w7 G h hT hG => ?_) nox
  refine r_icmp_ge (tgt := 40) dX4_outGoes_23 (by decide) h (fun h => ?_) (fun h => ?_)
  · exact r_vret rfl dX4_outGoes_40 ⟨_, hT, hG, rfl, h⟩
  · refine r_aload_n dX4_outGoes_26 rfl rfl iR ?_
    refine r_iload_n dX4_outGoes_27 rfl rfl iI ?_
    refine r_aload_n dX4_outGoes_28 rfl rfl iR ?_
    refine r_iload_n dX4_outGoes_29 rfl rfl iI ?_
    refine r_iconst dX4_outGoes_30 ?_
    refine r_iadd dX4_outGoes_31 ?_
    refine t_iald hT dX4_outGoes_32 hA_a0 (by decide) h (fun h => ?_)
    refine t_iast hT hG dX4_outGoes_33 hA_a0 (by decide) h (fun w9 G h hT hG => ?_)
    refine r_iinc (L' := [some (vR (some (ad a0))), none, some (vI (l2 + 1))]) dX4_outGoes_34 rfl rfl cN (by decide) ?_
    refine r_goto (tgt := 14) dX4_outGoes_37 (by decide) ?_
    exact hk14 h hT hG
def f_X4_outGoes_14 (a0 : Nat) (Q : Tw → Prop) : Nat → Int → Tw → Prop
  | 0, _, _ => False
  | fl + 1, l2, w => f_X4_outGoes_14_b  a0  (fun l2 w => f_X4_outGoes_14  a0  Q fl l2 w) l2 w Q
theorem w_X4_outGoes_14 {t : Nat} {ad : Nat → Nat} {G0 : Wd} {a0 : Nat} (hA_a0 : (a0, 0, 844) ∈ twA) {Q : Tw → Prop} : ∀ (fl : Nat) {l2 : Int} {w : Tw} {G : Wd}, f_X4_outGoes_14 a0 Q fl l2 w → TwAt t ad w (G 2) → (∀ r, r ≠ 2 → G r = G0 r) → wp m_X4_outGoes 2 0 0 14 [some (vR (some (ad a0))), none, some (vI l2)] [] G (twQ t ad G0 (uV Q)) noX := by
  intro fl
  induction fl with
  | zero => intro l2 w G h; exact (show False from h).elim
  | succ fl ih => intro l2 w G h hT hG; exact w_X4_outGoes_14_b hA_a0  (fun h hT hG => ih h hT hG) h hT hG
def f_X4_outGoes (a0 : Nat) (a1 : Int) (w : Tw) (Q : Tw → Prop) : Prop :=
  rdA w a0 844 814 (fun _ => wrA w a0 844 814 ((w a0 814) - 1) (fun w10 => f_X4_outAt a1 w10 (fun x12 w11 => ∃ fl13, f_X4_outGoes_14 a0 Q fl13 x12 w11)))
theorem w_X4_outGoes {t : Nat} {ad : Nat → Nat} {G0 : Wd} {a0 : Nat} (hA_a0 : (a0, 0, 844) ∈ twA) {Q : Tw → Prop} {a1 : Int} {w : Tw} {G : Wd} (h : f_X4_outGoes a0 a1 w Q) (hT : TwAt t ad w (G 2)) (hG : ∀ r, r ≠ 2 → G r = G0 r) : wp m_X4_outGoes 2 0 0 0 [some (vR (some (ad a0))), some (vI a1), none] [] G (twQ t ad G0 (uV Q)) noX := by
  unfold f_X4_outGoes at h
  refine r_aload_n dX4_outGoes_0 rfl rfl iR ?_
  refine r_sipush dX4_outGoes_1 (by decide) ?_
  refine r_dup2 dX4_outGoes_4 c1I c1R ?_
  refine t_iald hT dX4_outGoes_5 hA_a0 (by decide) h (fun h => ?_)
  refine r_iconst dX4_outGoes_6 ?_
  refine r_isub dX4_outGoes_7 ?_
  refine t_iast hT hG dX4_outGoes_8 hA_a0 (by decide) h (fun w10 G h hT hG => ?_)
  refine r_iload_n dX4_outGoes_9 rfl rfl iI ?_
  refine r_callS dX4_outGoes_10 (c_X4_outAt h hT hG) q2434 q2435 q117 q2436 yo_X4_outAt rfl (by decide) (by decide) rfl rc0 (by decide) (Nat.le_refl _) (Nat.le_refl _) (tofI fun x12 w11 G h hT hG => ?_) nox
  refine r_istore_n (L' := [some (vR (some (ad a0))), some (vI a1), some (vI x12)]) dX4_outGoes_13 rfl rfl iI cI (by decide) ?_
  refine wp.locals (L' := [some (vR (some (ad a0))), none, some (vI x12)]) (ls_s (ls_n (ls_s ls_0))) ?_
  obtain ⟨fl13, h⟩ := h
  exact w_X4_outGoes_14 hA_a0 fl13 h hT hG
theorem c_X4_outGoes {t : Nat} {ad : Nat → Nat} {G0 : Wd} {a0 : Nat} {a1 : Int} (hA_a0 : (a0, 0, 844) ∈ twA) {Q : Tw → Prop} {w : Tw} {G : Wd} (h : f_X4_outGoes a0 a1 w Q) (hT : TwAt t ad w (G 2)) (hG : ∀ r, r ≠ 2 → G r = G0 r) : call yX4_outGoes (Cond.code yX4_outGoes cX4_outGoes 3 (none)) 2 0 0 [vR (some (ad a0)), vI a1] G (twQ t ad G0 (uV Q)) noX :=
  call.enter (by decide +kernel) (la_1 c1R (la_1 c1I (la_nil rfl))) rfl (w_X4_outGoes hA_a0 h hT hG)
abbrev m_X4_fetchedAll : Mt := (yX4_fetchedAll.cls, cX4_fetchedAll, 3, some .int, [], yX4_fetchedAll.name)
theorem yo_X4_fetchedAll : yOK yX4_fetchedAll 1 := ⟨by decide +kernel, by decide +kernel, by decide +kernel⟩
def f_X4_fetchedAll_4_b (a0 : Nat) (k4 : Int → Int → Tw → Prop) (l1 : Int) (l2 : Int) (w : Tw) (Q : Int → Tw → Prop) : Prop :=
  br l2 4 ((4 : Int) ≤ l2) (Q l1 w) (rdA w a0 844 (840 + l2) (fun _ => k4 (l1 + (w a0 (840 + l2))) (l2 + 1) w))
theorem w_X4_fetchedAll_4_b {t : Nat} {ad : Nat → Nat} {G0 : Wd} {a0 : Nat} (hA_a0 : (a0, 0, 844) ∈ twA) {Q : Int → Tw → Prop} {k4 : Int → Int → Tw → Prop} (hk4 : ∀ {l1 : Int} {l2 : Int} {w : Tw} {G : Wd}, k4 l1 l2 w → TwAt t ad w (G 2) → (∀ r, r ≠ 2 → G r = G0 r) → wp m_X4_fetchedAll 1 0 0 4 [some (vR (some (ad a0))), some (vI l1), some (vI l2)] [] G (twQ t ad G0 (uI Q)) noX) {l1 : Int} {l2 : Int} {w : Tw} {G : Wd} (h : f_X4_fetchedAll_4_b a0 k4 l1 l2 w Q) (hT : TwAt t ad w (G 2)) (hG : ∀ r, r ≠ 2 → G r = G0 r) : wp m_X4_fetchedAll 1 0 0 4 [some (vR (some (ad a0))), some (vI l1), some (vI l2)] [] G (twQ t ad G0 (uI Q)) noX := by
  unfold f_X4_fetchedAll_4_b at h
  refine r_iload_n dX4_fetchedAll_4 rfl rfl iI ?_
  refine r_iconst dX4_fetchedAll_5 ?_
  refine r_icmp_ge (tgt := 25) dX4_fetchedAll_6 (by decide) h (fun h => ?_) (fun h => ?_)
  · refine r_iload_n dX4_fetchedAll_25 rfl rfl iI ?_
    exact r_iret rfl dX4_fetchedAll_26 ⟨_, hT, hG, _, rfl, h⟩
  · refine r_iload_n dX4_fetchedAll_9 rfl rfl iI ?_
    refine r_aload_n dX4_fetchedAll_10 rfl rfl iR ?_
    refine r_sipush dX4_fetchedAll_11 (by decide) ?_
    refine r_iload_n dX4_fetchedAll_14 rfl rfl iI ?_
    refine r_iadd dX4_fetchedAll_15 ?_
    refine t_iald hT dX4_fetchedAll_16 hA_a0 (by decide) h (fun h => ?_)
    refine r_iadd dX4_fetchedAll_17 ?_
    refine r_istore_n (L' := [some (vR (some (ad a0))), some (vI (l1 + (w a0 (840 + l2)))), some (vI l2)]) dX4_fetchedAll_18 rfl rfl iI cR (by decide) ?_
    refine r_iinc (L' := [some (vR (some (ad a0))), some (vI (l1 + (w a0 (840 + l2)))), some (vI (l2 + 1))]) dX4_fetchedAll_19 rfl rfl cI (by decide) ?_
    refine r_goto (tgt := 4) dX4_fetchedAll_22 (by decide) ?_
    exact hk4 h hT hG
def f_X4_fetchedAll_4 (a0 : Nat) (Q : Int → Tw → Prop) : Nat → Int → Int → Tw → Prop
  | 0, _, _, _ => False
  | fl + 1, l1, l2, w => f_X4_fetchedAll_4_b  a0  (fun l1 l2 w => f_X4_fetchedAll_4  a0  Q fl l1 l2 w) l1 l2 w Q
theorem w_X4_fetchedAll_4 {t : Nat} {ad : Nat → Nat} {G0 : Wd} {a0 : Nat} (hA_a0 : (a0, 0, 844) ∈ twA) {Q : Int → Tw → Prop} : ∀ (fl : Nat) {l1 : Int} {l2 : Int} {w : Tw} {G : Wd}, f_X4_fetchedAll_4 a0 Q fl l1 l2 w → TwAt t ad w (G 2) → (∀ r, r ≠ 2 → G r = G0 r) → wp m_X4_fetchedAll 1 0 0 4 [some (vR (some (ad a0))), some (vI l1), some (vI l2)] [] G (twQ t ad G0 (uI Q)) noX := by
  intro fl
  induction fl with
  | zero => intro l1 l2 w G h; exact (show False from h).elim
  | succ fl ih => intro l1 l2 w G h hT hG; exact w_X4_fetchedAll_4_b hA_a0  (fun h hT hG => ih h hT hG) h hT hG
def f_X4_fetchedAll (a0 : Nat) (w : Tw) (Q : Int → Tw → Prop) : Prop :=
  ∃ fl1, f_X4_fetchedAll_4 a0 Q fl1 0 0 w
theorem w_X4_fetchedAll {t : Nat} {ad : Nat → Nat} {G0 : Wd} {a0 : Nat} (hA_a0 : (a0, 0, 844) ∈ twA) {Q : Int → Tw → Prop} {w : Tw} {G : Wd} (h : f_X4_fetchedAll a0 w Q) (hT : TwAt t ad w (G 2)) (hG : ∀ r, r ≠ 2 → G r = G0 r) : wp m_X4_fetchedAll 1 0 0 0 [some (vR (some (ad a0))), none, none] [] G (twQ t ad G0 (uI Q)) noX := by
  unfold f_X4_fetchedAll at h
  refine r_iconst dX4_fetchedAll_0 ?_
  refine r_istore_n (L' := [some (vR (some (ad a0))), some (vI 0), none]) dX4_fetchedAll_1 rfl rfl iI cR (by decide) ?_
  refine r_iconst dX4_fetchedAll_2 ?_
  refine r_istore_n (L' := [some (vR (some (ad a0))), some (vI 0), some (vI 0)]) dX4_fetchedAll_3 rfl rfl iI cI (by decide) ?_
  obtain ⟨fl1, h⟩ := h
  exact w_X4_fetchedAll_4 hA_a0 fl1 h hT hG
theorem c_X4_fetchedAll {t : Nat} {ad : Nat → Nat} {G0 : Wd} {a0 : Nat} (hA_a0 : (a0, 0, 844) ∈ twA) {Q : Int → Tw → Prop} {w : Tw} {G : Wd} (h : f_X4_fetchedAll a0 w Q) (hT : TwAt t ad w (G 2)) (hG : ∀ r, r ≠ 2 → G r = G0 r) : call yX4_fetchedAll (Cond.code yX4_fetchedAll cX4_fetchedAll 3 (some .int)) 1 0 0 [vR (some (ad a0))] G (twQ t ad G0 (uI Q)) noX :=
  call.enter (by decide +kernel) (la_1 c1R (la_nil rfl)) rfl (w_X4_fetchedAll hA_a0 h hT hG)
abbrev m_X4_hasWork : Mt := (yX4_hasWork.cls, cX4_hasWork, 2, some .boolean, [], yX4_hasWork.name)
theorem yo_X4_hasWork : yOK yX4_hasWork 2 := ⟨by decide +kernel, by decide +kernel, by decide +kernel⟩
def f_X4_hasWork (a0 : Nat) (a1 : Int) (w : Tw) (Q : Bool → Tw → Prop) : Prop :=
  f_X4_of a0 a1 2 w (fun x6 w5 => f_X4_of a0 a1 3 w5 (fun x8 w7 => br x6 x8 (x6 ≤ x8) (Q false w7) (Q true w7)))
theorem w_X4_hasWork {t : Nat} {ad : Nat → Nat} {G0 : Wd} {a0 : Nat} (hA_a0 : (a0, 0, 844) ∈ twA) {Q : Bool → Tw → Prop} {a1 : Int} {w : Tw} {G : Wd} (h : f_X4_hasWork a0 a1 w Q) (hT : TwAt t ad w (G 2)) (hG : ∀ r, r ≠ 2 → G r = G0 r) : wp m_X4_hasWork 2 0 0 0 [some (vR (some (ad a0))), some (vI a1)] [] G (twQ t ad G0 (uB Q)) noX := by
  unfold f_X4_hasWork at h
  refine r_aload_n dX4_hasWork_0 rfl rfl iR ?_
  refine r_iload_n dX4_hasWork_1 rfl rfl iI ?_
  refine r_iconst dX4_hasWork_2 ?_
  refine r_callS dX4_hasWork_3 (c_X4_of hA_a0 h hT hG) q2379 q2380 q117 q2381 yo_X4_of rfl (by decide) (by decide) rfl rc0 (by decide) (Nat.le_refl _) (Nat.le_refl _) (tofI fun x6 w5 G h hT hG => ?_) nox
  refine r_aload_n dX4_hasWork_6 rfl rfl iR ?_
  refine r_iload_n dX4_hasWork_7 rfl rfl iI ?_
  refine r_iconst dX4_hasWork_8 ?_
  refine r_callS dX4_hasWork_9 (c_X4_of hA_a0 h hT hG) q2379 q2380 q117 q2381 yo_X4_of rfl (by decide) (by decide) rfl (rc1 c1I rc0) (by decide) (Nat.le_refl _) (Nat.le_refl _) (tofI fun x8 w7 G h hT hG => ?_) nox
  refine r_icmp_le (tgt := 19) dX4_hasWork_12 (by decide) h (fun h => ?_) (fun h => ?_)
  · refine r_iconst dX4_hasWork_19 ?_
    refine wp.cast (st' := [vB false]) rfl (congrArg (fun q => [q]) vI0) ?_
    exact r_zret rfl dX4_hasWork_20 ⟨_, hT, hG, _, rfl, h⟩
  · refine r_iconst dX4_hasWork_15 ?_
    refine r_goto (tgt := 20) dX4_hasWork_16 (by decide) ?_
    refine wp.cast (st' := [vB true]) rfl (congrArg (fun q => [q]) vI1) ?_
    exact r_zret rfl dX4_hasWork_20 ⟨_, hT, hG, _, rfl, h⟩
theorem c_X4_hasWork {t : Nat} {ad : Nat → Nat} {G0 : Wd} {a0 : Nat} {a1 : Int} (hA_a0 : (a0, 0, 844) ∈ twA) {Q : Bool → Tw → Prop} {w : Tw} {G : Wd} (h : f_X4_hasWork a0 a1 w Q) (hT : TwAt t ad w (G 2)) (hG : ∀ r, r ≠ 2 → G r = G0 r) : call yX4_hasWork (Cond.code yX4_hasWork cX4_hasWork 2 (some .boolean)) 2 0 0 [vR (some (ad a0)), vI a1] G (twQ t ad G0 (uB Q)) noX :=
  call.enter (by decide +kernel) (la_1 c1R (la_1 c1I (la_nil rfl))) rfl (w_X4_hasWork hA_a0 h hT hG)
abbrev m_X4_behindLast : Mt := (yX4_behindLast.cls, cX4_behindLast, 5, some .int, [], yX4_behindLast.name)
theorem yo_X4_behindLast : yOK yX4_behindLast 2 := ⟨by decide +kernel, by decide +kernel, by decide +kernel⟩
def f_X4_behindLast_52 (a1 : Nat) (k2 : Int → Int → Tw → Prop) (l2 : Int) (l3 : Int) (w : Tw) (Q : Int → Tw → Prop) : Prop :=
  k2 l2 (l3 + 1) w
theorem w_X4_behindLast_52 {t : Nat} {ad : Nat → Nat} {G0 : Wd} {a1 : Nat} (hA_a1 : (a1, 0, 844) ∈ twA) {Q : Int → Tw → Prop} {k2 : Int → Int → Tw → Prop} (hk2 : ∀ {l2 : Int} {l3 : Int} {w : Tw} {G : Wd}, k2 l2 l3 w → TwAt t ad w (G 2) → (∀ r, r ≠ 2 → G r = G0 r) → wp m_X4_behindLast 3 0 0 2 [some (vR (some t)), some (vR (some (ad a1))), some (vI l2), some (vI l3), none] [] G (twQ t ad G0 (uI Q)) noX) {l2 : Int} {l3 : Int} {w : Tw} {G : Wd} (h : f_X4_behindLast_52 a1 k2 l2 l3 w Q) (hT : TwAt t ad w (G 2)) (hG : ∀ r, r ≠ 2 → G r = G0 r) : wp m_X4_behindLast 3 0 0 52 [some (vR (some t)), some (vR (some (ad a1))), some (vI l2), some (vI l3), none] [] G (twQ t ad G0 (uI Q)) noX := by
  unfold f_X4_behindLast_52 at h
  refine r_iinc (L' := [some (vR (some t)), some (vR (some (ad a1))), some (vI l2), some (vI (l3 + 1)), none]) dX4_behindLast_52 rfl rfl cI (by decide) ?_
  refine r_goto (tgt := 2) dX4_behindLast_55 (by decide) ?_
  exact hk2 h hT hG
def f_X4_behindLast_2_b (a1 : Nat) (k2 : Int → Int → Tw → Prop) (l2 : Int) (l3 : Int) (w : Tw) (Q : Int → Tw → Prop) : Prop :=
  br l3 5 ((5 : Int) < l3) (Q (-1) w) (rdA w a1 844 (822 + l2) (fun _ => okm ((w a1 (822 + l2)) + l3) 5 (f_X4_isQueue (((w a1 (822 + l2)) + l3) % 5) w (fun x10 w9 => brB x10 (rdA w9 18 5 (((w a1 (822 + l2)) + l3) % 5) (fun _ => br (w9 18 (((w a1 (822 + l2)) + l3) % 5)) l2 (¬ (w9 18 (((w a1 (822 + l2)) + l3) % 5)) = l2) (f_X4_behindLast_52 a1 k2 l2 l3 w9 Q) (f_X4_hasWork a1 (((w a1 (822 + l2)) + l3) % 5) w9 (fun x12 w11 => brB x12 (Q (((w a1 (822 + l2)) + l3) % 5) w11) (f_X4_behindLast_52 a1 k2 l2 l3 w11 Q))))) (f_X4_behindLast_52 a1 k2 l2 l3 w9 Q)))))
theorem w_X4_behindLast_2_b {t : Nat} {ad : Nat → Nat} {G0 : Wd} {a1 : Nat} (hA_a1 : (a1, 0, 844) ∈ twA) {Q : Int → Tw → Prop} {k2 : Int → Int → Tw → Prop} (hk2 : ∀ {l2 : Int} {l3 : Int} {w : Tw} {G : Wd}, k2 l2 l3 w → TwAt t ad w (G 2) → (∀ r, r ≠ 2 → G r = G0 r) → wp m_X4_behindLast 3 0 0 2 [some (vR (some t)), some (vR (some (ad a1))), some (vI l2), some (vI l3), none] [] G (twQ t ad G0 (uI Q)) noX) {l2 : Int} {l3 : Int} {w : Tw} {G : Wd} (h : f_X4_behindLast_2_b a1 k2 l2 l3 w Q) (hT : TwAt t ad w (G 2)) (hG : ∀ r, r ≠ 2 → G r = G0 r) : wp m_X4_behindLast 3 0 0 2 [some (vR (some t)), some (vR (some (ad a1))), some (vI l2), some (vI l3), none] [] G (twQ t ad G0 (uI Q)) noX := by
  unfold f_X4_behindLast_2_b at h
  refine r_iload_n dX4_behindLast_2 rfl rfl iI ?_
  refine r_iconst dX4_behindLast_3 ?_
  refine r_icmp_gt (tgt := 58) dX4_behindLast_4 (by decide) h (fun h => ?_) (fun h => ?_)
  · refine r_iconst dX4_behindLast_58 ?_
    exact r_iret rfl dX4_behindLast_59 ⟨_, hT, hG, _, rfl, h⟩
  · refine r_aload_n dX4_behindLast_7 rfl rfl iR ?_
    refine r_sipush dX4_behindLast_8 (by decide) ?_
    refine r_iload_n dX4_behindLast_11 rfl rfl iI ?_
    refine r_iadd dX4_behindLast_12 ?_
    refine t_iald hT dX4_behindLast_13 hA_a1 (by decide) h (fun h => ?_)
    refine r_iload_n dX4_behindLast_14 rfl rfl iI ?_
    refine r_iadd dX4_behindLast_15 ?_
    refine r_iconst dX4_behindLast_16 ?_
    refine r_irem dX4_behindLast_17 h (fun h => ?_)
    refine r_istore (L' := [some (vR (some t)), some (vR (some (ad a1))), some (vI l2), some (vI l3), some (vI (((w a1 (822 + l2)) + l3) % 5))]) dX4_behindLast_18 rfl iI cI (by decide) ?_
    refine r_aload_n dX4_behindLast_20 rfl rfl iR ?_
    refine r_iload dX4_behindLast_21 rfl iI ?_
    refine r_callV dX4_behindLast_23 (tisC hT) (c_X4_isQueue h hT hG) q2370 q2372 qs52 q117 q2373 rfl yo_X4_isQueue rfl (by decide) (by decide) rfl rc0 (by decide) (Nat.le_refl _) (Nat.le_refl _) (tofB fun x10 w9 G h hT hG => ?_) nox
    refine r_ifZ_eq (tgt := 52) dX4_behindLast_26 (by decide) h (fun h => ?_) (fun h => ?_)
    · refine wp.locals (L' := [some (vR (some t)), some (vR (some (ad a1))), some (vI l2), some (vI l3), none]) (ls_s (ls_s (ls_s (ls_s (ls_n ls_0))))) ?_
      exact w_X4_behindLast_52 hA_a1 hk2 h hT hG
    · refine r_aload_n dX4_behindLast_29 rfl rfl iR ?_
      refine t_getA (j := 18) hT dX4_behindLast_30 (fg1 (f := 18) fX4 (by decide) q2239 rfl) rfl ?_
      refine r_iload dX4_behindLast_33 rfl iI ?_
      refine t_iald hT dX4_behindLast_35 tA18 (by decide) h (fun h => ?_)
      refine r_iload_n dX4_behindLast_36 rfl rfl iI ?_
      refine r_icmp_ne (tgt := 52) dX4_behindLast_37 (by decide) h (fun h => ?_) (fun h => ?_)
      · refine wp.locals (L' := [some (vR (some t)), some (vR (some (ad a1))), some (vI l2), some (vI l3), none]) (ls_s (ls_s (ls_s (ls_s (ls_n ls_0))))) ?_
        exact w_X4_behindLast_52 hA_a1 hk2 h hT hG
      · refine r_aload_n dX4_behindLast_40 rfl rfl iR ?_
        refine r_iload dX4_behindLast_41 rfl iI ?_
        refine r_callS dX4_behindLast_43 (c_X4_hasWork hA_a1 h hT hG) q2499 q2500 q117 q2501 yo_X4_hasWork rfl (by decide) (by decide) rfl rc0 (by decide) (Nat.le_refl _) (Nat.le_refl _) (tofB fun x12 w11 G h hT hG => ?_) nox
        refine r_ifZ_eq (tgt := 52) dX4_behindLast_46 (by decide) h (fun h => ?_) (fun h => ?_)
        · refine wp.locals (L' := [some (vR (some t)), some (vR (some (ad a1))), some (vI l2), some (vI l3), none]) (ls_s (ls_s (ls_s (ls_s (ls_n ls_0))))) ?_
          exact w_X4_behindLast_52 hA_a1 hk2 h hT hG
        · refine r_iload dX4_behindLast_49 rfl iI ?_
          exact r_iret rfl dX4_behindLast_51 ⟨_, hT, hG, _, rfl, h⟩
def f_X4_behindLast_2 (a1 : Nat) (Q : Int → Tw → Prop) : Nat → Int → Int → Tw → Prop
  | 0, _, _, _ => False
  | fl + 1, l2, l3, w => f_X4_behindLast_2_b  a1  (fun l2 l3 w => f_X4_behindLast_2  a1  Q fl l2 l3 w) l2 l3 w Q
theorem w_X4_behindLast_2 {t : Nat} {ad : Nat → Nat} {G0 : Wd} {a1 : Nat} (hA_a1 : (a1, 0, 844) ∈ twA) {Q : Int → Tw → Prop} : ∀ (fl : Nat) {l2 : Int} {l3 : Int} {w : Tw} {G : Wd}, f_X4_behindLast_2 a1 Q fl l2 l3 w → TwAt t ad w (G 2) → (∀ r, r ≠ 2 → G r = G0 r) → wp m_X4_behindLast 3 0 0 2 [some (vR (some t)), some (vR (some (ad a1))), some (vI l2), some (vI l3), none] [] G (twQ t ad G0 (uI Q)) noX := by
  intro fl
  induction fl with
  | zero => intro l2 l3 w G h; exact (show False from h).elim
  | succ fl ih => intro l2 l3 w G h hT hG; exact w_X4_behindLast_2_b hA_a1  (fun h hT hG => ih h hT hG) h hT hG
def f_X4_behindLast (a1 : Nat) (a2 : Int) (w : Tw) (Q : Int → Tw → Prop) : Prop :=
  ∃ fl13, f_X4_behindLast_2 a1 Q fl13 a2 1 w
theorem w_X4_behindLast {t : Nat} {ad : Nat → Nat} {G0 : Wd} {a1 : Nat} (hA_a1 : (a1, 0, 844) ∈ twA) {Q : Int → Tw → Prop} {a2 : Int} {w : Tw} {G : Wd} (h : f_X4_behindLast a1 a2 w Q) (hT : TwAt t ad w (G 2)) (hG : ∀ r, r ≠ 2 → G r = G0 r) : wp m_X4_behindLast 3 0 0 0 [some (vR (some t)), some (vR (some (ad a1))), some (vI a2), none, none] [] G (twQ t ad G0 (uI Q)) noX := by
  unfold f_X4_behindLast at h
  refine r_iconst dX4_behindLast_0 ?_
  refine r_istore_n (L' := [some (vR (some t)), some (vR (some (ad a1))), some (vI a2), some (vI 1), none]) dX4_behindLast_1 rfl rfl iI cI (by decide) ?_
  obtain ⟨fl13, h⟩ := h
  exact w_X4_behindLast_2 hA_a1 fl13 h hT hG
theorem c_X4_behindLast {t : Nat} {ad : Nat → Nat} {G0 : Wd} {a1 : Nat} {a2 : Int} (hA_a1 : (a1, 0, 844) ∈ twA) {Q : Int → Tw → Prop} {w : Tw} {G : Wd} (h : f_X4_behindLast a1 a2 w Q) (hT : TwAt t ad w (G 2)) (hG : ∀ r, r ≠ 2 → G r = G0 r) : call yX4_behindLast (Cond.code yX4_behindLast cX4_behindLast 5 (some .int)) 3 0 0 [vR (some t), vR (some (ad a1)), vI a2] G (twQ t ad G0 (uI Q)) noX :=
  call.enter (by decide +kernel) (la_1 c1R (la_1 c1R (la_1 c1I (la_nil rfl)))) rfl (w_X4_behindLast hA_a1 h hT hG)
abbrev m_X4_creditClass : Mt := (yX4_creditClass.cls, cX4_creditClass, 3, some .int, [], yX4_creditClass.name)
theorem yo_X4_creditClass : yOK yX4_creditClass 1 := ⟨by decide +kernel, by decide +kernel, by decide +kernel⟩
def f_X4_creditClass_28 (a1 : Nat) (k2 : Int → Tw → Prop) (l2 : Int) (w : Tw) (Q : Int → Tw → Prop) : Prop :=
  k2 (l2 + 1) w
theorem w_X4_creditClass_28 {t : Nat} {ad : Nat → Nat} {G0 : Wd} {a1 : Nat} (hA_a1 : (a1, 0, 844) ∈ twA) {Q : Int → Tw → Prop} {k2 : Int → Tw → Prop} (hk2 : ∀ {l2 : Int} {w : Tw} {G : Wd}, k2 l2 w → TwAt t ad w (G 2) → (∀ r, r ≠ 2 → G r = G0 r) → wp m_X4_creditClass 4 0 0 2 [some (vR (some t)), some (vR (some (ad a1))), some (vI l2)] [] G (twQ t ad G0 (uI Q)) noX) {l2 : Int} {w : Tw} {G : Wd} (h : f_X4_creditClass_28 a1 k2 l2 w Q) (hT : TwAt t ad w (G 2)) (hG : ∀ r, r ≠ 2 → G r = G0 r) : wp m_X4_creditClass 4 0 0 28 [some (vR (some t)), some (vR (some (ad a1))), some (vI l2)] [] G (twQ t ad G0 (uI Q)) noX := by
  unfold f_X4_creditClass_28 at h
  refine r_iinc (L' := [some (vR (some t)), some (vR (some (ad a1))), some (vI (l2 + 1))]) dX4_creditClass_28 rfl rfl cR (by decide) ?_
  refine r_goto (tgt := 2) dX4_creditClass_31 (by decide) ?_
  exact hk2 h hT hG
def f_X4_creditClass_2_b (a1 : Nat) (k2 : Int → Tw → Prop) (l2 : Int) (w : Tw) (Q : Int → Tw → Prop) : Prop :=
  br l2 4 ((4 : Int) ≤ l2) (Q (-1) w) (rdA w a1 844 (818 + l2) (fun _ => br0 (w a1 (818 + l2)) ((w a1 (818 + l2)) ≤ 0) (f_X4_creditClass_28 a1 k2 l2 w Q) (f_X4_behindLast a1 l2 w (fun x6 w5 => br0 x6 (x6 < 0) (f_X4_creditClass_28 a1 k2 l2 w5 Q) (Q l2 w5)))))
theorem w_X4_creditClass_2_b {t : Nat} {ad : Nat → Nat} {G0 : Wd} {a1 : Nat} (hA_a1 : (a1, 0, 844) ∈ twA) {Q : Int → Tw → Prop} {k2 : Int → Tw → Prop} (hk2 : ∀ {l2 : Int} {w : Tw} {G : Wd}, k2 l2 w → TwAt t ad w (G 2) → (∀ r, r ≠ 2 → G r = G0 r) → wp m_X4_creditClass 4 0 0 2 [some (vR (some t)), some (vR (some (ad a1))), some (vI l2)] [] G (twQ t ad G0 (uI Q)) noX) {l2 : Int} {w : Tw} {G : Wd} (h : f_X4_creditClass_2_b a1 k2 l2 w Q) (hT : TwAt t ad w (G 2)) (hG : ∀ r, r ≠ 2 → G r = G0 r) : wp m_X4_creditClass 4 0 0 2 [some (vR (some t)), some (vR (some (ad a1))), some (vI l2)] [] G (twQ t ad G0 (uI Q)) noX := by
  unfold f_X4_creditClass_2_b at h
  refine r_iload_n dX4_creditClass_2 rfl rfl iI ?_
  refine r_iconst dX4_creditClass_3 ?_
  refine r_icmp_ge (tgt := 34) dX4_creditClass_4 (by decide) h (fun h => ?_) (fun h => ?_)
  · refine r_iconst dX4_creditClass_34 ?_
    exact r_iret rfl dX4_creditClass_35 ⟨_, hT, hG, _, rfl, h⟩
  · refine r_aload_n dX4_creditClass_7 rfl rfl iR ?_
    refine r_sipush dX4_creditClass_8 (by decide) ?_
    refine r_iload_n dX4_creditClass_11 rfl rfl iI ?_
    refine r_iadd dX4_creditClass_12 ?_
    refine t_iald hT dX4_creditClass_13 hA_a1 (by decide) h (fun h => ?_)
    refine r_if_le (tgt := 28) dX4_creditClass_14 (by decide) h (fun h => ?_) (fun h => ?_)
    · exact w_X4_creditClass_28 hA_a1 hk2 h hT hG
    · refine r_aload_n dX4_creditClass_17 rfl rfl iR ?_
      refine r_aload_n dX4_creditClass_18 rfl rfl iR ?_
      refine r_iload_n dX4_creditClass_19 rfl rfl iI ?_
      refine r_callV dX4_creditClass_20 (tisC hT) (c_X4_behindLast hA_a1 h hT hG) q2510 q2512 qs66 q117 q2513 rfl yo_X4_behindLast rfl (by decide) (by decide) rfl rc0 (by decide) (Nat.le_refl _) (Nat.le_refl _) (tofI fun x6 w5 G h hT hG => ?_) nox
      refine r_if_lt (tgt := 28) dX4_creditClass_23 (by decide) h (fun h => ?_) (fun h => ?_)
      · exact w_X4_creditClass_28 hA_a1 hk2 h hT hG
      · refine r_iload_n dX4_creditClass_26 rfl rfl iI ?_
        exact r_iret rfl dX4_creditClass_27 ⟨_, hT, hG, _, rfl, h⟩
def f_X4_creditClass_2 (a1 : Nat) (Q : Int → Tw → Prop) : Nat → Int → Tw → Prop
  | 0, _, _ => False
  | fl + 1, l2, w => f_X4_creditClass_2_b  a1  (fun l2 w => f_X4_creditClass_2  a1  Q fl l2 w) l2 w Q
theorem w_X4_creditClass_2 {t : Nat} {ad : Nat → Nat} {G0 : Wd} {a1 : Nat} (hA_a1 : (a1, 0, 844) ∈ twA) {Q : Int → Tw → Prop} : ∀ (fl : Nat) {l2 : Int} {w : Tw} {G : Wd}, f_X4_creditClass_2 a1 Q fl l2 w → TwAt t ad w (G 2) → (∀ r, r ≠ 2 → G r = G0 r) → wp m_X4_creditClass 4 0 0 2 [some (vR (some t)), some (vR (some (ad a1))), some (vI l2)] [] G (twQ t ad G0 (uI Q)) noX := by
  intro fl
  induction fl with
  | zero => intro l2 w G h; exact (show False from h).elim
  | succ fl ih => intro l2 w G h hT hG; exact w_X4_creditClass_2_b hA_a1  (fun h hT hG => ih h hT hG) h hT hG
def f_X4_creditClass (a1 : Nat) (w : Tw) (Q : Int → Tw → Prop) : Prop :=
  ∃ fl7, f_X4_creditClass_2 a1 Q fl7 1 w
theorem w_X4_creditClass {t : Nat} {ad : Nat → Nat} {G0 : Wd} {a1 : Nat} (hA_a1 : (a1, 0, 844) ∈ twA) {Q : Int → Tw → Prop} {w : Tw} {G : Wd} (h : f_X4_creditClass a1 w Q) (hT : TwAt t ad w (G 2)) (hG : ∀ r, r ≠ 2 → G r = G0 r) : wp m_X4_creditClass 4 0 0 0 [some (vR (some t)), some (vR (some (ad a1))), none] [] G (twQ t ad G0 (uI Q)) noX := by
  unfold f_X4_creditClass at h
  refine r_iconst dX4_creditClass_0 ?_
  refine r_istore_n (L' := [some (vR (some t)), some (vR (some (ad a1))), some (vI 1)]) dX4_creditClass_1 rfl rfl iI cR (by decide) ?_
  obtain ⟨fl7, h⟩ := h
  exact w_X4_creditClass_2 hA_a1 fl7 h hT hG
theorem c_X4_creditClass {t : Nat} {ad : Nat → Nat} {G0 : Wd} {a1 : Nat} (hA_a1 : (a1, 0, 844) ∈ twA) {Q : Int → Tw → Prop} {w : Tw} {G : Wd} (h : f_X4_creditClass a1 w Q) (hT : TwAt t ad w (G 2)) (hG : ∀ r, r ≠ 2 → G r = G0 r) : call yX4_creditClass (Cond.code yX4_creditClass cX4_creditClass 3 (some .int)) 4 0 0 [vR (some t), vR (some (ad a1))] G (twQ t ad G0 (uI Q)) noX :=
  call.enter (by decide +kernel) (la_1 c1R (la_1 c1R (la_nil rfl))) rfl (w_X4_creditClass hA_a1 h hT hG)
abbrev m_X4_fetchedOf : Mt := (yX4_fetchedOf.cls, cX4_fetchedOf, 4, some .int, [], yX4_fetchedOf.name)
theorem yo_X4_fetchedOf : yOK yX4_fetchedOf 2 := ⟨by decide +kernel, by decide +kernel, by decide +kernel⟩
def f_X4_fetchedOf (a1 : Nat) (a2 : Int) (w : Tw) (Q : Int → Tw → Prop) : Prop :=
  f_X4_of a1 a2 3 w (fun x10 w9 => f_X4_ringAt a2 x10 w9 (fun x12 w11 => f_X4_of a1 a2 3 w11 (fun x14 w13 => f_X4_sets a1 a2 3 (x14 + 1) w13 (fun w15 => rdA w15 18 5 a2 (fun _ => rdA w15 a1 844 (840 + (w15 18 a2)) (fun _ => wrA w15 a1 844 (840 + (w15 18 a2)) ((w15 a1 (840 + (w15 18 a2))) + 1) (fun w16 => Q x12 w16)))))))
theorem w_X4_fetchedOf {t : Nat} {ad : Nat → Nat} {G0 : Wd} {a1 : Nat} (hA_a1 : (a1, 0, 844) ∈ twA) {Q : Int → Tw → Prop} {a2 : Int} {w : Tw} {G : Wd} (h : f_X4_fetchedOf a1 a2 w Q) (hT : TwAt t ad w (G 2)) (hG : ∀ r, r ≠ 2 → G r = G0 r) : wp m_X4_fetchedOf 2 0 0 0 [some (vR (some t)), some (vR (some (ad a1))), some (vI a2), none] [] G (twQ t ad G0 (uI Q)) noX := by
  unfold f_X4_fetchedOf at h
  refine r_iload_n dX4_fetchedOf_0 rfl rfl iI ?_
  refine r_aload_n dX4_fetchedOf_1 rfl rfl iR ?_
  refine r_iload_n dX4_fetchedOf_2 rfl rfl iI ?_
  refine r_iconst dX4_fetchedOf_3 ?_
  refine r_callS dX4_fetchedOf_4 (c_X4_of hA_a1 h hT hG) q2379 q2380 q117 q2381 yo_X4_of rfl (by decide) (by decide) rfl (rc1 c1I rc0) (by decide) (Nat.le_refl _) (Nat.le_refl _) (tofI fun x10 w9 G h hT hG => ?_) nox
  refine r_callS dX4_fetchedOf_7 (c_X4_ringAt h hT hG) q2419 q2420 q117 q2421 yo_X4_ringAt rfl (by decide) (by decide) rfl rc0 (by decide) (Nat.le_refl _) (Nat.le_refl _) (tofI fun x12 w11 G h hT hG => ?_) nox
  refine r_istore_n (L' := [some (vR (some t)), some (vR (some (ad a1))), some (vI a2), some (vI x12)]) dX4_fetchedOf_10 rfl rfl iI cI (by decide) ?_
  refine r_aload_n dX4_fetchedOf_11 rfl rfl iR ?_
  refine r_iload_n dX4_fetchedOf_12 rfl rfl iI ?_
  refine r_iconst dX4_fetchedOf_13 ?_
  refine r_aload_n dX4_fetchedOf_14 rfl rfl iR ?_
  refine r_iload_n dX4_fetchedOf_15 rfl rfl iI ?_
  refine r_iconst dX4_fetchedOf_16 ?_
  refine r_callS dX4_fetchedOf_17 (c_X4_of hA_a1 h hT hG) q2379 q2380 q117 q2381 yo_X4_of rfl (by decide) (by decide) rfl (rc1 c1I (rc1 c1I (rc1 c1R rc0))) (by decide) (Nat.le_refl _) (Nat.le_refl _) (tofI fun x14 w13 G h hT hG => ?_) nox
  refine r_iconst dX4_fetchedOf_20 ?_
  refine r_iadd dX4_fetchedOf_21 ?_
  refine r_callS dX4_fetchedOf_22 (c_X4_sets hA_a1 h hT hG) q2443 q2444 q117 q2445 yo_X4_sets rfl (by decide) (by decide) rfl rc0 (by decide) (Nat.le_refl _) (Nat.le_refl _) (tofV fun w15 G h hT hG => ?_) nox
  refine r_aload_n dX4_fetchedOf_25 rfl rfl iR ?_
  refine r_sipush dX4_fetchedOf_26 (by decide) ?_
  refine r_aload_n dX4_fetchedOf_29 rfl rfl iR ?_
  refine t_getA (j := 18) hT dX4_fetchedOf_30 (fg1 (f := 18) fX4 (by decide) q2239 rfl) rfl ?_
  refine r_iload_n dX4_fetchedOf_33 rfl rfl iI ?_
  refine t_iald hT dX4_fetchedOf_34 tA18 (by decide) h (fun h => ?_)
  refine r_iadd dX4_fetchedOf_35 ?_
  refine r_dup2 dX4_fetchedOf_36 c1I c1R ?_
  refine t_iald hT dX4_fetchedOf_37 hA_a1 (by decide) h (fun h => ?_)
  refine r_iconst dX4_fetchedOf_38 ?_
  refine r_iadd dX4_fetchedOf_39 ?_
  refine t_iast hT hG dX4_fetchedOf_40 hA_a1 (by decide) h (fun w16 G h hT hG => ?_)
  refine r_iload_n dX4_fetchedOf_41 rfl rfl iI ?_
  exact r_iret rfl dX4_fetchedOf_42 ⟨_, hT, hG, _, rfl, h⟩
theorem c_X4_fetchedOf {t : Nat} {ad : Nat → Nat} {G0 : Wd} {a1 : Nat} {a2 : Int} (hA_a1 : (a1, 0, 844) ∈ twA) {Q : Int → Tw → Prop} {w : Tw} {G : Wd} (h : f_X4_fetchedOf a1 a2 w Q) (hT : TwAt t ad w (G 2)) (hG : ∀ r, r ≠ 2 → G r = G0 r) : call yX4_fetchedOf (Cond.code yX4_fetchedOf cX4_fetchedOf 4 (some .int)) 2 0 0 [vR (some t), vR (some (ad a1)), vI a2] G (twQ t ad G0 (uI Q)) noX :=
  call.enter (by decide +kernel) (la_1 c1R (la_1 c1R (la_1 c1I (la_nil rfl)))) rfl (w_X4_fetchedOf hA_a1 h hT hG)
abbrev m_X4_worked : Mt := (yX4_worked.cls, cX4_worked, 3, some .int, [], yX4_worked.name)
theorem yo_X4_worked : yOK yX4_worked 3 := ⟨by decide +kernel, by decide +kernel, by decide +kernel⟩
def f_X4_worked_78 (s0 : Bool) (w : Tw) (Q : Int → Tw → Prop) : Prop :=
  f_X4_flag s0 w (fun x8 w7 => Q x8 w7)
theorem w_X4_worked_78 {t : Nat} {ad : Nat → Nat} {G0 : Wd} {Q : Int → Tw → Prop} {s0 : Bool} {w : Tw} {G : Wd} (h : f_X4_worked_78 s0 w Q) (hT : TwAt t ad w (G 2)) (hG : ∀ r, r ≠ 2 → G r = G0 r) : wp m_X4_worked 2 0 0 78 [none, none, none] [vB s0] G (twQ t ad G0 (uI Q)) noX := by
  unfold f_X4_worked_78 at h
  refine r_callS dX4_worked_78 (c_X4_flag h hT hG) q2162 q2163 q117 q2164 yo_X4_flag rfl (by decide) (by decide) rfl rc0 (by decide) (Nat.le_refl _) (Nat.le_refl _) (tofI fun x8 w7 G h hT hG => ?_) nox
  exact r_iret rfl dX4_worked_81 ⟨_, hT, hG, _, rfl, h⟩
def f_X4_worked_64 (s0 : Bool) (w : Tw) (Q : Int → Tw → Prop) : Prop :=
  f_X4_flag s0 w (fun x10 w9 => Q x10 w9)
theorem w_X4_worked_64 {t : Nat} {ad : Nat → Nat} {G0 : Wd} {Q : Int → Tw → Prop} {s0 : Bool} {w : Tw} {G : Wd} (h : f_X4_worked_64 s0 w Q) (hT : TwAt t ad w (G 2)) (hG : ∀ r, r ≠ 2 → G r = G0 r) : wp m_X4_worked 2 0 0 64 [none, none, none] [vB s0] G (twQ t ad G0 (uI Q)) noX := by
  unfold f_X4_worked_64 at h
  refine r_callS dX4_worked_64 (c_X4_flag h hT hG) q2162 q2163 q117 q2164 yo_X4_flag rfl (by decide) (by decide) rfl rc0 (by decide) (Nat.le_refl _) (Nat.le_refl _) (tofI fun x10 w9 G h hT hG => ?_) nox
  exact r_iret rfl dX4_worked_67 ⟨_, hT, hG, _, rfl, h⟩
def f_X4_worked_50 (s0 : Bool) (w : Tw) (Q : Int → Tw → Prop) : Prop :=
  f_X4_flag s0 w (fun x12 w11 => Q x12 w11)
theorem w_X4_worked_50 {t : Nat} {ad : Nat → Nat} {G0 : Wd} {Q : Int → Tw → Prop} {s0 : Bool} {w : Tw} {G : Wd} (h : f_X4_worked_50 s0 w Q) (hT : TwAt t ad w (G 2)) (hG : ∀ r, r ≠ 2 → G r = G0 r) : wp m_X4_worked 2 0 0 50 [none, none, none] [vB s0] G (twQ t ad G0 (uI Q)) noX := by
  unfold f_X4_worked_50 at h
  refine r_callS dX4_worked_50 (c_X4_flag h hT hG) q2162 q2163 q117 q2164 yo_X4_flag rfl (by decide) (by decide) rfl rc0 (by decide) (Nat.le_refl _) (Nat.le_refl _) (tofI fun x12 w11 G h hT hG => ?_) nox
  exact r_iret rfl dX4_worked_53 ⟨_, hT, hG, _, rfl, h⟩
def f_X4_worked (a0 : Int) (a1 : Int) (a2 : Int) (w : Tw) (Q : Int → Tw → Prop) : Prop :=
  ok32 a0 (swc a0 0 (br a1 a2 (a2 ≤ a1) (f_X4_worked_50 false w Q) (f_X4_worked_50 true w Q)) (swc a0 1 (br a1 a2 (a1 ≤ a2) (f_X4_worked_64 false w Q) (f_X4_worked_64 true w Q)) (swc a0 2 (br a1 a2 (¬ a1 = a2) (f_X4_worked_78 false w Q) (f_X4_worked_78 true w Q)) (swc a0 3 (Q (wr (a1 + a2)) w) (swc a0 4 (Q (wr (a1 - a2)) w) (swc a0 5 (Q (wr (a1 * a2)) w) (br0 a2 (¬ a2 = 0) (okd a1 a2 (Q (wr (a1.tdiv a2)) w)) (Q 0 w))))))))
theorem w_X4_worked {t : Nat} {ad : Nat → Nat} {G0 : Wd} {Q : Int → Tw → Prop} {a0 : Int} {a1 : Int} {a2 : Int} {w : Tw} {G : Wd} (h : f_X4_worked a0 a1 a2 w Q) (hT : TwAt t ad w (G 2)) (hG : ∀ r, r ≠ 2 → G r = G0 r) : wp m_X4_worked 2 0 0 0 [some (vI a0), some (vI a1), some (vI a2)] [] G (twQ t ad G0 (uI Q)) noX := by
  unfold f_X4_worked at h
  refine r_iload_n dX4_worked_0 rfl rfl iI ?_
  obtain ⟨hr, h⟩ := h
  refine r_swc h (fun e0 h => ?_) (fun e0 h => ?_)
  · refine r_tsIn (tgt := 40) dX4_worked_1 hr e0 (by decide) (by decide) rfl (by decide) ?_
    refine r_iload_n dX4_worked_40 rfl rfl iI ?_
    refine r_iload_n dX4_worked_41 rfl rfl iI ?_
    refine r_icmp_ge (tgt := 49) dX4_worked_42 (by decide) h (fun h => ?_) (fun h => ?_)
    · refine r_iconst dX4_worked_49 ?_
      refine wp.cast (st' := [vB false]) rfl (congrArg (fun q => [q]) vI0) ?_
      refine wp.locals (L' := [none, none, none]) (ls_n (ls_n (ls_n ls_0))) ?_
      exact w_X4_worked_50 h hT hG
    · refine r_iconst dX4_worked_45 ?_
      refine r_goto (tgt := 50) dX4_worked_46 (by decide) ?_
      refine wp.cast (st' := [vB true]) rfl (congrArg (fun q => [q]) vI1) ?_
      refine wp.locals (L' := [none, none, none]) (ls_n (ls_n (ls_n ls_0))) ?_
      exact w_X4_worked_50 h hT hG
  · refine r_swc h (fun e1 h => ?_) (fun e1 h => ?_)
    · refine r_tsIn (tgt := 54) dX4_worked_1 hr e1 (by decide) (by decide) rfl (by decide) ?_
      refine r_iload_n dX4_worked_54 rfl rfl iI ?_
      refine r_iload_n dX4_worked_55 rfl rfl iI ?_
      refine r_icmp_le (tgt := 63) dX4_worked_56 (by decide) h (fun h => ?_) (fun h => ?_)
      · refine r_iconst dX4_worked_63 ?_
        refine wp.cast (st' := [vB false]) rfl (congrArg (fun q => [q]) vI0) ?_
        refine wp.locals (L' := [none, none, none]) (ls_n (ls_n (ls_n ls_0))) ?_
        exact w_X4_worked_64 h hT hG
      · refine r_iconst dX4_worked_59 ?_
        refine r_goto (tgt := 64) dX4_worked_60 (by decide) ?_
        refine wp.cast (st' := [vB true]) rfl (congrArg (fun q => [q]) vI1) ?_
        refine wp.locals (L' := [none, none, none]) (ls_n (ls_n (ls_n ls_0))) ?_
        exact w_X4_worked_64 h hT hG
    · refine r_swc h (fun e2 h => ?_) (fun e2 h => ?_)
      · refine r_tsIn (tgt := 68) dX4_worked_1 hr e2 (by decide) (by decide) rfl (by decide) ?_
        refine r_iload_n dX4_worked_68 rfl rfl iI ?_
        refine r_iload_n dX4_worked_69 rfl rfl iI ?_
        refine r_icmp_ne (tgt := 77) dX4_worked_70 (by decide) h (fun h => ?_) (fun h => ?_)
        · refine r_iconst dX4_worked_77 ?_
          refine wp.cast (st' := [vB false]) rfl (congrArg (fun q => [q]) vI0) ?_
          refine wp.locals (L' := [none, none, none]) (ls_n (ls_n (ls_n ls_0))) ?_
          exact w_X4_worked_78 h hT hG
        · refine r_iconst dX4_worked_73 ?_
          refine r_goto (tgt := 78) dX4_worked_74 (by decide) ?_
          refine wp.cast (st' := [vB true]) rfl (congrArg (fun q => [q]) vI1) ?_
          refine wp.locals (L' := [none, none, none]) (ls_n (ls_n (ls_n ls_0))) ?_
          exact w_X4_worked_78 h hT hG
      · refine r_swc h (fun e3 h => ?_) (fun e3 h => ?_)
        · refine r_tsIn (tgt := 82) dX4_worked_1 hr e3 (by decide) (by decide) rfl (by decide) ?_
          refine r_iload_n dX4_worked_82 rfl rfl iI ?_
          refine r_iload_n dX4_worked_83 rfl rfl iI ?_
          refine r_iaddW dX4_worked_84 ?_
          exact r_iret rfl dX4_worked_85 ⟨_, hT, hG, _, rfl, h⟩
        · refine r_swc h (fun e4 h => ?_) (fun e4 h => ?_)
          · refine r_tsIn (tgt := 86) dX4_worked_1 hr e4 (by decide) (by decide) rfl (by decide) ?_
            refine r_iload_n dX4_worked_86 rfl rfl iI ?_
            refine r_iload_n dX4_worked_87 rfl rfl iI ?_
            refine r_isubW dX4_worked_88 ?_
            exact r_iret rfl dX4_worked_89 ⟨_, hT, hG, _, rfl, h⟩
          · refine r_swc h (fun e5 h => ?_) (fun e5 h => ?_)
            · refine r_tsIn (tgt := 90) dX4_worked_1 hr e5 (by decide) (by decide) rfl (by decide) ?_
              refine r_iload_n dX4_worked_90 rfl rfl iI ?_
              refine r_iload_n dX4_worked_91 rfl rfl iI ?_
              refine r_imulW dX4_worked_92 ?_
              exact r_iret rfl dX4_worked_93 ⟨_, hT, hG, _, rfl, h⟩
            · refine r_tsOut (tgt := 94) dX4_worked_1 hr (by omega) (by decide) ?_
              refine r_iload_n dX4_worked_94 rfl rfl iI ?_
              refine r_if_ne (tgt := 102) dX4_worked_95 (by decide) h (fun h => ?_) (fun h => ?_)
              · refine r_iload_n dX4_worked_102 rfl rfl iI ?_
                refine r_iload_n dX4_worked_103 rfl rfl iI ?_
                refine r_idivW dX4_worked_104 h (fun h => ?_)
                exact r_iret rfl dX4_worked_105 ⟨_, hT, hG, _, rfl, h⟩
              · refine r_iconst dX4_worked_98 ?_
                refine r_goto (tgt := 105) dX4_worked_99 (by decide) ?_
                exact r_iret rfl dX4_worked_105 ⟨_, hT, hG, _, rfl, h⟩
theorem c_X4_worked {t : Nat} {ad : Nat → Nat} {G0 : Wd} {a0 : Int} {a1 : Int} {a2 : Int} {Q : Int → Tw → Prop} {w : Tw} {G : Wd} (h : f_X4_worked a0 a1 a2 w Q) (hT : TwAt t ad w (G 2)) (hG : ∀ r, r ≠ 2 → G r = G0 r) : call yX4_worked (Cond.code yX4_worked cX4_worked 3 (some .int)) 2 0 0 [vI a0, vI a1, vI a2] G (twQ t ad G0 (uI Q)) noX :=
  call.enter (by decide +kernel) (la_1 c1I (la_1 c1I (la_1 c1I (la_nil rfl)))) rfl (w_X4_worked  h hT hG)
abbrev m_X4_lays : Mt := (yX4_lays.cls, cX4_lays, 4, none, [], yX4_lays.name)
theorem yo_X4_lays : yOK yX4_lays 3 := ⟨by decide +kernel, by decide +kernel, by decide +kernel⟩
def f_X4_lays_2_b (a0 : Nat) (k2 : Int → Int → Int → Tw → Prop) (l1 : Int) (l2 : Int) (l3 : Int) (w : Tw) (Q : Tw → Prop) : Prop :=
  br l3 5 ((5 : Int) ≤ l3) (Q w) (rdA w a0 844 (l2 + l3) (fun _ => wrA w a0 844 (l1 + l3) (w a0 (l2 + l3)) (fun w3 => k2 l1 l2 (l3 + 1) w3)))
theorem w_X4_lays_2_b {t : Nat} {ad : Nat → Nat} {G0 : Wd} {a0 : Nat} (hA_a0 : (a0, 0, 844) ∈ twA) {Q : Tw → Prop} {k2 : Int → Int → Int → Tw → Prop} (hk2 : ∀ {l1 : Int} {l2 : Int} {l3 : Int} {w : Tw} {G : Wd}, k2 l1 l2 l3 w → TwAt t ad w (G 2) → (∀ r, r ≠ 2 → G r = G0 r) → wp m_X4_lays 1 0 0 2 [some (vR (some (ad a0))), some (vI l1), some (vI l2), some (vI l3)] [] G (twQ t ad G0 (uV Q)) noX) {l1 : Int} {l2 : Int} {l3 : Int} {w : Tw} {G : Wd} (h : f_X4_lays_2_b a0 k2 l1 l2 l3 w Q) (hT : TwAt t ad w (G 2)) (hG : ∀ r, r ≠ 2 → G r = G0 r) : wp m_X4_lays 1 0 0 2 [some (vR (some (ad a0))), some (vI l1), some (vI l2), some (vI l3)] [] G (twQ t ad G0 (uV Q)) noX := by
  unfold f_X4_lays_2_b at h
  refine r_iload_n dX4_lays_2 rfl rfl iI ?_
  refine r_iconst dX4_lays_3 ?_
  refine r_icmp_ge (tgt := 23) dX4_lays_4 (by decide) h (fun h => ?_) (fun h => ?_)
  · exact r_vret rfl dX4_lays_23 ⟨_, hT, hG, rfl, h⟩
  · refine r_aload_n dX4_lays_7 rfl rfl iR ?_
    refine r_iload_n dX4_lays_8 rfl rfl iI ?_
    refine r_iload_n dX4_lays_9 rfl rfl iI ?_
    refine r_iadd dX4_lays_10 ?_
    refine r_aload_n dX4_lays_11 rfl rfl iR ?_
    refine r_iload_n dX4_lays_12 rfl rfl iI ?_
    refine r_iload_n dX4_lays_13 rfl rfl iI ?_
    refine r_iadd dX4_lays_14 ?_
    refine t_iald hT dX4_lays_15 hA_a0 (by decide) h (fun h => ?_)
    refine t_iast hT hG dX4_lays_16 hA_a0 (by decide) h (fun w3 G h hT hG => ?_)
    refine r_iinc (L' := [some (vR (some (ad a0))), some (vI l1), some (vI l2), some (vI (l3 + 1))]) dX4_lays_17 rfl rfl cI (by decide) ?_
    refine r_goto (tgt := 2) dX4_lays_20 (by decide) ?_
    exact hk2 h hT hG
def f_X4_lays_2 (a0 : Nat) (Q : Tw → Prop) : Nat → Int → Int → Int → Tw → Prop
  | 0, _, _, _, _ => False
  | fl + 1, l1, l2, l3, w => f_X4_lays_2_b  a0  (fun l1 l2 l3 w => f_X4_lays_2  a0  Q fl l1 l2 l3 w) l1 l2 l3 w Q
theorem w_X4_lays_2 {t : Nat} {ad : Nat → Nat} {G0 : Wd} {a0 : Nat} (hA_a0 : (a0, 0, 844) ∈ twA) {Q : Tw → Prop} : ∀ (fl : Nat) {l1 : Int} {l2 : Int} {l3 : Int} {w : Tw} {G : Wd}, f_X4_lays_2 a0 Q fl l1 l2 l3 w → TwAt t ad w (G 2) → (∀ r, r ≠ 2 → G r = G0 r) → wp m_X4_lays 1 0 0 2 [some (vR (some (ad a0))), some (vI l1), some (vI l2), some (vI l3)] [] G (twQ t ad G0 (uV Q)) noX := by
  intro fl
  induction fl with
  | zero => intro l1 l2 l3 w G h; exact (show False from h).elim
  | succ fl ih => intro l1 l2 l3 w G h hT hG; exact w_X4_lays_2_b hA_a0  (fun h hT hG => ih h hT hG) h hT hG
def f_X4_lays (a0 : Nat) (a1 : Int) (a2 : Int) (w : Tw) (Q : Tw → Prop) : Prop :=
  ∃ fl4, f_X4_lays_2 a0 Q fl4 a1 a2 0 w
theorem w_X4_lays {t : Nat} {ad : Nat → Nat} {G0 : Wd} {a0 : Nat} (hA_a0 : (a0, 0, 844) ∈ twA) {Q : Tw → Prop} {a1 : Int} {a2 : Int} {w : Tw} {G : Wd} (h : f_X4_lays a0 a1 a2 w Q) (hT : TwAt t ad w (G 2)) (hG : ∀ r, r ≠ 2 → G r = G0 r) : wp m_X4_lays 1 0 0 0 [some (vR (some (ad a0))), some (vI a1), some (vI a2), none] [] G (twQ t ad G0 (uV Q)) noX := by
  unfold f_X4_lays at h
  refine r_iconst dX4_lays_0 ?_
  refine r_istore_n (L' := [some (vR (some (ad a0))), some (vI a1), some (vI a2), some (vI 0)]) dX4_lays_1 rfl rfl iI cI (by decide) ?_
  obtain ⟨fl4, h⟩ := h
  exact w_X4_lays_2 hA_a0 fl4 h hT hG
theorem c_X4_lays {t : Nat} {ad : Nat → Nat} {G0 : Wd} {a0 : Nat} {a1 : Int} {a2 : Int} (hA_a0 : (a0, 0, 844) ∈ twA) {Q : Tw → Prop} {w : Tw} {G : Wd} (h : f_X4_lays a0 a1 a2 w Q) (hT : TwAt t ad w (G 2)) (hG : ∀ r, r ≠ 2 → G r = G0 r) : call yX4_lays (Cond.code yX4_lays cX4_lays 4 (none)) 1 0 0 [vR (some (ad a0)), vI a1, vI a2] G (twQ t ad G0 (uV Q)) noX :=
  call.enter (by decide +kernel) (la_1 c1R (la_1 c1I (la_1 c1I (la_nil rfl)))) rfl (w_X4_lays hA_a0 h hT hG)
abbrev m_X4_enters : Mt := (yX4_enters.cls, cX4_enters, 3, none, [], yX4_enters.name)
theorem yo_X4_enters : yOK yX4_enters 1 := ⟨by decide +kernel, by decide +kernel, by decide +kernel⟩
def f_X4_enters (a1 : Int) (w : Tw) (Q : Tw → Prop) : Prop :=
  wrA w 2 24 (w 1 0) a1 (fun w3 => tS w3 1 0 ((w3 1 0) + 1) (fun w4 => Q w4))
theorem w_X4_enters {t : Nat} {ad : Nat → Nat} {G0 : Wd} {Q : Tw → Prop} {a1 : Int} {w : Tw} {G : Wd} (h : f_X4_enters a1 w Q) (hT : TwAt t ad w (G 2)) (hG : ∀ r, r ≠ 2 → G r = G0 r) : wp m_X4_enters 1 0 0 0 [some (vR (some t)), some (vJ a1), none] [] G (twQ t ad G0 (uV Q)) noX := by
  unfold f_X4_enters at h
  refine r_aload_n dX4_enters_0 rfl rfl iR ?_
  refine t_getA (j := 2) hT dX4_enters_1 (fg1 (f := 2) fX4 (by decide) q2223 rfl) rfl ?_
  refine r_aload_n dX4_enters_4 rfl rfl iR ?_
  refine t_getI (j := 1) hT dX4_enters_5 (fg1 (f := 1) fX4 (by decide) q2222 rfl) rfl ?_
  refine r_lload_n dX4_enters_8 rfl rfl iJ ?_
  refine t_last hT hG dX4_enters_9 tA2 (by decide) h (fun w3 G h hT hG => ?_)
  refine r_aload_n dX4_enters_10 rfl rfl iR ?_
  refine r_dup dX4_enters_11 c1R ?_
  refine t_getI (j := 1) hT dX4_enters_12 (fg1 (f := 1) fX4 (by decide) q2222 rfl) rfl ?_
  refine r_iconst dX4_enters_15 ?_
  refine r_iadd dX4_enters_16 ?_
  refine t_put (j := 1) hT hG dX4_enters_17 (fp1 (f := 1) fX4 (by decide) q2222 rfl rfl rfl) tF1 (by decide) h (fun w4 G h hT hG => ?_)
  exact r_vret rfl dX4_enters_20 ⟨_, hT, hG, rfl, h⟩
theorem c_X4_enters {t : Nat} {ad : Nat → Nat} {G0 : Wd} {a1 : Int} {Q : Tw → Prop} {w : Tw} {G : Wd} (h : f_X4_enters a1 w Q) (hT : TwAt t ad w (G 2)) (hG : ∀ r, r ≠ 2 → G r = G0 r) : call yX4_enters (Cond.code yX4_enters cX4_enters 3 (none)) 1 0 0 [vR (some t), vJ a1] G (twQ t ad G0 (uV Q)) noX :=
  call.enter (by decide +kernel) (la_1 c1R (la_2 (la_nil rfl))) rfl (w_X4_enters  h hT hG)
abbrev m_X4_takesOne : Mt := (yX4_takesOne.cls, cX4_takesOne, 4, some .int, [], yX4_takesOne.name)
theorem yo_X4_takesOne : yOK yX4_takesOne 2 := ⟨by decide +kernel, by decide +kernel, by decide +kernel⟩
def f_X4_takesOne (a1 : Nat) (a2 : Int) (w : Tw) (Q : Int → Tw → Prop) : Prop :=
  f_X4_isQueue a2 w (fun x16 w15 => brB x16 (f_X4_of a1 a2 6 w15 (fun x18 w17 => f_X4_of a1 a2 5 w17 (fun x20 w19 => br x18 x20 (¬ x18 = x20) (f_X4_of a1 a2 6 w19 (fun x22 w21 => f_X4_placeAt a2 x22 w21 (fun x24 w23 => f_X4_of a1 a2 6 w23 (fun x26 w25 => f_X4_sets a1 a2 6 (x26 + 1) w25 (fun w27 => rdA w27 a1 844 (x24 + 3) (fun _ => f_X4_sets a1 a2 4 (w27 a1 (x24 + 3)) w27 (fun w28 => Q x24 w28))))))) (Q (-2) w19)))) (Q (-1) w15))
theorem w_X4_takesOne {t : Nat} {ad : Nat → Nat} {G0 : Wd} {a1 : Nat} (hA_a1 : (a1, 0, 844) ∈ twA) {Q : Int → Tw → Prop} {a2 : Int} {w : Tw} {G : Wd} (h : f_X4_takesOne a1 a2 w Q) (hT : TwAt t ad w (G 2)) (hG : ∀ r, r ≠ 2 → G r = G0 r) : wp m_X4_takesOne 3 0 0 0 [some (vR (some t)), some (vR (some (ad a1))), some (vI a2), none] [] G (twQ t ad G0 (uI Q)) noX := by
  unfold f_X4_takesOne at h
  refine r_aload_n dX4_takesOne_0 rfl rfl iR ?_
  refine r_iload_n dX4_takesOne_1 rfl rfl iI ?_
  refine r_callV dX4_takesOne_2 (tisC hT) (c_X4_isQueue h hT hG) q2370 q2372 qs52 q117 q2373 rfl yo_X4_isQueue rfl (by decide) (by decide) rfl rc0 (by decide) (Nat.le_refl _) (Nat.le_refl _) (tofB fun x16 w15 G h hT hG => ?_) nox
  refine r_ifZ_ne (tgt := 10) dX4_takesOne_5 (by decide) h (fun h => ?_) (fun h => ?_)
  · refine r_aload_n dX4_takesOne_10 rfl rfl iR ?_
    refine r_iload_n dX4_takesOne_11 rfl rfl iI ?_
    refine r_bipush dX4_takesOne_12 (by decide) ?_
    refine r_callS dX4_takesOne_14 (c_X4_of hA_a1 h hT hG) q2379 q2380 q117 q2381 yo_X4_of rfl (by decide) (by decide) rfl rc0 (by decide) (Nat.le_refl _) (Nat.le_refl _) (tofI fun x18 w17 G h hT hG => ?_) nox
    refine r_aload_n dX4_takesOne_17 rfl rfl iR ?_
    refine r_iload_n dX4_takesOne_18 rfl rfl iI ?_
    refine r_iconst dX4_takesOne_19 ?_
    refine r_callS dX4_takesOne_20 (c_X4_of hA_a1 h hT hG) q2379 q2380 q117 q2381 yo_X4_of rfl (by decide) (by decide) rfl (rc1 c1I rc0) (by decide) (Nat.le_refl _) (Nat.le_refl _) (tofI fun x20 w19 G h hT hG => ?_) nox
    refine r_icmp_ne (tgt := 29) dX4_takesOne_23 (by decide) h (fun h => ?_) (fun h => ?_)
    · refine r_iload_n dX4_takesOne_29 rfl rfl iI ?_
      refine r_aload_n dX4_takesOne_30 rfl rfl iR ?_
      refine r_iload_n dX4_takesOne_31 rfl rfl iI ?_
      refine r_bipush dX4_takesOne_32 (by decide) ?_
      refine r_callS dX4_takesOne_34 (c_X4_of hA_a1 h hT hG) q2379 q2380 q117 q2381 yo_X4_of rfl (by decide) (by decide) rfl (rc1 c1I rc0) (by decide) (Nat.le_refl _) (Nat.le_refl _) (tofI fun x22 w21 G h hT hG => ?_) nox
      refine r_callS dX4_takesOne_37 (c_X4_placeAt h hT hG) q2440 q2441 q117 q2442 yo_X4_placeAt rfl (by decide) (by decide) rfl rc0 (by decide) (Nat.le_refl _) (Nat.le_refl _) (tofI fun x24 w23 G h hT hG => ?_) nox
      refine r_istore_n (L' := [some (vR (some t)), some (vR (some (ad a1))), some (vI a2), some (vI x24)]) dX4_takesOne_40 rfl rfl iI cI (by decide) ?_
      refine r_aload_n dX4_takesOne_41 rfl rfl iR ?_
      refine r_iload_n dX4_takesOne_42 rfl rfl iI ?_
      refine r_bipush dX4_takesOne_43 (by decide) ?_
      refine r_aload_n dX4_takesOne_45 rfl rfl iR ?_
      refine r_iload_n dX4_takesOne_46 rfl rfl iI ?_
      refine r_bipush dX4_takesOne_47 (by decide) ?_
      refine r_callS dX4_takesOne_49 (c_X4_of hA_a1 h hT hG) q2379 q2380 q117 q2381 yo_X4_of rfl (by decide) (by decide) rfl (rc1 c1I (rc1 c1I (rc1 c1R rc0))) (by decide) (Nat.le_refl _) (Nat.le_refl _) (tofI fun x26 w25 G h hT hG => ?_) nox
      refine r_iconst dX4_takesOne_52 ?_
      refine r_iadd dX4_takesOne_53 ?_
      refine r_callS dX4_takesOne_54 (c_X4_sets hA_a1 h hT hG) q2443 q2444 q117 q2445 yo_X4_sets rfl (by decide) (by decide) rfl rc0 (by decide) (Nat.le_refl _) (Nat.le_refl _) (tofV fun w27 G h hT hG => ?_) nox
      refine r_aload_n dX4_takesOne_57 rfl rfl iR ?_
      refine r_iload_n dX4_takesOne_58 rfl rfl iI ?_
      refine r_iconst dX4_takesOne_59 ?_
      refine r_aload_n dX4_takesOne_60 rfl rfl iR ?_
      refine r_iload_n dX4_takesOne_61 rfl rfl iI ?_
      refine r_iconst dX4_takesOne_62 ?_
      refine r_iadd dX4_takesOne_63 ?_
      refine t_iald hT dX4_takesOne_64 hA_a1 (by decide) h (fun h => ?_)
      refine r_callS dX4_takesOne_65 (c_X4_sets hA_a1 h hT hG) q2443 q2444 q117 q2445 yo_X4_sets rfl (by decide) (by decide) rfl rc0 (by decide) (Nat.le_refl _) (Nat.le_refl _) (tofV fun w28 G h hT hG => ?_) nox
      refine r_iload_n dX4_takesOne_68 rfl rfl iI ?_
      exact r_iret rfl dX4_takesOne_69 ⟨_, hT, hG, _, rfl, h⟩
    · refine r_bipush dX4_takesOne_26 (by decide) ?_
      exact r_iret rfl dX4_takesOne_28 ⟨_, hT, hG, _, rfl, h⟩
  · refine r_iconst dX4_takesOne_8 ?_
    exact r_iret rfl dX4_takesOne_9 ⟨_, hT, hG, _, rfl, h⟩
theorem c_X4_takesOne {t : Nat} {ad : Nat → Nat} {G0 : Wd} {a1 : Nat} {a2 : Int} (hA_a1 : (a1, 0, 844) ∈ twA) {Q : Int → Tw → Prop} {w : Tw} {G : Wd} (h : f_X4_takesOne a1 a2 w Q) (hT : TwAt t ad w (G 2)) (hG : ∀ r, r ≠ 2 → G r = G0 r) : call yX4_takesOne (Cond.code yX4_takesOne cX4_takesOne 4 (some .int)) 3 0 0 [vR (some t), vR (some (ad a1)), vI a2] G (twQ t ad G0 (uI Q)) noX :=
  call.enter (by decide +kernel) (la_1 c1R (la_1 c1R (la_1 c1I (la_nil rfl)))) rfl (w_X4_takesOne hA_a1 h hT hG)
abbrev m_X4_resetsAll : Mt := (yX4_resetsAll.cls, cX4_resetsAll, 8, some .int, [], yX4_resetsAll.name)
theorem yo_X4_resetsAll : yOK yX4_resetsAll 2 := ⟨by decide +kernel, by decide +kernel, by decide +kernel⟩
def f_X4_resetsAll_101_b (a1 : Nat) (k50 : Bool → Int → Int → Int → Int → Tw → Prop) (k101 : Bool → Int → Int → Int → Int → Int → Tw → Prop) (l2 : Bool) (l3 : Int) (l4 : Int) (l5 : Int) (l6 : Int) (l7 : Int) (w : Tw) (Q : Int → Tw → Prop) : Prop :=
  br l7 89 ((89 : Int) ≤ l7) (k50 l2 l3 l4 l5 (l6 + 1) w) (f_X4_sets a1 l6 l7 0 w (fun w63 => k101 l2 l3 l4 l5 l6 (l7 + 1) w63))
theorem w_X4_resetsAll_101_b {t : Nat} {ad : Nat → Nat} {G0 : Wd} {a1 : Nat} (hA_a1 : (a1, 0, 844) ∈ twA) {Q : Int → Tw → Prop} {k50 : Bool → Int → Int → Int → Int → Tw → Prop} (hk50 : ∀ {l2 : Bool} {l3 : Int} {l4 : Int} {l5 : Int} {l6 : Int} {w : Tw} {G : Wd}, k50 l2 l3 l4 l5 l6 w → TwAt t ad w (G 2) → (∀ r, r ≠ 2 → G r = G0 r) → wp m_X4_resetsAll 3 0 0 50 [some (vR (some t)), some (vR (some (ad a1))), some (vB l2), some (vI l3), some (vI l4), some (vI l5), some (vI l6), none] [] G (twQ t ad G0 (uI Q)) noX) {k101 : Bool → Int → Int → Int → Int → Int → Tw → Prop} (hk101 : ∀ {l2 : Bool} {l3 : Int} {l4 : Int} {l5 : Int} {l6 : Int} {l7 : Int} {w : Tw} {G : Wd}, k101 l2 l3 l4 l5 l6 l7 w → TwAt t ad w (G 2) → (∀ r, r ≠ 2 → G r = G0 r) → wp m_X4_resetsAll 3 0 0 101 [some (vR (some t)), some (vR (some (ad a1))), some (vB l2), some (vI l3), some (vI l4), some (vI l5), some (vI l6), some (vI l7)] [] G (twQ t ad G0 (uI Q)) noX) {l2 : Bool} {l3 : Int} {l4 : Int} {l5 : Int} {l6 : Int} {l7 : Int} {w : Tw} {G : Wd} (h : f_X4_resetsAll_101_b a1 k50 k101 l2 l3 l4 l5 l6 l7 w Q) (hT : TwAt t ad w (G 2)) (hG : ∀ r, r ≠ 2 → G r = G0 r) : wp m_X4_resetsAll 3 0 0 101 [some (vR (some t)), some (vR (some (ad a1))), some (vB l2), some (vI l3), some (vI l4), some (vI l5), some (vI l6), some (vI l7)] [] G (twQ t ad G0 (uI Q)) noX := by
  unfold f_X4_resetsAll_101_b at h
  refine r_iload dX4_resetsAll_101 rfl iI ?_
  refine r_bipush dX4_resetsAll_103 (by decide) ?_
  refine r_icmp_ge (tgt := 123) dX4_resetsAll_105 (by decide) h (fun h => ?_) (fun h => ?_)
  · refine r_iinc (L' := [some (vR (some t)), some (vR (some (ad a1))), some (vB l2), some (vI l3), some (vI l4), some (vI l5), some (vI (l6 + 1)), some (vI l7)]) dX4_resetsAll_123 rfl rfl cI (by decide) ?_
    refine r_goto (tgt := 50) dX4_resetsAll_126 (by decide) ?_
    refine wp.locals (L' := [some (vR (some t)), some (vR (some (ad a1))), some (vB l2), some (vI l3), some (vI l4), some (vI l5), some (vI (l6 + 1)), none]) (ls_s (ls_s (ls_s (ls_s (ls_s (ls_s (ls_s (ls_n ls_0)))))))) ?_
    exact hk50 h hT hG
  · refine r_aload_n dX4_resetsAll_108 rfl rfl iR ?_
    refine r_iload dX4_resetsAll_109 rfl iI ?_
    refine r_iload dX4_resetsAll_111 rfl iI ?_
    refine r_iconst dX4_resetsAll_113 ?_
    refine r_callS dX4_resetsAll_114 (c_X4_sets hA_a1 h hT hG) q2443 q2444 q117 q2445 yo_X4_sets rfl (by decide) (by decide) rfl rc0 (by decide) (Nat.le_refl _) (Nat.le_refl _) (tofV fun w63 G h hT hG => ?_) nox
    refine r_iinc (L' := [some (vR (some t)), some (vR (some (ad a1))), some (vB l2), some (vI l3), some (vI l4), some (vI l5), some (vI l6), some (vI (l7 + 1))]) dX4_resetsAll_117 rfl rfl cI (by decide) ?_
    refine r_goto (tgt := 101) dX4_resetsAll_120 (by decide) ?_
    exact hk101 h hT hG
def f_X4_resetsAll_101 (a1 : Nat) (k50 : Bool → Int → Int → Int → Int → Tw → Prop) (Q : Int → Tw → Prop) : Nat → Bool → Int → Int → Int → Int → Int → Tw → Prop
  | 0, _, _, _, _, _, _, _ => False
  | fl + 1, l2, l3, l4, l5, l6, l7, w => f_X4_resetsAll_101_b  a1 k50 (fun l2 l3 l4 l5 l6 l7 w => f_X4_resetsAll_101  a1 k50 Q fl l2 l3 l4 l5 l6 l7 w) l2 l3 l4 l5 l6 l7 w Q
theorem w_X4_resetsAll_101 {t : Nat} {ad : Nat → Nat} {G0 : Wd} {a1 : Nat} (hA_a1 : (a1, 0, 844) ∈ twA) {Q : Int → Tw → Prop} {k50 : Bool → Int → Int → Int → Int → Tw → Prop} (hk50 : ∀ {l2 : Bool} {l3 : Int} {l4 : Int} {l5 : Int} {l6 : Int} {w : Tw} {G : Wd}, k50 l2 l3 l4 l5 l6 w → TwAt t ad w (G 2) → (∀ r, r ≠ 2 → G r = G0 r) → wp m_X4_resetsAll 3 0 0 50 [some (vR (some t)), some (vR (some (ad a1))), some (vB l2), some (vI l3), some (vI l4), some (vI l5), some (vI l6), none] [] G (twQ t ad G0 (uI Q)) noX) : ∀ (fl : Nat) {l2 : Bool} {l3 : Int} {l4 : Int} {l5 : Int} {l6 : Int} {l7 : Int} {w : Tw} {G : Wd}, f_X4_resetsAll_101 a1 k50 Q fl l2 l3 l4 l5 l6 l7 w → TwAt t ad w (G 2) → (∀ r, r ≠ 2 → G r = G0 r) → wp m_X4_resetsAll 3 0 0 101 [some (vR (some t)), some (vR (some (ad a1))), some (vB l2), some (vI l3), some (vI l4), some (vI l5), some (vI l6), some (vI l7)] [] G (twQ t ad G0 (uI Q)) noX := by
  intro fl
  induction fl with
  | zero => intro l2 l3 l4 l5 l6 l7 w G h; exact (show False from h).elim
  | succ fl ih => intro l2 l3 l4 l5 l6 l7 w G h hT hG; exact w_X4_resetsAll_101_b hA_a1 hk50 (fun h hT hG => ih h hT hG) h hT hG
def f_X4_resetsAll_219 (a1 : Nat) (l3 : Int) (l4 : Int) (l5 : Int) (w : Tw) (Q : Int → Tw → Prop) : Prop :=
  Q ((l3 + l4) + l5) w
theorem w_X4_resetsAll_219 {t : Nat} {ad : Nat → Nat} {G0 : Wd} {a1 : Nat} (hA_a1 : (a1, 0, 844) ∈ twA) {Q : Int → Tw → Prop} {l3 : Int} {l4 : Int} {l5 : Int} {w : Tw} {G : Wd} (h : f_X4_resetsAll_219 a1 l3 l4 l5 w Q) (hT : TwAt t ad w (G 2)) (hG : ∀ r, r ≠ 2 → G r = G0 r) : wp m_X4_resetsAll 3 0 0 219 [none, none, none, some (vI l3), some (vI l4), some (vI l5), none, none] [] G (twQ t ad G0 (uI Q)) noX := by
  unfold f_X4_resetsAll_219 at h
  refine r_iload_n dX4_resetsAll_219 rfl rfl iI ?_
  refine r_iload dX4_resetsAll_220 rfl iI ?_
  refine r_iadd dX4_resetsAll_222 ?_
  refine r_iload dX4_resetsAll_223 rfl iI ?_
  refine r_iadd dX4_resetsAll_225 ?_
  exact r_iret rfl dX4_resetsAll_226 ⟨_, hT, hG, _, rfl, h⟩
def f_X4_resetsAll_144_b (a1 : Nat) (k144 : Bool → Int → Int → Int → Int → Tw → Prop) (l2 : Bool) (l3 : Int) (l4 : Int) (l5 : Int) (l6 : Int) (w : Tw) (Q : Int → Tw → Prop) : Prop :=
  br l6 4 ((4 : Int) ≤ l6) (brB l2 (tS w 1 0 0 (fun w64 => ok32 l3 (f_X4_enters l3 w64 (fun w65 => ok32 l4 (f_X4_enters l4 w65 (fun w66 => ok32 l5 (f_X4_enters l5 w66 (fun w67 => f_X4_resetsAll_219 a1 l3 l4 l5 w67 Q)))))))) (f_X4_resetsAll_219 a1 l3 l4 l5 w Q)) (rdA w a1 844 (814 + l6) (fun _ => wrA w a1 844 (818 + l6) (w a1 (814 + l6)) (fun w68 => wrA w68 a1 844 (822 + l6) 4 (fun w69 => wrA w69 a1 844 (840 + l6) 0 (fun w70 => k144 l2 l3 l4 l5 (l6 + 1) w70)))))
theorem w_X4_resetsAll_144_b {t : Nat} {ad : Nat → Nat} {G0 : Wd} {a1 : Nat} (hA_a1 : (a1, 0, 844) ∈ twA) {Q : Int → Tw → Prop} {k144 : Bool → Int → Int → Int → Int → Tw → Prop} (hk144 : ∀ {l2 : Bool} {l3 : Int} {l4 : Int} {l5 : Int} {l6 : Int} {w : Tw} {G : Wd}, k144 l2 l3 l4 l5 l6 w → TwAt t ad w (G 2) → (∀ r, r ≠ 2 → G r = G0 r) → wp m_X4_resetsAll 3 0 0 144 [some (vR (some t)), some (vR (some (ad a1))), some (vB l2), some (vI l3), some (vI l4), some (vI l5), some (vI l6), none] [] G (twQ t ad G0 (uI Q)) noX) {l2 : Bool} {l3 : Int} {l4 : Int} {l5 : Int} {l6 : Int} {w : Tw} {G : Wd} (h : f_X4_resetsAll_144_b a1 k144 l2 l3 l4 l5 l6 w Q) (hT : TwAt t ad w (G 2)) (hG : ∀ r, r ≠ 2 → G r = G0 r) : wp m_X4_resetsAll 3 0 0 144 [some (vR (some t)), some (vR (some (ad a1))), some (vB l2), some (vI l3), some (vI l4), some (vI l5), some (vI l6), none] [] G (twQ t ad G0 (uI Q)) noX := by
  unfold f_X4_resetsAll_144_b at h
  refine r_iload dX4_resetsAll_144 rfl iI ?_
  refine r_iconst dX4_resetsAll_146 ?_
  refine r_icmp_ge (tgt := 190) dX4_resetsAll_147 (by decide) h (fun h => ?_) (fun h => ?_)
  · refine r_iload_n dX4_resetsAll_190 rfl rfl iB ?_
    refine r_ifZ_eq (tgt := 219) dX4_resetsAll_191 (by decide) h (fun h => ?_) (fun h => ?_)
    · refine wp.locals (L' := [none, none, none, some (vI l3), some (vI l4), some (vI l5), none, none]) (ls_n (ls_n (ls_n (ls_s (ls_s (ls_s (ls_n (ls_n ls_0)))))))) ?_
      exact w_X4_resetsAll_219 hA_a1 h hT hG
    · refine r_aload_n dX4_resetsAll_194 rfl rfl iR ?_
      refine r_iconst dX4_resetsAll_195 ?_
      refine t_put (j := 1) hT hG dX4_resetsAll_196 (fp1 (f := 1) fX4 (by decide) q2222 rfl rfl rfl) tF1 (by decide) h (fun w64 G h hT hG => ?_)
      refine r_aload_n dX4_resetsAll_199 rfl rfl iR ?_
      refine r_iload_n dX4_resetsAll_200 rfl rfl iI ?_
      refine r_i2l dX4_resetsAll_201 h (fun h => ?_)
      refine r_callV dX4_resetsAll_202 (tisC hT) (c_X4_enters h hT hG) q2536 q2538 qs71 q117 q2539 rfl yo_X4_enters rfl (by decide) (by decide) rfl rc0 (by decide) (Nat.le_refl _) (Nat.le_refl _) (tofV fun w65 G h hT hG => ?_) nox
      refine r_aload_n dX4_resetsAll_205 rfl rfl iR ?_
      refine r_iload dX4_resetsAll_206 rfl iI ?_
      refine r_i2l dX4_resetsAll_208 h (fun h => ?_)
      refine r_callV dX4_resetsAll_209 (tisC hT) (c_X4_enters h hT hG) q2536 q2538 qs71 q117 q2539 rfl yo_X4_enters rfl (by decide) (by decide) rfl rc0 (by decide) (Nat.le_refl _) (Nat.le_refl _) (tofV fun w66 G h hT hG => ?_) nox
      refine r_aload_n dX4_resetsAll_212 rfl rfl iR ?_
      refine r_iload dX4_resetsAll_213 rfl iI ?_
      refine r_i2l dX4_resetsAll_215 h (fun h => ?_)
      refine r_callV dX4_resetsAll_216 (tisC hT) (c_X4_enters h hT hG) q2536 q2538 qs71 q117 q2539 rfl yo_X4_enters rfl (by decide) (by decide) rfl rc0 (by decide) (Nat.le_refl _) (Nat.le_refl _) (tofV fun w67 G h hT hG => ?_) nox
      refine wp.locals (L' := [none, none, none, some (vI l3), some (vI l4), some (vI l5), none, none]) (ls_n (ls_n (ls_n (ls_s (ls_s (ls_s (ls_n (ls_n ls_0)))))))) ?_
      exact w_X4_resetsAll_219 hA_a1 h hT hG
  · refine r_aload_n dX4_resetsAll_150 rfl rfl iR ?_
    refine r_sipush dX4_resetsAll_151 (by decide) ?_
    refine r_iload dX4_resetsAll_154 rfl iI ?_
    refine r_iadd dX4_resetsAll_156 ?_
    refine r_aload_n dX4_resetsAll_157 rfl rfl iR ?_
    refine r_sipush dX4_resetsAll_158 (by decide) ?_
    refine r_iload dX4_resetsAll_161 rfl iI ?_
    refine r_iadd dX4_resetsAll_163 ?_
    refine t_iald hT dX4_resetsAll_164 hA_a1 (by decide) h (fun h => ?_)
    refine t_iast hT hG dX4_resetsAll_165 hA_a1 (by decide) h (fun w68 G h hT hG => ?_)
    refine r_aload_n dX4_resetsAll_166 rfl rfl iR ?_
    refine r_sipush dX4_resetsAll_167 (by decide) ?_
    refine r_iload dX4_resetsAll_170 rfl iI ?_
    refine r_iadd dX4_resetsAll_172 ?_
    refine r_iconst dX4_resetsAll_173 ?_
    refine t_iast hT hG dX4_resetsAll_174 hA_a1 (by decide) h (fun w69 G h hT hG => ?_)
    refine r_aload_n dX4_resetsAll_175 rfl rfl iR ?_
    refine r_sipush dX4_resetsAll_176 (by decide) ?_
    refine r_iload dX4_resetsAll_179 rfl iI ?_
    refine r_iadd dX4_resetsAll_181 ?_
    refine r_iconst dX4_resetsAll_182 ?_
    refine t_iast hT hG dX4_resetsAll_183 hA_a1 (by decide) h (fun w70 G h hT hG => ?_)
    refine r_iinc (L' := [some (vR (some t)), some (vR (some (ad a1))), some (vB l2), some (vI l3), some (vI l4), some (vI l5), some (vI (l6 + 1)), none]) dX4_resetsAll_184 rfl rfl cI (by decide) ?_
    refine r_goto (tgt := 144) dX4_resetsAll_187 (by decide) ?_
    exact hk144 h hT hG
def f_X4_resetsAll_144 (a1 : Nat) (Q : Int → Tw → Prop) : Nat → Bool → Int → Int → Int → Int → Tw → Prop
  | 0, _, _, _, _, _, _ => False
  | fl + 1, l2, l3, l4, l5, l6, w => f_X4_resetsAll_144_b  a1  (fun l2 l3 l4 l5 l6 w => f_X4_resetsAll_144  a1  Q fl l2 l3 l4 l5 l6 w) l2 l3 l4 l5 l6 w Q
theorem w_X4_resetsAll_144 {t : Nat} {ad : Nat → Nat} {G0 : Wd} {a1 : Nat} (hA_a1 : (a1, 0, 844) ∈ twA) {Q : Int → Tw → Prop} : ∀ (fl : Nat) {l2 : Bool} {l3 : Int} {l4 : Int} {l5 : Int} {l6 : Int} {w : Tw} {G : Wd}, f_X4_resetsAll_144 a1 Q fl l2 l3 l4 l5 l6 w → TwAt t ad w (G 2) → (∀ r, r ≠ 2 → G r = G0 r) → wp m_X4_resetsAll 3 0 0 144 [some (vR (some t)), some (vR (some (ad a1))), some (vB l2), some (vI l3), some (vI l4), some (vI l5), some (vI l6), none] [] G (twQ t ad G0 (uI Q)) noX := by
  intro fl
  induction fl with
  | zero => intro l2 l3 l4 l5 l6 w G h; exact (show False from h).elim
  | succ fl ih => intro l2 l3 l4 l5 l6 w G h hT hG; exact w_X4_resetsAll_144_b hA_a1  (fun h hT hG => ih h hT hG) h hT hG
def f_X4_resetsAll_50_b (a1 : Nat) (k50 : Bool → Int → Int → Int → Int → Tw → Prop) (l2 : Bool) (l3 : Int) (l4 : Int) (l5 : Int) (l6 : Int) (w : Tw) (Q : Int → Tw → Prop) : Prop :=
  br l6 (w 14 0) ((w 14 0) ≤ l6) (wrA w a1 844 493 0 (fun w71 => wrA w71 a1 844 814 0 (fun w72 => ∃ fl73, f_X4_resetsAll_144 a1 Q fl73 l2 l3 l4 l5 0 w72))) (f_X4_of a1 l6 0 w (fun x75 w74 => f_X4_of a1 l6 3 w74 (fun x77 w76 => f_X4_of a1 l6 5 w76 (fun x79 w78 => f_X4_of a1 l6 6 w78 (fun x81 w80 => ∃ fl82, f_X4_resetsAll_101 a1 k50 Q fl82 l2 (l3 + (x75 - x77)) l4 (l5 + (x79 - x81)) l6 0 w80)))))
theorem w_X4_resetsAll_50_b {t : Nat} {ad : Nat → Nat} {G0 : Wd} {a1 : Nat} (hA_a1 : (a1, 0, 844) ∈ twA) {Q : Int → Tw → Prop} {k50 : Bool → Int → Int → Int → Int → Tw → Prop} (hk50 : ∀ {l2 : Bool} {l3 : Int} {l4 : Int} {l5 : Int} {l6 : Int} {w : Tw} {G : Wd}, k50 l2 l3 l4 l5 l6 w → TwAt t ad w (G 2) → (∀ r, r ≠ 2 → G r = G0 r) → wp m_X4_resetsAll 3 0 0 50 [some (vR (some t)), some (vR (some (ad a1))), some (vB l2), some (vI l3), some (vI l4), some (vI l5), some (vI l6), none] [] G (twQ t ad G0 (uI Q)) noX) {l2 : Bool} {l3 : Int} {l4 : Int} {l5 : Int} {l6 : Int} {w : Tw} {G : Wd} (h : f_X4_resetsAll_50_b a1 k50 l2 l3 l4 l5 l6 w Q) (hT : TwAt t ad w (G 2)) (hG : ∀ r, r ≠ 2 → G r = G0 r) : wp m_X4_resetsAll 3 0 0 50 [some (vR (some t)), some (vR (some (ad a1))), some (vB l2), some (vI l3), some (vI l4), some (vI l5), some (vI l6), none] [] G (twQ t ad G0 (uI Q)) noX := by
  unfold f_X4_resetsAll_50_b at h
  refine r_iload dX4_resetsAll_50 rfl iI ?_
  refine r_aload_n dX4_resetsAll_52 rfl rfl iR ?_
  refine t_getI (j := 14) hT dX4_resetsAll_53 (fg1 (f := 14) fX4 (by decide) q2235 rfl) rfl ?_
  refine r_icmp_ge (tgt := 129) dX4_resetsAll_56 (by decide) h (fun h => ?_) (fun h => ?_)
  · refine r_aload_n dX4_resetsAll_129 rfl rfl iR ?_
    refine r_sipush dX4_resetsAll_130 (by decide) ?_
    refine r_iconst dX4_resetsAll_133 ?_
    refine t_iast hT hG dX4_resetsAll_134 hA_a1 (by decide) h (fun w71 G h hT hG => ?_)
    refine r_aload_n dX4_resetsAll_135 rfl rfl iR ?_
    refine r_sipush dX4_resetsAll_136 (by decide) ?_
    refine r_iconst dX4_resetsAll_139 ?_
    refine t_iast hT hG dX4_resetsAll_140 hA_a1 (by decide) h (fun w72 G h hT hG => ?_)
    refine r_iconst dX4_resetsAll_141 ?_
    refine r_istore (L' := [some (vR (some t)), some (vR (some (ad a1))), some (vB l2), some (vI l3), some (vI l4), some (vI l5), some (vI 0), none]) dX4_resetsAll_142 rfl iI cI (by decide) ?_
    obtain ⟨fl73, h⟩ := h
    exact w_X4_resetsAll_144 hA_a1 fl73 h hT hG
  · refine r_iload_n dX4_resetsAll_59 rfl rfl iI ?_
    refine r_aload_n dX4_resetsAll_60 rfl rfl iR ?_
    refine r_iload dX4_resetsAll_61 rfl iI ?_
    refine r_iconst dX4_resetsAll_63 ?_
    refine r_callS dX4_resetsAll_64 (c_X4_of hA_a1 h hT hG) q2379 q2380 q117 q2381 yo_X4_of rfl (by decide) (by decide) rfl (rc1 c1I rc0) (by decide) (Nat.le_refl _) (Nat.le_refl _) (tofI fun x75 w74 G h hT hG => ?_) nox
    refine r_aload_n dX4_resetsAll_67 rfl rfl iR ?_
    refine r_iload dX4_resetsAll_68 rfl iI ?_
    refine r_iconst dX4_resetsAll_70 ?_
    refine r_callS dX4_resetsAll_71 (c_X4_of hA_a1 h hT hG) q2379 q2380 q117 q2381 yo_X4_of rfl (by decide) (by decide) rfl (rc1 c1I (rc1 c1I rc0)) (by decide) (Nat.le_refl _) (Nat.le_refl _) (tofI fun x77 w76 G h hT hG => ?_) nox
    refine r_isub dX4_resetsAll_74 ?_
    refine r_iadd dX4_resetsAll_75 ?_
    refine r_istore_n (L' := [some (vR (some t)), some (vR (some (ad a1))), some (vB l2), some (vI (l3 + (x75 - x77))), some (vI l4), some (vI l5), some (vI l6), none]) dX4_resetsAll_76 rfl rfl iI cB (by decide) ?_
    refine r_iload dX4_resetsAll_77 rfl iI ?_
    refine r_aload_n dX4_resetsAll_79 rfl rfl iR ?_
    refine r_iload dX4_resetsAll_80 rfl iI ?_
    refine r_iconst dX4_resetsAll_82 ?_
    refine r_callS dX4_resetsAll_83 (c_X4_of hA_a1 h hT hG) q2379 q2380 q117 q2381 yo_X4_of rfl (by decide) (by decide) rfl (rc1 c1I rc0) (by decide) (Nat.le_refl _) (Nat.le_refl _) (tofI fun x79 w78 G h hT hG => ?_) nox
    refine r_aload_n dX4_resetsAll_86 rfl rfl iR ?_
    refine r_iload dX4_resetsAll_87 rfl iI ?_
    refine r_bipush dX4_resetsAll_89 (by decide) ?_
    refine r_callS dX4_resetsAll_91 (c_X4_of hA_a1 h hT hG) q2379 q2380 q117 q2381 yo_X4_of rfl (by decide) (by decide) rfl (rc1 c1I (rc1 c1I rc0)) (by decide) (Nat.le_refl _) (Nat.le_refl _) (tofI fun x81 w80 G h hT hG => ?_) nox
    refine r_isub dX4_resetsAll_94 ?_
    refine r_iadd dX4_resetsAll_95 ?_
    refine r_istore (L' := [some (vR (some t)), some (vR (some (ad a1))), some (vB l2), some (vI (l3 + (x75 - x77))), some (vI l4), some (vI (l5 + (x79 - x81))), some (vI l6), none]) dX4_resetsAll_96 rfl iI cI (by decide) ?_
    refine r_iconst dX4_resetsAll_98 ?_
    refine r_istore (L' := [some (vR (some t)), some (vR (some (ad a1))), some (vB l2), some (vI (l3 + (x75 - x77))), some (vI l4), some (vI (l5 + (x79 - x81))), some (vI l6), some (vI 0)]) dX4_resetsAll_99 rfl iI cI (by decide) ?_
    obtain ⟨fl82, h⟩ := h
    exact w_X4_resetsAll_101 hA_a1 hk50 fl82 h hT hG
def f_X4_resetsAll_50 (a1 : Nat) (Q : Int → Tw → Prop) : Nat → Bool → Int → Int → Int → Int → Tw → Prop
  | 0, _, _, _, _, _, _ => False
  | fl + 1, l2, l3, l4, l5, l6, w => f_X4_resetsAll_50_b  a1  (fun l2 l3 l4 l5 l6 w => f_X4_resetsAll_50  a1  Q fl l2 l3 l4 l5 l6 w) l2 l3 l4 l5 l6 w Q
theorem w_X4_resetsAll_50 {t : Nat} {ad : Nat → Nat} {G0 : Wd} {a1 : Nat} (hA_a1 : (a1, 0, 844) ∈ twA) {Q : Int → Tw → Prop} : ∀ (fl : Nat) {l2 : Bool} {l3 : Int} {l4 : Int} {l5 : Int} {l6 : Int} {w : Tw} {G : Wd}, f_X4_resetsAll_50 a1 Q fl l2 l3 l4 l5 l6 w → TwAt t ad w (G 2) → (∀ r, r ≠ 2 → G r = G0 r) → wp m_X4_resetsAll 3 0 0 50 [some (vR (some t)), some (vR (some (ad a1))), some (vB l2), some (vI l3), some (vI l4), some (vI l5), some (vI l6), none] [] G (twQ t ad G0 (uI Q)) noX := by
  intro fl
  induction fl with
  | zero => intro l2 l3 l4 l5 l6 w G h; exact (show False from h).elim
  | succ fl ih => intro l2 l3 l4 l5 l6 w G h hT hG; exact w_X4_resetsAll_50_b hA_a1  (fun h hT hG => ih h hT hG) h hT hG
def f_X4_resetsAll_15_b (a1 : Nat) (k15 : Bool → Bool → Int → Int → Int → Tw → Prop) (l2 : Bool) (l3 : Bool) (l4 : Int) (l5 : Int) (l6 : Int) (w : Tw) (Q : Int → Tw → Prop) : Prop :=
  rdA w a1 844 493 (fun _ => br l6 (w a1 493) ((w a1 493) ≤ l6) (∃ fl83, f_X4_resetsAll_50 a1 Q fl83 l2 (b2i l3) l4 l5 0 w) (f_X4_hasSecond a1 l6 w (fun x85 w84 => f_X4_flag x85 w84 (fun x87 w86 => k15 l2 l3 (l4 + (1 + x87)) l5 (l6 + 1) w86))))
theorem w_X4_resetsAll_15_b {t : Nat} {ad : Nat → Nat} {G0 : Wd} {a1 : Nat} (hA_a1 : (a1, 0, 844) ∈ twA) {Q : Int → Tw → Prop} {k15 : Bool → Bool → Int → Int → Int → Tw → Prop} (hk15 : ∀ {l2 : Bool} {l3 : Bool} {l4 : Int} {l5 : Int} {l6 : Int} {w : Tw} {G : Wd}, k15 l2 l3 l4 l5 l6 w → TwAt t ad w (G 2) → (∀ r, r ≠ 2 → G r = G0 r) → wp m_X4_resetsAll 3 0 0 15 [some (vR (some t)), some (vR (some (ad a1))), some (vB l2), some (vB l3), some (vI l4), some (vI l5), some (vI l6), none] [] G (twQ t ad G0 (uI Q)) noX) {l2 : Bool} {l3 : Bool} {l4 : Int} {l5 : Int} {l6 : Int} {w : Tw} {G : Wd} (h : f_X4_resetsAll_15_b a1 k15 l2 l3 l4 l5 l6 w Q) (hT : TwAt t ad w (G 2)) (hG : ∀ r, r ≠ 2 → G r = G0 r) : wp m_X4_resetsAll 3 0 0 15 [some (vR (some t)), some (vR (some (ad a1))), some (vB l2), some (vB l3), some (vI l4), some (vI l5), some (vI l6), none] [] G (twQ t ad G0 (uI Q)) noX := by
  unfold f_X4_resetsAll_15_b at h
  refine r_iload dX4_resetsAll_15 rfl iI ?_
  refine r_aload_n dX4_resetsAll_17 rfl rfl iR ?_
  refine r_sipush dX4_resetsAll_18 (by decide) ?_
  refine t_iald hT dX4_resetsAll_21 hA_a1 (by decide) h (fun h => ?_)
  refine r_icmp_ge (tgt := 47) dX4_resetsAll_22 (by decide) h (fun h => ?_) (fun h => ?_)
  · refine r_iconst dX4_resetsAll_47 ?_
    refine r_istore (L' := [some (vR (some t)), some (vR (some (ad a1))), some (vB l2), some (vB l3), some (vI l4), some (vI l5), some (vI 0), none]) dX4_resetsAll_48 rfl iI cI (by decide) ?_
    refine wp.cast (L' := [some (vR (some t)), some (vR (some (ad a1))), some (vB l2), some (vI (b2i l3)), some (vI l4), some (vI l5), some (vI 0), none]) (congrArg (fun q => [some (vR (some t)), some (vR (some (ad a1))), some (vB l2), some q, some (vI l4), some (vI l5), some (vI 0), none]) (vBI l3)) rfl ?_
    obtain ⟨fl83, h⟩ := h
    exact w_X4_resetsAll_50 hA_a1 fl83 h hT hG
  · refine r_iload dX4_resetsAll_25 rfl iI ?_
    refine r_iconst dX4_resetsAll_27 ?_
    refine r_aload_n dX4_resetsAll_28 rfl rfl iR ?_
    refine r_iload dX4_resetsAll_29 rfl iI ?_
    refine r_callS dX4_resetsAll_31 (c_X4_hasSecond hA_a1 h hT hG) q2428 q2429 q117 q2430 yo_X4_hasSecond rfl (by decide) (by decide) rfl (rc1 c1I (rc1 c1I rc0)) (by decide) (Nat.le_refl _) (Nat.le_refl _) (tofB fun x85 w84 G h hT hG => ?_) nox
    refine r_callS dX4_resetsAll_34 (c_X4_flag h hT hG) q2162 q2163 q117 q2164 yo_X4_flag rfl (by decide) (by decide) rfl (rc1 c1I (rc1 c1I rc0)) (by decide) (Nat.le_refl _) (Nat.le_refl _) (tofI fun x87 w86 G h hT hG => ?_) nox
    refine r_iadd dX4_resetsAll_37 ?_
    refine r_iadd dX4_resetsAll_38 ?_
    refine r_istore (L' := [some (vR (some t)), some (vR (some (ad a1))), some (vB l2), some (vB l3), some (vI (l4 + (1 + x87))), some (vI l5), some (vI l6), none]) dX4_resetsAll_39 rfl iI cB (by decide) ?_
    refine r_iinc (L' := [some (vR (some t)), some (vR (some (ad a1))), some (vB l2), some (vB l3), some (vI (l4 + (1 + x87))), some (vI l5), some (vI (l6 + 1)), none]) dX4_resetsAll_41 rfl rfl cI (by decide) ?_
    refine r_goto (tgt := 15) dX4_resetsAll_44 (by decide) ?_
    exact hk15 h hT hG
def f_X4_resetsAll_15 (a1 : Nat) (Q : Int → Tw → Prop) : Nat → Bool → Bool → Int → Int → Int → Tw → Prop
  | 0, _, _, _, _, _, _ => False
  | fl + 1, l2, l3, l4, l5, l6, w => f_X4_resetsAll_15_b  a1  (fun l2 l3 l4 l5 l6 w => f_X4_resetsAll_15  a1  Q fl l2 l3 l4 l5 l6 w) l2 l3 l4 l5 l6 w Q
theorem w_X4_resetsAll_15 {t : Nat} {ad : Nat → Nat} {G0 : Wd} {a1 : Nat} (hA_a1 : (a1, 0, 844) ∈ twA) {Q : Int → Tw → Prop} : ∀ (fl : Nat) {l2 : Bool} {l3 : Bool} {l4 : Int} {l5 : Int} {l6 : Int} {w : Tw} {G : Wd}, f_X4_resetsAll_15 a1 Q fl l2 l3 l4 l5 l6 w → TwAt t ad w (G 2) → (∀ r, r ≠ 2 → G r = G0 r) → wp m_X4_resetsAll 3 0 0 15 [some (vR (some t)), some (vR (some (ad a1))), some (vB l2), some (vB l3), some (vI l4), some (vI l5), some (vI l6), none] [] G (twQ t ad G0 (uI Q)) noX := by
  intro fl
  induction fl with
  | zero => intro l2 l3 l4 l5 l6 w G h; exact (show False from h).elim
  | succ fl ih => intro l2 l3 l4 l5 l6 w G h hT hG; exact w_X4_resetsAll_15_b hA_a1  (fun h hT hG => ih h hT hG) h hT hG
def f_X4_resetsAll (a1 : Nat) (a2 : Bool) (w : Tw) (Q : Int → Tw → Prop) : Prop :=
  rdA w a1 844 814 (fun _ => ∃ fl88, f_X4_resetsAll_15 a1 Q fl88 a2 false 0 (w a1 814) 0 w)
theorem w_X4_resetsAll {t : Nat} {ad : Nat → Nat} {G0 : Wd} {a1 : Nat} (hA_a1 : (a1, 0, 844) ∈ twA) {Q : Int → Tw → Prop} {a2 : Bool} {w : Tw} {G : Wd} (h : f_X4_resetsAll a1 a2 w Q) (hT : TwAt t ad w (G 2)) (hG : ∀ r, r ≠ 2 → G r = G0 r) : wp m_X4_resetsAll 3 0 0 0 [some (vR (some t)), some (vR (some (ad a1))), some (vB a2), none, none, none, none, none] [] G (twQ t ad G0 (uI Q)) noX := by
  unfold f_X4_resetsAll at h
  refine r_iconst dX4_resetsAll_0 ?_
  refine r_istore_n (L' := [some (vR (some t)), some (vR (some (ad a1))), some (vB a2), some (vI 0), none, none, none, none]) dX4_resetsAll_1 rfl rfl iI cB (by decide) ?_
  refine r_iconst dX4_resetsAll_2 ?_
  refine r_istore (L' := [some (vR (some t)), some (vR (some (ad a1))), some (vB a2), some (vI 0), some (vI 0), none, none, none]) dX4_resetsAll_3 rfl iI cI (by decide) ?_
  refine r_aload_n dX4_resetsAll_5 rfl rfl iR ?_
  refine r_sipush dX4_resetsAll_6 (by decide) ?_
  refine t_iald hT dX4_resetsAll_9 hA_a1 (by decide) h (fun h => ?_)
  refine r_istore (L' := [some (vR (some t)), some (vR (some (ad a1))), some (vB a2), some (vI 0), some (vI 0), some (vI (w a1 814)), none, none]) dX4_resetsAll_10 rfl iI cI (by decide) ?_
  refine r_iconst dX4_resetsAll_12 ?_
  refine r_istore (L' := [some (vR (some t)), some (vR (some (ad a1))), some (vB a2), some (vI 0), some (vI 0), some (vI (w a1 814)), some (vI 0), none]) dX4_resetsAll_13 rfl iI cI (by decide) ?_
  refine wp.cast (L' := [some (vR (some t)), some (vR (some (ad a1))), some (vB a2), some (vB false), some (vI 0), some (vI (w a1 814)), some (vI 0), none]) (congrArg (fun q => [some (vR (some t)), some (vR (some (ad a1))), some (vB a2), some q, some (vI 0), some (vI (w a1 814)), some (vI 0), none]) vI0) rfl ?_
  obtain ⟨fl88, h⟩ := h
  exact w_X4_resetsAll_15 hA_a1 fl88 h hT hG
theorem c_X4_resetsAll {t : Nat} {ad : Nat → Nat} {G0 : Wd} {a1 : Nat} {a2 : Bool} (hA_a1 : (a1, 0, 844) ∈ twA) {Q : Int → Tw → Prop} {w : Tw} {G : Wd} (h : f_X4_resetsAll a1 a2 w Q) (hT : TwAt t ad w (G 2)) (hG : ∀ r, r ≠ 2 → G r = G0 r) : call yX4_resetsAll (Cond.code yX4_resetsAll cX4_resetsAll 8 (some .int)) 3 0 0 [vR (some t), vR (some (ad a1)), vB a2] G (twQ t ad G0 (uI Q)) noX :=
  call.enter (by decide +kernel) (la_1 c1R (la_1 c1R (la_1 c1B (la_nil rfl)))) rfl (w_X4_resetsAll hA_a1 h hT hG)
abbrev m_X4_weighsOne : Mt := (yX4_weighsOne.cls, cX4_weighsOne, 4, some .int, [], yX4_weighsOne.name)
theorem yo_X4_weighsOne : yOK yX4_weighsOne 3 := ⟨by decide +kernel, by decide +kernel, by decide +kernel⟩
def f_X4_weighsOne (a0 : Nat) (a1 : Int) (a2 : Int) (w : Tw) (Q : Int → Tw → Prop) : Prop :=
  ok32 a1 (f_X4_in a1 1 3 w (fun x8 w7 => brB x8 (ok32 a2 (f_X4_in a2 1 9 w7 (fun x10 w9 => brB x10 (rdA w9 a0 844 (814 + a1) (fun _ => br (w9 a0 (814 + a1)) a2 (¬ (w9 a0 (814 + a1)) = a2) (wrA w9 a0 844 (814 + a1) a2 (fun w11 => wrA w11 a0 844 (818 + a1) a2 (fun w12 => Q (10 + (w9 a0 (814 + a1))) w12))) (Q (-2) w9))) (Q (-1) w9)))) (Q (-1) w7)))
theorem w_X4_weighsOne {t : Nat} {ad : Nat → Nat} {G0 : Wd} {a0 : Nat} (hA_a0 : (a0, 0, 844) ∈ twA) {Q : Int → Tw → Prop} {a1 : Int} {a2 : Int} {w : Tw} {G : Wd} (h : f_X4_weighsOne a0 a1 a2 w Q) (hT : TwAt t ad w (G 2)) (hG : ∀ r, r ≠ 2 → G r = G0 r) : wp m_X4_weighsOne 2 0 0 0 [some (vR (some (ad a0))), some (vI a1), some (vI a2), none] [] G (twQ t ad G0 (uI Q)) noX := by
  unfold f_X4_weighsOne at h
  refine r_iload_n dX4_weighsOne_0 rfl rfl iI ?_
  refine r_i2l dX4_weighsOne_1 h (fun h => ?_)
  refine r_lconst (y := 1) dX4_weighsOne_2 (by decide) ?_
  refine r_ldc2 (x := 3) dX4_weighsOne_3 q2386 (by decide) ?_
  refine r_callS dX4_weighsOne_6 (c_X4_in h hT hG) q2133 q2134 q117 q2135 yo_X4_in rfl (by decide) (by decide) rfl rc0 (by decide) (Nat.le_refl _) (Nat.le_refl _) (tofB fun x8 w7 G h hT hG => ?_) nox
  refine r_ifZ_eq (tgt := 24) dX4_weighsOne_9 (by decide) h (fun h => ?_) (fun h => ?_)
  · refine r_iconst dX4_weighsOne_24 ?_
    exact r_iret rfl dX4_weighsOne_25 ⟨_, hT, hG, _, rfl, h⟩
  · refine r_iload_n dX4_weighsOne_12 rfl rfl iI ?_
    refine r_i2l dX4_weighsOne_13 h (fun h => ?_)
    refine r_lconst (y := 1) dX4_weighsOne_14 (by decide) ?_
    refine r_ldc2 (x := 9) dX4_weighsOne_15 q2408 (by decide) ?_
    refine r_callS dX4_weighsOne_18 (c_X4_in h hT hG) q2133 q2134 q117 q2135 yo_X4_in rfl (by decide) (by decide) rfl rc0 (by decide) (Nat.le_refl _) (Nat.le_refl _) (tofB fun x10 w9 G h hT hG => ?_) nox
    refine r_ifZ_ne (tgt := 26) dX4_weighsOne_21 (by decide) h (fun h => ?_) (fun h => ?_)
    · refine r_aload_n dX4_weighsOne_26 rfl rfl iR ?_
      refine r_sipush dX4_weighsOne_27 (by decide) ?_
      refine r_iload_n dX4_weighsOne_30 rfl rfl iI ?_
      refine r_iadd dX4_weighsOne_31 ?_
      refine t_iald hT dX4_weighsOne_32 hA_a0 (by decide) h (fun h => ?_)
      refine r_istore_n (L' := [some (vR (some (ad a0))), some (vI a1), some (vI a2), some (vI (w9 a0 (814 + a1)))]) dX4_weighsOne_33 rfl rfl iI cI (by decide) ?_
      refine r_iload_n dX4_weighsOne_34 rfl rfl iI ?_
      refine r_iload_n dX4_weighsOne_35 rfl rfl iI ?_
      refine r_icmp_ne (tgt := 42) dX4_weighsOne_36 (by decide) h (fun h => ?_) (fun h => ?_)
      · refine r_aload_n dX4_weighsOne_42 rfl rfl iR ?_
        refine r_sipush dX4_weighsOne_43 (by decide) ?_
        refine r_iload_n dX4_weighsOne_46 rfl rfl iI ?_
        refine r_iadd dX4_weighsOne_47 ?_
        refine r_iload_n dX4_weighsOne_48 rfl rfl iI ?_
        refine t_iast hT hG dX4_weighsOne_49 hA_a0 (by decide) h (fun w11 G h hT hG => ?_)
        refine r_aload_n dX4_weighsOne_50 rfl rfl iR ?_
        refine r_sipush dX4_weighsOne_51 (by decide) ?_
        refine r_iload_n dX4_weighsOne_54 rfl rfl iI ?_
        refine r_iadd dX4_weighsOne_55 ?_
        refine r_iload_n dX4_weighsOne_56 rfl rfl iI ?_
        refine t_iast hT hG dX4_weighsOne_57 hA_a0 (by decide) h (fun w12 G h hT hG => ?_)
        refine r_bipush dX4_weighsOne_58 (by decide) ?_
        refine r_iload_n dX4_weighsOne_60 rfl rfl iI ?_
        refine r_iadd dX4_weighsOne_61 ?_
        exact r_iret rfl dX4_weighsOne_62 ⟨_, hT, hG, _, rfl, h⟩
      · refine r_bipush dX4_weighsOne_39 (by decide) ?_
        exact r_iret rfl dX4_weighsOne_41 ⟨_, hT, hG, _, rfl, h⟩
    · refine r_iconst dX4_weighsOne_24 ?_
      exact r_iret rfl dX4_weighsOne_25 ⟨_, hT, hG, _, rfl, h⟩
theorem c_X4_weighsOne {t : Nat} {ad : Nat → Nat} {G0 : Wd} {a0 : Nat} {a1 : Int} {a2 : Int} (hA_a0 : (a0, 0, 844) ∈ twA) {Q : Int → Tw → Prop} {w : Tw} {G : Wd} (h : f_X4_weighsOne a0 a1 a2 w Q) (hT : TwAt t ad w (G 2)) (hG : ∀ r, r ≠ 2 → G r = G0 r) : call yX4_weighsOne (Cond.code yX4_weighsOne cX4_weighsOne 4 (some .int)) 2 0 0 [vR (some (ad a0)), vI a1, vI a2] G (twQ t ad G0 (uI Q)) noX :=
  call.enter (by decide +kernel) (la_1 c1R (la_1 c1I (la_1 c1I (la_nil rfl)))) rfl (w_X4_weighsOne hA_a0 h hT hG)
abbrev m_X4_depthIs : Mt := (yX4_depthIs.cls, cX4_depthIs, 3, some .int, [], yX4_depthIs.name)
theorem yo_X4_depthIs : yOK yX4_depthIs 2 := ⟨by decide +kernel, by decide +kernel, by decide +kernel⟩
def f_X4_depthIs (a0 : Nat) (a1 : Int) (w : Tw) (Q : Int → Tw → Prop) : Prop :=
  ok32 a1 (f_X4_in a1 1 4 w (fun x5 w4 => brB x5 (rdA w4 a0 844 826 (fun _ => wrA w4 a0 844 826 a1 (fun w6 => br (w4 a0 826) a1 (¬ (w4 a0 826) = a1) (Q (10 + (w4 a0 826)) w6) (Q (-2) w6)))) (Q (-1) w4)))
theorem w_X4_depthIs {t : Nat} {ad : Nat → Nat} {G0 : Wd} {a0 : Nat} (hA_a0 : (a0, 0, 844) ∈ twA) {Q : Int → Tw → Prop} {a1 : Int} {w : Tw} {G : Wd} (h : f_X4_depthIs a0 a1 w Q) (hT : TwAt t ad w (G 2)) (hG : ∀ r, r ≠ 2 → G r = G0 r) : wp m_X4_depthIs 2 0 0 0 [some (vR (some (ad a0))), some (vI a1), none] [] G (twQ t ad G0 (uI Q)) noX := by
  unfold f_X4_depthIs at h
  refine r_iload_n dX4_depthIs_0 rfl rfl iI ?_
  refine r_i2l dX4_depthIs_1 h (fun h => ?_)
  refine r_lconst (y := 1) dX4_depthIs_2 (by decide) ?_
  refine r_ldc2 (x := 4) dX4_depthIs_3 q2407 (by decide) ?_
  refine r_callS dX4_depthIs_6 (c_X4_in h hT hG) q2133 q2134 q117 q2135 yo_X4_in rfl (by decide) (by decide) rfl rc0 (by decide) (Nat.le_refl _) (Nat.le_refl _) (tofB fun x5 w4 G h hT hG => ?_) nox
  refine r_ifZ_ne (tgt := 14) dX4_depthIs_9 (by decide) h (fun h => ?_) (fun h => ?_)
  · refine r_aload_n dX4_depthIs_14 rfl rfl iR ?_
    refine r_sipush dX4_depthIs_15 (by decide) ?_
    refine t_iald hT dX4_depthIs_18 hA_a0 (by decide) h (fun h => ?_)
    refine r_istore_n (L' := [some (vR (some (ad a0))), some (vI a1), some (vI (w4 a0 826))]) dX4_depthIs_19 rfl rfl iI cI (by decide) ?_
    refine r_aload_n dX4_depthIs_20 rfl rfl iR ?_
    refine r_sipush dX4_depthIs_21 (by decide) ?_
    refine r_iload_n dX4_depthIs_24 rfl rfl iI ?_
    refine t_iast hT hG dX4_depthIs_25 hA_a0 (by decide) h (fun w6 G h hT hG => ?_)
    refine r_iload_n dX4_depthIs_26 rfl rfl iI ?_
    refine r_iload_n dX4_depthIs_27 rfl rfl iI ?_
    refine r_icmp_ne (tgt := 36) dX4_depthIs_28 (by decide) h (fun h => ?_) (fun h => ?_)
    · refine r_bipush dX4_depthIs_36 (by decide) ?_
      refine r_iload_n dX4_depthIs_38 rfl rfl iI ?_
      refine r_iadd dX4_depthIs_39 ?_
      exact r_iret rfl dX4_depthIs_40 ⟨_, hT, hG, _, rfl, h⟩
    · refine r_bipush dX4_depthIs_31 (by decide) ?_
      refine r_goto (tgt := 40) dX4_depthIs_33 (by decide) ?_
      exact r_iret rfl dX4_depthIs_40 ⟨_, hT, hG, _, rfl, h⟩
  · refine r_iconst dX4_depthIs_12 ?_
    exact r_iret rfl dX4_depthIs_13 ⟨_, hT, hG, _, rfl, h⟩
theorem c_X4_depthIs {t : Nat} {ad : Nat → Nat} {G0 : Wd} {a0 : Nat} {a1 : Int} (hA_a0 : (a0, 0, 844) ∈ twA) {Q : Int → Tw → Prop} {w : Tw} {G : Wd} (h : f_X4_depthIs a0 a1 w Q) (hT : TwAt t ad w (G 2)) (hG : ∀ r, r ≠ 2 → G r = G0 r) : call yX4_depthIs (Cond.code yX4_depthIs cX4_depthIs 3 (some .int)) 2 0 0 [vR (some (ad a0)), vI a1] G (twQ t ad G0 (uI Q)) noX :=
  call.enter (by decide +kernel) (la_1 c1R (la_1 c1I (la_nil rfl))) rfl (w_X4_depthIs hA_a0 h hT hG)
abbrev m_X4_two : Mt := (yX4_two.cls, cX4_two, 3, some .int, [], yX4_two.name)
theorem yo_X4_two : yOK yX4_two 0 := ⟨by decide +kernel, by decide +kernel, by decide +kernel⟩
def f_X4_two_19 (l1 : Int) (s0 : Int) (w : Tw) (Q : Int → Tw → Prop) : Prop :=
  br0 s0 (0 ≤ s0) (Q ((10 * l1) + s0) w) (Q (-1) w)
theorem w_X4_two_19 {t : Nat} {ad : Nat → Nat} {G0 : Wd} {Q : Int → Tw → Prop} {l1 : Int} {s0 : Int} {w : Tw} {G : Wd} (h : f_X4_two_19 l1 s0 w Q) (hT : TwAt t ad w (G 2)) (hG : ∀ r, r ≠ 2 → G r = G0 r) : wp m_X4_two 4 0 0 19 [none, some (vI l1), none] [vI s0] G (twQ t ad G0 (uI Q)) noX := by
  unfold f_X4_two_19 at h
  refine r_istore_n (L' := [none, some (vI l1), some (vI s0)]) dX4_two_19 rfl rfl iI cI (by decide) ?_
  refine r_iload_n dX4_two_20 rfl rfl iI ?_
  refine r_if_ge (tgt := 28) dX4_two_21 (by decide) h (fun h => ?_) (fun h => ?_)
  · refine r_bipush dX4_two_28 (by decide) ?_
    refine r_iload_n dX4_two_30 rfl rfl iI ?_
    refine r_imul dX4_two_31 ?_
    refine r_iload_n dX4_two_32 rfl rfl iI ?_
    refine r_iadd dX4_two_33 ?_
    exact r_iret rfl dX4_two_34 ⟨_, hT, hG, _, rfl, h⟩
  · refine r_iconst dX4_two_24 ?_
    refine r_goto (tgt := 34) dX4_two_25 (by decide) ?_
    exact r_iret rfl dX4_two_34 ⟨_, hT, hG, _, rfl, h⟩
def f_X4_two (w : Tw) (Q : Int → Tw → Prop) : Prop :=
  f_X4_number 1 w (fun x6 w5 => br0 x6 (0 ≤ x6) (f_X4_number 1 w5 (fun x8 w7 => f_X4_two_19 x6 x8 w7 Q)) (f_X4_two_19 x6 (-1) w5 Q))
theorem w_X4_two {t : Nat} {ad : Nat → Nat} {G0 : Wd} {Q : Int → Tw → Prop} {w : Tw} {G : Wd} (h : f_X4_two w Q) (hT : TwAt t ad w (G 2)) (hG : ∀ r, r ≠ 2 → G r = G0 r) : wp m_X4_two 4 0 0 0 [some (vR (some t)), none, none] [] G (twQ t ad G0 (uI Q)) noX := by
  unfold f_X4_two at h
  refine r_aload_n dX4_two_0 rfl rfl iR ?_
  refine r_iconst dX4_two_1 ?_
  refine r_callV dX4_two_2 (tisC hT) (c_X4_number h hT hG) q2175 q2177 qs47 q117 q2178 rfl yo_X4_number rfl (by decide) (by decide) rfl rc0 (by decide) (Nat.le_refl _) (Nat.le_refl _) (tofI fun x6 w5 G h hT hG => ?_) nox
  refine r_istore_n (L' := [some (vR (some t)), some (vI x6), none]) dX4_two_5 rfl rfl iI cR (by decide) ?_
  refine r_iload_n dX4_two_6 rfl rfl iI ?_
  refine r_if_ge (tgt := 14) dX4_two_7 (by decide) h (fun h => ?_) (fun h => ?_)
  · refine r_aload_n dX4_two_14 rfl rfl iR ?_
    refine r_iconst dX4_two_15 ?_
    refine r_callV dX4_two_16 (tisC hT) (c_X4_number h hT hG) q2175 q2177 qs47 q117 q2178 rfl yo_X4_number rfl (by decide) (by decide) rfl rc0 (by decide) (Nat.le_refl _) (Nat.le_refl _) (tofI fun x8 w7 G h hT hG => ?_) nox
    refine wp.locals (L' := [none, some (vI x6), none]) (ls_n (ls_s (ls_n ls_0))) ?_
    exact w_X4_two_19 h hT hG
  · refine r_iconst dX4_two_10 ?_
    refine r_goto (tgt := 19) dX4_two_11 (by decide) ?_
    refine wp.locals (L' := [none, some (vI x6), none]) (ls_n (ls_s (ls_n ls_0))) ?_
    exact w_X4_two_19 h hT hG
theorem c_X4_two {t : Nat} {ad : Nat → Nat} {G0 : Wd} {Q : Int → Tw → Prop} {w : Tw} {G : Wd} (h : f_X4_two w Q) (hT : TwAt t ad w (G 2)) (hG : ∀ r, r ≠ 2 → G r = G0 r) : call yX4_two (Cond.code yX4_two cX4_two 3 (some .int)) 4 0 0 [vR (some t)] G (twQ t ad G0 (uI Q)) noX :=
  call.enter (by decide +kernel) (la_1 c1R (la_nil rfl)) rfl (w_X4_two  h hT hG)
abbrev m_X4_waiting : Mt := (yX4_waiting.cls, cX4_waiting, 3, some .int, [], yX4_waiting.name)
theorem yo_X4_waiting : yOK yX4_waiting 1 := ⟨by decide +kernel, by decide +kernel, by decide +kernel⟩
def f_X4_waiting_30_b (k30 : Int → Int → Tw → Prop) (l1 : Int) (l2 : Int) (w : Tw) (Q : Int → Tw → Prop) : Prop :=
  f_X4_of 20 l1 0 w (fun x15 w14 => br l2 x15 (x15 ≤ l2) (Q (w14 1 0) w14) (f_X4_ringAt l1 l2 w14 (fun x17 w16 => rdA w16 20 844 (x17 + 0) (fun _ => f_X4_ringAt l1 l2 w16 (fun x19 w18 => rdA w18 20 844 (x19 + 1) (fun _ => ok32 ((10 * (w16 20 (x17 + 0))) + (w18 20 (x19 + 1))) (f_X4_enters ((10 * (w16 20 (x17 + 0))) + (w18 20 (x19 + 1))) w18 (fun w20 => k30 l1 (l2 + 1) w20))))))))
theorem w_X4_waiting_30_b {t : Nat} {ad : Nat → Nat} {G0 : Wd} {Q : Int → Tw → Prop} {k30 : Int → Int → Tw → Prop} (hk30 : ∀ {l1 : Int} {l2 : Int} {w : Tw} {G : Wd}, k30 l1 l2 w → TwAt t ad w (G 2) → (∀ r, r ≠ 2 → G r = G0 r) → wp m_X4_waiting 3 0 0 30 [some (vR (some t)), some (vI l1), some (vI l2)] [] G (twQ t ad G0 (uI Q)) noX) {l1 : Int} {l2 : Int} {w : Tw} {G : Wd} (h : f_X4_waiting_30_b k30 l1 l2 w Q) (hT : TwAt t ad w (G 2)) (hG : ∀ r, r ≠ 2 → G r = G0 r) : wp m_X4_waiting 3 0 0 30 [some (vR (some t)), some (vI l1), some (vI l2)] [] G (twQ t ad G0 (uI Q)) noX := by
  unfold f_X4_waiting_30_b at h
  refine r_iload_n dX4_waiting_30 rfl rfl iI ?_
  refine r_aload_n dX4_waiting_31 rfl rfl iR ?_
  refine t_getA (j := 20) hT dX4_waiting_32 (fg1 (f := 20) fX4 (by decide) q2241 rfl) rfl ?_
  refine r_iload_n dX4_waiting_35 rfl rfl iI ?_
  refine r_iconst dX4_waiting_36 ?_
  refine r_callS dX4_waiting_37 (c_X4_of tA20 h hT hG) q2379 q2380 q117 q2381 yo_X4_of rfl (by decide) (by decide) rfl (rc1 c1I rc0) (by decide) (Nat.le_refl _) (Nat.le_refl _) (tofI fun x15 w14 G h hT hG => ?_) nox
  refine r_icmp_ge (tgt := 82) dX4_waiting_40 (by decide) h (fun h => ?_) (fun h => ?_)
  · refine r_aload_n dX4_waiting_82 rfl rfl iR ?_
    refine t_getI (j := 1) hT dX4_waiting_83 (fg1 (f := 1) fX4 (by decide) q2222 rfl) rfl ?_
    exact r_iret rfl dX4_waiting_86 ⟨_, hT, hG, _, rfl, h⟩
  · refine r_aload_n dX4_waiting_43 rfl rfl iR ?_
    refine r_bipush dX4_waiting_44 (by decide) ?_
    refine r_aload_n dX4_waiting_46 rfl rfl iR ?_
    refine t_getA (j := 20) hT dX4_waiting_47 (fg1 (f := 20) fX4 (by decide) q2241 rfl) rfl ?_
    refine r_iload_n dX4_waiting_50 rfl rfl iI ?_
    refine r_iload_n dX4_waiting_51 rfl rfl iI ?_
    refine r_callS dX4_waiting_52 (c_X4_ringAt h hT hG) q2419 q2420 q117 q2421 yo_X4_ringAt rfl (by decide) (by decide) rfl (rc1 c1R (rc1 c1I (rc1 c1R rc0))) (by decide) (Nat.le_refl _) (Nat.le_refl _) (tofI fun x17 w16 G h hT hG => ?_) nox
    refine r_iconst dX4_waiting_55 ?_
    refine r_iadd dX4_waiting_56 ?_
    refine t_iald hT dX4_waiting_57 tA20 (by decide) h (fun h => ?_)
    refine r_imul dX4_waiting_58 ?_
    refine r_aload_n dX4_waiting_59 rfl rfl iR ?_
    refine t_getA (j := 20) hT dX4_waiting_60 (fg1 (f := 20) fX4 (by decide) q2241 rfl) rfl ?_
    refine r_iload_n dX4_waiting_63 rfl rfl iI ?_
    refine r_iload_n dX4_waiting_64 rfl rfl iI ?_
    refine r_callS dX4_waiting_65 (c_X4_ringAt h hT hG) q2419 q2420 q117 q2421 yo_X4_ringAt rfl (by decide) (by decide) rfl (rc1 c1R (rc1 c1I (rc1 c1R rc0))) (by decide) (Nat.le_refl _) (Nat.le_refl _) (tofI fun x19 w18 G h hT hG => ?_) nox
    refine r_iconst dX4_waiting_68 ?_
    refine r_iadd dX4_waiting_69 ?_
    refine t_iald hT dX4_waiting_70 tA20 (by decide) h (fun h => ?_)
    refine r_iadd dX4_waiting_71 ?_
    refine r_i2l dX4_waiting_72 h (fun h => ?_)
    refine r_callV dX4_waiting_73 (tisC hT) (c_X4_enters h hT hG) q2536 q2538 qs71 q117 q2539 rfl yo_X4_enters rfl (by decide) (by decide) rfl rc0 (by decide) (Nat.le_refl _) (Nat.le_refl _) (tofV fun w20 G h hT hG => ?_) nox
    refine r_iinc (L' := [some (vR (some t)), some (vI l1), some (vI (l2 + 1))]) dX4_waiting_76 rfl rfl cI (by decide) ?_
    refine r_goto (tgt := 30) dX4_waiting_79 (by decide) ?_
    exact hk30 h hT hG
def f_X4_waiting_30 (Q : Int → Tw → Prop) : Nat → Int → Int → Tw → Prop
  | 0, _, _, _ => False
  | fl + 1, l1, l2, w => f_X4_waiting_30_b    (fun l1 l2 w => f_X4_waiting_30    Q fl l1 l2 w) l1 l2 w Q
theorem w_X4_waiting_30 {t : Nat} {ad : Nat → Nat} {G0 : Wd} {Q : Int → Tw → Prop} : ∀ (fl : Nat) {l1 : Int} {l2 : Int} {w : Tw} {G : Wd}, f_X4_waiting_30 Q fl l1 l2 w → TwAt t ad w (G 2) → (∀ r, r ≠ 2 → G r = G0 r) → wp m_X4_waiting 3 0 0 30 [some (vR (some t)), some (vI l1), some (vI l2)] [] G (twQ t ad G0 (uI Q)) noX := by
  intro fl
  induction fl with
  | zero => intro l1 l2 w G h; exact (show False from h).elim
  | succ fl ih => intro l1 l2 w G h hT hG; exact w_X4_waiting_30_b   (fun h hT hG => ih h hT hG) h hT hG
def f_X4_waiting (a1 : Int) (w : Tw) (Q : Int → Tw → Prop) : Prop :=
  tS w 0 0 0 (fun w21 => f_X4_isQueue a1 w21 (fun x23 w22 => brB x23 (tS w22 1 0 0 (fun w24 => f_X4_of 20 a1 3 w24 (fun x26 w25 => ∃ fl27, f_X4_waiting_30 Q fl27 a1 x26 w25))) (Q (-1) w22)))
theorem w_X4_waiting {t : Nat} {ad : Nat → Nat} {G0 : Wd} {Q : Int → Tw → Prop} {a1 : Int} {w : Tw} {G : Wd} (h : f_X4_waiting a1 w Q) (hT : TwAt t ad w (G 2)) (hG : ∀ r, r ≠ 2 → G r = G0 r) : wp m_X4_waiting 3 0 0 0 [some (vR (some t)), some (vI a1), none] [] G (twQ t ad G0 (uI Q)) noX := by
  unfold f_X4_waiting at h
  refine r_aload_n dX4_waiting_0 rfl rfl iR ?_
  refine r_iconst dX4_waiting_1 ?_
  refine t_put (j := 0) hT hG dX4_waiting_2 (fp1 (f := 0) fX4 (by decide) q2221 rfl rfl rfl) tF0 (by decide) h (fun w21 G h hT hG => ?_)
  refine r_aload_n dX4_waiting_5 rfl rfl iR ?_
  refine r_iload_n dX4_waiting_6 rfl rfl iI ?_
  refine r_callV dX4_waiting_7 (tisC hT) (c_X4_isQueue h hT hG) q2370 q2372 qs52 q117 q2373 rfl yo_X4_isQueue rfl (by decide) (by decide) rfl rc0 (by decide) (Nat.le_refl _) (Nat.le_refl _) (tofB fun x23 w22 G h hT hG => ?_) nox
  refine r_ifZ_ne (tgt := 15) dX4_waiting_10 (by decide) h (fun h => ?_) (fun h => ?_)
  · refine r_aload_n dX4_waiting_15 rfl rfl iR ?_
    refine r_iconst dX4_waiting_16 ?_
    refine t_put (j := 1) hT hG dX4_waiting_17 (fp1 (f := 1) fX4 (by decide) q2222 rfl rfl rfl) tF1 (by decide) h (fun w24 G h hT hG => ?_)
    refine r_aload_n dX4_waiting_20 rfl rfl iR ?_
    refine t_getA (j := 20) hT dX4_waiting_21 (fg1 (f := 20) fX4 (by decide) q2241 rfl) rfl ?_
    refine r_iload_n dX4_waiting_24 rfl rfl iI ?_
    refine r_iconst dX4_waiting_25 ?_
    refine r_callS dX4_waiting_26 (c_X4_of tA20 h hT hG) q2379 q2380 q117 q2381 yo_X4_of rfl (by decide) (by decide) rfl rc0 (by decide) (Nat.le_refl _) (Nat.le_refl _) (tofI fun x26 w25 G h hT hG => ?_) nox
    refine r_istore_n (L' := [some (vR (some t)), some (vI a1), some (vI x26)]) dX4_waiting_29 rfl rfl iI cI (by decide) ?_
    obtain ⟨fl27, h⟩ := h
    exact w_X4_waiting_30 fl27 h hT hG
  · refine r_iconst dX4_waiting_13 ?_
    exact r_iret rfl dX4_waiting_14 ⟨_, hT, hG, _, rfl, h⟩
theorem c_X4_waiting {t : Nat} {ad : Nat → Nat} {G0 : Wd} {a1 : Int} {Q : Int → Tw → Prop} {w : Tw} {G : Wd} (h : f_X4_waiting a1 w Q) (hT : TwAt t ad w (G 2)) (hG : ∀ r, r ≠ 2 → G r = G0 r) : call yX4_waiting (Cond.code yX4_waiting cX4_waiting 3 (some .int)) 3 0 0 [vR (some t), vI a1] G (twQ t ad G0 (uI Q)) noX :=
  call.enter (by decide +kernel) (la_1 c1R (la_1 c1I (la_nil rfl))) rfl (w_X4_waiting  h hT hG)
abbrev m_X4_running : Mt := (yX4_running.cls, cX4_running, 3, some .int, [], yX4_running.name)
theorem yo_X4_running : yOK yX4_running 0 := ⟨by decide +kernel, by decide +kernel, by decide +kernel⟩
def f_X4_running_12_b (k12 : Int → Tw → Prop) (l1 : Int) (w : Tw) (Q : Int → Tw → Prop) : Prop :=
  rdA w 20 844 493 (fun _ => br l1 (w 20 493) ((w 20 493) ≤ l1) (Q (w 1 0) w) (f_X4_runAt l1 w (fun x10 w9 => rdA w9 20 844 (x10 + 0) (fun _ => rdA w9 20 844 ((x10 + 1) + 0) (fun _ => rdA w9 20 844 (x10 + 11) (fun _ => ok32 (((1000 * (w9 20 (x10 + 0))) + (10 * (w9 20 ((x10 + 1) + 0)))) + (w9 20 (x10 + 11))) (f_X4_enters (((1000 * (w9 20 (x10 + 0))) + (10 * (w9 20 ((x10 + 1) + 0)))) + (w9 20 (x10 + 11))) w9 (fun w11 => k12 (l1 + 1) w11))))))))
theorem w_X4_running_12_b {t : Nat} {ad : Nat → Nat} {G0 : Wd} {Q : Int → Tw → Prop} {k12 : Int → Tw → Prop} (hk12 : ∀ {l1 : Int} {w : Tw} {G : Wd}, k12 l1 w → TwAt t ad w (G 2) → (∀ r, r ≠ 2 → G r = G0 r) → wp m_X4_running 2 0 0 12 [some (vR (some t)), some (vI l1), none] [] G (twQ t ad G0 (uI Q)) noX) {l1 : Int} {w : Tw} {G : Wd} (h : f_X4_running_12_b k12 l1 w Q) (hT : TwAt t ad w (G 2)) (hG : ∀ r, r ≠ 2 → G r = G0 r) : wp m_X4_running 2 0 0 12 [some (vR (some t)), some (vI l1), none] [] G (twQ t ad G0 (uI Q)) noX := by
  unfold f_X4_running_12_b at h
  refine r_iload_n dX4_running_12 rfl rfl iI ?_
  refine r_aload_n dX4_running_13 rfl rfl iR ?_
  refine t_getA (j := 20) hT dX4_running_14 (fg1 (f := 20) fX4 (by decide) q2241 rfl) rfl ?_
  refine r_sipush dX4_running_17 (by decide) ?_
  refine t_iald hT dX4_running_20 tA20 (by decide) h (fun h => ?_)
  refine r_icmp_ge (tgt := 76) dX4_running_21 (by decide) h (fun h => ?_) (fun h => ?_)
  · refine r_aload_n dX4_running_76 rfl rfl iR ?_
    refine t_getI (j := 1) hT dX4_running_77 (fg1 (f := 1) fX4 (by decide) q2222 rfl) rfl ?_
    exact r_iret rfl dX4_running_80 ⟨_, hT, hG, _, rfl, h⟩
  · refine r_iload_n dX4_running_24 rfl rfl iI ?_
    refine r_callS dX4_running_25 (c_X4_runAt h hT hG) q2425 q2426 q117 q2427 yo_X4_runAt rfl (by decide) (by decide) rfl rc0 (by decide) (Nat.le_refl _) (Nat.le_refl _) (tofI fun x10 w9 G h hT hG => ?_) nox
    refine r_istore_n (L' := [some (vR (some t)), some (vI l1), some (vI x10)]) dX4_running_28 rfl rfl iI cI (by decide) ?_
    refine r_aload_n dX4_running_29 rfl rfl iR ?_
    refine r_sipush dX4_running_30 (by decide) ?_
    refine r_aload_n dX4_running_33 rfl rfl iR ?_
    refine t_getA (j := 20) hT dX4_running_34 (fg1 (f := 20) fX4 (by decide) q2241 rfl) rfl ?_
    refine r_iload_n dX4_running_37 rfl rfl iI ?_
    refine r_iconst dX4_running_38 ?_
    refine r_iadd dX4_running_39 ?_
    refine t_iald hT dX4_running_40 tA20 (by decide) h (fun h => ?_)
    refine r_imul dX4_running_41 ?_
    refine r_bipush dX4_running_42 (by decide) ?_
    refine r_aload_n dX4_running_44 rfl rfl iR ?_
    refine t_getA (j := 20) hT dX4_running_45 (fg1 (f := 20) fX4 (by decide) q2241 rfl) rfl ?_
    refine r_iload_n dX4_running_48 rfl rfl iI ?_
    refine r_iconst dX4_running_49 ?_
    refine r_iadd dX4_running_50 ?_
    refine r_iconst dX4_running_51 ?_
    refine r_iadd dX4_running_52 ?_
    refine t_iald hT dX4_running_53 tA20 (by decide) h (fun h => ?_)
    refine r_imul dX4_running_54 ?_
    refine r_iadd dX4_running_55 ?_
    refine r_aload_n dX4_running_56 rfl rfl iR ?_
    refine t_getA (j := 20) hT dX4_running_57 (fg1 (f := 20) fX4 (by decide) q2241 rfl) rfl ?_
    refine r_iload_n dX4_running_60 rfl rfl iI ?_
    refine r_bipush dX4_running_61 (by decide) ?_
    refine r_iadd dX4_running_63 ?_
    refine t_iald hT dX4_running_64 tA20 (by decide) h (fun h => ?_)
    refine r_iadd dX4_running_65 ?_
    refine r_i2l dX4_running_66 h (fun h => ?_)
    refine r_callV dX4_running_67 (tisC hT) (c_X4_enters h hT hG) q2536 q2538 qs71 q117 q2539 rfl yo_X4_enters rfl (by decide) (by decide) rfl rc0 (by decide) (Nat.le_refl _) (Nat.le_refl _) (tofV fun w11 G h hT hG => ?_) nox
    refine r_iinc (L' := [some (vR (some t)), some (vI (l1 + 1)), some (vI x10)]) dX4_running_70 rfl rfl cR (by decide) ?_
    refine r_goto (tgt := 12) dX4_running_73 (by decide) ?_
    refine wp.locals (L' := [some (vR (some t)), some (vI (l1 + 1)), none]) (ls_s (ls_s (ls_n ls_0))) ?_
    exact hk12 h hT hG
def f_X4_running_12 (Q : Int → Tw → Prop) : Nat → Int → Tw → Prop
  | 0, _, _ => False
  | fl + 1, l1, w => f_X4_running_12_b    (fun l1 w => f_X4_running_12    Q fl l1 w) l1 w Q
theorem w_X4_running_12 {t : Nat} {ad : Nat → Nat} {G0 : Wd} {Q : Int → Tw → Prop} : ∀ (fl : Nat) {l1 : Int} {w : Tw} {G : Wd}, f_X4_running_12 Q fl l1 w → TwAt t ad w (G 2) → (∀ r, r ≠ 2 → G r = G0 r) → wp m_X4_running 2 0 0 12 [some (vR (some t)), some (vI l1), none] [] G (twQ t ad G0 (uI Q)) noX := by
  intro fl
  induction fl with
  | zero => intro l1 w G h; exact (show False from h).elim
  | succ fl ih => intro l1 w G h hT hG; exact w_X4_running_12_b   (fun h hT hG => ih h hT hG) h hT hG
def f_X4_running (w : Tw) (Q : Int → Tw → Prop) : Prop :=
  tS w 0 0 0 (fun w12 => tS w12 1 0 0 (fun w13 => ∃ fl14, f_X4_running_12 Q fl14 0 w13))
theorem w_X4_running {t : Nat} {ad : Nat → Nat} {G0 : Wd} {Q : Int → Tw → Prop} {w : Tw} {G : Wd} (h : f_X4_running w Q) (hT : TwAt t ad w (G 2)) (hG : ∀ r, r ≠ 2 → G r = G0 r) : wp m_X4_running 2 0 0 0 [some (vR (some t)), none, none] [] G (twQ t ad G0 (uI Q)) noX := by
  unfold f_X4_running at h
  refine r_aload_n dX4_running_0 rfl rfl iR ?_
  refine r_iconst dX4_running_1 ?_
  refine t_put (j := 0) hT hG dX4_running_2 (fp1 (f := 0) fX4 (by decide) q2221 rfl rfl rfl) tF0 (by decide) h (fun w12 G h hT hG => ?_)
  refine r_aload_n dX4_running_5 rfl rfl iR ?_
  refine r_iconst dX4_running_6 ?_
  refine t_put (j := 1) hT hG dX4_running_7 (fp1 (f := 1) fX4 (by decide) q2222 rfl rfl rfl) tF1 (by decide) h (fun w13 G h hT hG => ?_)
  refine r_iconst dX4_running_10 ?_
  refine r_istore_n (L' := [some (vR (some t)), some (vI 0), none]) dX4_running_11 rfl rfl iI cR (by decide) ?_
  obtain ⟨fl14, h⟩ := h
  exact w_X4_running_12 fl14 h hT hG
theorem c_X4_running {t : Nat} {ad : Nat → Nat} {G0 : Wd} {Q : Int → Tw → Prop} {w : Tw} {G : Wd} (h : f_X4_running w Q) (hT : TwAt t ad w (G 2)) (hG : ∀ r, r ≠ 2 → G r = G0 r) : call yX4_running (Cond.code yX4_running cX4_running 3 (some .int)) 2 0 0 [vR (some t)] G (twQ t ad G0 (uI Q)) noX :=
  call.enter (by decide +kernel) (la_1 c1R (la_nil rfl)) rfl (w_X4_running  h hT hG)
abbrev m_X4_outbox : Mt := (yX4_outbox.cls, cX4_outbox, 3, some .int, [], yX4_outbox.name)
theorem yo_X4_outbox : yOK yX4_outbox 0 := ⟨by decide +kernel, by decide +kernel, by decide +kernel⟩
def f_X4_outbox_79 (w : Tw) (Q : Int → Tw → Prop) : Prop :=
  rdA w 20 844 814 (fun _ => Q (w 20 814) w)
theorem w_X4_outbox_79 {t : Nat} {ad : Nat → Nat} {G0 : Wd} {Q : Int → Tw → Prop} {w : Tw} {G : Wd} (h : f_X4_outbox_79 w Q) (hT : TwAt t ad w (G 2)) (hG : ∀ r, r ≠ 2 → G r = G0 r) : wp m_X4_outbox 2 0 0 79 [some (vR (some t)), none, none] [] G (twQ t ad G0 (uI Q)) noX := by
  unfold f_X4_outbox_79 at h
  refine r_aload_n dX4_outbox_79 rfl rfl iR ?_
  refine t_getA (j := 20) hT dX4_outbox_80 (fg1 (f := 20) fX4 (by decide) q2241 rfl) rfl ?_
  refine r_sipush dX4_outbox_83 (by decide) ?_
  refine t_iald hT dX4_outbox_86 tA20 (by decide) h (fun h => ?_)
  exact r_iret rfl dX4_outbox_87 ⟨_, hT, hG, _, rfl, h⟩
def f_X4_outbox_12_b (k12 : Int → Tw → Prop) (l1 : Int) (w : Tw) (Q : Int → Tw → Prop) : Prop :=
  rdA w 20 844 814 (fun _ => br l1 (w 20 814) ((w 20 814) ≤ l1) (f_X4_outbox_79 w Q) (br l1 12 ((12 : Int) ≤ l1) (f_X4_outbox_79 w Q) (f_X4_outAt l1 w (fun x10 w9 => rdA w9 20 844 (x10 + 0) (fun _ => rdA w9 20 844 (x10 + 1) (fun _ => rdA w9 20 844 (x10 + 2) (fun _ => ok32 (((1000 * (w9 20 (x10 + 0))) + (10 * (w9 20 (x10 + 1)))) + (w9 20 (x10 + 2))) (f_X4_enters (((1000 * (w9 20 (x10 + 0))) + (10 * (w9 20 (x10 + 1)))) + (w9 20 (x10 + 2))) w9 (fun w11 => k12 (l1 + 1) w11)))))))))
theorem w_X4_outbox_12_b {t : Nat} {ad : Nat → Nat} {G0 : Wd} {Q : Int → Tw → Prop} {k12 : Int → Tw → Prop} (hk12 : ∀ {l1 : Int} {w : Tw} {G : Wd}, k12 l1 w → TwAt t ad w (G 2) → (∀ r, r ≠ 2 → G r = G0 r) → wp m_X4_outbox 2 0 0 12 [some (vR (some t)), some (vI l1), none] [] G (twQ t ad G0 (uI Q)) noX) {l1 : Int} {w : Tw} {G : Wd} (h : f_X4_outbox_12_b k12 l1 w Q) (hT : TwAt t ad w (G 2)) (hG : ∀ r, r ≠ 2 → G r = G0 r) : wp m_X4_outbox 2 0 0 12 [some (vR (some t)), some (vI l1), none] [] G (twQ t ad G0 (uI Q)) noX := by
  unfold f_X4_outbox_12_b at h
  refine r_iload_n dX4_outbox_12 rfl rfl iI ?_
  refine r_aload_n dX4_outbox_13 rfl rfl iR ?_
  refine t_getA (j := 20) hT dX4_outbox_14 (fg1 (f := 20) fX4 (by decide) q2241 rfl) rfl ?_
  refine r_sipush dX4_outbox_17 (by decide) ?_
  refine t_iald hT dX4_outbox_20 tA20 (by decide) h (fun h => ?_)
  refine r_icmp_ge (tgt := 79) dX4_outbox_21 (by decide) h (fun h => ?_) (fun h => ?_)
  · refine wp.locals (L' := [some (vR (some t)), none, none]) (ls_s (ls_n (ls_n ls_0))) ?_
    exact w_X4_outbox_79 h hT hG
  · refine r_iload_n dX4_outbox_24 rfl rfl iI ?_
    refine r_bipush dX4_outbox_25 (by decide) ?_
    refine r_icmp_ge (tgt := 79) dX4_outbox_27 (by decide) h (fun h => ?_) (fun h => ?_)
    · refine wp.locals (L' := [some (vR (some t)), none, none]) (ls_s (ls_n (ls_n ls_0))) ?_
      exact w_X4_outbox_79 h hT hG
    · refine r_iload_n dX4_outbox_30 rfl rfl iI ?_
      refine r_callS dX4_outbox_31 (c_X4_outAt h hT hG) q2434 q2435 q117 q2436 yo_X4_outAt rfl (by decide) (by decide) rfl rc0 (by decide) (Nat.le_refl _) (Nat.le_refl _) (tofI fun x10 w9 G h hT hG => ?_) nox
      refine r_istore_n (L' := [some (vR (some t)), some (vI l1), some (vI x10)]) dX4_outbox_34 rfl rfl iI cI (by decide) ?_
      refine r_aload_n dX4_outbox_35 rfl rfl iR ?_
      refine r_sipush dX4_outbox_36 (by decide) ?_
      refine r_aload_n dX4_outbox_39 rfl rfl iR ?_
      refine t_getA (j := 20) hT dX4_outbox_40 (fg1 (f := 20) fX4 (by decide) q2241 rfl) rfl ?_
      refine r_iload_n dX4_outbox_43 rfl rfl iI ?_
      refine r_iconst dX4_outbox_44 ?_
      refine r_iadd dX4_outbox_45 ?_
      refine t_iald hT dX4_outbox_46 tA20 (by decide) h (fun h => ?_)
      refine r_imul dX4_outbox_47 ?_
      refine r_bipush dX4_outbox_48 (by decide) ?_
      refine r_aload_n dX4_outbox_50 rfl rfl iR ?_
      refine t_getA (j := 20) hT dX4_outbox_51 (fg1 (f := 20) fX4 (by decide) q2241 rfl) rfl ?_
      refine r_iload_n dX4_outbox_54 rfl rfl iI ?_
      refine r_iconst dX4_outbox_55 ?_
      refine r_iadd dX4_outbox_56 ?_
      refine t_iald hT dX4_outbox_57 tA20 (by decide) h (fun h => ?_)
      refine r_imul dX4_outbox_58 ?_
      refine r_iadd dX4_outbox_59 ?_
      refine r_aload_n dX4_outbox_60 rfl rfl iR ?_
      refine t_getA (j := 20) hT dX4_outbox_61 (fg1 (f := 20) fX4 (by decide) q2241 rfl) rfl ?_
      refine r_iload_n dX4_outbox_64 rfl rfl iI ?_
      refine r_iconst dX4_outbox_65 ?_
      refine r_iadd dX4_outbox_66 ?_
      refine t_iald hT dX4_outbox_67 tA20 (by decide) h (fun h => ?_)
      refine r_iadd dX4_outbox_68 ?_
      refine r_i2l dX4_outbox_69 h (fun h => ?_)
      refine r_callV dX4_outbox_70 (tisC hT) (c_X4_enters h hT hG) q2536 q2538 qs71 q117 q2539 rfl yo_X4_enters rfl (by decide) (by decide) rfl rc0 (by decide) (Nat.le_refl _) (Nat.le_refl _) (tofV fun w11 G h hT hG => ?_) nox
      refine r_iinc (L' := [some (vR (some t)), some (vI (l1 + 1)), some (vI x10)]) dX4_outbox_73 rfl rfl cR (by decide) ?_
      refine r_goto (tgt := 12) dX4_outbox_76 (by decide) ?_
      refine wp.locals (L' := [some (vR (some t)), some (vI (l1 + 1)), none]) (ls_s (ls_s (ls_n ls_0))) ?_
      exact hk12 h hT hG
def f_X4_outbox_12 (Q : Int → Tw → Prop) : Nat → Int → Tw → Prop
  | 0, _, _ => False
  | fl + 1, l1, w => f_X4_outbox_12_b    (fun l1 w => f_X4_outbox_12    Q fl l1 w) l1 w Q
theorem w_X4_outbox_12 {t : Nat} {ad : Nat → Nat} {G0 : Wd} {Q : Int → Tw → Prop} : ∀ (fl : Nat) {l1 : Int} {w : Tw} {G : Wd}, f_X4_outbox_12 Q fl l1 w → TwAt t ad w (G 2) → (∀ r, r ≠ 2 → G r = G0 r) → wp m_X4_outbox 2 0 0 12 [some (vR (some t)), some (vI l1), none] [] G (twQ t ad G0 (uI Q)) noX := by
  intro fl
  induction fl with
  | zero => intro l1 w G h; exact (show False from h).elim
  | succ fl ih => intro l1 w G h hT hG; exact w_X4_outbox_12_b   (fun h hT hG => ih h hT hG) h hT hG
def f_X4_outbox (w : Tw) (Q : Int → Tw → Prop) : Prop :=
  tS w 0 0 0 (fun w12 => tS w12 1 0 0 (fun w13 => ∃ fl14, f_X4_outbox_12 Q fl14 0 w13))
theorem w_X4_outbox {t : Nat} {ad : Nat → Nat} {G0 : Wd} {Q : Int → Tw → Prop} {w : Tw} {G : Wd} (h : f_X4_outbox w Q) (hT : TwAt t ad w (G 2)) (hG : ∀ r, r ≠ 2 → G r = G0 r) : wp m_X4_outbox 2 0 0 0 [some (vR (some t)), none, none] [] G (twQ t ad G0 (uI Q)) noX := by
  unfold f_X4_outbox at h
  refine r_aload_n dX4_outbox_0 rfl rfl iR ?_
  refine r_iconst dX4_outbox_1 ?_
  refine t_put (j := 0) hT hG dX4_outbox_2 (fp1 (f := 0) fX4 (by decide) q2221 rfl rfl rfl) tF0 (by decide) h (fun w12 G h hT hG => ?_)
  refine r_aload_n dX4_outbox_5 rfl rfl iR ?_
  refine r_iconst dX4_outbox_6 ?_
  refine t_put (j := 1) hT hG dX4_outbox_7 (fp1 (f := 1) fX4 (by decide) q2222 rfl rfl rfl) tF1 (by decide) h (fun w13 G h hT hG => ?_)
  refine r_iconst dX4_outbox_10 ?_
  refine r_istore_n (L' := [some (vR (some t)), some (vI 0), none]) dX4_outbox_11 rfl rfl iI cR (by decide) ?_
  obtain ⟨fl14, h⟩ := h
  exact w_X4_outbox_12 fl14 h hT hG
theorem c_X4_outbox {t : Nat} {ad : Nat → Nat} {G0 : Wd} {Q : Int → Tw → Prop} {w : Tw} {G : Wd} (h : f_X4_outbox w Q) (hT : TwAt t ad w (G 2)) (hG : ∀ r, r ≠ 2 → G r = G0 r) : call yX4_outbox (Cond.code yX4_outbox cX4_outbox 3 (some .int)) 2 0 0 [vR (some t)] G (twQ t ad G0 (uI Q)) noX :=
  call.enter (by decide +kernel) (la_1 c1R (la_nil rfl)) rfl (w_X4_outbox  h hT hG)
abbrev m_X4_phase : Mt := (yX4_phase.cls, cX4_phase, 3, some .int, [], yX4_phase.name)
theorem yo_X4_phase : yOK yX4_phase 2 := ⟨by decide +kernel, by decide +kernel, by decide +kernel⟩
def f_X4_phase_18 (s0 : Bool) (w : Tw) (Q : Int → Tw → Prop) : Prop :=
  f_X4_flag s0 w (fun x4 w3 => Q x4 w3)
theorem w_X4_phase_18 {t : Nat} {ad : Nat → Nat} {G0 : Wd} {Q : Int → Tw → Prop} {s0 : Bool} {w : Tw} {G : Wd} (h : f_X4_phase_18 s0 w Q) (hT : TwAt t ad w (G 2)) (hG : ∀ r, r ≠ 2 → G r = G0 r) : wp m_X4_phase 2 0 0 18 [none, none, none] [vB s0] G (twQ t ad G0 (uI Q)) noX := by
  unfold f_X4_phase_18 at h
  refine r_callS dX4_phase_18 (c_X4_flag h hT hG) q2162 q2163 q117 q2164 yo_X4_flag rfl (by decide) (by decide) rfl rc0 (by decide) (Nat.le_refl _) (Nat.le_refl _) (tofI fun x4 w3 G h hT hG => ?_) nox
  exact r_iret rfl dX4_phase_21 ⟨_, hT, hG, _, rfl, h⟩
def f_X4_phase (a1 : Int) (a2 : Int) (w : Tw) (Q : Int → Tw → Prop) : Prop :=
  rdA w 17 5 a1 (fun _ => okd a2 (w 17 a1) (okm (a2.tdiv (w 17 a1)) 2 (br0 ((a2.tdiv (w 17 a1)) % 2) (¬ ((a2.tdiv (w 17 a1)) % 2) = 0) (f_X4_phase_18 false w Q) (f_X4_phase_18 true w Q))))
theorem w_X4_phase {t : Nat} {ad : Nat → Nat} {G0 : Wd} {Q : Int → Tw → Prop} {a1 : Int} {a2 : Int} {w : Tw} {G : Wd} (h : f_X4_phase a1 a2 w Q) (hT : TwAt t ad w (G 2)) (hG : ∀ r, r ≠ 2 → G r = G0 r) : wp m_X4_phase 2 0 0 0 [some (vR (some t)), some (vI a1), some (vI a2)] [] G (twQ t ad G0 (uI Q)) noX := by
  unfold f_X4_phase at h
  refine r_iload_n dX4_phase_0 rfl rfl iI ?_
  refine r_aload_n dX4_phase_1 rfl rfl iR ?_
  refine t_getA (j := 17) hT dX4_phase_2 (fg1 (f := 17) fX4 (by decide) q2238 rfl) rfl ?_
  refine r_iload_n dX4_phase_5 rfl rfl iI ?_
  refine t_iald hT dX4_phase_6 tA17 (by decide) h (fun h => ?_)
  refine r_idiv dX4_phase_7 h (fun h => ?_)
  refine r_iconst dX4_phase_8 ?_
  refine r_irem dX4_phase_9 h (fun h => ?_)
  refine r_if_ne (tgt := 17) dX4_phase_10 (by decide) h (fun h => ?_) (fun h => ?_)
  · refine r_iconst dX4_phase_17 ?_
    refine wp.cast (st' := [vB false]) rfl (congrArg (fun q => [q]) vI0) ?_
    refine wp.locals (L' := [none, none, none]) (ls_n (ls_n (ls_n ls_0))) ?_
    exact w_X4_phase_18 h hT hG
  · refine r_iconst dX4_phase_13 ?_
    refine r_goto (tgt := 18) dX4_phase_14 (by decide) ?_
    refine wp.cast (st' := [vB true]) rfl (congrArg (fun q => [q]) vI1) ?_
    refine wp.locals (L' := [none, none, none]) (ls_n (ls_n (ls_n ls_0))) ?_
    exact w_X4_phase_18 h hT hG
theorem c_X4_phase {t : Nat} {ad : Nat → Nat} {G0 : Wd} {a1 : Int} {a2 : Int} {Q : Int → Tw → Prop} {w : Tw} {G : Wd} (h : f_X4_phase a1 a2 w Q) (hT : TwAt t ad w (G 2)) (hG : ∀ r, r ≠ 2 → G r = G0 r) : call yX4_phase (Cond.code yX4_phase cX4_phase 3 (some .int)) 2 0 0 [vR (some t), vI a1, vI a2] G (twQ t ad G0 (uI Q)) noX :=
  call.enter (by decide +kernel) (la_1 c1R (la_1 c1I (la_1 c1I (la_nil rfl)))) rfl (w_X4_phase  h hT hG)
abbrev m_X4_isWrite : Mt := (yX4_isWrite.cls, cX4_isWrite, 3, some .boolean, [], yX4_isWrite.name)
theorem yo_X4_isWrite : yOK yX4_isWrite 3 := ⟨by decide +kernel, by decide +kernel, by decide +kernel⟩
def f_X4_isWrite_39 (a0 : Nat) (w : Tw) (Q : Bool → Tw → Prop) : Prop :=
  Q false w
theorem w_X4_isWrite_39 {t : Nat} {ad : Nat → Nat} {G0 : Wd} {a0 : Nat} (hA_a0 : (a0, 0, 844) ∈ twA) {Q : Bool → Tw → Prop} {w : Tw} {G : Wd} (h : f_X4_isWrite_39 a0 w Q) (hT : TwAt t ad w (G 2)) (hG : ∀ r, r ≠ 2 → G r = G0 r) : wp m_X4_isWrite 1 0 0 39 [none, none, none] [] G (twQ t ad G0 (uB Q)) noX := by
  unfold f_X4_isWrite_39 at h
  refine r_iconst dX4_isWrite_39 ?_
  refine wp.cast (st' := [vB false]) rfl (congrArg (fun q => [q]) vI0) ?_
  exact r_zret rfl dX4_isWrite_40 ⟨_, hT, hG, _, rfl, h⟩
def f_X4_isWrite_18 (a0 : Nat) (l1 : Int) (l2 : Int) (w : Tw) (Q : Bool → Tw → Prop) : Prop :=
  rdA w a0 844 (l1 + 2) (fun _ => br (w a0 (l1 + 2)) l2 (¬ (w a0 (l1 + 2)) = l2) (f_X4_isWrite_39 a0 w Q) (rdA w a0 844 (l1 + 4) (fun _ => br0 (w a0 (l1 + 4)) (¬ (w a0 (l1 + 4)) = 0) (f_X4_isWrite_39 a0 w Q) (Q true w))))
theorem w_X4_isWrite_18 {t : Nat} {ad : Nat → Nat} {G0 : Wd} {a0 : Nat} (hA_a0 : (a0, 0, 844) ∈ twA) {Q : Bool → Tw → Prop} {l1 : Int} {l2 : Int} {w : Tw} {G : Wd} (h : f_X4_isWrite_18 a0 l1 l2 w Q) (hT : TwAt t ad w (G 2)) (hG : ∀ r, r ≠ 2 → G r = G0 r) : wp m_X4_isWrite 1 0 0 18 [some (vR (some (ad a0))), some (vI l1), some (vI l2)] [] G (twQ t ad G0 (uB Q)) noX := by
  unfold f_X4_isWrite_18 at h
  refine r_aload_n dX4_isWrite_18 rfl rfl iR ?_
  refine r_iload_n dX4_isWrite_19 rfl rfl iI ?_
  refine r_iconst dX4_isWrite_20 ?_
  refine r_iadd dX4_isWrite_21 ?_
  refine t_iald hT dX4_isWrite_22 hA_a0 (by decide) h (fun h => ?_)
  refine r_iload_n dX4_isWrite_23 rfl rfl iI ?_
  refine r_icmp_ne (tgt := 39) dX4_isWrite_24 (by decide) h (fun h => ?_) (fun h => ?_)
  · refine wp.locals (L' := [none, none, none]) (ls_n (ls_n (ls_n ls_0))) ?_
    exact w_X4_isWrite_39 hA_a0 h hT hG
  · refine r_aload_n dX4_isWrite_27 rfl rfl iR ?_
    refine r_iload_n dX4_isWrite_28 rfl rfl iI ?_
    refine r_iconst dX4_isWrite_29 ?_
    refine r_iadd dX4_isWrite_30 ?_
    refine t_iald hT dX4_isWrite_31 hA_a0 (by decide) h (fun h => ?_)
    refine r_if_ne (tgt := 39) dX4_isWrite_32 (by decide) h (fun h => ?_) (fun h => ?_)
    · refine wp.locals (L' := [none, none, none]) (ls_n (ls_n (ls_n ls_0))) ?_
      exact w_X4_isWrite_39 hA_a0 h hT hG
    · refine r_iconst dX4_isWrite_35 ?_
      refine r_goto (tgt := 40) dX4_isWrite_36 (by decide) ?_
      refine wp.cast (st' := [vB true]) rfl (congrArg (fun q => [q]) vI1) ?_
      exact r_zret rfl dX4_isWrite_40 ⟨_, hT, hG, _, rfl, h⟩
def f_X4_isWrite (a0 : Nat) (a1 : Int) (a2 : Int) (w : Tw) (Q : Bool → Tw → Prop) : Prop :=
  rdA w a0 844 (a1 + 1) (fun _ => br (w a0 (a1 + 1)) 1 ((w a0 (a1 + 1)) = (1 : Int)) (f_X4_isWrite_18 a0 a1 a2 w Q) (rdA w a0 844 (a1 + 1) (fun _ => br (w a0 (a1 + 1)) 3 (¬ (w a0 (a1 + 1)) = (3 : Int)) (f_X4_isWrite_39 a0 w Q) (f_X4_isWrite_18 a0 a1 a2 w Q))))
theorem w_X4_isWrite {t : Nat} {ad : Nat → Nat} {G0 : Wd} {a0 : Nat} (hA_a0 : (a0, 0, 844) ∈ twA) {Q : Bool → Tw → Prop} {a1 : Int} {a2 : Int} {w : Tw} {G : Wd} (h : f_X4_isWrite a0 a1 a2 w Q) (hT : TwAt t ad w (G 2)) (hG : ∀ r, r ≠ 2 → G r = G0 r) : wp m_X4_isWrite 1 0 0 0 [some (vR (some (ad a0))), some (vI a1), some (vI a2)] [] G (twQ t ad G0 (uB Q)) noX := by
  unfold f_X4_isWrite at h
  refine r_aload_n dX4_isWrite_0 rfl rfl iR ?_
  refine r_iload_n dX4_isWrite_1 rfl rfl iI ?_
  refine r_iconst dX4_isWrite_2 ?_
  refine r_iadd dX4_isWrite_3 ?_
  refine t_iald hT dX4_isWrite_4 hA_a0 (by decide) h (fun h => ?_)
  refine r_iconst dX4_isWrite_5 ?_
  refine r_icmp_eq (tgt := 18) dX4_isWrite_6 (by decide) h (fun h => ?_) (fun h => ?_)
  · exact w_X4_isWrite_18 hA_a0 h hT hG
  · refine r_aload_n dX4_isWrite_9 rfl rfl iR ?_
    refine r_iload_n dX4_isWrite_10 rfl rfl iI ?_
    refine r_iconst dX4_isWrite_11 ?_
    refine r_iadd dX4_isWrite_12 ?_
    refine t_iald hT dX4_isWrite_13 hA_a0 (by decide) h (fun h => ?_)
    refine r_iconst dX4_isWrite_14 ?_
    refine r_icmp_ne (tgt := 39) dX4_isWrite_15 (by decide) h (fun h => ?_) (fun h => ?_)
    · refine wp.locals (L' := [none, none, none]) (ls_n (ls_n (ls_n ls_0))) ?_
      exact w_X4_isWrite_39 hA_a0 h hT hG
    · exact w_X4_isWrite_18 hA_a0 h hT hG
theorem c_X4_isWrite {t : Nat} {ad : Nat → Nat} {G0 : Wd} {a0 : Nat} {a1 : Int} {a2 : Int} (hA_a0 : (a0, 0, 844) ∈ twA) {Q : Bool → Tw → Prop} {w : Tw} {G : Wd} (h : f_X4_isWrite a0 a1 a2 w Q) (hT : TwAt t ad w (G 2)) (hG : ∀ r, r ≠ 2 → G r = G0 r) : call yX4_isWrite (Cond.code yX4_isWrite cX4_isWrite 3 (some .boolean)) 1 0 0 [vR (some (ad a0)), vI a1, vI a2] G (twQ t ad G0 (uB Q)) noX :=
  call.enter (by decide +kernel) (la_1 c1R (la_1 c1I (la_1 c1I (la_nil rfl)))) rfl (w_X4_isWrite hA_a0 h hT hG)
abbrev m_X4_copies : Mt := (yX4_copies.cls, cX4_copies, 2, none, [], yX4_copies.name)
theorem yo_X4_copies : yOK yX4_copies 0 := ⟨by decide +kernel, by decide +kernel, by decide +kernel⟩
def f_X4_copies_2_b (k2 : Int → Tw → Prop) (l1 : Int) (w : Tw) (Q : Tw → Prop) : Prop :=
  br l1 844 ((844 : Int) ≤ l1) (Q w) (rdA w 20 844 l1 (fun _ => wrA w 21 844 l1 (w 20 l1) (fun w3 => k2 (l1 + 1) w3)))
theorem w_X4_copies_2_b {t : Nat} {ad : Nat → Nat} {G0 : Wd} {Q : Tw → Prop} {k2 : Int → Tw → Prop} (hk2 : ∀ {l1 : Int} {w : Tw} {G : Wd}, k2 l1 w → TwAt t ad w (G 2) → (∀ r, r ≠ 2 → G r = G0 r) → wp m_X4_copies 1 0 0 2 [some (vR (some t)), some (vI l1)] [] G (twQ t ad G0 (uV Q)) noX) {l1 : Int} {w : Tw} {G : Wd} (h : f_X4_copies_2_b k2 l1 w Q) (hT : TwAt t ad w (G 2)) (hG : ∀ r, r ≠ 2 → G r = G0 r) : wp m_X4_copies 1 0 0 2 [some (vR (some t)), some (vI l1)] [] G (twQ t ad G0 (uV Q)) noX := by
  unfold f_X4_copies_2_b at h
  refine r_iload_n dX4_copies_2 rfl rfl iI ?_
  refine r_sipush dX4_copies_3 (by decide) ?_
  refine r_icmp_ge (tgt := 27) dX4_copies_6 (by decide) h (fun h => ?_) (fun h => ?_)
  · exact r_vret rfl dX4_copies_27 ⟨_, hT, hG, rfl, h⟩
  · refine r_aload_n dX4_copies_9 rfl rfl iR ?_
    refine t_getA (j := 21) hT dX4_copies_10 (fg1 (f := 21) fX4 (by decide) q2242 rfl) rfl ?_
    refine r_iload_n dX4_copies_13 rfl rfl iI ?_
    refine r_aload_n dX4_copies_14 rfl rfl iR ?_
    refine t_getA (j := 20) hT dX4_copies_15 (fg1 (f := 20) fX4 (by decide) q2241 rfl) rfl ?_
    refine r_iload_n dX4_copies_18 rfl rfl iI ?_
    refine t_iald hT dX4_copies_19 tA20 (by decide) h (fun h => ?_)
    refine t_iast hT hG dX4_copies_20 tA21 (by decide) h (fun w3 G h hT hG => ?_)
    refine r_iinc (L' := [some (vR (some t)), some (vI (l1 + 1))]) dX4_copies_21 rfl rfl cR (by decide) ?_
    refine r_goto (tgt := 2) dX4_copies_24 (by decide) ?_
    exact hk2 h hT hG
def f_X4_copies_2 (Q : Tw → Prop) : Nat → Int → Tw → Prop
  | 0, _, _ => False
  | fl + 1, l1, w => f_X4_copies_2_b    (fun l1 w => f_X4_copies_2    Q fl l1 w) l1 w Q
theorem w_X4_copies_2 {t : Nat} {ad : Nat → Nat} {G0 : Wd} {Q : Tw → Prop} : ∀ (fl : Nat) {l1 : Int} {w : Tw} {G : Wd}, f_X4_copies_2 Q fl l1 w → TwAt t ad w (G 2) → (∀ r, r ≠ 2 → G r = G0 r) → wp m_X4_copies 1 0 0 2 [some (vR (some t)), some (vI l1)] [] G (twQ t ad G0 (uV Q)) noX := by
  intro fl
  induction fl with
  | zero => intro l1 w G h; exact (show False from h).elim
  | succ fl ih => intro l1 w G h hT hG; exact w_X4_copies_2_b   (fun h hT hG => ih h hT hG) h hT hG
def f_X4_copies (w : Tw) (Q : Tw → Prop) : Prop :=
  ∃ fl4, f_X4_copies_2 Q fl4 0 w
theorem w_X4_copies {t : Nat} {ad : Nat → Nat} {G0 : Wd} {Q : Tw → Prop} {w : Tw} {G : Wd} (h : f_X4_copies w Q) (hT : TwAt t ad w (G 2)) (hG : ∀ r, r ≠ 2 → G r = G0 r) : wp m_X4_copies 1 0 0 0 [some (vR (some t)), none] [] G (twQ t ad G0 (uV Q)) noX := by
  unfold f_X4_copies at h
  refine r_iconst dX4_copies_0 ?_
  refine r_istore_n (L' := [some (vR (some t)), some (vI 0)]) dX4_copies_1 rfl rfl iI cR (by decide) ?_
  obtain ⟨fl4, h⟩ := h
  exact w_X4_copies_2 fl4 h hT hG
theorem c_X4_copies {t : Nat} {ad : Nat → Nat} {G0 : Wd} {Q : Tw → Prop} {w : Tw} {G : Wd} (h : f_X4_copies w Q) (hT : TwAt t ad w (G 2)) (hG : ∀ r, r ≠ 2 → G r = G0 r) : call yX4_copies (Cond.code yX4_copies cX4_copies 2 (none)) 1 0 0 [vR (some t)] G (twQ t ad G0 (uV Q)) noX :=
  call.enter (by decide +kernel) (la_1 c1R (la_nil rfl)) rfl (w_X4_copies  h hT hG)
abbrev m_X4_isDrained : Mt := (yX4_isDrained.cls, cX4_isDrained, 4, some .boolean, [], yX4_isDrained.name)
theorem yo_X4_isDrained : yOK yX4_isDrained 1 := ⟨by decide +kernel, by decide +kernel, by decide +kernel⟩
def f_X4_isDrained_56 (a1 : Nat) (k24 : Bool → Int → Tw → Prop) (l3 : Int) (s0 : Bool) (w : Tw) (Q : Bool → Tw → Prop) : Prop :=
  k24 s0 (l3 + 1) w
theorem w_X4_isDrained_56 {t : Nat} {ad : Nat → Nat} {G0 : Wd} {a1 : Nat} (hA_a1 : (a1, 0, 844) ∈ twA) {Q : Bool → Tw → Prop} {k24 : Bool → Int → Tw → Prop} (hk24 : ∀ {l2 : Bool} {l3 : Int} {w : Tw} {G : Wd}, k24 l2 l3 w → TwAt t ad w (G 2) → (∀ r, r ≠ 2 → G r = G0 r) → wp m_X4_isDrained 2 0 0 24 [some (vR (some t)), some (vR (some (ad a1))), some (vB l2), some (vI l3)] [] G (twQ t ad G0 (uB Q)) noX) {l3 : Int} {s0 : Bool} {w : Tw} {G : Wd} (h : f_X4_isDrained_56 a1 k24 l3 s0 w Q) (hT : TwAt t ad w (G 2)) (hG : ∀ r, r ≠ 2 → G r = G0 r) : wp m_X4_isDrained 2 0 0 56 [some (vR (some t)), some (vR (some (ad a1))), none, some (vI l3)] [vB s0] G (twQ t ad G0 (uB Q)) noX := by
  unfold f_X4_isDrained_56 at h
  refine r_istore_n (L' := [some (vR (some t)), some (vR (some (ad a1))), some (vB s0), some (vI l3)]) dX4_isDrained_56 rfl rfl iB cR (by decide) ?_
  refine r_iinc (L' := [some (vR (some t)), some (vR (some (ad a1))), some (vB s0), some (vI (l3 + 1))]) dX4_isDrained_57 rfl rfl cB (by decide) ?_
  refine r_goto (tgt := 24) dX4_isDrained_60 (by decide) ?_
  exact hk24 h hT hG
def f_X4_isDrained_55 (a1 : Nat) (k24 : Bool → Int → Tw → Prop) (l3 : Int) (w : Tw) (Q : Bool → Tw → Prop) : Prop :=
  f_X4_isDrained_56 a1 k24 l3 false w Q
theorem w_X4_isDrained_55 {t : Nat} {ad : Nat → Nat} {G0 : Wd} {a1 : Nat} (hA_a1 : (a1, 0, 844) ∈ twA) {Q : Bool → Tw → Prop} {k24 : Bool → Int → Tw → Prop} (hk24 : ∀ {l2 : Bool} {l3 : Int} {w : Tw} {G : Wd}, k24 l2 l3 w → TwAt t ad w (G 2) → (∀ r, r ≠ 2 → G r = G0 r) → wp m_X4_isDrained 2 0 0 24 [some (vR (some t)), some (vR (some (ad a1))), some (vB l2), some (vI l3)] [] G (twQ t ad G0 (uB Q)) noX) {l3 : Int} {w : Tw} {G : Wd} (h : f_X4_isDrained_55 a1 k24 l3 w Q) (hT : TwAt t ad w (G 2)) (hG : ∀ r, r ≠ 2 → G r = G0 r) : wp m_X4_isDrained 2 0 0 55 [some (vR (some t)), some (vR (some (ad a1))), none, some (vI l3)] [] G (twQ t ad G0 (uB Q)) noX := by
  unfold f_X4_isDrained_55 at h
  refine r_iconst dX4_isDrained_55 ?_
  refine wp.cast (st' := [vB false]) rfl (congrArg (fun q => [q]) vI0) ?_
  exact w_X4_isDrained_56 hA_a1 hk24 h hT hG
def f_X4_isDrained_24_b (a1 : Nat) (k24 : Bool → Int → Tw → Prop) (l2 : Bool) (l3 : Int) (w : Tw) (Q : Bool → Tw → Prop) : Prop :=
  br l3 (w 14 0) ((w 14 0) ≤ l3) (Q l2 w) (brB l2 (f_X4_of a1 l3 1 w (fun x10 w9 => f_X4_of a1 l3 3 w9 (fun x12 w11 => br x10 x12 (¬ x10 = x12) (f_X4_isDrained_55 a1 k24 l3 w11 Q) (f_X4_isDrained_56 a1 k24 l3 true w11 Q)))) (f_X4_isDrained_55 a1 k24 l3 w Q))
theorem w_X4_isDrained_24_b {t : Nat} {ad : Nat → Nat} {G0 : Wd} {a1 : Nat} (hA_a1 : (a1, 0, 844) ∈ twA) {Q : Bool → Tw → Prop} {k24 : Bool → Int → Tw → Prop} (hk24 : ∀ {l2 : Bool} {l3 : Int} {w : Tw} {G : Wd}, k24 l2 l3 w → TwAt t ad w (G 2) → (∀ r, r ≠ 2 → G r = G0 r) → wp m_X4_isDrained 2 0 0 24 [some (vR (some t)), some (vR (some (ad a1))), some (vB l2), some (vI l3)] [] G (twQ t ad G0 (uB Q)) noX) {l2 : Bool} {l3 : Int} {w : Tw} {G : Wd} (h : f_X4_isDrained_24_b a1 k24 l2 l3 w Q) (hT : TwAt t ad w (G 2)) (hG : ∀ r, r ≠ 2 → G r = G0 r) : wp m_X4_isDrained 2 0 0 24 [some (vR (some t)), some (vR (some (ad a1))), some (vB l2), some (vI l3)] [] G (twQ t ad G0 (uB Q)) noX := by
  unfold f_X4_isDrained_24_b at h
  refine r_iload_n dX4_isDrained_24 rfl rfl iI ?_
  refine r_aload_n dX4_isDrained_25 rfl rfl iR ?_
  refine t_getI (j := 14) hT dX4_isDrained_26 (fg1 (f := 14) fX4 (by decide) q2235 rfl) rfl ?_
  refine r_icmp_ge (tgt := 63) dX4_isDrained_29 (by decide) h (fun h => ?_) (fun h => ?_)
  · refine r_iload_n dX4_isDrained_63 rfl rfl iB ?_
    exact r_zret rfl dX4_isDrained_64 ⟨_, hT, hG, _, rfl, h⟩
  · refine r_iload_n dX4_isDrained_32 rfl rfl iB ?_
    refine r_ifZ_eq (tgt := 55) dX4_isDrained_33 (by decide) h (fun h => ?_) (fun h => ?_)
    · refine wp.locals (L' := [some (vR (some t)), some (vR (some (ad a1))), none, some (vI l3)]) (ls_s (ls_s (ls_n (ls_s ls_0)))) ?_
      exact w_X4_isDrained_55 hA_a1 hk24 h hT hG
    · refine r_aload_n dX4_isDrained_36 rfl rfl iR ?_
      refine r_iload_n dX4_isDrained_37 rfl rfl iI ?_
      refine r_iconst dX4_isDrained_38 ?_
      refine r_callS dX4_isDrained_39 (c_X4_of hA_a1 h hT hG) q2379 q2380 q117 q2381 yo_X4_of rfl (by decide) (by decide) rfl rc0 (by decide) (Nat.le_refl _) (Nat.le_refl _) (tofI fun x10 w9 G h hT hG => ?_) nox
      refine r_aload_n dX4_isDrained_42 rfl rfl iR ?_
      refine r_iload_n dX4_isDrained_43 rfl rfl iI ?_
      refine r_iconst dX4_isDrained_44 ?_
      refine r_callS dX4_isDrained_45 (c_X4_of hA_a1 h hT hG) q2379 q2380 q117 q2381 yo_X4_of rfl (by decide) (by decide) rfl (rc1 c1I rc0) (by decide) (Nat.le_refl _) (Nat.le_refl _) (tofI fun x12 w11 G h hT hG => ?_) nox
      refine r_icmp_ne (tgt := 55) dX4_isDrained_48 (by decide) h (fun h => ?_) (fun h => ?_)
      · refine wp.locals (L' := [some (vR (some t)), some (vR (some (ad a1))), none, some (vI l3)]) (ls_s (ls_s (ls_n (ls_s ls_0)))) ?_
        exact w_X4_isDrained_55 hA_a1 hk24 h hT hG
      · refine r_iconst dX4_isDrained_51 ?_
        refine r_goto (tgt := 56) dX4_isDrained_52 (by decide) ?_
        refine wp.cast (st' := [vB true]) rfl (congrArg (fun q => [q]) vI1) ?_
        refine wp.locals (L' := [some (vR (some t)), some (vR (some (ad a1))), none, some (vI l3)]) (ls_s (ls_s (ls_n (ls_s ls_0)))) ?_
        exact w_X4_isDrained_56 hA_a1 hk24 h hT hG
def f_X4_isDrained_24 (a1 : Nat) (Q : Bool → Tw → Prop) : Nat → Bool → Int → Tw → Prop
  | 0, _, _, _ => False
  | fl + 1, l2, l3, w => f_X4_isDrained_24_b  a1  (fun l2 l3 w => f_X4_isDrained_24  a1  Q fl l2 l3 w) l2 l3 w Q
theorem w_X4_isDrained_24 {t : Nat} {ad : Nat → Nat} {G0 : Wd} {a1 : Nat} (hA_a1 : (a1, 0, 844) ∈ twA) {Q : Bool → Tw → Prop} : ∀ (fl : Nat) {l2 : Bool} {l3 : Int} {w : Tw} {G : Wd}, f_X4_isDrained_24 a1 Q fl l2 l3 w → TwAt t ad w (G 2) → (∀ r, r ≠ 2 → G r = G0 r) → wp m_X4_isDrained 2 0 0 24 [some (vR (some t)), some (vR (some (ad a1))), some (vB l2), some (vI l3)] [] G (twQ t ad G0 (uB Q)) noX := by
  intro fl
  induction fl with
  | zero => intro l2 l3 w G h; exact (show False from h).elim
  | succ fl ih => intro l2 l3 w G h hT hG; exact w_X4_isDrained_24_b hA_a1  (fun h hT hG => ih h hT hG) h hT hG
def f_X4_isDrained_21 (a1 : Nat) (s0 : Bool) (w : Tw) (Q : Bool → Tw → Prop) : Prop :=
  ∃ fl13, f_X4_isDrained_24 a1 Q fl13 s0 0 w
theorem w_X4_isDrained_21 {t : Nat} {ad : Nat → Nat} {G0 : Wd} {a1 : Nat} (hA_a1 : (a1, 0, 844) ∈ twA) {Q : Bool → Tw → Prop} {s0 : Bool} {w : Tw} {G : Wd} (h : f_X4_isDrained_21 a1 s0 w Q) (hT : TwAt t ad w (G 2)) (hG : ∀ r, r ≠ 2 → G r = G0 r) : wp m_X4_isDrained 2 0 0 21 [some (vR (some t)), some (vR (some (ad a1))), none, none] [vB s0] G (twQ t ad G0 (uB Q)) noX := by
  unfold f_X4_isDrained_21 at h
  refine r_istore_n (L' := [some (vR (some t)), some (vR (some (ad a1))), some (vB s0), none]) dX4_isDrained_21 rfl rfl iB cR (by decide) ?_
  refine r_iconst dX4_isDrained_22 ?_
  refine r_istore_n (L' := [some (vR (some t)), some (vR (some (ad a1))), some (vB s0), some (vI 0)]) dX4_isDrained_23 rfl rfl iI cB (by decide) ?_
  obtain ⟨fl13, h⟩ := h
  exact w_X4_isDrained_24 hA_a1 fl13 h hT hG
def f_X4_isDrained_20 (a1 : Nat) (w : Tw) (Q : Bool → Tw → Prop) : Prop :=
  f_X4_isDrained_21 a1 false w Q
theorem w_X4_isDrained_20 {t : Nat} {ad : Nat → Nat} {G0 : Wd} {a1 : Nat} (hA_a1 : (a1, 0, 844) ∈ twA) {Q : Bool → Tw → Prop} {w : Tw} {G : Wd} (h : f_X4_isDrained_20 a1 w Q) (hT : TwAt t ad w (G 2)) (hG : ∀ r, r ≠ 2 → G r = G0 r) : wp m_X4_isDrained 2 0 0 20 [some (vR (some t)), some (vR (some (ad a1))), none, none] [] G (twQ t ad G0 (uB Q)) noX := by
  unfold f_X4_isDrained_20 at h
  refine r_iconst dX4_isDrained_20 ?_
  refine wp.cast (st' := [vB false]) rfl (congrArg (fun q => [q]) vI0) ?_
  exact w_X4_isDrained_21 hA_a1 h hT hG
def f_X4_isDrained (a1 : Nat) (w : Tw) (Q : Bool → Tw → Prop) : Prop :=
  rdA w a1 844 493 (fun _ => br0 (w a1 493) (¬ (w a1 493) = 0) (f_X4_isDrained_20 a1 w Q) (rdA w a1 844 814 (fun _ => br0 (w a1 814) (¬ (w a1 814) = 0) (f_X4_isDrained_20 a1 w Q) (f_X4_isDrained_21 a1 true w Q))))
theorem w_X4_isDrained {t : Nat} {ad : Nat → Nat} {G0 : Wd} {a1 : Nat} (hA_a1 : (a1, 0, 844) ∈ twA) {Q : Bool → Tw → Prop} {w : Tw} {G : Wd} (h : f_X4_isDrained a1 w Q) (hT : TwAt t ad w (G 2)) (hG : ∀ r, r ≠ 2 → G r = G0 r) : wp m_X4_isDrained 2 0 0 0 [some (vR (some t)), some (vR (some (ad a1))), none, none] [] G (twQ t ad G0 (uB Q)) noX := by
  unfold f_X4_isDrained at h
  refine r_aload_n dX4_isDrained_0 rfl rfl iR ?_
  refine r_sipush dX4_isDrained_1 (by decide) ?_
  refine t_iald hT dX4_isDrained_4 hA_a1 (by decide) h (fun h => ?_)
  refine r_if_ne (tgt := 20) dX4_isDrained_5 (by decide) h (fun h => ?_) (fun h => ?_)
  · exact w_X4_isDrained_20 hA_a1 h hT hG
  · refine r_aload_n dX4_isDrained_8 rfl rfl iR ?_
    refine r_sipush dX4_isDrained_9 (by decide) ?_
    refine t_iald hT dX4_isDrained_12 hA_a1 (by decide) h (fun h => ?_)
    refine r_if_ne (tgt := 20) dX4_isDrained_13 (by decide) h (fun h => ?_) (fun h => ?_)
    · exact w_X4_isDrained_20 hA_a1 h hT hG
    · refine r_iconst dX4_isDrained_16 ?_
      refine r_goto (tgt := 21) dX4_isDrained_17 (by decide) ?_
      refine wp.cast (st' := [vB true]) rfl (congrArg (fun q => [q]) vI1) ?_
      exact w_X4_isDrained_21 hA_a1 h hT hG
theorem c_X4_isDrained {t : Nat} {ad : Nat → Nat} {G0 : Wd} {a1 : Nat} (hA_a1 : (a1, 0, 844) ∈ twA) {Q : Bool → Tw → Prop} {w : Tw} {G : Wd} (h : f_X4_isDrained a1 w Q) (hT : TwAt t ad w (G 2)) (hG : ∀ r, r ≠ 2 → G r = G0 r) : call yX4_isDrained (Cond.code yX4_isDrained cX4_isDrained 4 (some .boolean)) 2 0 0 [vR (some t), vR (some (ad a1))] G (twQ t ad G0 (uB Q)) noX :=
  call.enter (by decide +kernel) (la_1 c1R (la_1 c1R (la_nil rfl))) rfl (w_X4_isDrained hA_a1 h hT hG)
abbrev m_X4_takesAll : Mt := (yX4_takesAll.cls, cX4_takesAll, 3, none, [], yX4_takesAll.name)
theorem yo_X4_takesAll : yOK yX4_takesAll 1 := ⟨by decide +kernel, by decide +kernel, by decide +kernel⟩
def f_X4_takesAll_10_b (a1 : Nat) (k2 : Int → Tw → Prop) (k10 : Int → Tw → Prop) (l2 : Int) (w : Tw) (Q : Tw → Prop) : Prop :=
  f_X4_takesOne a1 l2 w (fun x8 w7 => br0 x8 (x8 < 0) (k2 (l2 + 1) w7) (tS w7 35 0 ((w7 35 0) + 1) (fun w9 => k10 l2 w9)))
theorem w_X4_takesAll_10_b {t : Nat} {ad : Nat → Nat} {G0 : Wd} {a1 : Nat} (hA_a1 : (a1, 0, 844) ∈ twA) {Q : Tw → Prop} {k2 : Int → Tw → Prop} (hk2 : ∀ {l2 : Int} {w : Tw} {G : Wd}, k2 l2 w → TwAt t ad w (G 2) → (∀ r, r ≠ 2 → G r = G0 r) → wp m_X4_takesAll 4 0 0 2 [some (vR (some t)), some (vR (some (ad a1))), some (vI l2)] [] G (twQ t ad G0 (uV Q)) noX) {k10 : Int → Tw → Prop} (hk10 : ∀ {l2 : Int} {w : Tw} {G : Wd}, k10 l2 w → TwAt t ad w (G 2) → (∀ r, r ≠ 2 → G r = G0 r) → wp m_X4_takesAll 4 0 0 10 [some (vR (some t)), some (vR (some (ad a1))), some (vI l2)] [] G (twQ t ad G0 (uV Q)) noX) {l2 : Int} {w : Tw} {G : Wd} (h : f_X4_takesAll_10_b a1 k2 k10 l2 w Q) (hT : TwAt t ad w (G 2)) (hG : ∀ r, r ≠ 2 → G r = G0 r) : wp m_X4_takesAll 4 0 0 10 [some (vR (some t)), some (vR (some (ad a1))), some (vI l2)] [] G (twQ t ad G0 (uV Q)) noX := by
  unfold f_X4_takesAll_10_b at h
  refine r_aload_n dX4_takesAll_10 rfl rfl iR ?_
  refine r_aload_n dX4_takesAll_11 rfl rfl iR ?_
  refine r_iload_n dX4_takesAll_12 rfl rfl iI ?_
  refine r_callV dX4_takesAll_13 (tisC hT) (c_X4_takesOne hA_a1 h hT hG) q2544 q2546 qs72 q117 q2547 rfl yo_X4_takesOne rfl (by decide) (by decide) rfl rc0 (by decide) (Nat.le_refl _) (Nat.le_refl _) (tofI fun x8 w7 G h hT hG => ?_) nox
  refine r_if_lt (tgt := 32) dX4_takesAll_16 (by decide) h (fun h => ?_) (fun h => ?_)
  · refine r_iinc (L' := [some (vR (some t)), some (vR (some (ad a1))), some (vI (l2 + 1))]) dX4_takesAll_32 rfl rfl cR (by decide) ?_
    refine r_goto (tgt := 2) dX4_takesAll_35 (by decide) ?_
    exact hk2 h hT hG
  · refine r_aload_n dX4_takesAll_19 rfl rfl iR ?_
    refine r_dup dX4_takesAll_20 c1R ?_
    refine t_getI (j := 35) hT dX4_takesAll_21 (fg1 (f := 35) fX4 (by decide) q2256 rfl) rfl ?_
    refine r_iconst dX4_takesAll_24 ?_
    refine r_iadd dX4_takesAll_25 ?_
    refine t_put (j := 35) hT hG dX4_takesAll_26 (fp1 (f := 35) fX4 (by decide) q2256 rfl rfl rfl) tF35 (by decide) h (fun w9 G h hT hG => ?_)
    refine r_goto (tgt := 10) dX4_takesAll_29 (by decide) ?_
    exact hk10 h hT hG
def f_X4_takesAll_10 (a1 : Nat) (k2 : Int → Tw → Prop) (Q : Tw → Prop) : Nat → Int → Tw → Prop
  | 0, _, _ => False
  | fl + 1, l2, w => f_X4_takesAll_10_b  a1 k2 (fun l2 w => f_X4_takesAll_10  a1 k2 Q fl l2 w) l2 w Q
theorem w_X4_takesAll_10 {t : Nat} {ad : Nat → Nat} {G0 : Wd} {a1 : Nat} (hA_a1 : (a1, 0, 844) ∈ twA) {Q : Tw → Prop} {k2 : Int → Tw → Prop} (hk2 : ∀ {l2 : Int} {w : Tw} {G : Wd}, k2 l2 w → TwAt t ad w (G 2) → (∀ r, r ≠ 2 → G r = G0 r) → wp m_X4_takesAll 4 0 0 2 [some (vR (some t)), some (vR (some (ad a1))), some (vI l2)] [] G (twQ t ad G0 (uV Q)) noX) : ∀ (fl : Nat) {l2 : Int} {w : Tw} {G : Wd}, f_X4_takesAll_10 a1 k2 Q fl l2 w → TwAt t ad w (G 2) → (∀ r, r ≠ 2 → G r = G0 r) → wp m_X4_takesAll 4 0 0 10 [some (vR (some t)), some (vR (some (ad a1))), some (vI l2)] [] G (twQ t ad G0 (uV Q)) noX := by
  intro fl
  induction fl with
  | zero => intro l2 w G h; exact (show False from h).elim
  | succ fl ih => intro l2 w G h hT hG; exact w_X4_takesAll_10_b hA_a1 hk2 (fun h hT hG => ih h hT hG) h hT hG
def f_X4_takesAll_2_b (a1 : Nat) (k2 : Int → Tw → Prop) (l2 : Int) (w : Tw) (Q : Tw → Prop) : Prop :=
  br l2 (w 14 0) ((w 14 0) ≤ l2) (Q w) (∃ fl10, f_X4_takesAll_10 a1 k2 Q fl10 l2 w)
theorem w_X4_takesAll_2_b {t : Nat} {ad : Nat → Nat} {G0 : Wd} {a1 : Nat} (hA_a1 : (a1, 0, 844) ∈ twA) {Q : Tw → Prop} {k2 : Int → Tw → Prop} (hk2 : ∀ {l2 : Int} {w : Tw} {G : Wd}, k2 l2 w → TwAt t ad w (G 2) → (∀ r, r ≠ 2 → G r = G0 r) → wp m_X4_takesAll 4 0 0 2 [some (vR (some t)), some (vR (some (ad a1))), some (vI l2)] [] G (twQ t ad G0 (uV Q)) noX) {l2 : Int} {w : Tw} {G : Wd} (h : f_X4_takesAll_2_b a1 k2 l2 w Q) (hT : TwAt t ad w (G 2)) (hG : ∀ r, r ≠ 2 → G r = G0 r) : wp m_X4_takesAll 4 0 0 2 [some (vR (some t)), some (vR (some (ad a1))), some (vI l2)] [] G (twQ t ad G0 (uV Q)) noX := by
  unfold f_X4_takesAll_2_b at h
  refine r_iload_n dX4_takesAll_2 rfl rfl iI ?_
  refine r_aload_n dX4_takesAll_3 rfl rfl iR ?_
  refine t_getI (j := 14) hT dX4_takesAll_4 (fg1 (f := 14) fX4 (by decide) q2235 rfl) rfl ?_
  refine r_icmp_ge (tgt := 38) dX4_takesAll_7 (by decide) h (fun h => ?_) (fun h => ?_)
  · exact r_vret rfl dX4_takesAll_38 ⟨_, hT, hG, rfl, h⟩
  · obtain ⟨fl10, h⟩ := h
    exact w_X4_takesAll_10 hA_a1 hk2 fl10 h hT hG
def f_X4_takesAll_2 (a1 : Nat) (Q : Tw → Prop) : Nat → Int → Tw → Prop
  | 0, _, _ => False
  | fl + 1, l2, w => f_X4_takesAll_2_b  a1  (fun l2 w => f_X4_takesAll_2  a1  Q fl l2 w) l2 w Q
theorem w_X4_takesAll_2 {t : Nat} {ad : Nat → Nat} {G0 : Wd} {a1 : Nat} (hA_a1 : (a1, 0, 844) ∈ twA) {Q : Tw → Prop} : ∀ (fl : Nat) {l2 : Int} {w : Tw} {G : Wd}, f_X4_takesAll_2 a1 Q fl l2 w → TwAt t ad w (G 2) → (∀ r, r ≠ 2 → G r = G0 r) → wp m_X4_takesAll 4 0 0 2 [some (vR (some t)), some (vR (some (ad a1))), some (vI l2)] [] G (twQ t ad G0 (uV Q)) noX := by
  intro fl
  induction fl with
  | zero => intro l2 w G h; exact (show False from h).elim
  | succ fl ih => intro l2 w G h hT hG; exact w_X4_takesAll_2_b hA_a1  (fun h hT hG => ih h hT hG) h hT hG
def f_X4_takesAll (a1 : Nat) (w : Tw) (Q : Tw → Prop) : Prop :=
  ∃ fl11, f_X4_takesAll_2 a1 Q fl11 0 w
theorem w_X4_takesAll {t : Nat} {ad : Nat → Nat} {G0 : Wd} {a1 : Nat} (hA_a1 : (a1, 0, 844) ∈ twA) {Q : Tw → Prop} {w : Tw} {G : Wd} (h : f_X4_takesAll a1 w Q) (hT : TwAt t ad w (G 2)) (hG : ∀ r, r ≠ 2 → G r = G0 r) : wp m_X4_takesAll 4 0 0 0 [some (vR (some t)), some (vR (some (ad a1))), none] [] G (twQ t ad G0 (uV Q)) noX := by
  unfold f_X4_takesAll at h
  refine r_iconst dX4_takesAll_0 ?_
  refine r_istore_n (L' := [some (vR (some t)), some (vR (some (ad a1))), some (vI 0)]) dX4_takesAll_1 rfl rfl iI cR (by decide) ?_
  obtain ⟨fl11, h⟩ := h
  exact w_X4_takesAll_2 hA_a1 fl11 h hT hG
theorem c_X4_takesAll {t : Nat} {ad : Nat → Nat} {G0 : Wd} {a1 : Nat} (hA_a1 : (a1, 0, 844) ∈ twA) {Q : Tw → Prop} {w : Tw} {G : Wd} (h : f_X4_takesAll a1 w Q) (hT : TwAt t ad w (G 2)) (hG : ∀ r, r ≠ 2 → G r = G0 r) : call yX4_takesAll (Cond.code yX4_takesAll cX4_takesAll 3 (none)) 4 0 0 [vR (some t), vR (some (ad a1))] G (twQ t ad G0 (uV Q)) noX :=
  call.enter (by decide +kernel) (la_1 c1R (la_1 c1R (la_nil rfl))) rfl (w_X4_takesAll hA_a1 h hT hG)
abbrev m_X4_needs : Mt := (yX4_needs.cls, cX4_needs, 3, some .int, [], yX4_needs.name)
theorem yo_X4_needs : yOK yX4_needs 1 := ⟨by decide +kernel, by decide +kernel, by decide +kernel⟩
def f_X4_needs (a1 : Int) (w : Tw) (Q : Int → Tw → Prop) : Prop :=
  tS w 0 0 0 (fun w13 => f_X4_isQueue a1 w13 (fun x15 w14 => brB x15 (f_X4_copies  w14 (fun w16 => f_X4_ringsOne 21 a1 w16 (fun x18 w17 => br0 x18 (0 ≤ x18) (tS w17 1 0 0 (fun w19 => f_X4_of 21 a1 2 w19 (fun x21 w20 => f_X4_of 20 a1 2 w20 (fun x23 w22 => ok32 (x21 - x23) (f_X4_enters (x21 - x23) w22 (fun w24 => Q x18 w24)))))) (Q x18 w17)))) (Q (-1) w14)))
theorem w_X4_needs {t : Nat} {ad : Nat → Nat} {G0 : Wd} {Q : Int → Tw → Prop} {a1 : Int} {w : Tw} {G : Wd} (h : f_X4_needs a1 w Q) (hT : TwAt t ad w (G 2)) (hG : ∀ r, r ≠ 2 → G r = G0 r) : wp m_X4_needs 4 0 0 0 [some (vR (some t)), some (vI a1), none] [] G (twQ t ad G0 (uI Q)) noX := by
  unfold f_X4_needs at h
  refine r_aload_n dX4_needs_0 rfl rfl iR ?_
  refine r_iconst dX4_needs_1 ?_
  refine t_put (j := 0) hT hG dX4_needs_2 (fp1 (f := 0) fX4 (by decide) q2221 rfl rfl rfl) tF0 (by decide) h (fun w13 G h hT hG => ?_)
  refine r_aload_n dX4_needs_5 rfl rfl iR ?_
  refine r_iload_n dX4_needs_6 rfl rfl iI ?_
  refine r_callV dX4_needs_7 (tisC hT) (c_X4_isQueue h hT hG) q2370 q2372 qs52 q117 q2373 rfl yo_X4_isQueue rfl (by decide) (by decide) rfl rc0 (by decide) (Nat.le_refl _) (Nat.le_refl _) (tofB fun x15 w14 G h hT hG => ?_) nox
  refine r_ifZ_ne (tgt := 15) dX4_needs_10 (by decide) h (fun h => ?_) (fun h => ?_)
  · refine r_aload_n dX4_needs_15 rfl rfl iR ?_
    refine r_callV dX4_needs_16 (tisC hT) (c_X4_copies h hT hG) q2635 q2637 qs80 q117 q2638 rfl yo_X4_copies rfl (by decide) (by decide) rfl rc0 (by decide) (Nat.le_refl _) (Nat.le_refl _) (tofV fun w16 G h hT hG => ?_) nox
    refine r_aload_n dX4_needs_19 rfl rfl iR ?_
    refine r_aload_n dX4_needs_20 rfl rfl iR ?_
    refine t_getA (j := 21) hT dX4_needs_21 (fg1 (f := 21) fX4 (by decide) q2242 rfl) rfl ?_
    refine r_iload_n dX4_needs_24 rfl rfl iI ?_
    refine r_callV dX4_needs_25 (tisC hT) (c_X4_ringsOne tA21 h hT hG) q2458 q2460 qs58 q117 q2461 rfl yo_X4_ringsOne rfl (by decide) (by decide) rfl rc0 (by decide) (Nat.le_refl _) (Nat.le_refl _) (tofI fun x18 w17 G h hT hG => ?_) nox
    refine r_istore_n (L' := [some (vR (some t)), some (vI a1), some (vI x18)]) dX4_needs_28 rfl rfl iI cI (by decide) ?_
    refine r_iload_n dX4_needs_29 rfl rfl iI ?_
    refine r_if_ge (tgt := 35) dX4_needs_30 (by decide) h (fun h => ?_) (fun h => ?_)
    · refine r_aload_n dX4_needs_35 rfl rfl iR ?_
      refine r_iconst dX4_needs_36 ?_
      refine t_put (j := 1) hT hG dX4_needs_37 (fp1 (f := 1) fX4 (by decide) q2222 rfl rfl rfl) tF1 (by decide) h (fun w19 G h hT hG => ?_)
      refine r_aload_n dX4_needs_40 rfl rfl iR ?_
      refine r_aload_n dX4_needs_41 rfl rfl iR ?_
      refine t_getA (j := 21) hT dX4_needs_42 (fg1 (f := 21) fX4 (by decide) q2242 rfl) rfl ?_
      refine r_iload_n dX4_needs_45 rfl rfl iI ?_
      refine r_iconst dX4_needs_46 ?_
      refine r_callS dX4_needs_47 (c_X4_of tA21 h hT hG) q2379 q2380 q117 q2381 yo_X4_of rfl (by decide) (by decide) rfl (rc1 c1R rc0) (by decide) (Nat.le_refl _) (Nat.le_refl _) (tofI fun x21 w20 G h hT hG => ?_) nox
      refine r_aload_n dX4_needs_50 rfl rfl iR ?_
      refine t_getA (j := 20) hT dX4_needs_51 (fg1 (f := 20) fX4 (by decide) q2241 rfl) rfl ?_
      refine r_iload_n dX4_needs_54 rfl rfl iI ?_
      refine r_iconst dX4_needs_55 ?_
      refine r_callS dX4_needs_56 (c_X4_of tA20 h hT hG) q2379 q2380 q117 q2381 yo_X4_of rfl (by decide) (by decide) rfl (rc1 c1I (rc1 c1R rc0)) (by decide) (Nat.le_refl _) (Nat.le_refl _) (tofI fun x23 w22 G h hT hG => ?_) nox
      refine r_isub dX4_needs_59 ?_
      refine r_i2l dX4_needs_60 h (fun h => ?_)
      refine r_callV dX4_needs_61 (tisC hT) (c_X4_enters h hT hG) q2536 q2538 qs71 q117 q2539 rfl yo_X4_enters rfl (by decide) (by decide) rfl rc0 (by decide) (Nat.le_refl _) (Nat.le_refl _) (tofV fun w24 G h hT hG => ?_) nox
      refine r_iload_n dX4_needs_64 rfl rfl iI ?_
      exact r_iret rfl dX4_needs_65 ⟨_, hT, hG, _, rfl, h⟩
    · refine r_iload_n dX4_needs_33 rfl rfl iI ?_
      exact r_iret rfl dX4_needs_34 ⟨_, hT, hG, _, rfl, h⟩
  · refine r_iconst dX4_needs_13 ?_
    exact r_iret rfl dX4_needs_14 ⟨_, hT, hG, _, rfl, h⟩
theorem c_X4_needs {t : Nat} {ad : Nat → Nat} {G0 : Wd} {a1 : Int} {Q : Int → Tw → Prop} {w : Tw} {G : Wd} (h : f_X4_needs a1 w Q) (hT : TwAt t ad w (G 2)) (hG : ∀ r, r ≠ 2 → G r = G0 r) : call yX4_needs (Cond.code yX4_needs cX4_needs 3 (some .int)) 4 0 0 [vR (some t), vI a1] G (twQ t ad G0 (uI Q)) noX :=
  call.enter (by decide +kernel) (la_1 c1R (la_1 c1I (la_nil rfl))) rfl (w_X4_needs  h hT hG)
abbrev m_X4_bells : Mt := (yX4_bells.cls, cX4_bells, 1, some .int, [], yX4_bells.name)
theorem yo_X4_bells : yOK yX4_bells 0 := ⟨by decide +kernel, by decide +kernel, by decide +kernel⟩
def f_X4_bells (w : Tw) (Q : Int → Tw → Prop) : Prop :=
  tS w 0 0 0 (fun w4 => tS w4 1 0 0 (fun w5 => rdA w5 20 844 839 (fun _ => ok32 (w5 20 839) (f_X4_enters (w5 20 839) w5 (fun w6 => rdA w6 20 844 838 (fun _ => Q (w6 20 838) w6))))))
theorem w_X4_bells {t : Nat} {ad : Nat → Nat} {G0 : Wd} {Q : Int → Tw → Prop} {w : Tw} {G : Wd} (h : f_X4_bells w Q) (hT : TwAt t ad w (G 2)) (hG : ∀ r, r ≠ 2 → G r = G0 r) : wp m_X4_bells 2 0 0 0 [some (vR (some t))] [] G (twQ t ad G0 (uI Q)) noX := by
  unfold f_X4_bells at h
  refine r_aload_n dX4_bells_0 rfl rfl iR ?_
  refine r_iconst dX4_bells_1 ?_
  refine t_put (j := 0) hT hG dX4_bells_2 (fp1 (f := 0) fX4 (by decide) q2221 rfl rfl rfl) tF0 (by decide) h (fun w4 G h hT hG => ?_)
  refine r_aload_n dX4_bells_5 rfl rfl iR ?_
  refine r_iconst dX4_bells_6 ?_
  refine t_put (j := 1) hT hG dX4_bells_7 (fp1 (f := 1) fX4 (by decide) q2222 rfl rfl rfl) tF1 (by decide) h (fun w5 G h hT hG => ?_)
  refine r_aload_n dX4_bells_10 rfl rfl iR ?_
  refine r_aload_n dX4_bells_11 rfl rfl iR ?_
  refine t_getA (j := 20) hT dX4_bells_12 (fg1 (f := 20) fX4 (by decide) q2241 rfl) rfl ?_
  refine r_sipush dX4_bells_15 (by decide) ?_
  refine t_iald hT dX4_bells_18 tA20 (by decide) h (fun h => ?_)
  refine r_i2l dX4_bells_19 h (fun h => ?_)
  refine r_callV dX4_bells_20 (tisC hT) (c_X4_enters h hT hG) q2536 q2538 qs71 q117 q2539 rfl yo_X4_enters rfl (by decide) (by decide) rfl rc0 (by decide) (Nat.le_refl _) (Nat.le_refl _) (tofV fun w6 G h hT hG => ?_) nox
  refine r_aload_n dX4_bells_23 rfl rfl iR ?_
  refine t_getA (j := 20) hT dX4_bells_24 (fg1 (f := 20) fX4 (by decide) q2241 rfl) rfl ?_
  refine r_sipush dX4_bells_27 (by decide) ?_
  refine t_iald hT dX4_bells_30 tA20 (by decide) h (fun h => ?_)
  exact r_iret rfl dX4_bells_31 ⟨_, hT, hG, _, rfl, h⟩
theorem c_X4_bells {t : Nat} {ad : Nat → Nat} {G0 : Wd} {Q : Int → Tw → Prop} {w : Tw} {G : Wd} (h : f_X4_bells w Q) (hT : TwAt t ad w (G 2)) (hG : ∀ r, r ≠ 2 → G r = G0 r) : call yX4_bells (Cond.code yX4_bells cX4_bells 1 (some .int)) 2 0 0 [vR (some t)] G (twQ t ad G0 (uI Q)) noX :=
  call.enter (by decide +kernel) (la_1 c1R (la_nil rfl)) rfl (w_X4_bells  h hT hG)
abbrev m_X4_served : Mt := (yX4_served.cls, cX4_served, 2, some .int, [], yX4_served.name)
theorem yo_X4_served : yOK yX4_served 0 := ⟨by decide +kernel, by decide +kernel, by decide +kernel⟩
def f_X4_served_12_b (k12 : Int → Tw → Prop) (l1 : Int) (w : Tw) (Q : Int → Tw → Prop) : Prop :=
  br l1 4 ((4 : Int) ≤ l1) (rdA w 20 844 840 (fun _ => ok32 (w 20 840) (f_X4_enters (w 20 840) w (fun w11 => f_X4_fetchedAll 20 w11 (fun x13 w12 => rdA w12 20 844 840 (fun _ => Q (x13 - (w12 20 840)) w12)))))) (rdA w 20 844 (840 + l1) (fun _ => ok32 (w 20 (840 + l1)) (f_X4_enters (w 20 (840 + l1)) w (fun w14 => k12 (l1 + 1) w14))))
theorem w_X4_served_12_b {t : Nat} {ad : Nat → Nat} {G0 : Wd} {Q : Int → Tw → Prop} {k12 : Int → Tw → Prop} (hk12 : ∀ {l1 : Int} {w : Tw} {G : Wd}, k12 l1 w → TwAt t ad w (G 2) → (∀ r, r ≠ 2 → G r = G0 r) → wp m_X4_served 2 0 0 12 [some (vR (some t)), some (vI l1)] [] G (twQ t ad G0 (uI Q)) noX) {l1 : Int} {w : Tw} {G : Wd} (h : f_X4_served_12_b k12 l1 w Q) (hT : TwAt t ad w (G 2)) (hG : ∀ r, r ≠ 2 → G r = G0 r) : wp m_X4_served 2 0 0 12 [some (vR (some t)), some (vI l1)] [] G (twQ t ad G0 (uI Q)) noX := by
  unfold f_X4_served_12_b at h
  refine r_iload_n dX4_served_12 rfl rfl iI ?_
  refine r_iconst dX4_served_13 ?_
  refine r_icmp_ge (tgt := 38) dX4_served_14 (by decide) h (fun h => ?_) (fun h => ?_)
  · refine r_aload_n dX4_served_38 rfl rfl iR ?_
    refine r_aload_n dX4_served_39 rfl rfl iR ?_
    refine t_getA (j := 20) hT dX4_served_40 (fg1 (f := 20) fX4 (by decide) q2241 rfl) rfl ?_
    refine r_sipush dX4_served_43 (by decide) ?_
    refine t_iald hT dX4_served_46 tA20 (by decide) h (fun h => ?_)
    refine r_i2l dX4_served_47 h (fun h => ?_)
    refine r_callV dX4_served_48 (tisC hT) (c_X4_enters h hT hG) q2536 q2538 qs71 q117 q2539 rfl yo_X4_enters rfl (by decide) (by decide) rfl rc0 (by decide) (Nat.le_refl _) (Nat.le_refl _) (tofV fun w11 G h hT hG => ?_) nox
    refine r_aload_n dX4_served_51 rfl rfl iR ?_
    refine t_getA (j := 20) hT dX4_served_52 (fg1 (f := 20) fX4 (by decide) q2241 rfl) rfl ?_
    refine r_callS dX4_served_55 (c_X4_fetchedAll tA20 h hT hG) q2492 q2493 q117 q2494 yo_X4_fetchedAll rfl (by decide) (by decide) rfl rc0 (by decide) (Nat.le_refl _) (Nat.le_refl _) (tofI fun x13 w12 G h hT hG => ?_) nox
    refine r_aload_n dX4_served_58 rfl rfl iR ?_
    refine t_getA (j := 20) hT dX4_served_59 (fg1 (f := 20) fX4 (by decide) q2241 rfl) rfl ?_
    refine r_sipush dX4_served_62 (by decide) ?_
    refine t_iald hT dX4_served_65 tA20 (by decide) h (fun h => ?_)
    refine r_isub dX4_served_66 ?_
    exact r_iret rfl dX4_served_67 ⟨_, hT, hG, _, rfl, h⟩
  · refine r_aload_n dX4_served_17 rfl rfl iR ?_
    refine r_aload_n dX4_served_18 rfl rfl iR ?_
    refine t_getA (j := 20) hT dX4_served_19 (fg1 (f := 20) fX4 (by decide) q2241 rfl) rfl ?_
    refine r_sipush dX4_served_22 (by decide) ?_
    refine r_iload_n dX4_served_25 rfl rfl iI ?_
    refine r_iadd dX4_served_26 ?_
    refine t_iald hT dX4_served_27 tA20 (by decide) h (fun h => ?_)
    refine r_i2l dX4_served_28 h (fun h => ?_)
    refine r_callV dX4_served_29 (tisC hT) (c_X4_enters h hT hG) q2536 q2538 qs71 q117 q2539 rfl yo_X4_enters rfl (by decide) (by decide) rfl rc0 (by decide) (Nat.le_refl _) (Nat.le_refl _) (tofV fun w14 G h hT hG => ?_) nox
    refine r_iinc (L' := [some (vR (some t)), some (vI (l1 + 1))]) dX4_served_32 rfl rfl cR (by decide) ?_
    refine r_goto (tgt := 12) dX4_served_35 (by decide) ?_
    exact hk12 h hT hG
def f_X4_served_12 (Q : Int → Tw → Prop) : Nat → Int → Tw → Prop
  | 0, _, _ => False
  | fl + 1, l1, w => f_X4_served_12_b    (fun l1 w => f_X4_served_12    Q fl l1 w) l1 w Q
theorem w_X4_served_12 {t : Nat} {ad : Nat → Nat} {G0 : Wd} {Q : Int → Tw → Prop} : ∀ (fl : Nat) {l1 : Int} {w : Tw} {G : Wd}, f_X4_served_12 Q fl l1 w → TwAt t ad w (G 2) → (∀ r, r ≠ 2 → G r = G0 r) → wp m_X4_served 2 0 0 12 [some (vR (some t)), some (vI l1)] [] G (twQ t ad G0 (uI Q)) noX := by
  intro fl
  induction fl with
  | zero => intro l1 w G h; exact (show False from h).elim
  | succ fl ih => intro l1 w G h hT hG; exact w_X4_served_12_b   (fun h hT hG => ih h hT hG) h hT hG
def f_X4_served (w : Tw) (Q : Int → Tw → Prop) : Prop :=
  tS w 0 0 0 (fun w15 => tS w15 1 0 0 (fun w16 => ∃ fl17, f_X4_served_12 Q fl17 1 w16))
theorem w_X4_served {t : Nat} {ad : Nat → Nat} {G0 : Wd} {Q : Int → Tw → Prop} {w : Tw} {G : Wd} (h : f_X4_served w Q) (hT : TwAt t ad w (G 2)) (hG : ∀ r, r ≠ 2 → G r = G0 r) : wp m_X4_served 2 0 0 0 [some (vR (some t)), none] [] G (twQ t ad G0 (uI Q)) noX := by
  unfold f_X4_served at h
  refine r_aload_n dX4_served_0 rfl rfl iR ?_
  refine r_iconst dX4_served_1 ?_
  refine t_put (j := 0) hT hG dX4_served_2 (fp1 (f := 0) fX4 (by decide) q2221 rfl rfl rfl) tF0 (by decide) h (fun w15 G h hT hG => ?_)
  refine r_aload_n dX4_served_5 rfl rfl iR ?_
  refine r_iconst dX4_served_6 ?_
  refine t_put (j := 1) hT hG dX4_served_7 (fp1 (f := 1) fX4 (by decide) q2222 rfl rfl rfl) tF1 (by decide) h (fun w16 G h hT hG => ?_)
  refine r_iconst dX4_served_10 ?_
  refine r_istore_n (L' := [some (vR (some t)), some (vI 1)]) dX4_served_11 rfl rfl iI cR (by decide) ?_
  obtain ⟨fl17, h⟩ := h
  exact w_X4_served_12 fl17 h hT hG
theorem c_X4_served {t : Nat} {ad : Nat → Nat} {G0 : Wd} {Q : Int → Tw → Prop} {w : Tw} {G : Wd} (h : f_X4_served w Q) (hT : TwAt t ad w (G 2)) (hG : ∀ r, r ≠ 2 → G r = G0 r) : call yX4_served (Cond.code yX4_served cX4_served 2 (some .int)) 2 0 0 [vR (some t)] G (twQ t ad G0 (uI Q)) noX :=
  call.enter (by decide +kernel) (la_1 c1R (la_nil rfl)) rfl (w_X4_served  h hT hG)
abbrev m_X4_highest : Mt := (yX4_highest.cls, cX4_highest, 1, some .int, [], yX4_highest.name)
theorem yo_X4_highest : yOK yX4_highest 1 := ⟨by decide +kernel, by decide +kernel, by decide +kernel⟩
def f_X4_highest (a0 : Int) (w : Tw) (Q : Int → Tw → Prop) : Prop :=
  br a0 2 (¬ a0 = (2 : Int)) (br a0 3 (¬ a0 = (3 : Int)) (Q 4 w) (Q 1 w)) (Q 9 w)
theorem w_X4_highest {t : Nat} {ad : Nat → Nat} {G0 : Wd} {Q : Int → Tw → Prop} {a0 : Int} {w : Tw} {G : Wd} (h : f_X4_highest a0 w Q) (hT : TwAt t ad w (G 2)) (hG : ∀ r, r ≠ 2 → G r = G0 r) : wp m_X4_highest 1 0 0 0 [some (vI a0)] [] G (twQ t ad G0 (uI Q)) noX := by
  unfold f_X4_highest at h
  refine r_iload_n dX4_highest_0 rfl rfl iI ?_
  refine r_iconst dX4_highest_1 ?_
  refine r_icmp_ne (tgt := 10) dX4_highest_2 (by decide) h (fun h => ?_) (fun h => ?_)
  · refine r_iload_n dX4_highest_10 rfl rfl iI ?_
    refine r_iconst dX4_highest_11 ?_
    refine r_icmp_ne (tgt := 19) dX4_highest_12 (by decide) h (fun h => ?_) (fun h => ?_)
    · refine r_iconst dX4_highest_19 ?_
      exact r_iret rfl dX4_highest_20 ⟨_, hT, hG, _, rfl, h⟩
    · refine r_iconst dX4_highest_15 ?_
      refine r_goto (tgt := 20) dX4_highest_16 (by decide) ?_
      exact r_iret rfl dX4_highest_20 ⟨_, hT, hG, _, rfl, h⟩
  · refine r_bipush dX4_highest_5 (by decide) ?_
    refine r_goto (tgt := 20) dX4_highest_7 (by decide) ?_
    exact r_iret rfl dX4_highest_20 ⟨_, hT, hG, _, rfl, h⟩
theorem c_X4_highest {t : Nat} {ad : Nat → Nat} {G0 : Wd} {a0 : Int} {Q : Int → Tw → Prop} {w : Tw} {G : Wd} (h : f_X4_highest a0 w Q) (hT : TwAt t ad w (G 2)) (hG : ∀ r, r ≠ 2 → G r = G0 r) : call yX4_highest (Cond.code yX4_highest cX4_highest 1 (some .int)) 1 0 0 [vI a0] G (twQ t ad G0 (uI Q)) noX :=
  call.enter (by decide +kernel) (la_1 c1I (la_nil rfl)) rfl (w_X4_highest  h hT hG)
abbrev m_X4_denies : Mt := (yX4_denies.cls, cX4_denies, 2, some .int, [], yX4_denies.name)
theorem yo_X4_denies : yOK yX4_denies 0 := ⟨by decide +kernel, by decide +kernel, by decide +kernel⟩
def f_X4_denies (w : Tw) (Q : Int → Tw → Prop) : Prop :=
  tS w 0 0 0 (fun w3 => tS w3 36 0 0 (fun w4 => Q (w3 36 0) w4))
theorem w_X4_denies {t : Nat} {ad : Nat → Nat} {G0 : Wd} {Q : Int → Tw → Prop} {w : Tw} {G : Wd} (h : f_X4_denies w Q) (hT : TwAt t ad w (G 2)) (hG : ∀ r, r ≠ 2 → G r = G0 r) : wp m_X4_denies 1 0 0 0 [some (vR (some t)), none] [] G (twQ t ad G0 (uI Q)) noX := by
  unfold f_X4_denies at h
  refine r_aload_n dX4_denies_0 rfl rfl iR ?_
  refine r_iconst dX4_denies_1 ?_
  refine t_put (j := 0) hT hG dX4_denies_2 (fp1 (f := 0) fX4 (by decide) q2221 rfl rfl rfl) tF0 (by decide) h (fun w3 G h hT hG => ?_)
  refine r_aload_n dX4_denies_5 rfl rfl iR ?_
  refine t_getI (j := 36) hT dX4_denies_6 (fg1 (f := 36) fX4 (by decide) q2257 rfl) rfl ?_
  refine r_istore_n (L' := [some (vR (some t)), some (vI (w3 36 0))]) dX4_denies_9 rfl rfl iI cR (by decide) ?_
  refine r_aload_n dX4_denies_10 rfl rfl iR ?_
  refine r_iconst dX4_denies_11 ?_
  refine t_put (j := 36) hT hG dX4_denies_12 (fp1 (f := 36) fX4 (by decide) q2257 rfl rfl rfl) tF36 (by decide) h (fun w4 G h hT hG => ?_)
  refine r_iload_n dX4_denies_15 rfl rfl iI ?_
  exact r_iret rfl dX4_denies_16 ⟨_, hT, hG, _, rfl, h⟩
theorem c_X4_denies {t : Nat} {ad : Nat → Nat} {G0 : Wd} {Q : Int → Tw → Prop} {w : Tw} {G : Wd} (h : f_X4_denies w Q) (hT : TwAt t ad w (G 2)) (hG : ∀ r, r ≠ 2 → G r = G0 r) : call yX4_denies (Cond.code yX4_denies cX4_denies 2 (some .int)) 1 0 0 [vR (some t)] G (twQ t ad G0 (uI Q)) noX :=
  call.enter (by decide +kernel) (la_1 c1R (la_nil rfl)) rfl (w_X4_denies  h hT hG)
abbrev m_X4_laps : Mt := (yX4_laps.cls, cX4_laps, 6, some .int, [], yX4_laps.name)
theorem yo_X4_laps : yOK yX4_laps 3 := ⟨by decide +kernel, by decide +kernel, by decide +kernel⟩
def f_X4_laps_112 (k51 : Int → Int → Int → Int → Tw → Prop) (k76 : Int → Int → Int → Int → Int → Tw → Prop) (l1 : Int) (l2 : Int) (l3 : Int) (l4 : Int) (l5 : Int) (s1 : Int) (s2 : Int) (w : Tw) (Q : Int → Tw → Prop) : Prop :=
  wrA w 39 41 s1 s2 (fun w10 => k76 l1 l2 l3 l4 (l5 + (-1)) w10)
theorem w_X4_laps_112 {t : Nat} {ad : Nat → Nat} {G0 : Wd} {Q : Int → Tw → Prop} {k51 : Int → Int → Int → Int → Tw → Prop} (hk51 : ∀ {l1 : Int} {l2 : Int} {l3 : Int} {l4 : Int} {w : Tw} {G : Wd}, k51 l1 l2 l3 l4 w → TwAt t ad w (G 2) → (∀ r, r ≠ 2 → G r = G0 r) → wp m_X4_laps 2 0 0 51 [some (vR (some t)), some (vI l1), some (vI l2), some (vI l3), some (vI l4), none] [] G (twQ t ad G0 (uI Q)) noX) {k76 : Int → Int → Int → Int → Int → Tw → Prop} (hk76 : ∀ {l1 : Int} {l2 : Int} {l3 : Int} {l4 : Int} {l5 : Int} {w : Tw} {G : Wd}, k76 l1 l2 l3 l4 l5 w → TwAt t ad w (G 2) → (∀ r, r ≠ 2 → G r = G0 r) → wp m_X4_laps 2 0 0 76 [some (vR (some t)), some (vI l1), some (vI l2), some (vI l3), some (vI l4), some (vI l5)] [] G (twQ t ad G0 (uI Q)) noX) {l1 : Int} {l2 : Int} {l3 : Int} {l4 : Int} {l5 : Int} {s1 : Int} {s2 : Int} {w : Tw} {G : Wd} (h : f_X4_laps_112 k51 k76 l1 l2 l3 l4 l5 s1 s2 w Q) (hT : TwAt t ad w (G 2)) (hG : ∀ r, r ≠ 2 → G r = G0 r) : wp m_X4_laps 2 0 0 112 [some (vR (some t)), some (vI l1), some (vI l2), some (vI l3), some (vI l4), some (vI l5)] [vI s2, vI s1, vR (some (ad 39))] G (twQ t ad G0 (uI Q)) noX := by
  unfold f_X4_laps_112 at h
  refine t_iast hT hG dX4_laps_112 tA39 (by decide) h (fun w10 G h hT hG => ?_)
  refine r_iinc (L' := [some (vR (some t)), some (vI l1), some (vI l2), some (vI l3), some (vI l4), some (vI (l5 + (-1)))]) dX4_laps_113 rfl rfl cI (by decide) ?_
  refine r_goto (tgt := 76) dX4_laps_116 (by decide) ?_
  exact hk76 h hT hG
def f_X4_laps_76_b (k51 : Int → Int → Int → Int → Tw → Prop) (k76 : Int → Int → Int → Int → Int → Tw → Prop) (l1 : Int) (l2 : Int) (l3 : Int) (l4 : Int) (l5 : Int) (w : Tw) (Q : Int → Tw → Prop) : Prop :=
  br0 l5 (l5 ≤ 0) (k51 l1 l2 l3 (l4 + (-1)) w) (rdA w 39 41 (l4 + l5) (fun _ => br0 (w 39 (l4 + l5)) (¬ (w 39 (l4 + l5)) = 0) (rdA w 39 41 l4 (fun _ => f_X4_laps_112 k51 k76 l1 l2 l3 l4 l5 l4 (w 39 l4) w Q)) (f_X4_laps_112 k51 k76 l1 l2 l3 l4 l5 l4 l5 w Q)))
theorem w_X4_laps_76_b {t : Nat} {ad : Nat → Nat} {G0 : Wd} {Q : Int → Tw → Prop} {k51 : Int → Int → Int → Int → Tw → Prop} (hk51 : ∀ {l1 : Int} {l2 : Int} {l3 : Int} {l4 : Int} {w : Tw} {G : Wd}, k51 l1 l2 l3 l4 w → TwAt t ad w (G 2) → (∀ r, r ≠ 2 → G r = G0 r) → wp m_X4_laps 2 0 0 51 [some (vR (some t)), some (vI l1), some (vI l2), some (vI l3), some (vI l4), none] [] G (twQ t ad G0 (uI Q)) noX) {k76 : Int → Int → Int → Int → Int → Tw → Prop} (hk76 : ∀ {l1 : Int} {l2 : Int} {l3 : Int} {l4 : Int} {l5 : Int} {w : Tw} {G : Wd}, k76 l1 l2 l3 l4 l5 w → TwAt t ad w (G 2) → (∀ r, r ≠ 2 → G r = G0 r) → wp m_X4_laps 2 0 0 76 [some (vR (some t)), some (vI l1), some (vI l2), some (vI l3), some (vI l4), some (vI l5)] [] G (twQ t ad G0 (uI Q)) noX) {l1 : Int} {l2 : Int} {l3 : Int} {l4 : Int} {l5 : Int} {w : Tw} {G : Wd} (h : f_X4_laps_76_b k51 k76 l1 l2 l3 l4 l5 w Q) (hT : TwAt t ad w (G 2)) (hG : ∀ r, r ≠ 2 → G r = G0 r) : wp m_X4_laps 2 0 0 76 [some (vR (some t)), some (vI l1), some (vI l2), some (vI l3), some (vI l4), some (vI l5)] [] G (twQ t ad G0 (uI Q)) noX := by
  unfold f_X4_laps_76_b at h
  refine r_iload dX4_laps_76 rfl iI ?_
  refine r_if_le (tgt := 119) dX4_laps_78 (by decide) h (fun h => ?_) (fun h => ?_)
  · refine r_iinc (L' := [some (vR (some t)), some (vI l1), some (vI l2), some (vI l3), some (vI (l4 + (-1))), some (vI l5)]) dX4_laps_119 rfl rfl cI (by decide) ?_
    refine r_goto (tgt := 51) dX4_laps_122 (by decide) ?_
    refine wp.locals (L' := [some (vR (some t)), some (vI l1), some (vI l2), some (vI l3), some (vI (l4 + (-1))), none]) (ls_s (ls_s (ls_s (ls_s (ls_s (ls_n ls_0)))))) ?_
    exact hk51 h hT hG
  · refine r_aload_n dX4_laps_81 rfl rfl iR ?_
    refine t_getA (j := 39) hT dX4_laps_82 (fg1 (f := 39) fX4 (by decide) q2260 rfl) rfl ?_
    refine r_iload dX4_laps_85 rfl iI ?_
    refine r_aload_n dX4_laps_87 rfl rfl iR ?_
    refine t_getA (j := 39) hT dX4_laps_88 (fg1 (f := 39) fX4 (by decide) q2260 rfl) rfl ?_
    refine r_iload dX4_laps_91 rfl iI ?_
    refine r_iload dX4_laps_93 rfl iI ?_
    refine r_iadd dX4_laps_95 ?_
    refine t_iald hT dX4_laps_96 tA39 (by decide) h (fun h => ?_)
    refine r_if_ne (tgt := 105) dX4_laps_97 (by decide) h (fun h => ?_) (fun h => ?_)
    · refine r_aload_n dX4_laps_105 rfl rfl iR ?_
      refine t_getA (j := 39) hT dX4_laps_106 (fg1 (f := 39) fX4 (by decide) q2260 rfl) rfl ?_
      refine r_iload dX4_laps_109 rfl iI ?_
      refine t_iald hT dX4_laps_111 tA39 (by decide) h (fun h => ?_)
      exact w_X4_laps_112 hk51 hk76 h hT hG
    · refine r_iload dX4_laps_100 rfl iI ?_
      refine r_goto (tgt := 112) dX4_laps_102 (by decide) ?_
      exact w_X4_laps_112 hk51 hk76 h hT hG
def f_X4_laps_76 (k51 : Int → Int → Int → Int → Tw → Prop) (Q : Int → Tw → Prop) : Nat → Int → Int → Int → Int → Int → Tw → Prop
  | 0, _, _, _, _, _, _ => False
  | fl + 1, l1, l2, l3, l4, l5, w => f_X4_laps_76_b   k51 (fun l1 l2 l3 l4 l5 w => f_X4_laps_76   k51 Q fl l1 l2 l3 l4 l5 w) l1 l2 l3 l4 l5 w Q
theorem w_X4_laps_76 {t : Nat} {ad : Nat → Nat} {G0 : Wd} {Q : Int → Tw → Prop} {k51 : Int → Int → Int → Int → Tw → Prop} (hk51 : ∀ {l1 : Int} {l2 : Int} {l3 : Int} {l4 : Int} {w : Tw} {G : Wd}, k51 l1 l2 l3 l4 w → TwAt t ad w (G 2) → (∀ r, r ≠ 2 → G r = G0 r) → wp m_X4_laps 2 0 0 51 [some (vR (some t)), some (vI l1), some (vI l2), some (vI l3), some (vI l4), none] [] G (twQ t ad G0 (uI Q)) noX) : ∀ (fl : Nat) {l1 : Int} {l2 : Int} {l3 : Int} {l4 : Int} {l5 : Int} {w : Tw} {G : Wd}, f_X4_laps_76 k51 Q fl l1 l2 l3 l4 l5 w → TwAt t ad w (G 2) → (∀ r, r ≠ 2 → G r = G0 r) → wp m_X4_laps 2 0 0 76 [some (vR (some t)), some (vI l1), some (vI l2), some (vI l3), some (vI l4), some (vI l5)] [] G (twQ t ad G0 (uI Q)) noX := by
  intro fl
  induction fl with
  | zero => intro l1 l2 l3 l4 l5 w G h; exact (show False from h).elim
  | succ fl ih => intro l1 l2 l3 l4 l5 w G h hT hG; exact w_X4_laps_76_b  hk51 (fun h hT hG => ih h hT hG) h hT hG
def f_X4_laps_51_b (k51 : Int → Int → Int → Int → Tw → Prop) (l1 : Int) (l2 : Int) (l3 : Int) (l4 : Int) (w : Tw) (Q : Int → Tw → Prop) : Prop :=
  br0 l4 (l4 < 0) (rdA w 39 41 l2 (fun _ => Q (w 39 l2) w)) (wrA w 39 41 l4 0 (fun w11 => ((R32 l3 ∧ R32 ((l1 - 1) - l4)) ∧ ∃ fl12, f_X4_laps_76 k51 Q fl12 l1 l2 l3 l4 (min l3 ((l1 - 1) - l4)) w11)))
theorem w_X4_laps_51_b {t : Nat} {ad : Nat → Nat} {G0 : Wd} {Q : Int → Tw → Prop} {k51 : Int → Int → Int → Int → Tw → Prop} (hk51 : ∀ {l1 : Int} {l2 : Int} {l3 : Int} {l4 : Int} {w : Tw} {G : Wd}, k51 l1 l2 l3 l4 w → TwAt t ad w (G 2) → (∀ r, r ≠ 2 → G r = G0 r) → wp m_X4_laps 2 0 0 51 [some (vR (some t)), some (vI l1), some (vI l2), some (vI l3), some (vI l4), none] [] G (twQ t ad G0 (uI Q)) noX) {l1 : Int} {l2 : Int} {l3 : Int} {l4 : Int} {w : Tw} {G : Wd} (h : f_X4_laps_51_b k51 l1 l2 l3 l4 w Q) (hT : TwAt t ad w (G 2)) (hG : ∀ r, r ≠ 2 → G r = G0 r) : wp m_X4_laps 2 0 0 51 [some (vR (some t)), some (vI l1), some (vI l2), some (vI l3), some (vI l4), none] [] G (twQ t ad G0 (uI Q)) noX := by
  unfold f_X4_laps_51_b at h
  refine r_iload dX4_laps_51 rfl iI ?_
  refine r_if_lt (tgt := 125) dX4_laps_53 (by decide) h (fun h => ?_) (fun h => ?_)
  · refine r_aload_n dX4_laps_125 rfl rfl iR ?_
    refine t_getA (j := 39) hT dX4_laps_126 (fg1 (f := 39) fX4 (by decide) q2260 rfl) rfl ?_
    refine r_iload_n dX4_laps_129 rfl rfl iI ?_
    refine t_iald hT dX4_laps_130 tA39 (by decide) h (fun h => ?_)
    exact r_iret rfl dX4_laps_131 ⟨_, hT, hG, _, rfl, h⟩
  · refine r_aload_n dX4_laps_56 rfl rfl iR ?_
    refine t_getA (j := 39) hT dX4_laps_57 (fg1 (f := 39) fX4 (by decide) q2260 rfl) rfl ?_
    refine r_iload dX4_laps_60 rfl iI ?_
    refine r_iconst dX4_laps_62 ?_
    refine t_iast hT hG dX4_laps_63 tA39 (by decide) h (fun w11 G h hT hG => ?_)
    refine r_iload_n dX4_laps_64 rfl rfl iI ?_
    refine r_iload_n dX4_laps_65 rfl rfl iI ?_
    refine r_iconst dX4_laps_66 ?_
    refine r_isub dX4_laps_67 ?_
    refine r_iload dX4_laps_68 rfl iI ?_
    refine r_isub dX4_laps_70 ?_
    refine r_mmin dX4_laps_71 q2149 rc0 (by decide) (by decide) h (fun h => ?_)
    refine r_istore (L' := [some (vR (some t)), some (vI l1), some (vI l2), some (vI l3), some (vI l4), some (vI (min l3 ((l1 - 1) - l4)))]) dX4_laps_74 rfl iI cI (by decide) ?_
    obtain ⟨fl12, h⟩ := h
    exact w_X4_laps_76 hk51 fl12 h hT hG
def f_X4_laps_51 (Q : Int → Tw → Prop) : Nat → Int → Int → Int → Int → Tw → Prop
  | 0, _, _, _, _, _ => False
  | fl + 1, l1, l2, l3, l4, w => f_X4_laps_51_b    (fun l1 l2 l3 l4 w => f_X4_laps_51    Q fl l1 l2 l3 l4 w) l1 l2 l3 l4 w Q
theorem w_X4_laps_51 {t : Nat} {ad : Nat → Nat} {G0 : Wd} {Q : Int → Tw → Prop} : ∀ (fl : Nat) {l1 : Int} {l2 : Int} {l3 : Int} {l4 : Int} {w : Tw} {G : Wd}, f_X4_laps_51 Q fl l1 l2 l3 l4 w → TwAt t ad w (G 2) → (∀ r, r ≠ 2 → G r = G0 r) → wp m_X4_laps 2 0 0 51 [some (vR (some t)), some (vI l1), some (vI l2), some (vI l3), some (vI l4), none] [] G (twQ t ad G0 (uI Q)) noX := by
  intro fl
  induction fl with
  | zero => intro l1 l2 l3 l4 w G h; exact (show False from h).elim
  | succ fl ih => intro l1 l2 l3 l4 w G h hT hG; exact w_X4_laps_51_b   (fun h hT hG => ih h hT hG) h hT hG
def f_X4_laps (a1 : Int) (a2 : Int) (a3 : Int) (w : Tw) (Q : Int → Tw → Prop) : Prop :=
  tS w 0 0 0 (fun w13 => ok32 a1 (f_X4_in a1 2 40 w13 (fun x15 w14 => brB x15 (ok32 a2 (ok32 (a1 - 1) (f_X4_in a2 0 (a1 - 1) w14 (fun x17 w16 => brB x17 (ok32 a3 (f_X4_in a3 1 9 w16 (fun x19 w18 => brB x19 (∃ fl20, f_X4_laps_51 Q fl20 a1 a2 a3 (a1 - 1) w18) (Q (-1) w18)))) (Q (-1) w16))))) (Q (-1) w14))))
theorem w_X4_laps {t : Nat} {ad : Nat → Nat} {G0 : Wd} {Q : Int → Tw → Prop} {a1 : Int} {a2 : Int} {a3 : Int} {w : Tw} {G : Wd} (h : f_X4_laps a1 a2 a3 w Q) (hT : TwAt t ad w (G 2)) (hG : ∀ r, r ≠ 2 → G r = G0 r) : wp m_X4_laps 2 0 0 0 [some (vR (some t)), some (vI a1), some (vI a2), some (vI a3), none, none] [] G (twQ t ad G0 (uI Q)) noX := by
  unfold f_X4_laps at h
  refine r_aload_n dX4_laps_0 rfl rfl iR ?_
  refine r_iconst dX4_laps_1 ?_
  refine t_put (j := 0) hT hG dX4_laps_2 (fp1 (f := 0) fX4 (by decide) q2221 rfl rfl rfl) tF0 (by decide) h (fun w13 G h hT hG => ?_)
  refine r_iload_n dX4_laps_5 rfl rfl iI ?_
  refine r_i2l dX4_laps_6 h (fun h => ?_)
  refine r_ldc2 (x := 2) dX4_laps_7 q2723 (by decide) ?_
  refine r_ldc2 (x := 40) dX4_laps_10 q2724 (by decide) ?_
  refine r_callS dX4_laps_13 (c_X4_in h hT hG) q2133 q2134 q117 q2135 yo_X4_in rfl (by decide) (by decide) rfl rc0 (by decide) (Nat.le_refl _) (Nat.le_refl _) (tofB fun x15 w14 G h hT hG => ?_) nox
  refine r_ifZ_eq (tgt := 44) dX4_laps_16 (by decide) h (fun h => ?_) (fun h => ?_)
  · refine r_iconst dX4_laps_44 ?_
    exact r_iret rfl dX4_laps_45 ⟨_, hT, hG, _, rfl, h⟩
  · refine r_iload_n dX4_laps_19 rfl rfl iI ?_
    refine r_i2l dX4_laps_20 h (fun h => ?_)
    refine r_lconst (y := 0) dX4_laps_21 (by decide) ?_
    refine r_iload_n dX4_laps_22 rfl rfl iI ?_
    refine r_iconst dX4_laps_23 ?_
    refine r_isub dX4_laps_24 ?_
    refine r_i2l dX4_laps_25 h (fun h => ?_)
    refine r_callS dX4_laps_26 (c_X4_in h hT hG) q2133 q2134 q117 q2135 yo_X4_in rfl (by decide) (by decide) rfl rc0 (by decide) (Nat.le_refl _) (Nat.le_refl _) (tofB fun x17 w16 G h hT hG => ?_) nox
    refine r_ifZ_eq (tgt := 44) dX4_laps_29 (by decide) h (fun h => ?_) (fun h => ?_)
    · refine r_iconst dX4_laps_44 ?_
      exact r_iret rfl dX4_laps_45 ⟨_, hT, hG, _, rfl, h⟩
    · refine r_iload_n dX4_laps_32 rfl rfl iI ?_
      refine r_i2l dX4_laps_33 h (fun h => ?_)
      refine r_lconst (y := 1) dX4_laps_34 (by decide) ?_
      refine r_ldc2 (x := 9) dX4_laps_35 q2408 (by decide) ?_
      refine r_callS dX4_laps_38 (c_X4_in h hT hG) q2133 q2134 q117 q2135 yo_X4_in rfl (by decide) (by decide) rfl rc0 (by decide) (Nat.le_refl _) (Nat.le_refl _) (tofB fun x19 w18 G h hT hG => ?_) nox
      refine r_ifZ_ne (tgt := 46) dX4_laps_41 (by decide) h (fun h => ?_) (fun h => ?_)
      · refine r_iload_n dX4_laps_46 rfl rfl iI ?_
        refine r_iconst dX4_laps_47 ?_
        refine r_isub dX4_laps_48 ?_
        refine r_istore (L' := [some (vR (some t)), some (vI a1), some (vI a2), some (vI a3), some (vI (a1 - 1)), none]) dX4_laps_49 rfl iI cI (by decide) ?_
        obtain ⟨fl20, h⟩ := h
        exact w_X4_laps_51 fl20 h hT hG
      · refine r_iconst dX4_laps_44 ?_
        exact r_iret rfl dX4_laps_45 ⟨_, hT, hG, _, rfl, h⟩
theorem c_X4_laps {t : Nat} {ad : Nat → Nat} {G0 : Wd} {a1 : Int} {a2 : Int} {a3 : Int} {Q : Int → Tw → Prop} {w : Tw} {G : Wd} (h : f_X4_laps a1 a2 a3 w Q) (hT : TwAt t ad w (G 2)) (hG : ∀ r, r ≠ 2 → G r = G0 r) : call yX4_laps (Cond.code yX4_laps cX4_laps 6 (some .int)) 2 0 0 [vR (some t), vI a1, vI a2, vI a3] G (twQ t ad G0 (uI Q)) noX :=
  call.enter (by decide +kernel) (la_1 c1R (la_1 c1I (la_1 c1I (la_1 c1I (la_nil rfl))))) rfl (w_X4_laps  h hT hG)
abbrev m_X4_draws : Mt := (yX4_draws.cls, cX4_draws, 2, some .int, [], yX4_draws.name)
theorem yo_X4_draws : yOK yX4_draws 1 := ⟨by decide +kernel, by decide +kernel, by decide +kernel⟩
def f_X4_draws (a1 : Int) (w : Tw) (Q : Int → Tw → Prop) : Prop :=
  tS w 41 0 (((w 41 0) * 1103515245) + 12345) (fun w2 => okm (iushr (w2 41 0) 16) a1 (Q ((iushr (w2 41 0) 16) % a1) w2))
theorem w_X4_draws {t : Nat} {ad : Nat → Nat} {G0 : Wd} {Q : Int → Tw → Prop} {a1 : Int} {w : Tw} {G : Wd} (h : f_X4_draws a1 w Q) (hT : TwAt t ad w (G 2)) (hG : ∀ r, r ≠ 2 → G r = G0 r) : wp m_X4_draws 1 0 0 0 [some (vR (some t)), some (vI a1)] [] G (twQ t ad G0 (uI Q)) noX := by
  unfold f_X4_draws at h
  refine r_aload_n dX4_draws_0 rfl rfl iR ?_
  refine r_aload_n dX4_draws_1 rfl rfl iR ?_
  refine t_getI (j := 41) hT dX4_draws_2 (fg1 (f := 41) fX4 (by decide) q2262 rfl) rfl ?_
  refine r_ldcw (x := 1103515245) dX4_draws_5 q2741 (by decide) ?_
  refine r_imul dX4_draws_8 ?_
  refine r_sipush dX4_draws_9 (by decide) ?_
  refine r_iadd dX4_draws_12 ?_
  refine t_put (j := 41) hT hG dX4_draws_13 (fp1 (f := 41) fX4 (by decide) q2262 rfl rfl rfl) tF41 (by decide) h (fun w2 G h hT hG => ?_)
  refine r_aload_n dX4_draws_16 rfl rfl iR ?_
  refine t_getI (j := 41) hT dX4_draws_17 (fg1 (f := 41) fX4 (by decide) q2262 rfl) rfl ?_
  refine r_bipush dX4_draws_20 (by decide) ?_
  refine r_iushr dX4_draws_22 ?_
  refine r_iload_n dX4_draws_23 rfl rfl iI ?_
  refine r_irem dX4_draws_24 h (fun h => ?_)
  exact r_iret rfl dX4_draws_25 ⟨_, hT, hG, _, rfl, h⟩
theorem c_X4_draws {t : Nat} {ad : Nat → Nat} {G0 : Wd} {a1 : Int} {Q : Int → Tw → Prop} {w : Tw} {G : Wd} (h : f_X4_draws a1 w Q) (hT : TwAt t ad w (G 2)) (hG : ∀ r, r ≠ 2 → G r = G0 r) : call yX4_draws (Cond.code yX4_draws cX4_draws 2 (some .int)) 1 0 0 [vR (some t), vI a1] G (twQ t ad G0 (uI Q)) noX :=
  call.enter (by decide +kernel) (la_1 c1R (la_1 c1I (la_nil rfl))) rfl (w_X4_draws  h hT hG)
abbrev m_X4_keep : Mt := (yX4_keep.cls, cX4_keep, 3, some .boolean, [], yX4_keep.name)
theorem yo_X4_keep : yOK yX4_keep 1 := ⟨by decide +kernel, by decide +kernel, by decide +kernel⟩
def f_X4_keep_36_b (k36 : Int → Int → Tw → Prop) (l1 : Int) (l2 : Int) (w : Tw) (Q : Bool → Tw → Prop) : Prop :=
  br l2 844 ((844 : Int) ≤ l2) (Q true w) (rdA w 20 844 l2 (fun _ => wrA w 44 1688 ((844 * l1) + l2) (w 20 l2) (fun w8 => k36 l1 (l2 + 1) w8)))
theorem w_X4_keep_36_b {t : Nat} {ad : Nat → Nat} {G0 : Wd} {Q : Bool → Tw → Prop} {k36 : Int → Int → Tw → Prop} (hk36 : ∀ {l1 : Int} {l2 : Int} {w : Tw} {G : Wd}, k36 l1 l2 w → TwAt t ad w (G 2) → (∀ r, r ≠ 2 → G r = G0 r) → wp m_X4_keep 2 0 0 36 [some (vR (some t)), some (vI l1), some (vI l2)] [] G (twQ t ad G0 (uB Q)) noX) {l1 : Int} {l2 : Int} {w : Tw} {G : Wd} (h : f_X4_keep_36_b k36 l1 l2 w Q) (hT : TwAt t ad w (G 2)) (hG : ∀ r, r ≠ 2 → G r = G0 r) : wp m_X4_keep 2 0 0 36 [some (vR (some t)), some (vI l1), some (vI l2)] [] G (twQ t ad G0 (uB Q)) noX := by
  unfold f_X4_keep_36_b at h
  refine r_iload_n dX4_keep_36 rfl rfl iI ?_
  refine r_sipush dX4_keep_37 (by decide) ?_
  refine r_icmp_ge (tgt := 67) dX4_keep_40 (by decide) h (fun h => ?_) (fun h => ?_)
  · refine r_iconst dX4_keep_67 ?_
    refine wp.cast (st' := [vB true]) rfl (congrArg (fun q => [q]) vI1) ?_
    exact r_zret rfl dX4_keep_68 ⟨_, hT, hG, _, rfl, h⟩
  · refine r_aload_n dX4_keep_43 rfl rfl iR ?_
    refine t_getA (j := 44) hT dX4_keep_44 (fg1 (f := 44) fX4 (by decide) q2265 rfl) rfl ?_
    refine r_sipush dX4_keep_47 (by decide) ?_
    refine r_iload_n dX4_keep_50 rfl rfl iI ?_
    refine r_imul dX4_keep_51 ?_
    refine r_iload_n dX4_keep_52 rfl rfl iI ?_
    refine r_iadd dX4_keep_53 ?_
    refine r_aload_n dX4_keep_54 rfl rfl iR ?_
    refine t_getA (j := 20) hT dX4_keep_55 (fg1 (f := 20) fX4 (by decide) q2241 rfl) rfl ?_
    refine r_iload_n dX4_keep_58 rfl rfl iI ?_
    refine t_iald hT dX4_keep_59 tA20 (by decide) h (fun h => ?_)
    refine t_iast hT hG dX4_keep_60 tA44 (by decide) h (fun w8 G h hT hG => ?_)
    refine r_iinc (L' := [some (vR (some t)), some (vI l1), some (vI (l2 + 1))]) dX4_keep_61 rfl rfl cI (by decide) ?_
    refine r_goto (tgt := 36) dX4_keep_64 (by decide) ?_
    exact hk36 h hT hG
def f_X4_keep_36 (Q : Bool → Tw → Prop) : Nat → Int → Int → Tw → Prop
  | 0, _, _, _ => False
  | fl + 1, l1, l2, w => f_X4_keep_36_b    (fun l1 l2 w => f_X4_keep_36    Q fl l1 l2 w) l1 l2 w Q
theorem w_X4_keep_36 {t : Nat} {ad : Nat → Nat} {G0 : Wd} {Q : Bool → Tw → Prop} : ∀ (fl : Nat) {l1 : Int} {l2 : Int} {w : Tw} {G : Wd}, f_X4_keep_36 Q fl l1 l2 w → TwAt t ad w (G 2) → (∀ r, r ≠ 2 → G r = G0 r) → wp m_X4_keep 2 0 0 36 [some (vR (some t)), some (vI l1), some (vI l2)] [] G (twQ t ad G0 (uB Q)) noX := by
  intro fl
  induction fl with
  | zero => intro l1 l2 w G h; exact (show False from h).elim
  | succ fl ih => intro l1 l2 w G h hT hG; exact w_X4_keep_36_b   (fun h hT hG => ih h hT hG) h hT hG
def f_X4_keep (a1 : Int) (w : Tw) (Q : Bool → Tw → Prop) : Prop :=
  tS w 0 0 0 (fun w9 => ok32 a1 (f_X4_in a1 0 1 w9 (fun x11 w10 => brB x11 (wrA w10 42 2 a1 1 (fun w12 => wrA w12 43 2 a1 (w12 15 0) (fun w13 => ∃ fl14, f_X4_keep_36 Q fl14 a1 0 w13))) (Q false w10))))
theorem w_X4_keep {t : Nat} {ad : Nat → Nat} {G0 : Wd} {Q : Bool → Tw → Prop} {a1 : Int} {w : Tw} {G : Wd} (h : f_X4_keep a1 w Q) (hT : TwAt t ad w (G 2)) (hG : ∀ r, r ≠ 2 → G r = G0 r) : wp m_X4_keep 2 0 0 0 [some (vR (some t)), some (vI a1), none] [] G (twQ t ad G0 (uB Q)) noX := by
  unfold f_X4_keep at h
  refine r_aload_n dX4_keep_0 rfl rfl iR ?_
  refine r_iconst dX4_keep_1 ?_
  refine t_put (j := 0) hT hG dX4_keep_2 (fp1 (f := 0) fX4 (by decide) q2221 rfl rfl rfl) tF0 (by decide) h (fun w9 G h hT hG => ?_)
  refine r_iload_n dX4_keep_5 rfl rfl iI ?_
  refine r_i2l dX4_keep_6 h (fun h => ?_)
  refine r_lconst (y := 0) dX4_keep_7 (by decide) ?_
  refine r_lconst (y := 1) dX4_keep_8 (by decide) ?_
  refine r_callS dX4_keep_9 (c_X4_in h hT hG) q2133 q2134 q117 q2135 yo_X4_in rfl (by decide) (by decide) rfl rc0 (by decide) (Nat.le_refl _) (Nat.le_refl _) (tofB fun x11 w10 G h hT hG => ?_) nox
  refine r_ifZ_ne (tgt := 17) dX4_keep_12 (by decide) h (fun h => ?_) (fun h => ?_)
  · refine r_aload_n dX4_keep_17 rfl rfl iR ?_
    refine t_getA (j := 42) hT dX4_keep_18 (fg1 (f := 42) fX4 (by decide) q2263 rfl) rfl ?_
    refine r_iload_n dX4_keep_21 rfl rfl iI ?_
    refine r_iconst dX4_keep_22 ?_
    refine t_zast hT hG dX4_keep_23 tA42 (by decide) (by decide) h (fun w12 G h hT hG => ?_)
    refine r_aload_n dX4_keep_24 rfl rfl iR ?_
    refine t_getA (j := 43) hT dX4_keep_25 (fg1 (f := 43) fX4 (by decide) q2264 rfl) rfl ?_
    refine r_iload_n dX4_keep_28 rfl rfl iI ?_
    refine r_aload_n dX4_keep_29 rfl rfl iR ?_
    refine t_getI (j := 15) hT dX4_keep_30 (fg1 (f := 15) fX4 (by decide) q2236 rfl) rfl ?_
    refine t_iast hT hG dX4_keep_33 tA43 (by decide) h (fun w13 G h hT hG => ?_)
    refine r_iconst dX4_keep_34 ?_
    refine r_istore_n (L' := [some (vR (some t)), some (vI a1), some (vI 0)]) dX4_keep_35 rfl rfl iI cI (by decide) ?_
    obtain ⟨fl14, h⟩ := h
    exact w_X4_keep_36 fl14 h hT hG
  · refine r_iconst dX4_keep_15 ?_
    refine wp.cast (st' := [vB false]) rfl (congrArg (fun q => [q]) vI0) ?_
    exact r_zret rfl dX4_keep_16 ⟨_, hT, hG, _, rfl, h⟩
theorem c_X4_keep {t : Nat} {ad : Nat → Nat} {G0 : Wd} {a1 : Int} {Q : Bool → Tw → Prop} {w : Tw} {G : Wd} (h : f_X4_keep a1 w Q) (hT : TwAt t ad w (G 2)) (hG : ∀ r, r ≠ 2 → G r = G0 r) : call yX4_keep (Cond.code yX4_keep cX4_keep 3 (some .boolean)) 2 0 0 [vR (some t), vI a1] G (twQ t ad G0 (uB Q)) noX :=
  call.enter (by decide +kernel) (la_1 c1R (la_1 c1I (la_nil rfl))) rfl (w_X4_keep  h hT hG)
abbrev m_X4_again : Mt := (yX4_again.cls, cX4_again, 3, some .boolean, [], yX4_again.name)
theorem yo_X4_again : yOK yX4_again 1 := ⟨by decide +kernel, by decide +kernel, by decide +kernel⟩
def f_X4_again_41_b (k41 : Int → Int → Tw → Prop) (l1 : Int) (l2 : Int) (w : Tw) (Q : Bool → Tw → Prop) : Prop :=
  br l2 844 ((844 : Int) ≤ l2) (tS w 22 0 0 (fun w8 => Q true w8)) (rdA w 44 1688 ((844 * l1) + l2) (fun _ => wrA w 20 844 l2 (w 44 ((844 * l1) + l2)) (fun w9 => k41 l1 (l2 + 1) w9)))
theorem w_X4_again_41_b {t : Nat} {ad : Nat → Nat} {G0 : Wd} {Q : Bool → Tw → Prop} {k41 : Int → Int → Tw → Prop} (hk41 : ∀ {l1 : Int} {l2 : Int} {w : Tw} {G : Wd}, k41 l1 l2 w → TwAt t ad w (G 2) → (∀ r, r ≠ 2 → G r = G0 r) → wp m_X4_again 2 0 0 41 [some (vR (some t)), some (vI l1), some (vI l2)] [] G (twQ t ad G0 (uB Q)) noX) {l1 : Int} {l2 : Int} {w : Tw} {G : Wd} (h : f_X4_again_41_b k41 l1 l2 w Q) (hT : TwAt t ad w (G 2)) (hG : ∀ r, r ≠ 2 → G r = G0 r) : wp m_X4_again 2 0 0 41 [some (vR (some t)), some (vI l1), some (vI l2)] [] G (twQ t ad G0 (uB Q)) noX := by
  unfold f_X4_again_41_b at h
  refine r_iload_n dX4_again_41 rfl rfl iI ?_
  refine r_sipush dX4_again_42 (by decide) ?_
  refine r_icmp_ge (tgt := 72) dX4_again_45 (by decide) h (fun h => ?_) (fun h => ?_)
  · refine r_aload_n dX4_again_72 rfl rfl iR ?_
    refine r_iconst dX4_again_73 ?_
    refine t_put (j := 22) hT hG dX4_again_74 (fp1 (f := 22) fX4 (by decide) q2243 rfl rfl rfl) tF22 (by decide) h (fun w8 G h hT hG => ?_)
    refine r_iconst dX4_again_77 ?_
    refine wp.cast (st' := [vB true]) rfl (congrArg (fun q => [q]) vI1) ?_
    exact r_zret rfl dX4_again_78 ⟨_, hT, hG, _, rfl, h⟩
  · refine r_aload_n dX4_again_48 rfl rfl iR ?_
    refine t_getA (j := 20) hT dX4_again_49 (fg1 (f := 20) fX4 (by decide) q2241 rfl) rfl ?_
    refine r_iload_n dX4_again_52 rfl rfl iI ?_
    refine r_aload_n dX4_again_53 rfl rfl iR ?_
    refine t_getA (j := 44) hT dX4_again_54 (fg1 (f := 44) fX4 (by decide) q2265 rfl) rfl ?_
    refine r_sipush dX4_again_57 (by decide) ?_
    refine r_iload_n dX4_again_60 rfl rfl iI ?_
    refine r_imul dX4_again_61 ?_
    refine r_iload_n dX4_again_62 rfl rfl iI ?_
    refine r_iadd dX4_again_63 ?_
    refine t_iald hT dX4_again_64 tA44 (by decide) h (fun h => ?_)
    refine t_iast hT hG dX4_again_65 tA20 (by decide) h (fun w9 G h hT hG => ?_)
    refine r_iinc (L' := [some (vR (some t)), some (vI l1), some (vI (l2 + 1))]) dX4_again_66 rfl rfl cI (by decide) ?_
    refine r_goto (tgt := 41) dX4_again_69 (by decide) ?_
    exact hk41 h hT hG
def f_X4_again_41 (Q : Bool → Tw → Prop) : Nat → Int → Int → Tw → Prop
  | 0, _, _, _ => False
  | fl + 1, l1, l2, w => f_X4_again_41_b    (fun l1 l2 w => f_X4_again_41    Q fl l1 l2 w) l1 l2 w Q
theorem w_X4_again_41 {t : Nat} {ad : Nat → Nat} {G0 : Wd} {Q : Bool → Tw → Prop} : ∀ (fl : Nat) {l1 : Int} {l2 : Int} {w : Tw} {G : Wd}, f_X4_again_41 Q fl l1 l2 w → TwAt t ad w (G 2) → (∀ r, r ≠ 2 → G r = G0 r) → wp m_X4_again 2 0 0 41 [some (vR (some t)), some (vI l1), some (vI l2)] [] G (twQ t ad G0 (uB Q)) noX := by
  intro fl
  induction fl with
  | zero => intro l1 l2 w G h; exact (show False from h).elim
  | succ fl ih => intro l1 l2 w G h hT hG; exact w_X4_again_41_b   (fun h hT hG => ih h hT hG) h hT hG
def f_X4_again (a1 : Int) (w : Tw) (Q : Bool → Tw → Prop) : Prop :=
  tS w 0 0 0 (fun w10 => ok32 a1 (f_X4_in a1 0 1 w10 (fun x12 w11 => brB x12 (rdA w11 42 2 a1 (fun _ => br0 (w11 42 a1) ((w11 42 a1) = 0) (Q false w11) (rdA w11 43 2 a1 (fun _ => br (w11 43 a1) (w11 15 0) ((w11 43 a1) = (w11 15 0)) (∃ fl13, f_X4_again_41 Q fl13 a1 0 w11) (Q false w11))))) (Q false w11))))
theorem w_X4_again {t : Nat} {ad : Nat → Nat} {G0 : Wd} {Q : Bool → Tw → Prop} {a1 : Int} {w : Tw} {G : Wd} (h : f_X4_again a1 w Q) (hT : TwAt t ad w (G 2)) (hG : ∀ r, r ≠ 2 → G r = G0 r) : wp m_X4_again 2 0 0 0 [some (vR (some t)), some (vI a1), none] [] G (twQ t ad G0 (uB Q)) noX := by
  unfold f_X4_again at h
  refine r_aload_n dX4_again_0 rfl rfl iR ?_
  refine r_iconst dX4_again_1 ?_
  refine t_put (j := 0) hT hG dX4_again_2 (fp1 (f := 0) fX4 (by decide) q2221 rfl rfl rfl) tF0 (by decide) h (fun w10 G h hT hG => ?_)
  refine r_iload_n dX4_again_5 rfl rfl iI ?_
  refine r_i2l dX4_again_6 h (fun h => ?_)
  refine r_lconst (y := 0) dX4_again_7 (by decide) ?_
  refine r_lconst (y := 1) dX4_again_8 (by decide) ?_
  refine r_callS dX4_again_9 (c_X4_in h hT hG) q2133 q2134 q117 q2135 yo_X4_in rfl (by decide) (by decide) rfl rc0 (by decide) (Nat.le_refl _) (Nat.le_refl _) (tofB fun x12 w11 G h hT hG => ?_) nox
  refine r_ifZ_eq (tgt := 37) dX4_again_12 (by decide) h (fun h => ?_) (fun h => ?_)
  · refine r_iconst dX4_again_37 ?_
    refine wp.cast (st' := [vB false]) rfl (congrArg (fun q => [q]) vI0) ?_
    exact r_zret rfl dX4_again_38 ⟨_, hT, hG, _, rfl, h⟩
  · refine r_aload_n dX4_again_15 rfl rfl iR ?_
    refine t_getA (j := 42) hT dX4_again_16 (fg1 (f := 42) fX4 (by decide) q2263 rfl) rfl ?_
    refine r_iload_n dX4_again_19 rfl rfl iI ?_
    refine t_zald hT dX4_again_20 tA42 (by decide) h (fun h => ?_)
    refine r_if_eq (tgt := 37) dX4_again_21 (by decide) h (fun h => ?_) (fun h => ?_)
    · refine r_iconst dX4_again_37 ?_
      refine wp.cast (st' := [vB false]) rfl (congrArg (fun q => [q]) vI0) ?_
      exact r_zret rfl dX4_again_38 ⟨_, hT, hG, _, rfl, h⟩
    · refine r_aload_n dX4_again_24 rfl rfl iR ?_
      refine t_getA (j := 43) hT dX4_again_25 (fg1 (f := 43) fX4 (by decide) q2264 rfl) rfl ?_
      refine r_iload_n dX4_again_28 rfl rfl iI ?_
      refine t_iald hT dX4_again_29 tA43 (by decide) h (fun h => ?_)
      refine r_aload_n dX4_again_30 rfl rfl iR ?_
      refine t_getI (j := 15) hT dX4_again_31 (fg1 (f := 15) fX4 (by decide) q2236 rfl) rfl ?_
      refine r_icmp_eq (tgt := 39) dX4_again_34 (by decide) h (fun h => ?_) (fun h => ?_)
      · refine r_iconst dX4_again_39 ?_
        refine r_istore_n (L' := [some (vR (some t)), some (vI a1), some (vI 0)]) dX4_again_40 rfl rfl iI cI (by decide) ?_
        obtain ⟨fl13, h⟩ := h
        exact w_X4_again_41 fl13 h hT hG
      · refine r_iconst dX4_again_37 ?_
        refine wp.cast (st' := [vB false]) rfl (congrArg (fun q => [q]) vI0) ?_
        exact r_zret rfl dX4_again_38 ⟨_, hT, hG, _, rfl, h⟩
theorem c_X4_again {t : Nat} {ad : Nat → Nat} {G0 : Wd} {a1 : Int} {Q : Bool → Tw → Prop} {w : Tw} {G : Wd} (h : f_X4_again a1 w Q) (hT : TwAt t ad w (G 2)) (hG : ∀ r, r ≠ 2 → G r = G0 r) : call yX4_again (Cond.code yX4_again cX4_again 3 (some .boolean)) 2 0 0 [vR (some t), vI a1] G (twQ t ad G0 (uB Q)) noX :=
  call.enter (by decide +kernel) (la_1 c1R (la_1 c1I (la_nil rfl))) rfl (w_X4_again  h hT hG)
abbrev m_X4_count : Mt := (yX4_count.cls, cX4_count, 5, some .int, [], yX4_count.name)
theorem yo_X4_count : yOK yX4_count 1 := ⟨by decide +kernel, by decide +kernel, by decide +kernel⟩
def f_X4_count_12_b (k12 : Int → Int → Int → Int → Tw → Prop) (l1 : Int) (l2 : Int) (l3 : Int) (l4 : Int) (w : Tw) (Q : Int → Tw → Prop) : Prop :=
  br l4 (w 14 0) ((w 14 0) ≤ l4) (ok32 l1 (swc l1 0 (Q (w 14 0) w) (swc l1 1 (Q l2 w) (swc l1 2 (rdA w 20 844 493 (fun _ => Q (w 20 493) w)) (swc l1 3 (rdA w 20 844 814 (fun _ => Q (w 20 814) w)) (swc l1 4 (Q l3 w) (swc l1 5 (rdA w 20 844 827 (fun _ => Q (w 20 827) w)) (swc l1 6 (rdA w 20 844 826 (fun _ => Q (w 20 826) w)) (swc l1 7 (f_X4_blocksOf 20 w (fun x23 w22 => Q x23 w22)) (swc l1 8 (Q (w 36 0) w) (swc l1 9 (Q (w 22 0) w) (swc l1 10 (Q (w 1 0) w) (swc l1 11 (Q (w 4 0) w) (Q (-100) w)))))))))))))) (f_X4_of 20 l4 0 w (fun x25 w24 => f_X4_of 20 l4 3 w24 (fun x27 w26 => f_X4_of 20 l4 5 w26 (fun x29 w28 => f_X4_of 20 l4 6 w28 (fun x31 w30 => k12 l1 (l2 + (x25 - x27)) (l3 + (x29 - x31)) (l4 + 1) w30)))))
theorem w_X4_count_12_b {t : Nat} {ad : Nat → Nat} {G0 : Wd} {Q : Int → Tw → Prop} {k12 : Int → Int → Int → Int → Tw → Prop} (hk12 : ∀ {l1 : Int} {l2 : Int} {l3 : Int} {l4 : Int} {w : Tw} {G : Wd}, k12 l1 l2 l3 l4 w → TwAt t ad w (G 2) → (∀ r, r ≠ 2 → G r = G0 r) → wp m_X4_count 2 0 0 12 [some (vR (some t)), some (vI l1), some (vI l2), some (vI l3), some (vI l4)] [] G (twQ t ad G0 (uI Q)) noX) {l1 : Int} {l2 : Int} {l3 : Int} {l4 : Int} {w : Tw} {G : Wd} (h : f_X4_count_12_b k12 l1 l2 l3 l4 w Q) (hT : TwAt t ad w (G 2)) (hG : ∀ r, r ≠ 2 → G r = G0 r) : wp m_X4_count 2 0 0 12 [some (vR (some t)), some (vI l1), some (vI l2), some (vI l3), some (vI l4)] [] G (twQ t ad G0 (uI Q)) noX := by
  unfold f_X4_count_12_b at h
  refine r_iload dX4_count_12 rfl iI ?_
  refine r_aload_n dX4_count_14 rfl rfl iR ?_
  refine t_getI (j := 14) hT dX4_count_15 (fg1 (f := 14) fX4 (by decide) q2235 rfl) rfl ?_
  refine r_icmp_ge (tgt := 76) dX4_count_18 (by decide) h (fun h => ?_) (fun h => ?_)
  · refine r_iload_n dX4_count_76 rfl rfl iI ?_
    obtain ⟨hr, h⟩ := h
    refine r_swc h (fun e0 h => ?_) (fun e0 h => ?_)
    · refine r_tsIn (tgt := 140) dX4_count_77 hr e0 (by decide) (by decide) rfl (by decide) ?_
      refine r_aload_n dX4_count_140 rfl rfl iR ?_
      refine t_getI (j := 14) hT dX4_count_141 (fg1 (f := 14) fX4 (by decide) q2235 rfl) rfl ?_
      exact r_iret rfl dX4_count_144 ⟨_, hT, hG, _, rfl, h⟩
    · refine r_swc h (fun e1 h => ?_) (fun e1 h => ?_)
      · refine r_tsIn (tgt := 145) dX4_count_77 hr e1 (by decide) (by decide) rfl (by decide) ?_
        refine r_iload_n dX4_count_145 rfl rfl iI ?_
        exact r_iret rfl dX4_count_146 ⟨_, hT, hG, _, rfl, h⟩
      · refine r_swc h (fun e2 h => ?_) (fun e2 h => ?_)
        · refine r_tsIn (tgt := 147) dX4_count_77 hr e2 (by decide) (by decide) rfl (by decide) ?_
          refine r_aload_n dX4_count_147 rfl rfl iR ?_
          refine t_getA (j := 20) hT dX4_count_148 (fg1 (f := 20) fX4 (by decide) q2241 rfl) rfl ?_
          refine r_sipush dX4_count_151 (by decide) ?_
          refine t_iald hT dX4_count_154 tA20 (by decide) h (fun h => ?_)
          exact r_iret rfl dX4_count_155 ⟨_, hT, hG, _, rfl, h⟩
        · refine r_swc h (fun e3 h => ?_) (fun e3 h => ?_)
          · refine r_tsIn (tgt := 156) dX4_count_77 hr e3 (by decide) (by decide) rfl (by decide) ?_
            refine r_aload_n dX4_count_156 rfl rfl iR ?_
            refine t_getA (j := 20) hT dX4_count_157 (fg1 (f := 20) fX4 (by decide) q2241 rfl) rfl ?_
            refine r_sipush dX4_count_160 (by decide) ?_
            refine t_iald hT dX4_count_163 tA20 (by decide) h (fun h => ?_)
            exact r_iret rfl dX4_count_164 ⟨_, hT, hG, _, rfl, h⟩
          · refine r_swc h (fun e4 h => ?_) (fun e4 h => ?_)
            · refine r_tsIn (tgt := 165) dX4_count_77 hr e4 (by decide) (by decide) rfl (by decide) ?_
              refine r_iload_n dX4_count_165 rfl rfl iI ?_
              exact r_iret rfl dX4_count_166 ⟨_, hT, hG, _, rfl, h⟩
            · refine r_swc h (fun e5 h => ?_) (fun e5 h => ?_)
              · refine r_tsIn (tgt := 167) dX4_count_77 hr e5 (by decide) (by decide) rfl (by decide) ?_
                refine r_aload_n dX4_count_167 rfl rfl iR ?_
                refine t_getA (j := 20) hT dX4_count_168 (fg1 (f := 20) fX4 (by decide) q2241 rfl) rfl ?_
                refine r_sipush dX4_count_171 (by decide) ?_
                refine t_iald hT dX4_count_174 tA20 (by decide) h (fun h => ?_)
                exact r_iret rfl dX4_count_175 ⟨_, hT, hG, _, rfl, h⟩
              · refine r_swc h (fun e6 h => ?_) (fun e6 h => ?_)
                · refine r_tsIn (tgt := 176) dX4_count_77 hr e6 (by decide) (by decide) rfl (by decide) ?_
                  refine r_aload_n dX4_count_176 rfl rfl iR ?_
                  refine t_getA (j := 20) hT dX4_count_177 (fg1 (f := 20) fX4 (by decide) q2241 rfl) rfl ?_
                  refine r_sipush dX4_count_180 (by decide) ?_
                  refine t_iald hT dX4_count_183 tA20 (by decide) h (fun h => ?_)
                  exact r_iret rfl dX4_count_184 ⟨_, hT, hG, _, rfl, h⟩
                · refine r_swc h (fun e7 h => ?_) (fun e7 h => ?_)
                  · refine r_tsIn (tgt := 185) dX4_count_77 hr e7 (by decide) (by decide) rfl (by decide) ?_
                    refine r_aload_n dX4_count_185 rfl rfl iR ?_
                    refine t_getA (j := 20) hT dX4_count_186 (fg1 (f := 20) fX4 (by decide) q2241 rfl) rfl ?_
                    refine r_callS dX4_count_189 (c_X4_blocksOf tA20 h hT hG) q2388 q2389 q117 q2390 yo_X4_blocksOf rfl (by decide) (by decide) rfl rc0 (by decide) (Nat.le_refl _) (Nat.le_refl _) (tofI fun x23 w22 G h hT hG => ?_) nox
                    exact r_iret rfl dX4_count_192 ⟨_, hT, hG, _, rfl, h⟩
                  · refine r_swc h (fun e8 h => ?_) (fun e8 h => ?_)
                    · refine r_tsIn (tgt := 193) dX4_count_77 hr e8 (by decide) (by decide) rfl (by decide) ?_
                      refine r_aload_n dX4_count_193 rfl rfl iR ?_
                      refine t_getI (j := 36) hT dX4_count_194 (fg1 (f := 36) fX4 (by decide) q2257 rfl) rfl ?_
                      exact r_iret rfl dX4_count_197 ⟨_, hT, hG, _, rfl, h⟩
                    · refine r_swc h (fun e9 h => ?_) (fun e9 h => ?_)
                      · refine r_tsIn (tgt := 198) dX4_count_77 hr e9 (by decide) (by decide) rfl (by decide) ?_
                        refine r_aload_n dX4_count_198 rfl rfl iR ?_
                        refine t_getI (j := 22) hT dX4_count_199 (fg1 (f := 22) fX4 (by decide) q2243 rfl) rfl ?_
                        exact r_iret rfl dX4_count_202 ⟨_, hT, hG, _, rfl, h⟩
                      · refine r_swc h (fun e10 h => ?_) (fun e10 h => ?_)
                        · refine r_tsIn (tgt := 203) dX4_count_77 hr e10 (by decide) (by decide) rfl (by decide) ?_
                          refine r_aload_n dX4_count_203 rfl rfl iR ?_
                          refine t_getI (j := 1) hT dX4_count_204 (fg1 (f := 1) fX4 (by decide) q2222 rfl) rfl ?_
                          exact r_iret rfl dX4_count_207 ⟨_, hT, hG, _, rfl, h⟩
                        · refine r_swc h (fun e11 h => ?_) (fun e11 h => ?_)
                          · refine r_tsIn (tgt := 208) dX4_count_77 hr e11 (by decide) (by decide) rfl (by decide) ?_
                            refine r_aload_n dX4_count_208 rfl rfl iR ?_
                            refine t_getI (j := 4) hT dX4_count_209 (fg1 (f := 4) fX4 (by decide) q2225 rfl) rfl ?_
                            exact r_iret rfl dX4_count_212 ⟨_, hT, hG, _, rfl, h⟩
                          · refine r_tsOut (tgt := 213) dX4_count_77 hr (by omega) (by decide) ?_
                            refine r_bipush dX4_count_213 (by decide) ?_
                            exact r_iret rfl dX4_count_215 ⟨_, hT, hG, _, rfl, h⟩
  · refine r_iload_n dX4_count_21 rfl rfl iI ?_
    refine r_aload_n dX4_count_22 rfl rfl iR ?_
    refine t_getA (j := 20) hT dX4_count_23 (fg1 (f := 20) fX4 (by decide) q2241 rfl) rfl ?_
    refine r_iload dX4_count_26 rfl iI ?_
    refine r_iconst dX4_count_28 ?_
    refine r_callS dX4_count_29 (c_X4_of tA20 h hT hG) q2379 q2380 q117 q2381 yo_X4_of rfl (by decide) (by decide) rfl (rc1 c1I rc0) (by decide) (Nat.le_refl _) (Nat.le_refl _) (tofI fun x25 w24 G h hT hG => ?_) nox
    refine r_aload_n dX4_count_32 rfl rfl iR ?_
    refine t_getA (j := 20) hT dX4_count_33 (fg1 (f := 20) fX4 (by decide) q2241 rfl) rfl ?_
    refine r_iload dX4_count_36 rfl iI ?_
    refine r_iconst dX4_count_38 ?_
    refine r_callS dX4_count_39 (c_X4_of tA20 h hT hG) q2379 q2380 q117 q2381 yo_X4_of rfl (by decide) (by decide) rfl (rc1 c1I (rc1 c1I rc0)) (by decide) (Nat.le_refl _) (Nat.le_refl _) (tofI fun x27 w26 G h hT hG => ?_) nox
    refine r_isub dX4_count_42 ?_
    refine r_iadd dX4_count_43 ?_
    refine r_istore_n (L' := [some (vR (some t)), some (vI l1), some (vI (l2 + (x25 - x27))), some (vI l3), some (vI l4)]) dX4_count_44 rfl rfl iI cI (by decide) ?_
    refine r_iload_n dX4_count_45 rfl rfl iI ?_
    refine r_aload_n dX4_count_46 rfl rfl iR ?_
    refine t_getA (j := 20) hT dX4_count_47 (fg1 (f := 20) fX4 (by decide) q2241 rfl) rfl ?_
    refine r_iload dX4_count_50 rfl iI ?_
    refine r_iconst dX4_count_52 ?_
    refine r_callS dX4_count_53 (c_X4_of tA20 h hT hG) q2379 q2380 q117 q2381 yo_X4_of rfl (by decide) (by decide) rfl (rc1 c1I rc0) (by decide) (Nat.le_refl _) (Nat.le_refl _) (tofI fun x29 w28 G h hT hG => ?_) nox
    refine r_aload_n dX4_count_56 rfl rfl iR ?_
    refine t_getA (j := 20) hT dX4_count_57 (fg1 (f := 20) fX4 (by decide) q2241 rfl) rfl ?_
    refine r_iload dX4_count_60 rfl iI ?_
    refine r_bipush dX4_count_62 (by decide) ?_
    refine r_callS dX4_count_64 (c_X4_of tA20 h hT hG) q2379 q2380 q117 q2381 yo_X4_of rfl (by decide) (by decide) rfl (rc1 c1I (rc1 c1I rc0)) (by decide) (Nat.le_refl _) (Nat.le_refl _) (tofI fun x31 w30 G h hT hG => ?_) nox
    refine r_isub dX4_count_67 ?_
    refine r_iadd dX4_count_68 ?_
    refine r_istore_n (L' := [some (vR (some t)), some (vI l1), some (vI (l2 + (x25 - x27))), some (vI (l3 + (x29 - x31))), some (vI l4)]) dX4_count_69 rfl rfl iI cI (by decide) ?_
    refine r_iinc (L' := [some (vR (some t)), some (vI l1), some (vI (l2 + (x25 - x27))), some (vI (l3 + (x29 - x31))), some (vI (l4 + 1))]) dX4_count_70 rfl rfl cI (by decide) ?_
    refine r_goto (tgt := 12) dX4_count_73 (by decide) ?_
    exact hk12 h hT hG
def f_X4_count_12 (Q : Int → Tw → Prop) : Nat → Int → Int → Int → Int → Tw → Prop
  | 0, _, _, _, _, _ => False
  | fl + 1, l1, l2, l3, l4, w => f_X4_count_12_b    (fun l1 l2 l3 l4 w => f_X4_count_12    Q fl l1 l2 l3 l4 w) l1 l2 l3 l4 w Q
theorem w_X4_count_12 {t : Nat} {ad : Nat → Nat} {G0 : Wd} {Q : Int → Tw → Prop} : ∀ (fl : Nat) {l1 : Int} {l2 : Int} {l3 : Int} {l4 : Int} {w : Tw} {G : Wd}, f_X4_count_12 Q fl l1 l2 l3 l4 w → TwAt t ad w (G 2) → (∀ r, r ≠ 2 → G r = G0 r) → wp m_X4_count 2 0 0 12 [some (vR (some t)), some (vI l1), some (vI l2), some (vI l3), some (vI l4)] [] G (twQ t ad G0 (uI Q)) noX := by
  intro fl
  induction fl with
  | zero => intro l1 l2 l3 l4 w G h; exact (show False from h).elim
  | succ fl ih => intro l1 l2 l3 l4 w G h hT hG; exact w_X4_count_12_b   (fun h hT hG => ih h hT hG) h hT hG
def f_X4_count (a1 : Int) (w : Tw) (Q : Int → Tw → Prop) : Prop :=
  tS w 0 0 0 (fun w32 => ∃ fl33, f_X4_count_12 Q fl33 a1 0 0 0 w32)
theorem w_X4_count {t : Nat} {ad : Nat → Nat} {G0 : Wd} {Q : Int → Tw → Prop} {a1 : Int} {w : Tw} {G : Wd} (h : f_X4_count a1 w Q) (hT : TwAt t ad w (G 2)) (hG : ∀ r, r ≠ 2 → G r = G0 r) : wp m_X4_count 2 0 0 0 [some (vR (some t)), some (vI a1), none, none, none] [] G (twQ t ad G0 (uI Q)) noX := by
  unfold f_X4_count at h
  refine r_aload_n dX4_count_0 rfl rfl iR ?_
  refine r_iconst dX4_count_1 ?_
  refine t_put (j := 0) hT hG dX4_count_2 (fp1 (f := 0) fX4 (by decide) q2221 rfl rfl rfl) tF0 (by decide) h (fun w32 G h hT hG => ?_)
  refine r_iconst dX4_count_5 ?_
  refine r_istore_n (L' := [some (vR (some t)), some (vI a1), some (vI 0), none, none]) dX4_count_6 rfl rfl iI cI (by decide) ?_
  refine r_iconst dX4_count_7 ?_
  refine r_istore_n (L' := [some (vR (some t)), some (vI a1), some (vI 0), some (vI 0), none]) dX4_count_8 rfl rfl iI cI (by decide) ?_
  refine r_iconst dX4_count_9 ?_
  refine r_istore (L' := [some (vR (some t)), some (vI a1), some (vI 0), some (vI 0), some (vI 0)]) dX4_count_10 rfl iI cI (by decide) ?_
  obtain ⟨fl33, h⟩ := h
  exact w_X4_count_12 fl33 h hT hG
theorem c_X4_count {t : Nat} {ad : Nat → Nat} {G0 : Wd} {a1 : Int} {Q : Int → Tw → Prop} {w : Tw} {G : Wd} (h : f_X4_count a1 w Q) (hT : TwAt t ad w (G 2)) (hG : ∀ r, r ≠ 2 → G r = G0 r) : call yX4_count (Cond.code yX4_count cX4_count 5 (some .int)) 2 0 0 [vR (some t), vI a1] G (twQ t ad G0 (uI Q)) noX :=
  call.enter (by decide +kernel) (la_1 c1R (la_1 c1I (la_nil rfl))) rfl (w_X4_count  h hT hG)
abbrev m_X4_row : Mt := (yX4_row.cls, cX4_row, 2, some .long, [], yX4_row.name)
theorem yo_X4_row : yOK yX4_row 1 := ⟨by decide +kernel, by decide +kernel, by decide +kernel⟩
def f_X4_row (a1 : Int) (w : Tw) (Q : Int → Tw → Prop) : Prop :=
  tS w 0 0 0 (fun w5 => ok32 a1 (ok32 ((w5 1 0) - 1) (f_X4_in a1 0 ((w5 1 0) - 1) w5 (fun x7 w6 => brB x7 (rdA w6 2 24 a1 (fun _ => Q (w6 2 a1) w6)) (tS w6 0 0 1 (fun w8 => Q 0 w8))))))
theorem w_X4_row {t : Nat} {ad : Nat → Nat} {G0 : Wd} {Q : Int → Tw → Prop} {a1 : Int} {w : Tw} {G : Wd} (h : f_X4_row a1 w Q) (hT : TwAt t ad w (G 2)) (hG : ∀ r, r ≠ 2 → G r = G0 r) : wp m_X4_row 2 0 0 0 [some (vR (some t)), some (vI a1)] [] G (twQ t ad G0 (uJ Q)) noX := by
  unfold f_X4_row at h
  refine r_aload_n dX4_row_0 rfl rfl iR ?_
  refine r_iconst dX4_row_1 ?_
  refine t_put (j := 0) hT hG dX4_row_2 (fp1 (f := 0) fX4 (by decide) q2221 rfl rfl rfl) tF0 (by decide) h (fun w5 G h hT hG => ?_)
  refine r_iload_n dX4_row_5 rfl rfl iI ?_
  refine r_i2l dX4_row_6 h (fun h => ?_)
  refine r_lconst (y := 0) dX4_row_7 (by decide) ?_
  refine r_aload_n dX4_row_8 rfl rfl iR ?_
  refine t_getI (j := 1) hT dX4_row_9 (fg1 (f := 1) fX4 (by decide) q2222 rfl) rfl ?_
  refine r_iconst dX4_row_12 ?_
  refine r_isub dX4_row_13 ?_
  refine r_i2l dX4_row_14 h (fun h => ?_)
  refine r_callS dX4_row_15 (c_X4_in h hT hG) q2133 q2134 q117 q2135 yo_X4_in rfl (by decide) (by decide) rfl rc0 (by decide) (Nat.le_refl _) (Nat.le_refl _) (tofB fun x7 w6 G h hT hG => ?_) nox
  refine r_ifZ_ne (tgt := 28) dX4_row_18 (by decide) h (fun h => ?_) (fun h => ?_)
  · refine r_aload_n dX4_row_28 rfl rfl iR ?_
    refine t_getA (j := 2) hT dX4_row_29 (fg1 (f := 2) fX4 (by decide) q2223 rfl) rfl ?_
    refine r_iload_n dX4_row_32 rfl rfl iI ?_
    refine t_lald hT dX4_row_33 tA2 (by decide) h (fun h => ?_)
    exact r_lret rfl dX4_row_34 ⟨_, hT, hG, _, rfl, h⟩
  · refine r_aload_n dX4_row_21 rfl rfl iR ?_
    refine r_iconst dX4_row_22 ?_
    refine t_put (j := 0) hT hG dX4_row_23 (fp1 (f := 0) fX4 (by decide) q2221 rfl rfl rfl) tF0 (by decide) h (fun w8 G h hT hG => ?_)
    refine r_lconst (y := 0) dX4_row_26 (by decide) ?_
    exact r_lret rfl dX4_row_27 ⟨_, hT, hG, _, rfl, h⟩
theorem c_X4_row {t : Nat} {ad : Nat → Nat} {G0 : Wd} {a1 : Int} {Q : Int → Tw → Prop} {w : Tw} {G : Wd} (h : f_X4_row a1 w Q) (hT : TwAt t ad w (G 2)) (hG : ∀ r, r ≠ 2 → G r = G0 r) : call yX4_row (Cond.code yX4_row cX4_row 2 (some .long)) 2 0 0 [vR (some t), vI a1] G (twQ t ad G0 (uJ Q)) noX :=
  call.enter (by decide +kernel) (la_1 c1R (la_1 c1I (la_nil rfl))) rfl (w_X4_row  h hT hG)
abbrev m_X4_end : Mt := (yX4_end.cls, cX4_end, 2, some .boolean, [], yX4_end.name)
theorem yo_X4_end : yOK yX4_end 1 := ⟨by decide +kernel, by decide +kernel, by decide +kernel⟩
def f_X4_end (a1 : Int) (w : Tw) (Q : Bool → Tw → Prop) : Prop :=
  tS w 0 0 0 (fun w5 => ok32 a1 (ok32 (w5 4 0) (f_X4_in a1 0 (w5 4 0) w5 (fun x7 w6 => brB x7 (tS w6 4 0 a1 (fun w8 => Q true w8)) (Q false w6)))))
theorem w_X4_end {t : Nat} {ad : Nat → Nat} {G0 : Wd} {Q : Bool → Tw → Prop} {a1 : Int} {w : Tw} {G : Wd} (h : f_X4_end a1 w Q) (hT : TwAt t ad w (G 2)) (hG : ∀ r, r ≠ 2 → G r = G0 r) : wp m_X4_end 2 0 0 0 [some (vR (some t)), some (vI a1)] [] G (twQ t ad G0 (uB Q)) noX := by
  unfold f_X4_end at h
  refine r_aload_n dX4_end_0 rfl rfl iR ?_
  refine r_iconst dX4_end_1 ?_
  refine t_put (j := 0) hT hG dX4_end_2 (fp1 (f := 0) fX4 (by decide) q2221 rfl rfl rfl) tF0 (by decide) h (fun w5 G h hT hG => ?_)
  refine r_iload_n dX4_end_5 rfl rfl iI ?_
  refine r_i2l dX4_end_6 h (fun h => ?_)
  refine r_lconst (y := 0) dX4_end_7 (by decide) ?_
  refine r_aload_n dX4_end_8 rfl rfl iR ?_
  refine t_getI (j := 4) hT dX4_end_9 (fg1 (f := 4) fX4 (by decide) q2225 rfl) rfl ?_
  refine r_i2l dX4_end_12 h (fun h => ?_)
  refine r_callS dX4_end_13 (c_X4_in h hT hG) q2133 q2134 q117 q2135 yo_X4_in rfl (by decide) (by decide) rfl rc0 (by decide) (Nat.le_refl _) (Nat.le_refl _) (tofB fun x7 w6 G h hT hG => ?_) nox
  refine r_ifZ_ne (tgt := 21) dX4_end_16 (by decide) h (fun h => ?_) (fun h => ?_)
  · refine r_aload_n dX4_end_21 rfl rfl iR ?_
    refine r_iload_n dX4_end_22 rfl rfl iI ?_
    refine t_put (j := 4) hT hG dX4_end_23 (fp1 (f := 4) fX4 (by decide) q2225 rfl rfl rfl) tF4 (by decide) h (fun w8 G h hT hG => ?_)
    refine r_iconst dX4_end_26 ?_
    refine wp.cast (st' := [vB true]) rfl (congrArg (fun q => [q]) vI1) ?_
    exact r_zret rfl dX4_end_27 ⟨_, hT, hG, _, rfl, h⟩
  · refine r_iconst dX4_end_19 ?_
    refine wp.cast (st' := [vB false]) rfl (congrArg (fun q => [q]) vI0) ?_
    exact r_zret rfl dX4_end_20 ⟨_, hT, hG, _, rfl, h⟩
theorem c_X4_end {t : Nat} {ad : Nat → Nat} {G0 : Wd} {a1 : Int} {Q : Bool → Tw → Prop} {w : Tw} {G : Wd} (h : f_X4_end a1 w Q) (hT : TwAt t ad w (G 2)) (hG : ∀ r, r ≠ 2 → G r = G0 r) : call yX4_end (Cond.code yX4_end cX4_end 2 (some .boolean)) 2 0 0 [vR (some t), vI a1] G (twQ t ad G0 (uB Q)) noX :=
  call.enter (by decide +kernel) (la_1 c1R (la_1 c1I (la_nil rfl))) rfl (w_X4_end  h hT hG)
abbrev m_X4_readsRank : Mt := (yX4_readsRank.cls, cX4_readsRank, 4, some .boolean, [], yX4_readsRank.name)
def f_X4_readsRank_109 (T : Tw → (Bool → Tw → Prop) → Prop) (K : Int → Tw → (Bool → Tw → Prop) → Prop) (k24 : Int → Bool → Tw → Prop) (l1 : Int) (s0 : Bool) (w : Tw) (Q : Bool → Tw → Prop) : Prop :=
  k24 l1 s0 w
theorem w_X4_readsRank_109 {t : Nat} {ad : Nat → Nat} {G0 : Wd} {T : Tw → (Bool → Tw → Prop) → Prop} {K : Int → Tw → (Bool → Tw → Prop) → Prop} {e : Nat} (he : 20 ≤ e) (hgT : ∀ {t : Nat} {ad : Nat → Nat} {G0 : Wd} {Q : Bool → Tw → Prop} {w : Tw} {G : Wd}, T w Q → TwAt t ad w (G 2) → (∀ r, r ≠ 2 → G r = G0 r) → call yX4_readsThing (Cond.code yX4_readsThing cX4_readsThing 2 (some .boolean)) e 0 0 [vR (some t)] G (twQ t ad G0 (uB Q)) noX) (hgK : ∀ {t : Nat} {ad : Nat → Nat} {G0 : Wd} {a1 : Int} {Q : Bool → Tw → Prop} {w : Tw} {G : Wd}, K a1 w Q → TwAt t ad w (G 2) → (∀ r, r ≠ 2 → G r = G0 r) → call yX4_readsRank (Cond.code yX4_readsRank cX4_readsRank 4 (some .boolean)) e 0 0 [vR (some t), vI a1] G (twQ t ad G0 (uB Q)) noX) {Q : Bool → Tw → Prop} {k24 : Int → Bool → Tw → Prop} (hk24 : ∀ {l1 : Int} {l2 : Bool} {w : Tw} {G : Wd}, k24 l1 l2 w → TwAt t ad w (G 2) → (∀ r, r ≠ 2 → G r = G0 r) → wp m_X4_readsRank (e + 1) 0 0 24 [some (vR (some t)), some (vI l1), some (vB l2), none] [] G (twQ t ad G0 (uB Q)) noX) {l1 : Int} {s0 : Bool} {w : Tw} {G : Wd} (h : f_X4_readsRank_109 T K k24 l1 s0 w Q) (hT : TwAt t ad w (G 2)) (hG : ∀ r, r ≠ 2 → G r = G0 r) : wp m_X4_readsRank (e + 1) 0 0 109 [some (vR (some t)), some (vI l1), none, none] [vB s0] G (twQ t ad G0 (uB Q)) noX := by
  unfold f_X4_readsRank_109 at h
  refine r_istore_n (L' := [some (vR (some t)), some (vI l1), some (vB s0), none]) dX4_readsRank_109 rfl rfl iB cI (by decide) ?_
  refine r_goto (tgt := 24) dX4_readsRank_110 (by decide) ?_
  exact hk24 h hT hG
def f_X4_readsRank_96 (T : Tw → (Bool → Tw → Prop) → Prop) (K : Int → Tw → (Bool → Tw → Prop) → Prop) (k24 : Int → Bool → Tw → Prop) (l1 : Int) (s1 : Int) (s2 : Int) (w : Tw) (Q : Bool → Tw → Prop) : Prop :=
  f_X4_codes (s1 + s2) w (fun w16 => br0 l1 (l1 ≤ 0) (f_X4_readsRank_109 T K k24 l1 false w16 Q) (f_X4_readsRank_109 T K k24 l1 true w16 Q))
theorem w_X4_readsRank_96 {t : Nat} {ad : Nat → Nat} {G0 : Wd} {T : Tw → (Bool → Tw → Prop) → Prop} {K : Int → Tw → (Bool → Tw → Prop) → Prop} {e : Nat} (he : 20 ≤ e) (hgT : ∀ {t : Nat} {ad : Nat → Nat} {G0 : Wd} {Q : Bool → Tw → Prop} {w : Tw} {G : Wd}, T w Q → TwAt t ad w (G 2) → (∀ r, r ≠ 2 → G r = G0 r) → call yX4_readsThing (Cond.code yX4_readsThing cX4_readsThing 2 (some .boolean)) e 0 0 [vR (some t)] G (twQ t ad G0 (uB Q)) noX) (hgK : ∀ {t : Nat} {ad : Nat → Nat} {G0 : Wd} {a1 : Int} {Q : Bool → Tw → Prop} {w : Tw} {G : Wd}, K a1 w Q → TwAt t ad w (G 2) → (∀ r, r ≠ 2 → G r = G0 r) → call yX4_readsRank (Cond.code yX4_readsRank cX4_readsRank 4 (some .boolean)) e 0 0 [vR (some t), vI a1] G (twQ t ad G0 (uB Q)) noX) {Q : Bool → Tw → Prop} {k24 : Int → Bool → Tw → Prop} (hk24 : ∀ {l1 : Int} {l2 : Bool} {w : Tw} {G : Wd}, k24 l1 l2 w → TwAt t ad w (G 2) → (∀ r, r ≠ 2 → G r = G0 r) → wp m_X4_readsRank (e + 1) 0 0 24 [some (vR (some t)), some (vI l1), some (vB l2), none] [] G (twQ t ad G0 (uB Q)) noX) {l1 : Int} {s1 : Int} {s2 : Int} {w : Tw} {G : Wd} (h : f_X4_readsRank_96 T K k24 l1 s1 s2 w Q) (hT : TwAt t ad w (G 2)) (hG : ∀ r, r ≠ 2 → G r = G0 r) : wp m_X4_readsRank (e + 1) 0 0 96 [some (vR (some t)), some (vI l1), none, none] [vI s2, vI s1, vR (some t)] G (twQ t ad G0 (uB Q)) noX := by
  unfold f_X4_readsRank_96 at h
  refine r_iadd dX4_readsRank_96 ?_
  refine r_callV dX4_readsRank_97 (tisC hT) (c_X4_codes h hT hG) q2165 q2167 qs45 q117 q2168 rfl yo_X4_codes rfl (by omega) (by decide) rfl rc0 (by decide) (Nat.le_refl _) (Nat.le_refl _) (tofV fun w16 G h hT hG => ?_) nox
  refine r_iload_n dX4_readsRank_100 rfl rfl iI ?_
  refine r_if_le (tgt := 108) dX4_readsRank_101 (by decide) h (fun h => ?_) (fun h => ?_)
  · refine r_iconst dX4_readsRank_108 ?_
    refine wp.cast (st' := [vB false]) rfl (congrArg (fun q => [q]) vI0) ?_
    exact w_X4_readsRank_109 he hgT hgK hk24 h hT hG
  · refine r_iconst dX4_readsRank_104 ?_
    refine r_goto (tgt := 109) dX4_readsRank_105 (by decide) ?_
    refine wp.cast (st' := [vB true]) rfl (congrArg (fun q => [q]) vI1) ?_
    exact w_X4_readsRank_109 he hgT hgK hk24 h hT hG
def f_X4_readsRank_50 (T : Tw → (Bool → Tw → Prop) → Prop) (K : Int → Tw → (Bool → Tw → Prop) → Prop) (k24 : Int → Bool → Tw → Prop) (l1 : Int) (s1 : List Int) (w : Tw) (Q : Bool → Tw → Prop) : Prop :=
  f_X4_takesOf s1 w (fun x18 w17 => br0 x18 (0 ≤ x18) (K (l1 + 1) w17 (fun x20 w19 => brB x20 (br0 l1 (¬ l1 = 0) (br l1 1 (¬ l1 = (1 : Int)) (f_X4_readsRank_96 T K k24 l1 (2000 + x18) 5 w19 Q) (f_X4_readsRank_96 T K k24 l1 (2000 + x18) 3 w19 Q)) (f_X4_readsRank_96 T K k24 l1 (2000 + x18) 0 w19 Q)) (Q false w19))) (Q true w17))
theorem w_X4_readsRank_50 {t : Nat} {ad : Nat → Nat} {G0 : Wd} {T : Tw → (Bool → Tw → Prop) → Prop} {K : Int → Tw → (Bool → Tw → Prop) → Prop} {e : Nat} (he : 20 ≤ e) (hgT : ∀ {t : Nat} {ad : Nat → Nat} {G0 : Wd} {Q : Bool → Tw → Prop} {w : Tw} {G : Wd}, T w Q → TwAt t ad w (G 2) → (∀ r, r ≠ 2 → G r = G0 r) → call yX4_readsThing (Cond.code yX4_readsThing cX4_readsThing 2 (some .boolean)) e 0 0 [vR (some t)] G (twQ t ad G0 (uB Q)) noX) (hgK : ∀ {t : Nat} {ad : Nat → Nat} {G0 : Wd} {a1 : Int} {Q : Bool → Tw → Prop} {w : Tw} {G : Wd}, K a1 w Q → TwAt t ad w (G 2) → (∀ r, r ≠ 2 → G r = G0 r) → call yX4_readsRank (Cond.code yX4_readsRank cX4_readsRank 4 (some .boolean)) e 0 0 [vR (some t), vI a1] G (twQ t ad G0 (uB Q)) noX) {Q : Bool → Tw → Prop} {k24 : Int → Bool → Tw → Prop} (hk24 : ∀ {l1 : Int} {l2 : Bool} {w : Tw} {G : Wd}, k24 l1 l2 w → TwAt t ad w (G 2) → (∀ r, r ≠ 2 → G r = G0 r) → wp m_X4_readsRank (e + 1) 0 0 24 [some (vR (some t)), some (vI l1), some (vB l2), none] [] G (twQ t ad G0 (uB Q)) noX) {l1 : Int} {s1 : List Int} {s1_a : Nat} {w : Tw} {G : Wd} (h : f_X4_readsRank_50 T K k24 l1 s1 w Q) (hS_s1_a : stA G0 s1_a s1) (hT : TwAt t ad w (G 2)) (hG : ∀ r, r ≠ 2 → G r = G0 r) : wp m_X4_readsRank (e + 1) 0 0 50 [some (vR (some t)), some (vI l1), none, none] [vR (some s1_a), vR (some t)] G (twQ t ad G0 (uB Q)) noX := by
  unfold f_X4_readsRank_50 at h
  refine r_callV dX4_readsRank_50 (tisC hT) (c_X4_takesOf h hS_s1_a hT hG) q2180 q2182 qs48 q117 q2183 rfl yo_X4_takesOf rfl (by omega) (by decide) rfl rc0 (by decide) (Nat.le_refl _) (Nat.le_refl _) (tofI fun x18 w17 G h hT hG => ?_) nox
  refine r_istore_n (L' := [some (vR (some t)), some (vI l1), none, some (vI x18)]) dX4_readsRank_53 rfl rfl iI cN (by decide) ?_
  refine r_iload_n dX4_readsRank_54 rfl rfl iI ?_
  refine r_if_ge (tgt := 60) dX4_readsRank_55 (by decide) h (fun h => ?_) (fun h => ?_)
  · refine r_aload_n dX4_readsRank_60 rfl rfl iR ?_
    refine r_iload_n dX4_readsRank_61 rfl rfl iI ?_
    refine r_iconst dX4_readsRank_62 ?_
    refine r_iadd dX4_readsRank_63 ?_
    refine r_callV dX4_readsRank_64 (tisC hT) (hgK h hT hG) q2150 q2152 qs42 q117 q2153 rfl yo_X4_readsRank rfl (by omega) (by decide) rfl rc0 (by decide) (Nat.le_refl _) (Nat.le_refl _) (tofB fun x20 w19 G h hT hG => ?_) nox
    refine r_ifZ_ne (tgt := 72) dX4_readsRank_67 (by decide) h (fun h => ?_) (fun h => ?_)
    · refine r_aload_n dX4_readsRank_72 rfl rfl iR ?_
      refine r_sipush dX4_readsRank_73 (by decide) ?_
      refine r_iload_n dX4_readsRank_76 rfl rfl iI ?_
      refine r_iadd dX4_readsRank_77 ?_
      refine r_iload_n dX4_readsRank_78 rfl rfl iI ?_
      refine r_if_ne (tgt := 86) dX4_readsRank_79 (by decide) h (fun h => ?_) (fun h => ?_)
      · refine r_iload_n dX4_readsRank_86 rfl rfl iI ?_
        refine r_iconst dX4_readsRank_87 ?_
        refine r_icmp_ne (tgt := 95) dX4_readsRank_88 (by decide) h (fun h => ?_) (fun h => ?_)
        · refine r_iconst dX4_readsRank_95 ?_
          refine wp.locals (L' := [some (vR (some t)), some (vI l1), none, none]) (ls_s (ls_s (ls_n (ls_n ls_0)))) ?_
          exact w_X4_readsRank_96 he hgT hgK hk24 h hT hG
        · refine r_iconst dX4_readsRank_91 ?_
          refine r_goto (tgt := 96) dX4_readsRank_92 (by decide) ?_
          refine wp.locals (L' := [some (vR (some t)), some (vI l1), none, none]) (ls_s (ls_s (ls_n (ls_n ls_0)))) ?_
          exact w_X4_readsRank_96 he hgT hgK hk24 h hT hG
      · refine r_iconst dX4_readsRank_82 ?_
        refine r_goto (tgt := 96) dX4_readsRank_83 (by decide) ?_
        refine wp.locals (L' := [some (vR (some t)), some (vI l1), none, none]) (ls_s (ls_s (ls_n (ls_n ls_0)))) ?_
        exact w_X4_readsRank_96 he hgT hgK hk24 h hT hG
    · refine r_iconst dX4_readsRank_70 ?_
      refine wp.cast (st' := [vB false]) rfl (congrArg (fun q => [q]) vI0) ?_
      exact r_zret rfl dX4_readsRank_71 ⟨_, hT, hG, _, rfl, h⟩
  · refine r_iconst dX4_readsRank_58 ?_
    refine wp.cast (st' := [vB true]) rfl (congrArg (fun q => [q]) vI1) ?_
    exact r_zret rfl dX4_readsRank_59 ⟨_, hT, hG, _, rfl, h⟩
def f_X4_readsRank_24_b (T : Tw → (Bool → Tw → Prop) → Prop) (K : Int → Tw → (Bool → Tw → Prop) → Prop) (k24 : Int → Bool → Tw → Prop) (l1 : Int) (l2 : Bool) (w : Tw) (Q : Bool → Tw → Prop) : Prop :=
  brB l2 (br0 l1 (¬ l1 = 0) (br l1 1 (¬ l1 = (1 : Int)) (f_X4_readsRank_50 T K k24 l1 ([42, 47]) w Q) (f_X4_readsRank_50 T K k24 l1 ([43, 45]) w Q)) (f_X4_readsRank_50 T K k24 l1 ([60, 62, 61]) w Q)) (Q true w)
theorem w_X4_readsRank_24_b {t : Nat} {ad : Nat → Nat} {G0 : Wd} {T : Tw → (Bool → Tw → Prop) → Prop} {K : Int → Tw → (Bool → Tw → Prop) → Prop} {e : Nat} (he : 20 ≤ e) (hgT : ∀ {t : Nat} {ad : Nat → Nat} {G0 : Wd} {Q : Bool → Tw → Prop} {w : Tw} {G : Wd}, T w Q → TwAt t ad w (G 2) → (∀ r, r ≠ 2 → G r = G0 r) → call yX4_readsThing (Cond.code yX4_readsThing cX4_readsThing 2 (some .boolean)) e 0 0 [vR (some t)] G (twQ t ad G0 (uB Q)) noX) (hgK : ∀ {t : Nat} {ad : Nat → Nat} {G0 : Wd} {a1 : Int} {Q : Bool → Tw → Prop} {w : Tw} {G : Wd}, K a1 w Q → TwAt t ad w (G 2) → (∀ r, r ≠ 2 → G r = G0 r) → call yX4_readsRank (Cond.code yX4_readsRank cX4_readsRank 4 (some .boolean)) e 0 0 [vR (some t), vI a1] G (twQ t ad G0 (uB Q)) noX) {Q : Bool → Tw → Prop} {k24 : Int → Bool → Tw → Prop} (hk24 : ∀ {l1 : Int} {l2 : Bool} {w : Tw} {G : Wd}, k24 l1 l2 w → TwAt t ad w (G 2) → (∀ r, r ≠ 2 → G r = G0 r) → wp m_X4_readsRank (e + 1) 0 0 24 [some (vR (some t)), some (vI l1), some (vB l2), none] [] G (twQ t ad G0 (uB Q)) noX) {l1 : Int} {l2 : Bool} {w : Tw} {G : Wd} (h : f_X4_readsRank_24_b T K k24 l1 l2 w Q) (hT : TwAt t ad w (G 2)) (hG : ∀ r, r ≠ 2 → G r = G0 r) : wp m_X4_readsRank (e + 1) 0 0 24 [some (vR (some t)), some (vI l1), some (vB l2), none] [] G (twQ t ad G0 (uB Q)) noX := by
  unfold f_X4_readsRank_24_b at h
  refine r_iload_n dX4_readsRank_24 rfl rfl iB ?_
  refine r_ifZ_eq (tgt := 113) dX4_readsRank_25 (by decide) h (fun h => ?_) (fun h => ?_)
  · refine r_iconst dX4_readsRank_113 ?_
    refine wp.cast (st' := [vB true]) rfl (congrArg (fun q => [q]) vI1) ?_
    exact r_zret rfl dX4_readsRank_114 ⟨_, hT, hG, _, rfl, h⟩
  · refine r_aload_n dX4_readsRank_28 rfl rfl iR ?_
    refine r_iload_n dX4_readsRank_29 rfl rfl iI ?_
    refine r_if_ne (tgt := 38) dX4_readsRank_30 (by decide) h (fun h => ?_) (fun h => ?_)
    · refine r_iload_n dX4_readsRank_38 rfl rfl iI ?_
      refine r_iconst dX4_readsRank_39 ?_
      refine r_icmp_ne (tgt := 48) dX4_readsRank_40 (by decide) h (fun h => ?_) (fun h => ?_)
      · refine t_ldcS hG dX4_readsRank_48 (List.mem_of_getElem? (i := 5) rfl) (fun sa21 hS_sa21 => ?_)
        refine wp.locals (L' := [some (vR (some t)), some (vI l1), none, none]) (ls_s (ls_s (ls_n (ls_n ls_0)))) ?_
        exact w_X4_readsRank_50 he hgT hgK hk24 h hS_sa21 hT hG
      · refine t_ldcS hG dX4_readsRank_43 (List.mem_of_getElem? (i := 4) rfl) (fun sa22 hS_sa22 => ?_)
        refine r_goto (tgt := 50) dX4_readsRank_45 (by decide) ?_
        refine wp.locals (L' := [some (vR (some t)), some (vI l1), none, none]) (ls_s (ls_s (ls_n (ls_n ls_0)))) ?_
        exact w_X4_readsRank_50 he hgT hgK hk24 h hS_sa22 hT hG
    · refine t_ldcS hG dX4_readsRank_33 (List.mem_of_getElem? (i := 3) rfl) (fun sa23 hS_sa23 => ?_)
      refine r_goto (tgt := 50) dX4_readsRank_35 (by decide) ?_
      refine wp.locals (L' := [some (vR (some t)), some (vI l1), none, none]) (ls_s (ls_s (ls_n (ls_n ls_0)))) ?_
      exact w_X4_readsRank_50 he hgT hgK hk24 h hS_sa23 hT hG
def f_X4_readsRank_24 (T : Tw → (Bool → Tw → Prop) → Prop) (K : Int → Tw → (Bool → Tw → Prop) → Prop) (Q : Bool → Tw → Prop) : Nat → Int → Bool → Tw → Prop
  | 0, _, _, _ => False
  | fl + 1, l1, l2, w => f_X4_readsRank_24_b T K   (fun l1 l2 w => f_X4_readsRank_24 T K   Q fl l1 l2 w) l1 l2 w Q
theorem w_X4_readsRank_24 {t : Nat} {ad : Nat → Nat} {G0 : Wd} {T : Tw → (Bool → Tw → Prop) → Prop} {K : Int → Tw → (Bool → Tw → Prop) → Prop} {e : Nat} (he : 20 ≤ e) (hgT : ∀ {t : Nat} {ad : Nat → Nat} {G0 : Wd} {Q : Bool → Tw → Prop} {w : Tw} {G : Wd}, T w Q → TwAt t ad w (G 2) → (∀ r, r ≠ 2 → G r = G0 r) → call yX4_readsThing (Cond.code yX4_readsThing cX4_readsThing 2 (some .boolean)) e 0 0 [vR (some t)] G (twQ t ad G0 (uB Q)) noX) (hgK : ∀ {t : Nat} {ad : Nat → Nat} {G0 : Wd} {a1 : Int} {Q : Bool → Tw → Prop} {w : Tw} {G : Wd}, K a1 w Q → TwAt t ad w (G 2) → (∀ r, r ≠ 2 → G r = G0 r) → call yX4_readsRank (Cond.code yX4_readsRank cX4_readsRank 4 (some .boolean)) e 0 0 [vR (some t), vI a1] G (twQ t ad G0 (uB Q)) noX) {Q : Bool → Tw → Prop} : ∀ (fl : Nat) {l1 : Int} {l2 : Bool} {w : Tw} {G : Wd}, f_X4_readsRank_24 T K Q fl l1 l2 w → TwAt t ad w (G 2) → (∀ r, r ≠ 2 → G r = G0 r) → wp m_X4_readsRank (e + 1) 0 0 24 [some (vR (some t)), some (vI l1), some (vB l2), none] [] G (twQ t ad G0 (uB Q)) noX := by
  intro fl
  induction fl with
  | zero => intro l1 l2 w G h; exact (show False from h).elim
  | succ fl ih => intro l1 l2 w G h hT hG; exact w_X4_readsRank_24_b he hgT hgK   (fun h hT hG => ih h hT hG) h hT hG
def f_X4_readsRank_b (T : Tw → (Bool → Tw → Prop) → Prop) (K : Int → Tw → (Bool → Tw → Prop) → Prop) (a1 : Int) (w : Tw) (Q : Bool → Tw → Prop) : Prop :=
  br a1 3 (¬ a1 = (3 : Int)) (K (a1 + 1) w (fun x25 w24 => brB x25 (∃ fl26, f_X4_readsRank_24 T K Q fl26 a1 true w24) (Q false w24))) (T  w (fun x28 w27 => Q x28 w27))
theorem w_X4_readsRank_b {t : Nat} {ad : Nat → Nat} {G0 : Wd} {T : Tw → (Bool → Tw → Prop) → Prop} {K : Int → Tw → (Bool → Tw → Prop) → Prop} {e : Nat} (he : 20 ≤ e) (hgT : ∀ {t : Nat} {ad : Nat → Nat} {G0 : Wd} {Q : Bool → Tw → Prop} {w : Tw} {G : Wd}, T w Q → TwAt t ad w (G 2) → (∀ r, r ≠ 2 → G r = G0 r) → call yX4_readsThing (Cond.code yX4_readsThing cX4_readsThing 2 (some .boolean)) e 0 0 [vR (some t)] G (twQ t ad G0 (uB Q)) noX) (hgK : ∀ {t : Nat} {ad : Nat → Nat} {G0 : Wd} {a1 : Int} {Q : Bool → Tw → Prop} {w : Tw} {G : Wd}, K a1 w Q → TwAt t ad w (G 2) → (∀ r, r ≠ 2 → G r = G0 r) → call yX4_readsRank (Cond.code yX4_readsRank cX4_readsRank 4 (some .boolean)) e 0 0 [vR (some t), vI a1] G (twQ t ad G0 (uB Q)) noX) {Q : Bool → Tw → Prop} {a1 : Int} {w : Tw} {G : Wd} (h : f_X4_readsRank_b T K a1 w Q) (hT : TwAt t ad w (G 2)) (hG : ∀ r, r ≠ 2 → G r = G0 r) : wp m_X4_readsRank (e + 1) 0 0 0 [some (vR (some t)), some (vI a1), none, none] [] G (twQ t ad G0 (uB Q)) noX := by
  unfold f_X4_readsRank_b at h
  refine r_iload_n dX4_readsRank_0 rfl rfl iI ?_
  refine r_iconst dX4_readsRank_1 ?_
  refine r_icmp_ne (tgt := 10) dX4_readsRank_2 (by decide) h (fun h => ?_) (fun h => ?_)
  · refine r_aload_n dX4_readsRank_10 rfl rfl iR ?_
    refine r_iload_n dX4_readsRank_11 rfl rfl iI ?_
    refine r_iconst dX4_readsRank_12 ?_
    refine r_iadd dX4_readsRank_13 ?_
    refine r_callV dX4_readsRank_14 (tisC hT) (hgK h hT hG) q2150 q2152 qs42 q117 q2153 rfl yo_X4_readsRank rfl (by omega) (by decide) rfl rc0 (by decide) (Nat.le_refl _) (Nat.le_refl _) (tofB fun x25 w24 G h hT hG => ?_) nox
    refine r_ifZ_ne (tgt := 22) dX4_readsRank_17 (by decide) h (fun h => ?_) (fun h => ?_)
    · refine r_iconst dX4_readsRank_22 ?_
      refine r_istore_n (L' := [some (vR (some t)), some (vI a1), some (vI 1), none]) dX4_readsRank_23 rfl rfl iI cI (by decide) ?_
      refine wp.cast (L' := [some (vR (some t)), some (vI a1), some (vB true), none]) (congrArg (fun q => [some (vR (some t)), some (vI a1), some q, none]) vI1) rfl ?_
      obtain ⟨fl26, h⟩ := h
      exact w_X4_readsRank_24 he hgT hgK fl26 h hT hG
    · refine r_iconst dX4_readsRank_20 ?_
      refine wp.cast (st' := [vB false]) rfl (congrArg (fun q => [q]) vI0) ?_
      exact r_zret rfl dX4_readsRank_21 ⟨_, hT, hG, _, rfl, h⟩
  · refine r_aload_n dX4_readsRank_5 rfl rfl iR ?_
    refine r_callV dX4_readsRank_6 (tisC hT) (hgT h hT hG) q2154 q2156 qs43 q117 q2157 rfl yo_X4_readsThing rfl (by omega) (by decide) rfl rc0 (by decide) (Nat.le_refl _) (Nat.le_refl _) (tofB fun x28 w27 G h hT hG => ?_) nox
    exact r_zret rfl dX4_readsRank_9 ⟨_, hT, hG, _, rfl, h⟩
theorem c_X4_readsRank_b {T : Tw → (Bool → Tw → Prop) → Prop} {K : Int → Tw → (Bool → Tw → Prop) → Prop} {e : Nat} (he : 20 ≤ e) (hgT : ∀ {t : Nat} {ad : Nat → Nat} {G0 : Wd} {Q : Bool → Tw → Prop} {w : Tw} {G : Wd}, T w Q → TwAt t ad w (G 2) → (∀ r, r ≠ 2 → G r = G0 r) → call yX4_readsThing (Cond.code yX4_readsThing cX4_readsThing 2 (some .boolean)) e 0 0 [vR (some t)] G (twQ t ad G0 (uB Q)) noX) (hgK : ∀ {t : Nat} {ad : Nat → Nat} {G0 : Wd} {a1 : Int} {Q : Bool → Tw → Prop} {w : Tw} {G : Wd}, K a1 w Q → TwAt t ad w (G 2) → (∀ r, r ≠ 2 → G r = G0 r) → call yX4_readsRank (Cond.code yX4_readsRank cX4_readsRank 4 (some .boolean)) e 0 0 [vR (some t), vI a1] G (twQ t ad G0 (uB Q)) noX) {t : Nat} {ad : Nat → Nat} {G0 : Wd} {a1 : Int} {Q : Bool → Tw → Prop} {w : Tw} {G : Wd} (h : f_X4_readsRank_b T K a1 w Q) (hT : TwAt t ad w (G 2)) (hG : ∀ r, r ≠ 2 → G r = G0 r) : call yX4_readsRank (Cond.code yX4_readsRank cX4_readsRank 4 (some .boolean)) (e + 1) 0 0 [vR (some t), vI a1] G (twQ t ad G0 (uB Q)) noX :=
  call.enter (by decide +kernel) (la_1 c1R (la_1 c1I (la_nil rfl))) rfl (w_X4_readsRank_b he hgT hgK  h hT hG)
abbrev m_X4_takesSign : Mt := (yX4_takesSign.cls, cX4_takesSign, 3, some .boolean, [], yX4_takesSign.name)
theorem yo_X4_takesSign : yOK yX4_takesSign 1 := ⟨by decide +kernel, by decide +kernel, by decide +kernel⟩
def f_X4_takesSign_29 (s0 : Bool) (w : Tw) (Q : Bool → Tw → Prop) : Prop :=
  f_X4_flag s0 w (fun x5 w4 => tS w4 5 0 ((w 5 0) + x5) (fun w6 => Q s0 w6))
theorem w_X4_takesSign_29 {t : Nat} {ad : Nat → Nat} {G0 : Wd} {Q : Bool → Tw → Prop} {s0 : Bool} {w : Tw} {G : Wd} (h : f_X4_takesSign_29 s0 w Q) (hT : TwAt t ad w (G 2)) (hG : ∀ r, r ≠ 2 → G r = G0 r) : wp m_X4_takesSign 2 0 0 29 [some (vR (some t)), none, none] [vB s0] G (twQ t ad G0 (uB Q)) noX := by
  unfold f_X4_takesSign_29 at h
  refine r_istore_n (L' := [some (vR (some t)), none, some (vB s0)]) dX4_takesSign_29 rfl rfl iB cN (by decide) ?_
  refine r_aload_n dX4_takesSign_30 rfl rfl iR ?_
  refine r_dup dX4_takesSign_31 c1R ?_
  refine t_getI (j := 5) hT dX4_takesSign_32 (fg1 (f := 5) fX4 (by decide) q2226 rfl) rfl ?_
  refine r_iload_n dX4_takesSign_35 rfl rfl iB ?_
  refine r_callS dX4_takesSign_36 (c_X4_flag h hT hG) q2162 q2163 q117 q2164 yo_X4_flag rfl (by decide) (by decide) rfl (rc1 c1I (rc1 c1R rc0)) (by decide) (Nat.le_refl _) (Nat.le_refl _) (tofI fun x5 w4 G h hT hG => ?_) nox
  refine r_iadd dX4_takesSign_39 ?_
  refine t_put (j := 5) hT hG dX4_takesSign_40 (fp1 (f := 5) fX4 (by decide) q2226 rfl rfl rfl) tF5 (by decide) h (fun w6 G h hT hG => ?_)
  refine r_iload_n dX4_takesSign_43 rfl rfl iB ?_
  exact r_zret rfl dX4_takesSign_44 ⟨_, hT, hG, _, rfl, h⟩
def f_X4_takesSign_28 (w : Tw) (Q : Bool → Tw → Prop) : Prop :=
  f_X4_takesSign_29 false w Q
theorem w_X4_takesSign_28 {t : Nat} {ad : Nat → Nat} {G0 : Wd} {Q : Bool → Tw → Prop} {w : Tw} {G : Wd} (h : f_X4_takesSign_28 w Q) (hT : TwAt t ad w (G 2)) (hG : ∀ r, r ≠ 2 → G r = G0 r) : wp m_X4_takesSign 2 0 0 28 [some (vR (some t)), none, none] [] G (twQ t ad G0 (uB Q)) noX := by
  unfold f_X4_takesSign_28 at h
  refine r_iconst dX4_takesSign_28 ?_
  refine wp.cast (st' := [vB false]) rfl (congrArg (fun q => [q]) vI0) ?_
  exact w_X4_takesSign_29 h hT hG
def f_X4_takesSign (a1 : Int) (w : Tw) (Q : Bool → Tw → Prop) : Prop :=
  br (w 5 0) (w 6 0) ((w 6 0) ≤ (w 5 0)) (f_X4_takesSign_28 w Q) (rdA w 3 80 (w 5 0) (fun _ => br (w 3 (w 5 0)) a1 (¬ (w 3 (w 5 0)) = a1) (f_X4_takesSign_28 w Q) (f_X4_takesSign_29 true w Q)))
theorem w_X4_takesSign {t : Nat} {ad : Nat → Nat} {G0 : Wd} {Q : Bool → Tw → Prop} {a1 : Int} {w : Tw} {G : Wd} (h : f_X4_takesSign a1 w Q) (hT : TwAt t ad w (G 2)) (hG : ∀ r, r ≠ 2 → G r = G0 r) : wp m_X4_takesSign 2 0 0 0 [some (vR (some t)), some (vI a1), none] [] G (twQ t ad G0 (uB Q)) noX := by
  unfold f_X4_takesSign at h
  refine r_aload_n dX4_takesSign_0 rfl rfl iR ?_
  refine t_getI (j := 5) hT dX4_takesSign_1 (fg1 (f := 5) fX4 (by decide) q2226 rfl) rfl ?_
  refine r_aload_n dX4_takesSign_4 rfl rfl iR ?_
  refine t_getI (j := 6) hT dX4_takesSign_5 (fg1 (f := 6) fX4 (by decide) q2227 rfl) rfl ?_
  refine r_icmp_ge (tgt := 28) dX4_takesSign_8 (by decide) h (fun h => ?_) (fun h => ?_)
  · refine wp.locals (L' := [some (vR (some t)), none, none]) (ls_s (ls_n (ls_n ls_0))) ?_
    exact w_X4_takesSign_28 h hT hG
  · refine r_aload_n dX4_takesSign_11 rfl rfl iR ?_
    refine t_getA (j := 3) hT dX4_takesSign_12 (fg1 (f := 3) fX4 (by decide) q2224 rfl) rfl ?_
    refine r_aload_n dX4_takesSign_15 rfl rfl iR ?_
    refine t_getI (j := 5) hT dX4_takesSign_16 (fg1 (f := 5) fX4 (by decide) q2226 rfl) rfl ?_
    refine t_iald hT dX4_takesSign_19 tA3 (by decide) h (fun h => ?_)
    refine r_iload_n dX4_takesSign_20 rfl rfl iI ?_
    refine r_icmp_ne (tgt := 28) dX4_takesSign_21 (by decide) h (fun h => ?_) (fun h => ?_)
    · refine wp.locals (L' := [some (vR (some t)), none, none]) (ls_s (ls_n (ls_n ls_0))) ?_
      exact w_X4_takesSign_28 h hT hG
    · refine r_iconst dX4_takesSign_24 ?_
      refine r_goto (tgt := 29) dX4_takesSign_25 (by decide) ?_
      refine wp.cast (st' := [vB true]) rfl (congrArg (fun q => [q]) vI1) ?_
      refine wp.locals (L' := [some (vR (some t)), none, none]) (ls_s (ls_n (ls_n ls_0))) ?_
      exact w_X4_takesSign_29 h hT hG
theorem c_X4_takesSign {t : Nat} {ad : Nat → Nat} {G0 : Wd} {a1 : Int} {Q : Bool → Tw → Prop} {w : Tw} {G : Wd} (h : f_X4_takesSign a1 w Q) (hT : TwAt t ad w (G 2)) (hG : ∀ r, r ≠ 2 → G r = G0 r) : call yX4_takesSign (Cond.code yX4_takesSign cX4_takesSign 3 (some .boolean)) 2 0 0 [vR (some t), vI a1] G (twQ t ad G0 (uB Q)) noX :=
  call.enter (by decide +kernel) (la_1 c1R (la_1 c1I (la_nil rfl))) rfl (w_X4_takesSign  h hT hG)
abbrev m_X4_queues : Mt := (yX4_queues.cls, cX4_queues, 5, some .int, [], yX4_queues.name)
theorem yo_X4_queues : yOK yX4_queues 0 := ⟨by decide +kernel, by decide +kernel, by decide +kernel⟩
def f_X4_queues_50 (l1 : Int) (l2 : Int) (s0 : Int) (w : Tw) (Q : Int → Tw → Prop) : Prop :=
  br0 s0 (0 ≤ s0) (f_X4_takesSign 115 w (fun x23 w22 => br (w22 5 0) (w22 6 0) ((w22 6 0) ≤ (w22 5 0)) (br (w22 14 0) 5 (¬ (w22 14 0) = (5 : Int)) (wrA w22 16 5 (w22 14 0) l1 (fun w24 => wrA w24 17 5 (w24 14 0) l2 (fun w25 => wrA w25 18 5 (w25 14 0) s0 (fun w26 => f_X4_flag x23 w26 (fun x28 w27 => wrA w27 19 5 (w26 14 0) x28 (fun w29 => tS w29 14 0 ((w29 14 0) + 1) (fun w30 => tS w30 22 0 0 (fun w31 => tS w31 15 0 ((w31 15 0) + 1) (fun w32 => Q ((w32 14 0) - 1) w32))))))))) (Q (-100) w22)) (Q ((-1) - (w22 5 0)) w22))) (Q ((-1) - (w 5 0)) w)
theorem w_X4_queues_50 {t : Nat} {ad : Nat → Nat} {G0 : Wd} {Q : Int → Tw → Prop} {l1 : Int} {l2 : Int} {s0 : Int} {w : Tw} {G : Wd} (h : f_X4_queues_50 l1 l2 s0 w Q) (hT : TwAt t ad w (G 2)) (hG : ∀ r, r ≠ 2 → G r = G0 r) : wp m_X4_queues 9 0 0 50 [some (vR (some t)), some (vI l1), some (vI l2), none, none] [vI s0] G (twQ t ad G0 (uI Q)) noX := by
  unfold f_X4_queues_50 at h
  refine r_istore_n (L' := [some (vR (some t)), some (vI l1), some (vI l2), some (vI s0), none]) dX4_queues_50 rfl rfl iI cI (by decide) ?_
  refine r_iload_n dX4_queues_51 rfl rfl iI ?_
  refine r_if_ge (tgt := 62) dX4_queues_52 (by decide) h (fun h => ?_) (fun h => ?_)
  · refine r_aload_n dX4_queues_62 rfl rfl iR ?_
    refine r_bipush dX4_queues_63 (by decide) ?_
    refine r_callV dX4_queues_65 (tisC hT) (c_X4_takesSign h hT hG) q2158 q2160 qs44 q117 q2161 rfl yo_X4_takesSign rfl (by decide) (by decide) rfl rc0 (by decide) (Nat.le_refl _) (Nat.le_refl _) (tofB fun x23 w22 G h hT hG => ?_) nox
    refine r_istore (L' := [some (vR (some t)), some (vI l1), some (vI l2), some (vI s0), some (vB x23)]) dX4_queues_68 rfl iB cI (by decide) ?_
    refine r_aload_n dX4_queues_70 rfl rfl iR ?_
    refine t_getI (j := 5) hT dX4_queues_71 (fg1 (f := 5) fX4 (by decide) q2226 rfl) rfl ?_
    refine r_aload_n dX4_queues_74 rfl rfl iR ?_
    refine t_getI (j := 6) hT dX4_queues_75 (fg1 (f := 6) fX4 (by decide) q2227 rfl) rfl ?_
    refine r_icmp_ge (tgt := 88) dX4_queues_78 (by decide) h (fun h => ?_) (fun h => ?_)
    · refine r_aload_n dX4_queues_88 rfl rfl iR ?_
      refine t_getI (j := 14) hT dX4_queues_89 (fg1 (f := 14) fX4 (by decide) q2235 rfl) rfl ?_
      refine r_iconst dX4_queues_92 ?_
      refine r_icmp_ne (tgt := 99) dX4_queues_93 (by decide) h (fun h => ?_) (fun h => ?_)
      · refine r_aload_n dX4_queues_99 rfl rfl iR ?_
        refine t_getA (j := 16) hT dX4_queues_100 (fg1 (f := 16) fX4 (by decide) q2237 rfl) rfl ?_
        refine r_aload_n dX4_queues_103 rfl rfl iR ?_
        refine t_getI (j := 14) hT dX4_queues_104 (fg1 (f := 14) fX4 (by decide) q2235 rfl) rfl ?_
        refine r_iload_n dX4_queues_107 rfl rfl iI ?_
        refine t_iast hT hG dX4_queues_108 tA16 (by decide) h (fun w24 G h hT hG => ?_)
        refine r_aload_n dX4_queues_109 rfl rfl iR ?_
        refine t_getA (j := 17) hT dX4_queues_110 (fg1 (f := 17) fX4 (by decide) q2238 rfl) rfl ?_
        refine r_aload_n dX4_queues_113 rfl rfl iR ?_
        refine t_getI (j := 14) hT dX4_queues_114 (fg1 (f := 14) fX4 (by decide) q2235 rfl) rfl ?_
        refine r_iload_n dX4_queues_117 rfl rfl iI ?_
        refine t_iast hT hG dX4_queues_118 tA17 (by decide) h (fun w25 G h hT hG => ?_)
        refine r_aload_n dX4_queues_119 rfl rfl iR ?_
        refine t_getA (j := 18) hT dX4_queues_120 (fg1 (f := 18) fX4 (by decide) q2239 rfl) rfl ?_
        refine r_aload_n dX4_queues_123 rfl rfl iR ?_
        refine t_getI (j := 14) hT dX4_queues_124 (fg1 (f := 14) fX4 (by decide) q2235 rfl) rfl ?_
        refine r_iload_n dX4_queues_127 rfl rfl iI ?_
        refine t_iast hT hG dX4_queues_128 tA18 (by decide) h (fun w26 G h hT hG => ?_)
        refine r_aload_n dX4_queues_129 rfl rfl iR ?_
        refine t_getA (j := 19) hT dX4_queues_130 (fg1 (f := 19) fX4 (by decide) q2240 rfl) rfl ?_
        refine r_aload_n dX4_queues_133 rfl rfl iR ?_
        refine t_getI (j := 14) hT dX4_queues_134 (fg1 (f := 14) fX4 (by decide) q2235 rfl) rfl ?_
        refine r_iload dX4_queues_137 rfl iB ?_
        refine r_callS dX4_queues_139 (c_X4_flag h hT hG) q2162 q2163 q117 q2164 yo_X4_flag rfl (by decide) (by decide) rfl (rc1 c1I (rc1 c1R rc0)) (by decide) (Nat.le_refl _) (Nat.le_refl _) (tofI fun x28 w27 G h hT hG => ?_) nox
        refine t_iast hT hG dX4_queues_142 tA19 (by decide) h (fun w29 G h hT hG => ?_)
        refine r_aload_n dX4_queues_143 rfl rfl iR ?_
        refine r_dup dX4_queues_144 c1R ?_
        refine t_getI (j := 14) hT dX4_queues_145 (fg1 (f := 14) fX4 (by decide) q2235 rfl) rfl ?_
        refine r_iconst dX4_queues_148 ?_
        refine r_iadd dX4_queues_149 ?_
        refine t_put (j := 14) hT hG dX4_queues_150 (fp1 (f := 14) fX4 (by decide) q2235 rfl rfl rfl) tF14 (by decide) h (fun w30 G h hT hG => ?_)
        refine r_aload_n dX4_queues_153 rfl rfl iR ?_
        refine r_iconst dX4_queues_154 ?_
        refine t_put (j := 22) hT hG dX4_queues_155 (fp1 (f := 22) fX4 (by decide) q2243 rfl rfl rfl) tF22 (by decide) h (fun w31 G h hT hG => ?_)
        refine r_aload_n dX4_queues_158 rfl rfl iR ?_
        refine r_dup dX4_queues_159 c1R ?_
        refine t_getI (j := 15) hT dX4_queues_160 (fg1 (f := 15) fX4 (by decide) q2236 rfl) rfl ?_
        refine r_iconst dX4_queues_163 ?_
        refine r_iadd dX4_queues_164 ?_
        refine t_put (j := 15) hT hG dX4_queues_165 (fp1 (f := 15) fX4 (by decide) q2236 rfl rfl rfl) tF15 (by decide) h (fun w32 G h hT hG => ?_)
        refine r_aload_n dX4_queues_168 rfl rfl iR ?_
        refine t_getI (j := 14) hT dX4_queues_169 (fg1 (f := 14) fX4 (by decide) q2235 rfl) rfl ?_
        refine r_iconst dX4_queues_172 ?_
        refine r_isub dX4_queues_173 ?_
        exact r_iret rfl dX4_queues_174 ⟨_, hT, hG, _, rfl, h⟩
      · refine r_bipush dX4_queues_96 (by decide) ?_
        exact r_iret rfl dX4_queues_98 ⟨_, hT, hG, _, rfl, h⟩
    · refine r_iconst dX4_queues_81 ?_
      refine r_aload_n dX4_queues_82 rfl rfl iR ?_
      refine t_getI (j := 5) hT dX4_queues_83 (fg1 (f := 5) fX4 (by decide) q2226 rfl) rfl ?_
      refine r_isub dX4_queues_86 ?_
      exact r_iret rfl dX4_queues_87 ⟨_, hT, hG, _, rfl, h⟩
  · refine r_iconst dX4_queues_55 ?_
    refine r_aload_n dX4_queues_56 rfl rfl iR ?_
    refine t_getI (j := 5) hT dX4_queues_57 (fg1 (f := 5) fX4 (by decide) q2226 rfl) rfl ?_
    refine r_isub dX4_queues_60 ?_
    exact r_iret rfl dX4_queues_61 ⟨_, hT, hG, _, rfl, h⟩
def f_X4_queues_35 (l1 : Int) (s0 : Int) (w : Tw) (Q : Int → Tw → Prop) : Prop :=
  br0 s0 (0 ≤ s0) (f_X4_takesOf ([117, 104, 109, 108]) w (fun x35 w34 => f_X4_queues_50 l1 s0 x35 w34 Q)) (f_X4_queues_50 l1 s0 (-1) w Q)
theorem w_X4_queues_35 {t : Nat} {ad : Nat → Nat} {G0 : Wd} {Q : Int → Tw → Prop} {l1 : Int} {s0 : Int} {w : Tw} {G : Wd} (h : f_X4_queues_35 l1 s0 w Q) (hT : TwAt t ad w (G 2)) (hG : ∀ r, r ≠ 2 → G r = G0 r) : wp m_X4_queues 9 0 0 35 [some (vR (some t)), some (vI l1), none, none, none] [vI s0] G (twQ t ad G0 (uI Q)) noX := by
  unfold f_X4_queues_35 at h
  refine r_istore_n (L' := [some (vR (some t)), some (vI l1), some (vI s0), none, none]) dX4_queues_35 rfl rfl iI cI (by decide) ?_
  refine r_iload_n dX4_queues_36 rfl rfl iI ?_
  refine r_if_ge (tgt := 44) dX4_queues_37 (by decide) h (fun h => ?_) (fun h => ?_)
  · refine r_aload_n dX4_queues_44 rfl rfl iR ?_
    refine t_ldcS hG dX4_queues_45 (List.mem_of_getElem? (i := 6) rfl) (fun sa33 hS_sa33 => ?_)
    refine r_callV dX4_queues_47 (tisC hT) (c_X4_takesOf h hS_sa33 hT hG) q2180 q2182 qs48 q117 q2183 rfl yo_X4_takesOf rfl (by decide) (by decide) rfl rc0 (by decide) (Nat.le_refl _) (Nat.le_refl _) (tofI fun x35 w34 G h hT hG => ?_) nox
    exact w_X4_queues_50 h hT hG
  · refine r_iconst dX4_queues_40 ?_
    refine r_goto (tgt := 50) dX4_queues_41 (by decide) ?_
    exact w_X4_queues_50 h hT hG
def f_X4_queues (w : Tw) (Q : Int → Tw → Prop) : Prop :=
  tS w 0 0 0 (fun w36 => f_X4_begins 80 w36 (fun x38 w37 => f_X4_digitIn 2 8 w37 (fun x40 w39 => br0 x40 (0 ≤ x40) (f_X4_digitIn 2 8 w39 (fun x42 w41 => f_X4_queues_35 x40 x42 w41 Q)) (f_X4_queues_35 x40 (-1) w39 Q))))
theorem w_X4_queues {t : Nat} {ad : Nat → Nat} {G0 : Wd} {Q : Int → Tw → Prop} {w : Tw} {G : Wd} (h : f_X4_queues w Q) (hT : TwAt t ad w (G 2)) (hG : ∀ r, r ≠ 2 → G r = G0 r) : wp m_X4_queues 9 0 0 0 [some (vR (some t)), none, none, none, none] [] G (twQ t ad G0 (uI Q)) noX := by
  unfold f_X4_queues at h
  refine r_aload_n dX4_queues_0 rfl rfl iR ?_
  refine r_iconst dX4_queues_1 ?_
  refine t_put (j := 0) hT hG dX4_queues_2 (fp1 (f := 0) fX4 (by decide) q2221 rfl rfl rfl) tF0 (by decide) h (fun w36 G h hT hG => ?_)
  refine r_aload_n dX4_queues_5 rfl rfl iR ?_
  refine r_bipush dX4_queues_6 (by decide) ?_
  refine r_callV dX4_queues_8 (tisC hT) (c_X4_begins h hT hG) q2145 q2147 qs41 q117 q2148 rfl yo_X4_begins rfl (by decide) (by decide) rfl rc0 (by decide) (Nat.le_refl _) (Nat.le_refl _) (tofI fun x38 w37 G h hT hG => ?_) nox
  refine r_pop dX4_queues_11 c1I ?_
  refine r_aload_n dX4_queues_12 rfl rfl iR ?_
  refine r_iconst dX4_queues_13 ?_
  refine r_bipush dX4_queues_14 (by decide) ?_
  refine r_callV dX4_queues_16 (tisC hT) (c_X4_digitIn h hT hG) q2361 q2363 qs51 q117 q2364 rfl yo_X4_digitIn rfl (by decide) (by decide) rfl rc0 (by decide) (Nat.le_refl _) (Nat.le_refl _) (tofI fun x40 w39 G h hT hG => ?_) nox
  refine r_istore_n (L' := [some (vR (some t)), some (vI x40), none, none, none]) dX4_queues_19 rfl rfl iI cR (by decide) ?_
  refine r_iload_n dX4_queues_20 rfl rfl iI ?_
  refine r_if_ge (tgt := 28) dX4_queues_21 (by decide) h (fun h => ?_) (fun h => ?_)
  · refine r_aload_n dX4_queues_28 rfl rfl iR ?_
    refine r_iconst dX4_queues_29 ?_
    refine r_bipush dX4_queues_30 (by decide) ?_
    refine r_callV dX4_queues_32 (tisC hT) (c_X4_digitIn h hT hG) q2361 q2363 qs51 q117 q2364 rfl yo_X4_digitIn rfl (by decide) (by decide) rfl rc0 (by decide) (Nat.le_refl _) (Nat.le_refl _) (tofI fun x42 w41 G h hT hG => ?_) nox
    exact w_X4_queues_35 h hT hG
  · refine r_iconst dX4_queues_24 ?_
    refine r_goto (tgt := 35) dX4_queues_25 (by decide) ?_
    exact w_X4_queues_35 h hT hG
theorem c_X4_queues {t : Nat} {ad : Nat → Nat} {G0 : Wd} {Q : Int → Tw → Prop} {w : Tw} {G : Wd} (h : f_X4_queues w Q) (hT : TwAt t ad w (G 2)) (hG : ∀ r, r ≠ 2 → G r = G0 r) : call yX4_queues (Cond.code yX4_queues cX4_queues 5 (some .int)) 9 0 0 [vR (some t)] G (twQ t ad G0 (uI Q)) noX :=
  call.enter (by decide +kernel) (la_1 c1R (la_nil rfl)) rfl (w_X4_queues  h hT hG)
abbrev m_X4_queue : Mt := (yX4_queue.cls, cX4_queue, 3, some .int, [], yX4_queue.name)
theorem yo_X4_queue : yOK yX4_queue 2 := ⟨by decide +kernel, by decide +kernel, by decide +kernel⟩
def f_X4_queue_25 (w : Tw) (Q : Int → Tw → Prop) : Prop :=
  f_X4_refuse  w (fun x11 w10 => Q x11 w10)
theorem w_X4_queue_25 {t : Nat} {ad : Nat → Nat} {G0 : Wd} {Q : Int → Tw → Prop} {w : Tw} {G : Wd} (h : f_X4_queue_25 w Q) (hT : TwAt t ad w (G 2)) (hG : ∀ r, r ≠ 2 → G r = G0 r) : wp m_X4_queue 3 0 0 25 [some (vR (some t)), none, none] [] G (twQ t ad G0 (uI Q)) noX := by
  unfold f_X4_queue_25 at h
  refine r_aload_n dX4_queue_25 rfl rfl iR ?_
  refine r_callV dX4_queue_26 (tisC hT) (c_X4_refuse h hT hG) q2375 q2377 qs53 q117 q2378 rfl yo_X4_refuse rfl (by decide) (by decide) rfl rc0 (by decide) (Nat.le_refl _) (Nat.le_refl _) (tofI fun x11 w10 G h hT hG => ?_) nox
  exact r_iret rfl dX4_queue_29 ⟨_, hT, hG, _, rfl, h⟩
def f_X4_queue (a1 : Int) (a2 : Int) (w : Tw) (Q : Int → Tw → Prop) : Prop :=
  tS w 0 0 0 (fun w12 => f_X4_isQueue a1 w12 (fun x14 w13 => brB x14 (ok32 a2 (f_X4_in a2 0 12 w13 (fun x16 w15 => brB x16 (ok32 a2 (swc a2 0 (rdA w15 16 5 a1 (fun _ => Q (w15 16 a1) w15)) (swc a2 1 (rdA w15 17 5 a1 (fun _ => Q (w15 17 a1) w15)) (swc a2 2 (rdA w15 18 5 a1 (fun _ => Q (w15 18 a1) w15)) (swc a2 3 (rdA w15 19 5 a1 (fun _ => Q (w15 19 a1) w15)) (f_X4_of 20 a1 (a2 - 4) w15 (fun x18 w17 => Q x18 w17))))))) (f_X4_queue_25 w15 Q)))) (f_X4_queue_25 w13 Q)))
theorem w_X4_queue {t : Nat} {ad : Nat → Nat} {G0 : Wd} {Q : Int → Tw → Prop} {a1 : Int} {a2 : Int} {w : Tw} {G : Wd} (h : f_X4_queue a1 a2 w Q) (hT : TwAt t ad w (G 2)) (hG : ∀ r, r ≠ 2 → G r = G0 r) : wp m_X4_queue 3 0 0 0 [some (vR (some t)), some (vI a1), some (vI a2)] [] G (twQ t ad G0 (uI Q)) noX := by
  unfold f_X4_queue at h
  refine r_aload_n dX4_queue_0 rfl rfl iR ?_
  refine r_iconst dX4_queue_1 ?_
  refine t_put (j := 0) hT hG dX4_queue_2 (fp1 (f := 0) fX4 (by decide) q2221 rfl rfl rfl) tF0 (by decide) h (fun w12 G h hT hG => ?_)
  refine r_aload_n dX4_queue_5 rfl rfl iR ?_
  refine r_iload_n dX4_queue_6 rfl rfl iI ?_
  refine r_callV dX4_queue_7 (tisC hT) (c_X4_isQueue h hT hG) q2370 q2372 qs52 q117 q2373 rfl yo_X4_isQueue rfl (by decide) (by decide) rfl rc0 (by decide) (Nat.le_refl _) (Nat.le_refl _) (tofB fun x14 w13 G h hT hG => ?_) nox
  refine r_ifZ_eq (tgt := 25) dX4_queue_10 (by decide) h (fun h => ?_) (fun h => ?_)
  · refine wp.locals (L' := [some (vR (some t)), none, none]) (ls_s (ls_n (ls_n ls_0))) ?_
    exact w_X4_queue_25 h hT hG
  · refine r_iload_n dX4_queue_13 rfl rfl iI ?_
    refine r_i2l dX4_queue_14 h (fun h => ?_)
    refine r_lconst (y := 0) dX4_queue_15 (by decide) ?_
    refine r_ldc2 (x := 12) dX4_queue_16 q2374 (by decide) ?_
    refine r_callS dX4_queue_19 (c_X4_in h hT hG) q2133 q2134 q117 q2135 yo_X4_in rfl (by decide) (by decide) rfl rc0 (by decide) (Nat.le_refl _) (Nat.le_refl _) (tofB fun x16 w15 G h hT hG => ?_) nox
    refine r_ifZ_ne (tgt := 30) dX4_queue_22 (by decide) h (fun h => ?_) (fun h => ?_)
    · refine r_iload_n dX4_queue_30 rfl rfl iI ?_
      obtain ⟨hr, h⟩ := h
      refine r_swc h (fun e0 h => ?_) (fun e0 h => ?_)
      · refine r_tsIn (tgt := 60) dX4_queue_31 hr e0 (by decide) (by decide) rfl (by decide) ?_
        refine r_aload_n dX4_queue_60 rfl rfl iR ?_
        refine t_getA (j := 16) hT dX4_queue_61 (fg1 (f := 16) fX4 (by decide) q2237 rfl) rfl ?_
        refine r_iload_n dX4_queue_64 rfl rfl iI ?_
        refine t_iald hT dX4_queue_65 tA16 (by decide) h (fun h => ?_)
        exact r_iret rfl dX4_queue_66 ⟨_, hT, hG, _, rfl, h⟩
      · refine r_swc h (fun e1 h => ?_) (fun e1 h => ?_)
        · refine r_tsIn (tgt := 67) dX4_queue_31 hr e1 (by decide) (by decide) rfl (by decide) ?_
          refine r_aload_n dX4_queue_67 rfl rfl iR ?_
          refine t_getA (j := 17) hT dX4_queue_68 (fg1 (f := 17) fX4 (by decide) q2238 rfl) rfl ?_
          refine r_iload_n dX4_queue_71 rfl rfl iI ?_
          refine t_iald hT dX4_queue_72 tA17 (by decide) h (fun h => ?_)
          exact r_iret rfl dX4_queue_73 ⟨_, hT, hG, _, rfl, h⟩
        · refine r_swc h (fun e2 h => ?_) (fun e2 h => ?_)
          · refine r_tsIn (tgt := 74) dX4_queue_31 hr e2 (by decide) (by decide) rfl (by decide) ?_
            refine r_aload_n dX4_queue_74 rfl rfl iR ?_
            refine t_getA (j := 18) hT dX4_queue_75 (fg1 (f := 18) fX4 (by decide) q2239 rfl) rfl ?_
            refine r_iload_n dX4_queue_78 rfl rfl iI ?_
            refine t_iald hT dX4_queue_79 tA18 (by decide) h (fun h => ?_)
            exact r_iret rfl dX4_queue_80 ⟨_, hT, hG, _, rfl, h⟩
          · refine r_swc h (fun e3 h => ?_) (fun e3 h => ?_)
            · refine r_tsIn (tgt := 81) dX4_queue_31 hr e3 (by decide) (by decide) rfl (by decide) ?_
              refine r_aload_n dX4_queue_81 rfl rfl iR ?_
              refine t_getA (j := 19) hT dX4_queue_82 (fg1 (f := 19) fX4 (by decide) q2240 rfl) rfl ?_
              refine r_iload_n dX4_queue_85 rfl rfl iI ?_
              refine t_iald hT dX4_queue_86 tA19 (by decide) h (fun h => ?_)
              exact r_iret rfl dX4_queue_87 ⟨_, hT, hG, _, rfl, h⟩
            · refine r_tsOut (tgt := 88) dX4_queue_31 hr (by omega) (by decide) ?_
              refine r_aload_n dX4_queue_88 rfl rfl iR ?_
              refine t_getA (j := 20) hT dX4_queue_89 (fg1 (f := 20) fX4 (by decide) q2241 rfl) rfl ?_
              refine r_iload_n dX4_queue_92 rfl rfl iI ?_
              refine r_iload_n dX4_queue_93 rfl rfl iI ?_
              refine r_iconst dX4_queue_94 ?_
              refine r_isub dX4_queue_95 ?_
              refine r_callS dX4_queue_96 (c_X4_of tA20 h hT hG) q2379 q2380 q117 q2381 yo_X4_of rfl (by decide) (by decide) rfl rc0 (by decide) (Nat.le_refl _) (Nat.le_refl _) (tofI fun x18 w17 G h hT hG => ?_) nox
              exact r_iret rfl dX4_queue_99 ⟨_, hT, hG, _, rfl, h⟩
    · refine wp.locals (L' := [some (vR (some t)), none, none]) (ls_s (ls_n (ls_n ls_0))) ?_
      exact w_X4_queue_25 h hT hG
theorem c_X4_queue {t : Nat} {ad : Nat → Nat} {G0 : Wd} {a1 : Int} {a2 : Int} {Q : Int → Tw → Prop} {w : Tw} {G : Wd} (h : f_X4_queue a1 a2 w Q) (hT : TwAt t ad w (G 2)) (hG : ∀ r, r ≠ 2 → G r = G0 r) : call yX4_queue (Cond.code yX4_queue cX4_queue 3 (some .int)) 3 0 0 [vR (some t), vI a1, vI a2] G (twQ t ad G0 (uI Q)) noX :=
  call.enter (by decide +kernel) (la_1 c1R (la_1 c1I (la_1 c1I (la_nil rfl)))) rfl (w_X4_queue  h hT hG)
abbrev m_X4_sheet : Mt := (yX4_sheet.cls, cX4_sheet, 8, some .int, [], yX4_sheet.name)
theorem yo_X4_sheet : yOK yX4_sheet 4 := ⟨by decide +kernel, by decide +kernel, by decide +kernel⟩
def f_X4_sheet_111 (k43 : Int → Int → Int → Int → Int → Tw → Prop) (l1 : Int) (l2 : Int) (l4 : Int) (l5 : Int) (l6 : Int) (s1 : Int) (s2 : Int) (w : Tw) (Q : Int → Tw → Prop) : Prop :=
  wrA w 20 844 s1 s2 (fun w10 => k43 l1 l2 l4 (wr (l5 + l4)) (l6 + 1) w10)
theorem w_X4_sheet_111 {t : Nat} {ad : Nat → Nat} {G0 : Wd} {Q : Int → Tw → Prop} {k43 : Int → Int → Int → Int → Int → Tw → Prop} (hk43 : ∀ {l1 : Int} {l2 : Int} {l4 : Int} {l5 : Int} {l6 : Int} {w : Tw} {G : Wd}, k43 l1 l2 l4 l5 l6 w → TwAt t ad w (G 2) → (∀ r, r ≠ 2 → G r = G0 r) → wp m_X4_sheet 2 0 0 43 [some (vR (some t)), some (vI l1), some (vI l2), none, some (vI l4), some (vI l5), some (vI l6), none] [] G (twQ t ad G0 (uI Q)) noX) {l1 : Int} {l2 : Int} {l4 : Int} {l5 : Int} {l6 : Int} {s1 : Int} {s2 : Int} {w : Tw} {G : Wd} (h : f_X4_sheet_111 k43 l1 l2 l4 l5 l6 s1 s2 w Q) (hT : TwAt t ad w (G 2)) (hG : ∀ r, r ≠ 2 → G r = G0 r) : wp m_X4_sheet 2 0 0 111 [some (vR (some t)), some (vI l1), some (vI l2), none, some (vI l4), some (vI l5), some (vI l6), none] [vI s2, vI s1, vR (some (ad 20))] G (twQ t ad G0 (uI Q)) noX := by
  unfold f_X4_sheet_111 at h
  refine t_iast hT hG dX4_sheet_111 tA20 (by decide) h (fun w10 G h hT hG => ?_)
  refine r_iload dX4_sheet_112 rfl iI ?_
  refine r_iload dX4_sheet_114 rfl iI ?_
  refine r_iaddW dX4_sheet_116 ?_
  refine r_istore (L' := [some (vR (some t)), some (vI l1), some (vI l2), none, some (vI l4), some (vI (wr (l5 + l4))), some (vI l6), none]) dX4_sheet_117 rfl iI cI (by decide) ?_
  refine r_iinc (L' := [some (vR (some t)), some (vI l1), some (vI l2), none, some (vI l4), some (vI (wr (l5 + l4))), some (vI (l6 + 1)), none]) dX4_sheet_119 rfl rfl cI (by decide) ?_
  refine r_goto (tgt := 43) dX4_sheet_122 (by decide) ?_
  exact hk43 h hT hG
def f_X4_sheet_96 (k43 : Int → Int → Int → Int → Int → Tw → Prop) (l1 : Int) (l2 : Int) (l4 : Int) (l5 : Int) (l6 : Int) (s1 : Int) (w : Tw) (Q : Int → Tw → Prop) : Prop :=
  f_X4_sheet_111 k43 l1 l2 l4 l5 l6 s1 0 w Q
theorem w_X4_sheet_96 {t : Nat} {ad : Nat → Nat} {G0 : Wd} {Q : Int → Tw → Prop} {k43 : Int → Int → Int → Int → Int → Tw → Prop} (hk43 : ∀ {l1 : Int} {l2 : Int} {l4 : Int} {l5 : Int} {l6 : Int} {w : Tw} {G : Wd}, k43 l1 l2 l4 l5 l6 w → TwAt t ad w (G 2) → (∀ r, r ≠ 2 → G r = G0 r) → wp m_X4_sheet 2 0 0 43 [some (vR (some t)), some (vI l1), some (vI l2), none, some (vI l4), some (vI l5), some (vI l6), none] [] G (twQ t ad G0 (uI Q)) noX) {l1 : Int} {l2 : Int} {l4 : Int} {l5 : Int} {l6 : Int} {s1 : Int} {w : Tw} {G : Wd} (h : f_X4_sheet_96 k43 l1 l2 l4 l5 l6 s1 w Q) (hT : TwAt t ad w (G 2)) (hG : ∀ r, r ≠ 2 → G r = G0 r) : wp m_X4_sheet 2 0 0 96 [some (vR (some t)), some (vI l1), some (vI l2), none, some (vI l4), some (vI l5), some (vI l6), none] [vI s1, vR (some (ad 20))] G (twQ t ad G0 (uI Q)) noX := by
  unfold f_X4_sheet_96 at h
  refine r_iconst dX4_sheet_96 ?_
  refine r_goto (tgt := 111) dX4_sheet_97 (by decide) ?_
  exact w_X4_sheet_111 hk43 h hT hG
def f_X4_sheet_73 (k43 : Int → Int → Int → Int → Int → Tw → Prop) (l1 : Int) (l2 : Int) (l4 : Int) (l5 : Int) (l6 : Int) (s0 : Int) (w : Tw) (Q : Int → Tw → Prop) : Prop :=
  br l1 3 (l1 = (3 : Int)) (f_X4_sheet_96 k43 l1 l2 l4 l5 l6 (wr (828 + l6)) w Q) (br l6 l2 (l6 < l2) (((R32 99 ∧ R32 s0) ∧ ((R32 0 ∧ R32 (min 99 s0)) ∧ f_X4_sheet_111 k43 l1 l2 l4 l5 l6 (wr (828 + l6)) (max 0 (min 99 s0)) w Q))) (f_X4_sheet_96 k43 l1 l2 l4 l5 l6 (wr (828 + l6)) w Q))
theorem w_X4_sheet_73 {t : Nat} {ad : Nat → Nat} {G0 : Wd} {Q : Int → Tw → Prop} {k43 : Int → Int → Int → Int → Int → Tw → Prop} (hk43 : ∀ {l1 : Int} {l2 : Int} {l4 : Int} {l5 : Int} {l6 : Int} {w : Tw} {G : Wd}, k43 l1 l2 l4 l5 l6 w → TwAt t ad w (G 2) → (∀ r, r ≠ 2 → G r = G0 r) → wp m_X4_sheet 2 0 0 43 [some (vR (some t)), some (vI l1), some (vI l2), none, some (vI l4), some (vI l5), some (vI l6), none] [] G (twQ t ad G0 (uI Q)) noX) {l1 : Int} {l2 : Int} {l4 : Int} {l5 : Int} {l6 : Int} {s0 : Int} {w : Tw} {G : Wd} (h : f_X4_sheet_73 k43 l1 l2 l4 l5 l6 s0 w Q) (hT : TwAt t ad w (G 2)) (hG : ∀ r, r ≠ 2 → G r = G0 r) : wp m_X4_sheet 2 0 0 73 [some (vR (some t)), some (vI l1), some (vI l2), none, some (vI l4), some (vI l5), some (vI l6), none] [vI s0] G (twQ t ad G0 (uI Q)) noX := by
  unfold f_X4_sheet_73 at h
  refine r_istore (L' := [some (vR (some t)), some (vI l1), some (vI l2), none, some (vI l4), some (vI l5), some (vI l6), some (vI s0)]) dX4_sheet_73 rfl iI cI (by decide) ?_
  refine r_aload_n dX4_sheet_75 rfl rfl iR ?_
  refine t_getA (j := 20) hT dX4_sheet_76 (fg1 (f := 20) fX4 (by decide) q2241 rfl) rfl ?_
  refine r_sipush dX4_sheet_79 (by decide) ?_
  refine r_iload dX4_sheet_82 rfl iI ?_
  refine r_iaddW dX4_sheet_84 ?_
  refine r_iload_n dX4_sheet_85 rfl rfl iI ?_
  refine r_iconst dX4_sheet_86 ?_
  refine r_icmp_eq (tgt := 96) dX4_sheet_87 (by decide) h (fun h => ?_) (fun h => ?_)
  · refine wp.locals (L' := [some (vR (some t)), some (vI l1), some (vI l2), none, some (vI l4), some (vI l5), some (vI l6), none]) (ls_s (ls_s (ls_s (ls_n (ls_s (ls_s (ls_s (ls_n ls_0)))))))) ?_
    exact w_X4_sheet_96 hk43 h hT hG
  · refine r_iload dX4_sheet_90 rfl iI ?_
    refine r_iload_n dX4_sheet_92 rfl rfl iI ?_
    refine r_icmp_lt (tgt := 100) dX4_sheet_93 (by decide) h (fun h => ?_) (fun h => ?_)
    · refine r_iconst dX4_sheet_100 ?_
      refine r_bipush dX4_sheet_101 (by decide) ?_
      refine r_iload dX4_sheet_103 rfl iI ?_
      refine r_mmin dX4_sheet_105 q2149 (rc1 c1I (rc1 c1I (rc1 c1R rc0))) (by decide) (by decide) h (fun h => ?_)
      refine r_mmax dX4_sheet_108 q2387 (rc1 c1I (rc1 c1R rc0)) (by decide) (by decide) h (fun h => ?_)
      refine wp.locals (L' := [some (vR (some t)), some (vI l1), some (vI l2), none, some (vI l4), some (vI l5), some (vI l6), none]) (ls_s (ls_s (ls_s (ls_n (ls_s (ls_s (ls_s (ls_n ls_0)))))))) ?_
      exact w_X4_sheet_111 hk43 h hT hG
    · refine wp.locals (L' := [some (vR (some t)), some (vI l1), some (vI l2), none, some (vI l4), some (vI l5), some (vI l6), none]) (ls_s (ls_s (ls_s (ls_n (ls_s (ls_s (ls_s (ls_n ls_0)))))))) ?_
      exact w_X4_sheet_96 hk43 h hT hG
def f_X4_sheet_43_b (k43 : Int → Int → Int → Int → Int → Tw → Prop) (l1 : Int) (l2 : Int) (l4 : Int) (l5 : Int) (l6 : Int) (w : Tw) (Q : Int → Tw → Prop) : Prop :=
  br l6 10 ((10 : Int) ≤ l6) (br l1 3 (¬ l1 = (3 : Int)) (f_X4_blocksOf 20 w (fun x12 w11 => Q x12 w11)) (Q (-3) w)) (br0 l1 (¬ l1 = 0) (br l1 1 (¬ l1 = (1 : Int)) (f_X4_sheet_73 k43 l1 l2 l4 l5 l6 l5 w Q) (f_X4_sheet_73 k43 l1 l2 l4 l5 l6 (l5.bmod 65536) w Q)) (f_X4_sheet_73 k43 l1 l2 l4 l5 l6 (l5.bmod 256) w Q))
theorem w_X4_sheet_43_b {t : Nat} {ad : Nat → Nat} {G0 : Wd} {Q : Int → Tw → Prop} {k43 : Int → Int → Int → Int → Int → Tw → Prop} (hk43 : ∀ {l1 : Int} {l2 : Int} {l4 : Int} {l5 : Int} {l6 : Int} {w : Tw} {G : Wd}, k43 l1 l2 l4 l5 l6 w → TwAt t ad w (G 2) → (∀ r, r ≠ 2 → G r = G0 r) → wp m_X4_sheet 2 0 0 43 [some (vR (some t)), some (vI l1), some (vI l2), none, some (vI l4), some (vI l5), some (vI l6), none] [] G (twQ t ad G0 (uI Q)) noX) {l1 : Int} {l2 : Int} {l4 : Int} {l5 : Int} {l6 : Int} {w : Tw} {G : Wd} (h : f_X4_sheet_43_b k43 l1 l2 l4 l5 l6 w Q) (hT : TwAt t ad w (G 2)) (hG : ∀ r, r ≠ 2 → G r = G0 r) : wp m_X4_sheet 2 0 0 43 [some (vR (some t)), some (vI l1), some (vI l2), none, some (vI l4), some (vI l5), some (vI l6), none] [] G (twQ t ad G0 (uI Q)) noX := by
  unfold f_X4_sheet_43_b at h
  refine r_iload dX4_sheet_43 rfl iI ?_
  refine r_bipush dX4_sheet_45 (by decide) ?_
  refine r_icmp_ge (tgt := 125) dX4_sheet_47 (by decide) h (fun h => ?_) (fun h => ?_)
  · refine r_iload_n dX4_sheet_125 rfl rfl iI ?_
    refine r_iconst dX4_sheet_126 ?_
    refine r_icmp_ne (tgt := 135) dX4_sheet_127 (by decide) h (fun h => ?_) (fun h => ?_)
    · refine r_aload_n dX4_sheet_135 rfl rfl iR ?_
      refine t_getA (j := 20) hT dX4_sheet_136 (fg1 (f := 20) fX4 (by decide) q2241 rfl) rfl ?_
      refine r_callS dX4_sheet_139 (c_X4_blocksOf tA20 h hT hG) q2388 q2389 q117 q2390 yo_X4_blocksOf rfl (by decide) (by decide) rfl rc0 (by decide) (Nat.le_refl _) (Nat.le_refl _) (tofI fun x12 w11 G h hT hG => ?_) nox
      exact r_iret rfl dX4_sheet_142 ⟨_, hT, hG, _, rfl, h⟩
    · refine r_bipush dX4_sheet_130 (by decide) ?_
      refine r_goto (tgt := 142) dX4_sheet_132 (by decide) ?_
      exact r_iret rfl dX4_sheet_142 ⟨_, hT, hG, _, rfl, h⟩
  · refine r_iload_n dX4_sheet_50 rfl rfl iI ?_
    refine r_if_ne (tgt := 60) dX4_sheet_51 (by decide) h (fun h => ?_) (fun h => ?_)
    · refine r_iload_n dX4_sheet_60 rfl rfl iI ?_
      refine r_iconst dX4_sheet_61 ?_
      refine r_icmp_ne (tgt := 71) dX4_sheet_62 (by decide) h (fun h => ?_) (fun h => ?_)
      · refine r_iload dX4_sheet_71 rfl iI ?_
        exact w_X4_sheet_73 hk43 h hT hG
      · refine r_iload dX4_sheet_65 rfl iI ?_
        refine r_i2s dX4_sheet_67 ?_
        refine r_goto (tgt := 73) dX4_sheet_68 (by decide) ?_
        exact w_X4_sheet_73 hk43 h hT hG
    · refine r_iload dX4_sheet_54 rfl iI ?_
      refine r_i2b dX4_sheet_56 ?_
      refine r_goto (tgt := 73) dX4_sheet_57 (by decide) ?_
      exact w_X4_sheet_73 hk43 h hT hG
def f_X4_sheet_43 (Q : Int → Tw → Prop) : Nat → Int → Int → Int → Int → Int → Tw → Prop
  | 0, _, _, _, _, _, _ => False
  | fl + 1, l1, l2, l4, l5, l6, w => f_X4_sheet_43_b    (fun l1 l2 l4 l5 l6 w => f_X4_sheet_43    Q fl l1 l2 l4 l5 l6 w) l1 l2 l4 l5 l6 w Q
theorem w_X4_sheet_43 {t : Nat} {ad : Nat → Nat} {G0 : Wd} {Q : Int → Tw → Prop} : ∀ (fl : Nat) {l1 : Int} {l2 : Int} {l4 : Int} {l5 : Int} {l6 : Int} {w : Tw} {G : Wd}, f_X4_sheet_43 Q fl l1 l2 l4 l5 l6 w → TwAt t ad w (G 2) → (∀ r, r ≠ 2 → G r = G0 r) → wp m_X4_sheet 2 0 0 43 [some (vR (some t)), some (vI l1), some (vI l2), none, some (vI l4), some (vI l5), some (vI l6), none] [] G (twQ t ad G0 (uI Q)) noX := by
  intro fl
  induction fl with
  | zero => intro l1 l2 l4 l5 l6 w G h; exact (show False from h).elim
  | succ fl ih => intro l1 l2 l4 l5 l6 w G h hT hG; exact w_X4_sheet_43_b   (fun h hT hG => ih h hT hG) h hT hG
def f_X4_sheet_37 (l1 : Int) (l2 : Int) (l3 : Int) (l4 : Int) (w : Tw) (Q : Int → Tw → Prop) : Prop :=
  ∃ fl13, f_X4_sheet_43 Q fl13 l1 l2 l4 l3 0 w
theorem w_X4_sheet_37 {t : Nat} {ad : Nat → Nat} {G0 : Wd} {Q : Int → Tw → Prop} {l1 : Int} {l2 : Int} {l3 : Int} {l4 : Int} {w : Tw} {G : Wd} (h : f_X4_sheet_37 l1 l2 l3 l4 w Q) (hT : TwAt t ad w (G 2)) (hG : ∀ r, r ≠ 2 → G r = G0 r) : wp m_X4_sheet 2 0 0 37 [some (vR (some t)), some (vI l1), some (vI l2), some (vI l3), some (vI l4), none, none, none] [] G (twQ t ad G0 (uI Q)) noX := by
  unfold f_X4_sheet_37 at h
  refine r_iload_n dX4_sheet_37 rfl rfl iI ?_
  refine r_istore (L' := [some (vR (some t)), some (vI l1), some (vI l2), some (vI l3), some (vI l4), some (vI l3), none, none]) dX4_sheet_38 rfl iI cI (by decide) ?_
  refine r_iconst dX4_sheet_40 ?_
  refine r_istore (L' := [some (vR (some t)), some (vI l1), some (vI l2), some (vI l3), some (vI l4), some (vI l3), some (vI 0), none]) dX4_sheet_41 rfl iI cI (by decide) ?_
  refine wp.locals (L' := [some (vR (some t)), some (vI l1), some (vI l2), none, some (vI l4), some (vI l3), some (vI 0), none]) (ls_s (ls_s (ls_s (ls_n (ls_s (ls_s (ls_s (ls_n ls_0)))))))) ?_
  obtain ⟨fl13, h⟩ := h
  exact w_X4_sheet_43 fl13 h hT hG
def f_X4_sheet (a1 : Int) (a2 : Int) (a3 : Int) (a4 : Int) (w : Tw) (Q : Int → Tw → Prop) : Prop :=
  tS w 0 0 0 (fun w14 => ok32 a1 (f_X4_in a1 0 3 w14 (fun x16 w15 => brB x16 (br a2 10 (a2 ≤ (10 : Int)) (br a1 3 (a1 = (3 : Int)) (f_X4_sheet_37 a1 a2 a3 a4 w15 Q) (br0 a2 (0 ≤ a2) (f_X4_sheet_37 a1 a2 a3 a4 w15 Q) (Q (-2) w15))) (Q (-1) w15)) (Q (-1) w15))))
theorem w_X4_sheet {t : Nat} {ad : Nat → Nat} {G0 : Wd} {Q : Int → Tw → Prop} {a1 : Int} {a2 : Int} {a3 : Int} {a4 : Int} {w : Tw} {G : Wd} (h : f_X4_sheet a1 a2 a3 a4 w Q) (hT : TwAt t ad w (G 2)) (hG : ∀ r, r ≠ 2 → G r = G0 r) : wp m_X4_sheet 2 0 0 0 [some (vR (some t)), some (vI a1), some (vI a2), some (vI a3), some (vI a4), none, none, none] [] G (twQ t ad G0 (uI Q)) noX := by
  unfold f_X4_sheet at h
  refine r_aload_n dX4_sheet_0 rfl rfl iR ?_
  refine r_iconst dX4_sheet_1 ?_
  refine t_put (j := 0) hT hG dX4_sheet_2 (fp1 (f := 0) fX4 (by decide) q2221 rfl rfl rfl) tF0 (by decide) h (fun w14 G h hT hG => ?_)
  refine r_iload_n dX4_sheet_5 rfl rfl iI ?_
  refine r_i2l dX4_sheet_6 h (fun h => ?_)
  refine r_lconst (y := 0) dX4_sheet_7 (by decide) ?_
  refine r_ldc2 (x := 3) dX4_sheet_8 q2386 (by decide) ?_
  refine r_callS dX4_sheet_11 (c_X4_in h hT hG) q2133 q2134 q117 q2135 yo_X4_in rfl (by decide) (by decide) rfl rc0 (by decide) (Nat.le_refl _) (Nat.le_refl _) (tofB fun x16 w15 G h hT hG => ?_) nox
  refine r_ifZ_eq (tgt := 23) dX4_sheet_14 (by decide) h (fun h => ?_) (fun h => ?_)
  · refine r_iconst dX4_sheet_23 ?_
    exact r_iret rfl dX4_sheet_24 ⟨_, hT, hG, _, rfl, h⟩
  · refine r_iload_n dX4_sheet_17 rfl rfl iI ?_
    refine r_bipush dX4_sheet_18 (by decide) ?_
    refine r_icmp_le (tgt := 25) dX4_sheet_20 (by decide) h (fun h => ?_) (fun h => ?_)
    · refine r_iload_n dX4_sheet_25 rfl rfl iI ?_
      refine r_iconst dX4_sheet_26 ?_
      refine r_icmp_eq (tgt := 37) dX4_sheet_27 (by decide) h (fun h => ?_) (fun h => ?_)
      · exact w_X4_sheet_37 h hT hG
      · refine r_iload_n dX4_sheet_30 rfl rfl iI ?_
        refine r_if_ge (tgt := 37) dX4_sheet_31 (by decide) h (fun h => ?_) (fun h => ?_)
        · exact w_X4_sheet_37 h hT hG
        · refine r_bipush dX4_sheet_34 (by decide) ?_
          exact r_iret rfl dX4_sheet_36 ⟨_, hT, hG, _, rfl, h⟩
    · refine r_iconst dX4_sheet_23 ?_
      exact r_iret rfl dX4_sheet_24 ⟨_, hT, hG, _, rfl, h⟩
theorem c_X4_sheet {t : Nat} {ad : Nat → Nat} {G0 : Wd} {a1 : Int} {a2 : Int} {a3 : Int} {a4 : Int} {Q : Int → Tw → Prop} {w : Tw} {G : Wd} (h : f_X4_sheet a1 a2 a3 a4 w Q) (hT : TwAt t ad w (G 2)) (hG : ∀ r, r ≠ 2 → G r = G0 r) : call yX4_sheet (Cond.code yX4_sheet cX4_sheet 8 (some .int)) 2 0 0 [vR (some t), vI a1, vI a2, vI a3, vI a4] G (twQ t ad G0 (uI Q)) noX :=
  call.enter (by decide +kernel) (la_1 c1R (la_1 c1I (la_1 c1I (la_1 c1I (la_1 c1I (la_nil rfl)))))) rfl (w_X4_sheet  h hT hG)
abbrev m_X4_ringOf : Mt := (yX4_ringOf.cls, cX4_ringOf, 4, some .int, [], yX4_ringOf.name)
theorem yo_X4_ringOf : yOK yX4_ringOf 3 := ⟨by decide +kernel, by decide +kernel, by decide +kernel⟩
def f_X4_ringOf_7_b (a0 : Nat) (k7 : Int → Int → Int → Tw → Prop) (l1 : Int) (l2 : Int) (l3 : Int) (w : Tw) (Q : Int → Tw → Prop) : Prop :=
  f_X4_of a0 l1 0 w (fun x10 w9 => br l3 x10 (x10 ≤ l3) (Q (-1) w9) (f_X4_ringAt l1 l3 w9 (fun x12 w11 => rdA w11 a0 844 (x12 + 0) (fun _ => br (w11 a0 (x12 + 0)) l2 (¬ (w11 a0 (x12 + 0)) = l2) (k7 l1 l2 (l3 + 1) w11) (f_X4_of a0 l1 3 w11 (fun x14 w13 => Q (l3 - x14) w13))))))
theorem w_X4_ringOf_7_b {t : Nat} {ad : Nat → Nat} {G0 : Wd} {a0 : Nat} (hA_a0 : (a0, 0, 844) ∈ twA) {Q : Int → Tw → Prop} {k7 : Int → Int → Int → Tw → Prop} (hk7 : ∀ {l1 : Int} {l2 : Int} {l3 : Int} {w : Tw} {G : Wd}, k7 l1 l2 l3 w → TwAt t ad w (G 2) → (∀ r, r ≠ 2 → G r = G0 r) → wp m_X4_ringOf 2 0 0 7 [some (vR (some (ad a0))), some (vI l1), some (vI l2), some (vI l3)] [] G (twQ t ad G0 (uI Q)) noX) {l1 : Int} {l2 : Int} {l3 : Int} {w : Tw} {G : Wd} (h : f_X4_ringOf_7_b a0 k7 l1 l2 l3 w Q) (hT : TwAt t ad w (G 2)) (hG : ∀ r, r ≠ 2 → G r = G0 r) : wp m_X4_ringOf 2 0 0 7 [some (vR (some (ad a0))), some (vI l1), some (vI l2), some (vI l3)] [] G (twQ t ad G0 (uI Q)) noX := by
  unfold f_X4_ringOf_7_b at h
  refine r_iload_n dX4_ringOf_7 rfl rfl iI ?_
  refine r_aload_n dX4_ringOf_8 rfl rfl iR ?_
  refine r_iload_n dX4_ringOf_9 rfl rfl iI ?_
  refine r_iconst dX4_ringOf_10 ?_
  refine r_callS dX4_ringOf_11 (c_X4_of hA_a0 h hT hG) q2379 q2380 q117 q2381 yo_X4_of rfl (by decide) (by decide) rfl (rc1 c1I rc0) (by decide) (Nat.le_refl _) (Nat.le_refl _) (tofI fun x10 w9 G h hT hG => ?_) nox
  refine r_icmp_ge (tgt := 45) dX4_ringOf_14 (by decide) h (fun h => ?_) (fun h => ?_)
  · refine r_iconst dX4_ringOf_45 ?_
    exact r_iret rfl dX4_ringOf_46 ⟨_, hT, hG, _, rfl, h⟩
  · refine r_aload_n dX4_ringOf_17 rfl rfl iR ?_
    refine r_iload_n dX4_ringOf_18 rfl rfl iI ?_
    refine r_iload_n dX4_ringOf_19 rfl rfl iI ?_
    refine r_callS dX4_ringOf_20 (c_X4_ringAt h hT hG) q2419 q2420 q117 q2421 yo_X4_ringAt rfl (by decide) (by decide) rfl (rc1 c1R rc0) (by decide) (Nat.le_refl _) (Nat.le_refl _) (tofI fun x12 w11 G h hT hG => ?_) nox
    refine r_iconst dX4_ringOf_23 ?_
    refine r_iadd dX4_ringOf_24 ?_
    refine t_iald hT dX4_ringOf_25 hA_a0 (by decide) h (fun h => ?_)
    refine r_iload_n dX4_ringOf_26 rfl rfl iI ?_
    refine r_icmp_ne (tgt := 39) dX4_ringOf_27 (by decide) h (fun h => ?_) (fun h => ?_)
    · refine r_iinc (L' := [some (vR (some (ad a0))), some (vI l1), some (vI l2), some (vI (l3 + 1))]) dX4_ringOf_39 rfl rfl cI (by decide) ?_
      refine r_goto (tgt := 7) dX4_ringOf_42 (by decide) ?_
      exact hk7 h hT hG
    · refine r_iload_n dX4_ringOf_30 rfl rfl iI ?_
      refine r_aload_n dX4_ringOf_31 rfl rfl iR ?_
      refine r_iload_n dX4_ringOf_32 rfl rfl iI ?_
      refine r_iconst dX4_ringOf_33 ?_
      refine r_callS dX4_ringOf_34 (c_X4_of hA_a0 h hT hG) q2379 q2380 q117 q2381 yo_X4_of rfl (by decide) (by decide) rfl (rc1 c1I rc0) (by decide) (Nat.le_refl _) (Nat.le_refl _) (tofI fun x14 w13 G h hT hG => ?_) nox
      refine r_isub dX4_ringOf_37 ?_
      exact r_iret rfl dX4_ringOf_38 ⟨_, hT, hG, _, rfl, h⟩
def f_X4_ringOf_7 (a0 : Nat) (Q : Int → Tw → Prop) : Nat → Int → Int → Int → Tw → Prop
  | 0, _, _, _, _ => False
  | fl + 1, l1, l2, l3, w => f_X4_ringOf_7_b  a0  (fun l1 l2 l3 w => f_X4_ringOf_7  a0  Q fl l1 l2 l3 w) l1 l2 l3 w Q
theorem w_X4_ringOf_7 {t : Nat} {ad : Nat → Nat} {G0 : Wd} {a0 : Nat} (hA_a0 : (a0, 0, 844) ∈ twA) {Q : Int → Tw → Prop} : ∀ (fl : Nat) {l1 : Int} {l2 : Int} {l3 : Int} {w : Tw} {G : Wd}, f_X4_ringOf_7 a0 Q fl l1 l2 l3 w → TwAt t ad w (G 2) → (∀ r, r ≠ 2 → G r = G0 r) → wp m_X4_ringOf 2 0 0 7 [some (vR (some (ad a0))), some (vI l1), some (vI l2), some (vI l3)] [] G (twQ t ad G0 (uI Q)) noX := by
  intro fl
  induction fl with
  | zero => intro l1 l2 l3 w G h; exact (show False from h).elim
  | succ fl ih => intro l1 l2 l3 w G h hT hG; exact w_X4_ringOf_7_b hA_a0  (fun h hT hG => ih h hT hG) h hT hG
def f_X4_ringOf (a0 : Nat) (a1 : Int) (a2 : Int) (w : Tw) (Q : Int → Tw → Prop) : Prop :=
  f_X4_of a0 a1 3 w (fun x16 w15 => ∃ fl17, f_X4_ringOf_7 a0 Q fl17 a1 a2 x16 w15)
theorem w_X4_ringOf {t : Nat} {ad : Nat → Nat} {G0 : Wd} {a0 : Nat} (hA_a0 : (a0, 0, 844) ∈ twA) {Q : Int → Tw → Prop} {a1 : Int} {a2 : Int} {w : Tw} {G : Wd} (h : f_X4_ringOf a0 a1 a2 w Q) (hT : TwAt t ad w (G 2)) (hG : ∀ r, r ≠ 2 → G r = G0 r) : wp m_X4_ringOf 2 0 0 0 [some (vR (some (ad a0))), some (vI a1), some (vI a2), none] [] G (twQ t ad G0 (uI Q)) noX := by
  unfold f_X4_ringOf at h
  refine r_aload_n dX4_ringOf_0 rfl rfl iR ?_
  refine r_iload_n dX4_ringOf_1 rfl rfl iI ?_
  refine r_iconst dX4_ringOf_2 ?_
  refine r_callS dX4_ringOf_3 (c_X4_of hA_a0 h hT hG) q2379 q2380 q117 q2381 yo_X4_of rfl (by decide) (by decide) rfl rc0 (by decide) (Nat.le_refl _) (Nat.le_refl _) (tofI fun x16 w15 G h hT hG => ?_) nox
  refine r_istore_n (L' := [some (vR (some (ad a0))), some (vI a1), some (vI a2), some (vI x16)]) dX4_ringOf_6 rfl rfl iI cI (by decide) ?_
  obtain ⟨fl17, h⟩ := h
  exact w_X4_ringOf_7 hA_a0 fl17 h hT hG
theorem c_X4_ringOf {t : Nat} {ad : Nat → Nat} {G0 : Wd} {a0 : Nat} {a1 : Int} {a2 : Int} (hA_a0 : (a0, 0, 844) ∈ twA) {Q : Int → Tw → Prop} {w : Tw} {G : Wd} (h : f_X4_ringOf a0 a1 a2 w Q) (hT : TwAt t ad w (G 2)) (hG : ∀ r, r ≠ 2 → G r = G0 r) : call yX4_ringOf (Cond.code yX4_ringOf cX4_ringOf 4 (some .int)) 2 0 0 [vR (some (ad a0)), vI a1, vI a2] G (twQ t ad G0 (uI Q)) noX :=
  call.enter (by decide +kernel) (la_1 c1R (la_1 c1I (la_1 c1I (la_nil rfl)))) rfl (w_X4_ringOf hA_a0 h hT hG)
abbrev m_X4_runOf : Mt := (yX4_runOf.cls, cX4_runOf, 5, some .int, [], yX4_runOf.name)
theorem yo_X4_runOf : yOK yX4_runOf 3 := ⟨by decide +kernel, by decide +kernel, by decide +kernel⟩
def f_X4_runOf_74 (a0 : Nat) (k2 : Int → Int → Int → Tw → Prop) (l1 : Int) (l2 : Int) (l3 : Int) (w : Tw) (Q : Int → Tw → Prop) : Prop :=
  k2 l1 l2 (l3 + 1) w
theorem w_X4_runOf_74 {t : Nat} {ad : Nat → Nat} {G0 : Wd} {a0 : Nat} (hA_a0 : (a0, 0, 844) ∈ twA) {Q : Int → Tw → Prop} {k2 : Int → Int → Int → Tw → Prop} (hk2 : ∀ {l1 : Int} {l2 : Int} {l3 : Int} {w : Tw} {G : Wd}, k2 l1 l2 l3 w → TwAt t ad w (G 2) → (∀ r, r ≠ 2 → G r = G0 r) → wp m_X4_runOf 3 0 0 2 [some (vR (some (ad a0))), some (vI l1), some (vI l2), some (vI l3), none] [] G (twQ t ad G0 (uI Q)) noX) {l1 : Int} {l2 : Int} {l3 : Int} {w : Tw} {G : Wd} (h : f_X4_runOf_74 a0 k2 l1 l2 l3 w Q) (hT : TwAt t ad w (G 2)) (hG : ∀ r, r ≠ 2 → G r = G0 r) : wp m_X4_runOf 3 0 0 74 [some (vR (some (ad a0))), some (vI l1), some (vI l2), some (vI l3), none] [] G (twQ t ad G0 (uI Q)) noX := by
  unfold f_X4_runOf_74 at h
  refine r_iinc (L' := [some (vR (some (ad a0))), some (vI l1), some (vI l2), some (vI (l3 + 1)), none]) dX4_runOf_74 rfl rfl cI (by decide) ?_
  refine r_goto (tgt := 2) dX4_runOf_77 (by decide) ?_
  exact hk2 h hT hG
def f_X4_runOf_53 (a0 : Nat) (k2 : Int → Int → Int → Tw → Prop) (l1 : Int) (l2 : Int) (l3 : Int) (s0 : Bool) (w : Tw) (Q : Int → Tw → Prop) : Prop :=
  f_X4_runAt l3 w (fun x18 w17 => rdA w17 a0 844 (x18 + 0) (fun _ => br (w17 a0 (x18 + 0)) l1 (¬ (w17 a0 (x18 + 0)) = l1) (f_X4_runOf_74 a0 k2 l1 l2 l3 w17 Q) (brB s0 (Q l3 w17) (f_X4_runOf_74 a0 k2 l1 l2 l3 w17 Q))))
theorem w_X4_runOf_53 {t : Nat} {ad : Nat → Nat} {G0 : Wd} {a0 : Nat} (hA_a0 : (a0, 0, 844) ∈ twA) {Q : Int → Tw → Prop} {k2 : Int → Int → Int → Tw → Prop} (hk2 : ∀ {l1 : Int} {l2 : Int} {l3 : Int} {w : Tw} {G : Wd}, k2 l1 l2 l3 w → TwAt t ad w (G 2) → (∀ r, r ≠ 2 → G r = G0 r) → wp m_X4_runOf 3 0 0 2 [some (vR (some (ad a0))), some (vI l1), some (vI l2), some (vI l3), none] [] G (twQ t ad G0 (uI Q)) noX) {l1 : Int} {l2 : Int} {l3 : Int} {s0 : Bool} {w : Tw} {G : Wd} (h : f_X4_runOf_53 a0 k2 l1 l2 l3 s0 w Q) (hT : TwAt t ad w (G 2)) (hG : ∀ r, r ≠ 2 → G r = G0 r) : wp m_X4_runOf 3 0 0 53 [some (vR (some (ad a0))), some (vI l1), some (vI l2), some (vI l3), none] [vB s0] G (twQ t ad G0 (uI Q)) noX := by
  unfold f_X4_runOf_53 at h
  refine r_istore (L' := [some (vR (some (ad a0))), some (vI l1), some (vI l2), some (vI l3), some (vB s0)]) dX4_runOf_53 rfl iB cI (by decide) ?_
  refine r_aload_n dX4_runOf_55 rfl rfl iR ?_
  refine r_iload_n dX4_runOf_56 rfl rfl iI ?_
  refine r_callS dX4_runOf_57 (c_X4_runAt h hT hG) q2425 q2426 q117 q2427 yo_X4_runAt rfl (by decide) (by decide) rfl (rc1 c1R rc0) (by decide) (Nat.le_refl _) (Nat.le_refl _) (tofI fun x18 w17 G h hT hG => ?_) nox
  refine r_iconst dX4_runOf_60 ?_
  refine r_iadd dX4_runOf_61 ?_
  refine t_iald hT dX4_runOf_62 hA_a0 (by decide) h (fun h => ?_)
  refine r_iload_n dX4_runOf_63 rfl rfl iI ?_
  refine r_icmp_ne (tgt := 74) dX4_runOf_64 (by decide) h (fun h => ?_) (fun h => ?_)
  · refine wp.locals (L' := [some (vR (some (ad a0))), some (vI l1), some (vI l2), some (vI l3), none]) (ls_s (ls_s (ls_s (ls_s (ls_n ls_0))))) ?_
    exact w_X4_runOf_74 hA_a0 hk2 h hT hG
  · refine r_iload dX4_runOf_67 rfl iB ?_
    refine r_ifZ_eq (tgt := 74) dX4_runOf_69 (by decide) h (fun h => ?_) (fun h => ?_)
    · refine wp.locals (L' := [some (vR (some (ad a0))), some (vI l1), some (vI l2), some (vI l3), none]) (ls_s (ls_s (ls_s (ls_s (ls_n ls_0))))) ?_
      exact w_X4_runOf_74 hA_a0 hk2 h hT hG
    · refine r_iload_n dX4_runOf_72 rfl rfl iI ?_
      exact r_iret rfl dX4_runOf_73 ⟨_, hT, hG, _, rfl, h⟩
def f_X4_runOf_48 (a0 : Nat) (k2 : Int → Int → Int → Tw → Prop) (l1 : Int) (l2 : Int) (l3 : Int) (w : Tw) (Q : Int → Tw → Prop) : Prop :=
  f_X4_runOf_53 a0 k2 l1 l2 l3 true w Q
theorem w_X4_runOf_48 {t : Nat} {ad : Nat → Nat} {G0 : Wd} {a0 : Nat} (hA_a0 : (a0, 0, 844) ∈ twA) {Q : Int → Tw → Prop} {k2 : Int → Int → Int → Tw → Prop} (hk2 : ∀ {l1 : Int} {l2 : Int} {l3 : Int} {w : Tw} {G : Wd}, k2 l1 l2 l3 w → TwAt t ad w (G 2) → (∀ r, r ≠ 2 → G r = G0 r) → wp m_X4_runOf 3 0 0 2 [some (vR (some (ad a0))), some (vI l1), some (vI l2), some (vI l3), none] [] G (twQ t ad G0 (uI Q)) noX) {l1 : Int} {l2 : Int} {l3 : Int} {w : Tw} {G : Wd} (h : f_X4_runOf_48 a0 k2 l1 l2 l3 w Q) (hT : TwAt t ad w (G 2)) (hG : ∀ r, r ≠ 2 → G r = G0 r) : wp m_X4_runOf 3 0 0 48 [some (vR (some (ad a0))), some (vI l1), some (vI l2), some (vI l3), none] [] G (twQ t ad G0 (uI Q)) noX := by
  unfold f_X4_runOf_48 at h
  refine r_iconst dX4_runOf_48 ?_
  refine r_goto (tgt := 53) dX4_runOf_49 (by decide) ?_
  refine wp.cast (st' := [vB true]) rfl (congrArg (fun q => [q]) vI1) ?_
  exact w_X4_runOf_53 hA_a0 hk2 h hT hG
def f_X4_runOf_52 (a0 : Nat) (k2 : Int → Int → Int → Tw → Prop) (l1 : Int) (l2 : Int) (l3 : Int) (w : Tw) (Q : Int → Tw → Prop) : Prop :=
  f_X4_runOf_53 a0 k2 l1 l2 l3 false w Q
theorem w_X4_runOf_52 {t : Nat} {ad : Nat → Nat} {G0 : Wd} {a0 : Nat} (hA_a0 : (a0, 0, 844) ∈ twA) {Q : Int → Tw → Prop} {k2 : Int → Int → Int → Tw → Prop} (hk2 : ∀ {l1 : Int} {l2 : Int} {l3 : Int} {w : Tw} {G : Wd}, k2 l1 l2 l3 w → TwAt t ad w (G 2) → (∀ r, r ≠ 2 → G r = G0 r) → wp m_X4_runOf 3 0 0 2 [some (vR (some (ad a0))), some (vI l1), some (vI l2), some (vI l3), none] [] G (twQ t ad G0 (uI Q)) noX) {l1 : Int} {l2 : Int} {l3 : Int} {w : Tw} {G : Wd} (h : f_X4_runOf_52 a0 k2 l1 l2 l3 w Q) (hT : TwAt t ad w (G 2)) (hG : ∀ r, r ≠ 2 → G r = G0 r) : wp m_X4_runOf 3 0 0 52 [some (vR (some (ad a0))), some (vI l1), some (vI l2), some (vI l3), none] [] G (twQ t ad G0 (uI Q)) noX := by
  unfold f_X4_runOf_52 at h
  refine r_iconst dX4_runOf_52 ?_
  refine wp.cast (st' := [vB false]) rfl (congrArg (fun q => [q]) vI0) ?_
  exact w_X4_runOf_53 hA_a0 hk2 h hT hG
def f_X4_runOf_2_b (a0 : Nat) (k2 : Int → Int → Int → Tw → Prop) (l1 : Int) (l2 : Int) (l3 : Int) (w : Tw) (Q : Int → Tw → Prop) : Prop :=
  rdA w a0 844 493 (fun _ => br l3 (w a0 493) ((w a0 493) ≤ l3) (Q (-1) w) (f_X4_runAt l3 w (fun x20 w19 => rdA w19 a0 844 ((x20 + 1) + 0) (fun _ => br (w19 a0 ((x20 + 1) + 0)) l2 ((w19 a0 ((x20 + 1) + 0)) = l2) (f_X4_runOf_48 a0 k2 l1 l2 l3 w19 Q) (f_X4_hasSecond a0 l3 w19 (fun x22 w21 => brB x22 (f_X4_runAt l3 w21 (fun x24 w23 => rdA w23 a0 844 ((x24 + 6) + 0) (fun _ => br (w23 a0 ((x24 + 6) + 0)) l2 (¬ (w23 a0 ((x24 + 6) + 0)) = l2) (f_X4_runOf_52 a0 k2 l1 l2 l3 w23 Q) (f_X4_runOf_48 a0 k2 l1 l2 l3 w23 Q)))) (f_X4_runOf_52 a0 k2 l1 l2 l3 w21 Q)))))))
theorem w_X4_runOf_2_b {t : Nat} {ad : Nat → Nat} {G0 : Wd} {a0 : Nat} (hA_a0 : (a0, 0, 844) ∈ twA) {Q : Int → Tw → Prop} {k2 : Int → Int → Int → Tw → Prop} (hk2 : ∀ {l1 : Int} {l2 : Int} {l3 : Int} {w : Tw} {G : Wd}, k2 l1 l2 l3 w → TwAt t ad w (G 2) → (∀ r, r ≠ 2 → G r = G0 r) → wp m_X4_runOf 3 0 0 2 [some (vR (some (ad a0))), some (vI l1), some (vI l2), some (vI l3), none] [] G (twQ t ad G0 (uI Q)) noX) {l1 : Int} {l2 : Int} {l3 : Int} {w : Tw} {G : Wd} (h : f_X4_runOf_2_b a0 k2 l1 l2 l3 w Q) (hT : TwAt t ad w (G 2)) (hG : ∀ r, r ≠ 2 → G r = G0 r) : wp m_X4_runOf 3 0 0 2 [some (vR (some (ad a0))), some (vI l1), some (vI l2), some (vI l3), none] [] G (twQ t ad G0 (uI Q)) noX := by
  unfold f_X4_runOf_2_b at h
  refine r_iload_n dX4_runOf_2 rfl rfl iI ?_
  refine r_aload_n dX4_runOf_3 rfl rfl iR ?_
  refine r_sipush dX4_runOf_4 (by decide) ?_
  refine t_iald hT dX4_runOf_7 hA_a0 (by decide) h (fun h => ?_)
  refine r_icmp_ge (tgt := 80) dX4_runOf_8 (by decide) h (fun h => ?_) (fun h => ?_)
  · refine r_iconst dX4_runOf_80 ?_
    exact r_iret rfl dX4_runOf_81 ⟨_, hT, hG, _, rfl, h⟩
  · refine r_aload_n dX4_runOf_11 rfl rfl iR ?_
    refine r_iload_n dX4_runOf_12 rfl rfl iI ?_
    refine r_callS dX4_runOf_13 (c_X4_runAt h hT hG) q2425 q2426 q117 q2427 yo_X4_runAt rfl (by decide) (by decide) rfl (rc1 c1R rc0) (by decide) (Nat.le_refl _) (Nat.le_refl _) (tofI fun x20 w19 G h hT hG => ?_) nox
    refine r_iconst dX4_runOf_16 ?_
    refine r_iadd dX4_runOf_17 ?_
    refine r_iconst dX4_runOf_18 ?_
    refine r_iadd dX4_runOf_19 ?_
    refine t_iald hT dX4_runOf_20 hA_a0 (by decide) h (fun h => ?_)
    refine r_iload_n dX4_runOf_21 rfl rfl iI ?_
    refine r_icmp_eq (tgt := 48) dX4_runOf_22 (by decide) h (fun h => ?_) (fun h => ?_)
    · exact w_X4_runOf_48 hA_a0 hk2 h hT hG
    · refine r_aload_n dX4_runOf_25 rfl rfl iR ?_
      refine r_iload_n dX4_runOf_26 rfl rfl iI ?_
      refine r_callS dX4_runOf_27 (c_X4_hasSecond hA_a0 h hT hG) q2428 q2429 q117 q2430 yo_X4_hasSecond rfl (by decide) (by decide) rfl rc0 (by decide) (Nat.le_refl _) (Nat.le_refl _) (tofB fun x22 w21 G h hT hG => ?_) nox
      refine r_ifZ_eq (tgt := 52) dX4_runOf_30 (by decide) h (fun h => ?_) (fun h => ?_)
      · exact w_X4_runOf_52 hA_a0 hk2 h hT hG
      · refine r_aload_n dX4_runOf_33 rfl rfl iR ?_
        refine r_iload_n dX4_runOf_34 rfl rfl iI ?_
        refine r_callS dX4_runOf_35 (c_X4_runAt h hT hG) q2425 q2426 q117 q2427 yo_X4_runAt rfl (by decide) (by decide) rfl (rc1 c1R rc0) (by decide) (Nat.le_refl _) (Nat.le_refl _) (tofI fun x24 w23 G h hT hG => ?_) nox
        refine r_bipush dX4_runOf_38 (by decide) ?_
        refine r_iadd dX4_runOf_40 ?_
        refine r_iconst dX4_runOf_41 ?_
        refine r_iadd dX4_runOf_42 ?_
        refine t_iald hT dX4_runOf_43 hA_a0 (by decide) h (fun h => ?_)
        refine r_iload_n dX4_runOf_44 rfl rfl iI ?_
        refine r_icmp_ne (tgt := 52) dX4_runOf_45 (by decide) h (fun h => ?_) (fun h => ?_)
        · exact w_X4_runOf_52 hA_a0 hk2 h hT hG
        · exact w_X4_runOf_48 hA_a0 hk2 h hT hG
def f_X4_runOf_2 (a0 : Nat) (Q : Int → Tw → Prop) : Nat → Int → Int → Int → Tw → Prop
  | 0, _, _, _, _ => False
  | fl + 1, l1, l2, l3, w => f_X4_runOf_2_b  a0  (fun l1 l2 l3 w => f_X4_runOf_2  a0  Q fl l1 l2 l3 w) l1 l2 l3 w Q
theorem w_X4_runOf_2 {t : Nat} {ad : Nat → Nat} {G0 : Wd} {a0 : Nat} (hA_a0 : (a0, 0, 844) ∈ twA) {Q : Int → Tw → Prop} : ∀ (fl : Nat) {l1 : Int} {l2 : Int} {l3 : Int} {w : Tw} {G : Wd}, f_X4_runOf_2 a0 Q fl l1 l2 l3 w → TwAt t ad w (G 2) → (∀ r, r ≠ 2 → G r = G0 r) → wp m_X4_runOf 3 0 0 2 [some (vR (some (ad a0))), some (vI l1), some (vI l2), some (vI l3), none] [] G (twQ t ad G0 (uI Q)) noX := by
  intro fl
  induction fl with
  | zero => intro l1 l2 l3 w G h; exact (show False from h).elim
  | succ fl ih => intro l1 l2 l3 w G h hT hG; exact w_X4_runOf_2_b hA_a0  (fun h hT hG => ih h hT hG) h hT hG
def f_X4_runOf (a0 : Nat) (a1 : Int) (a2 : Int) (w : Tw) (Q : Int → Tw → Prop) : Prop :=
  ∃ fl25, f_X4_runOf_2 a0 Q fl25 a1 a2 0 w
theorem w_X4_runOf {t : Nat} {ad : Nat → Nat} {G0 : Wd} {a0 : Nat} (hA_a0 : (a0, 0, 844) ∈ twA) {Q : Int → Tw → Prop} {a1 : Int} {a2 : Int} {w : Tw} {G : Wd} (h : f_X4_runOf a0 a1 a2 w Q) (hT : TwAt t ad w (G 2)) (hG : ∀ r, r ≠ 2 → G r = G0 r) : wp m_X4_runOf 3 0 0 0 [some (vR (some (ad a0))), some (vI a1), some (vI a2), none, none] [] G (twQ t ad G0 (uI Q)) noX := by
  unfold f_X4_runOf at h
  refine r_iconst dX4_runOf_0 ?_
  refine r_istore_n (L' := [some (vR (some (ad a0))), some (vI a1), some (vI a2), some (vI 0), none]) dX4_runOf_1 rfl rfl iI cI (by decide) ?_
  obtain ⟨fl25, h⟩ := h
  exact w_X4_runOf_2 hA_a0 fl25 h hT hG
theorem c_X4_runOf {t : Nat} {ad : Nat → Nat} {G0 : Wd} {a0 : Nat} {a1 : Int} {a2 : Int} (hA_a0 : (a0, 0, 844) ∈ twA) {Q : Int → Tw → Prop} {w : Tw} {G : Wd} (h : f_X4_runOf a0 a1 a2 w Q) (hT : TwAt t ad w (G 2)) (hG : ∀ r, r ≠ 2 → G r = G0 r) : call yX4_runOf (Cond.code yX4_runOf cX4_runOf 5 (some .int)) 3 0 0 [vR (some (ad a0)), vI a1, vI a2] G (twQ t ad G0 (uI Q)) noX :=
  call.enter (by decide +kernel) (la_1 c1R (la_1 c1I (la_1 c1I (la_nil rfl)))) rfl (w_X4_runOf hA_a0 h hT hG)
abbrev m_X4_outOf : Mt := (yX4_outOf.cls, cX4_outOf, 4, some .int, [], yX4_outOf.name)
theorem yo_X4_outOf : yOK yX4_outOf 3 := ⟨by decide +kernel, by decide +kernel, by decide +kernel⟩
def f_X4_outOf_37 (a0 : Nat) (k2 : Int → Int → Int → Tw → Prop) (l1 : Int) (l2 : Int) (l3 : Int) (w : Tw) (Q : Int → Tw → Prop) : Prop :=
  k2 l1 l2 (l3 + 1) w
theorem w_X4_outOf_37 {t : Nat} {ad : Nat → Nat} {G0 : Wd} {a0 : Nat} (hA_a0 : (a0, 0, 844) ∈ twA) {Q : Int → Tw → Prop} {k2 : Int → Int → Int → Tw → Prop} (hk2 : ∀ {l1 : Int} {l2 : Int} {l3 : Int} {w : Tw} {G : Wd}, k2 l1 l2 l3 w → TwAt t ad w (G 2) → (∀ r, r ≠ 2 → G r = G0 r) → wp m_X4_outOf 2 0 0 2 [some (vR (some (ad a0))), some (vI l1), some (vI l2), some (vI l3)] [] G (twQ t ad G0 (uI Q)) noX) {l1 : Int} {l2 : Int} {l3 : Int} {w : Tw} {G : Wd} (h : f_X4_outOf_37 a0 k2 l1 l2 l3 w Q) (hT : TwAt t ad w (G 2)) (hG : ∀ r, r ≠ 2 → G r = G0 r) : wp m_X4_outOf 2 0 0 37 [some (vR (some (ad a0))), some (vI l1), some (vI l2), some (vI l3)] [] G (twQ t ad G0 (uI Q)) noX := by
  unfold f_X4_outOf_37 at h
  refine r_iinc (L' := [some (vR (some (ad a0))), some (vI l1), some (vI l2), some (vI (l3 + 1))]) dX4_outOf_37 rfl rfl cI (by decide) ?_
  refine r_goto (tgt := 2) dX4_outOf_40 (by decide) ?_
  exact hk2 h hT hG
def f_X4_outOf_2_b (a0 : Nat) (k2 : Int → Int → Int → Tw → Prop) (l1 : Int) (l2 : Int) (l3 : Int) (w : Tw) (Q : Int → Tw → Prop) : Prop :=
  rdA w a0 844 814 (fun _ => br l3 (w a0 814) ((w a0 814) ≤ l3) (Q (-1) w) (f_X4_outAt l3 w (fun x10 w9 => rdA w9 a0 844 (x10 + 0) (fun _ => br (w9 a0 (x10 + 0)) l1 (¬ (w9 a0 (x10 + 0)) = l1) (f_X4_outOf_37 a0 k2 l1 l2 l3 w9 Q) (f_X4_outAt l3 w9 (fun x12 w11 => rdA w11 a0 844 (x12 + 1) (fun _ => br (w11 a0 (x12 + 1)) l2 (¬ (w11 a0 (x12 + 1)) = l2) (f_X4_outOf_37 a0 k2 l1 l2 l3 w11 Q) (Q l3 w11))))))))
theorem w_X4_outOf_2_b {t : Nat} {ad : Nat → Nat} {G0 : Wd} {a0 : Nat} (hA_a0 : (a0, 0, 844) ∈ twA) {Q : Int → Tw → Prop} {k2 : Int → Int → Int → Tw → Prop} (hk2 : ∀ {l1 : Int} {l2 : Int} {l3 : Int} {w : Tw} {G : Wd}, k2 l1 l2 l3 w → TwAt t ad w (G 2) → (∀ r, r ≠ 2 → G r = G0 r) → wp m_X4_outOf 2 0 0 2 [some (vR (some (ad a0))), some (vI l1), some (vI l2), some (vI l3)] [] G (twQ t ad G0 (uI Q)) noX) {l1 : Int} {l2 : Int} {l3 : Int} {w : Tw} {G : Wd} (h : f_X4_outOf_2_b a0 k2 l1 l2 l3 w Q) (hT : TwAt t ad w (G 2)) (hG : ∀ r, r ≠ 2 → G r = G0 r) : wp m_X4_outOf 2 0 0 2 [some (vR (some (ad a0))), some (vI l1), some (vI l2), some (vI l3)] [] G (twQ t ad G0 (uI Q)) noX := by
  unfold f_X4_outOf_2_b at h
  refine r_iload_n dX4_outOf_2 rfl rfl iI ?_
  refine r_aload_n dX4_outOf_3 rfl rfl iR ?_
  refine r_sipush dX4_outOf_4 (by decide) ?_
  refine t_iald hT dX4_outOf_7 hA_a0 (by decide) h (fun h => ?_)
  refine r_icmp_ge (tgt := 43) dX4_outOf_8 (by decide) h (fun h => ?_) (fun h => ?_)
  · refine r_iconst dX4_outOf_43 ?_
    exact r_iret rfl dX4_outOf_44 ⟨_, hT, hG, _, rfl, h⟩
  · refine r_aload_n dX4_outOf_11 rfl rfl iR ?_
    refine r_iload_n dX4_outOf_12 rfl rfl iI ?_
    refine r_callS dX4_outOf_13 (c_X4_outAt h hT hG) q2434 q2435 q117 q2436 yo_X4_outAt rfl (by decide) (by decide) rfl (rc1 c1R rc0) (by decide) (Nat.le_refl _) (Nat.le_refl _) (tofI fun x10 w9 G h hT hG => ?_) nox
    refine r_iconst dX4_outOf_16 ?_
    refine r_iadd dX4_outOf_17 ?_
    refine t_iald hT dX4_outOf_18 hA_a0 (by decide) h (fun h => ?_)
    refine r_iload_n dX4_outOf_19 rfl rfl iI ?_
    refine r_icmp_ne (tgt := 37) dX4_outOf_20 (by decide) h (fun h => ?_) (fun h => ?_)
    · exact w_X4_outOf_37 hA_a0 hk2 h hT hG
    · refine r_aload_n dX4_outOf_23 rfl rfl iR ?_
      refine r_iload_n dX4_outOf_24 rfl rfl iI ?_
      refine r_callS dX4_outOf_25 (c_X4_outAt h hT hG) q2434 q2435 q117 q2436 yo_X4_outAt rfl (by decide) (by decide) rfl (rc1 c1R rc0) (by decide) (Nat.le_refl _) (Nat.le_refl _) (tofI fun x12 w11 G h hT hG => ?_) nox
      refine r_iconst dX4_outOf_28 ?_
      refine r_iadd dX4_outOf_29 ?_
      refine t_iald hT dX4_outOf_30 hA_a0 (by decide) h (fun h => ?_)
      refine r_iload_n dX4_outOf_31 rfl rfl iI ?_
      refine r_icmp_ne (tgt := 37) dX4_outOf_32 (by decide) h (fun h => ?_) (fun h => ?_)
      · exact w_X4_outOf_37 hA_a0 hk2 h hT hG
      · refine r_iload_n dX4_outOf_35 rfl rfl iI ?_
        exact r_iret rfl dX4_outOf_36 ⟨_, hT, hG, _, rfl, h⟩
def f_X4_outOf_2 (a0 : Nat) (Q : Int → Tw → Prop) : Nat → Int → Int → Int → Tw → Prop
  | 0, _, _, _, _ => False
  | fl + 1, l1, l2, l3, w => f_X4_outOf_2_b  a0  (fun l1 l2 l3 w => f_X4_outOf_2  a0  Q fl l1 l2 l3 w) l1 l2 l3 w Q
theorem w_X4_outOf_2 {t : Nat} {ad : Nat → Nat} {G0 : Wd} {a0 : Nat} (hA_a0 : (a0, 0, 844) ∈ twA) {Q : Int → Tw → Prop} : ∀ (fl : Nat) {l1 : Int} {l2 : Int} {l3 : Int} {w : Tw} {G : Wd}, f_X4_outOf_2 a0 Q fl l1 l2 l3 w → TwAt t ad w (G 2) → (∀ r, r ≠ 2 → G r = G0 r) → wp m_X4_outOf 2 0 0 2 [some (vR (some (ad a0))), some (vI l1), some (vI l2), some (vI l3)] [] G (twQ t ad G0 (uI Q)) noX := by
  intro fl
  induction fl with
  | zero => intro l1 l2 l3 w G h; exact (show False from h).elim
  | succ fl ih => intro l1 l2 l3 w G h hT hG; exact w_X4_outOf_2_b hA_a0  (fun h hT hG => ih h hT hG) h hT hG
def f_X4_outOf (a0 : Nat) (a1 : Int) (a2 : Int) (w : Tw) (Q : Int → Tw → Prop) : Prop :=
  ∃ fl13, f_X4_outOf_2 a0 Q fl13 a1 a2 0 w
theorem w_X4_outOf {t : Nat} {ad : Nat → Nat} {G0 : Wd} {a0 : Nat} (hA_a0 : (a0, 0, 844) ∈ twA) {Q : Int → Tw → Prop} {a1 : Int} {a2 : Int} {w : Tw} {G : Wd} (h : f_X4_outOf a0 a1 a2 w Q) (hT : TwAt t ad w (G 2)) (hG : ∀ r, r ≠ 2 → G r = G0 r) : wp m_X4_outOf 2 0 0 0 [some (vR (some (ad a0))), some (vI a1), some (vI a2), none] [] G (twQ t ad G0 (uI Q)) noX := by
  unfold f_X4_outOf at h
  refine r_iconst dX4_outOf_0 ?_
  refine r_istore_n (L' := [some (vR (some (ad a0))), some (vI a1), some (vI a2), some (vI 0)]) dX4_outOf_1 rfl rfl iI cI (by decide) ?_
  obtain ⟨fl13, h⟩ := h
  exact w_X4_outOf_2 hA_a0 fl13 h hT hG
theorem c_X4_outOf {t : Nat} {ad : Nat → Nat} {G0 : Wd} {a0 : Nat} {a1 : Int} {a2 : Int} (hA_a0 : (a0, 0, 844) ∈ twA) {Q : Int → Tw → Prop} {w : Tw} {G : Wd} (h : f_X4_outOf a0 a1 a2 w Q) (hT : TwAt t ad w (G 2)) (hG : ∀ r, r ≠ 2 → G r = G0 r) : call yX4_outOf (Cond.code yX4_outOf cX4_outOf 4 (some .int)) 2 0 0 [vR (some (ad a0)), vI a1, vI a2] G (twQ t ad G0 (uI Q)) noX :=
  call.enter (by decide +kernel) (la_1 c1R (la_1 c1I (la_1 c1I (la_nil rfl)))) rfl (w_X4_outOf hA_a0 h hT hG)
abbrev m_X4_isPosted : Mt := (yX4_isPosted.cls, cX4_isPosted, 5, some .boolean, [], yX4_isPosted.name)
theorem yo_X4_isPosted : yOK yX4_isPosted 3 := ⟨by decide +kernel, by decide +kernel, by decide +kernel⟩
def f_X4_isPosted_45 (a0 : Nat) (k11 : Int → Int → Bool → Int → Tw → Prop) (l1 : Int) (l2 : Int) (l4 : Int) (s0 : Bool) (w : Tw) (Q : Bool → Tw → Prop) : Prop :=
  k11 l1 l2 s0 (l4 + 1) w
theorem w_X4_isPosted_45 {t : Nat} {ad : Nat → Nat} {G0 : Wd} {a0 : Nat} (hA_a0 : (a0, 0, 844) ∈ twA) {Q : Bool → Tw → Prop} {k11 : Int → Int → Bool → Int → Tw → Prop} (hk11 : ∀ {l1 : Int} {l2 : Int} {l3 : Bool} {l4 : Int} {w : Tw} {G : Wd}, k11 l1 l2 l3 l4 w → TwAt t ad w (G 2) → (∀ r, r ≠ 2 → G r = G0 r) → wp m_X4_isPosted 2 0 0 11 [some (vR (some (ad a0))), some (vI l1), some (vI l2), some (vB l3), some (vI l4)] [] G (twQ t ad G0 (uB Q)) noX) {l1 : Int} {l2 : Int} {l4 : Int} {s0 : Bool} {w : Tw} {G : Wd} (h : f_X4_isPosted_45 a0 k11 l1 l2 l4 s0 w Q) (hT : TwAt t ad w (G 2)) (hG : ∀ r, r ≠ 2 → G r = G0 r) : wp m_X4_isPosted 2 0 0 45 [some (vR (some (ad a0))), some (vI l1), some (vI l2), none, some (vI l4)] [vB s0] G (twQ t ad G0 (uB Q)) noX := by
  unfold f_X4_isPosted_45 at h
  refine r_istore_n (L' := [some (vR (some (ad a0))), some (vI l1), some (vI l2), some (vB s0), some (vI l4)]) dX4_isPosted_45 rfl rfl iB cI (by decide) ?_
  refine r_iinc (L' := [some (vR (some (ad a0))), some (vI l1), some (vI l2), some (vB s0), some (vI (l4 + 1))]) dX4_isPosted_46 rfl rfl cB (by decide) ?_
  refine r_goto (tgt := 11) dX4_isPosted_49 (by decide) ?_
  exact hk11 h hT hG
def f_X4_isPosted_40 (a0 : Nat) (k11 : Int → Int → Bool → Int → Tw → Prop) (l1 : Int) (l2 : Int) (l4 : Int) (w : Tw) (Q : Bool → Tw → Prop) : Prop :=
  f_X4_isPosted_45 a0 k11 l1 l2 l4 true w Q
theorem w_X4_isPosted_40 {t : Nat} {ad : Nat → Nat} {G0 : Wd} {a0 : Nat} (hA_a0 : (a0, 0, 844) ∈ twA) {Q : Bool → Tw → Prop} {k11 : Int → Int → Bool → Int → Tw → Prop} (hk11 : ∀ {l1 : Int} {l2 : Int} {l3 : Bool} {l4 : Int} {w : Tw} {G : Wd}, k11 l1 l2 l3 l4 w → TwAt t ad w (G 2) → (∀ r, r ≠ 2 → G r = G0 r) → wp m_X4_isPosted 2 0 0 11 [some (vR (some (ad a0))), some (vI l1), some (vI l2), some (vB l3), some (vI l4)] [] G (twQ t ad G0 (uB Q)) noX) {l1 : Int} {l2 : Int} {l4 : Int} {w : Tw} {G : Wd} (h : f_X4_isPosted_40 a0 k11 l1 l2 l4 w Q) (hT : TwAt t ad w (G 2)) (hG : ∀ r, r ≠ 2 → G r = G0 r) : wp m_X4_isPosted 2 0 0 40 [some (vR (some (ad a0))), some (vI l1), some (vI l2), none, some (vI l4)] [] G (twQ t ad G0 (uB Q)) noX := by
  unfold f_X4_isPosted_40 at h
  refine r_iconst dX4_isPosted_40 ?_
  refine r_goto (tgt := 45) dX4_isPosted_41 (by decide) ?_
  refine wp.cast (st' := [vB true]) rfl (congrArg (fun q => [q]) vI1) ?_
  exact w_X4_isPosted_45 hA_a0 hk11 h hT hG
def f_X4_isPosted_11_b (a0 : Nat) (k11 : Int → Int → Bool → Int → Tw → Prop) (l1 : Int) (l2 : Int) (l3 : Bool) (l4 : Int) (w : Tw) (Q : Bool → Tw → Prop) : Prop :=
  f_X4_of a0 l1 5 w (fun x12 w11 => br l4 x12 (x12 ≤ l4) (Q l3 w11) (brB l3 (f_X4_isPosted_40 a0 k11 l1 l2 l4 w11 Q) (f_X4_placeAt l1 l4 w11 (fun x14 w13 => rdA w13 a0 844 (x14 + 0) (fun _ => br (w13 a0 (x14 + 0)) l2 (¬ (w13 a0 (x14 + 0)) = l2) (f_X4_isPosted_45 a0 k11 l1 l2 l4 false w13 Q) (f_X4_isPosted_40 a0 k11 l1 l2 l4 w13 Q))))))
theorem w_X4_isPosted_11_b {t : Nat} {ad : Nat → Nat} {G0 : Wd} {a0 : Nat} (hA_a0 : (a0, 0, 844) ∈ twA) {Q : Bool → Tw → Prop} {k11 : Int → Int → Bool → Int → Tw → Prop} (hk11 : ∀ {l1 : Int} {l2 : Int} {l3 : Bool} {l4 : Int} {w : Tw} {G : Wd}, k11 l1 l2 l3 l4 w → TwAt t ad w (G 2) → (∀ r, r ≠ 2 → G r = G0 r) → wp m_X4_isPosted 2 0 0 11 [some (vR (some (ad a0))), some (vI l1), some (vI l2), some (vB l3), some (vI l4)] [] G (twQ t ad G0 (uB Q)) noX) {l1 : Int} {l2 : Int} {l3 : Bool} {l4 : Int} {w : Tw} {G : Wd} (h : f_X4_isPosted_11_b a0 k11 l1 l2 l3 l4 w Q) (hT : TwAt t ad w (G 2)) (hG : ∀ r, r ≠ 2 → G r = G0 r) : wp m_X4_isPosted 2 0 0 11 [some (vR (some (ad a0))), some (vI l1), some (vI l2), some (vB l3), some (vI l4)] [] G (twQ t ad G0 (uB Q)) noX := by
  unfold f_X4_isPosted_11_b at h
  refine r_iload dX4_isPosted_11 rfl iI ?_
  refine r_aload_n dX4_isPosted_13 rfl rfl iR ?_
  refine r_iload_n dX4_isPosted_14 rfl rfl iI ?_
  refine r_iconst dX4_isPosted_15 ?_
  refine r_callS dX4_isPosted_16 (c_X4_of hA_a0 h hT hG) q2379 q2380 q117 q2381 yo_X4_of rfl (by decide) (by decide) rfl (rc1 c1I rc0) (by decide) (Nat.le_refl _) (Nat.le_refl _) (tofI fun x12 w11 G h hT hG => ?_) nox
  refine r_icmp_ge (tgt := 52) dX4_isPosted_19 (by decide) h (fun h => ?_) (fun h => ?_)
  · refine r_iload_n dX4_isPosted_52 rfl rfl iB ?_
    exact r_zret rfl dX4_isPosted_53 ⟨_, hT, hG, _, rfl, h⟩
  · refine r_iload_n dX4_isPosted_22 rfl rfl iB ?_
    refine r_ifZ_ne (tgt := 40) dX4_isPosted_23 (by decide) h (fun h => ?_) (fun h => ?_)
    · refine wp.locals (L' := [some (vR (some (ad a0))), some (vI l1), some (vI l2), none, some (vI l4)]) (ls_s (ls_s (ls_s (ls_n (ls_s ls_0))))) ?_
      exact w_X4_isPosted_40 hA_a0 hk11 h hT hG
    · refine r_aload_n dX4_isPosted_26 rfl rfl iR ?_
      refine r_iload_n dX4_isPosted_27 rfl rfl iI ?_
      refine r_iload dX4_isPosted_28 rfl iI ?_
      refine r_callS dX4_isPosted_30 (c_X4_placeAt h hT hG) q2440 q2441 q117 q2442 yo_X4_placeAt rfl (by decide) (by decide) rfl (rc1 c1R rc0) (by decide) (Nat.le_refl _) (Nat.le_refl _) (tofI fun x14 w13 G h hT hG => ?_) nox
      refine r_iconst dX4_isPosted_33 ?_
      refine r_iadd dX4_isPosted_34 ?_
      refine t_iald hT dX4_isPosted_35 hA_a0 (by decide) h (fun h => ?_)
      refine r_iload_n dX4_isPosted_36 rfl rfl iI ?_
      refine r_icmp_ne (tgt := 44) dX4_isPosted_37 (by decide) h (fun h => ?_) (fun h => ?_)
      · refine r_iconst dX4_isPosted_44 ?_
        refine wp.cast (st' := [vB false]) rfl (congrArg (fun q => [q]) vI0) ?_
        refine wp.locals (L' := [some (vR (some (ad a0))), some (vI l1), some (vI l2), none, some (vI l4)]) (ls_s (ls_s (ls_s (ls_n (ls_s ls_0))))) ?_
        exact w_X4_isPosted_45 hA_a0 hk11 h hT hG
      · refine wp.locals (L' := [some (vR (some (ad a0))), some (vI l1), some (vI l2), none, some (vI l4)]) (ls_s (ls_s (ls_s (ls_n (ls_s ls_0))))) ?_
        exact w_X4_isPosted_40 hA_a0 hk11 h hT hG
def f_X4_isPosted_11 (a0 : Nat) (Q : Bool → Tw → Prop) : Nat → Int → Int → Bool → Int → Tw → Prop
  | 0, _, _, _, _, _ => False
  | fl + 1, l1, l2, l3, l4, w => f_X4_isPosted_11_b  a0  (fun l1 l2 l3 l4 w => f_X4_isPosted_11  a0  Q fl l1 l2 l3 l4 w) l1 l2 l3 l4 w Q
theorem w_X4_isPosted_11 {t : Nat} {ad : Nat → Nat} {G0 : Wd} {a0 : Nat} (hA_a0 : (a0, 0, 844) ∈ twA) {Q : Bool → Tw → Prop} : ∀ (fl : Nat) {l1 : Int} {l2 : Int} {l3 : Bool} {l4 : Int} {w : Tw} {G : Wd}, f_X4_isPosted_11 a0 Q fl l1 l2 l3 l4 w → TwAt t ad w (G 2) → (∀ r, r ≠ 2 → G r = G0 r) → wp m_X4_isPosted 2 0 0 11 [some (vR (some (ad a0))), some (vI l1), some (vI l2), some (vB l3), some (vI l4)] [] G (twQ t ad G0 (uB Q)) noX := by
  intro fl
  induction fl with
  | zero => intro l1 l2 l3 l4 w G h; exact (show False from h).elim
  | succ fl ih => intro l1 l2 l3 l4 w G h hT hG; exact w_X4_isPosted_11_b hA_a0  (fun h hT hG => ih h hT hG) h hT hG
def f_X4_isPosted (a0 : Nat) (a1 : Int) (a2 : Int) (w : Tw) (Q : Bool → Tw → Prop) : Prop :=
  f_X4_of a0 a1 6 w (fun x16 w15 => ∃ fl17, f_X4_isPosted_11 a0 Q fl17 a1 a2 false x16 w15)
theorem w_X4_isPosted {t : Nat} {ad : Nat → Nat} {G0 : Wd} {a0 : Nat} (hA_a0 : (a0, 0, 844) ∈ twA) {Q : Bool → Tw → Prop} {a1 : Int} {a2 : Int} {w : Tw} {G : Wd} (h : f_X4_isPosted a0 a1 a2 w Q) (hT : TwAt t ad w (G 2)) (hG : ∀ r, r ≠ 2 → G r = G0 r) : wp m_X4_isPosted 2 0 0 0 [some (vR (some (ad a0))), some (vI a1), some (vI a2), none, none] [] G (twQ t ad G0 (uB Q)) noX := by
  unfold f_X4_isPosted at h
  refine r_iconst dX4_isPosted_0 ?_
  refine r_istore_n (L' := [some (vR (some (ad a0))), some (vI a1), some (vI a2), some (vI 0), none]) dX4_isPosted_1 rfl rfl iI cI (by decide) ?_
  refine r_aload_n dX4_isPosted_2 rfl rfl iR ?_
  refine r_iload_n dX4_isPosted_3 rfl rfl iI ?_
  refine r_bipush dX4_isPosted_4 (by decide) ?_
  refine r_callS dX4_isPosted_6 (c_X4_of hA_a0 h hT hG) q2379 q2380 q117 q2381 yo_X4_of rfl (by decide) (by decide) rfl rc0 (by decide) (Nat.le_refl _) (Nat.le_refl _) (tofI fun x16 w15 G h hT hG => ?_) nox
  refine r_istore (L' := [some (vR (some (ad a0))), some (vI a1), some (vI a2), some (vI 0), some (vI x16)]) dX4_isPosted_9 rfl iI cI (by decide) ?_
  refine wp.cast (L' := [some (vR (some (ad a0))), some (vI a1), some (vI a2), some (vB false), some (vI x16)]) (congrArg (fun q => [some (vR (some (ad a0))), some (vI a1), some (vI a2), some q, some (vI x16)]) vI0) rfl ?_
  obtain ⟨fl17, h⟩ := h
  exact w_X4_isPosted_11 hA_a0 fl17 h hT hG
theorem c_X4_isPosted {t : Nat} {ad : Nat → Nat} {G0 : Wd} {a0 : Nat} {a1 : Int} {a2 : Int} (hA_a0 : (a0, 0, 844) ∈ twA) {Q : Bool → Tw → Prop} {w : Tw} {G : Wd} (h : f_X4_isPosted a0 a1 a2 w Q) (hT : TwAt t ad w (G 2)) (hG : ∀ r, r ≠ 2 → G r = G0 r) : call yX4_isPosted (Cond.code yX4_isPosted cX4_isPosted 5 (some .boolean)) 2 0 0 [vR (some (ad a0)), vI a1, vI a2] G (twQ t ad G0 (uB Q)) noX :=
  call.enter (by decide +kernel) (la_1 c1R (la_1 c1I (la_1 c1I (la_nil rfl)))) rfl (w_X4_isPosted hA_a0 h hT hG)
abbrev m_X4_counted : Mt := (yX4_counted.cls, cX4_counted, 2, some .int, [], yX4_counted.name)
theorem yo_X4_counted : yOK yX4_counted 1 := ⟨by decide +kernel, by decide +kernel, by decide +kernel⟩
def f_X4_counted (a1 : Int) (w : Tw) (Q : Int → Tw → Prop) : Prop :=
  br0 a1 (0 ≤ a1) (f_X4_adds a1 w (fun x4 w3 => Q x4 w3)) (Q a1 w)
theorem w_X4_counted {t : Nat} {ad : Nat → Nat} {G0 : Wd} {Q : Int → Tw → Prop} {a1 : Int} {w : Tw} {G : Wd} (h : f_X4_counted a1 w Q) (hT : TwAt t ad w (G 2)) (hG : ∀ r, r ≠ 2 → G r = G0 r) : wp m_X4_counted 2 0 0 0 [some (vR (some t)), some (vI a1)] [] G (twQ t ad G0 (uI Q)) noX := by
  unfold f_X4_counted at h
  refine r_iload_n dX4_counted_0 rfl rfl iI ?_
  refine r_if_ge (tgt := 8) dX4_counted_1 (by decide) h (fun h => ?_) (fun h => ?_)
  · refine r_aload_n dX4_counted_8 rfl rfl iR ?_
    refine r_iload_n dX4_counted_9 rfl rfl iI ?_
    refine r_callV dX4_counted_10 (tisC hT) (c_X4_adds h hT hG) q2450 q2452 qs57 q117 q2453 rfl yo_X4_adds rfl (by decide) (by decide) rfl rc0 (by decide) (Nat.le_refl _) (Nat.le_refl _) (tofI fun x4 w3 G h hT hG => ?_) nox
    exact r_iret rfl dX4_counted_13 ⟨_, hT, hG, _, rfl, h⟩
  · refine r_iload_n dX4_counted_4 rfl rfl iI ?_
    refine r_goto (tgt := 13) dX4_counted_5 (by decide) ?_
    exact r_iret rfl dX4_counted_13 ⟨_, hT, hG, _, rfl, h⟩
theorem c_X4_counted {t : Nat} {ad : Nat → Nat} {G0 : Wd} {a1 : Int} {Q : Int → Tw → Prop} {w : Tw} {G : Wd} (h : f_X4_counted a1 w Q) (hT : TwAt t ad w (G 2)) (hG : ∀ r, r ≠ 2 → G r = G0 r) : call yX4_counted (Cond.code yX4_counted cX4_counted 2 (some .int)) 2 0 0 [vR (some t), vI a1] G (twQ t ad G0 (uI Q)) noX :=
  call.enter (by decide +kernel) (la_1 c1R (la_1 c1I (la_nil rfl))) rfl (w_X4_counted  h hT hG)
abbrev m_X4_ring : Mt := (yX4_ring.cls, cX4_ring, 2, some .int, [], yX4_ring.name)
theorem yo_X4_ring : yOK yX4_ring 1 := ⟨by decide +kernel, by decide +kernel, by decide +kernel⟩
def f_X4_ring (a1 : Int) (w : Tw) (Q : Int → Tw → Prop) : Prop :=
  tS w 0 0 0 (fun w7 => f_X4_putsBy  w7 (fun w8 => f_X4_ringsOne 20 a1 w8 (fun x10 w9 => f_X4_counted x10 w9 (fun x12 w11 => Q x12 w11))))
theorem w_X4_ring {t : Nat} {ad : Nat → Nat} {G0 : Wd} {Q : Int → Tw → Prop} {a1 : Int} {w : Tw} {G : Wd} (h : f_X4_ring a1 w Q) (hT : TwAt t ad w (G 2)) (hG : ∀ r, r ≠ 2 → G r = G0 r) : wp m_X4_ring 4 0 0 0 [some (vR (some t)), some (vI a1)] [] G (twQ t ad G0 (uI Q)) noX := by
  unfold f_X4_ring at h
  refine r_aload_n dX4_ring_0 rfl rfl iR ?_
  refine r_iconst dX4_ring_1 ?_
  refine t_put (j := 0) hT hG dX4_ring_2 (fp1 (f := 0) fX4 (by decide) q2221 rfl rfl rfl) tF0 (by decide) h (fun w7 G h hT hG => ?_)
  refine r_aload_n dX4_ring_5 rfl rfl iR ?_
  refine r_callV dX4_ring_6 (tisC hT) (c_X4_putsBy h hT hG) q2399 q2401 qs54 q117 q2402 rfl yo_X4_putsBy rfl (by decide) (by decide) rfl rc0 (by decide) (Nat.le_refl _) (Nat.le_refl _) (tofV fun w8 G h hT hG => ?_) nox
  refine r_aload_n dX4_ring_9 rfl rfl iR ?_
  refine r_aload_n dX4_ring_10 rfl rfl iR ?_
  refine r_aload_n dX4_ring_11 rfl rfl iR ?_
  refine t_getA (j := 20) hT dX4_ring_12 (fg1 (f := 20) fX4 (by decide) q2241 rfl) rfl ?_
  refine r_iload_n dX4_ring_15 rfl rfl iI ?_
  refine r_callV dX4_ring_16 (tisC hT) (c_X4_ringsOne tA20 h hT hG) q2458 q2460 qs58 q117 q2461 rfl yo_X4_ringsOne rfl (by decide) (by decide) rfl (rc1 c1R rc0) (by decide) (Nat.le_refl _) (Nat.le_refl _) (tofI fun x10 w9 G h hT hG => ?_) nox
  refine r_callV dX4_ring_19 (tisC hT) (c_X4_counted h hT hG) q2446 q2448 qs56 q117 q2449 rfl yo_X4_counted rfl (by decide) (by decide) rfl rc0 (by decide) (Nat.le_refl _) (Nat.le_refl _) (tofI fun x12 w11 G h hT hG => ?_) nox
  exact r_iret rfl dX4_ring_22 ⟨_, hT, hG, _, rfl, h⟩
theorem c_X4_ring {t : Nat} {ad : Nat → Nat} {G0 : Wd} {a1 : Int} {Q : Int → Tw → Prop} {w : Tw} {G : Wd} (h : f_X4_ring a1 w Q) (hT : TwAt t ad w (G 2)) (hG : ∀ r, r ≠ 2 → G r = G0 r) : call yX4_ring (Cond.code yX4_ring cX4_ring 2 (some .int)) 4 0 0 [vR (some t), vI a1] G (twQ t ad G0 (uI Q)) noX :=
  call.enter (by decide +kernel) (la_1 c1R (la_1 c1I (la_nil rfl))) rfl (w_X4_ring  h hT hG)
abbrev m_X4_ends : Mt := (yX4_ends.cls, cX4_ends, 10, none, [], yX4_ends.name)
theorem yo_X4_ends : yOK yX4_ends 2 := ⟨by decide +kernel, by decide +kernel, by decide +kernel⟩
def f_X4_ends_225 (a1 : Nat) (l2 : Int) (w : Tw) (Q : Tw → Prop) : Prop :=
  f_X4_runGoes a1 l2 w (fun w16 => Q w16)
theorem w_X4_ends_225 {t : Nat} {ad : Nat → Nat} {G0 : Wd} {a1 : Nat} (hA_a1 : (a1, 0, 844) ∈ twA) {Q : Tw → Prop} {l2 : Int} {w : Tw} {G : Wd} (h : f_X4_ends_225 a1 l2 w Q) (hT : TwAt t ad w (G 2)) (hG : ∀ r, r ≠ 2 → G r = G0 r) : wp m_X4_ends 3 0 0 225 [none, some (vR (some (ad a1))), some (vI l2), none, none, none, none, none, none, none] [] G (twQ t ad G0 (uV Q)) noX := by
  unfold f_X4_ends_225 at h
  refine r_aload_n dX4_ends_225 rfl rfl iR ?_
  refine r_iload_n dX4_ends_226 rfl rfl iI ?_
  refine r_callS dX4_ends_227 (c_X4_runGoes hA_a1 h hT hG) q2482 q2483 q117 q2484 yo_X4_runGoes rfl (by decide) (by decide) rfl rc0 (by decide) (Nat.le_refl _) (Nat.le_refl _) (tofV fun w16 G h hT hG => ?_) nox
  exact r_vret rfl dX4_ends_230 ⟨_, hT, hG, rfl, h⟩
def f_X4_ends_222 (a1 : Nat) (l2 : Int) (s1 : Int) (s2 : Int) (s3 : Int) (s4 : Int) (w : Tw) (Q : Tw → Prop) : Prop :=
  f_X4_comesOut a1 s1 s2 s3 s4 w (fun w17 => f_X4_ends_225 a1 l2 w17 Q)
theorem w_X4_ends_222 {t : Nat} {ad : Nat → Nat} {G0 : Wd} {a1 : Nat} (hA_a1 : (a1, 0, 844) ∈ twA) {Q : Tw → Prop} {l2 : Int} {s1 : Int} {s2 : Int} {s3 : Int} {s4 : Int} {w : Tw} {G : Wd} (h : f_X4_ends_222 a1 l2 s1 s2 s3 s4 w Q) (hT : TwAt t ad w (G 2)) (hG : ∀ r, r ≠ 2 → G r = G0 r) : wp m_X4_ends 3 0 0 222 [none, some (vR (some (ad a1))), some (vI l2), none, none, none, none, none, none, none] [vI s4, vI s3, vI s2, vI s1, vR (some (ad a1))] G (twQ t ad G0 (uV Q)) noX := by
  unfold f_X4_ends_222 at h
  refine r_callS dX4_ends_222 (c_X4_comesOut hA_a1 h hT hG) q2479 q2480 q117 q2481 yo_X4_comesOut rfl (by decide) (by decide) rfl rc0 (by decide) (Nat.le_refl _) (Nat.le_refl _) (tofV fun w17 G h hT hG => ?_) nox
  exact w_X4_ends_225 hA_a1 h hT hG
def f_X4_ends_207 (a1 : Nat) (l2 : Int) (l8 : Int) (l9 : Bool) (s1 : Int) (s2 : Int) (s3 : Int) (w : Tw) (Q : Tw → Prop) : Prop :=
  brB l9 (rdA w a1 844 (l8 + 3) (fun _ => f_X4_ends_222 a1 l2 s1 s2 s3 (w a1 (l8 + 3)) w Q)) (f_X4_ends_222 a1 l2 s1 s2 s3 0 w Q)
theorem w_X4_ends_207 {t : Nat} {ad : Nat → Nat} {G0 : Wd} {a1 : Nat} (hA_a1 : (a1, 0, 844) ∈ twA) {Q : Tw → Prop} {l2 : Int} {l8 : Int} {l9 : Bool} {s1 : Int} {s2 : Int} {s3 : Int} {w : Tw} {G : Wd} (h : f_X4_ends_207 a1 l2 l8 l9 s1 s2 s3 w Q) (hT : TwAt t ad w (G 2)) (hG : ∀ r, r ≠ 2 → G r = G0 r) : wp m_X4_ends 3 0 0 207 [none, some (vR (some (ad a1))), some (vI l2), none, none, none, none, none, some (vI l8), some (vB l9)] [vI s3, vI s2, vI s1, vR (some (ad a1))] G (twQ t ad G0 (uV Q)) noX := by
  unfold f_X4_ends_207 at h
  refine r_iload dX4_ends_207 rfl iB ?_
  refine r_ifZ_eq (tgt := 221) dX4_ends_209 (by decide) h (fun h => ?_) (fun h => ?_)
  · refine r_iconst dX4_ends_221 ?_
    refine wp.locals (L' := [none, some (vR (some (ad a1))), some (vI l2), none, none, none, none, none, none, none]) (ls_n (ls_s (ls_s (ls_n (ls_n (ls_n (ls_n (ls_n (ls_n (ls_n ls_0)))))))))) ?_
    exact w_X4_ends_222 hA_a1 h hT hG
  · refine r_aload_n dX4_ends_212 rfl rfl iR ?_
    refine r_iload dX4_ends_213 rfl iI ?_
    refine r_iconst dX4_ends_215 ?_
    refine r_iadd dX4_ends_216 ?_
    refine t_iald hT dX4_ends_217 hA_a1 (by decide) h (fun h => ?_)
    refine r_goto (tgt := 222) dX4_ends_218 (by decide) ?_
    refine wp.locals (L' := [none, some (vR (some (ad a1))), some (vI l2), none, none, none, none, none, none, none]) (ls_n (ls_s (ls_s (ls_n (ls_n (ls_n (ls_n (ls_n (ls_n (ls_n ls_0)))))))))) ?_
    exact w_X4_ends_222 hA_a1 h hT hG
def f_X4_ends_189 (a1 : Nat) (l2 : Int) (l3 : Int) (l8 : Int) (l9 : Bool) (w : Tw) (Q : Tw → Prop) : Prop :=
  rdA w a1 844 (l8 + 0) (fun _ => brB l9 (f_X4_ends_207 a1 l2 l8 l9 l3 (w a1 (l8 + 0)) 0 w Q) (f_X4_ends_207 a1 l2 l8 l9 l3 (w a1 (l8 + 0)) 3 w Q))
theorem w_X4_ends_189 {t : Nat} {ad : Nat → Nat} {G0 : Wd} {a1 : Nat} (hA_a1 : (a1, 0, 844) ∈ twA) {Q : Tw → Prop} {l2 : Int} {l3 : Int} {l8 : Int} {l9 : Bool} {w : Tw} {G : Wd} (h : f_X4_ends_189 a1 l2 l3 l8 l9 w Q) (hT : TwAt t ad w (G 2)) (hG : ∀ r, r ≠ 2 → G r = G0 r) : wp m_X4_ends 3 0 0 189 [none, some (vR (some (ad a1))), some (vI l2), some (vI l3), none, none, none, none, some (vI l8), some (vB l9)] [] G (twQ t ad G0 (uV Q)) noX := by
  unfold f_X4_ends_189 at h
  refine r_aload_n dX4_ends_189 rfl rfl iR ?_
  refine r_iload_n dX4_ends_190 rfl rfl iI ?_
  refine r_aload_n dX4_ends_191 rfl rfl iR ?_
  refine r_iload dX4_ends_192 rfl iI ?_
  refine r_iconst dX4_ends_194 ?_
  refine r_iadd dX4_ends_195 ?_
  refine t_iald hT dX4_ends_196 hA_a1 (by decide) h (fun h => ?_)
  refine r_iload dX4_ends_197 rfl iB ?_
  refine r_ifZ_eq (tgt := 206) dX4_ends_199 (by decide) h (fun h => ?_) (fun h => ?_)
  · refine r_iconst dX4_ends_206 ?_
    refine wp.locals (L' := [none, some (vR (some (ad a1))), some (vI l2), none, none, none, none, none, some (vI l8), some (vB l9)]) (ls_n (ls_s (ls_s (ls_n (ls_n (ls_n (ls_n (ls_n (ls_s (ls_s ls_0)))))))))) ?_
    exact w_X4_ends_207 hA_a1 h hT hG
  · refine r_iconst dX4_ends_202 ?_
    refine r_goto (tgt := 207) dX4_ends_203 (by decide) ?_
    refine wp.locals (L' := [none, some (vR (some (ad a1))), some (vI l2), none, none, none, none, none, some (vI l8), some (vB l9)]) (ls_n (ls_s (ls_s (ls_n (ls_n (ls_n (ls_n (ls_n (ls_s (ls_s ls_0)))))))))) ?_
    exact w_X4_ends_207 hA_a1 h hT hG
def f_X4_ends_159 (a1 : Nat) (l2 : Int) (l3 : Int) (l6 : Int) (l8 : Int) (l9 : Bool) (s1 : Int) (s2 : Int) (s3 : Int) (w : Tw) (Q : Tw → Prop) : Prop :=
  rdA w a1 844 l6 (fun _ => f_X4_comesOut a1 s1 s2 s3 (w a1 l6) w (fun w18 => brB l9 (rdA w18 a1 844 (l8 + 2) (fun _ => rdA w18 a1 844 (l8 + 3) (fun _ => wrA w18 a1 844 (828 + (w18 a1 (l8 + 2))) (w18 a1 (l8 + 3)) (fun w19 => f_X4_ends_189 a1 l2 l3 l8 l9 w19 Q)))) (f_X4_ends_189 a1 l2 l3 l8 l9 w18 Q)))
theorem w_X4_ends_159 {t : Nat} {ad : Nat → Nat} {G0 : Wd} {a1 : Nat} (hA_a1 : (a1, 0, 844) ∈ twA) {Q : Tw → Prop} {l2 : Int} {l3 : Int} {l6 : Int} {l8 : Int} {l9 : Bool} {s1 : Int} {s2 : Int} {s3 : Int} {w : Tw} {G : Wd} (h : f_X4_ends_159 a1 l2 l3 l6 l8 l9 s1 s2 s3 w Q) (hT : TwAt t ad w (G 2)) (hG : ∀ r, r ≠ 2 → G r = G0 r) : wp m_X4_ends 3 0 0 159 [none, some (vR (some (ad a1))), some (vI l2), some (vI l3), none, none, some (vI l6), none, some (vI l8), some (vB l9)] [vI s3, vI s2, vI s1, vR (some (ad a1))] G (twQ t ad G0 (uV Q)) noX := by
  unfold f_X4_ends_159 at h
  refine r_aload_n dX4_ends_159 rfl rfl iR ?_
  refine r_iload dX4_ends_160 rfl iI ?_
  refine t_iald hT dX4_ends_162 hA_a1 (by decide) h (fun h => ?_)
  refine r_callS dX4_ends_163 (c_X4_comesOut hA_a1 h hT hG) q2479 q2480 q117 q2481 yo_X4_comesOut rfl (by decide) (by decide) rfl rc0 (by decide) (Nat.le_refl _) (Nat.le_refl _) (tofV fun w18 G h hT hG => ?_) nox
  refine r_iload dX4_ends_166 rfl iB ?_
  refine r_ifZ_eq (tgt := 189) dX4_ends_168 (by decide) h (fun h => ?_) (fun h => ?_)
  · refine wp.locals (L' := [none, some (vR (some (ad a1))), some (vI l2), some (vI l3), none, none, none, none, some (vI l8), some (vB l9)]) (ls_n (ls_s (ls_s (ls_s (ls_n (ls_n (ls_n (ls_n (ls_s (ls_s ls_0)))))))))) ?_
    exact w_X4_ends_189 hA_a1 h hT hG
  · refine r_aload_n dX4_ends_171 rfl rfl iR ?_
    refine r_sipush dX4_ends_172 (by decide) ?_
    refine r_aload_n dX4_ends_175 rfl rfl iR ?_
    refine r_iload dX4_ends_176 rfl iI ?_
    refine r_iconst dX4_ends_178 ?_
    refine r_iadd dX4_ends_179 ?_
    refine t_iald hT dX4_ends_180 hA_a1 (by decide) h (fun h => ?_)
    refine r_iadd dX4_ends_181 ?_
    refine r_aload_n dX4_ends_182 rfl rfl iR ?_
    refine r_iload dX4_ends_183 rfl iI ?_
    refine r_iconst dX4_ends_185 ?_
    refine r_iadd dX4_ends_186 ?_
    refine t_iald hT dX4_ends_187 hA_a1 (by decide) h (fun h => ?_)
    refine t_iast hT hG dX4_ends_188 hA_a1 (by decide) h (fun w19 G h hT hG => ?_)
    refine wp.locals (L' := [none, some (vR (some (ad a1))), some (vI l2), some (vI l3), none, none, none, none, some (vI l8), some (vB l9)]) (ls_n (ls_s (ls_s (ls_s (ls_n (ls_n (ls_n (ls_n (ls_s (ls_s ls_0)))))))))) ?_
    exact w_X4_ends_189 hA_a1 h hT hG
def f_X4_ends_143 (a1 : Nat) (l2 : Int) (l3 : Int) (l5 : Int) (l6 : Int) (l8 : Int) (s0 : Bool) (w : Tw) (Q : Tw → Prop) : Prop :=
  brB s0 (f_X4_ends_159 a1 l2 l3 l6 l8 s0 l3 l5 0 w Q) (f_X4_ends_159 a1 l2 l3 l6 l8 s0 l3 l5 2 w Q)
theorem w_X4_ends_143 {t : Nat} {ad : Nat → Nat} {G0 : Wd} {a1 : Nat} (hA_a1 : (a1, 0, 844) ∈ twA) {Q : Tw → Prop} {l2 : Int} {l3 : Int} {l5 : Int} {l6 : Int} {l8 : Int} {s0 : Bool} {w : Tw} {G : Wd} (h : f_X4_ends_143 a1 l2 l3 l5 l6 l8 s0 w Q) (hT : TwAt t ad w (G 2)) (hG : ∀ r, r ≠ 2 → G r = G0 r) : wp m_X4_ends 3 0 0 143 [none, some (vR (some (ad a1))), some (vI l2), some (vI l3), none, some (vI l5), some (vI l6), none, some (vI l8), none] [vB s0] G (twQ t ad G0 (uV Q)) noX := by
  unfold f_X4_ends_143 at h
  refine r_istore (L' := [none, some (vR (some (ad a1))), some (vI l2), some (vI l3), none, some (vI l5), some (vI l6), none, some (vI l8), some (vB s0)]) dX4_ends_143 rfl iB cI (by decide) ?_
  refine r_aload_n dX4_ends_145 rfl rfl iR ?_
  refine r_iload_n dX4_ends_146 rfl rfl iI ?_
  refine r_iload dX4_ends_147 rfl iI ?_
  refine r_iload dX4_ends_149 rfl iB ?_
  refine r_ifZ_eq (tgt := 158) dX4_ends_151 (by decide) h (fun h => ?_) (fun h => ?_)
  · refine r_iconst dX4_ends_158 ?_
    refine wp.locals (L' := [none, some (vR (some (ad a1))), some (vI l2), some (vI l3), none, none, some (vI l6), none, some (vI l8), some (vB s0)]) (ls_n (ls_s (ls_s (ls_s (ls_n (ls_n (ls_s (ls_n (ls_s (ls_s ls_0)))))))))) ?_
    exact w_X4_ends_159 hA_a1 h hT hG
  · refine r_iconst dX4_ends_154 ?_
    refine r_goto (tgt := 159) dX4_ends_155 (by decide) ?_
    refine wp.locals (L' := [none, some (vR (some (ad a1))), some (vI l2), some (vI l3), none, none, some (vI l6), none, some (vI l8), some (vB s0)]) (ls_n (ls_s (ls_s (ls_s (ls_n (ls_n (ls_s (ls_n (ls_s (ls_s ls_0)))))))))) ?_
    exact w_X4_ends_159 hA_a1 h hT hG
def f_X4_ends (a1 : Nat) (a2 : Int) (w : Tw) (Q : Tw → Prop) : Prop :=
  f_X4_runAt a2 w (fun x21 w20 => rdA w20 a1 844 (x21 + 0) (fun _ => f_X4_runAt a2 w20 (fun x23 w22 => rdA w22 a1 844 ((x23 + 1) + 0) (fun _ => rdA w22 a1 844 ((x23 + 1) + 2) (fun _ => rdA w22 a1 844 ((x23 + 1) + 1) (fun _ => br0 (w22 a1 ((x23 + 1) + 1)) (¬ (w22 a1 ((x23 + 1) + 1)) = 0) (br (w22 a1 ((x23 + 1) + 1)) 1 (¬ (w22 a1 ((x23 + 1) + 1)) = (1 : Int)) (br (w22 a1 ((x23 + 1) + 1)) 4 (¬ (w22 a1 ((x23 + 1) + 1)) = (4 : Int)) (f_X4_runAt a2 w22 (fun x25 w24 => rdA w24 a1 844 (828 + (w22 a1 ((x23 + 1) + 2))) (fun _ => rdA w24 a1 844 ((x23 + 1) + 3) (fun _ => br (w24 a1 (828 + (w22 a1 ((x23 + 1) + 2)))) (w24 a1 ((x23 + 1) + 3)) (¬ (w24 a1 (828 + (w22 a1 ((x23 + 1) + 2)))) = (w24 a1 ((x23 + 1) + 3))) (f_X4_ends_143 a1 a2 (w20 a1 (x21 + 0)) (w22 a1 ((x23 + 1) + 0)) (828 + (w22 a1 ((x23 + 1) + 2))) (x25 + 6) false w24 Q) (f_X4_ends_143 a1 a2 (w20 a1 (x21 + 0)) (w22 a1 ((x23 + 1) + 0)) (828 + (w22 a1 ((x23 + 1) + 2))) (x25 + 6) true w24 Q))))) (f_X4_comesOut a1 (w20 a1 (x21 + 0)) (w22 a1 ((x23 + 1) + 0)) 0 0 w22 (fun w26 => f_X4_ends_225 a1 a2 w26 Q))) (rdA w22 a1 844 ((x23 + 1) + 3) (fun _ => wrA w22 a1 844 (828 + (w22 a1 ((x23 + 1) + 2))) (w22 a1 ((x23 + 1) + 3)) (fun w27 => rdA w27 a1 844 ((x23 + 1) + 3) (fun _ => f_X4_comesOut a1 (w20 a1 (x21 + 0)) (w22 a1 ((x23 + 1) + 0)) 0 (w27 a1 ((x23 + 1) + 3)) w27 (fun w28 => f_X4_ends_225 a1 a2 w28 Q)))))) (rdA w22 a1 844 (828 + (w22 a1 ((x23 + 1) + 2))) (fun _ => f_X4_comesOut a1 (w20 a1 (x21 + 0)) (w22 a1 ((x23 + 1) + 0)) 0 (w22 a1 (828 + (w22 a1 ((x23 + 1) + 2)))) w22 (fun w29 => f_X4_ends_225 a1 a2 w29 Q)))))))))
theorem w_X4_ends {t : Nat} {ad : Nat → Nat} {G0 : Wd} {a1 : Nat} (hA_a1 : (a1, 0, 844) ∈ twA) {Q : Tw → Prop} {a2 : Int} {w : Tw} {G : Wd} (h : f_X4_ends a1 a2 w Q) (hT : TwAt t ad w (G 2)) (hG : ∀ r, r ≠ 2 → G r = G0 r) : wp m_X4_ends 3 0 0 0 [some (vR (some t)), some (vR (some (ad a1))), some (vI a2), none, none, none, none, none, none, none] [] G (twQ t ad G0 (uV Q)) noX := by
  unfold f_X4_ends at h
  refine r_aload_n dX4_ends_0 rfl rfl iR ?_
  refine r_iload_n dX4_ends_1 rfl rfl iI ?_
  refine r_callS dX4_ends_2 (c_X4_runAt h hT hG) q2425 q2426 q117 q2427 yo_X4_runAt rfl (by decide) (by decide) rfl (rc1 c1R rc0) (by decide) (Nat.le_refl _) (Nat.le_refl _) (tofI fun x21 w20 G h hT hG => ?_) nox
  refine r_iconst dX4_ends_5 ?_
  refine r_iadd dX4_ends_6 ?_
  refine t_iald hT dX4_ends_7 hA_a1 (by decide) h (fun h => ?_)
  refine r_istore_n (L' := [some (vR (some t)), some (vR (some (ad a1))), some (vI a2), some (vI (w20 a1 (x21 + 0))), none, none, none, none, none, none]) dX4_ends_8 rfl rfl iI cI (by decide) ?_
  refine r_iload_n dX4_ends_9 rfl rfl iI ?_
  refine r_callS dX4_ends_10 (c_X4_runAt h hT hG) q2425 q2426 q117 q2427 yo_X4_runAt rfl (by decide) (by decide) rfl rc0 (by decide) (Nat.le_refl _) (Nat.le_refl _) (tofI fun x23 w22 G h hT hG => ?_) nox
  refine r_iconst dX4_ends_13 ?_
  refine r_iadd dX4_ends_14 ?_
  refine r_istore (L' := [some (vR (some t)), some (vR (some (ad a1))), some (vI a2), some (vI (w20 a1 (x21 + 0))), some (vI (x23 + 1)), none, none, none, none, none]) dX4_ends_15 rfl iI cI (by decide) ?_
  refine r_aload_n dX4_ends_17 rfl rfl iR ?_
  refine r_iload dX4_ends_18 rfl iI ?_
  refine r_iconst dX4_ends_20 ?_
  refine r_iadd dX4_ends_21 ?_
  refine t_iald hT dX4_ends_22 hA_a1 (by decide) h (fun h => ?_)
  refine r_istore (L' := [some (vR (some t)), some (vR (some (ad a1))), some (vI a2), some (vI (w20 a1 (x21 + 0))), some (vI (x23 + 1)), some (vI (w22 a1 ((x23 + 1) + 0))), none, none, none, none]) dX4_ends_23 rfl iI cI (by decide) ?_
  refine r_sipush dX4_ends_25 (by decide) ?_
  refine r_aload_n dX4_ends_28 rfl rfl iR ?_
  refine r_iload dX4_ends_29 rfl iI ?_
  refine r_iconst dX4_ends_31 ?_
  refine r_iadd dX4_ends_32 ?_
  refine t_iald hT dX4_ends_33 hA_a1 (by decide) h (fun h => ?_)
  refine r_iadd dX4_ends_34 ?_
  refine r_istore (L' := [some (vR (some t)), some (vR (some (ad a1))), some (vI a2), some (vI (w20 a1 (x21 + 0))), some (vI (x23 + 1)), some (vI (w22 a1 ((x23 + 1) + 0))), some (vI (828 + (w22 a1 ((x23 + 1) + 2)))), none, none, none]) dX4_ends_35 rfl iI cI (by decide) ?_
  refine r_aload_n dX4_ends_37 rfl rfl iR ?_
  refine r_iload dX4_ends_38 rfl iI ?_
  refine r_iconst dX4_ends_40 ?_
  refine r_iadd dX4_ends_41 ?_
  refine t_iald hT dX4_ends_42 hA_a1 (by decide) h (fun h => ?_)
  refine r_istore (L' := [some (vR (some t)), some (vR (some (ad a1))), some (vI a2), some (vI (w20 a1 (x21 + 0))), some (vI (x23 + 1)), some (vI (w22 a1 ((x23 + 1) + 0))), some (vI (828 + (w22 a1 ((x23 + 1) + 2)))), some (vI (w22 a1 ((x23 + 1) + 1))), none, none]) dX4_ends_43 rfl iI cI (by decide) ?_
  refine r_iload dX4_ends_45 rfl iI ?_
  refine r_if_ne (tgt := 65) dX4_ends_47 (by decide) h (fun h => ?_) (fun h => ?_)
  · refine r_iload dX4_ends_65 rfl iI ?_
    refine r_iconst dX4_ends_67 ?_
    refine r_icmp_ne (tgt := 98) dX4_ends_68 (by decide) h (fun h => ?_) (fun h => ?_)
    · refine r_iload dX4_ends_98 rfl iI ?_
      refine r_iconst dX4_ends_100 ?_
      refine r_icmp_ne (tgt := 116) dX4_ends_101 (by decide) h (fun h => ?_) (fun h => ?_)
      · refine r_iload_n dX4_ends_116 rfl rfl iI ?_
        refine r_callS dX4_ends_117 (c_X4_runAt h hT hG) q2425 q2426 q117 q2427 yo_X4_runAt rfl (by decide) (by decide) rfl rc0 (by decide) (Nat.le_refl _) (Nat.le_refl _) (tofI fun x25 w24 G h hT hG => ?_) nox
        refine r_bipush dX4_ends_120 (by decide) ?_
        refine r_iadd dX4_ends_122 ?_
        refine r_istore (L' := [some (vR (some t)), some (vR (some (ad a1))), some (vI a2), some (vI (w20 a1 (x21 + 0))), some (vI (x23 + 1)), some (vI (w22 a1 ((x23 + 1) + 0))), some (vI (828 + (w22 a1 ((x23 + 1) + 2)))), some (vI (w22 a1 ((x23 + 1) + 1))), some (vI (x25 + 6)), none]) dX4_ends_123 rfl iI cI (by decide) ?_
        refine r_aload_n dX4_ends_125 rfl rfl iR ?_
        refine r_iload dX4_ends_126 rfl iI ?_
        refine t_iald hT dX4_ends_128 hA_a1 (by decide) h (fun h => ?_)
        refine r_aload_n dX4_ends_129 rfl rfl iR ?_
        refine r_iload dX4_ends_130 rfl iI ?_
        refine r_iconst dX4_ends_132 ?_
        refine r_iadd dX4_ends_133 ?_
        refine t_iald hT dX4_ends_134 hA_a1 (by decide) h (fun h => ?_)
        refine r_icmp_ne (tgt := 142) dX4_ends_135 (by decide) h (fun h => ?_) (fun h => ?_)
        · refine r_iconst dX4_ends_142 ?_
          refine wp.cast (st' := [vB false]) rfl (congrArg (fun q => [q]) vI0) ?_
          refine wp.locals (L' := [none, some (vR (some (ad a1))), some (vI a2), some (vI (w20 a1 (x21 + 0))), none, some (vI (w22 a1 ((x23 + 1) + 0))), some (vI (828 + (w22 a1 ((x23 + 1) + 2)))), none, some (vI (x25 + 6)), none]) (ls_n (ls_s (ls_s (ls_s (ls_n (ls_s (ls_s (ls_n (ls_s (ls_n ls_0)))))))))) ?_
          exact w_X4_ends_143 hA_a1 h hT hG
        · refine r_iconst dX4_ends_138 ?_
          refine r_goto (tgt := 143) dX4_ends_139 (by decide) ?_
          refine wp.cast (st' := [vB true]) rfl (congrArg (fun q => [q]) vI1) ?_
          refine wp.locals (L' := [none, some (vR (some (ad a1))), some (vI a2), some (vI (w20 a1 (x21 + 0))), none, some (vI (w22 a1 ((x23 + 1) + 0))), some (vI (828 + (w22 a1 ((x23 + 1) + 2)))), none, some (vI (x25 + 6)), none]) (ls_n (ls_s (ls_s (ls_s (ls_n (ls_s (ls_s (ls_n (ls_s (ls_n ls_0)))))))))) ?_
          exact w_X4_ends_143 hA_a1 h hT hG
      · refine r_aload_n dX4_ends_104 rfl rfl iR ?_
        refine r_iload_n dX4_ends_105 rfl rfl iI ?_
        refine r_iload dX4_ends_106 rfl iI ?_
        refine r_iconst dX4_ends_108 ?_
        refine r_iconst dX4_ends_109 ?_
        refine r_callS dX4_ends_110 (c_X4_comesOut hA_a1 h hT hG) q2479 q2480 q117 q2481 yo_X4_comesOut rfl (by decide) (by decide) rfl rc0 (by decide) (Nat.le_refl _) (Nat.le_refl _) (tofV fun w26 G h hT hG => ?_) nox
        refine r_goto (tgt := 225) dX4_ends_113 (by decide) ?_
        refine wp.locals (L' := [none, some (vR (some (ad a1))), some (vI a2), none, none, none, none, none, none, none]) (ls_n (ls_s (ls_s (ls_n (ls_n (ls_n (ls_n (ls_n (ls_n (ls_n ls_0)))))))))) ?_
        exact w_X4_ends_225 hA_a1 h hT hG
    · refine r_aload_n dX4_ends_71 rfl rfl iR ?_
      refine r_iload dX4_ends_72 rfl iI ?_
      refine r_aload_n dX4_ends_74 rfl rfl iR ?_
      refine r_iload dX4_ends_75 rfl iI ?_
      refine r_iconst dX4_ends_77 ?_
      refine r_iadd dX4_ends_78 ?_
      refine t_iald hT dX4_ends_79 hA_a1 (by decide) h (fun h => ?_)
      refine t_iast hT hG dX4_ends_80 hA_a1 (by decide) h (fun w27 G h hT hG => ?_)
      refine r_aload_n dX4_ends_81 rfl rfl iR ?_
      refine r_iload_n dX4_ends_82 rfl rfl iI ?_
      refine r_iload dX4_ends_83 rfl iI ?_
      refine r_iconst dX4_ends_85 ?_
      refine r_aload_n dX4_ends_86 rfl rfl iR ?_
      refine r_iload dX4_ends_87 rfl iI ?_
      refine r_iconst dX4_ends_89 ?_
      refine r_iadd dX4_ends_90 ?_
      refine t_iald hT dX4_ends_91 hA_a1 (by decide) h (fun h => ?_)
      refine r_callS dX4_ends_92 (c_X4_comesOut hA_a1 h hT hG) q2479 q2480 q117 q2481 yo_X4_comesOut rfl (by decide) (by decide) rfl rc0 (by decide) (Nat.le_refl _) (Nat.le_refl _) (tofV fun w28 G h hT hG => ?_) nox
      refine r_goto (tgt := 225) dX4_ends_95 (by decide) ?_
      refine wp.locals (L' := [none, some (vR (some (ad a1))), some (vI a2), none, none, none, none, none, none, none]) (ls_n (ls_s (ls_s (ls_n (ls_n (ls_n (ls_n (ls_n (ls_n (ls_n ls_0)))))))))) ?_
      exact w_X4_ends_225 hA_a1 h hT hG
  · refine r_aload_n dX4_ends_50 rfl rfl iR ?_
    refine r_iload_n dX4_ends_51 rfl rfl iI ?_
    refine r_iload dX4_ends_52 rfl iI ?_
    refine r_iconst dX4_ends_54 ?_
    refine r_aload_n dX4_ends_55 rfl rfl iR ?_
    refine r_iload dX4_ends_56 rfl iI ?_
    refine t_iald hT dX4_ends_58 hA_a1 (by decide) h (fun h => ?_)
    refine r_callS dX4_ends_59 (c_X4_comesOut hA_a1 h hT hG) q2479 q2480 q117 q2481 yo_X4_comesOut rfl (by decide) (by decide) rfl rc0 (by decide) (Nat.le_refl _) (Nat.le_refl _) (tofV fun w29 G h hT hG => ?_) nox
    refine r_goto (tgt := 225) dX4_ends_62 (by decide) ?_
    refine wp.locals (L' := [none, some (vR (some (ad a1))), some (vI a2), none, none, none, none, none, none, none]) (ls_n (ls_s (ls_s (ls_n (ls_n (ls_n (ls_n (ls_n (ls_n (ls_n ls_0)))))))))) ?_
    exact w_X4_ends_225 hA_a1 h hT hG
theorem c_X4_ends {t : Nat} {ad : Nat → Nat} {G0 : Wd} {a1 : Nat} {a2 : Int} (hA_a1 : (a1, 0, 844) ∈ twA) {Q : Tw → Prop} {w : Tw} {G : Wd} (h : f_X4_ends a1 a2 w Q) (hT : TwAt t ad w (G 2)) (hG : ∀ r, r ≠ 2 → G r = G0 r) : call yX4_ends (Cond.code yX4_ends cX4_ends 10 (none)) 3 0 0 [vR (some t), vR (some (ad a1)), vI a2] G (twQ t ad G0 (uV Q)) noX :=
  call.enter (by decide +kernel) (la_1 c1R (la_1 c1R (la_1 c1I (la_nil rfl)))) rfl (w_X4_ends hA_a1 h hT hG)
abbrev m_X4_posts : Mt := (yX4_posts.cls, cX4_posts, 7, none, [], yX4_posts.name)
theorem yo_X4_posts : yOK yX4_posts 1 := ⟨by decide +kernel, by decide +kernel, by decide +kernel⟩
def f_X4_posts_171 (a1 : Nat) (k2 : Int → Tw → Prop) (l2 : Int) (w : Tw) (Q : Tw → Prop) : Prop :=
  k2 l2 w
theorem w_X4_posts_171 {t : Nat} {ad : Nat → Nat} {G0 : Wd} {a1 : Nat} (hA_a1 : (a1, 0, 844) ∈ twA) {Q : Tw → Prop} {k2 : Int → Tw → Prop} (hk2 : ∀ {l2 : Int} {w : Tw} {G : Wd}, k2 l2 w → TwAt t ad w (G 2) → (∀ r, r ≠ 2 → G r = G0 r) → wp m_X4_posts 3 0 0 2 [some (vR (some t)), some (vR (some (ad a1))), some (vI l2), none, none, none, none] [] G (twQ t ad G0 (uV Q)) noX) {l2 : Int} {w : Tw} {G : Wd} (h : f_X4_posts_171 a1 k2 l2 w Q) (hT : TwAt t ad w (G 2)) (hG : ∀ r, r ≠ 2 → G r = G0 r) : wp m_X4_posts 3 0 0 171 [some (vR (some t)), some (vR (some (ad a1))), some (vI l2), none, none, none, none] [] G (twQ t ad G0 (uV Q)) noX := by
  unfold f_X4_posts_171 at h
  refine r_goto (tgt := 2) dX4_posts_171 (by decide) ?_
  exact hk2 h hT hG
def f_X4_posts_135 (a1 : Nat) (k2 : Int → Tw → Prop) (l2 : Int) (l4 : Int) (l5 : Int) (s1 : Int) (s2 : Bool) (w : Tw) (Q : Tw → Prop) : Prop :=
  f_X4_flag s2 w (fun x42 w41 => wrA w41 a1 844 s1 x42 (fun w43 => f_X4_sets a1 l4 5 (l5 + 1) w43 (fun w44 => f_X4_outGoes a1 l2 w44 (fun w45 => tS w45 24 0 ((w45 24 0) + 1) (fun w46 => f_X4_posts_171 a1 k2 l2 w46 Q)))))
theorem w_X4_posts_135 {t : Nat} {ad : Nat → Nat} {G0 : Wd} {a1 : Nat} (hA_a1 : (a1, 0, 844) ∈ twA) {Q : Tw → Prop} {k2 : Int → Tw → Prop} (hk2 : ∀ {l2 : Int} {w : Tw} {G : Wd}, k2 l2 w → TwAt t ad w (G 2) → (∀ r, r ≠ 2 → G r = G0 r) → wp m_X4_posts 3 0 0 2 [some (vR (some t)), some (vR (some (ad a1))), some (vI l2), none, none, none, none] [] G (twQ t ad G0 (uV Q)) noX) {l2 : Int} {l4 : Int} {l5 : Int} {s1 : Int} {s2 : Bool} {w : Tw} {G : Wd} (h : f_X4_posts_135 a1 k2 l2 l4 l5 s1 s2 w Q) (hT : TwAt t ad w (G 2)) (hG : ∀ r, r ≠ 2 → G r = G0 r) : wp m_X4_posts 3 0 0 135 [some (vR (some t)), some (vR (some (ad a1))), some (vI l2), none, some (vI l4), some (vI l5), none] [vB s2, vI s1, vR (some (ad a1))] G (twQ t ad G0 (uV Q)) noX := by
  unfold f_X4_posts_135 at h
  refine r_callS dX4_posts_135 (c_X4_flag h hT hG) q2162 q2163 q117 q2164 yo_X4_flag rfl (by decide) (by decide) rfl (rc1 c1I (rc1 c1R rc0)) (by decide) (Nat.le_refl _) (Nat.le_refl _) (tofI fun x42 w41 G h hT hG => ?_) nox
  refine t_iast hT hG dX4_posts_138 hA_a1 (by decide) h (fun w43 G h hT hG => ?_)
  refine r_aload_n dX4_posts_139 rfl rfl iR ?_
  refine r_iload dX4_posts_140 rfl iI ?_
  refine r_iconst dX4_posts_142 ?_
  refine r_iload dX4_posts_143 rfl iI ?_
  refine r_iconst dX4_posts_145 ?_
  refine r_iadd dX4_posts_146 ?_
  refine r_callS dX4_posts_147 (c_X4_sets hA_a1 h hT hG) q2443 q2444 q117 q2445 yo_X4_sets rfl (by decide) (by decide) rfl rc0 (by decide) (Nat.le_refl _) (Nat.le_refl _) (tofV fun w44 G h hT hG => ?_) nox
  refine r_aload_n dX4_posts_150 rfl rfl iR ?_
  refine r_iload_n dX4_posts_151 rfl rfl iI ?_
  refine r_callS dX4_posts_152 (c_X4_outGoes hA_a1 h hT hG) q2489 q2490 q117 q2491 yo_X4_outGoes rfl (by decide) (by decide) rfl rc0 (by decide) (Nat.le_refl _) (Nat.le_refl _) (tofV fun w45 G h hT hG => ?_) nox
  refine r_aload_n dX4_posts_155 rfl rfl iR ?_
  refine r_dup dX4_posts_156 c1R ?_
  refine t_getI (j := 24) hT dX4_posts_157 (fg1 (f := 24) fX4 (by decide) q2245 rfl) rfl ?_
  refine r_iconst dX4_posts_160 ?_
  refine r_iadd dX4_posts_161 ?_
  refine t_put (j := 24) hT hG dX4_posts_162 (fp1 (f := 24) fX4 (by decide) q2245 rfl rfl rfl) tF24 (by decide) h (fun w46 G h hT hG => ?_)
  refine r_goto (tgt := 171) dX4_posts_165 (by decide) ?_
  refine wp.locals (L' := [some (vR (some t)), some (vR (some (ad a1))), some (vI l2), none, none, none, none]) (ls_s (ls_s (ls_s (ls_n (ls_n (ls_n (ls_n ls_0))))))) ?_
  exact w_X4_posts_171 hA_a1 hk2 h hT hG
def f_X4_posts_2_b (a1 : Nat) (k2 : Int → Tw → Prop) (l2 : Int) (w : Tw) (Q : Tw → Prop) : Prop :=
  rdA w a1 844 814 (fun _ => br l2 (w a1 814) ((w a1 814) ≤ l2) (Q w) (f_X4_outAt l2 w (fun x48 w47 => rdA w47 a1 844 (x48 + 0) (fun _ => f_X4_of a1 (w47 a1 (x48 + 0)) 5 w47 (fun x50 w49 => f_X4_of a1 (w47 a1 (x48 + 0)) 6 w49 (fun x52 w51 => rdA w51 17 5 (w47 a1 (x48 + 0)) (fun _ => br (x50 - x52) ((w51 17 (w47 a1 (x48 + 0))) - 1) (((w51 17 (w47 a1 (x48 + 0))) - 1) ≤ (x50 - x52)) (f_X4_posts_171 a1 k2 (l2 + 1) w51 Q) (f_X4_placeAt (w47 a1 (x48 + 0)) x50 w51 (fun x54 w53 => rdA w53 a1 844 (x48 + 1) (fun _ => wrA w53 a1 844 (x54 + 0) (w53 a1 (x48 + 1)) (fun w55 => rdA w55 a1 844 (x48 + 2) (fun _ => wrA w55 a1 844 (x54 + 1) (w55 a1 (x48 + 2)) (fun w56 => rdA w56 a1 844 (x48 + 3) (fun _ => wrA w56 a1 844 (x54 + 2) (w56 a1 (x48 + 3)) (fun w57 => f_X4_of a1 (w47 a1 (x48 + 0)) 3 w57 (fun x59 w58 => wrA w58 a1 844 (x54 + 3) x59 (fun w60 => rdA w60 17 5 (w47 a1 (x48 + 0)) (fun _ => okd x50 (w60 17 (w47 a1 (x48 + 0))) (okm (x50.tdiv (w60 17 (w47 a1 (x48 + 0)))) 2 (br0 ((x50.tdiv (w60 17 (w47 a1 (x48 + 0)))) % 2) (¬ ((x50.tdiv (w60 17 (w47 a1 (x48 + 0)))) % 2) = 0) (f_X4_posts_135 a1 k2 l2 (w47 a1 (x48 + 0)) x50 (x54 + 4) false w60 Q) (f_X4_posts_135 a1 k2 l2 (w47 a1 (x48 + 0)) x50 (x54 + 4) true w60 Q)))))))))))))))))))))
theorem w_X4_posts_2_b {t : Nat} {ad : Nat → Nat} {G0 : Wd} {a1 : Nat} (hA_a1 : (a1, 0, 844) ∈ twA) {Q : Tw → Prop} {k2 : Int → Tw → Prop} (hk2 : ∀ {l2 : Int} {w : Tw} {G : Wd}, k2 l2 w → TwAt t ad w (G 2) → (∀ r, r ≠ 2 → G r = G0 r) → wp m_X4_posts 3 0 0 2 [some (vR (some t)), some (vR (some (ad a1))), some (vI l2), none, none, none, none] [] G (twQ t ad G0 (uV Q)) noX) {l2 : Int} {w : Tw} {G : Wd} (h : f_X4_posts_2_b a1 k2 l2 w Q) (hT : TwAt t ad w (G 2)) (hG : ∀ r, r ≠ 2 → G r = G0 r) : wp m_X4_posts 3 0 0 2 [some (vR (some t)), some (vR (some (ad a1))), some (vI l2), none, none, none, none] [] G (twQ t ad G0 (uV Q)) noX := by
  unfold f_X4_posts_2_b at h
  refine r_iload_n dX4_posts_2 rfl rfl iI ?_
  refine r_aload_n dX4_posts_3 rfl rfl iR ?_
  refine r_sipush dX4_posts_4 (by decide) ?_
  refine t_iald hT dX4_posts_7 hA_a1 (by decide) h (fun h => ?_)
  refine r_icmp_ge (tgt := 174) dX4_posts_8 (by decide) h (fun h => ?_) (fun h => ?_)
  · exact r_vret rfl dX4_posts_174 ⟨_, hT, hG, rfl, h⟩
  · refine r_iload_n dX4_posts_11 rfl rfl iI ?_
    refine r_callS dX4_posts_12 (c_X4_outAt h hT hG) q2434 q2435 q117 q2436 yo_X4_outAt rfl (by decide) (by decide) rfl rc0 (by decide) (Nat.le_refl _) (Nat.le_refl _) (tofI fun x48 w47 G h hT hG => ?_) nox
    refine r_istore_n (L' := [some (vR (some t)), some (vR (some (ad a1))), some (vI l2), some (vI x48), none, none, none]) dX4_posts_15 rfl rfl iI cI (by decide) ?_
    refine r_aload_n dX4_posts_16 rfl rfl iR ?_
    refine r_iload_n dX4_posts_17 rfl rfl iI ?_
    refine r_iconst dX4_posts_18 ?_
    refine r_iadd dX4_posts_19 ?_
    refine t_iald hT dX4_posts_20 hA_a1 (by decide) h (fun h => ?_)
    refine r_istore (L' := [some (vR (some t)), some (vR (some (ad a1))), some (vI l2), some (vI x48), some (vI (w47 a1 (x48 + 0))), none, none]) dX4_posts_21 rfl iI cI (by decide) ?_
    refine r_aload_n dX4_posts_23 rfl rfl iR ?_
    refine r_iload dX4_posts_24 rfl iI ?_
    refine r_iconst dX4_posts_26 ?_
    refine r_callS dX4_posts_27 (c_X4_of hA_a1 h hT hG) q2379 q2380 q117 q2381 yo_X4_of rfl (by decide) (by decide) rfl rc0 (by decide) (Nat.le_refl _) (Nat.le_refl _) (tofI fun x50 w49 G h hT hG => ?_) nox
    refine r_istore (L' := [some (vR (some t)), some (vR (some (ad a1))), some (vI l2), some (vI x48), some (vI (w47 a1 (x48 + 0))), some (vI x50), none]) dX4_posts_30 rfl iI cI (by decide) ?_
    refine r_iload dX4_posts_32 rfl iI ?_
    refine r_aload_n dX4_posts_34 rfl rfl iR ?_
    refine r_iload dX4_posts_35 rfl iI ?_
    refine r_bipush dX4_posts_37 (by decide) ?_
    refine r_callS dX4_posts_39 (c_X4_of hA_a1 h hT hG) q2379 q2380 q117 q2381 yo_X4_of rfl (by decide) (by decide) rfl (rc1 c1I rc0) (by decide) (Nat.le_refl _) (Nat.le_refl _) (tofI fun x52 w51 G h hT hG => ?_) nox
    refine r_isub dX4_posts_42 ?_
    refine r_aload_n dX4_posts_43 rfl rfl iR ?_
    refine t_getA (j := 17) hT dX4_posts_44 (fg1 (f := 17) fX4 (by decide) q2238 rfl) rfl ?_
    refine r_iload dX4_posts_47 rfl iI ?_
    refine t_iald hT dX4_posts_49 tA17 (by decide) h (fun h => ?_)
    refine r_iconst dX4_posts_50 ?_
    refine r_isub dX4_posts_51 ?_
    refine r_icmp_ge (tgt := 168) dX4_posts_52 (by decide) h (fun h => ?_) (fun h => ?_)
    · refine r_iinc (L' := [some (vR (some t)), some (vR (some (ad a1))), some (vI (l2 + 1)), some (vI x48), some (vI (w47 a1 (x48 + 0))), some (vI x50), none]) dX4_posts_168 rfl rfl cR (by decide) ?_
      refine wp.locals (L' := [some (vR (some t)), some (vR (some (ad a1))), some (vI (l2 + 1)), none, none, none, none]) (ls_s (ls_s (ls_s (ls_n (ls_n (ls_n (ls_n ls_0))))))) ?_
      exact w_X4_posts_171 hA_a1 hk2 h hT hG
    · refine r_iload dX4_posts_55 rfl iI ?_
      refine r_iload dX4_posts_57 rfl iI ?_
      refine r_callS dX4_posts_59 (c_X4_placeAt h hT hG) q2440 q2441 q117 q2442 yo_X4_placeAt rfl (by decide) (by decide) rfl rc0 (by decide) (Nat.le_refl _) (Nat.le_refl _) (tofI fun x54 w53 G h hT hG => ?_) nox
      refine r_istore (L' := [some (vR (some t)), some (vR (some (ad a1))), some (vI l2), some (vI x48), some (vI (w47 a1 (x48 + 0))), some (vI x50), some (vI x54)]) dX4_posts_62 rfl iI cI (by decide) ?_
      refine r_aload_n dX4_posts_64 rfl rfl iR ?_
      refine r_iload dX4_posts_65 rfl iI ?_
      refine r_iconst dX4_posts_67 ?_
      refine r_iadd dX4_posts_68 ?_
      refine r_aload_n dX4_posts_69 rfl rfl iR ?_
      refine r_iload_n dX4_posts_70 rfl rfl iI ?_
      refine r_iconst dX4_posts_71 ?_
      refine r_iadd dX4_posts_72 ?_
      refine t_iald hT dX4_posts_73 hA_a1 (by decide) h (fun h => ?_)
      refine t_iast hT hG dX4_posts_74 hA_a1 (by decide) h (fun w55 G h hT hG => ?_)
      refine r_aload_n dX4_posts_75 rfl rfl iR ?_
      refine r_iload dX4_posts_76 rfl iI ?_
      refine r_iconst dX4_posts_78 ?_
      refine r_iadd dX4_posts_79 ?_
      refine r_aload_n dX4_posts_80 rfl rfl iR ?_
      refine r_iload_n dX4_posts_81 rfl rfl iI ?_
      refine r_iconst dX4_posts_82 ?_
      refine r_iadd dX4_posts_83 ?_
      refine t_iald hT dX4_posts_84 hA_a1 (by decide) h (fun h => ?_)
      refine t_iast hT hG dX4_posts_85 hA_a1 (by decide) h (fun w56 G h hT hG => ?_)
      refine r_aload_n dX4_posts_86 rfl rfl iR ?_
      refine r_iload dX4_posts_87 rfl iI ?_
      refine r_iconst dX4_posts_89 ?_
      refine r_iadd dX4_posts_90 ?_
      refine r_aload_n dX4_posts_91 rfl rfl iR ?_
      refine r_iload_n dX4_posts_92 rfl rfl iI ?_
      refine r_iconst dX4_posts_93 ?_
      refine r_iadd dX4_posts_94 ?_
      refine t_iald hT dX4_posts_95 hA_a1 (by decide) h (fun h => ?_)
      refine t_iast hT hG dX4_posts_96 hA_a1 (by decide) h (fun w57 G h hT hG => ?_)
      refine r_aload_n dX4_posts_97 rfl rfl iR ?_
      refine r_iload dX4_posts_98 rfl iI ?_
      refine r_iconst dX4_posts_100 ?_
      refine r_iadd dX4_posts_101 ?_
      refine r_aload_n dX4_posts_102 rfl rfl iR ?_
      refine r_iload dX4_posts_103 rfl iI ?_
      refine r_iconst dX4_posts_105 ?_
      refine r_callS dX4_posts_106 (c_X4_of hA_a1 h hT hG) q2379 q2380 q117 q2381 yo_X4_of rfl (by decide) (by decide) rfl (rc1 c1I (rc1 c1R rc0)) (by decide) (Nat.le_refl _) (Nat.le_refl _) (tofI fun x59 w58 G h hT hG => ?_) nox
      refine t_iast hT hG dX4_posts_109 hA_a1 (by decide) h (fun w60 G h hT hG => ?_)
      refine r_aload_n dX4_posts_110 rfl rfl iR ?_
      refine r_iload dX4_posts_111 rfl iI ?_
      refine r_iconst dX4_posts_113 ?_
      refine r_iadd dX4_posts_114 ?_
      refine r_iload dX4_posts_115 rfl iI ?_
      refine r_aload_n dX4_posts_117 rfl rfl iR ?_
      refine t_getA (j := 17) hT dX4_posts_118 (fg1 (f := 17) fX4 (by decide) q2238 rfl) rfl ?_
      refine r_iload dX4_posts_121 rfl iI ?_
      refine t_iald hT dX4_posts_123 tA17 (by decide) h (fun h => ?_)
      refine r_idiv dX4_posts_124 h (fun h => ?_)
      refine r_iconst dX4_posts_125 ?_
      refine r_irem dX4_posts_126 h (fun h => ?_)
      refine r_if_ne (tgt := 134) dX4_posts_127 (by decide) h (fun h => ?_) (fun h => ?_)
      · refine r_iconst dX4_posts_134 ?_
        refine wp.cast (st' := [vB false, vI (x54 + 4), vR (some (ad a1))]) rfl (congrArg (fun q => [q, vI (x54 + 4), vR (some (ad a1))]) vI0) ?_
        refine wp.locals (L' := [some (vR (some t)), some (vR (some (ad a1))), some (vI l2), none, some (vI (w47 a1 (x48 + 0))), some (vI x50), none]) (ls_s (ls_s (ls_s (ls_n (ls_s (ls_s (ls_n ls_0))))))) ?_
        exact w_X4_posts_135 hA_a1 hk2 h hT hG
      · refine r_iconst dX4_posts_130 ?_
        refine r_goto (tgt := 135) dX4_posts_131 (by decide) ?_
        refine wp.cast (st' := [vB true, vI (x54 + 4), vR (some (ad a1))]) rfl (congrArg (fun q => [q, vI (x54 + 4), vR (some (ad a1))]) vI1) ?_
        refine wp.locals (L' := [some (vR (some t)), some (vR (some (ad a1))), some (vI l2), none, some (vI (w47 a1 (x48 + 0))), some (vI x50), none]) (ls_s (ls_s (ls_s (ls_n (ls_s (ls_s (ls_n ls_0))))))) ?_
        exact w_X4_posts_135 hA_a1 hk2 h hT hG
def f_X4_posts_2 (a1 : Nat) (Q : Tw → Prop) : Nat → Int → Tw → Prop
  | 0, _, _ => False
  | fl + 1, l2, w => f_X4_posts_2_b  a1  (fun l2 w => f_X4_posts_2  a1  Q fl l2 w) l2 w Q
theorem w_X4_posts_2 {t : Nat} {ad : Nat → Nat} {G0 : Wd} {a1 : Nat} (hA_a1 : (a1, 0, 844) ∈ twA) {Q : Tw → Prop} : ∀ (fl : Nat) {l2 : Int} {w : Tw} {G : Wd}, f_X4_posts_2 a1 Q fl l2 w → TwAt t ad w (G 2) → (∀ r, r ≠ 2 → G r = G0 r) → wp m_X4_posts 3 0 0 2 [some (vR (some t)), some (vR (some (ad a1))), some (vI l2), none, none, none, none] [] G (twQ t ad G0 (uV Q)) noX := by
  intro fl
  induction fl with
  | zero => intro l2 w G h; exact (show False from h).elim
  | succ fl ih => intro l2 w G h hT hG; exact w_X4_posts_2_b hA_a1  (fun h hT hG => ih h hT hG) h hT hG
def f_X4_posts (a1 : Nat) (w : Tw) (Q : Tw → Prop) : Prop :=
  ∃ fl61, f_X4_posts_2 a1 Q fl61 0 w
theorem w_X4_posts {t : Nat} {ad : Nat → Nat} {G0 : Wd} {a1 : Nat} (hA_a1 : (a1, 0, 844) ∈ twA) {Q : Tw → Prop} {w : Tw} {G : Wd} (h : f_X4_posts a1 w Q) (hT : TwAt t ad w (G 2)) (hG : ∀ r, r ≠ 2 → G r = G0 r) : wp m_X4_posts 3 0 0 0 [some (vR (some t)), some (vR (some (ad a1))), none, none, none, none, none] [] G (twQ t ad G0 (uV Q)) noX := by
  unfold f_X4_posts at h
  refine r_iconst dX4_posts_0 ?_
  refine r_istore_n (L' := [some (vR (some t)), some (vR (some (ad a1))), some (vI 0), none, none, none, none]) dX4_posts_1 rfl rfl iI cR (by decide) ?_
  obtain ⟨fl61, h⟩ := h
  exact w_X4_posts_2 hA_a1 fl61 h hT hG
theorem c_X4_posts {t : Nat} {ad : Nat → Nat} {G0 : Wd} {a1 : Nat} (hA_a1 : (a1, 0, 844) ∈ twA) {Q : Tw → Prop} {w : Tw} {G : Wd} (h : f_X4_posts a1 w Q) (hT : TwAt t ad w (G 2)) (hG : ∀ r, r ≠ 2 → G r = G0 r) : call yX4_posts (Cond.code yX4_posts cX4_posts 7 (none)) 3 0 0 [vR (some t), vR (some (ad a1))] G (twQ t ad G0 (uV Q)) noX :=
  call.enter (by decide +kernel) (la_1 c1R (la_1 c1R (la_nil rfl))) rfl (w_X4_posts hA_a1 h hT hG)
abbrev m_X4_isAnyWork : Mt := (yX4_isAnyWork.cls, cX4_isAnyWork, 4, some .boolean, [], yX4_isAnyWork.name)
theorem yo_X4_isAnyWork : yOK yX4_isAnyWork 1 := ⟨by decide +kernel, by decide +kernel, by decide +kernel⟩
def f_X4_isAnyWork_29 (a1 : Nat) (k4 : Bool → Int → Tw → Prop) (l3 : Int) (s0 : Bool) (w : Tw) (Q : Bool → Tw → Prop) : Prop :=
  k4 s0 (l3 + 1) w
theorem w_X4_isAnyWork_29 {t : Nat} {ad : Nat → Nat} {G0 : Wd} {a1 : Nat} (hA_a1 : (a1, 0, 844) ∈ twA) {Q : Bool → Tw → Prop} {k4 : Bool → Int → Tw → Prop} (hk4 : ∀ {l2 : Bool} {l3 : Int} {w : Tw} {G : Wd}, k4 l2 l3 w → TwAt t ad w (G 2) → (∀ r, r ≠ 2 → G r = G0 r) → wp m_X4_isAnyWork 3 0 0 4 [some (vR (some t)), some (vR (some (ad a1))), some (vB l2), some (vI l3)] [] G (twQ t ad G0 (uB Q)) noX) {l3 : Int} {s0 : Bool} {w : Tw} {G : Wd} (h : f_X4_isAnyWork_29 a1 k4 l3 s0 w Q) (hT : TwAt t ad w (G 2)) (hG : ∀ r, r ≠ 2 → G r = G0 r) : wp m_X4_isAnyWork 3 0 0 29 [some (vR (some t)), some (vR (some (ad a1))), none, some (vI l3)] [vB s0] G (twQ t ad G0 (uB Q)) noX := by
  unfold f_X4_isAnyWork_29 at h
  refine r_istore_n (L' := [some (vR (some t)), some (vR (some (ad a1))), some (vB s0), some (vI l3)]) dX4_isAnyWork_29 rfl rfl iB cR (by decide) ?_
  refine r_iinc (L' := [some (vR (some t)), some (vR (some (ad a1))), some (vB s0), some (vI (l3 + 1))]) dX4_isAnyWork_30 rfl rfl cB (by decide) ?_
  refine r_goto (tgt := 4) dX4_isAnyWork_33 (by decide) ?_
  exact hk4 h hT hG
def f_X4_isAnyWork_24 (a1 : Nat) (k4 : Bool → Int → Tw → Prop) (l3 : Int) (w : Tw) (Q : Bool → Tw → Prop) : Prop :=
  f_X4_isAnyWork_29 a1 k4 l3 true w Q
theorem w_X4_isAnyWork_24 {t : Nat} {ad : Nat → Nat} {G0 : Wd} {a1 : Nat} (hA_a1 : (a1, 0, 844) ∈ twA) {Q : Bool → Tw → Prop} {k4 : Bool → Int → Tw → Prop} (hk4 : ∀ {l2 : Bool} {l3 : Int} {w : Tw} {G : Wd}, k4 l2 l3 w → TwAt t ad w (G 2) → (∀ r, r ≠ 2 → G r = G0 r) → wp m_X4_isAnyWork 3 0 0 4 [some (vR (some t)), some (vR (some (ad a1))), some (vB l2), some (vI l3)] [] G (twQ t ad G0 (uB Q)) noX) {l3 : Int} {w : Tw} {G : Wd} (h : f_X4_isAnyWork_24 a1 k4 l3 w Q) (hT : TwAt t ad w (G 2)) (hG : ∀ r, r ≠ 2 → G r = G0 r) : wp m_X4_isAnyWork 3 0 0 24 [some (vR (some t)), some (vR (some (ad a1))), none, some (vI l3)] [] G (twQ t ad G0 (uB Q)) noX := by
  unfold f_X4_isAnyWork_24 at h
  refine r_iconst dX4_isAnyWork_24 ?_
  refine r_goto (tgt := 29) dX4_isAnyWork_25 (by decide) ?_
  refine wp.cast (st' := [vB true]) rfl (congrArg (fun q => [q]) vI1) ?_
  exact w_X4_isAnyWork_29 hA_a1 hk4 h hT hG
def f_X4_isAnyWork_4_b (a1 : Nat) (k4 : Bool → Int → Tw → Prop) (l2 : Bool) (l3 : Int) (w : Tw) (Q : Bool → Tw → Prop) : Prop :=
  br l3 (w 14 0) ((w 14 0) ≤ l3) (Q l2 w) (brB l2 (f_X4_isAnyWork_24 a1 k4 l3 w Q) (f_X4_hasWork a1 l3 w (fun x6 w5 => brB x6 (f_X4_isAnyWork_24 a1 k4 l3 w5 Q) (f_X4_isAnyWork_29 a1 k4 l3 false w5 Q))))
theorem w_X4_isAnyWork_4_b {t : Nat} {ad : Nat → Nat} {G0 : Wd} {a1 : Nat} (hA_a1 : (a1, 0, 844) ∈ twA) {Q : Bool → Tw → Prop} {k4 : Bool → Int → Tw → Prop} (hk4 : ∀ {l2 : Bool} {l3 : Int} {w : Tw} {G : Wd}, k4 l2 l3 w → TwAt t ad w (G 2) → (∀ r, r ≠ 2 → G r = G0 r) → wp m_X4_isAnyWork 3 0 0 4 [some (vR (some t)), some (vR (some (ad a1))), some (vB l2), some (vI l3)] [] G (twQ t ad G0 (uB Q)) noX) {l2 : Bool} {l3 : Int} {w : Tw} {G : Wd} (h : f_X4_isAnyWork_4_b a1 k4 l2 l3 w Q) (hT : TwAt t ad w (G 2)) (hG : ∀ r, r ≠ 2 → G r = G0 r) : wp m_X4_isAnyWork 3 0 0 4 [some (vR (some t)), some (vR (some (ad a1))), some (vB l2), some (vI l3)] [] G (twQ t ad G0 (uB Q)) noX := by
  unfold f_X4_isAnyWork_4_b at h
  refine r_iload_n dX4_isAnyWork_4 rfl rfl iI ?_
  refine r_aload_n dX4_isAnyWork_5 rfl rfl iR ?_
  refine t_getI (j := 14) hT dX4_isAnyWork_6 (fg1 (f := 14) fX4 (by decide) q2235 rfl) rfl ?_
  refine r_icmp_ge (tgt := 36) dX4_isAnyWork_9 (by decide) h (fun h => ?_) (fun h => ?_)
  · refine r_iload_n dX4_isAnyWork_36 rfl rfl iB ?_
    exact r_zret rfl dX4_isAnyWork_37 ⟨_, hT, hG, _, rfl, h⟩
  · refine r_iload_n dX4_isAnyWork_12 rfl rfl iB ?_
    refine r_ifZ_ne (tgt := 24) dX4_isAnyWork_13 (by decide) h (fun h => ?_) (fun h => ?_)
    · refine wp.locals (L' := [some (vR (some t)), some (vR (some (ad a1))), none, some (vI l3)]) (ls_s (ls_s (ls_n (ls_s ls_0)))) ?_
      exact w_X4_isAnyWork_24 hA_a1 hk4 h hT hG
    · refine r_aload_n dX4_isAnyWork_16 rfl rfl iR ?_
      refine r_iload_n dX4_isAnyWork_17 rfl rfl iI ?_
      refine r_callS dX4_isAnyWork_18 (c_X4_hasWork hA_a1 h hT hG) q2499 q2500 q117 q2501 yo_X4_hasWork rfl (by decide) (by decide) rfl rc0 (by decide) (Nat.le_refl _) (Nat.le_refl _) (tofB fun x6 w5 G h hT hG => ?_) nox
      refine r_ifZ_eq (tgt := 28) dX4_isAnyWork_21 (by decide) h (fun h => ?_) (fun h => ?_)
      · refine r_iconst dX4_isAnyWork_28 ?_
        refine wp.cast (st' := [vB false]) rfl (congrArg (fun q => [q]) vI0) ?_
        refine wp.locals (L' := [some (vR (some t)), some (vR (some (ad a1))), none, some (vI l3)]) (ls_s (ls_s (ls_n (ls_s ls_0)))) ?_
        exact w_X4_isAnyWork_29 hA_a1 hk4 h hT hG
      · refine wp.locals (L' := [some (vR (some t)), some (vR (some (ad a1))), none, some (vI l3)]) (ls_s (ls_s (ls_n (ls_s ls_0)))) ?_
        exact w_X4_isAnyWork_24 hA_a1 hk4 h hT hG
def f_X4_isAnyWork_4 (a1 : Nat) (Q : Bool → Tw → Prop) : Nat → Bool → Int → Tw → Prop
  | 0, _, _, _ => False
  | fl + 1, l2, l3, w => f_X4_isAnyWork_4_b  a1  (fun l2 l3 w => f_X4_isAnyWork_4  a1  Q fl l2 l3 w) l2 l3 w Q
theorem w_X4_isAnyWork_4 {t : Nat} {ad : Nat → Nat} {G0 : Wd} {a1 : Nat} (hA_a1 : (a1, 0, 844) ∈ twA) {Q : Bool → Tw → Prop} : ∀ (fl : Nat) {l2 : Bool} {l3 : Int} {w : Tw} {G : Wd}, f_X4_isAnyWork_4 a1 Q fl l2 l3 w → TwAt t ad w (G 2) → (∀ r, r ≠ 2 → G r = G0 r) → wp m_X4_isAnyWork 3 0 0 4 [some (vR (some t)), some (vR (some (ad a1))), some (vB l2), some (vI l3)] [] G (twQ t ad G0 (uB Q)) noX := by
  intro fl
  induction fl with
  | zero => intro l2 l3 w G h; exact (show False from h).elim
  | succ fl ih => intro l2 l3 w G h hT hG; exact w_X4_isAnyWork_4_b hA_a1  (fun h hT hG => ih h hT hG) h hT hG
def f_X4_isAnyWork (a1 : Nat) (w : Tw) (Q : Bool → Tw → Prop) : Prop :=
  ∃ fl7, f_X4_isAnyWork_4 a1 Q fl7 false 0 w
theorem w_X4_isAnyWork {t : Nat} {ad : Nat → Nat} {G0 : Wd} {a1 : Nat} (hA_a1 : (a1, 0, 844) ∈ twA) {Q : Bool → Tw → Prop} {w : Tw} {G : Wd} (h : f_X4_isAnyWork a1 w Q) (hT : TwAt t ad w (G 2)) (hG : ∀ r, r ≠ 2 → G r = G0 r) : wp m_X4_isAnyWork 3 0 0 0 [some (vR (some t)), some (vR (some (ad a1))), none, none] [] G (twQ t ad G0 (uB Q)) noX := by
  unfold f_X4_isAnyWork at h
  refine r_iconst dX4_isAnyWork_0 ?_
  refine r_istore_n (L' := [some (vR (some t)), some (vR (some (ad a1))), some (vI 0), none]) dX4_isAnyWork_1 rfl rfl iI cR (by decide) ?_
  refine r_iconst dX4_isAnyWork_2 ?_
  refine r_istore_n (L' := [some (vR (some t)), some (vR (some (ad a1))), some (vI 0), some (vI 0)]) dX4_isAnyWork_3 rfl rfl iI cI (by decide) ?_
  refine wp.cast (L' := [some (vR (some t)), some (vR (some (ad a1))), some (vB false), some (vI 0)]) (congrArg (fun q => [some (vR (some t)), some (vR (some (ad a1))), some q, some (vI 0)]) vI0) rfl ?_
  obtain ⟨fl7, h⟩ := h
  exact w_X4_isAnyWork_4 hA_a1 fl7 h hT hG
theorem c_X4_isAnyWork {t : Nat} {ad : Nat → Nat} {G0 : Wd} {a1 : Nat} (hA_a1 : (a1, 0, 844) ∈ twA) {Q : Bool → Tw → Prop} {w : Tw} {G : Wd} (h : f_X4_isAnyWork a1 w Q) (hT : TwAt t ad w (G 2)) (hG : ∀ r, r ≠ 2 → G r = G0 r) : call yX4_isAnyWork (Cond.code yX4_isAnyWork cX4_isAnyWork 4 (some .boolean)) 3 0 0 [vR (some t), vR (some (ad a1))] G (twQ t ad G0 (uB Q)) noX :=
  call.enter (by decide +kernel) (la_1 c1R (la_1 c1R (la_nil rfl))) rfl (w_X4_isAnyWork hA_a1 h hT hG)
abbrev m_X4_chosen : Mt := (yX4_chosen.cls, cX4_chosen, 5, some .int, [], yX4_chosen.name)
theorem yo_X4_chosen : yOK yX4_chosen 1 := ⟨by decide +kernel, by decide +kernel, by decide +kernel⟩
def f_X4_chosen_76 (a1 : Nat) (l2 : Int) (l3 : Int) (w : Tw) (Q : Int → Tw → Prop) : Prop :=
  wrA w a1 844 (822 + l3) l2 (fun w14 => Q l2 w14)
theorem w_X4_chosen_76 {t : Nat} {ad : Nat → Nat} {G0 : Wd} {a1 : Nat} (hA_a1 : (a1, 0, 844) ∈ twA) {Q : Int → Tw → Prop} {l2 : Int} {l3 : Int} {w : Tw} {G : Wd} (h : f_X4_chosen_76 a1 l2 l3 w Q) (hT : TwAt t ad w (G 2)) (hG : ∀ r, r ≠ 2 → G r = G0 r) : wp m_X4_chosen 5 0 0 76 [none, some (vR (some (ad a1))), some (vI l2), some (vI l3), none] [] G (twQ t ad G0 (uI Q)) noX := by
  unfold f_X4_chosen_76 at h
  refine r_aload_n dX4_chosen_76 rfl rfl iR ?_
  refine r_sipush dX4_chosen_77 (by decide) ?_
  refine r_iload_n dX4_chosen_80 rfl rfl iI ?_
  refine r_iadd dX4_chosen_81 ?_
  refine r_iload_n dX4_chosen_82 rfl rfl iI ?_
  refine t_iast hT hG dX4_chosen_83 hA_a1 (by decide) h (fun w14 G h hT hG => ?_)
  refine r_iload_n dX4_chosen_84 rfl rfl iI ?_
  exact r_iret rfl dX4_chosen_85 ⟨_, hT, hG, _, rfl, h⟩
def f_X4_chosen_52 (a1 : Nat) (w : Tw) (Q : Int → Tw → Prop) : Prop :=
  f_X4_creditClass a1 w (fun x16 w15 => f_X4_behindLast a1 x16 w15 (fun x18 w17 => rdA w17 a1 844 (818 + x16) (fun _ => wrA w17 a1 844 (818 + x16) ((w17 a1 (818 + x16)) - 1) (fun w19 => f_X4_chosen_76 a1 x18 x16 w19 Q))))
theorem w_X4_chosen_52 {t : Nat} {ad : Nat → Nat} {G0 : Wd} {a1 : Nat} (hA_a1 : (a1, 0, 844) ∈ twA) {Q : Int → Tw → Prop} {w : Tw} {G : Wd} (h : f_X4_chosen_52 a1 w Q) (hT : TwAt t ad w (G 2)) (hG : ∀ r, r ≠ 2 → G r = G0 r) : wp m_X4_chosen 5 0 0 52 [some (vR (some t)), some (vR (some (ad a1))), none, none, none] [] G (twQ t ad G0 (uI Q)) noX := by
  unfold f_X4_chosen_52 at h
  refine r_aload_n dX4_chosen_52 rfl rfl iR ?_
  refine r_aload_n dX4_chosen_53 rfl rfl iR ?_
  refine r_callV dX4_chosen_54 (tisC hT) (c_X4_creditClass hA_a1 h hT hG) q2514 q2516 qs67 q117 q2517 rfl yo_X4_creditClass rfl (by decide) (by decide) rfl rc0 (by decide) (Nat.le_refl _) (Nat.le_refl _) (tofI fun x16 w15 G h hT hG => ?_) nox
  refine r_istore_n (L' := [some (vR (some t)), some (vR (some (ad a1))), none, some (vI x16), none]) dX4_chosen_57 rfl rfl iI cN (by decide) ?_
  refine r_aload_n dX4_chosen_58 rfl rfl iR ?_
  refine r_aload_n dX4_chosen_59 rfl rfl iR ?_
  refine r_iload_n dX4_chosen_60 rfl rfl iI ?_
  refine r_callV dX4_chosen_61 (tisC hT) (c_X4_behindLast hA_a1 h hT hG) q2510 q2512 qs66 q117 q2513 rfl yo_X4_behindLast rfl (by decide) (by decide) rfl rc0 (by decide) (Nat.le_refl _) (Nat.le_refl _) (tofI fun x18 w17 G h hT hG => ?_) nox
  refine r_istore_n (L' := [some (vR (some t)), some (vR (some (ad a1))), some (vI x18), some (vI x16), none]) dX4_chosen_64 rfl rfl iI cR (by decide) ?_
  refine r_aload_n dX4_chosen_65 rfl rfl iR ?_
  refine r_sipush dX4_chosen_66 (by decide) ?_
  refine r_iload_n dX4_chosen_69 rfl rfl iI ?_
  refine r_iadd dX4_chosen_70 ?_
  refine r_dup2 dX4_chosen_71 c1I c1R ?_
  refine t_iald hT dX4_chosen_72 hA_a1 (by decide) h (fun h => ?_)
  refine r_iconst dX4_chosen_73 ?_
  refine r_isub dX4_chosen_74 ?_
  refine t_iast hT hG dX4_chosen_75 hA_a1 (by decide) h (fun w19 G h hT hG => ?_)
  refine wp.locals (L' := [none, some (vR (some (ad a1))), some (vI x18), some (vI x16), none]) (ls_n (ls_s (ls_s (ls_s (ls_n ls_0))))) ?_
  exact w_X4_chosen_76 hA_a1 h hT hG
def f_X4_chosen_24_b (a1 : Nat) (k24 : Int → Tw → Prop) (l4 : Int) (w : Tw) (Q : Int → Tw → Prop) : Prop :=
  br l4 4 ((4 : Int) ≤ l4) (f_X4_chosen_52 a1 w Q) (rdA w a1 844 (814 + l4) (fun _ => wrA w a1 844 (818 + l4) (w a1 (814 + l4)) (fun w20 => k24 (l4 + 1) w20)))
theorem w_X4_chosen_24_b {t : Nat} {ad : Nat → Nat} {G0 : Wd} {a1 : Nat} (hA_a1 : (a1, 0, 844) ∈ twA) {Q : Int → Tw → Prop} {k24 : Int → Tw → Prop} (hk24 : ∀ {l4 : Int} {w : Tw} {G : Wd}, k24 l4 w → TwAt t ad w (G 2) → (∀ r, r ≠ 2 → G r = G0 r) → wp m_X4_chosen 5 0 0 24 [some (vR (some t)), some (vR (some (ad a1))), none, none, some (vI l4)] [] G (twQ t ad G0 (uI Q)) noX) {l4 : Int} {w : Tw} {G : Wd} (h : f_X4_chosen_24_b a1 k24 l4 w Q) (hT : TwAt t ad w (G 2)) (hG : ∀ r, r ≠ 2 → G r = G0 r) : wp m_X4_chosen 5 0 0 24 [some (vR (some t)), some (vR (some (ad a1))), none, none, some (vI l4)] [] G (twQ t ad G0 (uI Q)) noX := by
  unfold f_X4_chosen_24_b at h
  refine r_iload dX4_chosen_24 rfl iI ?_
  refine r_iconst dX4_chosen_26 ?_
  refine r_icmp_ge (tgt := 52) dX4_chosen_27 (by decide) h (fun h => ?_) (fun h => ?_)
  · refine wp.locals (L' := [some (vR (some t)), some (vR (some (ad a1))), none, none, none]) (ls_s (ls_s (ls_n (ls_n (ls_n ls_0))))) ?_
    exact w_X4_chosen_52 hA_a1 h hT hG
  · refine r_aload_n dX4_chosen_30 rfl rfl iR ?_
    refine r_sipush dX4_chosen_31 (by decide) ?_
    refine r_iload dX4_chosen_34 rfl iI ?_
    refine r_iadd dX4_chosen_36 ?_
    refine r_aload_n dX4_chosen_37 rfl rfl iR ?_
    refine r_sipush dX4_chosen_38 (by decide) ?_
    refine r_iload dX4_chosen_41 rfl iI ?_
    refine r_iadd dX4_chosen_43 ?_
    refine t_iald hT dX4_chosen_44 hA_a1 (by decide) h (fun h => ?_)
    refine t_iast hT hG dX4_chosen_45 hA_a1 (by decide) h (fun w20 G h hT hG => ?_)
    refine r_iinc (L' := [some (vR (some t)), some (vR (some (ad a1))), none, none, some (vI (l4 + 1))]) dX4_chosen_46 rfl rfl cN (by decide) ?_
    refine r_goto (tgt := 24) dX4_chosen_49 (by decide) ?_
    exact hk24 h hT hG
def f_X4_chosen_24 (a1 : Nat) (Q : Int → Tw → Prop) : Nat → Int → Tw → Prop
  | 0, _, _ => False
  | fl + 1, l4, w => f_X4_chosen_24_b  a1  (fun l4 w => f_X4_chosen_24  a1  Q fl l4 w) l4 w Q
theorem w_X4_chosen_24 {t : Nat} {ad : Nat → Nat} {G0 : Wd} {a1 : Nat} (hA_a1 : (a1, 0, 844) ∈ twA) {Q : Int → Tw → Prop} : ∀ (fl : Nat) {l4 : Int} {w : Tw} {G : Wd}, f_X4_chosen_24 a1 Q fl l4 w → TwAt t ad w (G 2) → (∀ r, r ≠ 2 → G r = G0 r) → wp m_X4_chosen 5 0 0 24 [some (vR (some t)), some (vR (some (ad a1))), none, none, some (vI l4)] [] G (twQ t ad G0 (uI Q)) noX := by
  intro fl
  induction fl with
  | zero => intro l4 w G h; exact (show False from h).elim
  | succ fl ih => intro l4 w G h hT hG; exact w_X4_chosen_24_b hA_a1  (fun h hT hG => ih h hT hG) h hT hG
def f_X4_chosen (a1 : Nat) (w : Tw) (Q : Int → Tw → Prop) : Prop :=
  f_X4_behindLast a1 0 w (fun x22 w21 => br0 x22 (0 ≤ x22) (f_X4_chosen_76 a1 x22 0 w21 Q) (f_X4_creditClass a1 w21 (fun x24 w23 => br0 x24 (0 ≤ x24) (f_X4_chosen_52 a1 w23 Q) (∃ fl25, f_X4_chosen_24 a1 Q fl25 1 w23))))
theorem w_X4_chosen {t : Nat} {ad : Nat → Nat} {G0 : Wd} {a1 : Nat} (hA_a1 : (a1, 0, 844) ∈ twA) {Q : Int → Tw → Prop} {w : Tw} {G : Wd} (h : f_X4_chosen a1 w Q) (hT : TwAt t ad w (G 2)) (hG : ∀ r, r ≠ 2 → G r = G0 r) : wp m_X4_chosen 5 0 0 0 [some (vR (some t)), some (vR (some (ad a1))), none, none, none] [] G (twQ t ad G0 (uI Q)) noX := by
  unfold f_X4_chosen at h
  refine r_aload_n dX4_chosen_0 rfl rfl iR ?_
  refine r_aload_n dX4_chosen_1 rfl rfl iR ?_
  refine r_iconst dX4_chosen_2 ?_
  refine r_callV dX4_chosen_3 (tisC hT) (c_X4_behindLast hA_a1 h hT hG) q2510 q2512 qs66 q117 q2513 rfl yo_X4_behindLast rfl (by decide) (by decide) rfl rc0 (by decide) (Nat.le_refl _) (Nat.le_refl _) (tofI fun x22 w21 G h hT hG => ?_) nox
  refine r_istore_n (L' := [some (vR (some t)), some (vR (some (ad a1))), some (vI x22), none, none]) dX4_chosen_6 rfl rfl iI cR (by decide) ?_
  refine r_iconst dX4_chosen_7 ?_
  refine r_istore_n (L' := [some (vR (some t)), some (vR (some (ad a1))), some (vI x22), some (vI 0), none]) dX4_chosen_8 rfl rfl iI cI (by decide) ?_
  refine r_iload_n dX4_chosen_9 rfl rfl iI ?_
  refine r_if_ge (tgt := 76) dX4_chosen_10 (by decide) h (fun h => ?_) (fun h => ?_)
  · refine wp.locals (L' := [none, some (vR (some (ad a1))), some (vI x22), some (vI 0), none]) (ls_n (ls_s (ls_s (ls_s (ls_n ls_0))))) ?_
    exact w_X4_chosen_76 hA_a1 h hT hG
  · refine r_aload_n dX4_chosen_13 rfl rfl iR ?_
    refine r_aload_n dX4_chosen_14 rfl rfl iR ?_
    refine r_callV dX4_chosen_15 (tisC hT) (c_X4_creditClass hA_a1 h hT hG) q2514 q2516 qs67 q117 q2517 rfl yo_X4_creditClass rfl (by decide) (by decide) rfl rc0 (by decide) (Nat.le_refl _) (Nat.le_refl _) (tofI fun x24 w23 G h hT hG => ?_) nox
    refine r_if_ge (tgt := 52) dX4_chosen_18 (by decide) h (fun h => ?_) (fun h => ?_)
    · refine wp.locals (L' := [some (vR (some t)), some (vR (some (ad a1))), none, none, none]) (ls_s (ls_s (ls_n (ls_n (ls_n ls_0))))) ?_
      exact w_X4_chosen_52 hA_a1 h hT hG
    · refine r_iconst dX4_chosen_21 ?_
      refine r_istore (L' := [some (vR (some t)), some (vR (some (ad a1))), some (vI x22), some (vI 0), some (vI 1)]) dX4_chosen_22 rfl iI cI (by decide) ?_
      refine wp.locals (L' := [some (vR (some t)), some (vR (some (ad a1))), none, none, some (vI 1)]) (ls_s (ls_s (ls_n (ls_n (ls_s ls_0))))) ?_
      obtain ⟨fl25, h⟩ := h
      exact w_X4_chosen_24 hA_a1 fl25 h hT hG
theorem c_X4_chosen {t : Nat} {ad : Nat → Nat} {G0 : Wd} {a1 : Nat} (hA_a1 : (a1, 0, 844) ∈ twA) {Q : Int → Tw → Prop} {w : Tw} {G : Wd} (h : f_X4_chosen a1 w Q) (hT : TwAt t ad w (G 2)) (hG : ∀ r, r ≠ 2 → G r = G0 r) : call yX4_chosen (Cond.code yX4_chosen cX4_chosen 5 (some .int)) 5 0 0 [vR (some t), vR (some (ad a1))] G (twQ t ad G0 (uI Q)) noX :=
  call.enter (by decide +kernel) (la_1 c1R (la_1 c1R (la_nil rfl))) rfl (w_X4_chosen hA_a1 h hT hG)
abbrev m_X4_ruled : Mt := (yX4_ruled.cls, cX4_ruled, 4, some .int, [], yX4_ruled.name)
theorem yo_X4_ruled : yOK yX4_ruled 0 := ⟨by decide +kernel, by decide +kernel, by decide +kernel⟩
def f_X4_ruled_119 (k4 : Int → Int → Tw → Prop) (l1 : Int) (l2 : Int) (w : Tw) (Q : Int → Tw → Prop) : Prop :=
  k4 l1 (l2 + 1) w
theorem w_X4_ruled_119 {t : Nat} {ad : Nat → Nat} {G0 : Wd} {Q : Int → Tw → Prop} {k4 : Int → Int → Tw → Prop} (hk4 : ∀ {l1 : Int} {l2 : Int} {w : Tw} {G : Wd}, k4 l1 l2 w → TwAt t ad w (G 2) → (∀ r, r ≠ 2 → G r = G0 r) → wp m_X4_ruled 3 0 0 4 [some (vR (some t)), some (vI l1), some (vI l2), none] [] G (twQ t ad G0 (uI Q)) noX) {l1 : Int} {l2 : Int} {w : Tw} {G : Wd} (h : f_X4_ruled_119 k4 l1 l2 w Q) (hT : TwAt t ad w (G 2)) (hG : ∀ r, r ≠ 2 → G r = G0 r) : wp m_X4_ruled 3 0 0 119 [some (vR (some t)), some (vI l1), some (vI l2), none] [] G (twQ t ad G0 (uI Q)) noX := by
  unfold f_X4_ruled_119 at h
  refine r_iinc (L' := [some (vR (some t)), some (vI l1), some (vI (l2 + 1)), none]) dX4_ruled_119 rfl rfl cI (by decide) ?_
  refine r_goto (tgt := 4) dX4_ruled_122 (by decide) ?_
  exact hk4 h hT hG
def f_X4_ruled_115 (k4 : Int → Int → Tw → Prop) (l1 : Int) (l2 : Int) (s1 : Int) (s2 : Int) (w : Tw) (Q : Int → Tw → Prop) : Prop :=
  wrA w 12 80 s1 s2 (fun w13 => f_X4_ruled_119 k4 (l1 + 1) l2 w13 Q)
theorem w_X4_ruled_115 {t : Nat} {ad : Nat → Nat} {G0 : Wd} {Q : Int → Tw → Prop} {k4 : Int → Int → Tw → Prop} (hk4 : ∀ {l1 : Int} {l2 : Int} {w : Tw} {G : Wd}, k4 l1 l2 w → TwAt t ad w (G 2) → (∀ r, r ≠ 2 → G r = G0 r) → wp m_X4_ruled 3 0 0 4 [some (vR (some t)), some (vI l1), some (vI l2), none] [] G (twQ t ad G0 (uI Q)) noX) {l1 : Int} {l2 : Int} {s1 : Int} {s2 : Int} {w : Tw} {G : Wd} (h : f_X4_ruled_115 k4 l1 l2 s1 s2 w Q) (hT : TwAt t ad w (G 2)) (hG : ∀ r, r ≠ 2 → G r = G0 r) : wp m_X4_ruled 3 0 0 115 [some (vR (some t)), some (vI l1), some (vI l2), none] [vI s2, vI s1, vR (some (ad 12))] G (twQ t ad G0 (uI Q)) noX := by
  unfold f_X4_ruled_115 at h
  refine t_iast hT hG dX4_ruled_115 tA12 (by decide) h (fun w13 G h hT hG => ?_)
  refine r_iinc (L' := [some (vR (some t)), some (vI (l1 + 1)), some (vI l2), none]) dX4_ruled_116 rfl rfl cR (by decide) ?_
  exact w_X4_ruled_119 hk4 h hT hG
def f_X4_ruled_147 (s0 : Bool) (s1 : Bool) (w : Tw) (Q : Int → Tw → Prop) : Prop :=
  f_X4_flag s1 w (fun x15 w14 => Q (wr ((b2i s0) + x15)) w14)
theorem w_X4_ruled_147 {t : Nat} {ad : Nat → Nat} {G0 : Wd} {Q : Int → Tw → Prop} {s0 : Bool} {s1 : Bool} {w : Tw} {G : Wd} (h : f_X4_ruled_147 s0 s1 w Q) (hT : TwAt t ad w (G 2)) (hG : ∀ r, r ≠ 2 → G r = G0 r) : wp m_X4_ruled 3 0 0 147 [none, none, none, none] [vB s1, vB s0] G (twQ t ad G0 (uI Q)) noX := by
  unfold f_X4_ruled_147 at h
  refine r_callS dX4_ruled_147 (c_X4_flag h hT hG) q2162 q2163 q117 q2164 yo_X4_flag rfl (by decide) (by decide) rfl (rc1 c1B rc0) (by decide) (Nat.le_refl _) (Nat.le_refl _) (tofI fun x15 w14 G h hT hG => ?_) nox
  refine wp.cast (st' := [vI x15, vI (b2i s0)]) rfl (congrArg (fun q => [vI x15, q]) (vBI s0)) ?_
  refine r_iaddW dX4_ruled_150 ?_
  refine r_goto (tgt := 160) dX4_ruled_151 (by decide) ?_
  exact r_iret rfl dX4_ruled_160 ⟨_, hT, hG, _, rfl, h⟩
def f_X4_ruled_4_b (k4 : Int → Int → Tw → Prop) (l1 : Int) (l2 : Int) (w : Tw) (Q : Int → Tw → Prop) : Prop :=
  br l2 (w 10 0) ((w 10 0) ≤ l2) (br0 (w 10 0) (¬ (w 10 0) = 0) (rdA w 12 80 0 (fun _ => Q (w 12 0) w)) (rdA w 13 7 0 (fun _ => br0 (w 13 0) ((w 13 0) ≤ 0) (f_X4_ruled_147 true false w Q) (f_X4_ruled_147 true true w Q)))) (rdA w 8 80 l2 (fun _ => br (w 8 l2) 3000 (¬ (w 8 l2) = (3000 : Int)) (br (w 8 l2) 2000 ((w 8 l2) < (2000 : Int)) (br (w 8 l2) 1000 ((w 8 l2) < (1000 : Int)) (f_X4_ruled_115 k4 l1 l2 l1 (w 8 l2) w Q) (rdA w 13 7 (wr ((w 8 l2) - 1000)) (fun _ => f_X4_ruled_115 k4 l1 l2 l1 (w 13 (wr ((w 8 l2) - 1000))) w Q))) (rdA w 12 80 (wr ((l1 + (-1)) - 1)) (fun _ => rdA w 12 80 (l1 + (-1)) (fun _ => f_X4_worked (wr ((w 8 l2) - 2000)) (w 12 (wr ((l1 + (-1)) - 1))) (w 12 (l1 + (-1))) w (fun x17 w16 => wrA w16 12 80 (wr ((l1 + (-1)) - 1)) x17 (fun w18 => f_X4_ruled_119 k4 (l1 + (-1)) l2 w18 Q)))))) (rdA w 12 80 (wr (l1 - 1)) (fun _ => wrA w 12 80 (wr (l1 - 1)) (wr (-(w 12 (wr (l1 - 1))))) (fun w19 => f_X4_ruled_119 k4 l1 l2 w19 Q)))))
theorem w_X4_ruled_4_b {t : Nat} {ad : Nat → Nat} {G0 : Wd} {Q : Int → Tw → Prop} {k4 : Int → Int → Tw → Prop} (hk4 : ∀ {l1 : Int} {l2 : Int} {w : Tw} {G : Wd}, k4 l1 l2 w → TwAt t ad w (G 2) → (∀ r, r ≠ 2 → G r = G0 r) → wp m_X4_ruled 3 0 0 4 [some (vR (some t)), some (vI l1), some (vI l2), none] [] G (twQ t ad G0 (uI Q)) noX) {l1 : Int} {l2 : Int} {w : Tw} {G : Wd} (h : f_X4_ruled_4_b k4 l1 l2 w Q) (hT : TwAt t ad w (G 2)) (hG : ∀ r, r ≠ 2 → G r = G0 r) : wp m_X4_ruled 3 0 0 4 [some (vR (some t)), some (vI l1), some (vI l2), none] [] G (twQ t ad G0 (uI Q)) noX := by
  unfold f_X4_ruled_4_b at h
  refine r_iload_n dX4_ruled_4 rfl rfl iI ?_
  refine r_aload_n dX4_ruled_5 rfl rfl iR ?_
  refine t_getI (j := 10) hT dX4_ruled_6 (fg1 (f := 10) fX4 (by decide) q2231 rfl) rfl ?_
  refine r_icmp_ge (tgt := 125) dX4_ruled_9 (by decide) h (fun h => ?_) (fun h => ?_)
  · refine r_aload_n dX4_ruled_125 rfl rfl iR ?_
    refine t_getI (j := 10) hT dX4_ruled_126 (fg1 (f := 10) fX4 (by decide) q2231 rfl) rfl ?_
    refine r_if_ne (tgt := 154) dX4_ruled_129 (by decide) h (fun h => ?_) (fun h => ?_)
    · refine r_aload_n dX4_ruled_154 rfl rfl iR ?_
      refine t_getA (j := 12) hT dX4_ruled_155 (fg1 (f := 12) fX4 (by decide) q2233 rfl) rfl ?_
      refine r_iconst dX4_ruled_158 ?_
      refine t_iald hT dX4_ruled_159 tA12 (by decide) h (fun h => ?_)
      exact r_iret rfl dX4_ruled_160 ⟨_, hT, hG, _, rfl, h⟩
    · refine r_iconst dX4_ruled_132 ?_
      refine r_aload_n dX4_ruled_133 rfl rfl iR ?_
      refine t_getA (j := 13) hT dX4_ruled_134 (fg1 (f := 13) fX4 (by decide) q2234 rfl) rfl ?_
      refine r_iconst dX4_ruled_137 ?_
      refine t_iald hT dX4_ruled_138 tA13 (by decide) h (fun h => ?_)
      refine r_if_le (tgt := 146) dX4_ruled_139 (by decide) h (fun h => ?_) (fun h => ?_)
      · refine r_iconst dX4_ruled_146 ?_
        refine wp.cast (st' := [vB false, vI 1]) rfl (congrArg (fun q => [q, vI 1]) vI0) ?_
        refine wp.cast (st' := [vB false, vB true]) rfl (congrArg (fun q => [vB false, q]) vI1) ?_
        refine wp.locals (L' := [none, none, none, none]) (ls_n (ls_n (ls_n (ls_n ls_0)))) ?_
        exact w_X4_ruled_147 h hT hG
      · refine r_iconst dX4_ruled_142 ?_
        refine r_goto (tgt := 147) dX4_ruled_143 (by decide) ?_
        refine wp.cast (st' := [vB true, vI 1]) rfl (congrArg (fun q => [q, vI 1]) vI1) ?_
        refine wp.cast (st' := [vB true, vB true]) rfl (congrArg (fun q => [vB true, q]) vI1) ?_
        refine wp.locals (L' := [none, none, none, none]) (ls_n (ls_n (ls_n (ls_n ls_0)))) ?_
        exact w_X4_ruled_147 h hT hG
  · refine r_aload_n dX4_ruled_12 rfl rfl iR ?_
    refine t_getA (j := 8) hT dX4_ruled_13 (fg1 (f := 8) fX4 (by decide) q2229 rfl) rfl ?_
    refine r_iload_n dX4_ruled_16 rfl rfl iI ?_
    refine t_iald hT dX4_ruled_17 tA8 (by decide) h (fun h => ?_)
    refine r_istore_n (L' := [some (vR (some t)), some (vI l1), some (vI l2), some (vI (w 8 l2))]) dX4_ruled_18 rfl rfl iI cI (by decide) ?_
    refine r_iload_n dX4_ruled_19 rfl rfl iI ?_
    refine r_sipush dX4_ruled_20 (by decide) ?_
    refine r_icmp_ne (tgt := 46) dX4_ruled_23 (by decide) h (fun h => ?_) (fun h => ?_)
    · refine r_iload_n dX4_ruled_46 rfl rfl iI ?_
      refine r_sipush dX4_ruled_47 (by decide) ?_
      refine r_icmp_lt (tgt := 89) dX4_ruled_50 (by decide) h (fun h => ?_) (fun h => ?_)
      · refine r_aload_n dX4_ruled_89 rfl rfl iR ?_
        refine t_getA (j := 12) hT dX4_ruled_90 (fg1 (f := 12) fX4 (by decide) q2233 rfl) rfl ?_
        refine r_iload_n dX4_ruled_93 rfl rfl iI ?_
        refine r_iload_n dX4_ruled_94 rfl rfl iI ?_
        refine r_sipush dX4_ruled_95 (by decide) ?_
        refine r_icmp_lt (tgt := 114) dX4_ruled_98 (by decide) h (fun h => ?_) (fun h => ?_)
        · refine r_iload_n dX4_ruled_114 rfl rfl iI ?_
          refine wp.locals (L' := [some (vR (some t)), some (vI l1), some (vI l2), none]) (ls_s (ls_s (ls_s (ls_n ls_0)))) ?_
          exact w_X4_ruled_115 hk4 h hT hG
        · refine r_aload_n dX4_ruled_101 rfl rfl iR ?_
          refine t_getA (j := 13) hT dX4_ruled_102 (fg1 (f := 13) fX4 (by decide) q2234 rfl) rfl ?_
          refine r_iload_n dX4_ruled_105 rfl rfl iI ?_
          refine r_sipush dX4_ruled_106 (by decide) ?_
          refine r_isubW dX4_ruled_109 ?_
          refine t_iald hT dX4_ruled_110 tA13 (by decide) h (fun h => ?_)
          refine r_goto (tgt := 115) dX4_ruled_111 (by decide) ?_
          refine wp.locals (L' := [some (vR (some t)), some (vI l1), some (vI l2), none]) (ls_s (ls_s (ls_s (ls_n ls_0)))) ?_
          exact w_X4_ruled_115 hk4 h hT hG
      · refine r_iinc (L' := [some (vR (some t)), some (vI (l1 + (-1))), some (vI l2), some (vI (w 8 l2))]) dX4_ruled_53 rfl rfl cR (by decide) ?_
        refine r_aload_n dX4_ruled_56 rfl rfl iR ?_
        refine t_getA (j := 12) hT dX4_ruled_57 (fg1 (f := 12) fX4 (by decide) q2233 rfl) rfl ?_
        refine r_iload_n dX4_ruled_60 rfl rfl iI ?_
        refine r_iconst dX4_ruled_61 ?_
        refine r_isubW dX4_ruled_62 ?_
        refine r_iload_n dX4_ruled_63 rfl rfl iI ?_
        refine r_sipush dX4_ruled_64 (by decide) ?_
        refine r_isubW dX4_ruled_67 ?_
        refine r_aload_n dX4_ruled_68 rfl rfl iR ?_
        refine t_getA (j := 12) hT dX4_ruled_69 (fg1 (f := 12) fX4 (by decide) q2233 rfl) rfl ?_
        refine r_iload_n dX4_ruled_72 rfl rfl iI ?_
        refine r_iconst dX4_ruled_73 ?_
        refine r_isubW dX4_ruled_74 ?_
        refine t_iald hT dX4_ruled_75 tA12 (by decide) h (fun h => ?_)
        refine r_aload_n dX4_ruled_76 rfl rfl iR ?_
        refine t_getA (j := 12) hT dX4_ruled_77 (fg1 (f := 12) fX4 (by decide) q2233 rfl) rfl ?_
        refine r_iload_n dX4_ruled_80 rfl rfl iI ?_
        refine t_iald hT dX4_ruled_81 tA12 (by decide) h (fun h => ?_)
        refine r_callS dX4_ruled_82 (c_X4_worked h hT hG) q2530 q2531 q117 q2532 yo_X4_worked rfl (by decide) (by decide) rfl (rc1 c1I (rc1 c1R rc0)) (by decide) (Nat.le_refl _) (Nat.le_refl _) (tofI fun x17 w16 G h hT hG => ?_) nox
        refine t_iast hT hG dX4_ruled_85 tA12 (by decide) h (fun w18 G h hT hG => ?_)
        refine r_goto (tgt := 119) dX4_ruled_86 (by decide) ?_
        refine wp.locals (L' := [some (vR (some t)), some (vI (l1 + (-1))), some (vI l2), none]) (ls_s (ls_s (ls_s (ls_n ls_0)))) ?_
        exact w_X4_ruled_119 hk4 h hT hG
    · refine r_aload_n dX4_ruled_26 rfl rfl iR ?_
      refine t_getA (j := 12) hT dX4_ruled_27 (fg1 (f := 12) fX4 (by decide) q2233 rfl) rfl ?_
      refine r_iload_n dX4_ruled_30 rfl rfl iI ?_
      refine r_iconst dX4_ruled_31 ?_
      refine r_isubW dX4_ruled_32 ?_
      refine r_aload_n dX4_ruled_33 rfl rfl iR ?_
      refine t_getA (j := 12) hT dX4_ruled_34 (fg1 (f := 12) fX4 (by decide) q2233 rfl) rfl ?_
      refine r_iload_n dX4_ruled_37 rfl rfl iI ?_
      refine r_iconst dX4_ruled_38 ?_
      refine r_isubW dX4_ruled_39 ?_
      refine t_iald hT dX4_ruled_40 tA12 (by decide) h (fun h => ?_)
      refine r_inegW dX4_ruled_41 ?_
      refine t_iast hT hG dX4_ruled_42 tA12 (by decide) h (fun w19 G h hT hG => ?_)
      refine r_goto (tgt := 119) dX4_ruled_43 (by decide) ?_
      refine wp.locals (L' := [some (vR (some t)), some (vI l1), some (vI l2), none]) (ls_s (ls_s (ls_s (ls_n ls_0)))) ?_
      exact w_X4_ruled_119 hk4 h hT hG
def f_X4_ruled_4 (Q : Int → Tw → Prop) : Nat → Int → Int → Tw → Prop
  | 0, _, _, _ => False
  | fl + 1, l1, l2, w => f_X4_ruled_4_b    (fun l1 l2 w => f_X4_ruled_4    Q fl l1 l2 w) l1 l2 w Q
theorem w_X4_ruled_4 {t : Nat} {ad : Nat → Nat} {G0 : Wd} {Q : Int → Tw → Prop} : ∀ (fl : Nat) {l1 : Int} {l2 : Int} {w : Tw} {G : Wd}, f_X4_ruled_4 Q fl l1 l2 w → TwAt t ad w (G 2) → (∀ r, r ≠ 2 → G r = G0 r) → wp m_X4_ruled 3 0 0 4 [some (vR (some t)), some (vI l1), some (vI l2), none] [] G (twQ t ad G0 (uI Q)) noX := by
  intro fl
  induction fl with
  | zero => intro l1 l2 w G h; exact (show False from h).elim
  | succ fl ih => intro l1 l2 w G h hT hG; exact w_X4_ruled_4_b   (fun h hT hG => ih h hT hG) h hT hG
def f_X4_ruled (w : Tw) (Q : Int → Tw → Prop) : Prop :=
  ∃ fl20, f_X4_ruled_4 Q fl20 0 0 w
theorem w_X4_ruled {t : Nat} {ad : Nat → Nat} {G0 : Wd} {Q : Int → Tw → Prop} {w : Tw} {G : Wd} (h : f_X4_ruled w Q) (hT : TwAt t ad w (G 2)) (hG : ∀ r, r ≠ 2 → G r = G0 r) : wp m_X4_ruled 3 0 0 0 [some (vR (some t)), none, none, none] [] G (twQ t ad G0 (uI Q)) noX := by
  unfold f_X4_ruled at h
  refine r_iconst dX4_ruled_0 ?_
  refine r_istore_n (L' := [some (vR (some t)), some (vI 0), none, none]) dX4_ruled_1 rfl rfl iI cR (by decide) ?_
  refine r_iconst dX4_ruled_2 ?_
  refine r_istore_n (L' := [some (vR (some t)), some (vI 0), some (vI 0), none]) dX4_ruled_3 rfl rfl iI cI (by decide) ?_
  obtain ⟨fl20, h⟩ := h
  exact w_X4_ruled_4 fl20 h hT hG
theorem c_X4_ruled {t : Nat} {ad : Nat → Nat} {G0 : Wd} {Q : Int → Tw → Prop} {w : Tw} {G : Wd} (h : f_X4_ruled w Q) (hT : TwAt t ad w (G 2)) (hG : ∀ r, r ≠ 2 → G r = G0 r) : call yX4_ruled (Cond.code yX4_ruled cX4_ruled 4 (some .int)) 3 0 0 [vR (some t)] G (twQ t ad G0 (uI Q)) noX :=
  call.enter (by decide +kernel) (la_1 c1R (la_nil rfl)) rfl (w_X4_ruled  h hT hG)
abbrev m_X4_takes : Mt := (yX4_takes.cls, cX4_takes, 3, some .int, [], yX4_takes.name)
theorem yo_X4_takes : yOK yX4_takes 1 := ⟨by decide +kernel, by decide +kernel, by decide +kernel⟩
def f_X4_takes (a1 : Int) (w : Tw) (Q : Int → Tw → Prop) : Prop :=
  tS w 0 0 0 (fun w11 => f_X4_putsBy  w11 (fun w12 => f_X4_takesOne 20 a1 w12 (fun x14 w13 => br0 x14 (0 ≤ x14) (tS w13 1 0 0 (fun w15 => rdA w15 20 844 (x14 + 2) (fun _ => ok32 (w15 20 (x14 + 2)) (f_X4_enters (w15 20 (x14 + 2)) w15 (fun w16 => rdA w16 20 844 (x14 + 3) (fun _ => ok32 (w16 20 (x14 + 3)) (f_X4_enters (w16 20 (x14 + 3)) w16 (fun w17 => rdA w17 20 844 (x14 + 4) (fun _ => ok32 (w17 20 (x14 + 4)) (f_X4_enters (w17 20 (x14 + 4)) w17 (fun w18 => rdA w18 20 844 (x14 + 0) (fun _ => rdA w18 20 844 (x14 + 1) (fun _ => f_X4_adds ((10 * (w18 20 (x14 + 0))) + (w18 20 (x14 + 1))) w18 (fun x20 w19 => Q x20 w19)))))))))))))) (Q x14 w13))))
theorem w_X4_takes {t : Nat} {ad : Nat → Nat} {G0 : Wd} {Q : Int → Tw → Prop} {a1 : Int} {w : Tw} {G : Wd} (h : f_X4_takes a1 w Q) (hT : TwAt t ad w (G 2)) (hG : ∀ r, r ≠ 2 → G r = G0 r) : wp m_X4_takes 4 0 0 0 [some (vR (some t)), some (vI a1), none] [] G (twQ t ad G0 (uI Q)) noX := by
  unfold f_X4_takes at h
  refine r_aload_n dX4_takes_0 rfl rfl iR ?_
  refine r_iconst dX4_takes_1 ?_
  refine t_put (j := 0) hT hG dX4_takes_2 (fp1 (f := 0) fX4 (by decide) q2221 rfl rfl rfl) tF0 (by decide) h (fun w11 G h hT hG => ?_)
  refine r_aload_n dX4_takes_5 rfl rfl iR ?_
  refine r_callV dX4_takes_6 (tisC hT) (c_X4_putsBy h hT hG) q2399 q2401 qs54 q117 q2402 rfl yo_X4_putsBy rfl (by decide) (by decide) rfl rc0 (by decide) (Nat.le_refl _) (Nat.le_refl _) (tofV fun w12 G h hT hG => ?_) nox
  refine r_aload_n dX4_takes_9 rfl rfl iR ?_
  refine r_aload_n dX4_takes_10 rfl rfl iR ?_
  refine t_getA (j := 20) hT dX4_takes_11 (fg1 (f := 20) fX4 (by decide) q2241 rfl) rfl ?_
  refine r_iload_n dX4_takes_14 rfl rfl iI ?_
  refine r_callV dX4_takes_15 (tisC hT) (c_X4_takesOne tA20 h hT hG) q2544 q2546 qs72 q117 q2547 rfl yo_X4_takesOne rfl (by decide) (by decide) rfl rc0 (by decide) (Nat.le_refl _) (Nat.le_refl _) (tofI fun x14 w13 G h hT hG => ?_) nox
  refine r_istore_n (L' := [some (vR (some t)), some (vI a1), some (vI x14)]) dX4_takes_18 rfl rfl iI cI (by decide) ?_
  refine r_iload_n dX4_takes_19 rfl rfl iI ?_
  refine r_if_ge (tgt := 25) dX4_takes_20 (by decide) h (fun h => ?_) (fun h => ?_)
  · refine r_aload_n dX4_takes_25 rfl rfl iR ?_
    refine r_iconst dX4_takes_26 ?_
    refine t_put (j := 1) hT hG dX4_takes_27 (fp1 (f := 1) fX4 (by decide) q2222 rfl rfl rfl) tF1 (by decide) h (fun w15 G h hT hG => ?_)
    refine r_aload_n dX4_takes_30 rfl rfl iR ?_
    refine r_aload_n dX4_takes_31 rfl rfl iR ?_
    refine t_getA (j := 20) hT dX4_takes_32 (fg1 (f := 20) fX4 (by decide) q2241 rfl) rfl ?_
    refine r_iload_n dX4_takes_35 rfl rfl iI ?_
    refine r_iconst dX4_takes_36 ?_
    refine r_iadd dX4_takes_37 ?_
    refine t_iald hT dX4_takes_38 tA20 (by decide) h (fun h => ?_)
    refine r_i2l dX4_takes_39 h (fun h => ?_)
    refine r_callV dX4_takes_40 (tisC hT) (c_X4_enters h hT hG) q2536 q2538 qs71 q117 q2539 rfl yo_X4_enters rfl (by decide) (by decide) rfl rc0 (by decide) (Nat.le_refl _) (Nat.le_refl _) (tofV fun w16 G h hT hG => ?_) nox
    refine r_aload_n dX4_takes_43 rfl rfl iR ?_
    refine r_aload_n dX4_takes_44 rfl rfl iR ?_
    refine t_getA (j := 20) hT dX4_takes_45 (fg1 (f := 20) fX4 (by decide) q2241 rfl) rfl ?_
    refine r_iload_n dX4_takes_48 rfl rfl iI ?_
    refine r_iconst dX4_takes_49 ?_
    refine r_iadd dX4_takes_50 ?_
    refine t_iald hT dX4_takes_51 tA20 (by decide) h (fun h => ?_)
    refine r_i2l dX4_takes_52 h (fun h => ?_)
    refine r_callV dX4_takes_53 (tisC hT) (c_X4_enters h hT hG) q2536 q2538 qs71 q117 q2539 rfl yo_X4_enters rfl (by decide) (by decide) rfl rc0 (by decide) (Nat.le_refl _) (Nat.le_refl _) (tofV fun w17 G h hT hG => ?_) nox
    refine r_aload_n dX4_takes_56 rfl rfl iR ?_
    refine r_aload_n dX4_takes_57 rfl rfl iR ?_
    refine t_getA (j := 20) hT dX4_takes_58 (fg1 (f := 20) fX4 (by decide) q2241 rfl) rfl ?_
    refine r_iload_n dX4_takes_61 rfl rfl iI ?_
    refine r_iconst dX4_takes_62 ?_
    refine r_iadd dX4_takes_63 ?_
    refine t_iald hT dX4_takes_64 tA20 (by decide) h (fun h => ?_)
    refine r_i2l dX4_takes_65 h (fun h => ?_)
    refine r_callV dX4_takes_66 (tisC hT) (c_X4_enters h hT hG) q2536 q2538 qs71 q117 q2539 rfl yo_X4_enters rfl (by decide) (by decide) rfl rc0 (by decide) (Nat.le_refl _) (Nat.le_refl _) (tofV fun w18 G h hT hG => ?_) nox
    refine r_aload_n dX4_takes_69 rfl rfl iR ?_
    refine r_bipush dX4_takes_70 (by decide) ?_
    refine r_aload_n dX4_takes_72 rfl rfl iR ?_
    refine t_getA (j := 20) hT dX4_takes_73 (fg1 (f := 20) fX4 (by decide) q2241 rfl) rfl ?_
    refine r_iload_n dX4_takes_76 rfl rfl iI ?_
    refine r_iconst dX4_takes_77 ?_
    refine r_iadd dX4_takes_78 ?_
    refine t_iald hT dX4_takes_79 tA20 (by decide) h (fun h => ?_)
    refine r_imul dX4_takes_80 ?_
    refine r_aload_n dX4_takes_81 rfl rfl iR ?_
    refine t_getA (j := 20) hT dX4_takes_82 (fg1 (f := 20) fX4 (by decide) q2241 rfl) rfl ?_
    refine r_iload_n dX4_takes_85 rfl rfl iI ?_
    refine r_iconst dX4_takes_86 ?_
    refine r_iadd dX4_takes_87 ?_
    refine t_iald hT dX4_takes_88 tA20 (by decide) h (fun h => ?_)
    refine r_iadd dX4_takes_89 ?_
    refine r_callV dX4_takes_90 (tisC hT) (c_X4_adds h hT hG) q2450 q2452 qs57 q117 q2453 rfl yo_X4_adds rfl (by decide) (by decide) rfl rc0 (by decide) (Nat.le_refl _) (Nat.le_refl _) (tofI fun x20 w19 G h hT hG => ?_) nox
    exact r_iret rfl dX4_takes_93 ⟨_, hT, hG, _, rfl, h⟩
  · refine r_iload_n dX4_takes_23 rfl rfl iI ?_
    exact r_iret rfl dX4_takes_24 ⟨_, hT, hG, _, rfl, h⟩
theorem c_X4_takes {t : Nat} {ad : Nat → Nat} {G0 : Wd} {a1 : Int} {Q : Int → Tw → Prop} {w : Tw} {G : Wd} (h : f_X4_takes a1 w Q) (hT : TwAt t ad w (G 2)) (hG : ∀ r, r ≠ 2 → G r = G0 r) : call yX4_takes (Cond.code yX4_takes cX4_takes 3 (some .int)) 4 0 0 [vR (some t), vI a1] G (twQ t ad G0 (uI Q)) noX :=
  call.enter (by decide +kernel) (la_1 c1R (la_1 c1I (la_nil rfl))) rfl (w_X4_takes  h hT hG)
abbrev m_X4_callsAnswer : Mt := (yX4_callsAnswer.cls, cX4_callsAnswer, 6, some .int, [], yX4_callsAnswer.name)
theorem yo_X4_callsAnswer : yOK yX4_callsAnswer 3 := ⟨by decide +kernel, by decide +kernel, by decide +kernel⟩
def f_X4_callsAnswer (a1 : Nat) (a2 : Int) (a3 : Int) (w : Tw) (Q : Int → Tw → Prop) : Prop :=
  f_X4_isQueue a2 w (fun x16 w15 => brB x16 (ok32 a3 (f_X4_in a3 0 15 w15 (fun x18 w17 => brB x18 (f_X4_ringOf a1 a2 a3 w17 (fun x20 w19 => br0 x20 (x20 < 0) (f_X4_runOf a1 a2 a3 w19 (fun x22 w21 => br0 x22 (0 ≤ x22) (f_X4_runAt x22 w21 (fun x24 w23 => rdA w23 a1 844 (x24 + 11) (fun _ => br (w23 a1 (x24 + 11)) 2 ((2 : Int) ≤ (w23 a1 (x24 + 11))) (Q 1 w23) (Q (-4) w23)))) (Q (-2) w21))) (f_X4_of a1 a2 3 w19 (fun x26 w25 => f_X4_ringAt a2 (x26 + x20) w25 (fun x28 w27 => rdA w27 a1 844 (x28 + 4) (fun _ => br (w27 a1 (x28 + 4)) 1 (¬ (w27 a1 (x28 + 4)) = (1 : Int)) (Q 0 w27) (Q (-3) w27))))))) (Q (-1) w17)))) (Q (-1) w15))
theorem w_X4_callsAnswer {t : Nat} {ad : Nat → Nat} {G0 : Wd} {a1 : Nat} (hA_a1 : (a1, 0, 844) ∈ twA) {Q : Int → Tw → Prop} {a2 : Int} {a3 : Int} {w : Tw} {G : Wd} (h : f_X4_callsAnswer a1 a2 a3 w Q) (hT : TwAt t ad w (G 2)) (hG : ∀ r, r ≠ 2 → G r = G0 r) : wp m_X4_callsAnswer 4 0 0 0 [some (vR (some t)), some (vR (some (ad a1))), some (vI a2), some (vI a3), none, none] [] G (twQ t ad G0 (uI Q)) noX := by
  unfold f_X4_callsAnswer at h
  refine r_aload_n dX4_callsAnswer_0 rfl rfl iR ?_
  refine r_iload_n dX4_callsAnswer_1 rfl rfl iI ?_
  refine r_callV dX4_callsAnswer_2 (tisC hT) (c_X4_isQueue h hT hG) q2370 q2372 qs52 q117 q2373 rfl yo_X4_isQueue rfl (by decide) (by decide) rfl rc0 (by decide) (Nat.le_refl _) (Nat.le_refl _) (tofB fun x16 w15 G h hT hG => ?_) nox
  refine r_ifZ_eq (tgt := 20) dX4_callsAnswer_5 (by decide) h (fun h => ?_) (fun h => ?_)
  · refine r_iconst dX4_callsAnswer_20 ?_
    exact r_iret rfl dX4_callsAnswer_21 ⟨_, hT, hG, _, rfl, h⟩
  · refine r_iload_n dX4_callsAnswer_8 rfl rfl iI ?_
    refine r_i2l dX4_callsAnswer_9 h (fun h => ?_)
    refine r_lconst (y := 0) dX4_callsAnswer_10 (by decide) ?_
    refine r_ldc2 (x := 15) dX4_callsAnswer_11 q2560 (by decide) ?_
    refine r_callS dX4_callsAnswer_14 (c_X4_in h hT hG) q2133 q2134 q117 q2135 yo_X4_in rfl (by decide) (by decide) rfl rc0 (by decide) (Nat.le_refl _) (Nat.le_refl _) (tofB fun x18 w17 G h hT hG => ?_) nox
    refine r_ifZ_ne (tgt := 22) dX4_callsAnswer_17 (by decide) h (fun h => ?_) (fun h => ?_)
    · refine r_aload_n dX4_callsAnswer_22 rfl rfl iR ?_
      refine r_iload_n dX4_callsAnswer_23 rfl rfl iI ?_
      refine r_iload_n dX4_callsAnswer_24 rfl rfl iI ?_
      refine r_callS dX4_callsAnswer_25 (c_X4_ringOf hA_a1 h hT hG) q2416 q2417 q117 q2418 yo_X4_ringOf rfl (by decide) (by decide) rfl rc0 (by decide) (Nat.le_refl _) (Nat.le_refl _) (tofI fun x20 w19 G h hT hG => ?_) nox
      refine r_istore (L' := [some (vR (some t)), some (vR (some (ad a1))), some (vI a2), some (vI a3), some (vI x20), none]) dX4_callsAnswer_28 rfl iI cI (by decide) ?_
      refine r_iload dX4_callsAnswer_30 rfl iI ?_
      refine r_if_lt (tgt := 63) dX4_callsAnswer_32 (by decide) h (fun h => ?_) (fun h => ?_)
      · refine r_aload_n dX4_callsAnswer_63 rfl rfl iR ?_
        refine r_iload_n dX4_callsAnswer_64 rfl rfl iI ?_
        refine r_iload_n dX4_callsAnswer_65 rfl rfl iI ?_
        refine r_callS dX4_callsAnswer_66 (c_X4_runOf hA_a1 h hT hG) q2422 q2423 q117 q2424 yo_X4_runOf rfl (by decide) (by decide) rfl rc0 (by decide) (Nat.le_refl _) (Nat.le_refl _) (tofI fun x22 w21 G h hT hG => ?_) nox
        refine r_istore (L' := [some (vR (some t)), some (vR (some (ad a1))), some (vI a2), some (vI a3), some (vI x20), some (vI x22)]) dX4_callsAnswer_69 rfl iI cI (by decide) ?_
        refine r_iload dX4_callsAnswer_71 rfl iI ?_
        refine r_if_ge (tgt := 81) dX4_callsAnswer_73 (by decide) h (fun h => ?_) (fun h => ?_)
        · refine r_aload_n dX4_callsAnswer_81 rfl rfl iR ?_
          refine r_iload dX4_callsAnswer_82 rfl iI ?_
          refine r_callS dX4_callsAnswer_84 (c_X4_runAt h hT hG) q2425 q2426 q117 q2427 yo_X4_runAt rfl (by decide) (by decide) rfl (rc1 c1R rc0) (by decide) (Nat.le_refl _) (Nat.le_refl _) (tofI fun x24 w23 G h hT hG => ?_) nox
          refine r_bipush dX4_callsAnswer_87 (by decide) ?_
          refine r_iadd dX4_callsAnswer_89 ?_
          refine t_iald hT dX4_callsAnswer_90 hA_a1 (by decide) h (fun h => ?_)
          refine r_iconst dX4_callsAnswer_91 ?_
          refine r_icmp_ge (tgt := 100) dX4_callsAnswer_92 (by decide) h (fun h => ?_) (fun h => ?_)
          · refine r_iconst dX4_callsAnswer_100 ?_
            exact r_iret rfl dX4_callsAnswer_101 ⟨_, hT, hG, _, rfl, h⟩
          · refine r_bipush dX4_callsAnswer_95 (by decide) ?_
            refine r_goto (tgt := 101) dX4_callsAnswer_97 (by decide) ?_
            exact r_iret rfl dX4_callsAnswer_101 ⟨_, hT, hG, _, rfl, h⟩
        · refine r_bipush dX4_callsAnswer_76 (by decide) ?_
          refine r_goto (tgt := 101) dX4_callsAnswer_78 (by decide) ?_
          exact r_iret rfl dX4_callsAnswer_101 ⟨_, hT, hG, _, rfl, h⟩
      · refine r_aload_n dX4_callsAnswer_35 rfl rfl iR ?_
        refine r_iload_n dX4_callsAnswer_36 rfl rfl iI ?_
        refine r_aload_n dX4_callsAnswer_37 rfl rfl iR ?_
        refine r_iload_n dX4_callsAnswer_38 rfl rfl iI ?_
        refine r_iconst dX4_callsAnswer_39 ?_
        refine r_callS dX4_callsAnswer_40 (c_X4_of hA_a1 h hT hG) q2379 q2380 q117 q2381 yo_X4_of rfl (by decide) (by decide) rfl (rc1 c1I (rc1 c1R rc0)) (by decide) (Nat.le_refl _) (Nat.le_refl _) (tofI fun x26 w25 G h hT hG => ?_) nox
        refine r_iload dX4_callsAnswer_43 rfl iI ?_
        refine r_iadd dX4_callsAnswer_45 ?_
        refine r_callS dX4_callsAnswer_46 (c_X4_ringAt h hT hG) q2419 q2420 q117 q2421 yo_X4_ringAt rfl (by decide) (by decide) rfl (rc1 c1R rc0) (by decide) (Nat.le_refl _) (Nat.le_refl _) (tofI fun x28 w27 G h hT hG => ?_) nox
        refine r_iconst dX4_callsAnswer_49 ?_
        refine r_iadd dX4_callsAnswer_50 ?_
        refine t_iald hT dX4_callsAnswer_51 hA_a1 (by decide) h (fun h => ?_)
        refine r_iconst dX4_callsAnswer_52 ?_
        refine r_icmp_ne (tgt := 61) dX4_callsAnswer_53 (by decide) h (fun h => ?_) (fun h => ?_)
        · refine r_iconst dX4_callsAnswer_61 ?_
          exact r_iret rfl dX4_callsAnswer_62 ⟨_, hT, hG, _, rfl, h⟩
        · refine r_bipush dX4_callsAnswer_56 (by decide) ?_
          refine r_goto (tgt := 62) dX4_callsAnswer_58 (by decide) ?_
          exact r_iret rfl dX4_callsAnswer_62 ⟨_, hT, hG, _, rfl, h⟩
    · refine r_iconst dX4_callsAnswer_20 ?_
      exact r_iret rfl dX4_callsAnswer_21 ⟨_, hT, hG, _, rfl, h⟩
theorem c_X4_callsAnswer {t : Nat} {ad : Nat → Nat} {G0 : Wd} {a1 : Nat} {a2 : Int} {a3 : Int} (hA_a1 : (a1, 0, 844) ∈ twA) {Q : Int → Tw → Prop} {w : Tw} {G : Wd} (h : f_X4_callsAnswer a1 a2 a3 w Q) (hT : TwAt t ad w (G 2)) (hG : ∀ r, r ≠ 2 → G r = G0 r) : call yX4_callsAnswer (Cond.code yX4_callsAnswer cX4_callsAnswer 6 (some .int)) 4 0 0 [vR (some t), vR (some (ad a1)), vI a2, vI a3] G (twQ t ad G0 (uI Q)) noX :=
  call.enter (by decide +kernel) (la_1 c1R (la_1 c1R (la_1 c1I (la_1 c1I (la_nil rfl))))) rfl (w_X4_callsAnswer hA_a1 h hT hG)
abbrev m_X4_resets : Mt := (yX4_resets.cls, cX4_resets, 1, some .int, [], yX4_resets.name)
theorem yo_X4_resets : yOK yX4_resets 0 := ⟨by decide +kernel, by decide +kernel, by decide +kernel⟩
def f_X4_resets (w : Tw) (Q : Int → Tw → Prop) : Prop :=
  tS w 0 0 0 (fun w7 => f_X4_putsBy  w7 (fun w8 => f_X4_resetsAll 20 true w8 (fun x10 w9 => f_X4_adds x10 w9 (fun x12 w11 => Q x12 w11))))
theorem w_X4_resets {t : Nat} {ad : Nat → Nat} {G0 : Wd} {Q : Int → Tw → Prop} {w : Tw} {G : Wd} (h : f_X4_resets w Q) (hT : TwAt t ad w (G 2)) (hG : ∀ r, r ≠ 2 → G r = G0 r) : wp m_X4_resets 4 0 0 0 [some (vR (some t))] [] G (twQ t ad G0 (uI Q)) noX := by
  unfold f_X4_resets at h
  refine r_aload_n dX4_resets_0 rfl rfl iR ?_
  refine r_iconst dX4_resets_1 ?_
  refine t_put (j := 0) hT hG dX4_resets_2 (fp1 (f := 0) fX4 (by decide) q2221 rfl rfl rfl) tF0 (by decide) h (fun w7 G h hT hG => ?_)
  refine r_aload_n dX4_resets_5 rfl rfl iR ?_
  refine r_callV dX4_resets_6 (tisC hT) (c_X4_putsBy h hT hG) q2399 q2401 qs54 q117 q2402 rfl yo_X4_putsBy rfl (by decide) (by decide) rfl rc0 (by decide) (Nat.le_refl _) (Nat.le_refl _) (tofV fun w8 G h hT hG => ?_) nox
  refine r_aload_n dX4_resets_9 rfl rfl iR ?_
  refine r_aload_n dX4_resets_10 rfl rfl iR ?_
  refine r_aload_n dX4_resets_11 rfl rfl iR ?_
  refine t_getA (j := 20) hT dX4_resets_12 (fg1 (f := 20) fX4 (by decide) q2241 rfl) rfl ?_
  refine r_iconst dX4_resets_15 ?_
  refine wp.cast (st' := [vB true, vR (some (ad 20)), vR (some t), vR (some t)]) rfl (congrArg (fun q => [q, vR (some (ad 20)), vR (some t), vR (some t)]) vI1) ?_
  refine r_callV dX4_resets_16 (tisC hT) (c_X4_resetsAll tA20 h hT hG) q2565 q2567 qs75 q117 q2568 rfl yo_X4_resetsAll rfl (by decide) (by decide) rfl (rc1 c1R rc0) (by decide) (Nat.le_refl _) (Nat.le_refl _) (tofI fun x10 w9 G h hT hG => ?_) nox
  refine r_callV dX4_resets_19 (tisC hT) (c_X4_adds h hT hG) q2450 q2452 qs57 q117 q2453 rfl yo_X4_adds rfl (by decide) (by decide) rfl rc0 (by decide) (Nat.le_refl _) (Nat.le_refl _) (tofI fun x12 w11 G h hT hG => ?_) nox
  exact r_iret rfl dX4_resets_22 ⟨_, hT, hG, _, rfl, h⟩
theorem c_X4_resets {t : Nat} {ad : Nat → Nat} {G0 : Wd} {Q : Int → Tw → Prop} {w : Tw} {G : Wd} (h : f_X4_resets w Q) (hT : TwAt t ad w (G 2)) (hG : ∀ r, r ≠ 2 → G r = G0 r) : call yX4_resets (Cond.code yX4_resets cX4_resets 1 (some .int)) 4 0 0 [vR (some t)] G (twQ t ad G0 (uI Q)) noX :=
  call.enter (by decide +kernel) (la_1 c1R (la_nil rfl)) rfl (w_X4_resets  h hT hG)
abbrev m_X4_weighs : Mt := (yX4_weighs.cls, cX4_weighs, 3, some .int, [], yX4_weighs.name)
theorem yo_X4_weighs : yOK yX4_weighs 2 := ⟨by decide +kernel, by decide +kernel, by decide +kernel⟩
def f_X4_weighs (a1 : Int) (a2 : Int) (w : Tw) (Q : Int → Tw → Prop) : Prop :=
  tS w 0 0 0 (fun w7 => f_X4_putsBy  w7 (fun w8 => f_X4_weighsOne 20 a1 a2 w8 (fun x10 w9 => f_X4_counted x10 w9 (fun x12 w11 => Q x12 w11))))
theorem w_X4_weighs {t : Nat} {ad : Nat → Nat} {G0 : Wd} {Q : Int → Tw → Prop} {a1 : Int} {a2 : Int} {w : Tw} {G : Wd} (h : f_X4_weighs a1 a2 w Q) (hT : TwAt t ad w (G 2)) (hG : ∀ r, r ≠ 2 → G r = G0 r) : wp m_X4_weighs 3 0 0 0 [some (vR (some t)), some (vI a1), some (vI a2)] [] G (twQ t ad G0 (uI Q)) noX := by
  unfold f_X4_weighs at h
  refine r_aload_n dX4_weighs_0 rfl rfl iR ?_
  refine r_iconst dX4_weighs_1 ?_
  refine t_put (j := 0) hT hG dX4_weighs_2 (fp1 (f := 0) fX4 (by decide) q2221 rfl rfl rfl) tF0 (by decide) h (fun w7 G h hT hG => ?_)
  refine r_aload_n dX4_weighs_5 rfl rfl iR ?_
  refine r_callV dX4_weighs_6 (tisC hT) (c_X4_putsBy h hT hG) q2399 q2401 qs54 q117 q2402 rfl yo_X4_putsBy rfl (by decide) (by decide) rfl rc0 (by decide) (Nat.le_refl _) (Nat.le_refl _) (tofV fun w8 G h hT hG => ?_) nox
  refine r_aload_n dX4_weighs_9 rfl rfl iR ?_
  refine r_aload_n dX4_weighs_10 rfl rfl iR ?_
  refine t_getA (j := 20) hT dX4_weighs_11 (fg1 (f := 20) fX4 (by decide) q2241 rfl) rfl ?_
  refine r_iload_n dX4_weighs_14 rfl rfl iI ?_
  refine r_iload_n dX4_weighs_15 rfl rfl iI ?_
  refine r_callS dX4_weighs_16 (c_X4_weighsOne tA20 h hT hG) q2573 q2574 q117 q2575 yo_X4_weighsOne rfl (by decide) (by decide) rfl (rc1 c1R rc0) (by decide) (Nat.le_refl _) (Nat.le_refl _) (tofI fun x10 w9 G h hT hG => ?_) nox
  refine r_callV dX4_weighs_19 (tisC hT) (c_X4_counted h hT hG) q2446 q2448 qs56 q117 q2449 rfl yo_X4_counted rfl (by decide) (by decide) rfl rc0 (by decide) (Nat.le_refl _) (Nat.le_refl _) (tofI fun x12 w11 G h hT hG => ?_) nox
  exact r_iret rfl dX4_weighs_22 ⟨_, hT, hG, _, rfl, h⟩
theorem c_X4_weighs {t : Nat} {ad : Nat → Nat} {G0 : Wd} {a1 : Int} {a2 : Int} {Q : Int → Tw → Prop} {w : Tw} {G : Wd} (h : f_X4_weighs a1 a2 w Q) (hT : TwAt t ad w (G 2)) (hG : ∀ r, r ≠ 2 → G r = G0 r) : call yX4_weighs (Cond.code yX4_weighs cX4_weighs 3 (some .int)) 3 0 0 [vR (some t), vI a1, vI a2] G (twQ t ad G0 (uI Q)) noX :=
  call.enter (by decide +kernel) (la_1 c1R (la_1 c1I (la_1 c1I (la_nil rfl)))) rfl (w_X4_weighs  h hT hG)
abbrev m_X4_depth : Mt := (yX4_depth.cls, cX4_depth, 2, some .int, [], yX4_depth.name)
theorem yo_X4_depth : yOK yX4_depth 1 := ⟨by decide +kernel, by decide +kernel, by decide +kernel⟩
def f_X4_depth (a1 : Int) (w : Tw) (Q : Int → Tw → Prop) : Prop :=
  tS w 0 0 0 (fun w7 => f_X4_putsBy  w7 (fun w8 => f_X4_depthIs 20 a1 w8 (fun x10 w9 => f_X4_counted x10 w9 (fun x12 w11 => Q x12 w11))))
theorem w_X4_depth {t : Nat} {ad : Nat → Nat} {G0 : Wd} {Q : Int → Tw → Prop} {a1 : Int} {w : Tw} {G : Wd} (h : f_X4_depth a1 w Q) (hT : TwAt t ad w (G 2)) (hG : ∀ r, r ≠ 2 → G r = G0 r) : wp m_X4_depth 3 0 0 0 [some (vR (some t)), some (vI a1)] [] G (twQ t ad G0 (uI Q)) noX := by
  unfold f_X4_depth at h
  refine r_aload_n dX4_depth_0 rfl rfl iR ?_
  refine r_iconst dX4_depth_1 ?_
  refine t_put (j := 0) hT hG dX4_depth_2 (fp1 (f := 0) fX4 (by decide) q2221 rfl rfl rfl) tF0 (by decide) h (fun w7 G h hT hG => ?_)
  refine r_aload_n dX4_depth_5 rfl rfl iR ?_
  refine r_callV dX4_depth_6 (tisC hT) (c_X4_putsBy h hT hG) q2399 q2401 qs54 q117 q2402 rfl yo_X4_putsBy rfl (by decide) (by decide) rfl rc0 (by decide) (Nat.le_refl _) (Nat.le_refl _) (tofV fun w8 G h hT hG => ?_) nox
  refine r_aload_n dX4_depth_9 rfl rfl iR ?_
  refine r_aload_n dX4_depth_10 rfl rfl iR ?_
  refine t_getA (j := 20) hT dX4_depth_11 (fg1 (f := 20) fX4 (by decide) q2241 rfl) rfl ?_
  refine r_iload_n dX4_depth_14 rfl rfl iI ?_
  refine r_callS dX4_depth_15 (c_X4_depthIs tA20 h hT hG) q2580 q2581 q117 q2582 yo_X4_depthIs rfl (by decide) (by decide) rfl (rc1 c1R rc0) (by decide) (Nat.le_refl _) (Nat.le_refl _) (tofI fun x10 w9 G h hT hG => ?_) nox
  refine r_callV dX4_depth_18 (tisC hT) (c_X4_counted h hT hG) q2446 q2448 qs56 q117 q2449 rfl yo_X4_counted rfl (by decide) (by decide) rfl rc0 (by decide) (Nat.le_refl _) (Nat.le_refl _) (tofI fun x12 w11 G h hT hG => ?_) nox
  exact r_iret rfl dX4_depth_21 ⟨_, hT, hG, _, rfl, h⟩
theorem c_X4_depth {t : Nat} {ad : Nat → Nat} {G0 : Wd} {a1 : Int} {Q : Int → Tw → Prop} {w : Tw} {G : Wd} (h : f_X4_depth a1 w Q) (hT : TwAt t ad w (G 2)) (hG : ∀ r, r ≠ 2 → G r = G0 r) : call yX4_depth (Cond.code yX4_depth cX4_depth 2 (some .int)) 3 0 0 [vR (some t), vI a1] G (twQ t ad G0 (uI Q)) noX :=
  call.enter (by decide +kernel) (la_1 c1R (la_1 c1I (la_nil rfl))) rfl (w_X4_depth  h hT hG)
abbrev m_X4_readsAct : Mt := (yX4_readsAct.cls, cX4_readsAct, 2, some .boolean, [], yX4_readsAct.name)
theorem yo_X4_readsAct : yOK yX4_readsAct 0 := ⟨by decide +kernel, by decide +kernel, by decide +kernel⟩
def f_X4_readsAct_82 (l1 : Int) (w : Tw) (Q : Bool → Tw → Prop) : Prop :=
  rdA w 28 80 l1 (fun _ => br0 (w 28 l1) ((w 28 l1) < 0) (Q false w) (Q true w))
theorem w_X4_readsAct_82 {t : Nat} {ad : Nat → Nat} {G0 : Wd} {Q : Bool → Tw → Prop} {l1 : Int} {w : Tw} {G : Wd} (h : f_X4_readsAct_82 l1 w Q) (hT : TwAt t ad w (G 2)) (hG : ∀ r, r ≠ 2 → G r = G0 r) : wp m_X4_readsAct 9 0 0 82 [some (vR (some t)), some (vI l1)] [] G (twQ t ad G0 (uB Q)) noX := by
  unfold f_X4_readsAct_82 at h
  refine r_aload_n dX4_readsAct_82 rfl rfl iR ?_
  refine t_getA (j := 28) hT dX4_readsAct_83 (fg1 (f := 28) fX4 (by decide) q2249 rfl) rfl ?_
  refine r_iload_n dX4_readsAct_86 rfl rfl iI ?_
  refine t_iald hT dX4_readsAct_87 tA28 (by decide) h (fun h => ?_)
  refine r_if_lt (tgt := 95) dX4_readsAct_88 (by decide) h (fun h => ?_) (fun h => ?_)
  · refine r_iconst dX4_readsAct_95 ?_
    refine wp.cast (st' := [vB false]) rfl (congrArg (fun q => [q]) vI0) ?_
    exact r_zret rfl dX4_readsAct_96 ⟨_, hT, hG, _, rfl, h⟩
  · refine r_iconst dX4_readsAct_91 ?_
    refine r_goto (tgt := 96) dX4_readsAct_92 (by decide) ?_
    refine wp.cast (st' := [vB true]) rfl (congrArg (fun q => [q]) vI1) ?_
    exact r_zret rfl dX4_readsAct_96 ⟨_, hT, hG, _, rfl, h⟩
def f_X4_readsAct_145 (l1 : Int) (w : Tw) (Q : Bool → Tw → Prop) : Prop :=
  rdA w 29 80 l1 (fun _ => br0 (w 29 l1) ((w 29 l1) < 0) (Q false w) (Q true w))
theorem w_X4_readsAct_145 {t : Nat} {ad : Nat → Nat} {G0 : Wd} {Q : Bool → Tw → Prop} {l1 : Int} {w : Tw} {G : Wd} (h : f_X4_readsAct_145 l1 w Q) (hT : TwAt t ad w (G 2)) (hG : ∀ r, r ≠ 2 → G r = G0 r) : wp m_X4_readsAct 9 0 0 145 [some (vR (some t)), some (vI l1)] [] G (twQ t ad G0 (uB Q)) noX := by
  unfold f_X4_readsAct_145 at h
  refine r_aload_n dX4_readsAct_145 rfl rfl iR ?_
  refine t_getA (j := 29) hT dX4_readsAct_146 (fg1 (f := 29) fX4 (by decide) q2250 rfl) rfl ?_
  refine r_iload_n dX4_readsAct_149 rfl rfl iI ?_
  refine t_iald hT dX4_readsAct_150 tA29 (by decide) h (fun h => ?_)
  refine r_if_lt (tgt := 158) dX4_readsAct_151 (by decide) h (fun h => ?_) (fun h => ?_)
  · refine r_iconst dX4_readsAct_158 ?_
    refine wp.cast (st' := [vB false]) rfl (congrArg (fun q => [q]) vI0) ?_
    exact r_zret rfl dX4_readsAct_159 ⟨_, hT, hG, _, rfl, h⟩
  · refine r_iconst dX4_readsAct_154 ?_
    refine r_goto (tgt := 159) dX4_readsAct_155 (by decide) ?_
    refine wp.cast (st' := [vB true]) rfl (congrArg (fun q => [q]) vI1) ?_
    exact r_zret rfl dX4_readsAct_159 ⟨_, hT, hG, _, rfl, h⟩
def f_X4_readsAct_193 (l1 : Int) (s1 : Int) (s2 : Int) (w : Tw) (Q : Bool → Tw → Prop) : Prop :=
  wrA w 31 80 s1 s2 (fun w20 => rdA w20 31 80 l1 (fun _ => br0 (w20 31 l1) ((w20 31 l1) < 0) (Q false w20) (Q true w20)))
theorem w_X4_readsAct_193 {t : Nat} {ad : Nat → Nat} {G0 : Wd} {Q : Bool → Tw → Prop} {l1 : Int} {s1 : Int} {s2 : Int} {w : Tw} {G : Wd} (h : f_X4_readsAct_193 l1 s1 s2 w Q) (hT : TwAt t ad w (G 2)) (hG : ∀ r, r ≠ 2 → G r = G0 r) : wp m_X4_readsAct 9 0 0 193 [some (vR (some t)), some (vI l1)] [vI s2, vI s1, vR (some (ad 31))] G (twQ t ad G0 (uB Q)) noX := by
  unfold f_X4_readsAct_193 at h
  refine t_iast hT hG dX4_readsAct_193 tA31 (by decide) h (fun w20 G h hT hG => ?_)
  refine r_aload_n dX4_readsAct_194 rfl rfl iR ?_
  refine t_getA (j := 31) hT dX4_readsAct_195 (fg1 (f := 31) fX4 (by decide) q2252 rfl) rfl ?_
  refine r_iload_n dX4_readsAct_198 rfl rfl iI ?_
  refine t_iald hT dX4_readsAct_199 tA31 (by decide) h (fun h => ?_)
  refine r_if_lt (tgt := 207) dX4_readsAct_200 (by decide) h (fun h => ?_) (fun h => ?_)
  · refine r_iconst dX4_readsAct_207 ?_
    refine wp.cast (st' := [vB false]) rfl (congrArg (fun q => [q]) vI0) ?_
    exact r_zret rfl dX4_readsAct_208 ⟨_, hT, hG, _, rfl, h⟩
  · refine r_iconst dX4_readsAct_203 ?_
    refine r_goto (tgt := 208) dX4_readsAct_204 (by decide) ?_
    refine wp.cast (st' := [vB true]) rfl (congrArg (fun q => [q]) vI1) ?_
    exact r_zret rfl dX4_readsAct_208 ⟨_, hT, hG, _, rfl, h⟩
def f_X4_readsAct_125 (l1 : Int) (s1 : Int) (s2 : Int) (w : Tw) (Q : Bool → Tw → Prop) : Prop :=
  wrA w 29 80 s1 s2 (fun w21 => rdA w21 29 80 l1 (fun _ => br0 (w21 29 l1) ((w21 29 l1) < 0) (f_X4_readsAct_145 l1 w21 Q) (rdA w21 27 80 l1 (fun _ => br (w21 27 l1) 4 (¬ (w21 27 l1) = (4 : Int)) (f_X4_number 1 w21 (fun x23 w22 => wrA w22 30 80 l1 x23 (fun w24 => rdA w24 30 80 l1 (fun _ => br0 (w24 30 l1) (0 ≤ (w24 30 l1)) (f_X4_two  w24 (fun x26 w25 => f_X4_readsAct_193 l1 l1 x26 w25 Q)) (f_X4_readsAct_193 l1 l1 (-1) w24 Q))))) (f_X4_readsAct_145 l1 w21 Q)))))
theorem w_X4_readsAct_125 {t : Nat} {ad : Nat → Nat} {G0 : Wd} {Q : Bool → Tw → Prop} {l1 : Int} {s1 : Int} {s2 : Int} {w : Tw} {G : Wd} (h : f_X4_readsAct_125 l1 s1 s2 w Q) (hT : TwAt t ad w (G 2)) (hG : ∀ r, r ≠ 2 → G r = G0 r) : wp m_X4_readsAct 9 0 0 125 [some (vR (some t)), some (vI l1)] [vI s2, vI s1, vR (some (ad 29))] G (twQ t ad G0 (uB Q)) noX := by
  unfold f_X4_readsAct_125 at h
  refine t_iast hT hG dX4_readsAct_125 tA29 (by decide) h (fun w21 G h hT hG => ?_)
  refine r_aload_n dX4_readsAct_126 rfl rfl iR ?_
  refine t_getA (j := 29) hT dX4_readsAct_127 (fg1 (f := 29) fX4 (by decide) q2250 rfl) rfl ?_
  refine r_iload_n dX4_readsAct_130 rfl rfl iI ?_
  refine t_iald hT dX4_readsAct_131 tA29 (by decide) h (fun h => ?_)
  refine r_if_lt (tgt := 145) dX4_readsAct_132 (by decide) h (fun h => ?_) (fun h => ?_)
  · exact w_X4_readsAct_145 h hT hG
  · refine r_aload_n dX4_readsAct_135 rfl rfl iR ?_
    refine t_getA (j := 27) hT dX4_readsAct_136 (fg1 (f := 27) fX4 (by decide) q2248 rfl) rfl ?_
    refine r_iload_n dX4_readsAct_139 rfl rfl iI ?_
    refine t_iald hT dX4_readsAct_140 tA27 (by decide) h (fun h => ?_)
    refine r_iconst dX4_readsAct_141 ?_
    refine r_icmp_ne (tgt := 160) dX4_readsAct_142 (by decide) h (fun h => ?_) (fun h => ?_)
    · refine r_aload_n dX4_readsAct_160 rfl rfl iR ?_
      refine t_getA (j := 30) hT dX4_readsAct_161 (fg1 (f := 30) fX4 (by decide) q2251 rfl) rfl ?_
      refine r_iload_n dX4_readsAct_164 rfl rfl iI ?_
      refine r_aload_n dX4_readsAct_165 rfl rfl iR ?_
      refine r_iconst dX4_readsAct_166 ?_
      refine r_callV dX4_readsAct_167 (tisC hT) (c_X4_number h hT hG) q2175 q2177 qs47 q117 q2178 rfl yo_X4_number rfl (by decide) (by decide) rfl (rc1 c1I (rc1 c1R rc0)) (by decide) (Nat.le_refl _) (Nat.le_refl _) (tofI fun x23 w22 G h hT hG => ?_) nox
      refine t_iast hT hG dX4_readsAct_170 tA30 (by decide) h (fun w24 G h hT hG => ?_)
      refine r_aload_n dX4_readsAct_171 rfl rfl iR ?_
      refine t_getA (j := 31) hT dX4_readsAct_172 (fg1 (f := 31) fX4 (by decide) q2252 rfl) rfl ?_
      refine r_iload_n dX4_readsAct_175 rfl rfl iI ?_
      refine r_aload_n dX4_readsAct_176 rfl rfl iR ?_
      refine t_getA (j := 30) hT dX4_readsAct_177 (fg1 (f := 30) fX4 (by decide) q2251 rfl) rfl ?_
      refine r_iload_n dX4_readsAct_180 rfl rfl iI ?_
      refine t_iald hT dX4_readsAct_181 tA30 (by decide) h (fun h => ?_)
      refine r_if_ge (tgt := 189) dX4_readsAct_182 (by decide) h (fun h => ?_) (fun h => ?_)
      · refine r_aload_n dX4_readsAct_189 rfl rfl iR ?_
        refine r_callV dX4_readsAct_190 (tisC hT) (c_X4_two h hT hG) q2592 q2594 qs77 q117 q2595 rfl yo_X4_two rfl (by decide) (by decide) rfl (rc1 c1I (rc1 c1R rc0)) (by decide) (Nat.le_refl _) (Nat.le_refl _) (tofI fun x26 w25 G h hT hG => ?_) nox
        exact w_X4_readsAct_193 h hT hG
      · refine r_iconst dX4_readsAct_185 ?_
        refine r_goto (tgt := 193) dX4_readsAct_186 (by decide) ?_
        exact w_X4_readsAct_193 h hT hG
    · exact w_X4_readsAct_145 h hT hG
def f_X4_readsAct (w : Tw) (Q : Bool → Tw → Prop) : Prop :=
  f_X4_takesOf ([120, 114, 116, 107, 99, 112]) w (fun x29 w28 => wrA w28 27 80 (w 32 0) x29 (fun w30 => tS w30 32 0 ((w30 32 0) + 1) (fun w31 => rdA w31 27 80 (w 32 0) (fun _ => br0 (w31 27 (w 32 0)) (0 < (w31 27 (w 32 0))) (f_X4_number 1 w31 (fun x33 w32 => wrA w32 28 80 (w 32 0) x33 (fun w34 => rdA w34 28 80 (w 32 0) (fun _ => br0 (w34 28 (w 32 0)) ((w34 28 (w 32 0)) < 0) (f_X4_readsAct_82 (w 32 0) w34 Q) (rdA w34 27 80 (w 32 0) (fun _ => br (w34 27 (w 32 0)) 4 ((4 : Int) ≤ (w34 27 (w 32 0))) (rdA w34 27 80 (w 32 0) (fun _ => br (w34 27 (w 32 0)) 4 (¬ (w34 27 (w 32 0)) = (4 : Int)) (f_X4_digitIn 0 4 w34 (fun x36 w35 => f_X4_readsAct_125 (w 32 0) (w 32 0) x36 w35 Q)) (f_X4_two  w34 (fun x38 w37 => f_X4_readsAct_125 (w 32 0) (w 32 0) x38 w37 Q)))) (f_X4_readsAct_82 (w 32 0) w34 Q))))))) (rdA w31 27 80 (w 32 0) (fun _ => br0 (w31 27 (w 32 0)) (¬ (w31 27 (w 32 0)) = 0) (Q false w31) (Q true w31)))))))
theorem w_X4_readsAct {t : Nat} {ad : Nat → Nat} {G0 : Wd} {Q : Bool → Tw → Prop} {w : Tw} {G : Wd} (h : f_X4_readsAct w Q) (hT : TwAt t ad w (G 2)) (hG : ∀ r, r ≠ 2 → G r = G0 r) : wp m_X4_readsAct 9 0 0 0 [some (vR (some t)), none] [] G (twQ t ad G0 (uB Q)) noX := by
  unfold f_X4_readsAct at h
  refine r_aload_n dX4_readsAct_0 rfl rfl iR ?_
  refine t_getI (j := 32) hT dX4_readsAct_1 (fg1 (f := 32) fX4 (by decide) q2253 rfl) rfl ?_
  refine r_istore_n (L' := [some (vR (some t)), some (vI (w 32 0))]) dX4_readsAct_4 rfl rfl iI cR (by decide) ?_
  refine r_aload_n dX4_readsAct_5 rfl rfl iR ?_
  refine t_getA (j := 27) hT dX4_readsAct_6 (fg1 (f := 27) fX4 (by decide) q2248 rfl) rfl ?_
  refine r_iload_n dX4_readsAct_9 rfl rfl iI ?_
  refine r_aload_n dX4_readsAct_10 rfl rfl iR ?_
  refine t_ldcSw hG dX4_readsAct_11 (List.mem_of_getElem? (i := 7) rfl) (fun sa27 hS_sa27 => ?_)
  refine r_callV dX4_readsAct_14 (tisC hT) (c_X4_takesOf h hS_sa27 hT hG) q2180 q2182 qs48 q117 q2183 rfl yo_X4_takesOf rfl (by decide) (by decide) rfl (rc1 c1I (rc1 c1R rc0)) (by decide) (Nat.le_refl _) (Nat.le_refl _) (tofI fun x29 w28 G h hT hG => ?_) nox
  refine t_iast hT hG dX4_readsAct_17 tA27 (by decide) h (fun w30 G h hT hG => ?_)
  refine r_aload_n dX4_readsAct_18 rfl rfl iR ?_
  refine r_dup dX4_readsAct_19 c1R ?_
  refine t_getI (j := 32) hT dX4_readsAct_20 (fg1 (f := 32) fX4 (by decide) q2253 rfl) rfl ?_
  refine r_iconst dX4_readsAct_23 ?_
  refine r_iadd dX4_readsAct_24 ?_
  refine t_put (j := 32) hT hG dX4_readsAct_25 (fp1 (f := 32) fX4 (by decide) q2253 rfl rfl rfl) tF32 (by decide) h (fun w31 G h hT hG => ?_)
  refine r_aload_n dX4_readsAct_28 rfl rfl iR ?_
  refine t_getA (j := 27) hT dX4_readsAct_29 (fg1 (f := 27) fX4 (by decide) q2248 rfl) rfl ?_
  refine r_iload_n dX4_readsAct_32 rfl rfl iI ?_
  refine t_iald hT dX4_readsAct_33 tA27 (by decide) h (fun h => ?_)
  refine r_if_gt (tgt := 52) dX4_readsAct_34 (by decide) h (fun h => ?_) (fun h => ?_)
  · refine r_aload_n dX4_readsAct_52 rfl rfl iR ?_
    refine t_getA (j := 28) hT dX4_readsAct_53 (fg1 (f := 28) fX4 (by decide) q2249 rfl) rfl ?_
    refine r_iload_n dX4_readsAct_56 rfl rfl iI ?_
    refine r_aload_n dX4_readsAct_57 rfl rfl iR ?_
    refine r_iconst dX4_readsAct_58 ?_
    refine r_callV dX4_readsAct_59 (tisC hT) (c_X4_number h hT hG) q2175 q2177 qs47 q117 q2178 rfl yo_X4_number rfl (by decide) (by decide) rfl (rc1 c1I (rc1 c1R rc0)) (by decide) (Nat.le_refl _) (Nat.le_refl _) (tofI fun x33 w32 G h hT hG => ?_) nox
    refine t_iast hT hG dX4_readsAct_62 tA28 (by decide) h (fun w34 G h hT hG => ?_)
    refine r_aload_n dX4_readsAct_63 rfl rfl iR ?_
    refine t_getA (j := 28) hT dX4_readsAct_64 (fg1 (f := 28) fX4 (by decide) q2249 rfl) rfl ?_
    refine r_iload_n dX4_readsAct_67 rfl rfl iI ?_
    refine t_iald hT dX4_readsAct_68 tA28 (by decide) h (fun h => ?_)
    refine r_if_lt (tgt := 82) dX4_readsAct_69 (by decide) h (fun h => ?_) (fun h => ?_)
    · exact w_X4_readsAct_82 h hT hG
    · refine r_aload_n dX4_readsAct_72 rfl rfl iR ?_
      refine t_getA (j := 27) hT dX4_readsAct_73 (fg1 (f := 27) fX4 (by decide) q2248 rfl) rfl ?_
      refine r_iload_n dX4_readsAct_76 rfl rfl iI ?_
      refine t_iald hT dX4_readsAct_77 tA27 (by decide) h (fun h => ?_)
      refine r_iconst dX4_readsAct_78 ?_
      refine r_icmp_ge (tgt := 97) dX4_readsAct_79 (by decide) h (fun h => ?_) (fun h => ?_)
      · refine r_aload_n dX4_readsAct_97 rfl rfl iR ?_
        refine t_getA (j := 29) hT dX4_readsAct_98 (fg1 (f := 29) fX4 (by decide) q2250 rfl) rfl ?_
        refine r_iload_n dX4_readsAct_101 rfl rfl iI ?_
        refine r_aload_n dX4_readsAct_102 rfl rfl iR ?_
        refine t_getA (j := 27) hT dX4_readsAct_103 (fg1 (f := 27) fX4 (by decide) q2248 rfl) rfl ?_
        refine r_iload_n dX4_readsAct_106 rfl rfl iI ?_
        refine t_iald hT dX4_readsAct_107 tA27 (by decide) h (fun h => ?_)
        refine r_iconst dX4_readsAct_108 ?_
        refine r_icmp_ne (tgt := 119) dX4_readsAct_109 (by decide) h (fun h => ?_) (fun h => ?_)
        · refine r_aload_n dX4_readsAct_119 rfl rfl iR ?_
          refine r_iconst dX4_readsAct_120 ?_
          refine r_iconst dX4_readsAct_121 ?_
          refine r_callV dX4_readsAct_122 (tisC hT) (c_X4_digitIn h hT hG) q2361 q2363 qs51 q117 q2364 rfl yo_X4_digitIn rfl (by decide) (by decide) rfl (rc1 c1I (rc1 c1R rc0)) (by decide) (Nat.le_refl _) (Nat.le_refl _) (tofI fun x36 w35 G h hT hG => ?_) nox
          exact w_X4_readsAct_125 h hT hG
        · refine r_aload_n dX4_readsAct_112 rfl rfl iR ?_
          refine r_callV dX4_readsAct_113 (tisC hT) (c_X4_two h hT hG) q2592 q2594 qs77 q117 q2595 rfl yo_X4_two rfl (by decide) (by decide) rfl (rc1 c1I (rc1 c1R rc0)) (by decide) (Nat.le_refl _) (Nat.le_refl _) (tofI fun x38 w37 G h hT hG => ?_) nox
          refine r_goto (tgt := 125) dX4_readsAct_116 (by decide) ?_
          exact w_X4_readsAct_125 h hT hG
      · exact w_X4_readsAct_82 h hT hG
  · refine r_aload_n dX4_readsAct_37 rfl rfl iR ?_
    refine t_getA (j := 27) hT dX4_readsAct_38 (fg1 (f := 27) fX4 (by decide) q2248 rfl) rfl ?_
    refine r_iload_n dX4_readsAct_41 rfl rfl iI ?_
    refine t_iald hT dX4_readsAct_42 tA27 (by decide) h (fun h => ?_)
    refine r_if_ne (tgt := 50) dX4_readsAct_43 (by decide) h (fun h => ?_) (fun h => ?_)
    · refine r_iconst dX4_readsAct_50 ?_
      refine wp.cast (st' := [vB false]) rfl (congrArg (fun q => [q]) vI0) ?_
      exact r_zret rfl dX4_readsAct_51 ⟨_, hT, hG, _, rfl, h⟩
    · refine r_iconst dX4_readsAct_46 ?_
      refine r_goto (tgt := 51) dX4_readsAct_47 (by decide) ?_
      refine wp.cast (st' := [vB true]) rfl (congrArg (fun q => [q]) vI1) ?_
      exact r_zret rfl dX4_readsAct_51 ⟨_, hT, hG, _, rfl, h⟩
theorem c_X4_readsAct {t : Nat} {ad : Nat → Nat} {G0 : Wd} {Q : Bool → Tw → Prop} {w : Tw} {G : Wd} (h : f_X4_readsAct w Q) (hT : TwAt t ad w (G 2)) (hG : ∀ r, r ≠ 2 → G r = G0 r) : call yX4_readsAct (Cond.code yX4_readsAct cX4_readsAct 2 (some .boolean)) 9 0 0 [vR (some t)] G (twQ t ad G0 (uB Q)) noX :=
  call.enter (by decide +kernel) (la_1 c1R (la_nil rfl)) rfl (w_X4_readsAct  h hT hG)
abbrev m_X4_phases : Mt := (yX4_phases.cls, cX4_phases, 5, some .int, [], yX4_phases.name)
theorem yo_X4_phases : yOK yX4_phases 1 := ⟨by decide +kernel, by decide +kernel, by decide +kernel⟩
def f_X4_phases_90 (k19 : Int → Int → Int → Tw → Prop) (l1 : Int) (l3 : Int) (s0 : Int) (s1 : Int) (w : Tw) (Q : Int → Tw → Prop) : Prop :=
  k19 l1 (ior s0 s1) (l3 + 1) w
theorem w_X4_phases_90 {t : Nat} {ad : Nat → Nat} {G0 : Wd} {Q : Int → Tw → Prop} {k19 : Int → Int → Int → Tw → Prop} (hk19 : ∀ {l1 : Int} {l2 : Int} {l3 : Int} {w : Tw} {G : Wd}, k19 l1 l2 l3 w → TwAt t ad w (G 2) → (∀ r, r ≠ 2 → G r = G0 r) → wp m_X4_phases 3 0 0 19 [some (vR (some t)), some (vI l1), some (vI l2), some (vI l3), none] [] G (twQ t ad G0 (uI Q)) noX) {l1 : Int} {l3 : Int} {s0 : Int} {s1 : Int} {w : Tw} {G : Wd} (h : f_X4_phases_90 k19 l1 l3 s0 s1 w Q) (hT : TwAt t ad w (G 2)) (hG : ∀ r, r ≠ 2 → G r = G0 r) : wp m_X4_phases 3 0 0 90 [some (vR (some t)), some (vI l1), none, some (vI l3), none] [vI s1, vI s0] G (twQ t ad G0 (uI Q)) noX := by
  unfold f_X4_phases_90 at h
  refine r_ior dX4_phases_90 ?_
  refine r_istore_n (L' := [some (vR (some t)), some (vI l1), some (vI (ior s0 s1)), some (vI l3), none]) dX4_phases_91 rfl rfl iI cI (by decide) ?_
  refine r_iinc (L' := [some (vR (some t)), some (vI l1), some (vI (ior s0 s1)), some (vI (l3 + 1)), none]) dX4_phases_92 rfl rfl cI (by decide) ?_
  refine r_goto (tgt := 19) dX4_phases_95 (by decide) ?_
  exact hk19 h hT hG
def f_X4_phases_89 (k19 : Int → Int → Int → Tw → Prop) (l1 : Int) (l3 : Int) (s0 : Int) (w : Tw) (Q : Int → Tw → Prop) : Prop :=
  f_X4_phases_90 k19 l1 l3 s0 0 w Q
theorem w_X4_phases_89 {t : Nat} {ad : Nat → Nat} {G0 : Wd} {Q : Int → Tw → Prop} {k19 : Int → Int → Int → Tw → Prop} (hk19 : ∀ {l1 : Int} {l2 : Int} {l3 : Int} {w : Tw} {G : Wd}, k19 l1 l2 l3 w → TwAt t ad w (G 2) → (∀ r, r ≠ 2 → G r = G0 r) → wp m_X4_phases 3 0 0 19 [some (vR (some t)), some (vI l1), some (vI l2), some (vI l3), none] [] G (twQ t ad G0 (uI Q)) noX) {l1 : Int} {l3 : Int} {s0 : Int} {w : Tw} {G : Wd} (h : f_X4_phases_89 k19 l1 l3 s0 w Q) (hT : TwAt t ad w (G 2)) (hG : ∀ r, r ≠ 2 → G r = G0 r) : wp m_X4_phases 3 0 0 89 [some (vR (some t)), some (vI l1), none, some (vI l3), none] [vI s0] G (twQ t ad G0 (uI Q)) noX := by
  unfold f_X4_phases_89 at h
  refine r_iconst dX4_phases_89 ?_
  exact w_X4_phases_90 hk19 h hT hG
def f_X4_phases_66 (k19 : Int → Int → Int → Tw → Prop) (l1 : Int) (l2 : Int) (l3 : Int) (l4 : Int) (w : Tw) (Q : Int → Tw → Prop) : Prop :=
  br0 l4 (l4 < 0) (f_X4_phases_89 k19 l1 l3 l2 w Q) (f_X4_phase l1 l4 w (fun x31 w30 => br x31 1 (¬ x31 = (1 : Int)) (f_X4_phases_89 k19 l1 l3 l2 w30 Q) (f_X4_phases_90 k19 l1 l3 l2 (ishl 1 l3) w30 Q)))
theorem w_X4_phases_66 {t : Nat} {ad : Nat → Nat} {G0 : Wd} {Q : Int → Tw → Prop} {k19 : Int → Int → Int → Tw → Prop} (hk19 : ∀ {l1 : Int} {l2 : Int} {l3 : Int} {w : Tw} {G : Wd}, k19 l1 l2 l3 w → TwAt t ad w (G 2) → (∀ r, r ≠ 2 → G r = G0 r) → wp m_X4_phases 3 0 0 19 [some (vR (some t)), some (vI l1), some (vI l2), some (vI l3), none] [] G (twQ t ad G0 (uI Q)) noX) {l1 : Int} {l2 : Int} {l3 : Int} {l4 : Int} {w : Tw} {G : Wd} (h : f_X4_phases_66 k19 l1 l2 l3 l4 w Q) (hT : TwAt t ad w (G 2)) (hG : ∀ r, r ≠ 2 → G r = G0 r) : wp m_X4_phases 3 0 0 66 [some (vR (some t)), some (vI l1), some (vI l2), some (vI l3), some (vI l4)] [] G (twQ t ad G0 (uI Q)) noX := by
  unfold f_X4_phases_66 at h
  refine r_iload_n dX4_phases_66 rfl rfl iI ?_
  refine r_iload dX4_phases_67 rfl iI ?_
  refine r_if_lt (tgt := 89) dX4_phases_69 (by decide) h (fun h => ?_) (fun h => ?_)
  · refine wp.locals (L' := [some (vR (some t)), some (vI l1), none, some (vI l3), none]) (ls_s (ls_s (ls_n (ls_s (ls_n ls_0))))) ?_
    exact w_X4_phases_89 hk19 h hT hG
  · refine r_aload_n dX4_phases_72 rfl rfl iR ?_
    refine r_iload_n dX4_phases_73 rfl rfl iI ?_
    refine r_iload dX4_phases_74 rfl iI ?_
    refine r_callV dX4_phases_76 (tisC hT) (c_X4_phase h hT hG) q2616 q2618 qs79 q117 q2619 rfl yo_X4_phase rfl (by decide) (by decide) rfl (rc1 c1I rc0) (by decide) (Nat.le_refl _) (Nat.le_refl _) (tofI fun x31 w30 G h hT hG => ?_) nox
    refine r_iconst dX4_phases_79 ?_
    refine r_icmp_ne (tgt := 89) dX4_phases_80 (by decide) h (fun h => ?_) (fun h => ?_)
    · refine wp.locals (L' := [some (vR (some t)), some (vI l1), none, some (vI l3), none]) (ls_s (ls_s (ls_n (ls_s (ls_n ls_0))))) ?_
      exact w_X4_phases_89 hk19 h hT hG
    · refine r_iconst dX4_phases_83 ?_
      refine r_iload_n dX4_phases_84 rfl rfl iI ?_
      refine r_ishl dX4_phases_85 ?_
      refine r_goto (tgt := 90) dX4_phases_86 (by decide) ?_
      refine wp.locals (L' := [some (vR (some t)), some (vI l1), none, some (vI l3), none]) (ls_s (ls_s (ls_n (ls_s (ls_n ls_0))))) ?_
      exact w_X4_phases_90 hk19 h hT hG
def f_X4_phases_42_b (k19 : Int → Int → Int → Tw → Prop) (k42 : Int → Int → Int → Int → Tw → Prop) (l1 : Int) (l2 : Int) (l3 : Int) (l4 : Int) (w : Tw) (Q : Int → Tw → Prop) : Prop :=
  br0 l4 (l4 < 0) (f_X4_phases_66 k19 l1 l2 l3 l4 w Q) (rdA w 17 5 l1 (fun _ => okm l4 (w 17 l1) (br (l4 % (w 17 l1)) l3 ((l4 % (w 17 l1)) = l3) (f_X4_phases_66 k19 l1 l2 l3 l4 w Q) (k42 l1 l2 l3 (l4 + (-1)) w))))
theorem w_X4_phases_42_b {t : Nat} {ad : Nat → Nat} {G0 : Wd} {Q : Int → Tw → Prop} {k19 : Int → Int → Int → Tw → Prop} (hk19 : ∀ {l1 : Int} {l2 : Int} {l3 : Int} {w : Tw} {G : Wd}, k19 l1 l2 l3 w → TwAt t ad w (G 2) → (∀ r, r ≠ 2 → G r = G0 r) → wp m_X4_phases 3 0 0 19 [some (vR (some t)), some (vI l1), some (vI l2), some (vI l3), none] [] G (twQ t ad G0 (uI Q)) noX) {k42 : Int → Int → Int → Int → Tw → Prop} (hk42 : ∀ {l1 : Int} {l2 : Int} {l3 : Int} {l4 : Int} {w : Tw} {G : Wd}, k42 l1 l2 l3 l4 w → TwAt t ad w (G 2) → (∀ r, r ≠ 2 → G r = G0 r) → wp m_X4_phases 3 0 0 42 [some (vR (some t)), some (vI l1), some (vI l2), some (vI l3), some (vI l4)] [] G (twQ t ad G0 (uI Q)) noX) {l1 : Int} {l2 : Int} {l3 : Int} {l4 : Int} {w : Tw} {G : Wd} (h : f_X4_phases_42_b k19 k42 l1 l2 l3 l4 w Q) (hT : TwAt t ad w (G 2)) (hG : ∀ r, r ≠ 2 → G r = G0 r) : wp m_X4_phases 3 0 0 42 [some (vR (some t)), some (vI l1), some (vI l2), some (vI l3), some (vI l4)] [] G (twQ t ad G0 (uI Q)) noX := by
  unfold f_X4_phases_42_b at h
  refine r_iload dX4_phases_42 rfl iI ?_
  refine r_if_lt (tgt := 66) dX4_phases_44 (by decide) h (fun h => ?_) (fun h => ?_)
  · exact w_X4_phases_66 hk19 h hT hG
  · refine r_iload dX4_phases_47 rfl iI ?_
    refine r_aload_n dX4_phases_49 rfl rfl iR ?_
    refine t_getA (j := 17) hT dX4_phases_50 (fg1 (f := 17) fX4 (by decide) q2238 rfl) rfl ?_
    refine r_iload_n dX4_phases_53 rfl rfl iI ?_
    refine t_iald hT dX4_phases_54 tA17 (by decide) h (fun h => ?_)
    refine r_irem dX4_phases_55 h (fun h => ?_)
    refine r_iload_n dX4_phases_56 rfl rfl iI ?_
    refine r_icmp_eq (tgt := 66) dX4_phases_57 (by decide) h (fun h => ?_) (fun h => ?_)
    · exact w_X4_phases_66 hk19 h hT hG
    · refine r_iinc (L' := [some (vR (some t)), some (vI l1), some (vI l2), some (vI l3), some (vI (l4 + (-1)))]) dX4_phases_60 rfl rfl cI (by decide) ?_
      refine r_goto (tgt := 42) dX4_phases_63 (by decide) ?_
      exact hk42 h hT hG
def f_X4_phases_42 (k19 : Int → Int → Int → Tw → Prop) (Q : Int → Tw → Prop) : Nat → Int → Int → Int → Int → Tw → Prop
  | 0, _, _, _, _, _ => False
  | fl + 1, l1, l2, l3, l4, w => f_X4_phases_42_b   k19 (fun l1 l2 l3 l4 w => f_X4_phases_42   k19 Q fl l1 l2 l3 l4 w) l1 l2 l3 l4 w Q
theorem w_X4_phases_42 {t : Nat} {ad : Nat → Nat} {G0 : Wd} {Q : Int → Tw → Prop} {k19 : Int → Int → Int → Tw → Prop} (hk19 : ∀ {l1 : Int} {l2 : Int} {l3 : Int} {w : Tw} {G : Wd}, k19 l1 l2 l3 w → TwAt t ad w (G 2) → (∀ r, r ≠ 2 → G r = G0 r) → wp m_X4_phases 3 0 0 19 [some (vR (some t)), some (vI l1), some (vI l2), some (vI l3), none] [] G (twQ t ad G0 (uI Q)) noX) : ∀ (fl : Nat) {l1 : Int} {l2 : Int} {l3 : Int} {l4 : Int} {w : Tw} {G : Wd}, f_X4_phases_42 k19 Q fl l1 l2 l3 l4 w → TwAt t ad w (G 2) → (∀ r, r ≠ 2 → G r = G0 r) → wp m_X4_phases 3 0 0 42 [some (vR (some t)), some (vI l1), some (vI l2), some (vI l3), some (vI l4)] [] G (twQ t ad G0 (uI Q)) noX := by
  intro fl
  induction fl with
  | zero => intro l1 l2 l3 l4 w G h; exact (show False from h).elim
  | succ fl ih => intro l1 l2 l3 l4 w G h hT hG; exact w_X4_phases_42_b  hk19 (fun h hT hG => ih h hT hG) h hT hG
def f_X4_phases_19_b (k19 : Int → Int → Int → Tw → Prop) (l1 : Int) (l2 : Int) (l3 : Int) (w : Tw) (Q : Int → Tw → Prop) : Prop :=
  rdA w 17 5 l1 (fun _ => br l3 (w 17 l1) ((w 17 l1) ≤ l3) (tS w 1 0 0 (fun w32 => f_X4_of 20 l1 6 w32 (fun x34 w33 => rdA w33 17 5 l1 (fun _ => okm x34 (w33 17 l1) (ok32 (x34 % (w33 17 l1)) (f_X4_enters (x34 % (w33 17 l1)) w33 (fun w35 => f_X4_of 20 l1 6 w35 (fun x37 w36 => f_X4_phase l1 x37 w36 (fun x39 w38 => ok32 x39 (f_X4_enters x39 w38 (fun w40 => Q l2 w40))))))))))) (f_X4_of 20 l1 5 w (fun x42 w41 => ∃ fl43, f_X4_phases_42 k19 Q fl43 l1 l2 l3 (x42 - 1) w41)))
theorem w_X4_phases_19_b {t : Nat} {ad : Nat → Nat} {G0 : Wd} {Q : Int → Tw → Prop} {k19 : Int → Int → Int → Tw → Prop} (hk19 : ∀ {l1 : Int} {l2 : Int} {l3 : Int} {w : Tw} {G : Wd}, k19 l1 l2 l3 w → TwAt t ad w (G 2) → (∀ r, r ≠ 2 → G r = G0 r) → wp m_X4_phases 3 0 0 19 [some (vR (some t)), some (vI l1), some (vI l2), some (vI l3), none] [] G (twQ t ad G0 (uI Q)) noX) {l1 : Int} {l2 : Int} {l3 : Int} {w : Tw} {G : Wd} (h : f_X4_phases_19_b k19 l1 l2 l3 w Q) (hT : TwAt t ad w (G 2)) (hG : ∀ r, r ≠ 2 → G r = G0 r) : wp m_X4_phases 3 0 0 19 [some (vR (some t)), some (vI l1), some (vI l2), some (vI l3), none] [] G (twQ t ad G0 (uI Q)) noX := by
  unfold f_X4_phases_19_b at h
  refine r_iload_n dX4_phases_19 rfl rfl iI ?_
  refine r_aload_n dX4_phases_20 rfl rfl iR ?_
  refine t_getA (j := 17) hT dX4_phases_21 (fg1 (f := 17) fX4 (by decide) q2238 rfl) rfl ?_
  refine r_iload_n dX4_phases_24 rfl rfl iI ?_
  refine t_iald hT dX4_phases_25 tA17 (by decide) h (fun h => ?_)
  refine r_icmp_ge (tgt := 98) dX4_phases_26 (by decide) h (fun h => ?_) (fun h => ?_)
  · refine r_aload_n dX4_phases_98 rfl rfl iR ?_
    refine r_iconst dX4_phases_99 ?_
    refine t_put (j := 1) hT hG dX4_phases_100 (fp1 (f := 1) fX4 (by decide) q2222 rfl rfl rfl) tF1 (by decide) h (fun w32 G h hT hG => ?_)
    refine r_aload_n dX4_phases_103 rfl rfl iR ?_
    refine r_aload_n dX4_phases_104 rfl rfl iR ?_
    refine t_getA (j := 20) hT dX4_phases_105 (fg1 (f := 20) fX4 (by decide) q2241 rfl) rfl ?_
    refine r_iload_n dX4_phases_108 rfl rfl iI ?_
    refine r_bipush dX4_phases_109 (by decide) ?_
    refine r_callS dX4_phases_111 (c_X4_of tA20 h hT hG) q2379 q2380 q117 q2381 yo_X4_of rfl (by decide) (by decide) rfl (rc1 c1R rc0) (by decide) (Nat.le_refl _) (Nat.le_refl _) (tofI fun x34 w33 G h hT hG => ?_) nox
    refine r_aload_n dX4_phases_114 rfl rfl iR ?_
    refine t_getA (j := 17) hT dX4_phases_115 (fg1 (f := 17) fX4 (by decide) q2238 rfl) rfl ?_
    refine r_iload_n dX4_phases_118 rfl rfl iI ?_
    refine t_iald hT dX4_phases_119 tA17 (by decide) h (fun h => ?_)
    refine r_irem dX4_phases_120 h (fun h => ?_)
    refine r_i2l dX4_phases_121 h (fun h => ?_)
    refine r_callV dX4_phases_122 (tisC hT) (c_X4_enters h hT hG) q2536 q2538 qs71 q117 q2539 rfl yo_X4_enters rfl (by decide) (by decide) rfl rc0 (by decide) (Nat.le_refl _) (Nat.le_refl _) (tofV fun w35 G h hT hG => ?_) nox
    refine r_aload_n dX4_phases_125 rfl rfl iR ?_
    refine r_aload_n dX4_phases_126 rfl rfl iR ?_
    refine r_iload_n dX4_phases_127 rfl rfl iI ?_
    refine r_aload_n dX4_phases_128 rfl rfl iR ?_
    refine t_getA (j := 20) hT dX4_phases_129 (fg1 (f := 20) fX4 (by decide) q2241 rfl) rfl ?_
    refine r_iload_n dX4_phases_132 rfl rfl iI ?_
    refine r_bipush dX4_phases_133 (by decide) ?_
    refine r_callS dX4_phases_135 (c_X4_of tA20 h hT hG) q2379 q2380 q117 q2381 yo_X4_of rfl (by decide) (by decide) rfl (rc1 c1I (rc1 c1R (rc1 c1R rc0))) (by decide) (Nat.le_refl _) (Nat.le_refl _) (tofI fun x37 w36 G h hT hG => ?_) nox
    refine r_callV dX4_phases_138 (tisC hT) (c_X4_phase h hT hG) q2616 q2618 qs79 q117 q2619 rfl yo_X4_phase rfl (by decide) (by decide) rfl (rc1 c1R rc0) (by decide) (Nat.le_refl _) (Nat.le_refl _) (tofI fun x39 w38 G h hT hG => ?_) nox
    refine r_i2l dX4_phases_141 h (fun h => ?_)
    refine r_callV dX4_phases_142 (tisC hT) (c_X4_enters h hT hG) q2536 q2538 qs71 q117 q2539 rfl yo_X4_enters rfl (by decide) (by decide) rfl rc0 (by decide) (Nat.le_refl _) (Nat.le_refl _) (tofV fun w40 G h hT hG => ?_) nox
    refine r_iload_n dX4_phases_145 rfl rfl iI ?_
    exact r_iret rfl dX4_phases_146 ⟨_, hT, hG, _, rfl, h⟩
  · refine r_aload_n dX4_phases_29 rfl rfl iR ?_
    refine t_getA (j := 20) hT dX4_phases_30 (fg1 (f := 20) fX4 (by decide) q2241 rfl) rfl ?_
    refine r_iload_n dX4_phases_33 rfl rfl iI ?_
    refine r_iconst dX4_phases_34 ?_
    refine r_callS dX4_phases_35 (c_X4_of tA20 h hT hG) q2379 q2380 q117 q2381 yo_X4_of rfl (by decide) (by decide) rfl rc0 (by decide) (Nat.le_refl _) (Nat.le_refl _) (tofI fun x42 w41 G h hT hG => ?_) nox
    refine r_iconst dX4_phases_38 ?_
    refine r_isub dX4_phases_39 ?_
    refine r_istore (L' := [some (vR (some t)), some (vI l1), some (vI l2), some (vI l3), some (vI (x42 - 1))]) dX4_phases_40 rfl iI cI (by decide) ?_
    obtain ⟨fl43, h⟩ := h
    exact w_X4_phases_42 hk19 fl43 h hT hG
def f_X4_phases_19 (Q : Int → Tw → Prop) : Nat → Int → Int → Int → Tw → Prop
  | 0, _, _, _, _ => False
  | fl + 1, l1, l2, l3, w => f_X4_phases_19_b    (fun l1 l2 l3 w => f_X4_phases_19    Q fl l1 l2 l3 w) l1 l2 l3 w Q
theorem w_X4_phases_19 {t : Nat} {ad : Nat → Nat} {G0 : Wd} {Q : Int → Tw → Prop} : ∀ (fl : Nat) {l1 : Int} {l2 : Int} {l3 : Int} {w : Tw} {G : Wd}, f_X4_phases_19 Q fl l1 l2 l3 w → TwAt t ad w (G 2) → (∀ r, r ≠ 2 → G r = G0 r) → wp m_X4_phases 3 0 0 19 [some (vR (some t)), some (vI l1), some (vI l2), some (vI l3), none] [] G (twQ t ad G0 (uI Q)) noX := by
  intro fl
  induction fl with
  | zero => intro l1 l2 l3 w G h; exact (show False from h).elim
  | succ fl ih => intro l1 l2 l3 w G h hT hG; exact w_X4_phases_19_b   (fun h hT hG => ih h hT hG) h hT hG
def f_X4_phases (a1 : Int) (w : Tw) (Q : Int → Tw → Prop) : Prop :=
  tS w 0 0 0 (fun w44 => f_X4_isQueue a1 w44 (fun x46 w45 => brB x46 (∃ fl47, f_X4_phases_19 Q fl47 a1 0 0 w45) (Q (-1) w45)))
theorem w_X4_phases {t : Nat} {ad : Nat → Nat} {G0 : Wd} {Q : Int → Tw → Prop} {a1 : Int} {w : Tw} {G : Wd} (h : f_X4_phases a1 w Q) (hT : TwAt t ad w (G 2)) (hG : ∀ r, r ≠ 2 → G r = G0 r) : wp m_X4_phases 3 0 0 0 [some (vR (some t)), some (vI a1), none, none, none] [] G (twQ t ad G0 (uI Q)) noX := by
  unfold f_X4_phases at h
  refine r_aload_n dX4_phases_0 rfl rfl iR ?_
  refine r_iconst dX4_phases_1 ?_
  refine t_put (j := 0) hT hG dX4_phases_2 (fp1 (f := 0) fX4 (by decide) q2221 rfl rfl rfl) tF0 (by decide) h (fun w44 G h hT hG => ?_)
  refine r_aload_n dX4_phases_5 rfl rfl iR ?_
  refine r_iload_n dX4_phases_6 rfl rfl iI ?_
  refine r_callV dX4_phases_7 (tisC hT) (c_X4_isQueue h hT hG) q2370 q2372 qs52 q117 q2373 rfl yo_X4_isQueue rfl (by decide) (by decide) rfl rc0 (by decide) (Nat.le_refl _) (Nat.le_refl _) (tofB fun x46 w45 G h hT hG => ?_) nox
  refine r_ifZ_ne (tgt := 15) dX4_phases_10 (by decide) h (fun h => ?_) (fun h => ?_)
  · refine r_iconst dX4_phases_15 ?_
    refine r_istore_n (L' := [some (vR (some t)), some (vI a1), some (vI 0), none, none]) dX4_phases_16 rfl rfl iI cI (by decide) ?_
    refine r_iconst dX4_phases_17 ?_
    refine r_istore_n (L' := [some (vR (some t)), some (vI a1), some (vI 0), some (vI 0), none]) dX4_phases_18 rfl rfl iI cI (by decide) ?_
    obtain ⟨fl47, h⟩ := h
    exact w_X4_phases_19 fl47 h hT hG
  · refine r_iconst dX4_phases_13 ?_
    exact r_iret rfl dX4_phases_14 ⟨_, hT, hG, _, rfl, h⟩
theorem c_X4_phases {t : Nat} {ad : Nat → Nat} {G0 : Wd} {a1 : Int} {Q : Int → Tw → Prop} {w : Tw} {G : Wd} (h : f_X4_phases a1 w Q) (hT : TwAt t ad w (G 2)) (hG : ∀ r, r ≠ 2 → G r = G0 r) : call yX4_phases (Cond.code yX4_phases cX4_phases 5 (some .int)) 3 0 0 [vR (some t), vI a1] G (twQ t ad G0 (uI Q)) noX :=
  call.enter (by decide +kernel) (la_1 c1R (la_1 c1I (la_nil rfl))) rfl (w_X4_phases  h hT hG)
abbrev m_X4_block : Mt := (yX4_block.cls, cX4_block, 5, some .int, [], yX4_block.name)
theorem yo_X4_block : yOK yX4_block 1 := ⟨by decide +kernel, by decide +kernel, by decide +kernel⟩
def f_X4_block_42_b (k23 : Int → Int → Int → Tw → Prop) (k42 : Int → Int → Int → Int → Tw → Prop) (l1 : Int) (l2 : Int) (l3 : Int) (l4 : Int) (w : Tw) (Q : Int → Tw → Prop) : Prop :=
  f_X4_of 20 l3 0 w (fun x86 w85 => br l4 x86 (x86 ≤ l4) (k23 l1 l2 (l3 + 1) w85) (f_X4_ringAt l3 l4 w85 (fun x88 w87 => f_X4_isWrite 20 x88 l1 w87 (fun x90 w89 => f_X4_flag x90 w89 (fun x92 w91 => k42 l1 (l2 + x92) l3 (l4 + 1) w91)))))
theorem w_X4_block_42_b {t : Nat} {ad : Nat → Nat} {G0 : Wd} {Q : Int → Tw → Prop} {k23 : Int → Int → Int → Tw → Prop} (hk23 : ∀ {l1 : Int} {l2 : Int} {l3 : Int} {w : Tw} {G : Wd}, k23 l1 l2 l3 w → TwAt t ad w (G 2) → (∀ r, r ≠ 2 → G r = G0 r) → wp m_X4_block 3 0 0 23 [some (vR (some t)), some (vI l1), some (vI l2), some (vI l3), none] [] G (twQ t ad G0 (uI Q)) noX) {k42 : Int → Int → Int → Int → Tw → Prop} (hk42 : ∀ {l1 : Int} {l2 : Int} {l3 : Int} {l4 : Int} {w : Tw} {G : Wd}, k42 l1 l2 l3 l4 w → TwAt t ad w (G 2) → (∀ r, r ≠ 2 → G r = G0 r) → wp m_X4_block 3 0 0 42 [some (vR (some t)), some (vI l1), some (vI l2), some (vI l3), some (vI l4)] [] G (twQ t ad G0 (uI Q)) noX) {l1 : Int} {l2 : Int} {l3 : Int} {l4 : Int} {w : Tw} {G : Wd} (h : f_X4_block_42_b k23 k42 l1 l2 l3 l4 w Q) (hT : TwAt t ad w (G 2)) (hG : ∀ r, r ≠ 2 → G r = G0 r) : wp m_X4_block 3 0 0 42 [some (vR (some t)), some (vI l1), some (vI l2), some (vI l3), some (vI l4)] [] G (twQ t ad G0 (uI Q)) noX := by
  unfold f_X4_block_42_b at h
  refine r_iload dX4_block_42 rfl iI ?_
  refine r_aload_n dX4_block_44 rfl rfl iR ?_
  refine t_getA (j := 20) hT dX4_block_45 (fg1 (f := 20) fX4 (by decide) q2241 rfl) rfl ?_
  refine r_iload_n dX4_block_48 rfl rfl iI ?_
  refine r_iconst dX4_block_49 ?_
  refine r_callS dX4_block_50 (c_X4_of tA20 h hT hG) q2379 q2380 q117 q2381 yo_X4_of rfl (by decide) (by decide) rfl (rc1 c1I rc0) (by decide) (Nat.le_refl _) (Nat.le_refl _) (tofI fun x86 w85 G h hT hG => ?_) nox
  refine r_icmp_ge (tgt := 82) dX4_block_53 (by decide) h (fun h => ?_) (fun h => ?_)
  · refine r_iinc (L' := [some (vR (some t)), some (vI l1), some (vI l2), some (vI (l3 + 1)), some (vI l4)]) dX4_block_82 rfl rfl cI (by decide) ?_
    refine r_goto (tgt := 23) dX4_block_85 (by decide) ?_
    refine wp.locals (L' := [some (vR (some t)), some (vI l1), some (vI l2), some (vI (l3 + 1)), none]) (ls_s (ls_s (ls_s (ls_s (ls_n ls_0))))) ?_
    exact hk23 h hT hG
  · refine r_iload_n dX4_block_56 rfl rfl iI ?_
    refine r_aload_n dX4_block_57 rfl rfl iR ?_
    refine t_getA (j := 20) hT dX4_block_58 (fg1 (f := 20) fX4 (by decide) q2241 rfl) rfl ?_
    refine r_iload_n dX4_block_61 rfl rfl iI ?_
    refine r_iload dX4_block_62 rfl iI ?_
    refine r_callS dX4_block_64 (c_X4_ringAt h hT hG) q2419 q2420 q117 q2421 yo_X4_ringAt rfl (by decide) (by decide) rfl (rc1 c1R (rc1 c1I rc0)) (by decide) (Nat.le_refl _) (Nat.le_refl _) (tofI fun x88 w87 G h hT hG => ?_) nox
    refine r_iload_n dX4_block_67 rfl rfl iI ?_
    refine r_callS dX4_block_68 (c_X4_isWrite tA20 h hT hG) q2628 q2629 q117 q2630 yo_X4_isWrite rfl (by decide) (by decide) rfl (rc1 c1I rc0) (by decide) (Nat.le_refl _) (Nat.le_refl _) (tofB fun x90 w89 G h hT hG => ?_) nox
    refine r_callS dX4_block_71 (c_X4_flag h hT hG) q2162 q2163 q117 q2164 yo_X4_flag rfl (by decide) (by decide) rfl (rc1 c1I rc0) (by decide) (Nat.le_refl _) (Nat.le_refl _) (tofI fun x92 w91 G h hT hG => ?_) nox
    refine r_iadd dX4_block_74 ?_
    refine r_istore_n (L' := [some (vR (some t)), some (vI l1), some (vI (l2 + x92)), some (vI l3), some (vI l4)]) dX4_block_75 rfl rfl iI cI (by decide) ?_
    refine r_iinc (L' := [some (vR (some t)), some (vI l1), some (vI (l2 + x92)), some (vI l3), some (vI (l4 + 1))]) dX4_block_76 rfl rfl cI (by decide) ?_
    refine r_goto (tgt := 42) dX4_block_79 (by decide) ?_
    exact hk42 h hT hG
def f_X4_block_42 (k23 : Int → Int → Int → Tw → Prop) (Q : Int → Tw → Prop) : Nat → Int → Int → Int → Int → Tw → Prop
  | 0, _, _, _, _, _ => False
  | fl + 1, l1, l2, l3, l4, w => f_X4_block_42_b   k23 (fun l1 l2 l3 l4 w => f_X4_block_42   k23 Q fl l1 l2 l3 l4 w) l1 l2 l3 l4 w Q
theorem w_X4_block_42 {t : Nat} {ad : Nat → Nat} {G0 : Wd} {Q : Int → Tw → Prop} {k23 : Int → Int → Int → Tw → Prop} (hk23 : ∀ {l1 : Int} {l2 : Int} {l3 : Int} {w : Tw} {G : Wd}, k23 l1 l2 l3 w → TwAt t ad w (G 2) → (∀ r, r ≠ 2 → G r = G0 r) → wp m_X4_block 3 0 0 23 [some (vR (some t)), some (vI l1), some (vI l2), some (vI l3), none] [] G (twQ t ad G0 (uI Q)) noX) : ∀ (fl : Nat) {l1 : Int} {l2 : Int} {l3 : Int} {l4 : Int} {w : Tw} {G : Wd}, f_X4_block_42 k23 Q fl l1 l2 l3 l4 w → TwAt t ad w (G 2) → (∀ r, r ≠ 2 → G r = G0 r) → wp m_X4_block 3 0 0 42 [some (vR (some t)), some (vI l1), some (vI l2), some (vI l3), some (vI l4)] [] G (twQ t ad G0 (uI Q)) noX := by
  intro fl
  induction fl with
  | zero => intro l1 l2 l3 l4 w G h; exact (show False from h).elim
  | succ fl ih => intro l1 l2 l3 l4 w G h hT hG; exact w_X4_block_42_b  hk23 (fun h hT hG => ih h hT hG) h hT hG
def f_X4_block_161 (k93 : Int → Int → Int → Int → Tw → Prop) (l1 : Int) (l2 : Int) (l4 : Int) (s0 : Int) (s1 : Int) (s2 : Bool) (w : Tw) (Q : Int → Tw → Prop) : Prop :=
  f_X4_flag s2 w (fun x94 w93 => k93 l1 l2 (s0 + (s1 + x94)) (l4 + 1) w93)
theorem w_X4_block_161 {t : Nat} {ad : Nat → Nat} {G0 : Wd} {Q : Int → Tw → Prop} {k93 : Int → Int → Int → Int → Tw → Prop} (hk93 : ∀ {l1 : Int} {l2 : Int} {l3 : Int} {l4 : Int} {w : Tw} {G : Wd}, k93 l1 l2 l3 l4 w → TwAt t ad w (G 2) → (∀ r, r ≠ 2 → G r = G0 r) → wp m_X4_block 3 0 0 93 [some (vR (some t)), some (vI l1), some (vI l2), some (vI l3), some (vI l4)] [] G (twQ t ad G0 (uI Q)) noX) {l1 : Int} {l2 : Int} {l4 : Int} {s0 : Int} {s1 : Int} {s2 : Bool} {w : Tw} {G : Wd} (h : f_X4_block_161 k93 l1 l2 l4 s0 s1 s2 w Q) (hT : TwAt t ad w (G 2)) (hG : ∀ r, r ≠ 2 → G r = G0 r) : wp m_X4_block 3 0 0 161 [some (vR (some t)), some (vI l1), some (vI l2), none, some (vI l4)] [vB s2, vI s1, vI s0] G (twQ t ad G0 (uI Q)) noX := by
  unfold f_X4_block_161 at h
  refine r_callS dX4_block_161 (c_X4_flag h hT hG) q2162 q2163 q117 q2164 yo_X4_flag rfl (by decide) (by decide) rfl (rc1 c1I (rc1 c1I rc0)) (by decide) (Nat.le_refl _) (Nat.le_refl _) (tofI fun x94 w93 G h hT hG => ?_) nox
  refine r_iadd dX4_block_164 ?_
  refine r_iadd dX4_block_165 ?_
  refine r_istore_n (L' := [some (vR (some t)), some (vI l1), some (vI l2), some (vI (s0 + (s1 + x94))), some (vI l4)]) dX4_block_166 rfl rfl iI cI (by decide) ?_
  refine r_iinc (L' := [some (vR (some t)), some (vI l1), some (vI l2), some (vI (s0 + (s1 + x94))), some (vI (l4 + 1))]) dX4_block_167 rfl rfl cI (by decide) ?_
  refine r_goto (tgt := 93) dX4_block_170 (by decide) ?_
  exact hk93 h hT hG
def f_X4_block_160 (k93 : Int → Int → Int → Int → Tw → Prop) (l1 : Int) (l2 : Int) (l4 : Int) (s0 : Int) (s1 : Int) (w : Tw) (Q : Int → Tw → Prop) : Prop :=
  f_X4_block_161 k93 l1 l2 l4 s0 s1 false w Q
theorem w_X4_block_160 {t : Nat} {ad : Nat → Nat} {G0 : Wd} {Q : Int → Tw → Prop} {k93 : Int → Int → Int → Int → Tw → Prop} (hk93 : ∀ {l1 : Int} {l2 : Int} {l3 : Int} {l4 : Int} {w : Tw} {G : Wd}, k93 l1 l2 l3 l4 w → TwAt t ad w (G 2) → (∀ r, r ≠ 2 → G r = G0 r) → wp m_X4_block 3 0 0 93 [some (vR (some t)), some (vI l1), some (vI l2), some (vI l3), some (vI l4)] [] G (twQ t ad G0 (uI Q)) noX) {l1 : Int} {l2 : Int} {l4 : Int} {s0 : Int} {s1 : Int} {w : Tw} {G : Wd} (h : f_X4_block_160 k93 l1 l2 l4 s0 s1 w Q) (hT : TwAt t ad w (G 2)) (hG : ∀ r, r ≠ 2 → G r = G0 r) : wp m_X4_block 3 0 0 160 [some (vR (some t)), some (vI l1), some (vI l2), none, some (vI l4)] [vI s1, vI s0] G (twQ t ad G0 (uI Q)) noX := by
  unfold f_X4_block_160 at h
  refine r_iconst dX4_block_160 ?_
  refine wp.cast (st' := [vB false, vI s1, vI s0]) rfl (congrArg (fun q => [q, vI s1, vI s0]) vI0) ?_
  exact w_X4_block_161 hk93 h hT hG
def f_X4_block_93_b (k93 : Int → Int → Int → Int → Tw → Prop) (l1 : Int) (l2 : Int) (l3 : Int) (l4 : Int) (w : Tw) (Q : Int → Tw → Prop) : Prop :=
  rdA w 20 844 493 (fun _ => br l4 (w 20 493) ((w 20 493) ≤ l4) (tS w 1 0 0 (fun w95 => ok32 l2 (f_X4_enters l2 w95 (fun w96 => ok32 l3 (f_X4_enters l3 w96 (fun w97 => rdA w97 20 844 (828 + l1) (fun _ => Q (w97 20 (828 + l1)) w97))))))) (f_X4_runAt l4 w (fun x99 w98 => f_X4_isWrite 20 (x99 + 1) l1 w98 (fun x101 w100 => f_X4_flag x101 w100 (fun x103 w102 => f_X4_hasSecond 20 l4 w102 (fun x105 w104 => brB x105 (f_X4_runAt l4 w104 (fun x107 w106 => f_X4_isWrite 20 (x107 + 6) l1 w106 (fun x109 w108 => brB x109 (f_X4_block_161 k93 l1 l2 l4 l3 x103 true w108 Q) (f_X4_block_160 k93 l1 l2 l4 l3 x103 w108 Q)))) (f_X4_block_160 k93 l1 l2 l4 l3 x103 w104 Q)))))))
theorem w_X4_block_93_b {t : Nat} {ad : Nat → Nat} {G0 : Wd} {Q : Int → Tw → Prop} {k93 : Int → Int → Int → Int → Tw → Prop} (hk93 : ∀ {l1 : Int} {l2 : Int} {l3 : Int} {l4 : Int} {w : Tw} {G : Wd}, k93 l1 l2 l3 l4 w → TwAt t ad w (G 2) → (∀ r, r ≠ 2 → G r = G0 r) → wp m_X4_block 3 0 0 93 [some (vR (some t)), some (vI l1), some (vI l2), some (vI l3), some (vI l4)] [] G (twQ t ad G0 (uI Q)) noX) {l1 : Int} {l2 : Int} {l3 : Int} {l4 : Int} {w : Tw} {G : Wd} (h : f_X4_block_93_b k93 l1 l2 l3 l4 w Q) (hT : TwAt t ad w (G 2)) (hG : ∀ r, r ≠ 2 → G r = G0 r) : wp m_X4_block 3 0 0 93 [some (vR (some t)), some (vI l1), some (vI l2), some (vI l3), some (vI l4)] [] G (twQ t ad G0 (uI Q)) noX := by
  unfold f_X4_block_93_b at h
  refine r_iload dX4_block_93 rfl iI ?_
  refine r_aload_n dX4_block_95 rfl rfl iR ?_
  refine t_getA (j := 20) hT dX4_block_96 (fg1 (f := 20) fX4 (by decide) q2241 rfl) rfl ?_
  refine r_sipush dX4_block_99 (by decide) ?_
  refine t_iald hT dX4_block_102 tA20 (by decide) h (fun h => ?_)
  refine r_icmp_ge (tgt := 173) dX4_block_103 (by decide) h (fun h => ?_) (fun h => ?_)
  · refine r_aload_n dX4_block_173 rfl rfl iR ?_
    refine r_iconst dX4_block_174 ?_
    refine t_put (j := 1) hT hG dX4_block_175 (fp1 (f := 1) fX4 (by decide) q2222 rfl rfl rfl) tF1 (by decide) h (fun w95 G h hT hG => ?_)
    refine r_aload_n dX4_block_178 rfl rfl iR ?_
    refine r_iload_n dX4_block_179 rfl rfl iI ?_
    refine r_i2l dX4_block_180 h (fun h => ?_)
    refine r_callV dX4_block_181 (tisC hT) (c_X4_enters h hT hG) q2536 q2538 qs71 q117 q2539 rfl yo_X4_enters rfl (by decide) (by decide) rfl rc0 (by decide) (Nat.le_refl _) (Nat.le_refl _) (tofV fun w96 G h hT hG => ?_) nox
    refine r_aload_n dX4_block_184 rfl rfl iR ?_
    refine r_iload_n dX4_block_185 rfl rfl iI ?_
    refine r_i2l dX4_block_186 h (fun h => ?_)
    refine r_callV dX4_block_187 (tisC hT) (c_X4_enters h hT hG) q2536 q2538 qs71 q117 q2539 rfl yo_X4_enters rfl (by decide) (by decide) rfl rc0 (by decide) (Nat.le_refl _) (Nat.le_refl _) (tofV fun w97 G h hT hG => ?_) nox
    refine r_aload_n dX4_block_190 rfl rfl iR ?_
    refine t_getA (j := 20) hT dX4_block_191 (fg1 (f := 20) fX4 (by decide) q2241 rfl) rfl ?_
    refine r_sipush dX4_block_194 (by decide) ?_
    refine r_iload_n dX4_block_197 rfl rfl iI ?_
    refine r_iadd dX4_block_198 ?_
    refine t_iald hT dX4_block_199 tA20 (by decide) h (fun h => ?_)
    exact r_iret rfl dX4_block_200 ⟨_, hT, hG, _, rfl, h⟩
  · refine r_iload_n dX4_block_106 rfl rfl iI ?_
    refine r_aload_n dX4_block_107 rfl rfl iR ?_
    refine t_getA (j := 20) hT dX4_block_108 (fg1 (f := 20) fX4 (by decide) q2241 rfl) rfl ?_
    refine r_iload dX4_block_111 rfl iI ?_
    refine r_callS dX4_block_113 (c_X4_runAt h hT hG) q2425 q2426 q117 q2427 yo_X4_runAt rfl (by decide) (by decide) rfl (rc1 c1R (rc1 c1I rc0)) (by decide) (Nat.le_refl _) (Nat.le_refl _) (tofI fun x99 w98 G h hT hG => ?_) nox
    refine r_iconst dX4_block_116 ?_
    refine r_iadd dX4_block_117 ?_
    refine r_iload_n dX4_block_118 rfl rfl iI ?_
    refine r_callS dX4_block_119 (c_X4_isWrite tA20 h hT hG) q2628 q2629 q117 q2630 yo_X4_isWrite rfl (by decide) (by decide) rfl (rc1 c1I rc0) (by decide) (Nat.le_refl _) (Nat.le_refl _) (tofB fun x101 w100 G h hT hG => ?_) nox
    refine r_callS dX4_block_122 (c_X4_flag h hT hG) q2162 q2163 q117 q2164 yo_X4_flag rfl (by decide) (by decide) rfl (rc1 c1I rc0) (by decide) (Nat.le_refl _) (Nat.le_refl _) (tofI fun x103 w102 G h hT hG => ?_) nox
    refine r_aload_n dX4_block_125 rfl rfl iR ?_
    refine t_getA (j := 20) hT dX4_block_126 (fg1 (f := 20) fX4 (by decide) q2241 rfl) rfl ?_
    refine r_iload dX4_block_129 rfl iI ?_
    refine r_callS dX4_block_131 (c_X4_hasSecond tA20 h hT hG) q2428 q2429 q117 q2430 yo_X4_hasSecond rfl (by decide) (by decide) rfl (rc1 c1I (rc1 c1I rc0)) (by decide) (Nat.le_refl _) (Nat.le_refl _) (tofB fun x105 w104 G h hT hG => ?_) nox
    refine r_ifZ_eq (tgt := 160) dX4_block_134 (by decide) h (fun h => ?_) (fun h => ?_)
    · refine wp.locals (L' := [some (vR (some t)), some (vI l1), some (vI l2), none, some (vI l4)]) (ls_s (ls_s (ls_s (ls_n (ls_s ls_0))))) ?_
      exact w_X4_block_160 hk93 h hT hG
    · refine r_aload_n dX4_block_137 rfl rfl iR ?_
      refine t_getA (j := 20) hT dX4_block_138 (fg1 (f := 20) fX4 (by decide) q2241 rfl) rfl ?_
      refine r_iload dX4_block_141 rfl iI ?_
      refine r_callS dX4_block_143 (c_X4_runAt h hT hG) q2425 q2426 q117 q2427 yo_X4_runAt rfl (by decide) (by decide) rfl (rc1 c1R (rc1 c1I (rc1 c1I rc0))) (by decide) (Nat.le_refl _) (Nat.le_refl _) (tofI fun x107 w106 G h hT hG => ?_) nox
      refine r_bipush dX4_block_146 (by decide) ?_
      refine r_iadd dX4_block_148 ?_
      refine r_iload_n dX4_block_149 rfl rfl iI ?_
      refine r_callS dX4_block_150 (c_X4_isWrite tA20 h hT hG) q2628 q2629 q117 q2630 yo_X4_isWrite rfl (by decide) (by decide) rfl (rc1 c1I (rc1 c1I rc0)) (by decide) (Nat.le_refl _) (Nat.le_refl _) (tofB fun x109 w108 G h hT hG => ?_) nox
      refine r_ifZ_eq (tgt := 160) dX4_block_153 (by decide) h (fun h => ?_) (fun h => ?_)
      · refine wp.locals (L' := [some (vR (some t)), some (vI l1), some (vI l2), none, some (vI l4)]) (ls_s (ls_s (ls_s (ls_n (ls_s ls_0))))) ?_
        exact w_X4_block_160 hk93 h hT hG
      · refine r_iconst dX4_block_156 ?_
        refine r_goto (tgt := 161) dX4_block_157 (by decide) ?_
        refine wp.cast (st' := [vB true, vI x103, vI l3]) rfl (congrArg (fun q => [q, vI x103, vI l3]) vI1) ?_
        refine wp.locals (L' := [some (vR (some t)), some (vI l1), some (vI l2), none, some (vI l4)]) (ls_s (ls_s (ls_s (ls_n (ls_s ls_0))))) ?_
        exact w_X4_block_161 hk93 h hT hG
def f_X4_block_93 (Q : Int → Tw → Prop) : Nat → Int → Int → Int → Int → Tw → Prop
  | 0, _, _, _, _, _ => False
  | fl + 1, l1, l2, l3, l4, w => f_X4_block_93_b    (fun l1 l2 l3 l4 w => f_X4_block_93    Q fl l1 l2 l3 l4 w) l1 l2 l3 l4 w Q
theorem w_X4_block_93 {t : Nat} {ad : Nat → Nat} {G0 : Wd} {Q : Int → Tw → Prop} : ∀ (fl : Nat) {l1 : Int} {l2 : Int} {l3 : Int} {l4 : Int} {w : Tw} {G : Wd}, f_X4_block_93 Q fl l1 l2 l3 l4 w → TwAt t ad w (G 2) → (∀ r, r ≠ 2 → G r = G0 r) → wp m_X4_block 3 0 0 93 [some (vR (some t)), some (vI l1), some (vI l2), some (vI l3), some (vI l4)] [] G (twQ t ad G0 (uI Q)) noX := by
  intro fl
  induction fl with
  | zero => intro l1 l2 l3 l4 w G h; exact (show False from h).elim
  | succ fl ih => intro l1 l2 l3 l4 w G h hT hG; exact w_X4_block_93_b   (fun h hT hG => ih h hT hG) h hT hG
def f_X4_block_23_b (k23 : Int → Int → Int → Tw → Prop) (l1 : Int) (l2 : Int) (l3 : Int) (w : Tw) (Q : Int → Tw → Prop) : Prop :=
  br l3 (w 14 0) ((w 14 0) ≤ l3) (∃ fl110, f_X4_block_93 Q fl110 l1 l2 0 0 w) (f_X4_of 20 l3 3 w (fun x112 w111 => ∃ fl113, f_X4_block_42 k23 Q fl113 l1 l2 l3 x112 w111))
theorem w_X4_block_23_b {t : Nat} {ad : Nat → Nat} {G0 : Wd} {Q : Int → Tw → Prop} {k23 : Int → Int → Int → Tw → Prop} (hk23 : ∀ {l1 : Int} {l2 : Int} {l3 : Int} {w : Tw} {G : Wd}, k23 l1 l2 l3 w → TwAt t ad w (G 2) → (∀ r, r ≠ 2 → G r = G0 r) → wp m_X4_block 3 0 0 23 [some (vR (some t)), some (vI l1), some (vI l2), some (vI l3), none] [] G (twQ t ad G0 (uI Q)) noX) {l1 : Int} {l2 : Int} {l3 : Int} {w : Tw} {G : Wd} (h : f_X4_block_23_b k23 l1 l2 l3 w Q) (hT : TwAt t ad w (G 2)) (hG : ∀ r, r ≠ 2 → G r = G0 r) : wp m_X4_block 3 0 0 23 [some (vR (some t)), some (vI l1), some (vI l2), some (vI l3), none] [] G (twQ t ad G0 (uI Q)) noX := by
  unfold f_X4_block_23_b at h
  refine r_iload_n dX4_block_23 rfl rfl iI ?_
  refine r_aload_n dX4_block_24 rfl rfl iR ?_
  refine t_getI (j := 14) hT dX4_block_25 (fg1 (f := 14) fX4 (by decide) q2235 rfl) rfl ?_
  refine r_icmp_ge (tgt := 88) dX4_block_28 (by decide) h (fun h => ?_) (fun h => ?_)
  · refine r_iconst dX4_block_88 ?_
    refine r_istore_n (L' := [some (vR (some t)), some (vI l1), some (vI l2), some (vI 0), none]) dX4_block_89 rfl rfl iI cI (by decide) ?_
    refine r_iconst dX4_block_90 ?_
    refine r_istore (L' := [some (vR (some t)), some (vI l1), some (vI l2), some (vI 0), some (vI 0)]) dX4_block_91 rfl iI cI (by decide) ?_
    obtain ⟨fl110, h⟩ := h
    exact w_X4_block_93 fl110 h hT hG
  · refine r_aload_n dX4_block_31 rfl rfl iR ?_
    refine t_getA (j := 20) hT dX4_block_32 (fg1 (f := 20) fX4 (by decide) q2241 rfl) rfl ?_
    refine r_iload_n dX4_block_35 rfl rfl iI ?_
    refine r_iconst dX4_block_36 ?_
    refine r_callS dX4_block_37 (c_X4_of tA20 h hT hG) q2379 q2380 q117 q2381 yo_X4_of rfl (by decide) (by decide) rfl rc0 (by decide) (Nat.le_refl _) (Nat.le_refl _) (tofI fun x112 w111 G h hT hG => ?_) nox
    refine r_istore (L' := [some (vR (some t)), some (vI l1), some (vI l2), some (vI l3), some (vI x112)]) dX4_block_40 rfl iI cI (by decide) ?_
    obtain ⟨fl113, h⟩ := h
    exact w_X4_block_42 hk23 fl113 h hT hG
def f_X4_block_23 (Q : Int → Tw → Prop) : Nat → Int → Int → Int → Tw → Prop
  | 0, _, _, _, _ => False
  | fl + 1, l1, l2, l3, w => f_X4_block_23_b    (fun l1 l2 l3 w => f_X4_block_23    Q fl l1 l2 l3 w) l1 l2 l3 w Q
theorem w_X4_block_23 {t : Nat} {ad : Nat → Nat} {G0 : Wd} {Q : Int → Tw → Prop} : ∀ (fl : Nat) {l1 : Int} {l2 : Int} {l3 : Int} {w : Tw} {G : Wd}, f_X4_block_23 Q fl l1 l2 l3 w → TwAt t ad w (G 2) → (∀ r, r ≠ 2 → G r = G0 r) → wp m_X4_block 3 0 0 23 [some (vR (some t)), some (vI l1), some (vI l2), some (vI l3), none] [] G (twQ t ad G0 (uI Q)) noX := by
  intro fl
  induction fl with
  | zero => intro l1 l2 l3 w G h; exact (show False from h).elim
  | succ fl ih => intro l1 l2 l3 w G h hT hG; exact w_X4_block_23_b   (fun h hT hG => ih h hT hG) h hT hG
def f_X4_block (a1 : Int) (w : Tw) (Q : Int → Tw → Prop) : Prop :=
  tS w 0 0 0 (fun w114 => ok32 a1 (f_X4_in a1 0 9 w114 (fun x116 w115 => brB x116 (∃ fl117, f_X4_block_23 Q fl117 a1 0 0 w115) (Q (-1) w115))))
theorem w_X4_block {t : Nat} {ad : Nat → Nat} {G0 : Wd} {Q : Int → Tw → Prop} {a1 : Int} {w : Tw} {G : Wd} (h : f_X4_block a1 w Q) (hT : TwAt t ad w (G 2)) (hG : ∀ r, r ≠ 2 → G r = G0 r) : wp m_X4_block 3 0 0 0 [some (vR (some t)), some (vI a1), none, none, none] [] G (twQ t ad G0 (uI Q)) noX := by
  unfold f_X4_block at h
  refine r_aload_n dX4_block_0 rfl rfl iR ?_
  refine r_iconst dX4_block_1 ?_
  refine t_put (j := 0) hT hG dX4_block_2 (fp1 (f := 0) fX4 (by decide) q2221 rfl rfl rfl) tF0 (by decide) h (fun w114 G h hT hG => ?_)
  refine r_iload_n dX4_block_5 rfl rfl iI ?_
  refine r_i2l dX4_block_6 h (fun h => ?_)
  refine r_lconst (y := 0) dX4_block_7 (by decide) ?_
  refine r_ldc2 (x := 9) dX4_block_8 q2408 (by decide) ?_
  refine r_callS dX4_block_11 (c_X4_in h hT hG) q2133 q2134 q117 q2135 yo_X4_in rfl (by decide) (by decide) rfl rc0 (by decide) (Nat.le_refl _) (Nat.le_refl _) (tofB fun x116 w115 G h hT hG => ?_) nox
  refine r_ifZ_ne (tgt := 19) dX4_block_14 (by decide) h (fun h => ?_) (fun h => ?_)
  · refine r_iconst dX4_block_19 ?_
    refine r_istore_n (L' := [some (vR (some t)), some (vI a1), some (vI 0), none, none]) dX4_block_20 rfl rfl iI cI (by decide) ?_
    refine r_iconst dX4_block_21 ?_
    refine r_istore_n (L' := [some (vR (some t)), some (vI a1), some (vI 0), some (vI 0), none]) dX4_block_22 rfl rfl iI cI (by decide) ?_
    obtain ⟨fl117, h⟩ := h
    exact w_X4_block_23 fl117 h hT hG
  · refine r_iconst dX4_block_17 ?_
    exact r_iret rfl dX4_block_18 ⟨_, hT, hG, _, rfl, h⟩
theorem c_X4_block {t : Nat} {ad : Nat → Nat} {G0 : Wd} {a1 : Int} {Q : Int → Tw → Prop} {w : Tw} {G : Wd} (h : f_X4_block a1 w Q) (hT : TwAt t ad w (G 2)) (hG : ∀ r, r ≠ 2 → G r = G0 r) : call yX4_block (Cond.code yX4_block cX4_block 5 (some .int)) 3 0 0 [vR (some t), vI a1] G (twQ t ad G0 (uI Q)) noX :=
  call.enter (by decide +kernel) (la_1 c1R (la_1 c1I (la_nil rfl))) rfl (w_X4_block  h hT hG)
abbrev m_X4_next : Mt := (yX4_next.cls, cX4_next, 2, some .int, [], yX4_next.name)
theorem yo_X4_next : yOK yX4_next 0 := ⟨by decide +kernel, by decide +kernel, by decide +kernel⟩
def f_X4_next_78 (l1 : Int) (s1 : Int) (w : Tw) (Q : Int → Tw → Prop) : Prop :=
  f_X4_enters s1 w (fun w10 => Q l1 w10)
theorem w_X4_next_78 {t : Nat} {ad : Nat → Nat} {G0 : Wd} {Q : Int → Tw → Prop} {l1 : Int} {s1 : Int} {w : Tw} {G : Wd} (h : f_X4_next_78 l1 s1 w Q) (hT : TwAt t ad w (G 2)) (hG : ∀ r, r ≠ 2 → G r = G0 r) : wp m_X4_next 6 0 0 78 [none, some (vI l1)] [vJ s1, vR (some t)] G (twQ t ad G0 (uI Q)) noX := by
  unfold f_X4_next_78 at h
  refine r_callV dX4_next_78 (tisC hT) (c_X4_enters h hT hG) q2536 q2538 qs71 q117 q2539 rfl yo_X4_enters rfl (by decide) (by decide) rfl rc0 (by decide) (Nat.le_refl _) (Nat.le_refl _) (tofV fun w10 G h hT hG => ?_) nox
  refine r_iload_n dX4_next_81 rfl rfl iI ?_
  exact r_iret rfl dX4_next_82 ⟨_, hT, hG, _, rfl, h⟩
def f_X4_next (w : Tw) (Q : Int → Tw → Prop) : Prop :=
  tS w 0 0 0 (fun w11 => f_X4_isAnyWork 20 w11 (fun x13 w12 => brB x13 (f_X4_copies  w12 (fun w14 => f_X4_chosen 21 w14 (fun x16 w15 => tS w15 1 0 0 (fun w17 => rdA w17 18 5 x16 (fun _ => ok32 (w17 18 x16) (f_X4_enters (w17 18 x16) w17 (fun w18 => rdA w18 18 5 x16 (fun _ => br0 (w18 18 x16) (¬ (w18 18 x16) = 0) (rdA w18 18 5 x16 (fun _ => rdA w18 21 844 (818 + (w18 18 x16)) (fun _ => ok32 (w18 21 (818 + (w18 18 x16))) (f_X4_next_78 x16 (w18 21 (818 + (w18 18 x16))) w18 Q)))) (f_X4_next_78 x16 0 w18 Q))))))))) (Q (-2) w12)))
theorem w_X4_next {t : Nat} {ad : Nat → Nat} {G0 : Wd} {Q : Int → Tw → Prop} {w : Tw} {G : Wd} (h : f_X4_next w Q) (hT : TwAt t ad w (G 2)) (hG : ∀ r, r ≠ 2 → G r = G0 r) : wp m_X4_next 6 0 0 0 [some (vR (some t)), none] [] G (twQ t ad G0 (uI Q)) noX := by
  unfold f_X4_next at h
  refine r_aload_n dX4_next_0 rfl rfl iR ?_
  refine r_iconst dX4_next_1 ?_
  refine t_put (j := 0) hT hG dX4_next_2 (fp1 (f := 0) fX4 (by decide) q2221 rfl rfl rfl) tF0 (by decide) h (fun w11 G h hT hG => ?_)
  refine r_aload_n dX4_next_5 rfl rfl iR ?_
  refine r_aload_n dX4_next_6 rfl rfl iR ?_
  refine t_getA (j := 20) hT dX4_next_7 (fg1 (f := 20) fX4 (by decide) q2241 rfl) rfl ?_
  refine r_callV dX4_next_10 (tisC hT) (c_X4_isAnyWork tA20 h hT hG) q2495 q2497 qs63 q117 q2498 rfl yo_X4_isAnyWork rfl (by decide) (by decide) rfl rc0 (by decide) (Nat.le_refl _) (Nat.le_refl _) (tofB fun x13 w12 G h hT hG => ?_) nox
  refine r_ifZ_ne (tgt := 19) dX4_next_13 (by decide) h (fun h => ?_) (fun h => ?_)
  · refine r_aload_n dX4_next_19 rfl rfl iR ?_
    refine r_callV dX4_next_20 (tisC hT) (c_X4_copies h hT hG) q2635 q2637 qs80 q117 q2638 rfl yo_X4_copies rfl (by decide) (by decide) rfl rc0 (by decide) (Nat.le_refl _) (Nat.le_refl _) (tofV fun w14 G h hT hG => ?_) nox
    refine r_aload_n dX4_next_23 rfl rfl iR ?_
    refine r_aload_n dX4_next_24 rfl rfl iR ?_
    refine t_getA (j := 21) hT dX4_next_25 (fg1 (f := 21) fX4 (by decide) q2242 rfl) rfl ?_
    refine r_callV dX4_next_28 (tisC hT) (c_X4_chosen tA21 h hT hG) q2506 q2508 qs65 q117 q2509 rfl yo_X4_chosen rfl (by decide) (by decide) rfl rc0 (by decide) (Nat.le_refl _) (Nat.le_refl _) (tofI fun x16 w15 G h hT hG => ?_) nox
    refine r_istore_n (L' := [some (vR (some t)), some (vI x16)]) dX4_next_31 rfl rfl iI cR (by decide) ?_
    refine r_aload_n dX4_next_32 rfl rfl iR ?_
    refine r_iconst dX4_next_33 ?_
    refine t_put (j := 1) hT hG dX4_next_34 (fp1 (f := 1) fX4 (by decide) q2222 rfl rfl rfl) tF1 (by decide) h (fun w17 G h hT hG => ?_)
    refine r_aload_n dX4_next_37 rfl rfl iR ?_
    refine r_aload_n dX4_next_38 rfl rfl iR ?_
    refine t_getA (j := 18) hT dX4_next_39 (fg1 (f := 18) fX4 (by decide) q2239 rfl) rfl ?_
    refine r_iload_n dX4_next_42 rfl rfl iI ?_
    refine t_iald hT dX4_next_43 tA18 (by decide) h (fun h => ?_)
    refine r_i2l dX4_next_44 h (fun h => ?_)
    refine r_callV dX4_next_45 (tisC hT) (c_X4_enters h hT hG) q2536 q2538 qs71 q117 q2539 rfl yo_X4_enters rfl (by decide) (by decide) rfl rc0 (by decide) (Nat.le_refl _) (Nat.le_refl _) (tofV fun w18 G h hT hG => ?_) nox
    refine r_aload_n dX4_next_48 rfl rfl iR ?_
    refine r_aload_n dX4_next_49 rfl rfl iR ?_
    refine t_getA (j := 18) hT dX4_next_50 (fg1 (f := 18) fX4 (by decide) q2239 rfl) rfl ?_
    refine r_iload_n dX4_next_53 rfl rfl iI ?_
    refine t_iald hT dX4_next_54 tA18 (by decide) h (fun h => ?_)
    refine r_if_ne (tgt := 62) dX4_next_55 (by decide) h (fun h => ?_) (fun h => ?_)
    · refine r_aload_n dX4_next_62 rfl rfl iR ?_
      refine t_getA (j := 21) hT dX4_next_63 (fg1 (f := 21) fX4 (by decide) q2242 rfl) rfl ?_
      refine r_sipush dX4_next_66 (by decide) ?_
      refine r_aload_n dX4_next_69 rfl rfl iR ?_
      refine t_getA (j := 18) hT dX4_next_70 (fg1 (f := 18) fX4 (by decide) q2239 rfl) rfl ?_
      refine r_iload_n dX4_next_73 rfl rfl iI ?_
      refine t_iald hT dX4_next_74 tA18 (by decide) h (fun h => ?_)
      refine r_iadd dX4_next_75 ?_
      refine t_iald hT dX4_next_76 tA21 (by decide) h (fun h => ?_)
      refine r_i2l dX4_next_77 h (fun h => ?_)
      refine wp.locals (L' := [none, some (vI x16)]) (ls_n (ls_s ls_0)) ?_
      exact w_X4_next_78 h hT hG
    · refine r_lconst (y := 0) dX4_next_58 (by decide) ?_
      refine r_goto (tgt := 78) dX4_next_59 (by decide) ?_
      refine wp.locals (L' := [none, some (vI x16)]) (ls_n (ls_s ls_0)) ?_
      exact w_X4_next_78 h hT hG
  · refine r_bipush dX4_next_16 (by decide) ?_
    exact r_iret rfl dX4_next_18 ⟨_, hT, hG, _, rfl, h⟩
theorem c_X4_next {t : Nat} {ad : Nat → Nat} {G0 : Wd} {Q : Int → Tw → Prop} {w : Tw} {G : Wd} (h : f_X4_next w Q) (hT : TwAt t ad w (G 2)) (hG : ∀ r, r ≠ 2 → G r = G0 r) : call yX4_next (Cond.code yX4_next cX4_next 2 (some .int)) 6 0 0 [vR (some t)] G (twQ t ad G0 (uI Q)) noX :=
  call.enter (by decide +kernel) (la_1 c1R (la_nil rfl)) rfl (w_X4_next  h hT hG)
abbrev m_X4_deals : Mt := (yX4_deals.cls, cX4_deals, 4, some .int, [], yX4_deals.name)
theorem yo_X4_deals : yOK yX4_deals 1 := ⟨by decide +kernel, by decide +kernel, by decide +kernel⟩
def f_X4_deals_155_b (k155 : Int → Tw → Prop) (l2 : Int) (w : Tw) (Q : Int → Tw → Prop) : Prop :=
  br l2 5 ((5 : Int) ≤ l2) (rdA w 33 4 0 (fun _ => Q (w 33 0) w)) (rdA w 34 5 l2 (fun _ => ok32 (w 34 l2) (f_X4_enters (w 34 l2) w (fun w25 => k155 (l2 + 1) w25))))
theorem w_X4_deals_155_b {t : Nat} {ad : Nat → Nat} {G0 : Wd} {Q : Int → Tw → Prop} {k155 : Int → Tw → Prop} (hk155 : ∀ {l2 : Int} {w : Tw} {G : Wd}, k155 l2 w → TwAt t ad w (G 2) → (∀ r, r ≠ 2 → G r = G0 r) → wp m_X4_deals 6 0 0 155 [some (vR (some t)), none, some (vI l2), none] [] G (twQ t ad G0 (uI Q)) noX) {l2 : Int} {w : Tw} {G : Wd} (h : f_X4_deals_155_b k155 l2 w Q) (hT : TwAt t ad w (G 2)) (hG : ∀ r, r ≠ 2 → G r = G0 r) : wp m_X4_deals 6 0 0 155 [some (vR (some t)), none, some (vI l2), none] [] G (twQ t ad G0 (uI Q)) noX := by
  unfold f_X4_deals_155_b at h
  refine r_iload_n dX4_deals_155 rfl rfl iI ?_
  refine r_iconst dX4_deals_156 ?_
  refine r_icmp_ge (tgt := 177) dX4_deals_157 (by decide) h (fun h => ?_) (fun h => ?_)
  · refine r_aload_n dX4_deals_177 rfl rfl iR ?_
    refine t_getA (j := 33) hT dX4_deals_178 (fg1 (f := 33) fX4 (by decide) q2254 rfl) rfl ?_
    refine r_iconst dX4_deals_181 ?_
    refine t_iald hT dX4_deals_182 tA33 (by decide) h (fun h => ?_)
    exact r_iret rfl dX4_deals_183 ⟨_, hT, hG, _, rfl, h⟩
  · refine r_aload_n dX4_deals_160 rfl rfl iR ?_
    refine r_aload_n dX4_deals_161 rfl rfl iR ?_
    refine t_getA (j := 34) hT dX4_deals_162 (fg1 (f := 34) fX4 (by decide) q2255 rfl) rfl ?_
    refine r_iload_n dX4_deals_165 rfl rfl iI ?_
    refine t_iald hT dX4_deals_166 tA34 (by decide) h (fun h => ?_)
    refine r_i2l dX4_deals_167 h (fun h => ?_)
    refine r_callV dX4_deals_168 (tisC hT) (c_X4_enters h hT hG) q2536 q2538 qs71 q117 q2539 rfl yo_X4_enters rfl (by decide) (by decide) rfl rc0 (by decide) (Nat.le_refl _) (Nat.le_refl _) (tofV fun w25 G h hT hG => ?_) nox
    refine r_iinc (L' := [some (vR (some t)), none, some (vI (l2 + 1)), none]) dX4_deals_171 rfl rfl cN (by decide) ?_
    refine r_goto (tgt := 155) dX4_deals_174 (by decide) ?_
    exact hk155 h hT hG
def f_X4_deals_155 (Q : Int → Tw → Prop) : Nat → Int → Tw → Prop
  | 0, _, _ => False
  | fl + 1, l2, w => f_X4_deals_155_b    (fun l2 w => f_X4_deals_155    Q fl l2 w) l2 w Q
theorem w_X4_deals_155 {t : Nat} {ad : Nat → Nat} {G0 : Wd} {Q : Int → Tw → Prop} : ∀ (fl : Nat) {l2 : Int} {w : Tw} {G : Wd}, f_X4_deals_155 Q fl l2 w → TwAt t ad w (G 2) → (∀ r, r ≠ 2 → G r = G0 r) → wp m_X4_deals 6 0 0 155 [some (vR (some t)), none, some (vI l2), none] [] G (twQ t ad G0 (uI Q)) noX := by
  intro fl
  induction fl with
  | zero => intro l2 w G h; exact (show False from h).elim
  | succ fl ih => intro l2 w G h hT hG; exact w_X4_deals_155_b   (fun h hT hG => ih h hT hG) h hT hG
def f_X4_deals_131_b (k131 : Int → Tw → Prop) (l2 : Int) (w : Tw) (Q : Int → Tw → Prop) : Prop :=
  br l2 4 ((4 : Int) ≤ l2) (∃ fl26, f_X4_deals_155 Q fl26 0 w) (rdA w 33 4 l2 (fun _ => ok32 (w 33 l2) (f_X4_enters (w 33 l2) w (fun w27 => k131 (l2 + 1) w27))))
theorem w_X4_deals_131_b {t : Nat} {ad : Nat → Nat} {G0 : Wd} {Q : Int → Tw → Prop} {k131 : Int → Tw → Prop} (hk131 : ∀ {l2 : Int} {w : Tw} {G : Wd}, k131 l2 w → TwAt t ad w (G 2) → (∀ r, r ≠ 2 → G r = G0 r) → wp m_X4_deals 6 0 0 131 [some (vR (some t)), none, some (vI l2), none] [] G (twQ t ad G0 (uI Q)) noX) {l2 : Int} {w : Tw} {G : Wd} (h : f_X4_deals_131_b k131 l2 w Q) (hT : TwAt t ad w (G 2)) (hG : ∀ r, r ≠ 2 → G r = G0 r) : wp m_X4_deals 6 0 0 131 [some (vR (some t)), none, some (vI l2), none] [] G (twQ t ad G0 (uI Q)) noX := by
  unfold f_X4_deals_131_b at h
  refine r_iload_n dX4_deals_131 rfl rfl iI ?_
  refine r_iconst dX4_deals_132 ?_
  refine r_icmp_ge (tgt := 153) dX4_deals_133 (by decide) h (fun h => ?_) (fun h => ?_)
  · refine r_iconst dX4_deals_153 ?_
    refine r_istore_n (L' := [some (vR (some t)), none, some (vI 0), none]) dX4_deals_154 rfl rfl iI cN (by decide) ?_
    obtain ⟨fl26, h⟩ := h
    exact w_X4_deals_155 fl26 h hT hG
  · refine r_aload_n dX4_deals_136 rfl rfl iR ?_
    refine r_aload_n dX4_deals_137 rfl rfl iR ?_
    refine t_getA (j := 33) hT dX4_deals_138 (fg1 (f := 33) fX4 (by decide) q2254 rfl) rfl ?_
    refine r_iload_n dX4_deals_141 rfl rfl iI ?_
    refine t_iald hT dX4_deals_142 tA33 (by decide) h (fun h => ?_)
    refine r_i2l dX4_deals_143 h (fun h => ?_)
    refine r_callV dX4_deals_144 (tisC hT) (c_X4_enters h hT hG) q2536 q2538 qs71 q117 q2539 rfl yo_X4_enters rfl (by decide) (by decide) rfl rc0 (by decide) (Nat.le_refl _) (Nat.le_refl _) (tofV fun w27 G h hT hG => ?_) nox
    refine r_iinc (L' := [some (vR (some t)), none, some (vI (l2 + 1)), none]) dX4_deals_147 rfl rfl cN (by decide) ?_
    refine r_goto (tgt := 131) dX4_deals_150 (by decide) ?_
    exact hk131 h hT hG
def f_X4_deals_131 (Q : Int → Tw → Prop) : Nat → Int → Tw → Prop
  | 0, _, _ => False
  | fl + 1, l2, w => f_X4_deals_131_b    (fun l2 w => f_X4_deals_131    Q fl l2 w) l2 w Q
theorem w_X4_deals_131 {t : Nat} {ad : Nat → Nat} {G0 : Wd} {Q : Int → Tw → Prop} : ∀ (fl : Nat) {l2 : Int} {w : Tw} {G : Wd}, f_X4_deals_131 Q fl l2 w → TwAt t ad w (G 2) → (∀ r, r ≠ 2 → G r = G0 r) → wp m_X4_deals 6 0 0 131 [some (vR (some t)), none, some (vI l2), none] [] G (twQ t ad G0 (uI Q)) noX := by
  intro fl
  induction fl with
  | zero => intro l2 w G h; exact (show False from h).elim
  | succ fl ih => intro l2 w G h hT hG; exact w_X4_deals_131_b   (fun h hT hG => ih h hT hG) h hT hG
def f_X4_deals_79_b (k79 : Int → Int → Tw → Prop) (l1 : Int) (l2 : Int) (w : Tw) (Q : Int → Tw → Prop) : Prop :=
  br l2 l1 (l1 ≤ l2) (tS w 1 0 0 (fun w28 => ∃ fl29, f_X4_deals_131 Q fl29 1 w28)) (f_X4_chosen 21 w (fun x31 w30 => rdA w30 18 5 x31 (fun _ => rdA w30 33 4 (w30 18 x31) (fun _ => wrA w30 33 4 (w30 18 x31) ((w30 33 (w30 18 x31)) + 1) (fun w32 => rdA w32 34 5 x31 (fun _ => wrA w32 34 5 x31 ((w32 34 x31) + 1) (fun w33 => k79 l1 (l2 + 1) w33)))))))
theorem w_X4_deals_79_b {t : Nat} {ad : Nat → Nat} {G0 : Wd} {Q : Int → Tw → Prop} {k79 : Int → Int → Tw → Prop} (hk79 : ∀ {l1 : Int} {l2 : Int} {w : Tw} {G : Wd}, k79 l1 l2 w → TwAt t ad w (G 2) → (∀ r, r ≠ 2 → G r = G0 r) → wp m_X4_deals 6 0 0 79 [some (vR (some t)), some (vI l1), some (vI l2), none] [] G (twQ t ad G0 (uI Q)) noX) {l1 : Int} {l2 : Int} {w : Tw} {G : Wd} (h : f_X4_deals_79_b k79 l1 l2 w Q) (hT : TwAt t ad w (G 2)) (hG : ∀ r, r ≠ 2 → G r = G0 r) : wp m_X4_deals 6 0 0 79 [some (vR (some t)), some (vI l1), some (vI l2), none] [] G (twQ t ad G0 (uI Q)) noX := by
  unfold f_X4_deals_79_b at h
  refine r_iload_n dX4_deals_79 rfl rfl iI ?_
  refine r_iload_n dX4_deals_80 rfl rfl iI ?_
  refine r_icmp_ge (tgt := 124) dX4_deals_81 (by decide) h (fun h => ?_) (fun h => ?_)
  · refine r_aload_n dX4_deals_124 rfl rfl iR ?_
    refine r_iconst dX4_deals_125 ?_
    refine t_put (j := 1) hT hG dX4_deals_126 (fp1 (f := 1) fX4 (by decide) q2222 rfl rfl rfl) tF1 (by decide) h (fun w28 G h hT hG => ?_)
    refine r_iconst dX4_deals_129 ?_
    refine r_istore_n (L' := [some (vR (some t)), some (vI l1), some (vI 1), none]) dX4_deals_130 rfl rfl iI cI (by decide) ?_
    refine wp.locals (L' := [some (vR (some t)), none, some (vI 1), none]) (ls_s (ls_n (ls_s (ls_n ls_0)))) ?_
    obtain ⟨fl29, h⟩ := h
    exact w_X4_deals_131 fl29 h hT hG
  · refine r_aload_n dX4_deals_84 rfl rfl iR ?_
    refine r_aload_n dX4_deals_85 rfl rfl iR ?_
    refine t_getA (j := 21) hT dX4_deals_86 (fg1 (f := 21) fX4 (by decide) q2242 rfl) rfl ?_
    refine r_callV dX4_deals_89 (tisC hT) (c_X4_chosen tA21 h hT hG) q2506 q2508 qs65 q117 q2509 rfl yo_X4_chosen rfl (by decide) (by decide) rfl rc0 (by decide) (Nat.le_refl _) (Nat.le_refl _) (tofI fun x31 w30 G h hT hG => ?_) nox
    refine r_istore_n (L' := [some (vR (some t)), some (vI l1), some (vI l2), some (vI x31)]) dX4_deals_92 rfl rfl iI cI (by decide) ?_
    refine r_aload_n dX4_deals_93 rfl rfl iR ?_
    refine t_getA (j := 33) hT dX4_deals_94 (fg1 (f := 33) fX4 (by decide) q2254 rfl) rfl ?_
    refine r_aload_n dX4_deals_97 rfl rfl iR ?_
    refine t_getA (j := 18) hT dX4_deals_98 (fg1 (f := 18) fX4 (by decide) q2239 rfl) rfl ?_
    refine r_iload_n dX4_deals_101 rfl rfl iI ?_
    refine t_iald hT dX4_deals_102 tA18 (by decide) h (fun h => ?_)
    refine r_dup2 dX4_deals_103 c1I c1R ?_
    refine t_iald hT dX4_deals_104 tA33 (by decide) h (fun h => ?_)
    refine r_iconst dX4_deals_105 ?_
    refine r_iadd dX4_deals_106 ?_
    refine t_iast hT hG dX4_deals_107 tA33 (by decide) h (fun w32 G h hT hG => ?_)
    refine r_aload_n dX4_deals_108 rfl rfl iR ?_
    refine t_getA (j := 34) hT dX4_deals_109 (fg1 (f := 34) fX4 (by decide) q2255 rfl) rfl ?_
    refine r_iload_n dX4_deals_112 rfl rfl iI ?_
    refine r_dup2 dX4_deals_113 c1I c1R ?_
    refine t_iald hT dX4_deals_114 tA34 (by decide) h (fun h => ?_)
    refine r_iconst dX4_deals_115 ?_
    refine r_iadd dX4_deals_116 ?_
    refine t_iast hT hG dX4_deals_117 tA34 (by decide) h (fun w33 G h hT hG => ?_)
    refine r_iinc (L' := [some (vR (some t)), some (vI l1), some (vI (l2 + 1)), some (vI x31)]) dX4_deals_118 rfl rfl cI (by decide) ?_
    refine r_goto (tgt := 79) dX4_deals_121 (by decide) ?_
    refine wp.locals (L' := [some (vR (some t)), some (vI l1), some (vI (l2 + 1)), none]) (ls_s (ls_s (ls_s (ls_n ls_0)))) ?_
    exact hk79 h hT hG
def f_X4_deals_79 (Q : Int → Tw → Prop) : Nat → Int → Int → Tw → Prop
  | 0, _, _, _ => False
  | fl + 1, l1, l2, w => f_X4_deals_79_b    (fun l1 l2 w => f_X4_deals_79    Q fl l1 l2 w) l1 l2 w Q
theorem w_X4_deals_79 {t : Nat} {ad : Nat → Nat} {G0 : Wd} {Q : Int → Tw → Prop} : ∀ (fl : Nat) {l1 : Int} {l2 : Int} {w : Tw} {G : Wd}, f_X4_deals_79 Q fl l1 l2 w → TwAt t ad w (G 2) → (∀ r, r ≠ 2 → G r = G0 r) → wp m_X4_deals 6 0 0 79 [some (vR (some t)), some (vI l1), some (vI l2), none] [] G (twQ t ad G0 (uI Q)) noX := by
  intro fl
  induction fl with
  | zero => intro l1 l2 w G h; exact (show False from h).elim
  | succ fl ih => intro l1 l2 w G h hT hG; exact w_X4_deals_79_b   (fun h hT hG => ih h hT hG) h hT hG
def f_X4_deals_59_b (k59 : Int → Int → Tw → Prop) (l1 : Int) (l2 : Int) (w : Tw) (Q : Int → Tw → Prop) : Prop :=
  br l2 5 ((5 : Int) ≤ l2) (∃ fl34, f_X4_deals_79 Q fl34 l1 0 w) (wrA w 34 5 l2 0 (fun w35 => k59 l1 (l2 + 1) w35))
theorem w_X4_deals_59_b {t : Nat} {ad : Nat → Nat} {G0 : Wd} {Q : Int → Tw → Prop} {k59 : Int → Int → Tw → Prop} (hk59 : ∀ {l1 : Int} {l2 : Int} {w : Tw} {G : Wd}, k59 l1 l2 w → TwAt t ad w (G 2) → (∀ r, r ≠ 2 → G r = G0 r) → wp m_X4_deals 6 0 0 59 [some (vR (some t)), some (vI l1), some (vI l2), none] [] G (twQ t ad G0 (uI Q)) noX) {l1 : Int} {l2 : Int} {w : Tw} {G : Wd} (h : f_X4_deals_59_b k59 l1 l2 w Q) (hT : TwAt t ad w (G 2)) (hG : ∀ r, r ≠ 2 → G r = G0 r) : wp m_X4_deals 6 0 0 59 [some (vR (some t)), some (vI l1), some (vI l2), none] [] G (twQ t ad G0 (uI Q)) noX := by
  unfold f_X4_deals_59_b at h
  refine r_iload_n dX4_deals_59 rfl rfl iI ?_
  refine r_iconst dX4_deals_60 ?_
  refine r_icmp_ge (tgt := 77) dX4_deals_61 (by decide) h (fun h => ?_) (fun h => ?_)
  · refine r_iconst dX4_deals_77 ?_
    refine r_istore_n (L' := [some (vR (some t)), some (vI l1), some (vI 0), none]) dX4_deals_78 rfl rfl iI cI (by decide) ?_
    obtain ⟨fl34, h⟩ := h
    exact w_X4_deals_79 fl34 h hT hG
  · refine r_aload_n dX4_deals_64 rfl rfl iR ?_
    refine t_getA (j := 34) hT dX4_deals_65 (fg1 (f := 34) fX4 (by decide) q2255 rfl) rfl ?_
    refine r_iload_n dX4_deals_68 rfl rfl iI ?_
    refine r_iconst dX4_deals_69 ?_
    refine t_iast hT hG dX4_deals_70 tA34 (by decide) h (fun w35 G h hT hG => ?_)
    refine r_iinc (L' := [some (vR (some t)), some (vI l1), some (vI (l2 + 1)), none]) dX4_deals_71 rfl rfl cI (by decide) ?_
    refine r_goto (tgt := 59) dX4_deals_74 (by decide) ?_
    exact hk59 h hT hG
def f_X4_deals_59 (Q : Int → Tw → Prop) : Nat → Int → Int → Tw → Prop
  | 0, _, _, _ => False
  | fl + 1, l1, l2, w => f_X4_deals_59_b    (fun l1 l2 w => f_X4_deals_59    Q fl l1 l2 w) l1 l2 w Q
theorem w_X4_deals_59 {t : Nat} {ad : Nat → Nat} {G0 : Wd} {Q : Int → Tw → Prop} : ∀ (fl : Nat) {l1 : Int} {l2 : Int} {w : Tw} {G : Wd}, f_X4_deals_59 Q fl l1 l2 w → TwAt t ad w (G 2) → (∀ r, r ≠ 2 → G r = G0 r) → wp m_X4_deals 6 0 0 59 [some (vR (some t)), some (vI l1), some (vI l2), none] [] G (twQ t ad G0 (uI Q)) noX := by
  intro fl
  induction fl with
  | zero => intro l1 l2 w G h; exact (show False from h).elim
  | succ fl ih => intro l1 l2 w G h hT hG; exact w_X4_deals_59_b   (fun h hT hG => ih h hT hG) h hT hG
def f_X4_deals_39_b (k39 : Int → Int → Tw → Prop) (l1 : Int) (l2 : Int) (w : Tw) (Q : Int → Tw → Prop) : Prop :=
  br l2 4 ((4 : Int) ≤ l2) (∃ fl36, f_X4_deals_59 Q fl36 l1 0 w) (wrA w 33 4 l2 0 (fun w37 => k39 l1 (l2 + 1) w37))
theorem w_X4_deals_39_b {t : Nat} {ad : Nat → Nat} {G0 : Wd} {Q : Int → Tw → Prop} {k39 : Int → Int → Tw → Prop} (hk39 : ∀ {l1 : Int} {l2 : Int} {w : Tw} {G : Wd}, k39 l1 l2 w → TwAt t ad w (G 2) → (∀ r, r ≠ 2 → G r = G0 r) → wp m_X4_deals 6 0 0 39 [some (vR (some t)), some (vI l1), some (vI l2), none] [] G (twQ t ad G0 (uI Q)) noX) {l1 : Int} {l2 : Int} {w : Tw} {G : Wd} (h : f_X4_deals_39_b k39 l1 l2 w Q) (hT : TwAt t ad w (G 2)) (hG : ∀ r, r ≠ 2 → G r = G0 r) : wp m_X4_deals 6 0 0 39 [some (vR (some t)), some (vI l1), some (vI l2), none] [] G (twQ t ad G0 (uI Q)) noX := by
  unfold f_X4_deals_39_b at h
  refine r_iload_n dX4_deals_39 rfl rfl iI ?_
  refine r_iconst dX4_deals_40 ?_
  refine r_icmp_ge (tgt := 57) dX4_deals_41 (by decide) h (fun h => ?_) (fun h => ?_)
  · refine r_iconst dX4_deals_57 ?_
    refine r_istore_n (L' := [some (vR (some t)), some (vI l1), some (vI 0), none]) dX4_deals_58 rfl rfl iI cI (by decide) ?_
    obtain ⟨fl36, h⟩ := h
    exact w_X4_deals_59 fl36 h hT hG
  · refine r_aload_n dX4_deals_44 rfl rfl iR ?_
    refine t_getA (j := 33) hT dX4_deals_45 (fg1 (f := 33) fX4 (by decide) q2254 rfl) rfl ?_
    refine r_iload_n dX4_deals_48 rfl rfl iI ?_
    refine r_iconst dX4_deals_49 ?_
    refine t_iast hT hG dX4_deals_50 tA33 (by decide) h (fun w37 G h hT hG => ?_)
    refine r_iinc (L' := [some (vR (some t)), some (vI l1), some (vI (l2 + 1)), none]) dX4_deals_51 rfl rfl cI (by decide) ?_
    refine r_goto (tgt := 39) dX4_deals_54 (by decide) ?_
    exact hk39 h hT hG
def f_X4_deals_39 (Q : Int → Tw → Prop) : Nat → Int → Int → Tw → Prop
  | 0, _, _, _ => False
  | fl + 1, l1, l2, w => f_X4_deals_39_b    (fun l1 l2 w => f_X4_deals_39    Q fl l1 l2 w) l1 l2 w Q
theorem w_X4_deals_39 {t : Nat} {ad : Nat → Nat} {G0 : Wd} {Q : Int → Tw → Prop} : ∀ (fl : Nat) {l1 : Int} {l2 : Int} {w : Tw} {G : Wd}, f_X4_deals_39 Q fl l1 l2 w → TwAt t ad w (G 2) → (∀ r, r ≠ 2 → G r = G0 r) → wp m_X4_deals 6 0 0 39 [some (vR (some t)), some (vI l1), some (vI l2), none] [] G (twQ t ad G0 (uI Q)) noX := by
  intro fl
  induction fl with
  | zero => intro l1 l2 w G h; exact (show False from h).elim
  | succ fl ih => intro l1 l2 w G h hT hG; exact w_X4_deals_39_b   (fun h hT hG => ih h hT hG) h hT hG
def f_X4_deals (a1 : Int) (w : Tw) (Q : Int → Tw → Prop) : Prop :=
  tS w 0 0 0 (fun w38 => ok32 a1 (f_X4_in a1 1 60 w38 (fun x40 w39 => brB x40 (f_X4_isAnyWork 20 w39 (fun x42 w41 => brB x42 (f_X4_copies  w41 (fun w43 => ∃ fl44, f_X4_deals_39 Q fl44 a1 0 w43)) (Q (-2) w41))) (Q (-1) w39))))
theorem w_X4_deals {t : Nat} {ad : Nat → Nat} {G0 : Wd} {Q : Int → Tw → Prop} {a1 : Int} {w : Tw} {G : Wd} (h : f_X4_deals a1 w Q) (hT : TwAt t ad w (G 2)) (hG : ∀ r, r ≠ 2 → G r = G0 r) : wp m_X4_deals 6 0 0 0 [some (vR (some t)), some (vI a1), none, none] [] G (twQ t ad G0 (uI Q)) noX := by
  unfold f_X4_deals at h
  refine r_aload_n dX4_deals_0 rfl rfl iR ?_
  refine r_iconst dX4_deals_1 ?_
  refine t_put (j := 0) hT hG dX4_deals_2 (fp1 (f := 0) fX4 (by decide) q2221 rfl rfl rfl) tF0 (by decide) h (fun w38 G h hT hG => ?_)
  refine r_iload_n dX4_deals_5 rfl rfl iI ?_
  refine r_i2l dX4_deals_6 h (fun h => ?_)
  refine r_lconst (y := 1) dX4_deals_7 (by decide) ?_
  refine r_ldc2 (x := 60) dX4_deals_8 q2466 (by decide) ?_
  refine r_callS dX4_deals_11 (c_X4_in h hT hG) q2133 q2134 q117 q2135 yo_X4_in rfl (by decide) (by decide) rfl rc0 (by decide) (Nat.le_refl _) (Nat.le_refl _) (tofB fun x40 w39 G h hT hG => ?_) nox
  refine r_ifZ_ne (tgt := 19) dX4_deals_14 (by decide) h (fun h => ?_) (fun h => ?_)
  · refine r_aload_n dX4_deals_19 rfl rfl iR ?_
    refine r_aload_n dX4_deals_20 rfl rfl iR ?_
    refine t_getA (j := 20) hT dX4_deals_21 (fg1 (f := 20) fX4 (by decide) q2241 rfl) rfl ?_
    refine r_callV dX4_deals_24 (tisC hT) (c_X4_isAnyWork tA20 h hT hG) q2495 q2497 qs63 q117 q2498 rfl yo_X4_isAnyWork rfl (by decide) (by decide) rfl rc0 (by decide) (Nat.le_refl _) (Nat.le_refl _) (tofB fun x42 w41 G h hT hG => ?_) nox
    refine r_ifZ_ne (tgt := 33) dX4_deals_27 (by decide) h (fun h => ?_) (fun h => ?_)
    · refine r_aload_n dX4_deals_33 rfl rfl iR ?_
      refine r_callV dX4_deals_34 (tisC hT) (c_X4_copies h hT hG) q2635 q2637 qs80 q117 q2638 rfl yo_X4_copies rfl (by decide) (by decide) rfl rc0 (by decide) (Nat.le_refl _) (Nat.le_refl _) (tofV fun w43 G h hT hG => ?_) nox
      refine r_iconst dX4_deals_37 ?_
      refine r_istore_n (L' := [some (vR (some t)), some (vI a1), some (vI 0), none]) dX4_deals_38 rfl rfl iI cI (by decide) ?_
      obtain ⟨fl44, h⟩ := h
      exact w_X4_deals_39 fl44 h hT hG
    · refine r_bipush dX4_deals_30 (by decide) ?_
      exact r_iret rfl dX4_deals_32 ⟨_, hT, hG, _, rfl, h⟩
  · refine r_iconst dX4_deals_17 ?_
    exact r_iret rfl dX4_deals_18 ⟨_, hT, hG, _, rfl, h⟩
theorem c_X4_deals {t : Nat} {ad : Nat → Nat} {G0 : Wd} {a1 : Int} {Q : Int → Tw → Prop} {w : Tw} {G : Wd} (h : f_X4_deals a1 w Q) (hT : TwAt t ad w (G 2)) (hG : ∀ r, r ≠ 2 → G r = G0 r) : call yX4_deals (Cond.code yX4_deals cX4_deals 4 (some .int)) 6 0 0 [vR (some t), vI a1] G (twQ t ad G0 (uI Q)) noX :=
  call.enter (by decide +kernel) (la_1 c1R (la_1 c1I (la_nil rfl))) rfl (w_X4_deals  h hT hG)
abbrev m_X4_recall : Mt := (yX4_recall.cls, cX4_recall, 5, some .int, [], yX4_recall.name)
theorem yo_X4_recall : yOK yX4_recall 2 := ⟨by decide +kernel, by decide +kernel, by decide +kernel⟩
def f_X4_recall_85 (l3 : Int) (s1 : Int) (w : Tw) (Q : Int → Tw → Prop) : Prop :=
  f_X4_enters s1 w (fun w13 => Q l3 w13)
theorem w_X4_recall_85 {t : Nat} {ad : Nat → Nat} {G0 : Wd} {Q : Int → Tw → Prop} {l3 : Int} {s1 : Int} {w : Tw} {G : Wd} (h : f_X4_recall_85 l3 s1 w Q) (hT : TwAt t ad w (G 2)) (hG : ∀ r, r ≠ 2 → G r = G0 r) : wp m_X4_recall 5 0 0 85 [none, none, none, some (vI l3), none] [vJ s1, vR (some t)] G (twQ t ad G0 (uI Q)) noX := by
  unfold f_X4_recall_85 at h
  refine r_callV dX4_recall_85 (tisC hT) (c_X4_enters h hT hG) q2536 q2538 qs71 q117 q2539 rfl yo_X4_enters rfl (by decide) (by decide) rfl rc0 (by decide) (Nat.le_refl _) (Nat.le_refl _) (tofV fun w13 G h hT hG => ?_) nox
  refine r_iload_n dX4_recall_88 rfl rfl iI ?_
  exact r_iret rfl dX4_recall_89 ⟨_, hT, hG, _, rfl, h⟩
def f_X4_recall_61 (l1 : Int) (l2 : Int) (l3 : Int) (l4 : Int) (s1 : Int) (w : Tw) (Q : Int → Tw → Prop) : Prop :=
  f_X4_enters s1 w (fun w14 => br0 l3 (¬ l3 = 0) (ok32 l4 (f_X4_recall_85 l3 l4 w14 Q)) (f_X4_ringOf 20 l1 l2 w14 (fun x16 w15 => ok32 x16 (f_X4_recall_85 l3 x16 w15 Q))))
theorem w_X4_recall_61 {t : Nat} {ad : Nat → Nat} {G0 : Wd} {Q : Int → Tw → Prop} {l1 : Int} {l2 : Int} {l3 : Int} {l4 : Int} {s1 : Int} {w : Tw} {G : Wd} (h : f_X4_recall_61 l1 l2 l3 l4 s1 w Q) (hT : TwAt t ad w (G 2)) (hG : ∀ r, r ≠ 2 → G r = G0 r) : wp m_X4_recall 5 0 0 61 [some (vR (some t)), some (vI l1), some (vI l2), some (vI l3), some (vI l4)] [vJ s1, vR (some t)] G (twQ t ad G0 (uI Q)) noX := by
  unfold f_X4_recall_61 at h
  refine r_callV dX4_recall_61 (tisC hT) (c_X4_enters h hT hG) q2536 q2538 qs71 q117 q2539 rfl yo_X4_enters rfl (by decide) (by decide) rfl rc0 (by decide) (Nat.le_refl _) (Nat.le_refl _) (tofV fun w14 G h hT hG => ?_) nox
  refine r_aload_n dX4_recall_64 rfl rfl iR ?_
  refine r_iload_n dX4_recall_65 rfl rfl iI ?_
  refine r_if_ne (tgt := 82) dX4_recall_66 (by decide) h (fun h => ?_) (fun h => ?_)
  · refine r_iload dX4_recall_82 rfl iI ?_
    refine r_i2l dX4_recall_84 h (fun h => ?_)
    refine wp.locals (L' := [none, none, none, some (vI l3), none]) (ls_n (ls_n (ls_n (ls_s (ls_n ls_0))))) ?_
    exact w_X4_recall_85 h hT hG
  · refine r_aload_n dX4_recall_69 rfl rfl iR ?_
    refine t_getA (j := 20) hT dX4_recall_70 (fg1 (f := 20) fX4 (by decide) q2241 rfl) rfl ?_
    refine r_iload_n dX4_recall_73 rfl rfl iI ?_
    refine r_iload_n dX4_recall_74 rfl rfl iI ?_
    refine r_callS dX4_recall_75 (c_X4_ringOf tA20 h hT hG) q2416 q2417 q117 q2418 yo_X4_ringOf rfl (by decide) (by decide) rfl (rc1 c1R rc0) (by decide) (Nat.le_refl _) (Nat.le_refl _) (tofI fun x16 w15 G h hT hG => ?_) nox
    refine r_i2l dX4_recall_78 h (fun h => ?_)
    refine r_goto (tgt := 85) dX4_recall_79 (by decide) ?_
    refine wp.locals (L' := [none, none, none, some (vI l3), none]) (ls_n (ls_n (ls_n (ls_s (ls_n ls_0))))) ?_
    exact w_X4_recall_85 h hT hG
def f_X4_recall (a1 : Int) (a2 : Int) (w : Tw) (Q : Int → Tw → Prop) : Prop :=
  tS w 0 0 0 (fun w17 => f_X4_callsAnswer 20 a1 a2 w17 (fun x19 w18 => br0 x19 (0 ≤ x19) (tS w18 1 0 0 (fun w20 => f_X4_runOf 20 a1 a2 w20 (fun x22 w21 => br0 x19 (¬ x19 = 0) (f_X4_runAt x22 w21 (fun x24 w23 => rdA w23 20 844 (x24 + 11) (fun _ => ok32 (w23 20 (x24 + 11)) (f_X4_recall_61 a1 a2 x19 x22 (w23 20 (x24 + 11)) w23 Q)))) (f_X4_recall_61 a1 a2 x19 x22 0 w21 Q)))) (Q x19 w18)))
theorem w_X4_recall {t : Nat} {ad : Nat → Nat} {G0 : Wd} {Q : Int → Tw → Prop} {a1 : Int} {a2 : Int} {w : Tw} {G : Wd} (h : f_X4_recall a1 a2 w Q) (hT : TwAt t ad w (G 2)) (hG : ∀ r, r ≠ 2 → G r = G0 r) : wp m_X4_recall 5 0 0 0 [some (vR (some t)), some (vI a1), some (vI a2), none, none] [] G (twQ t ad G0 (uI Q)) noX := by
  unfold f_X4_recall at h
  refine r_aload_n dX4_recall_0 rfl rfl iR ?_
  refine r_iconst dX4_recall_1 ?_
  refine t_put (j := 0) hT hG dX4_recall_2 (fp1 (f := 0) fX4 (by decide) q2221 rfl rfl rfl) tF0 (by decide) h (fun w17 G h hT hG => ?_)
  refine r_aload_n dX4_recall_5 rfl rfl iR ?_
  refine r_aload_n dX4_recall_6 rfl rfl iR ?_
  refine t_getA (j := 20) hT dX4_recall_7 (fg1 (f := 20) fX4 (by decide) q2241 rfl) rfl ?_
  refine r_iload_n dX4_recall_10 rfl rfl iI ?_
  refine r_iload_n dX4_recall_11 rfl rfl iI ?_
  refine r_callV dX4_recall_12 (tisC hT) (c_X4_callsAnswer tA20 h hT hG) q2556 q2558 qs74 q117 q2559 rfl yo_X4_callsAnswer rfl (by decide) (by decide) rfl rc0 (by decide) (Nat.le_refl _) (Nat.le_refl _) (tofI fun x19 w18 G h hT hG => ?_) nox
  refine r_istore_n (L' := [some (vR (some t)), some (vI a1), some (vI a2), some (vI x19), none]) dX4_recall_15 rfl rfl iI cI (by decide) ?_
  refine r_iload_n dX4_recall_16 rfl rfl iI ?_
  refine r_if_ge (tgt := 22) dX4_recall_17 (by decide) h (fun h => ?_) (fun h => ?_)
  · refine r_aload_n dX4_recall_22 rfl rfl iR ?_
    refine r_iconst dX4_recall_23 ?_
    refine t_put (j := 1) hT hG dX4_recall_24 (fp1 (f := 1) fX4 (by decide) q2222 rfl rfl rfl) tF1 (by decide) h (fun w20 G h hT hG => ?_)
    refine r_aload_n dX4_recall_27 rfl rfl iR ?_
    refine t_getA (j := 20) hT dX4_recall_28 (fg1 (f := 20) fX4 (by decide) q2241 rfl) rfl ?_
    refine r_iload_n dX4_recall_31 rfl rfl iI ?_
    refine r_iload_n dX4_recall_32 rfl rfl iI ?_
    refine r_callS dX4_recall_33 (c_X4_runOf tA20 h hT hG) q2422 q2423 q117 q2424 yo_X4_runOf rfl (by decide) (by decide) rfl rc0 (by decide) (Nat.le_refl _) (Nat.le_refl _) (tofI fun x22 w21 G h hT hG => ?_) nox
    refine r_istore (L' := [some (vR (some t)), some (vI a1), some (vI a2), some (vI x19), some (vI x22)]) dX4_recall_36 rfl iI cI (by decide) ?_
    refine r_aload_n dX4_recall_38 rfl rfl iR ?_
    refine r_iload_n dX4_recall_39 rfl rfl iI ?_
    refine r_if_ne (tgt := 47) dX4_recall_40 (by decide) h (fun h => ?_) (fun h => ?_)
    · refine r_aload_n dX4_recall_47 rfl rfl iR ?_
      refine t_getA (j := 20) hT dX4_recall_48 (fg1 (f := 20) fX4 (by decide) q2241 rfl) rfl ?_
      refine r_iload dX4_recall_51 rfl iI ?_
      refine r_callS dX4_recall_53 (c_X4_runAt h hT hG) q2425 q2426 q117 q2427 yo_X4_runAt rfl (by decide) (by decide) rfl (rc1 c1R (rc1 c1R rc0)) (by decide) (Nat.le_refl _) (Nat.le_refl _) (tofI fun x24 w23 G h hT hG => ?_) nox
      refine r_bipush dX4_recall_56 (by decide) ?_
      refine r_iadd dX4_recall_58 ?_
      refine t_iald hT dX4_recall_59 tA20 (by decide) h (fun h => ?_)
      refine r_i2l dX4_recall_60 h (fun h => ?_)
      exact w_X4_recall_61 h hT hG
    · refine r_lconst (y := 0) dX4_recall_43 (by decide) ?_
      refine r_goto (tgt := 61) dX4_recall_44 (by decide) ?_
      exact w_X4_recall_61 h hT hG
  · refine r_iload_n dX4_recall_20 rfl rfl iI ?_
    exact r_iret rfl dX4_recall_21 ⟨_, hT, hG, _, rfl, h⟩
theorem c_X4_recall {t : Nat} {ad : Nat → Nat} {G0 : Wd} {a1 : Int} {a2 : Int} {Q : Int → Tw → Prop} {w : Tw} {G : Wd} (h : f_X4_recall a1 a2 w Q) (hT : TwAt t ad w (G 2)) (hG : ∀ r, r ≠ 2 → G r = G0 r) : call yX4_recall (Cond.code yX4_recall cX4_recall 5 (some .int)) 5 0 0 [vR (some t), vI a1, vI a2] G (twQ t ad G0 (uI Q)) noX :=
  call.enter (by decide +kernel) (la_1 c1R (la_1 c1I (la_1 c1I (la_nil rfl)))) rfl (w_X4_recall  h hT hG)
abbrev m_X4_heard : Mt := (yX4_heard.cls, cX4_heard, 3, some .int, [], yX4_heard.name)
theorem yo_X4_heard : yOK yX4_heard 2 := ⟨by decide +kernel, by decide +kernel, by decide +kernel⟩
def f_X4_heard (a1 : Int) (a2 : Int) (w : Tw) (Q : Int → Tw → Prop) : Prop :=
  tS w 0 0 0 (fun w11 => ok32 a1 (f_X4_in a1 0 3 w11 (fun x13 w12 => brB x13 (ok32 a2 (f_X4_highest a1 w12 (fun x15 w14 => ok32 x15 (f_X4_in a2 0 x15 w14 (fun x17 w16 => brB x17 (br (w16 36 0) 12 (¬ (w16 36 0) = (12 : Int)) (wrA w16 37 12 (w16 36 0) a1 (fun w18 => wrA w18 38 12 (w18 36 0) a2 (fun w19 => tS w19 36 0 ((w19 36 0) + 1) (fun w20 => Q (w20 36 0) w20)))) (Q (-1) w16)) (Q (-1) w16)))))) (Q (-1) w12))))
theorem w_X4_heard {t : Nat} {ad : Nat → Nat} {G0 : Wd} {Q : Int → Tw → Prop} {a1 : Int} {a2 : Int} {w : Tw} {G : Wd} (h : f_X4_heard a1 a2 w Q) (hT : TwAt t ad w (G 2)) (hG : ∀ r, r ≠ 2 → G r = G0 r) : wp m_X4_heard 2 0 0 0 [some (vR (some t)), some (vI a1), some (vI a2)] [] G (twQ t ad G0 (uI Q)) noX := by
  unfold f_X4_heard at h
  refine r_aload_n dX4_heard_0 rfl rfl iR ?_
  refine r_iconst dX4_heard_1 ?_
  refine t_put (j := 0) hT hG dX4_heard_2 (fp1 (f := 0) fX4 (by decide) q2221 rfl rfl rfl) tF0 (by decide) h (fun w11 G h hT hG => ?_)
  refine r_iload_n dX4_heard_5 rfl rfl iI ?_
  refine r_i2l dX4_heard_6 h (fun h => ?_)
  refine r_lconst (y := 0) dX4_heard_7 (by decide) ?_
  refine r_ldc2 (x := 3) dX4_heard_8 q2386 (by decide) ?_
  refine r_callS dX4_heard_11 (c_X4_in h hT hG) q2133 q2134 q117 q2135 yo_X4_in rfl (by decide) (by decide) rfl rc0 (by decide) (Nat.le_refl _) (Nat.le_refl _) (tofB fun x13 w12 G h hT hG => ?_) nox
  refine r_ifZ_eq (tgt := 40) dX4_heard_14 (by decide) h (fun h => ?_) (fun h => ?_)
  · refine r_iconst dX4_heard_40 ?_
    exact r_iret rfl dX4_heard_41 ⟨_, hT, hG, _, rfl, h⟩
  · refine r_iload_n dX4_heard_17 rfl rfl iI ?_
    refine r_i2l dX4_heard_18 h (fun h => ?_)
    refine r_lconst (y := 0) dX4_heard_19 (by decide) ?_
    refine r_iload_n dX4_heard_20 rfl rfl iI ?_
    refine r_callS dX4_heard_21 (c_X4_highest h hT hG) q2687 q2688 q117 q2689 yo_X4_highest rfl (by decide) (by decide) rfl (rc2 (rc2 rc0)) (by decide) (Nat.le_refl _) (Nat.le_refl _) (tofI fun x15 w14 G h hT hG => ?_) nox
    refine r_i2l dX4_heard_24 h (fun h => ?_)
    refine r_callS dX4_heard_25 (c_X4_in h hT hG) q2133 q2134 q117 q2135 yo_X4_in rfl (by decide) (by decide) rfl rc0 (by decide) (Nat.le_refl _) (Nat.le_refl _) (tofB fun x17 w16 G h hT hG => ?_) nox
    refine r_ifZ_eq (tgt := 40) dX4_heard_28 (by decide) h (fun h => ?_) (fun h => ?_)
    · refine r_iconst dX4_heard_40 ?_
      exact r_iret rfl dX4_heard_41 ⟨_, hT, hG, _, rfl, h⟩
    · refine r_aload_n dX4_heard_31 rfl rfl iR ?_
      refine t_getI (j := 36) hT dX4_heard_32 (fg1 (f := 36) fX4 (by decide) q2257 rfl) rfl ?_
      refine r_bipush dX4_heard_35 (by decide) ?_
      refine r_icmp_ne (tgt := 42) dX4_heard_37 (by decide) h (fun h => ?_) (fun h => ?_)
      · refine r_aload_n dX4_heard_42 rfl rfl iR ?_
        refine t_getA (j := 37) hT dX4_heard_43 (fg1 (f := 37) fX4 (by decide) q2258 rfl) rfl ?_
        refine r_aload_n dX4_heard_46 rfl rfl iR ?_
        refine t_getI (j := 36) hT dX4_heard_47 (fg1 (f := 36) fX4 (by decide) q2257 rfl) rfl ?_
        refine r_iload_n dX4_heard_50 rfl rfl iI ?_
        refine t_iast hT hG dX4_heard_51 tA37 (by decide) h (fun w18 G h hT hG => ?_)
        refine r_aload_n dX4_heard_52 rfl rfl iR ?_
        refine t_getA (j := 38) hT dX4_heard_53 (fg1 (f := 38) fX4 (by decide) q2259 rfl) rfl ?_
        refine r_aload_n dX4_heard_56 rfl rfl iR ?_
        refine t_getI (j := 36) hT dX4_heard_57 (fg1 (f := 36) fX4 (by decide) q2257 rfl) rfl ?_
        refine r_iload_n dX4_heard_60 rfl rfl iI ?_
        refine t_iast hT hG dX4_heard_61 tA38 (by decide) h (fun w19 G h hT hG => ?_)
        refine r_aload_n dX4_heard_62 rfl rfl iR ?_
        refine r_dup dX4_heard_63 c1R ?_
        refine t_getI (j := 36) hT dX4_heard_64 (fg1 (f := 36) fX4 (by decide) q2257 rfl) rfl ?_
        refine r_iconst dX4_heard_67 ?_
        refine r_iadd dX4_heard_68 ?_
        refine t_put (j := 36) hT hG dX4_heard_69 (fp1 (f := 36) fX4 (by decide) q2257 rfl rfl rfl) tF36 (by decide) h (fun w20 G h hT hG => ?_)
        refine r_aload_n dX4_heard_72 rfl rfl iR ?_
        refine t_getI (j := 36) hT dX4_heard_73 (fg1 (f := 36) fX4 (by decide) q2257 rfl) rfl ?_
        exact r_iret rfl dX4_heard_76 ⟨_, hT, hG, _, rfl, h⟩
      · refine r_iconst dX4_heard_40 ?_
        exact r_iret rfl dX4_heard_41 ⟨_, hT, hG, _, rfl, h⟩
theorem c_X4_heard {t : Nat} {ad : Nat → Nat} {G0 : Wd} {a1 : Int} {a2 : Int} {Q : Int → Tw → Prop} {w : Tw} {G : Wd} (h : f_X4_heard a1 a2 w Q) (hT : TwAt t ad w (G 2)) (hG : ∀ r, r ≠ 2 → G r = G0 r) : call yX4_heard (Cond.code yX4_heard cX4_heard 3 (some .int)) 2 0 0 [vR (some t), vI a1, vI a2] G (twQ t ad G0 (uI Q)) noX :=
  call.enter (by decide +kernel) (la_1 c1R (la_1 c1I (la_1 c1I (la_nil rfl)))) rfl (w_X4_heard  h hT hG)
abbrev m_X4_commandAt : Mt := (yX4_commandAt.cls, cX4_commandAt, 6, some .int, [], yX4_commandAt.name)
theorem yo_X4_commandAt : yOK yX4_commandAt 2 := ⟨by decide +kernel, by decide +kernel, by decide +kernel⟩
def f_X4_commandAt (a1 : Int) (a2 : Int) (w : Tw) (Q : Int → Tw → Prop) : Prop :=
  f_X4_ringOf 20 a1 a2 w (fun x14 w13 => br0 x14 (x14 < 0) (f_X4_runOf 20 a1 a2 w13 (fun x16 w15 => br0 x16 (0 ≤ x16) (f_X4_runAt x16 w15 (fun x18 w17 => rdA w17 20 844 ((x18 + 1) + 0) (fun _ => br (w17 20 ((x18 + 1) + 0)) a2 (¬ (w17 20 ((x18 + 1) + 0)) = a2) (f_X4_runAt x16 w17 (fun x20 w19 => Q (x20 + 6) w19)) (Q (x18 + 1) w17)))) (Q (-1) w15))) (f_X4_of 20 a1 3 w13 (fun x22 w21 => f_X4_ringAt a1 (x22 + x14) w21 (fun x24 w23 => Q x24 w23))))
theorem w_X4_commandAt {t : Nat} {ad : Nat → Nat} {G0 : Wd} {Q : Int → Tw → Prop} {a1 : Int} {a2 : Int} {w : Tw} {G : Wd} (h : f_X4_commandAt a1 a2 w Q) (hT : TwAt t ad w (G 2)) (hG : ∀ r, r ≠ 2 → G r = G0 r) : wp m_X4_commandAt 4 0 0 0 [some (vR (some t)), some (vI a1), some (vI a2), none, none, none] [] G (twQ t ad G0 (uI Q)) noX := by
  unfold f_X4_commandAt at h
  refine r_aload_n dX4_commandAt_0 rfl rfl iR ?_
  refine t_getA (j := 20) hT dX4_commandAt_1 (fg1 (f := 20) fX4 (by decide) q2241 rfl) rfl ?_
  refine r_iload_n dX4_commandAt_4 rfl rfl iI ?_
  refine r_iload_n dX4_commandAt_5 rfl rfl iI ?_
  refine r_callS dX4_commandAt_6 (c_X4_ringOf tA20 h hT hG) q2416 q2417 q117 q2418 yo_X4_ringOf rfl (by decide) (by decide) rfl rc0 (by decide) (Nat.le_refl _) (Nat.le_refl _) (tofI fun x14 w13 G h hT hG => ?_) nox
  refine r_istore_n (L' := [some (vR (some t)), some (vI a1), some (vI a2), some (vI x14), none, none]) dX4_commandAt_9 rfl rfl iI cI (by decide) ?_
  refine r_iload_n dX4_commandAt_10 rfl rfl iI ?_
  refine r_if_lt (tgt := 30) dX4_commandAt_11 (by decide) h (fun h => ?_) (fun h => ?_)
  · refine r_aload_n dX4_commandAt_30 rfl rfl iR ?_
    refine t_getA (j := 20) hT dX4_commandAt_31 (fg1 (f := 20) fX4 (by decide) q2241 rfl) rfl ?_
    refine r_iload_n dX4_commandAt_34 rfl rfl iI ?_
    refine r_iload_n dX4_commandAt_35 rfl rfl iI ?_
    refine r_callS dX4_commandAt_36 (c_X4_runOf tA20 h hT hG) q2422 q2423 q117 q2424 yo_X4_runOf rfl (by decide) (by decide) rfl rc0 (by decide) (Nat.le_refl _) (Nat.le_refl _) (tofI fun x16 w15 G h hT hG => ?_) nox
    refine r_istore (L' := [some (vR (some t)), some (vI a1), some (vI a2), some (vI x14), some (vI x16), none]) dX4_commandAt_39 rfl iI cI (by decide) ?_
    refine r_iload dX4_commandAt_41 rfl iI ?_
    refine r_if_ge (tgt := 48) dX4_commandAt_43 (by decide) h (fun h => ?_) (fun h => ?_)
    · refine r_iload dX4_commandAt_48 rfl iI ?_
      refine r_callS dX4_commandAt_50 (c_X4_runAt h hT hG) q2425 q2426 q117 q2427 yo_X4_runAt rfl (by decide) (by decide) rfl rc0 (by decide) (Nat.le_refl _) (Nat.le_refl _) (tofI fun x18 w17 G h hT hG => ?_) nox
      refine r_iconst dX4_commandAt_53 ?_
      refine r_iadd dX4_commandAt_54 ?_
      refine r_istore (L' := [some (vR (some t)), some (vI a1), some (vI a2), some (vI x14), some (vI x16), some (vI (x18 + 1))]) dX4_commandAt_55 rfl iI cI (by decide) ?_
      refine r_aload_n dX4_commandAt_57 rfl rfl iR ?_
      refine t_getA (j := 20) hT dX4_commandAt_58 (fg1 (f := 20) fX4 (by decide) q2241 rfl) rfl ?_
      refine r_iload dX4_commandAt_61 rfl iI ?_
      refine r_iconst dX4_commandAt_63 ?_
      refine r_iadd dX4_commandAt_64 ?_
      refine t_iald hT dX4_commandAt_65 tA20 (by decide) h (fun h => ?_)
      refine r_iload_n dX4_commandAt_66 rfl rfl iI ?_
      refine r_icmp_ne (tgt := 75) dX4_commandAt_67 (by decide) h (fun h => ?_) (fun h => ?_)
      · refine r_iload dX4_commandAt_75 rfl iI ?_
        refine r_callS dX4_commandAt_77 (c_X4_runAt h hT hG) q2425 q2426 q117 q2427 yo_X4_runAt rfl (by decide) (by decide) rfl rc0 (by decide) (Nat.le_refl _) (Nat.le_refl _) (tofI fun x20 w19 G h hT hG => ?_) nox
        refine r_bipush dX4_commandAt_80 (by decide) ?_
        refine r_iadd dX4_commandAt_82 ?_
        exact r_iret rfl dX4_commandAt_83 ⟨_, hT, hG, _, rfl, h⟩
      · refine r_iload dX4_commandAt_70 rfl iI ?_
        refine r_goto (tgt := 83) dX4_commandAt_72 (by decide) ?_
        exact r_iret rfl dX4_commandAt_83 ⟨_, hT, hG, _, rfl, h⟩
    · refine r_iconst dX4_commandAt_46 ?_
      exact r_iret rfl dX4_commandAt_47 ⟨_, hT, hG, _, rfl, h⟩
  · refine r_iload_n dX4_commandAt_14 rfl rfl iI ?_
    refine r_aload_n dX4_commandAt_15 rfl rfl iR ?_
    refine t_getA (j := 20) hT dX4_commandAt_16 (fg1 (f := 20) fX4 (by decide) q2241 rfl) rfl ?_
    refine r_iload_n dX4_commandAt_19 rfl rfl iI ?_
    refine r_iconst dX4_commandAt_20 ?_
    refine r_callS dX4_commandAt_21 (c_X4_of tA20 h hT hG) q2379 q2380 q117 q2381 yo_X4_of rfl (by decide) (by decide) rfl (rc1 c1I rc0) (by decide) (Nat.le_refl _) (Nat.le_refl _) (tofI fun x22 w21 G h hT hG => ?_) nox
    refine r_iload_n dX4_commandAt_24 rfl rfl iI ?_
    refine r_iadd dX4_commandAt_25 ?_
    refine r_callS dX4_commandAt_26 (c_X4_ringAt h hT hG) q2419 q2420 q117 q2421 yo_X4_ringAt rfl (by decide) (by decide) rfl rc0 (by decide) (Nat.le_refl _) (Nat.le_refl _) (tofI fun x24 w23 G h hT hG => ?_) nox
    exact r_iret rfl dX4_commandAt_29 ⟨_, hT, hG, _, rfl, h⟩
theorem c_X4_commandAt {t : Nat} {ad : Nat → Nat} {G0 : Wd} {a1 : Int} {a2 : Int} {Q : Int → Tw → Prop} {w : Tw} {G : Wd} (h : f_X4_commandAt a1 a2 w Q) (hT : TwAt t ad w (G 2)) (hG : ∀ r, r ≠ 2 → G r = G0 r) : call yX4_commandAt (Cond.code yX4_commandAt cX4_commandAt 6 (some .int)) 4 0 0 [vR (some t), vI a1, vI a2] G (twQ t ad G0 (uI Q)) noX :=
  call.enter (by decide +kernel) (la_1 c1R (la_1 c1I (la_1 c1I (la_nil rfl)))) rfl (w_X4_commandAt  h hT hG)
abbrev m_X4_isSo : Mt := (yX4_isSo.cls, cX4_isSo, 6, some .boolean, [], yX4_isSo.name)
theorem yo_X4_isSo : yOK yX4_isSo 4 := ⟨by decide +kernel, by decide +kernel, by decide +kernel⟩
def f_X4_isSo_101 (l4 : Int) (s0 : Bool) (w : Tw) (Q : Bool → Tw → Prop) : Prop :=
  f_X4_flag s0 w (fun x6 w5 => br x6 l4 (¬ x6 = l4) (Q false w5) (Q true w5))
theorem w_X4_isSo_101 {t : Nat} {ad : Nat → Nat} {G0 : Wd} {Q : Bool → Tw → Prop} {l4 : Int} {s0 : Bool} {w : Tw} {G : Wd} (h : f_X4_isSo_101 l4 s0 w Q) (hT : TwAt t ad w (G 2)) (hG : ∀ r, r ≠ 2 → G r = G0 r) : wp m_X4_isSo 5 0 0 101 [none, none, none, none, some (vI l4), none] [vB s0] G (twQ t ad G0 (uB Q)) noX := by
  unfold f_X4_isSo_101 at h
  refine r_callS dX4_isSo_101 (c_X4_flag h hT hG) q2162 q2163 q117 q2164 yo_X4_flag rfl (by decide) (by decide) rfl rc0 (by decide) (Nat.le_refl _) (Nat.le_refl _) (tofI fun x6 w5 G h hT hG => ?_) nox
  refine r_iload dX4_isSo_104 rfl iI ?_
  refine r_icmp_ne (tgt := 113) dX4_isSo_106 (by decide) h (fun h => ?_) (fun h => ?_)
  · refine r_iconst dX4_isSo_113 ?_
    refine wp.cast (st' := [vB false]) rfl (congrArg (fun q => [q]) vI0) ?_
    exact r_zret rfl dX4_isSo_114 ⟨_, hT, hG, _, rfl, h⟩
  · refine r_iconst dX4_isSo_109 ?_
    refine r_goto (tgt := 114) dX4_isSo_110 (by decide) ?_
    refine wp.cast (st' := [vB true]) rfl (congrArg (fun q => [q]) vI1) ?_
    exact r_zret rfl dX4_isSo_114 ⟨_, hT, hG, _, rfl, h⟩
def f_X4_isSo (a1 : Int) (a2 : Int) (a3 : Int) (a4 : Int) (w : Tw) (Q : Bool → Tw → Prop) : Prop :=
  f_X4_commandAt a1 a2 w (fun x8 w7 => ok32 a3 (swc a3 0 (br a1 a4 (¬ a1 = a4) (Q false w7) (Q true w7)) (swc a3 1 (rdA w7 20 844 (x8 + 1) (fun _ => br (w7 20 (x8 + 1)) a4 (¬ (w7 20 (x8 + 1)) = a4) (Q false w7) (Q true w7))) (swc a3 2 (rdA w7 20 844 (x8 + 2) (fun _ => br (w7 20 (x8 + 2)) a4 (¬ (w7 20 (x8 + 2)) = a4) (Q false w7) (Q true w7))) (br x8 445 (x8 < (445 : Int)) (f_X4_isSo_101 a4 false w7 Q) (f_X4_isSo_101 a4 true w7 Q))))))
theorem w_X4_isSo {t : Nat} {ad : Nat → Nat} {G0 : Wd} {Q : Bool → Tw → Prop} {a1 : Int} {a2 : Int} {a3 : Int} {a4 : Int} {w : Tw} {G : Wd} (h : f_X4_isSo a1 a2 a3 a4 w Q) (hT : TwAt t ad w (G 2)) (hG : ∀ r, r ≠ 2 → G r = G0 r) : wp m_X4_isSo 5 0 0 0 [some (vR (some t)), some (vI a1), some (vI a2), some (vI a3), some (vI a4), none] [] G (twQ t ad G0 (uB Q)) noX := by
  unfold f_X4_isSo at h
  refine r_aload_n dX4_isSo_0 rfl rfl iR ?_
  refine r_iload_n dX4_isSo_1 rfl rfl iI ?_
  refine r_iload_n dX4_isSo_2 rfl rfl iI ?_
  refine r_callV dX4_isSo_3 (tisC hT) (c_X4_commandAt h hT hG) q2702 q2704 qs85 q117 q2705 rfl yo_X4_commandAt rfl (by decide) (by decide) rfl rc0 (by decide) (Nat.le_refl _) (Nat.le_refl _) (tofI fun x8 w7 G h hT hG => ?_) nox
  refine r_istore (L' := [some (vR (some t)), some (vI a1), some (vI a2), some (vI a3), some (vI a4), some (vI x8)]) dX4_isSo_6 rfl iI cI (by decide) ?_
  refine r_iload_n dX4_isSo_8 rfl rfl iI ?_
  obtain ⟨hr, h⟩ := h
  refine r_swc h (fun e0 h => ?_) (fun e0 h => ?_)
  · refine r_tsIn (tgt := 36) dX4_isSo_9 hr e0 (by decide) (by decide) rfl (by decide) ?_
    refine r_iload_n dX4_isSo_36 rfl rfl iI ?_
    refine r_iload dX4_isSo_37 rfl iI ?_
    refine r_icmp_ne (tgt := 46) dX4_isSo_39 (by decide) h (fun h => ?_) (fun h => ?_)
    · refine r_iconst dX4_isSo_46 ?_
      refine wp.cast (st' := [vB false]) rfl (congrArg (fun q => [q]) vI0) ?_
      exact r_zret rfl dX4_isSo_47 ⟨_, hT, hG, _, rfl, h⟩
    · refine r_iconst dX4_isSo_42 ?_
      refine r_goto (tgt := 47) dX4_isSo_43 (by decide) ?_
      refine wp.cast (st' := [vB true]) rfl (congrArg (fun q => [q]) vI1) ?_
      exact r_zret rfl dX4_isSo_47 ⟨_, hT, hG, _, rfl, h⟩
  · refine r_swc h (fun e1 h => ?_) (fun e1 h => ?_)
    · refine r_tsIn (tgt := 48) dX4_isSo_9 hr e1 (by decide) (by decide) rfl (by decide) ?_
      refine r_aload_n dX4_isSo_48 rfl rfl iR ?_
      refine t_getA (j := 20) hT dX4_isSo_49 (fg1 (f := 20) fX4 (by decide) q2241 rfl) rfl ?_
      refine r_iload dX4_isSo_52 rfl iI ?_
      refine r_iconst dX4_isSo_54 ?_
      refine r_iadd dX4_isSo_55 ?_
      refine t_iald hT dX4_isSo_56 tA20 (by decide) h (fun h => ?_)
      refine r_iload dX4_isSo_57 rfl iI ?_
      refine r_icmp_ne (tgt := 66) dX4_isSo_59 (by decide) h (fun h => ?_) (fun h => ?_)
      · refine r_iconst dX4_isSo_66 ?_
        refine wp.cast (st' := [vB false]) rfl (congrArg (fun q => [q]) vI0) ?_
        exact r_zret rfl dX4_isSo_67 ⟨_, hT, hG, _, rfl, h⟩
      · refine r_iconst dX4_isSo_62 ?_
        refine r_goto (tgt := 67) dX4_isSo_63 (by decide) ?_
        refine wp.cast (st' := [vB true]) rfl (congrArg (fun q => [q]) vI1) ?_
        exact r_zret rfl dX4_isSo_67 ⟨_, hT, hG, _, rfl, h⟩
    · refine r_swc h (fun e2 h => ?_) (fun e2 h => ?_)
      · refine r_tsIn (tgt := 68) dX4_isSo_9 hr e2 (by decide) (by decide) rfl (by decide) ?_
        refine r_aload_n dX4_isSo_68 rfl rfl iR ?_
        refine t_getA (j := 20) hT dX4_isSo_69 (fg1 (f := 20) fX4 (by decide) q2241 rfl) rfl ?_
        refine r_iload dX4_isSo_72 rfl iI ?_
        refine r_iconst dX4_isSo_74 ?_
        refine r_iadd dX4_isSo_75 ?_
        refine t_iald hT dX4_isSo_76 tA20 (by decide) h (fun h => ?_)
        refine r_iload dX4_isSo_77 rfl iI ?_
        refine r_icmp_ne (tgt := 86) dX4_isSo_79 (by decide) h (fun h => ?_) (fun h => ?_)
        · refine r_iconst dX4_isSo_86 ?_
          refine wp.cast (st' := [vB false]) rfl (congrArg (fun q => [q]) vI0) ?_
          exact r_zret rfl dX4_isSo_87 ⟨_, hT, hG, _, rfl, h⟩
        · refine r_iconst dX4_isSo_82 ?_
          refine r_goto (tgt := 87) dX4_isSo_83 (by decide) ?_
          refine wp.cast (st' := [vB true]) rfl (congrArg (fun q => [q]) vI1) ?_
          exact r_zret rfl dX4_isSo_87 ⟨_, hT, hG, _, rfl, h⟩
      · refine r_tsOut (tgt := 88) dX4_isSo_9 hr (by omega) (by decide) ?_
        refine r_iload dX4_isSo_88 rfl iI ?_
        refine r_sipush dX4_isSo_90 (by decide) ?_
        refine r_icmp_lt (tgt := 100) dX4_isSo_93 (by decide) h (fun h => ?_) (fun h => ?_)
        · refine r_iconst dX4_isSo_100 ?_
          refine wp.cast (st' := [vB false]) rfl (congrArg (fun q => [q]) vI0) ?_
          refine wp.locals (L' := [none, none, none, none, some (vI a4), none]) (ls_n (ls_n (ls_n (ls_n (ls_s (ls_n ls_0)))))) ?_
          exact w_X4_isSo_101 h hT hG
        · refine r_iconst dX4_isSo_96 ?_
          refine r_goto (tgt := 101) dX4_isSo_97 (by decide) ?_
          refine wp.cast (st' := [vB true]) rfl (congrArg (fun q => [q]) vI1) ?_
          refine wp.locals (L' := [none, none, none, none, some (vI a4), none]) (ls_n (ls_n (ls_n (ls_n (ls_s (ls_n ls_0)))))) ?_
          exact w_X4_isSo_101 h hT hG
theorem c_X4_isSo {t : Nat} {ad : Nat → Nat} {G0 : Wd} {a1 : Int} {a2 : Int} {a3 : Int} {a4 : Int} {Q : Bool → Tw → Prop} {w : Tw} {G : Wd} (h : f_X4_isSo a1 a2 a3 a4 w Q) (hT : TwAt t ad w (G 2)) (hG : ∀ r, r ≠ 2 → G r = G0 r) : call yX4_isSo (Cond.code yX4_isSo cX4_isSo 6 (some .boolean)) 5 0 0 [vR (some t), vI a1, vI a2, vI a3, vI a4] G (twQ t ad G0 (uB Q)) noX :=
  call.enter (by decide +kernel) (la_1 c1R (la_1 c1I (la_1 c1I (la_1 c1I (la_1 c1I (la_nil rfl)))))) rfl (w_X4_isSo  h hT hG)
abbrev m_X4_readsThing : Mt := (yX4_readsThing.cls, cX4_readsThing, 2, some .boolean, [], yX4_readsThing.name)
def f_X4_readsThing_b (T : Tw → (Bool → Tw → Prop) → Prop) (K : Int → Tw → (Bool → Tw → Prop) → Prop) (w : Tw) (Q : Bool → Tw → Prop) : Prop :=
  f_X4_takesSign 45 w (fun x24 w23 => brB x24 (T  w23 (fun x43 w42 => f_X4_codes 3000 w42 (fun w44 => Q x43 w44))) (f_X4_isDigit  w23 (fun x26 w25 => brB x26 (f_X4_number 3 w25 (fun x40 w39 => f_X4_codes x40 w39 (fun w41 => Q true w41))) (f_X4_takesOf ([111, 98, 118, 113, 99, 100, 110]) w25 (fun x29 w28 => br0 x29 (x29 < 0) (br (w28 7 0) 4 ((w28 7 0) = (4 : Int)) (Q false w28) (f_X4_takesSign 40 w28 (fun x31 w30 => brB x31 (tS w30 7 0 ((w30 7 0) + 1) (fun w32 => K 0 w32 (fun x34 w33 => brB x34 (f_X4_takesSign 41 w33 (fun x36 w35 => brB x36 (tS w35 7 0 ((w35 7 0) - 1) (fun w37 => Q true w37)) (Q false w35))) (Q false w33)))) (Q false w30)))) (f_X4_codes (1000 + x29) w28 (fun w38 => Q true w38)))))))
theorem w_X4_readsThing_b {t : Nat} {ad : Nat → Nat} {G0 : Wd} {T : Tw → (Bool → Tw → Prop) → Prop} {K : Int → Tw → (Bool → Tw → Prop) → Prop} {e : Nat} (he : 20 ≤ e) (hgT : ∀ {t : Nat} {ad : Nat → Nat} {G0 : Wd} {Q : Bool → Tw → Prop} {w : Tw} {G : Wd}, T w Q → TwAt t ad w (G 2) → (∀ r, r ≠ 2 → G r = G0 r) → call yX4_readsThing (Cond.code yX4_readsThing cX4_readsThing 2 (some .boolean)) e 0 0 [vR (some t)] G (twQ t ad G0 (uB Q)) noX) (hgK : ∀ {t : Nat} {ad : Nat → Nat} {G0 : Wd} {a1 : Int} {Q : Bool → Tw → Prop} {w : Tw} {G : Wd}, K a1 w Q → TwAt t ad w (G 2) → (∀ r, r ≠ 2 → G r = G0 r) → call yX4_readsRank (Cond.code yX4_readsRank cX4_readsRank 4 (some .boolean)) e 0 0 [vR (some t), vI a1] G (twQ t ad G0 (uB Q)) noX) {Q : Bool → Tw → Prop} {w : Tw} {G : Wd} (h : f_X4_readsThing_b T K w Q) (hT : TwAt t ad w (G 2)) (hG : ∀ r, r ≠ 2 → G r = G0 r) : wp m_X4_readsThing (e + 1) 0 0 0 [some (vR (some t)), none] [] G (twQ t ad G0 (uB Q)) noX := by
  unfold f_X4_readsThing_b at h
  refine r_aload_n dX4_readsThing_0 rfl rfl iR ?_
  refine r_bipush dX4_readsThing_1 (by decide) ?_
  refine r_callV dX4_readsThing_3 (tisC hT) (c_X4_takesSign h hT hG) q2158 q2160 qs44 q117 q2161 rfl yo_X4_takesSign rfl (by omega) (by decide) rfl rc0 (by decide) (Nat.le_refl _) (Nat.le_refl _) (tofB fun x24 w23 G h hT hG => ?_) nox
  refine r_ifZ_eq (tgt := 23) dX4_readsThing_6 (by decide) h (fun h => ?_) (fun h => ?_)
  · refine r_aload_n dX4_readsThing_23 rfl rfl iR ?_
    refine r_callV dX4_readsThing_24 (tisC hT) (c_X4_isDigit h hT hG) q2169 q2171 qs46 q117 q2172 rfl yo_X4_isDigit rfl (by omega) (by decide) rfl rc0 (by decide) (Nat.le_refl _) (Nat.le_refl _) (tofB fun x26 w25 G h hT hG => ?_) nox
    refine r_ifZ_eq (tgt := 41) dX4_readsThing_27 (by decide) h (fun h => ?_) (fun h => ?_)
    · refine r_aload_n dX4_readsThing_41 rfl rfl iR ?_
      refine t_ldcS hG dX4_readsThing_42 (List.mem_of_getElem? (i := 2) rfl) (fun sa27 hS_sa27 => ?_)
      refine r_callV dX4_readsThing_44 (tisC hT) (c_X4_takesOf h hS_sa27 hT hG) q2180 q2182 qs48 q117 q2183 rfl yo_X4_takesOf rfl (by omega) (by decide) rfl rc0 (by decide) (Nat.le_refl _) (Nat.le_refl _) (tofI fun x29 w28 G h hT hG => ?_) nox
      refine r_istore_n (L' := [some (vR (some t)), some (vI x29)]) dX4_readsThing_47 rfl rfl iI cR (by decide) ?_
      refine r_iload_n dX4_readsThing_48 rfl rfl iI ?_
      refine r_if_lt (tgt := 63) dX4_readsThing_49 (by decide) h (fun h => ?_) (fun h => ?_)
      · refine r_aload_n dX4_readsThing_63 rfl rfl iR ?_
        refine t_getI (j := 7) hT dX4_readsThing_64 (fg1 (f := 7) fX4 (by decide) q2228 rfl) rfl ?_
        refine r_iconst dX4_readsThing_67 ?_
        refine r_icmp_eq (tgt := 80) dX4_readsThing_68 (by decide) h (fun h => ?_) (fun h => ?_)
        · refine r_iconst dX4_readsThing_80 ?_
          refine wp.cast (st' := [vB false]) rfl (congrArg (fun q => [q]) vI0) ?_
          exact r_zret rfl dX4_readsThing_81 ⟨_, hT, hG, _, rfl, h⟩
        · refine r_aload_n dX4_readsThing_71 rfl rfl iR ?_
          refine r_bipush dX4_readsThing_72 (by decide) ?_
          refine r_callV dX4_readsThing_74 (tisC hT) (c_X4_takesSign h hT hG) q2158 q2160 qs44 q117 q2161 rfl yo_X4_takesSign rfl (by omega) (by decide) rfl rc0 (by decide) (Nat.le_refl _) (Nat.le_refl _) (tofB fun x31 w30 G h hT hG => ?_) nox
          refine r_ifZ_ne (tgt := 82) dX4_readsThing_77 (by decide) h (fun h => ?_) (fun h => ?_)
          · refine r_aload_n dX4_readsThing_82 rfl rfl iR ?_
            refine r_dup dX4_readsThing_83 c1R ?_
            refine t_getI (j := 7) hT dX4_readsThing_84 (fg1 (f := 7) fX4 (by decide) q2228 rfl) rfl ?_
            refine r_iconst dX4_readsThing_87 ?_
            refine r_iadd dX4_readsThing_88 ?_
            refine t_put (j := 7) hT hG dX4_readsThing_89 (fp1 (f := 7) fX4 (by decide) q2228 rfl rfl rfl) tF7 (by decide) h (fun w32 G h hT hG => ?_)
            refine r_aload_n dX4_readsThing_92 rfl rfl iR ?_
            refine r_iconst dX4_readsThing_93 ?_
            refine r_callV dX4_readsThing_94 (tisC hT) (hgK h hT hG) q2150 q2152 qs42 q117 q2153 rfl yo_X4_readsRank rfl (by omega) (by decide) rfl rc0 (by decide) (Nat.le_refl _) (Nat.le_refl _) (tofB fun x34 w33 G h hT hG => ?_) nox
            refine r_ifZ_eq (tgt := 109) dX4_readsThing_97 (by decide) h (fun h => ?_) (fun h => ?_)
            · refine r_iconst dX4_readsThing_109 ?_
              refine wp.cast (st' := [vB false]) rfl (congrArg (fun q => [q]) vI0) ?_
              exact r_zret rfl dX4_readsThing_110 ⟨_, hT, hG, _, rfl, h⟩
            · refine r_aload_n dX4_readsThing_100 rfl rfl iR ?_
              refine r_bipush dX4_readsThing_101 (by decide) ?_
              refine r_callV dX4_readsThing_103 (tisC hT) (c_X4_takesSign h hT hG) q2158 q2160 qs44 q117 q2161 rfl yo_X4_takesSign rfl (by omega) (by decide) rfl rc0 (by decide) (Nat.le_refl _) (Nat.le_refl _) (tofB fun x36 w35 G h hT hG => ?_) nox
              refine r_ifZ_ne (tgt := 111) dX4_readsThing_106 (by decide) h (fun h => ?_) (fun h => ?_)
              · refine r_aload_n dX4_readsThing_111 rfl rfl iR ?_
                refine r_dup dX4_readsThing_112 c1R ?_
                refine t_getI (j := 7) hT dX4_readsThing_113 (fg1 (f := 7) fX4 (by decide) q2228 rfl) rfl ?_
                refine r_iconst dX4_readsThing_116 ?_
                refine r_isub dX4_readsThing_117 ?_
                refine t_put (j := 7) hT hG dX4_readsThing_118 (fp1 (f := 7) fX4 (by decide) q2228 rfl rfl rfl) tF7 (by decide) h (fun w37 G h hT hG => ?_)
                refine r_iconst dX4_readsThing_121 ?_
                refine wp.cast (st' := [vB true]) rfl (congrArg (fun q => [q]) vI1) ?_
                exact r_zret rfl dX4_readsThing_122 ⟨_, hT, hG, _, rfl, h⟩
              · refine r_iconst dX4_readsThing_109 ?_
                refine wp.cast (st' := [vB false]) rfl (congrArg (fun q => [q]) vI0) ?_
                exact r_zret rfl dX4_readsThing_110 ⟨_, hT, hG, _, rfl, h⟩
          · refine r_iconst dX4_readsThing_80 ?_
            refine wp.cast (st' := [vB false]) rfl (congrArg (fun q => [q]) vI0) ?_
            exact r_zret rfl dX4_readsThing_81 ⟨_, hT, hG, _, rfl, h⟩
      · refine r_aload_n dX4_readsThing_52 rfl rfl iR ?_
        refine r_sipush dX4_readsThing_53 (by decide) ?_
        refine r_iload_n dX4_readsThing_56 rfl rfl iI ?_
        refine r_iadd dX4_readsThing_57 ?_
        refine r_callV dX4_readsThing_58 (tisC hT) (c_X4_codes h hT hG) q2165 q2167 qs45 q117 q2168 rfl yo_X4_codes rfl (by omega) (by decide) rfl rc0 (by decide) (Nat.le_refl _) (Nat.le_refl _) (tofV fun w38 G h hT hG => ?_) nox
        refine r_iconst dX4_readsThing_61 ?_
        refine wp.cast (st' := [vB true]) rfl (congrArg (fun q => [q]) vI1) ?_
        exact r_zret rfl dX4_readsThing_62 ⟨_, hT, hG, _, rfl, h⟩
    · refine r_aload_n dX4_readsThing_30 rfl rfl iR ?_
      refine r_aload_n dX4_readsThing_31 rfl rfl iR ?_
      refine r_iconst dX4_readsThing_32 ?_
      refine r_callV dX4_readsThing_33 (tisC hT) (c_X4_number h hT hG) q2175 q2177 qs47 q117 q2178 rfl yo_X4_number rfl (by omega) (by decide) rfl (rc1 c1R rc0) (by decide) (Nat.le_refl _) (Nat.le_refl _) (tofI fun x40 w39 G h hT hG => ?_) nox
      refine r_callV dX4_readsThing_36 (tisC hT) (c_X4_codes h hT hG) q2165 q2167 qs45 q117 q2168 rfl yo_X4_codes rfl (by omega) (by decide) rfl rc0 (by decide) (Nat.le_refl _) (Nat.le_refl _) (tofV fun w41 G h hT hG => ?_) nox
      refine r_iconst dX4_readsThing_39 ?_
      refine wp.cast (st' := [vB true]) rfl (congrArg (fun q => [q]) vI1) ?_
      exact r_zret rfl dX4_readsThing_40 ⟨_, hT, hG, _, rfl, h⟩
  · refine r_aload_n dX4_readsThing_9 rfl rfl iR ?_
    refine r_callV dX4_readsThing_10 (tisC hT) (hgT h hT hG) q2154 q2156 qs43 q117 q2157 rfl yo_X4_readsThing rfl (by omega) (by decide) rfl rc0 (by decide) (Nat.le_refl _) (Nat.le_refl _) (tofB fun x43 w42 G h hT hG => ?_) nox
    refine r_istore_n (L' := [some (vR (some t)), some (vB x43)]) dX4_readsThing_13 rfl rfl iB cR (by decide) ?_
    refine r_aload_n dX4_readsThing_14 rfl rfl iR ?_
    refine r_sipush dX4_readsThing_15 (by decide) ?_
    refine r_callV dX4_readsThing_18 (tisC hT) (c_X4_codes h hT hG) q2165 q2167 qs45 q117 q2168 rfl yo_X4_codes rfl (by omega) (by decide) rfl rc0 (by decide) (Nat.le_refl _) (Nat.le_refl _) (tofV fun w44 G h hT hG => ?_) nox
    refine r_iload_n dX4_readsThing_21 rfl rfl iB ?_
    exact r_zret rfl dX4_readsThing_22 ⟨_, hT, hG, _, rfl, h⟩
theorem c_X4_readsThing_b {T : Tw → (Bool → Tw → Prop) → Prop} {K : Int → Tw → (Bool → Tw → Prop) → Prop} {e : Nat} (he : 20 ≤ e) (hgT : ∀ {t : Nat} {ad : Nat → Nat} {G0 : Wd} {Q : Bool → Tw → Prop} {w : Tw} {G : Wd}, T w Q → TwAt t ad w (G 2) → (∀ r, r ≠ 2 → G r = G0 r) → call yX4_readsThing (Cond.code yX4_readsThing cX4_readsThing 2 (some .boolean)) e 0 0 [vR (some t)] G (twQ t ad G0 (uB Q)) noX) (hgK : ∀ {t : Nat} {ad : Nat → Nat} {G0 : Wd} {a1 : Int} {Q : Bool → Tw → Prop} {w : Tw} {G : Wd}, K a1 w Q → TwAt t ad w (G 2) → (∀ r, r ≠ 2 → G r = G0 r) → call yX4_readsRank (Cond.code yX4_readsRank cX4_readsRank 4 (some .boolean)) e 0 0 [vR (some t), vI a1] G (twQ t ad G0 (uB Q)) noX) {t : Nat} {ad : Nat → Nat} {G0 : Wd} {Q : Bool → Tw → Prop} {w : Tw} {G : Wd} (h : f_X4_readsThing_b T K w Q) (hT : TwAt t ad w (G 2)) (hG : ∀ r, r ≠ 2 → G r = G0 r) : call yX4_readsThing (Cond.code yX4_readsThing cX4_readsThing 2 (some .boolean)) (e + 1) 0 0 [vR (some t)] G (twQ t ad G0 (uB Q)) noX :=
  call.enter (by decide +kernel) (la_1 c1R (la_nil rfl)) rfl (w_X4_readsThing_b he hgT hgK  h hT hG)
def f_X4_rec : Nat → (Tw → (Bool → Tw → Prop) → Prop) × (Int → Tw → (Bool → Tw → Prop) → Prop)
  | 0 => (fun _ _ => False, fun _ _ _ => False)
  | e + 1 => (f_X4_readsThing_b (f_X4_rec e).1 (f_X4_rec e).2, f_X4_readsRank_b (f_X4_rec e).1 (f_X4_rec e).2)
def f_X4_readsThing (e : Nat) (w : Tw) (Q : Bool → Tw → Prop) : Prop := (f_X4_rec e).1 w Q
def f_X4_readsRank (e : Nat) (a1 : Int) (w : Tw) (Q : Bool → Tw → Prop) : Prop := (f_X4_rec e).2 a1 w Q
theorem c_X4_rec : ∀ (e : Nat), (∀ {t : Nat} {ad : Nat → Nat} {G0 : Wd} {Q : Bool → Tw → Prop} {w : Tw} {G : Wd}, (f_X4_rec e).1 w Q → TwAt t ad w (G 2) → (∀ r, r ≠ 2 → G r = G0 r) → call yX4_readsThing (Cond.code yX4_readsThing cX4_readsThing 2 (some .boolean)) (e + 20) 0 0 [vR (some t)] G (twQ t ad G0 (uB Q)) noX) ∧ (∀ {t : Nat} {ad : Nat → Nat} {G0 : Wd} {a1 : Int} {Q : Bool → Tw → Prop} {w : Tw} {G : Wd}, (f_X4_rec e).2 a1 w Q → TwAt t ad w (G 2) → (∀ r, r ≠ 2 → G r = G0 r) → call yX4_readsRank (Cond.code yX4_readsRank cX4_readsRank 4 (some .boolean)) (e + 20) 0 0 [vR (some t), vI a1] G (twQ t ad G0 (uB Q)) noX) := by
  intro e
  induction e with
  | zero => exact ⟨fun h => (show False from h).elim, fun h => (show False from h).elim⟩
  | succ e ih => exact ⟨fun h hT hG => c_X4_readsThing_b (e := e + 20) (by omega) (fun h hT hG => ih.1 h hT hG) (fun h hT hG => ih.2 h hT hG) h hT hG, fun h hT hG => c_X4_readsRank_b (e := e + 20) (by omega) (fun h hT hG => ih.1 h hT hG) (fun h hT hG => ih.2 h hT hG) h hT hG⟩
theorem c_X4_readsThing (e : Nat) {t : Nat} {ad : Nat → Nat} {G0 : Wd} {Q : Bool → Tw → Prop} {w : Tw} {G : Wd} (h : f_X4_readsThing e w Q) (hT : TwAt t ad w (G 2)) (hG : ∀ r, r ≠ 2 → G r = G0 r) : call yX4_readsThing (Cond.code yX4_readsThing cX4_readsThing 2 (some .boolean)) (e + 20) 0 0 [vR (some t)] G (twQ t ad G0 (uB Q)) noX := (c_X4_rec e).1 h hT hG
theorem c_X4_readsRank (e : Nat) {t : Nat} {ad : Nat → Nat} {G0 : Wd} {a1 : Int} {Q : Bool → Tw → Prop} {w : Tw} {G : Wd} (h : f_X4_readsRank e a1 w Q) (hT : TwAt t ad w (G 2)) (hG : ∀ r, r ≠ 2 → G r = G0 r) : call yX4_readsRank (Cond.code yX4_readsRank cX4_readsRank 4 (some .boolean)) (e + 20) 0 0 [vR (some t), vI a1] G (twQ t ad G0 (uB Q)) noX := (c_X4_rec e).2 h hT hG
abbrev m_X4_isUsed : Mt := (yX4_isUsed.cls, cX4_isUsed, 3, some .boolean, [], yX4_isUsed.name)
theorem yo_X4_isUsed : yOK yX4_isUsed 3 := ⟨by decide +kernel, by decide +kernel, by decide +kernel⟩
def f_X4_isUsed_36 (a0 : Nat) (w : Tw) (Q : Bool → Tw → Prop) : Prop :=
  Q true w
theorem w_X4_isUsed_36 {t : Nat} {ad : Nat → Nat} {G0 : Wd} {a0 : Nat} (hA_a0 : (a0, 0, 844) ∈ twA) {Q : Bool → Tw → Prop} {w : Tw} {G : Wd} (h : f_X4_isUsed_36 a0 w Q) (hT : TwAt t ad w (G 2)) (hG : ∀ r, r ≠ 2 → G r = G0 r) : wp m_X4_isUsed 4 0 0 36 [none, none, none] [] G (twQ t ad G0 (uB Q)) noX := by
  unfold f_X4_isUsed_36 at h
  refine r_iconst dX4_isUsed_36 ?_
  refine r_goto (tgt := 41) dX4_isUsed_37 (by decide) ?_
  refine wp.cast (st' := [vB true]) rfl (congrArg (fun q => [q]) vI1) ?_
  exact r_zret rfl dX4_isUsed_41 ⟨_, hT, hG, _, rfl, h⟩
def f_X4_isUsed (a0 : Nat) (a1 : Int) (a2 : Int) (w : Tw) (Q : Bool → Tw → Prop) : Prop :=
  f_X4_ringOf a0 a1 a2 w (fun x10 w9 => br0 x10 (0 ≤ x10) (f_X4_isUsed_36 a0 w9 Q) (f_X4_runOf a0 a1 a2 w9 (fun x12 w11 => br0 x12 (0 ≤ x12) (f_X4_isUsed_36 a0 w11 Q) (f_X4_outOf a0 a1 a2 w11 (fun x14 w13 => br0 x14 (0 ≤ x14) (f_X4_isUsed_36 a0 w13 Q) (f_X4_isPosted a0 a1 a2 w13 (fun x16 w15 => brB x16 (f_X4_isUsed_36 a0 w15 Q) (Q false w15))))))))
theorem w_X4_isUsed {t : Nat} {ad : Nat → Nat} {G0 : Wd} {a0 : Nat} (hA_a0 : (a0, 0, 844) ∈ twA) {Q : Bool → Tw → Prop} {a1 : Int} {a2 : Int} {w : Tw} {G : Wd} (h : f_X4_isUsed a0 a1 a2 w Q) (hT : TwAt t ad w (G 2)) (hG : ∀ r, r ≠ 2 → G r = G0 r) : wp m_X4_isUsed 4 0 0 0 [some (vR (some (ad a0))), some (vI a1), some (vI a2)] [] G (twQ t ad G0 (uB Q)) noX := by
  unfold f_X4_isUsed at h
  refine r_aload_n dX4_isUsed_0 rfl rfl iR ?_
  refine r_iload_n dX4_isUsed_1 rfl rfl iI ?_
  refine r_iload_n dX4_isUsed_2 rfl rfl iI ?_
  refine r_callS dX4_isUsed_3 (c_X4_ringOf hA_a0 h hT hG) q2416 q2417 q117 q2418 yo_X4_ringOf rfl (by decide) (by decide) rfl rc0 (by decide) (Nat.le_refl _) (Nat.le_refl _) (tofI fun x10 w9 G h hT hG => ?_) nox
  refine r_if_ge (tgt := 36) dX4_isUsed_6 (by decide) h (fun h => ?_) (fun h => ?_)
  · refine wp.locals (L' := [none, none, none]) (ls_n (ls_n (ls_n ls_0))) ?_
    exact w_X4_isUsed_36 hA_a0 h hT hG
  · refine r_aload_n dX4_isUsed_9 rfl rfl iR ?_
    refine r_iload_n dX4_isUsed_10 rfl rfl iI ?_
    refine r_iload_n dX4_isUsed_11 rfl rfl iI ?_
    refine r_callS dX4_isUsed_12 (c_X4_runOf hA_a0 h hT hG) q2422 q2423 q117 q2424 yo_X4_runOf rfl (by decide) (by decide) rfl rc0 (by decide) (Nat.le_refl _) (Nat.le_refl _) (tofI fun x12 w11 G h hT hG => ?_) nox
    refine r_if_ge (tgt := 36) dX4_isUsed_15 (by decide) h (fun h => ?_) (fun h => ?_)
    · refine wp.locals (L' := [none, none, none]) (ls_n (ls_n (ls_n ls_0))) ?_
      exact w_X4_isUsed_36 hA_a0 h hT hG
    · refine r_aload_n dX4_isUsed_18 rfl rfl iR ?_
      refine r_iload_n dX4_isUsed_19 rfl rfl iI ?_
      refine r_iload_n dX4_isUsed_20 rfl rfl iI ?_
      refine r_callS dX4_isUsed_21 (c_X4_outOf hA_a0 h hT hG) q2431 q2432 q117 q2433 yo_X4_outOf rfl (by decide) (by decide) rfl rc0 (by decide) (Nat.le_refl _) (Nat.le_refl _) (tofI fun x14 w13 G h hT hG => ?_) nox
      refine r_if_ge (tgt := 36) dX4_isUsed_24 (by decide) h (fun h => ?_) (fun h => ?_)
      · refine wp.locals (L' := [none, none, none]) (ls_n (ls_n (ls_n ls_0))) ?_
        exact w_X4_isUsed_36 hA_a0 h hT hG
      · refine r_aload_n dX4_isUsed_27 rfl rfl iR ?_
        refine r_iload_n dX4_isUsed_28 rfl rfl iI ?_
        refine r_iload_n dX4_isUsed_29 rfl rfl iI ?_
        refine r_callS dX4_isUsed_30 (c_X4_isPosted hA_a0 h hT hG) q2437 q2438 q117 q2439 yo_X4_isPosted rfl (by decide) (by decide) rfl rc0 (by decide) (Nat.le_refl _) (Nat.le_refl _) (tofB fun x16 w15 G h hT hG => ?_) nox
        refine r_ifZ_eq (tgt := 40) dX4_isUsed_33 (by decide) h (fun h => ?_) (fun h => ?_)
        · refine r_iconst dX4_isUsed_40 ?_
          refine wp.cast (st' := [vB false]) rfl (congrArg (fun q => [q]) vI0) ?_
          exact r_zret rfl dX4_isUsed_41 ⟨_, hT, hG, _, rfl, h⟩
        · refine wp.locals (L' := [none, none, none]) (ls_n (ls_n (ls_n ls_0))) ?_
          exact w_X4_isUsed_36 hA_a0 h hT hG
theorem c_X4_isUsed {t : Nat} {ad : Nat → Nat} {G0 : Wd} {a0 : Nat} {a1 : Int} {a2 : Int} (hA_a0 : (a0, 0, 844) ∈ twA) {Q : Bool → Tw → Prop} {w : Tw} {G : Wd} (h : f_X4_isUsed a0 a1 a2 w Q) (hT : TwAt t ad w (G 2)) (hG : ∀ r, r ≠ 2 → G r = G0 r) : call yX4_isUsed (Cond.code yX4_isUsed cX4_isUsed 3 (some .boolean)) 4 0 0 [vR (some (ad a0)), vI a1, vI a2] G (twQ t ad G0 (uB Q)) noX :=
  call.enter (by decide +kernel) (la_1 c1R (la_1 c1I (la_1 c1I (la_nil rfl)))) rfl (w_X4_isUsed hA_a0 h hT hG)
abbrev m_X4_timeOf : Mt := (yX4_timeOf.cls, cX4_timeOf, 4, some .int, [], yX4_timeOf.name)
theorem yo_X4_timeOf : yOK yX4_timeOf 3 := ⟨by decide +kernel, by decide +kernel, by decide +kernel⟩
def f_X4_timeOf (a1 : Nat) (a2 : Int) (a3 : Int) (w : Tw) (Q : Int → Tw → Prop) : Prop :=
  rdA w a1 844 (a3 + 1) (fun _ => wrA w 13 7 0 (w a1 (a3 + 1)) (fun w10 => rdA w10 a1 844 (a3 + 2) (fun _ => wrA w10 13 7 1 (w10 a1 (a3 + 2)) (fun w11 => rdA w11 a1 844 (a3 + 3) (fun _ => wrA w11 13 7 2 (w11 a1 (a3 + 3)) (fun w12 => wrA w12 13 7 3 a2 (fun w13 => rdA w13 18 5 a2 (fun _ => wrA w13 13 7 4 (w13 18 a2) (fun w14 => rdA w14 a1 844 493 (fun _ => wrA w14 13 7 5 (w14 a1 493) (fun w15 => rdA w15 a1 844 827 (fun _ => okm (w15 a1 827) 7 (wrA w15 13 7 6 ((w15 a1 827) % 7) (fun w16 => f_X4_ruled  w16 (fun x18 w17 => ((R32 9 ∧ R32 x18) ∧ ((R32 1 ∧ R32 (min 9 x18)) ∧ Q (max 1 (min 9 x18)) w17)))))))))))))))))
theorem w_X4_timeOf {t : Nat} {ad : Nat → Nat} {G0 : Wd} {a1 : Nat} (hA_a1 : (a1, 0, 844) ∈ twA) {Q : Int → Tw → Prop} {a2 : Int} {a3 : Int} {w : Tw} {G : Wd} (h : f_X4_timeOf a1 a2 a3 w Q) (hT : TwAt t ad w (G 2)) (hG : ∀ r, r ≠ 2 → G r = G0 r) : wp m_X4_timeOf 4 0 0 0 [some (vR (some t)), some (vR (some (ad a1))), some (vI a2), some (vI a3)] [] G (twQ t ad G0 (uI Q)) noX := by
  unfold f_X4_timeOf at h
  refine r_aload_n dX4_timeOf_0 rfl rfl iR ?_
  refine t_getA (j := 13) hT dX4_timeOf_1 (fg1 (f := 13) fX4 (by decide) q2234 rfl) rfl ?_
  refine r_iconst dX4_timeOf_4 ?_
  refine r_aload_n dX4_timeOf_5 rfl rfl iR ?_
  refine r_iload_n dX4_timeOf_6 rfl rfl iI ?_
  refine r_iconst dX4_timeOf_7 ?_
  refine r_iadd dX4_timeOf_8 ?_
  refine t_iald hT dX4_timeOf_9 hA_a1 (by decide) h (fun h => ?_)
  refine t_iast hT hG dX4_timeOf_10 tA13 (by decide) h (fun w10 G h hT hG => ?_)
  refine r_aload_n dX4_timeOf_11 rfl rfl iR ?_
  refine t_getA (j := 13) hT dX4_timeOf_12 (fg1 (f := 13) fX4 (by decide) q2234 rfl) rfl ?_
  refine r_iconst dX4_timeOf_15 ?_
  refine r_aload_n dX4_timeOf_16 rfl rfl iR ?_
  refine r_iload_n dX4_timeOf_17 rfl rfl iI ?_
  refine r_iconst dX4_timeOf_18 ?_
  refine r_iadd dX4_timeOf_19 ?_
  refine t_iald hT dX4_timeOf_20 hA_a1 (by decide) h (fun h => ?_)
  refine t_iast hT hG dX4_timeOf_21 tA13 (by decide) h (fun w11 G h hT hG => ?_)
  refine r_aload_n dX4_timeOf_22 rfl rfl iR ?_
  refine t_getA (j := 13) hT dX4_timeOf_23 (fg1 (f := 13) fX4 (by decide) q2234 rfl) rfl ?_
  refine r_iconst dX4_timeOf_26 ?_
  refine r_aload_n dX4_timeOf_27 rfl rfl iR ?_
  refine r_iload_n dX4_timeOf_28 rfl rfl iI ?_
  refine r_iconst dX4_timeOf_29 ?_
  refine r_iadd dX4_timeOf_30 ?_
  refine t_iald hT dX4_timeOf_31 hA_a1 (by decide) h (fun h => ?_)
  refine t_iast hT hG dX4_timeOf_32 tA13 (by decide) h (fun w12 G h hT hG => ?_)
  refine r_aload_n dX4_timeOf_33 rfl rfl iR ?_
  refine t_getA (j := 13) hT dX4_timeOf_34 (fg1 (f := 13) fX4 (by decide) q2234 rfl) rfl ?_
  refine r_iconst dX4_timeOf_37 ?_
  refine r_iload_n dX4_timeOf_38 rfl rfl iI ?_
  refine t_iast hT hG dX4_timeOf_39 tA13 (by decide) h (fun w13 G h hT hG => ?_)
  refine r_aload_n dX4_timeOf_40 rfl rfl iR ?_
  refine t_getA (j := 13) hT dX4_timeOf_41 (fg1 (f := 13) fX4 (by decide) q2234 rfl) rfl ?_
  refine r_iconst dX4_timeOf_44 ?_
  refine r_aload_n dX4_timeOf_45 rfl rfl iR ?_
  refine t_getA (j := 18) hT dX4_timeOf_46 (fg1 (f := 18) fX4 (by decide) q2239 rfl) rfl ?_
  refine r_iload_n dX4_timeOf_49 rfl rfl iI ?_
  refine t_iald hT dX4_timeOf_50 tA18 (by decide) h (fun h => ?_)
  refine t_iast hT hG dX4_timeOf_51 tA13 (by decide) h (fun w14 G h hT hG => ?_)
  refine r_aload_n dX4_timeOf_52 rfl rfl iR ?_
  refine t_getA (j := 13) hT dX4_timeOf_53 (fg1 (f := 13) fX4 (by decide) q2234 rfl) rfl ?_
  refine r_iconst dX4_timeOf_56 ?_
  refine r_aload_n dX4_timeOf_57 rfl rfl iR ?_
  refine r_sipush dX4_timeOf_58 (by decide) ?_
  refine t_iald hT dX4_timeOf_61 hA_a1 (by decide) h (fun h => ?_)
  refine t_iast hT hG dX4_timeOf_62 tA13 (by decide) h (fun w15 G h hT hG => ?_)
  refine r_aload_n dX4_timeOf_63 rfl rfl iR ?_
  refine t_getA (j := 13) hT dX4_timeOf_64 (fg1 (f := 13) fX4 (by decide) q2234 rfl) rfl ?_
  refine r_bipush dX4_timeOf_67 (by decide) ?_
  refine r_aload_n dX4_timeOf_69 rfl rfl iR ?_
  refine r_sipush dX4_timeOf_70 (by decide) ?_
  refine t_iald hT dX4_timeOf_73 hA_a1 (by decide) h (fun h => ?_)
  refine r_bipush dX4_timeOf_74 (by decide) ?_
  refine r_irem dX4_timeOf_76 h (fun h => ?_)
  refine t_iast hT hG dX4_timeOf_77 tA13 (by decide) h (fun w16 G h hT hG => ?_)
  refine r_iconst dX4_timeOf_78 ?_
  refine r_bipush dX4_timeOf_79 (by decide) ?_
  refine r_aload_n dX4_timeOf_81 rfl rfl iR ?_
  refine r_callV dX4_timeOf_82 (tisC hT) (c_X4_ruled h hT hG) q2526 q2528 qs70 q117 q2529 rfl yo_X4_ruled rfl (by decide) (by decide) rfl (rc1 c1I (rc1 c1I rc0)) (by decide) (Nat.le_refl _) (Nat.le_refl _) (tofI fun x18 w17 G h hT hG => ?_) nox
  refine r_mmin dX4_timeOf_85 q2149 (rc1 c1I rc0) (by decide) (by decide) h (fun h => ?_)
  refine r_mmax dX4_timeOf_88 q2387 rc0 (by decide) (by decide) h (fun h => ?_)
  exact r_iret rfl dX4_timeOf_91 ⟨_, hT, hG, _, rfl, h⟩
theorem c_X4_timeOf {t : Nat} {ad : Nat → Nat} {G0 : Wd} {a1 : Nat} {a2 : Int} {a3 : Int} (hA_a1 : (a1, 0, 844) ∈ twA) {Q : Int → Tw → Prop} {w : Tw} {G : Wd} (h : f_X4_timeOf a1 a2 a3 w Q) (hT : TwAt t ad w (G 2)) (hG : ∀ r, r ≠ 2 → G r = G0 r) : call yX4_timeOf (Cond.code yX4_timeOf cX4_timeOf 4 (some .int)) 4 0 0 [vR (some t), vR (some (ad a1)), vI a2, vI a3] G (twQ t ad G0 (uI Q)) noX :=
  call.enter (by decide +kernel) (la_1 c1R (la_1 c1R (la_1 c1I (la_1 c1I (la_nil rfl))))) rfl (w_X4_timeOf hA_a1 h hT hG)
abbrev m_X4_callsOne : Mt := (yX4_callsOne.cls, cX4_callsOne, 6, some .int, [], yX4_callsOne.name)
theorem yo_X4_callsOne : yOK yX4_callsOne 3 := ⟨by decide +kernel, by decide +kernel, by decide +kernel⟩
def f_X4_callsOne_96 (a1 : Nat) (l4 : Int) (l5 : Int) (w : Tw) (Q : Int → Tw → Prop) : Prop :=
  f_X4_runGoes a1 l5 w (fun w21 => Q l4 w21)
theorem w_X4_callsOne_96 {t : Nat} {ad : Nat → Nat} {G0 : Wd} {a1 : Nat} (hA_a1 : (a1, 0, 844) ∈ twA) {Q : Int → Tw → Prop} {l4 : Int} {l5 : Int} {w : Tw} {G : Wd} (h : f_X4_callsOne_96 a1 l4 l5 w Q) (hT : TwAt t ad w (G 2)) (hG : ∀ r, r ≠ 2 → G r = G0 r) : wp m_X4_callsOne 5 0 0 96 [none, some (vR (some (ad a1))), none, none, some (vI l4), some (vI l5)] [] G (twQ t ad G0 (uI Q)) noX := by
  unfold f_X4_callsOne_96 at h
  refine r_aload_n dX4_callsOne_96 rfl rfl iR ?_
  refine r_iload dX4_callsOne_97 rfl iI ?_
  refine r_callS dX4_callsOne_99 (c_X4_runGoes hA_a1 h hT hG) q2482 q2483 q117 q2484 yo_X4_runGoes rfl (by decide) (by decide) rfl rc0 (by decide) (Nat.le_refl _) (Nat.le_refl _) (tofV fun w21 G h hT hG => ?_) nox
  refine r_iload dX4_callsOne_102 rfl iI ?_
  exact r_iret rfl dX4_callsOne_104 ⟨_, hT, hG, _, rfl, h⟩
def f_X4_callsOne_36 (a1 : Nat) (l2 : Int) (l3 : Int) (l4 : Int) (w : Tw) (Q : Int → Tw → Prop) : Prop :=
  br l4 1 (¬ l4 = (1 : Int)) (Q l4 w) (f_X4_runOf a1 l2 l3 w (fun x23 w22 => f_X4_runAt x23 w22 (fun x25 w24 => rdA w24 a1 844 ((x25 + 1) + 0) (fun _ => f_X4_comesOut a1 l2 (w24 a1 ((x25 + 1) + 0)) 1 0 w24 (fun w26 => f_X4_hasSecond a1 x23 w26 (fun x28 w27 => brB x28 (f_X4_runAt x23 w27 (fun x30 w29 => rdA w29 a1 844 ((x30 + 6) + 0) (fun _ => f_X4_comesOut a1 l2 (w29 a1 ((x30 + 6) + 0)) 1 0 w29 (fun w31 => f_X4_callsOne_96 a1 l4 x23 w31 Q)))) (f_X4_callsOne_96 a1 l4 x23 w27 Q)))))))
theorem w_X4_callsOne_36 {t : Nat} {ad : Nat → Nat} {G0 : Wd} {a1 : Nat} (hA_a1 : (a1, 0, 844) ∈ twA) {Q : Int → Tw → Prop} {l2 : Int} {l3 : Int} {l4 : Int} {w : Tw} {G : Wd} (h : f_X4_callsOne_36 a1 l2 l3 l4 w Q) (hT : TwAt t ad w (G 2)) (hG : ∀ r, r ≠ 2 → G r = G0 r) : wp m_X4_callsOne 5 0 0 36 [none, some (vR (some (ad a1))), some (vI l2), some (vI l3), some (vI l4), none] [] G (twQ t ad G0 (uI Q)) noX := by
  unfold f_X4_callsOne_36 at h
  refine r_iload dX4_callsOne_36 rfl iI ?_
  refine r_iconst dX4_callsOne_38 ?_
  refine r_icmp_ne (tgt := 102) dX4_callsOne_39 (by decide) h (fun h => ?_) (fun h => ?_)
  · refine r_iload dX4_callsOne_102 rfl iI ?_
    exact r_iret rfl dX4_callsOne_104 ⟨_, hT, hG, _, rfl, h⟩
  · refine r_aload_n dX4_callsOne_42 rfl rfl iR ?_
    refine r_iload_n dX4_callsOne_43 rfl rfl iI ?_
    refine r_iload_n dX4_callsOne_44 rfl rfl iI ?_
    refine r_callS dX4_callsOne_45 (c_X4_runOf hA_a1 h hT hG) q2422 q2423 q117 q2424 yo_X4_runOf rfl (by decide) (by decide) rfl rc0 (by decide) (Nat.le_refl _) (Nat.le_refl _) (tofI fun x23 w22 G h hT hG => ?_) nox
    refine r_istore (L' := [none, some (vR (some (ad a1))), some (vI l2), some (vI l3), some (vI l4), some (vI x23)]) dX4_callsOne_48 rfl iI cI (by decide) ?_
    refine r_aload_n dX4_callsOne_50 rfl rfl iR ?_
    refine r_iload_n dX4_callsOne_51 rfl rfl iI ?_
    refine r_aload_n dX4_callsOne_52 rfl rfl iR ?_
    refine r_iload dX4_callsOne_53 rfl iI ?_
    refine r_callS dX4_callsOne_55 (c_X4_runAt h hT hG) q2425 q2426 q117 q2427 yo_X4_runAt rfl (by decide) (by decide) rfl (rc1 c1R (rc1 c1I (rc1 c1R rc0))) (by decide) (Nat.le_refl _) (Nat.le_refl _) (tofI fun x25 w24 G h hT hG => ?_) nox
    refine r_iconst dX4_callsOne_58 ?_
    refine r_iadd dX4_callsOne_59 ?_
    refine r_iconst dX4_callsOne_60 ?_
    refine r_iadd dX4_callsOne_61 ?_
    refine t_iald hT dX4_callsOne_62 hA_a1 (by decide) h (fun h => ?_)
    refine r_iconst dX4_callsOne_63 ?_
    refine r_iconst dX4_callsOne_64 ?_
    refine r_callS dX4_callsOne_65 (c_X4_comesOut hA_a1 h hT hG) q2479 q2480 q117 q2481 yo_X4_comesOut rfl (by decide) (by decide) rfl rc0 (by decide) (Nat.le_refl _) (Nat.le_refl _) (tofV fun w26 G h hT hG => ?_) nox
    refine r_aload_n dX4_callsOne_68 rfl rfl iR ?_
    refine r_iload dX4_callsOne_69 rfl iI ?_
    refine r_callS dX4_callsOne_71 (c_X4_hasSecond hA_a1 h hT hG) q2428 q2429 q117 q2430 yo_X4_hasSecond rfl (by decide) (by decide) rfl rc0 (by decide) (Nat.le_refl _) (Nat.le_refl _) (tofB fun x28 w27 G h hT hG => ?_) nox
    refine r_ifZ_eq (tgt := 96) dX4_callsOne_74 (by decide) h (fun h => ?_) (fun h => ?_)
    · refine wp.locals (L' := [none, some (vR (some (ad a1))), none, none, some (vI l4), some (vI x23)]) (ls_n (ls_s (ls_n (ls_n (ls_s (ls_s ls_0)))))) ?_
      exact w_X4_callsOne_96 hA_a1 h hT hG
    · refine r_aload_n dX4_callsOne_77 rfl rfl iR ?_
      refine r_iload_n dX4_callsOne_78 rfl rfl iI ?_
      refine r_aload_n dX4_callsOne_79 rfl rfl iR ?_
      refine r_iload dX4_callsOne_80 rfl iI ?_
      refine r_callS dX4_callsOne_82 (c_X4_runAt h hT hG) q2425 q2426 q117 q2427 yo_X4_runAt rfl (by decide) (by decide) rfl (rc1 c1R (rc1 c1I (rc1 c1R rc0))) (by decide) (Nat.le_refl _) (Nat.le_refl _) (tofI fun x30 w29 G h hT hG => ?_) nox
      refine r_bipush dX4_callsOne_85 (by decide) ?_
      refine r_iadd dX4_callsOne_87 ?_
      refine r_iconst dX4_callsOne_88 ?_
      refine r_iadd dX4_callsOne_89 ?_
      refine t_iald hT dX4_callsOne_90 hA_a1 (by decide) h (fun h => ?_)
      refine r_iconst dX4_callsOne_91 ?_
      refine r_iconst dX4_callsOne_92 ?_
      refine r_callS dX4_callsOne_93 (c_X4_comesOut hA_a1 h hT hG) q2479 q2480 q117 q2481 yo_X4_comesOut rfl (by decide) (by decide) rfl rc0 (by decide) (Nat.le_refl _) (Nat.le_refl _) (tofV fun w31 G h hT hG => ?_) nox
      refine wp.locals (L' := [none, some (vR (some (ad a1))), none, none, some (vI l4), some (vI x23)]) (ls_n (ls_s (ls_n (ls_n (ls_s (ls_s ls_0)))))) ?_
      exact w_X4_callsOne_96 hA_a1 h hT hG
def f_X4_callsOne (a1 : Nat) (a2 : Int) (a3 : Int) (w : Tw) (Q : Int → Tw → Prop) : Prop :=
  f_X4_callsAnswer a1 a2 a3 w (fun x33 w32 => br0 x33 (¬ x33 = 0) (f_X4_callsOne_36 a1 a2 a3 x33 w32 Q) (f_X4_of a1 a2 3 w32 (fun x35 w34 => f_X4_ringOf a1 a2 a3 w34 (fun x37 w36 => f_X4_ringAt a2 (x35 + x37) w36 (fun x39 w38 => wrA w38 a1 844 (x39 + 4) 1 (fun w40 => f_X4_callsOne_36 a1 a2 a3 x33 w40 Q))))))
theorem w_X4_callsOne {t : Nat} {ad : Nat → Nat} {G0 : Wd} {a1 : Nat} (hA_a1 : (a1, 0, 844) ∈ twA) {Q : Int → Tw → Prop} {a2 : Int} {a3 : Int} {w : Tw} {G : Wd} (h : f_X4_callsOne a1 a2 a3 w Q) (hT : TwAt t ad w (G 2)) (hG : ∀ r, r ≠ 2 → G r = G0 r) : wp m_X4_callsOne 5 0 0 0 [some (vR (some t)), some (vR (some (ad a1))), some (vI a2), some (vI a3), none, none] [] G (twQ t ad G0 (uI Q)) noX := by
  unfold f_X4_callsOne at h
  refine r_aload_n dX4_callsOne_0 rfl rfl iR ?_
  refine r_aload_n dX4_callsOne_1 rfl rfl iR ?_
  refine r_iload_n dX4_callsOne_2 rfl rfl iI ?_
  refine r_iload_n dX4_callsOne_3 rfl rfl iI ?_
  refine r_callV dX4_callsOne_4 (tisC hT) (c_X4_callsAnswer hA_a1 h hT hG) q2556 q2558 qs74 q117 q2559 rfl yo_X4_callsAnswer rfl (by decide) (by decide) rfl rc0 (by decide) (Nat.le_refl _) (Nat.le_refl _) (tofI fun x33 w32 G h hT hG => ?_) nox
  refine r_istore (L' := [some (vR (some t)), some (vR (some (ad a1))), some (vI a2), some (vI a3), some (vI x33), none]) dX4_callsOne_7 rfl iI cI (by decide) ?_
  refine r_iload dX4_callsOne_9 rfl iI ?_
  refine r_if_ne (tgt := 36) dX4_callsOne_11 (by decide) h (fun h => ?_) (fun h => ?_)
  · refine wp.locals (L' := [none, some (vR (some (ad a1))), some (vI a2), some (vI a3), some (vI x33), none]) (ls_n (ls_s (ls_s (ls_s (ls_s (ls_n ls_0)))))) ?_
    exact w_X4_callsOne_36 hA_a1 h hT hG
  · refine r_aload_n dX4_callsOne_14 rfl rfl iR ?_
    refine r_iload_n dX4_callsOne_15 rfl rfl iI ?_
    refine r_aload_n dX4_callsOne_16 rfl rfl iR ?_
    refine r_iload_n dX4_callsOne_17 rfl rfl iI ?_
    refine r_iconst dX4_callsOne_18 ?_
    refine r_callS dX4_callsOne_19 (c_X4_of hA_a1 h hT hG) q2379 q2380 q117 q2381 yo_X4_of rfl (by decide) (by decide) rfl (rc1 c1I (rc1 c1R rc0)) (by decide) (Nat.le_refl _) (Nat.le_refl _) (tofI fun x35 w34 G h hT hG => ?_) nox
    refine r_aload_n dX4_callsOne_22 rfl rfl iR ?_
    refine r_iload_n dX4_callsOne_23 rfl rfl iI ?_
    refine r_iload_n dX4_callsOne_24 rfl rfl iI ?_
    refine r_callS dX4_callsOne_25 (c_X4_ringOf hA_a1 h hT hG) q2416 q2417 q117 q2418 yo_X4_ringOf rfl (by decide) (by decide) rfl (rc1 c1I (rc1 c1I (rc1 c1R rc0))) (by decide) (Nat.le_refl _) (Nat.le_refl _) (tofI fun x37 w36 G h hT hG => ?_) nox
    refine r_iadd dX4_callsOne_28 ?_
    refine r_callS dX4_callsOne_29 (c_X4_ringAt h hT hG) q2419 q2420 q117 q2421 yo_X4_ringAt rfl (by decide) (by decide) rfl (rc1 c1R rc0) (by decide) (Nat.le_refl _) (Nat.le_refl _) (tofI fun x39 w38 G h hT hG => ?_) nox
    refine r_iconst dX4_callsOne_32 ?_
    refine r_iadd dX4_callsOne_33 ?_
    refine r_iconst dX4_callsOne_34 ?_
    refine t_iast hT hG dX4_callsOne_35 hA_a1 (by decide) h (fun w40 G h hT hG => ?_)
    refine wp.locals (L' := [none, some (vR (some (ad a1))), some (vI a2), some (vI a3), some (vI x33), none]) (ls_n (ls_s (ls_s (ls_s (ls_s (ls_n ls_0)))))) ?_
    exact w_X4_callsOne_36 hA_a1 h hT hG
theorem c_X4_callsOne {t : Nat} {ad : Nat → Nat} {G0 : Wd} {a1 : Nat} {a2 : Int} {a3 : Int} (hA_a1 : (a1, 0, 844) ∈ twA) {Q : Int → Tw → Prop} {w : Tw} {G : Wd} (h : f_X4_callsOne a1 a2 a3 w Q) (hT : TwAt t ad w (G 2)) (hG : ∀ r, r ≠ 2 → G r = G0 r) : call yX4_callsOne (Cond.code yX4_callsOne cX4_callsOne 6 (some .int)) 5 0 0 [vR (some t), vR (some (ad a1)), vI a2, vI a3] G (twQ t ad G0 (uI Q)) noX :=
  call.enter (by decide +kernel) (la_1 c1R (la_1 c1R (la_1 c1I (la_1 c1I (la_nil rfl))))) rfl (w_X4_callsOne hA_a1 h hT hG)
abbrev m_X4_room : Mt := (yX4_room.cls, cX4_room, 5, some .int, [], yX4_room.name)
theorem yo_X4_room : yOK yX4_room 1 := ⟨by decide +kernel, by decide +kernel, by decide +kernel⟩
def f_X4_room_75 (k49 : Int → Int → Int → Int → Tw → Prop) (l1 : Int) (l2 : Int) (l4 : Int) (s0 : Int) (s1 : Bool) (w : Tw) (Q : Int → Tw → Prop) : Prop :=
  f_X4_flag s1 w (fun x23 w22 => k49 l1 l2 (s0 + x23) (l4 + 1) w22)
theorem w_X4_room_75 {t : Nat} {ad : Nat → Nat} {G0 : Wd} {Q : Int → Tw → Prop} {k49 : Int → Int → Int → Int → Tw → Prop} (hk49 : ∀ {l1 : Int} {l2 : Int} {l3 : Int} {l4 : Int} {w : Tw} {G : Wd}, k49 l1 l2 l3 l4 w → TwAt t ad w (G 2) → (∀ r, r ≠ 2 → G r = G0 r) → wp m_X4_room 5 0 0 49 [some (vR (some t)), some (vI l1), some (vI l2), some (vI l3), some (vI l4)] [] G (twQ t ad G0 (uI Q)) noX) {l1 : Int} {l2 : Int} {l4 : Int} {s0 : Int} {s1 : Bool} {w : Tw} {G : Wd} (h : f_X4_room_75 k49 l1 l2 l4 s0 s1 w Q) (hT : TwAt t ad w (G 2)) (hG : ∀ r, r ≠ 2 → G r = G0 r) : wp m_X4_room 5 0 0 75 [some (vR (some t)), some (vI l1), some (vI l2), none, some (vI l4)] [vB s1, vI s0] G (twQ t ad G0 (uI Q)) noX := by
  unfold f_X4_room_75 at h
  refine r_callS dX4_room_75 (c_X4_flag h hT hG) q2162 q2163 q117 q2164 yo_X4_flag rfl (by decide) (by decide) rfl (rc1 c1I rc0) (by decide) (Nat.le_refl _) (Nat.le_refl _) (tofI fun x23 w22 G h hT hG => ?_) nox
  refine r_iadd dX4_room_78 ?_
  refine r_istore_n (L' := [some (vR (some t)), some (vI l1), some (vI l2), some (vI (s0 + x23)), some (vI l4)]) dX4_room_79 rfl rfl iI cI (by decide) ?_
  refine r_iinc (L' := [some (vR (some t)), some (vI l1), some (vI l2), some (vI (s0 + x23)), some (vI (l4 + 1))]) dX4_room_80 rfl rfl cI (by decide) ?_
  refine r_goto (tgt := 49) dX4_room_83 (by decide) ?_
  exact hk49 h hT hG
def f_X4_room_49_b (k49 : Int → Int → Int → Int → Tw → Prop) (l1 : Int) (l2 : Int) (l3 : Int) (l4 : Int) (w : Tw) (Q : Int → Tw → Prop) : Prop :=
  br l4 16 ((16 : Int) ≤ l4) (tS w 1 0 0 (fun w24 => ok32 l2 (f_X4_enters l2 w24 (fun w25 => ok32 l3 (f_X4_enters l3 w25 (fun w26 => ((R32 l2 ∧ R32 l3) ∧ Q (min l2 l3) w26))))))) (f_X4_isUsed 20 l1 l4 w (fun x28 w27 => brB x28 (f_X4_room_75 k49 l1 l2 l4 l3 false w27 Q) (f_X4_room_75 k49 l1 l2 l4 l3 true w27 Q)))
theorem w_X4_room_49_b {t : Nat} {ad : Nat → Nat} {G0 : Wd} {Q : Int → Tw → Prop} {k49 : Int → Int → Int → Int → Tw → Prop} (hk49 : ∀ {l1 : Int} {l2 : Int} {l3 : Int} {l4 : Int} {w : Tw} {G : Wd}, k49 l1 l2 l3 l4 w → TwAt t ad w (G 2) → (∀ r, r ≠ 2 → G r = G0 r) → wp m_X4_room 5 0 0 49 [some (vR (some t)), some (vI l1), some (vI l2), some (vI l3), some (vI l4)] [] G (twQ t ad G0 (uI Q)) noX) {l1 : Int} {l2 : Int} {l3 : Int} {l4 : Int} {w : Tw} {G : Wd} (h : f_X4_room_49_b k49 l1 l2 l3 l4 w Q) (hT : TwAt t ad w (G 2)) (hG : ∀ r, r ≠ 2 → G r = G0 r) : wp m_X4_room 5 0 0 49 [some (vR (some t)), some (vI l1), some (vI l2), some (vI l3), some (vI l4)] [] G (twQ t ad G0 (uI Q)) noX := by
  unfold f_X4_room_49_b at h
  refine r_iload dX4_room_49 rfl iI ?_
  refine r_bipush dX4_room_51 (by decide) ?_
  refine r_icmp_ge (tgt := 86) dX4_room_53 (by decide) h (fun h => ?_) (fun h => ?_)
  · refine r_aload_n dX4_room_86 rfl rfl iR ?_
    refine r_iconst dX4_room_87 ?_
    refine t_put (j := 1) hT hG dX4_room_88 (fp1 (f := 1) fX4 (by decide) q2222 rfl rfl rfl) tF1 (by decide) h (fun w24 G h hT hG => ?_)
    refine r_aload_n dX4_room_91 rfl rfl iR ?_
    refine r_iload_n dX4_room_92 rfl rfl iI ?_
    refine r_i2l dX4_room_93 h (fun h => ?_)
    refine r_callV dX4_room_94 (tisC hT) (c_X4_enters h hT hG) q2536 q2538 qs71 q117 q2539 rfl yo_X4_enters rfl (by decide) (by decide) rfl rc0 (by decide) (Nat.le_refl _) (Nat.le_refl _) (tofV fun w25 G h hT hG => ?_) nox
    refine r_aload_n dX4_room_97 rfl rfl iR ?_
    refine r_iload_n dX4_room_98 rfl rfl iI ?_
    refine r_i2l dX4_room_99 h (fun h => ?_)
    refine r_callV dX4_room_100 (tisC hT) (c_X4_enters h hT hG) q2536 q2538 qs71 q117 q2539 rfl yo_X4_enters rfl (by decide) (by decide) rfl rc0 (by decide) (Nat.le_refl _) (Nat.le_refl _) (tofV fun w26 G h hT hG => ?_) nox
    refine r_iload_n dX4_room_103 rfl rfl iI ?_
    refine r_iload_n dX4_room_104 rfl rfl iI ?_
    refine r_mmin dX4_room_105 q2149 rc0 (by decide) (by decide) h (fun h => ?_)
    exact r_iret rfl dX4_room_108 ⟨_, hT, hG, _, rfl, h⟩
  · refine r_iload_n dX4_room_56 rfl rfl iI ?_
    refine r_aload_n dX4_room_57 rfl rfl iR ?_
    refine t_getA (j := 20) hT dX4_room_58 (fg1 (f := 20) fX4 (by decide) q2241 rfl) rfl ?_
    refine r_iload_n dX4_room_61 rfl rfl iI ?_
    refine r_iload dX4_room_62 rfl iI ?_
    refine r_callS dX4_room_64 (c_X4_isUsed tA20 h hT hG) q2413 q2414 q117 q2415 yo_X4_isUsed rfl (by decide) (by decide) rfl (rc1 c1I rc0) (by decide) (Nat.le_refl _) (Nat.le_refl _) (tofB fun x28 w27 G h hT hG => ?_) nox
    refine r_ifZ_ne (tgt := 74) dX4_room_67 (by decide) h (fun h => ?_) (fun h => ?_)
    · refine r_iconst dX4_room_74 ?_
      refine wp.cast (st' := [vB false, vI l3]) rfl (congrArg (fun q => [q, vI l3]) vI0) ?_
      refine wp.locals (L' := [some (vR (some t)), some (vI l1), some (vI l2), none, some (vI l4)]) (ls_s (ls_s (ls_s (ls_n (ls_s ls_0))))) ?_
      exact w_X4_room_75 hk49 h hT hG
    · refine r_iconst dX4_room_70 ?_
      refine r_goto (tgt := 75) dX4_room_71 (by decide) ?_
      refine wp.cast (st' := [vB true, vI l3]) rfl (congrArg (fun q => [q, vI l3]) vI1) ?_
      refine wp.locals (L' := [some (vR (some t)), some (vI l1), some (vI l2), none, some (vI l4)]) (ls_s (ls_s (ls_s (ls_n (ls_s ls_0))))) ?_
      exact w_X4_room_75 hk49 h hT hG
def f_X4_room_49 (Q : Int → Tw → Prop) : Nat → Int → Int → Int → Int → Tw → Prop
  | 0, _, _, _, _, _ => False
  | fl + 1, l1, l2, l3, l4, w => f_X4_room_49_b    (fun l1 l2 l3 l4 w => f_X4_room_49    Q fl l1 l2 l3 l4 w) l1 l2 l3 l4 w Q
theorem w_X4_room_49 {t : Nat} {ad : Nat → Nat} {G0 : Wd} {Q : Int → Tw → Prop} : ∀ (fl : Nat) {l1 : Int} {l2 : Int} {l3 : Int} {l4 : Int} {w : Tw} {G : Wd}, f_X4_room_49 Q fl l1 l2 l3 l4 w → TwAt t ad w (G 2) → (∀ r, r ≠ 2 → G r = G0 r) → wp m_X4_room 5 0 0 49 [some (vR (some t)), some (vI l1), some (vI l2), some (vI l3), some (vI l4)] [] G (twQ t ad G0 (uI Q)) noX := by
  intro fl
  induction fl with
  | zero => intro l1 l2 l3 l4 w G h; exact (show False from h).elim
  | succ fl ih => intro l1 l2 l3 l4 w G h hT hG; exact w_X4_room_49_b   (fun h hT hG => ih h hT hG) h hT hG
def f_X4_room (a1 : Int) (w : Tw) (Q : Int → Tw → Prop) : Prop :=
  tS w 0 0 0 (fun w29 => f_X4_isQueue a1 w29 (fun x31 w30 => brB x31 (rdA w30 16 5 a1 (fun _ => f_X4_of 20 a1 0 w30 (fun x33 w32 => f_X4_of 20 a1 4 w32 (fun x35 w34 => ∃ fl36, f_X4_room_49 Q fl36 a1 ((((w30 16 a1) - 1) - x33) + x35) 0 0 w34)))) (Q (-1) w30)))
theorem w_X4_room {t : Nat} {ad : Nat → Nat} {G0 : Wd} {Q : Int → Tw → Prop} {a1 : Int} {w : Tw} {G : Wd} (h : f_X4_room a1 w Q) (hT : TwAt t ad w (G 2)) (hG : ∀ r, r ≠ 2 → G r = G0 r) : wp m_X4_room 5 0 0 0 [some (vR (some t)), some (vI a1), none, none, none] [] G (twQ t ad G0 (uI Q)) noX := by
  unfold f_X4_room at h
  refine r_aload_n dX4_room_0 rfl rfl iR ?_
  refine r_iconst dX4_room_1 ?_
  refine t_put (j := 0) hT hG dX4_room_2 (fp1 (f := 0) fX4 (by decide) q2221 rfl rfl rfl) tF0 (by decide) h (fun w29 G h hT hG => ?_)
  refine r_aload_n dX4_room_5 rfl rfl iR ?_
  refine r_iload_n dX4_room_6 rfl rfl iI ?_
  refine r_callV dX4_room_7 (tisC hT) (c_X4_isQueue h hT hG) q2370 q2372 qs52 q117 q2373 rfl yo_X4_isQueue rfl (by decide) (by decide) rfl rc0 (by decide) (Nat.le_refl _) (Nat.le_refl _) (tofB fun x31 w30 G h hT hG => ?_) nox
  refine r_ifZ_ne (tgt := 15) dX4_room_10 (by decide) h (fun h => ?_) (fun h => ?_)
  · refine r_aload_n dX4_room_15 rfl rfl iR ?_
    refine t_getA (j := 16) hT dX4_room_16 (fg1 (f := 16) fX4 (by decide) q2237 rfl) rfl ?_
    refine r_iload_n dX4_room_19 rfl rfl iI ?_
    refine t_iald hT dX4_room_20 tA16 (by decide) h (fun h => ?_)
    refine r_iconst dX4_room_21 ?_
    refine r_isub dX4_room_22 ?_
    refine r_aload_n dX4_room_23 rfl rfl iR ?_
    refine t_getA (j := 20) hT dX4_room_24 (fg1 (f := 20) fX4 (by decide) q2241 rfl) rfl ?_
    refine r_iload_n dX4_room_27 rfl rfl iI ?_
    refine r_iconst dX4_room_28 ?_
    refine r_callS dX4_room_29 (c_X4_of tA20 h hT hG) q2379 q2380 q117 q2381 yo_X4_of rfl (by decide) (by decide) rfl (rc1 c1I rc0) (by decide) (Nat.le_refl _) (Nat.le_refl _) (tofI fun x33 w32 G h hT hG => ?_) nox
    refine r_isub dX4_room_32 ?_
    refine r_aload_n dX4_room_33 rfl rfl iR ?_
    refine t_getA (j := 20) hT dX4_room_34 (fg1 (f := 20) fX4 (by decide) q2241 rfl) rfl ?_
    refine r_iload_n dX4_room_37 rfl rfl iI ?_
    refine r_iconst dX4_room_38 ?_
    refine r_callS dX4_room_39 (c_X4_of tA20 h hT hG) q2379 q2380 q117 q2381 yo_X4_of rfl (by decide) (by decide) rfl (rc1 c1I rc0) (by decide) (Nat.le_refl _) (Nat.le_refl _) (tofI fun x35 w34 G h hT hG => ?_) nox
    refine r_iadd dX4_room_42 ?_
    refine r_istore_n (L' := [some (vR (some t)), some (vI a1), some (vI ((((w30 16 a1) - 1) - x33) + x35)), none, none]) dX4_room_43 rfl rfl iI cI (by decide) ?_
    refine r_iconst dX4_room_44 ?_
    refine r_istore_n (L' := [some (vR (some t)), some (vI a1), some (vI ((((w30 16 a1) - 1) - x33) + x35)), some (vI 0), none]) dX4_room_45 rfl rfl iI cI (by decide) ?_
    refine r_iconst dX4_room_46 ?_
    refine r_istore (L' := [some (vR (some t)), some (vI a1), some (vI ((((w30 16 a1) - 1) - x33) + x35)), some (vI 0), some (vI 0)]) dX4_room_47 rfl iI cI (by decide) ?_
    obtain ⟨fl36, h⟩ := h
    exact w_X4_room_49 fl36 h hT hG
  · refine r_iconst dX4_room_13 ?_
    exact r_iret rfl dX4_room_14 ⟨_, hT, hG, _, rfl, h⟩
theorem c_X4_room {t : Nat} {ad : Nat → Nat} {G0 : Wd} {a1 : Int} {Q : Int → Tw → Prop} {w : Tw} {G : Wd} (h : f_X4_room a1 w Q) (hT : TwAt t ad w (G 2)) (hG : ∀ r, r ≠ 2 → G r = G0 r) : call yX4_room (Cond.code yX4_room cX4_room 5 (some .int)) 5 0 0 [vR (some t), vI a1] G (twQ t ad G0 (uI Q)) noX :=
  call.enter (by decide +kernel) (la_1 c1R (la_1 c1I (la_nil rfl))) rfl (w_X4_room  h hT hG)
abbrev m_X4_isFitting : Mt := (yX4_isFitting.cls, cX4_isFitting, 5, some .boolean, [], yX4_isFitting.name)
theorem yo_X4_isFitting : yOK yX4_isFitting 2 := ⟨by decide +kernel, by decide +kernel, by decide +kernel⟩
def f_X4_isFitting_18_b (k18 : Int → Int → Bool → Int → Tw → Prop) (l1 : Int) (l2 : Int) (l3 : Bool) (l4 : Int) (w : Tw) (Q : Bool → Tw → Prop) : Prop :=
  br l4 (w 36 0) ((w 36 0) ≤ l4) (Q l3 w) (brB l3 (rdA w 37 12 l4 (fun _ => rdA w 38 12 l4 (fun _ => f_X4_isSo l1 l2 (w 37 l4) (w 38 l4) w (fun x8 w7 => k18 l1 l2 x8 (l4 + 1) w7)))) (Q l3 w))
theorem w_X4_isFitting_18_b {t : Nat} {ad : Nat → Nat} {G0 : Wd} {Q : Bool → Tw → Prop} {k18 : Int → Int → Bool → Int → Tw → Prop} (hk18 : ∀ {l1 : Int} {l2 : Int} {l3 : Bool} {l4 : Int} {w : Tw} {G : Wd}, k18 l1 l2 l3 l4 w → TwAt t ad w (G 2) → (∀ r, r ≠ 2 → G r = G0 r) → wp m_X4_isFitting 6 0 0 18 [some (vR (some t)), some (vI l1), some (vI l2), some (vB l3), some (vI l4)] [] G (twQ t ad G0 (uB Q)) noX) {l1 : Int} {l2 : Int} {l3 : Bool} {l4 : Int} {w : Tw} {G : Wd} (h : f_X4_isFitting_18_b k18 l1 l2 l3 l4 w Q) (hT : TwAt t ad w (G 2)) (hG : ∀ r, r ≠ 2 → G r = G0 r) : wp m_X4_isFitting 6 0 0 18 [some (vR (some t)), some (vI l1), some (vI l2), some (vB l3), some (vI l4)] [] G (twQ t ad G0 (uB Q)) noX := by
  unfold f_X4_isFitting_18_b at h
  refine r_iload dX4_isFitting_18 rfl iI ?_
  refine r_aload_n dX4_isFitting_20 rfl rfl iR ?_
  refine t_getI (j := 36) hT dX4_isFitting_21 (fg1 (f := 36) fX4 (by decide) q2257 rfl) rfl ?_
  refine r_icmp_ge (tgt := 58) dX4_isFitting_24 (by decide) h (fun h => ?_) (fun h => ?_)
  · refine r_iload_n dX4_isFitting_58 rfl rfl iB ?_
    exact r_zret rfl dX4_isFitting_59 ⟨_, hT, hG, _, rfl, h⟩
  · refine r_iload_n dX4_isFitting_27 rfl rfl iB ?_
    refine r_ifZ_eq (tgt := 58) dX4_isFitting_28 (by decide) h (fun h => ?_) (fun h => ?_)
    · refine r_iload_n dX4_isFitting_58 rfl rfl iB ?_
      exact r_zret rfl dX4_isFitting_59 ⟨_, hT, hG, _, rfl, h⟩
    · refine r_aload_n dX4_isFitting_31 rfl rfl iR ?_
      refine r_iload_n dX4_isFitting_32 rfl rfl iI ?_
      refine r_iload_n dX4_isFitting_33 rfl rfl iI ?_
      refine r_aload_n dX4_isFitting_34 rfl rfl iR ?_
      refine t_getA (j := 37) hT dX4_isFitting_35 (fg1 (f := 37) fX4 (by decide) q2258 rfl) rfl ?_
      refine r_iload dX4_isFitting_38 rfl iI ?_
      refine t_iald hT dX4_isFitting_40 tA37 (by decide) h (fun h => ?_)
      refine r_aload_n dX4_isFitting_41 rfl rfl iR ?_
      refine t_getA (j := 38) hT dX4_isFitting_42 (fg1 (f := 38) fX4 (by decide) q2259 rfl) rfl ?_
      refine r_iload dX4_isFitting_45 rfl iI ?_
      refine t_iald hT dX4_isFitting_47 tA38 (by decide) h (fun h => ?_)
      refine r_callV dX4_isFitting_48 (tisC hT) (c_X4_isSo h hT hG) q2706 q2708 qs86 q117 q2709 rfl yo_X4_isSo rfl (by decide) (by decide) rfl rc0 (by decide) (Nat.le_refl _) (Nat.le_refl _) (tofB fun x8 w7 G h hT hG => ?_) nox
      refine r_istore_n (L' := [some (vR (some t)), some (vI l1), some (vI l2), some (vB x8), some (vI l4)]) dX4_isFitting_51 rfl rfl iB cI (by decide) ?_
      refine r_iinc (L' := [some (vR (some t)), some (vI l1), some (vI l2), some (vB x8), some (vI (l4 + 1))]) dX4_isFitting_52 rfl rfl cB (by decide) ?_
      refine r_goto (tgt := 18) dX4_isFitting_55 (by decide) ?_
      exact hk18 h hT hG
def f_X4_isFitting_18 (Q : Bool → Tw → Prop) : Nat → Int → Int → Bool → Int → Tw → Prop
  | 0, _, _, _, _, _ => False
  | fl + 1, l1, l2, l3, l4, w => f_X4_isFitting_18_b    (fun l1 l2 l3 l4 w => f_X4_isFitting_18    Q fl l1 l2 l3 l4 w) l1 l2 l3 l4 w Q
theorem w_X4_isFitting_18 {t : Nat} {ad : Nat → Nat} {G0 : Wd} {Q : Bool → Tw → Prop} : ∀ (fl : Nat) {l1 : Int} {l2 : Int} {l3 : Bool} {l4 : Int} {w : Tw} {G : Wd}, f_X4_isFitting_18 Q fl l1 l2 l3 l4 w → TwAt t ad w (G 2) → (∀ r, r ≠ 2 → G r = G0 r) → wp m_X4_isFitting 6 0 0 18 [some (vR (some t)), some (vI l1), some (vI l2), some (vB l3), some (vI l4)] [] G (twQ t ad G0 (uB Q)) noX := by
  intro fl
  induction fl with
  | zero => intro l1 l2 l3 l4 w G h; exact (show False from h).elim
  | succ fl ih => intro l1 l2 l3 l4 w G h hT hG; exact w_X4_isFitting_18_b   (fun h hT hG => ih h hT hG) h hT hG
def f_X4_isFitting_14 (l1 : Int) (l2 : Int) (s0 : Bool) (w : Tw) (Q : Bool → Tw → Prop) : Prop :=
  ∃ fl9, f_X4_isFitting_18 Q fl9 l1 l2 s0 0 w
theorem w_X4_isFitting_14 {t : Nat} {ad : Nat → Nat} {G0 : Wd} {Q : Bool → Tw → Prop} {l1 : Int} {l2 : Int} {s0 : Bool} {w : Tw} {G : Wd} (h : f_X4_isFitting_14 l1 l2 s0 w Q) (hT : TwAt t ad w (G 2)) (hG : ∀ r, r ≠ 2 → G r = G0 r) : wp m_X4_isFitting 6 0 0 14 [some (vR (some t)), some (vI l1), some (vI l2), none, none] [vB s0] G (twQ t ad G0 (uB Q)) noX := by
  unfold f_X4_isFitting_14 at h
  refine r_istore_n (L' := [some (vR (some t)), some (vI l1), some (vI l2), some (vB s0), none]) dX4_isFitting_14 rfl rfl iB cI (by decide) ?_
  refine r_iconst dX4_isFitting_15 ?_
  refine r_istore (L' := [some (vR (some t)), some (vI l1), some (vI l2), some (vB s0), some (vI 0)]) dX4_isFitting_16 rfl iI cB (by decide) ?_
  obtain ⟨fl9, h⟩ := h
  exact w_X4_isFitting_18 fl9 h hT hG
def f_X4_isFitting (a1 : Int) (a2 : Int) (w : Tw) (Q : Bool → Tw → Prop) : Prop :=
  f_X4_commandAt a1 a2 w (fun x11 w10 => br0 x11 (x11 < 0) (f_X4_isFitting_14 a1 a2 false w10 Q) (f_X4_isFitting_14 a1 a2 true w10 Q))
theorem w_X4_isFitting {t : Nat} {ad : Nat → Nat} {G0 : Wd} {Q : Bool → Tw → Prop} {a1 : Int} {a2 : Int} {w : Tw} {G : Wd} (h : f_X4_isFitting a1 a2 w Q) (hT : TwAt t ad w (G 2)) (hG : ∀ r, r ≠ 2 → G r = G0 r) : wp m_X4_isFitting 6 0 0 0 [some (vR (some t)), some (vI a1), some (vI a2), none, none] [] G (twQ t ad G0 (uB Q)) noX := by
  unfold f_X4_isFitting at h
  refine r_aload_n dX4_isFitting_0 rfl rfl iR ?_
  refine r_iload_n dX4_isFitting_1 rfl rfl iI ?_
  refine r_iload_n dX4_isFitting_2 rfl rfl iI ?_
  refine r_callV dX4_isFitting_3 (tisC hT) (c_X4_commandAt h hT hG) q2702 q2704 qs85 q117 q2705 rfl yo_X4_commandAt rfl (by decide) (by decide) rfl rc0 (by decide) (Nat.le_refl _) (Nat.le_refl _) (tofI fun x11 w10 G h hT hG => ?_) nox
  refine r_if_lt (tgt := 13) dX4_isFitting_6 (by decide) h (fun h => ?_) (fun h => ?_)
  · refine r_iconst dX4_isFitting_13 ?_
    refine wp.cast (st' := [vB false]) rfl (congrArg (fun q => [q]) vI0) ?_
    exact w_X4_isFitting_14 h hT hG
  · refine r_iconst dX4_isFitting_9 ?_
    refine r_goto (tgt := 14) dX4_isFitting_10 (by decide) ?_
    refine wp.cast (st' := [vB true]) rfl (congrArg (fun q => [q]) vI1) ?_
    exact w_X4_isFitting_14 h hT hG
theorem c_X4_isFitting {t : Nat} {ad : Nat → Nat} {G0 : Wd} {a1 : Int} {a2 : Int} {Q : Bool → Tw → Prop} {w : Tw} {G : Wd} (h : f_X4_isFitting a1 a2 w Q) (hT : TwAt t ad w (G 2)) (hG : ∀ r, r ≠ 2 → G r = G0 r) : call yX4_isFitting (Cond.code yX4_isFitting cX4_isFitting 5 (some .boolean)) 6 0 0 [vR (some t), vI a1, vI a2] G (twQ t ad G0 (uB Q)) noX :=
  call.enter (by decide +kernel) (la_1 c1R (la_1 c1I (la_1 c1I (la_nil rfl)))) rfl (w_X4_isFitting  h hT hG)
abbrev m_X4_soMany : Mt := (yX4_soMany.cls, cX4_soMany, 6, some .int, [], yX4_soMany.name)
theorem yo_X4_soMany : yOK yX4_soMany 2 := ⟨by decide +kernel, by decide +kernel, by decide +kernel⟩
def f_X4_soMany_54 (k5 : Int → Int → Int → Int → Tw → Prop) (k17 : Int → Int → Int → Int → Int → Tw → Prop) (l1 : Int) (l2 : Int) (l4 : Int) (l5 : Int) (s0 : Int) (s1 : Bool) (w : Tw) (Q : Int → Tw → Prop) : Prop :=
  f_X4_flag s1 w (fun x18 w17 => k17 l1 l2 (s0 + x18) l4 (l5 + 1) w17)
theorem w_X4_soMany_54 {t : Nat} {ad : Nat → Nat} {G0 : Wd} {Q : Int → Tw → Prop} {k5 : Int → Int → Int → Int → Tw → Prop} (hk5 : ∀ {l1 : Int} {l2 : Int} {l3 : Int} {l4 : Int} {w : Tw} {G : Wd}, k5 l1 l2 l3 l4 w → TwAt t ad w (G 2) → (∀ r, r ≠ 2 → G r = G0 r) → wp m_X4_soMany 7 0 0 5 [some (vR (some t)), some (vI l1), some (vI l2), some (vI l3), some (vI l4), none] [] G (twQ t ad G0 (uI Q)) noX) {k17 : Int → Int → Int → Int → Int → Tw → Prop} (hk17 : ∀ {l1 : Int} {l2 : Int} {l3 : Int} {l4 : Int} {l5 : Int} {w : Tw} {G : Wd}, k17 l1 l2 l3 l4 l5 w → TwAt t ad w (G 2) → (∀ r, r ≠ 2 → G r = G0 r) → wp m_X4_soMany 7 0 0 17 [some (vR (some t)), some (vI l1), some (vI l2), some (vI l3), some (vI l4), some (vI l5)] [] G (twQ t ad G0 (uI Q)) noX) {l1 : Int} {l2 : Int} {l4 : Int} {l5 : Int} {s0 : Int} {s1 : Bool} {w : Tw} {G : Wd} (h : f_X4_soMany_54 k5 k17 l1 l2 l4 l5 s0 s1 w Q) (hT : TwAt t ad w (G 2)) (hG : ∀ r, r ≠ 2 → G r = G0 r) : wp m_X4_soMany 7 0 0 54 [some (vR (some t)), some (vI l1), some (vI l2), none, some (vI l4), some (vI l5)] [vB s1, vI s0] G (twQ t ad G0 (uI Q)) noX := by
  unfold f_X4_soMany_54 at h
  refine r_callS dX4_soMany_54 (c_X4_flag h hT hG) q2162 q2163 q117 q2164 yo_X4_flag rfl (by decide) (by decide) rfl (rc1 c1I rc0) (by decide) (Nat.le_refl _) (Nat.le_refl _) (tofI fun x18 w17 G h hT hG => ?_) nox
  refine r_iadd dX4_soMany_57 ?_
  refine r_istore_n (L' := [some (vR (some t)), some (vI l1), some (vI l2), some (vI (s0 + x18)), some (vI l4), some (vI l5)]) dX4_soMany_58 rfl rfl iI cI (by decide) ?_
  refine r_iinc (L' := [some (vR (some t)), some (vI l1), some (vI l2), some (vI (s0 + x18)), some (vI l4), some (vI (l5 + 1))]) dX4_soMany_59 rfl rfl cI (by decide) ?_
  refine r_goto (tgt := 17) dX4_soMany_62 (by decide) ?_
  exact hk17 h hT hG
def f_X4_soMany_53 (k5 : Int → Int → Int → Int → Tw → Prop) (k17 : Int → Int → Int → Int → Int → Tw → Prop) (l1 : Int) (l2 : Int) (l4 : Int) (l5 : Int) (s0 : Int) (w : Tw) (Q : Int → Tw → Prop) : Prop :=
  f_X4_soMany_54 k5 k17 l1 l2 l4 l5 s0 false w Q
theorem w_X4_soMany_53 {t : Nat} {ad : Nat → Nat} {G0 : Wd} {Q : Int → Tw → Prop} {k5 : Int → Int → Int → Int → Tw → Prop} (hk5 : ∀ {l1 : Int} {l2 : Int} {l3 : Int} {l4 : Int} {w : Tw} {G : Wd}, k5 l1 l2 l3 l4 w → TwAt t ad w (G 2) → (∀ r, r ≠ 2 → G r = G0 r) → wp m_X4_soMany 7 0 0 5 [some (vR (some t)), some (vI l1), some (vI l2), some (vI l3), some (vI l4), none] [] G (twQ t ad G0 (uI Q)) noX) {k17 : Int → Int → Int → Int → Int → Tw → Prop} (hk17 : ∀ {l1 : Int} {l2 : Int} {l3 : Int} {l4 : Int} {l5 : Int} {w : Tw} {G : Wd}, k17 l1 l2 l3 l4 l5 w → TwAt t ad w (G 2) → (∀ r, r ≠ 2 → G r = G0 r) → wp m_X4_soMany 7 0 0 17 [some (vR (some t)), some (vI l1), some (vI l2), some (vI l3), some (vI l4), some (vI l5)] [] G (twQ t ad G0 (uI Q)) noX) {l1 : Int} {l2 : Int} {l4 : Int} {l5 : Int} {s0 : Int} {w : Tw} {G : Wd} (h : f_X4_soMany_53 k5 k17 l1 l2 l4 l5 s0 w Q) (hT : TwAt t ad w (G 2)) (hG : ∀ r, r ≠ 2 → G r = G0 r) : wp m_X4_soMany 7 0 0 53 [some (vR (some t)), some (vI l1), some (vI l2), none, some (vI l4), some (vI l5)] [vI s0] G (twQ t ad G0 (uI Q)) noX := by
  unfold f_X4_soMany_53 at h
  refine r_iconst dX4_soMany_53 ?_
  refine wp.cast (st' := [vB false, vI s0]) rfl (congrArg (fun q => [q, vI s0]) vI0) ?_
  exact w_X4_soMany_54 hk5 hk17 h hT hG
def f_X4_soMany_17_b (k5 : Int → Int → Int → Int → Tw → Prop) (k17 : Int → Int → Int → Int → Int → Tw → Prop) (l1 : Int) (l2 : Int) (l3 : Int) (l4 : Int) (l5 : Int) (w : Tw) (Q : Int → Tw → Prop) : Prop :=
  br l5 16 ((16 : Int) ≤ l5) (k5 l1 l2 l3 (l4 + 1) w) (f_X4_isFitting l4 l5 w (fun x20 w19 => brB x20 (f_X4_isSo l4 l5 l1 l2 w19 (fun x22 w21 => brB x22 (f_X4_soMany_54 k5 k17 l1 l2 l4 l5 l3 true w21 Q) (f_X4_soMany_53 k5 k17 l1 l2 l4 l5 l3 w21 Q))) (f_X4_soMany_53 k5 k17 l1 l2 l4 l5 l3 w19 Q)))
theorem w_X4_soMany_17_b {t : Nat} {ad : Nat → Nat} {G0 : Wd} {Q : Int → Tw → Prop} {k5 : Int → Int → Int → Int → Tw → Prop} (hk5 : ∀ {l1 : Int} {l2 : Int} {l3 : Int} {l4 : Int} {w : Tw} {G : Wd}, k5 l1 l2 l3 l4 w → TwAt t ad w (G 2) → (∀ r, r ≠ 2 → G r = G0 r) → wp m_X4_soMany 7 0 0 5 [some (vR (some t)), some (vI l1), some (vI l2), some (vI l3), some (vI l4), none] [] G (twQ t ad G0 (uI Q)) noX) {k17 : Int → Int → Int → Int → Int → Tw → Prop} (hk17 : ∀ {l1 : Int} {l2 : Int} {l3 : Int} {l4 : Int} {l5 : Int} {w : Tw} {G : Wd}, k17 l1 l2 l3 l4 l5 w → TwAt t ad w (G 2) → (∀ r, r ≠ 2 → G r = G0 r) → wp m_X4_soMany 7 0 0 17 [some (vR (some t)), some (vI l1), some (vI l2), some (vI l3), some (vI l4), some (vI l5)] [] G (twQ t ad G0 (uI Q)) noX) {l1 : Int} {l2 : Int} {l3 : Int} {l4 : Int} {l5 : Int} {w : Tw} {G : Wd} (h : f_X4_soMany_17_b k5 k17 l1 l2 l3 l4 l5 w Q) (hT : TwAt t ad w (G 2)) (hG : ∀ r, r ≠ 2 → G r = G0 r) : wp m_X4_soMany 7 0 0 17 [some (vR (some t)), some (vI l1), some (vI l2), some (vI l3), some (vI l4), some (vI l5)] [] G (twQ t ad G0 (uI Q)) noX := by
  unfold f_X4_soMany_17_b at h
  refine r_iload dX4_soMany_17 rfl iI ?_
  refine r_bipush dX4_soMany_19 (by decide) ?_
  refine r_icmp_ge (tgt := 65) dX4_soMany_21 (by decide) h (fun h => ?_) (fun h => ?_)
  · refine r_iinc (L' := [some (vR (some t)), some (vI l1), some (vI l2), some (vI l3), some (vI (l4 + 1)), some (vI l5)]) dX4_soMany_65 rfl rfl cI (by decide) ?_
    refine r_goto (tgt := 5) dX4_soMany_68 (by decide) ?_
    refine wp.locals (L' := [some (vR (some t)), some (vI l1), some (vI l2), some (vI l3), some (vI (l4 + 1)), none]) (ls_s (ls_s (ls_s (ls_s (ls_s (ls_n ls_0)))))) ?_
    exact hk5 h hT hG
  · refine r_iload_n dX4_soMany_24 rfl rfl iI ?_
    refine r_aload_n dX4_soMany_25 rfl rfl iR ?_
    refine r_iload dX4_soMany_26 rfl iI ?_
    refine r_iload dX4_soMany_28 rfl iI ?_
    refine r_callV dX4_soMany_30 (tisC hT) (c_X4_isFitting h hT hG) q2698 q2700 qs84 q117 q2701 rfl yo_X4_isFitting rfl (by decide) (by decide) rfl (rc1 c1I rc0) (by decide) (Nat.le_refl _) (Nat.le_refl _) (tofB fun x20 w19 G h hT hG => ?_) nox
    refine r_ifZ_eq (tgt := 53) dX4_soMany_33 (by decide) h (fun h => ?_) (fun h => ?_)
    · refine wp.locals (L' := [some (vR (some t)), some (vI l1), some (vI l2), none, some (vI l4), some (vI l5)]) (ls_s (ls_s (ls_s (ls_n (ls_s (ls_s ls_0)))))) ?_
      exact w_X4_soMany_53 hk5 hk17 h hT hG
    · refine r_aload_n dX4_soMany_36 rfl rfl iR ?_
      refine r_iload dX4_soMany_37 rfl iI ?_
      refine r_iload dX4_soMany_39 rfl iI ?_
      refine r_iload_n dX4_soMany_41 rfl rfl iI ?_
      refine r_iload_n dX4_soMany_42 rfl rfl iI ?_
      refine r_callV dX4_soMany_43 (tisC hT) (c_X4_isSo h hT hG) q2706 q2708 qs86 q117 q2709 rfl yo_X4_isSo rfl (by decide) (by decide) rfl (rc1 c1I rc0) (by decide) (Nat.le_refl _) (Nat.le_refl _) (tofB fun x22 w21 G h hT hG => ?_) nox
      refine r_ifZ_eq (tgt := 53) dX4_soMany_46 (by decide) h (fun h => ?_) (fun h => ?_)
      · refine wp.locals (L' := [some (vR (some t)), some (vI l1), some (vI l2), none, some (vI l4), some (vI l5)]) (ls_s (ls_s (ls_s (ls_n (ls_s (ls_s ls_0)))))) ?_
        exact w_X4_soMany_53 hk5 hk17 h hT hG
      · refine r_iconst dX4_soMany_49 ?_
        refine r_goto (tgt := 54) dX4_soMany_50 (by decide) ?_
        refine wp.cast (st' := [vB true, vI l3]) rfl (congrArg (fun q => [q, vI l3]) vI1) ?_
        refine wp.locals (L' := [some (vR (some t)), some (vI l1), some (vI l2), none, some (vI l4), some (vI l5)]) (ls_s (ls_s (ls_s (ls_n (ls_s (ls_s ls_0)))))) ?_
        exact w_X4_soMany_54 hk5 hk17 h hT hG
def f_X4_soMany_17 (k5 : Int → Int → Int → Int → Tw → Prop) (Q : Int → Tw → Prop) : Nat → Int → Int → Int → Int → Int → Tw → Prop
  | 0, _, _, _, _, _, _ => False
  | fl + 1, l1, l2, l3, l4, l5, w => f_X4_soMany_17_b   k5 (fun l1 l2 l3 l4 l5 w => f_X4_soMany_17   k5 Q fl l1 l2 l3 l4 l5 w) l1 l2 l3 l4 l5 w Q
theorem w_X4_soMany_17 {t : Nat} {ad : Nat → Nat} {G0 : Wd} {Q : Int → Tw → Prop} {k5 : Int → Int → Int → Int → Tw → Prop} (hk5 : ∀ {l1 : Int} {l2 : Int} {l3 : Int} {l4 : Int} {w : Tw} {G : Wd}, k5 l1 l2 l3 l4 w → TwAt t ad w (G 2) → (∀ r, r ≠ 2 → G r = G0 r) → wp m_X4_soMany 7 0 0 5 [some (vR (some t)), some (vI l1), some (vI l2), some (vI l3), some (vI l4), none] [] G (twQ t ad G0 (uI Q)) noX) : ∀ (fl : Nat) {l1 : Int} {l2 : Int} {l3 : Int} {l4 : Int} {l5 : Int} {w : Tw} {G : Wd}, f_X4_soMany_17 k5 Q fl l1 l2 l3 l4 l5 w → TwAt t ad w (G 2) → (∀ r, r ≠ 2 → G r = G0 r) → wp m_X4_soMany 7 0 0 17 [some (vR (some t)), some (vI l1), some (vI l2), some (vI l3), some (vI l4), some (vI l5)] [] G (twQ t ad G0 (uI Q)) noX := by
  intro fl
  induction fl with
  | zero => intro l1 l2 l3 l4 l5 w G h; exact (show False from h).elim
  | succ fl ih => intro l1 l2 l3 l4 l5 w G h hT hG; exact w_X4_soMany_17_b  hk5 (fun h hT hG => ih h hT hG) h hT hG
def f_X4_soMany_5_b (k5 : Int → Int → Int → Int → Tw → Prop) (l1 : Int) (l2 : Int) (l3 : Int) (l4 : Int) (w : Tw) (Q : Int → Tw → Prop) : Prop :=
  br l4 (w 14 0) ((w 14 0) ≤ l4) (Q l3 w) (∃ fl23, f_X4_soMany_17 k5 Q fl23 l1 l2 l3 l4 0 w)
theorem w_X4_soMany_5_b {t : Nat} {ad : Nat → Nat} {G0 : Wd} {Q : Int → Tw → Prop} {k5 : Int → Int → Int → Int → Tw → Prop} (hk5 : ∀ {l1 : Int} {l2 : Int} {l3 : Int} {l4 : Int} {w : Tw} {G : Wd}, k5 l1 l2 l3 l4 w → TwAt t ad w (G 2) → (∀ r, r ≠ 2 → G r = G0 r) → wp m_X4_soMany 7 0 0 5 [some (vR (some t)), some (vI l1), some (vI l2), some (vI l3), some (vI l4), none] [] G (twQ t ad G0 (uI Q)) noX) {l1 : Int} {l2 : Int} {l3 : Int} {l4 : Int} {w : Tw} {G : Wd} (h : f_X4_soMany_5_b k5 l1 l2 l3 l4 w Q) (hT : TwAt t ad w (G 2)) (hG : ∀ r, r ≠ 2 → G r = G0 r) : wp m_X4_soMany 7 0 0 5 [some (vR (some t)), some (vI l1), some (vI l2), some (vI l3), some (vI l4), none] [] G (twQ t ad G0 (uI Q)) noX := by
  unfold f_X4_soMany_5_b at h
  refine r_iload dX4_soMany_5 rfl iI ?_
  refine r_aload_n dX4_soMany_7 rfl rfl iR ?_
  refine t_getI (j := 14) hT dX4_soMany_8 (fg1 (f := 14) fX4 (by decide) q2235 rfl) rfl ?_
  refine r_icmp_ge (tgt := 71) dX4_soMany_11 (by decide) h (fun h => ?_) (fun h => ?_)
  · refine r_iload_n dX4_soMany_71 rfl rfl iI ?_
    exact r_iret rfl dX4_soMany_72 ⟨_, hT, hG, _, rfl, h⟩
  · refine r_iconst dX4_soMany_14 ?_
    refine r_istore (L' := [some (vR (some t)), some (vI l1), some (vI l2), some (vI l3), some (vI l4), some (vI 0)]) dX4_soMany_15 rfl iI cI (by decide) ?_
    obtain ⟨fl23, h⟩ := h
    exact w_X4_soMany_17 hk5 fl23 h hT hG
def f_X4_soMany_5 (Q : Int → Tw → Prop) : Nat → Int → Int → Int → Int → Tw → Prop
  | 0, _, _, _, _, _ => False
  | fl + 1, l1, l2, l3, l4, w => f_X4_soMany_5_b    (fun l1 l2 l3 l4 w => f_X4_soMany_5    Q fl l1 l2 l3 l4 w) l1 l2 l3 l4 w Q
theorem w_X4_soMany_5 {t : Nat} {ad : Nat → Nat} {G0 : Wd} {Q : Int → Tw → Prop} : ∀ (fl : Nat) {l1 : Int} {l2 : Int} {l3 : Int} {l4 : Int} {w : Tw} {G : Wd}, f_X4_soMany_5 Q fl l1 l2 l3 l4 w → TwAt t ad w (G 2) → (∀ r, r ≠ 2 → G r = G0 r) → wp m_X4_soMany 7 0 0 5 [some (vR (some t)), some (vI l1), some (vI l2), some (vI l3), some (vI l4), none] [] G (twQ t ad G0 (uI Q)) noX := by
  intro fl
  induction fl with
  | zero => intro l1 l2 l3 l4 w G h; exact (show False from h).elim
  | succ fl ih => intro l1 l2 l3 l4 w G h hT hG; exact w_X4_soMany_5_b   (fun h hT hG => ih h hT hG) h hT hG
def f_X4_soMany (a1 : Int) (a2 : Int) (w : Tw) (Q : Int → Tw → Prop) : Prop :=
  ∃ fl24, f_X4_soMany_5 Q fl24 a1 a2 0 0 w
theorem w_X4_soMany {t : Nat} {ad : Nat → Nat} {G0 : Wd} {Q : Int → Tw → Prop} {a1 : Int} {a2 : Int} {w : Tw} {G : Wd} (h : f_X4_soMany a1 a2 w Q) (hT : TwAt t ad w (G 2)) (hG : ∀ r, r ≠ 2 → G r = G0 r) : wp m_X4_soMany 7 0 0 0 [some (vR (some t)), some (vI a1), some (vI a2), none, none, none] [] G (twQ t ad G0 (uI Q)) noX := by
  unfold f_X4_soMany at h
  refine r_iconst dX4_soMany_0 ?_
  refine r_istore_n (L' := [some (vR (some t)), some (vI a1), some (vI a2), some (vI 0), none, none]) dX4_soMany_1 rfl rfl iI cI (by decide) ?_
  refine r_iconst dX4_soMany_2 ?_
  refine r_istore (L' := [some (vR (some t)), some (vI a1), some (vI a2), some (vI 0), some (vI 0), none]) dX4_soMany_3 rfl iI cI (by decide) ?_
  obtain ⟨fl24, h⟩ := h
  exact w_X4_soMany_5 fl24 h hT hG
theorem c_X4_soMany {t : Nat} {ad : Nat → Nat} {G0 : Wd} {a1 : Int} {a2 : Int} {Q : Int → Tw → Prop} {w : Tw} {G : Wd} (h : f_X4_soMany a1 a2 w Q) (hT : TwAt t ad w (G 2)) (hG : ∀ r, r ≠ 2 → G r = G0 r) : call yX4_soMany (Cond.code yX4_soMany cX4_soMany 6 (some .int)) 7 0 0 [vR (some t), vI a1, vI a2] G (twQ t ad G0 (uI Q)) noX :=
  call.enter (by decide +kernel) (la_1 c1R (la_1 c1I (la_1 c1I (la_nil rfl)))) rfl (w_X4_soMany  h hT hG)
abbrev m_X4_readsRule : Mt := (yX4_readsRule.cls, cX4_readsRule, 3, some .int, [], yX4_readsRule.name)
theorem yo_X4_readsRule : yOK yX4_readsRule 0 := ⟨by decide +kernel, by decide +kernel, by decide +kernel⟩
def f_X4_readsRule_29 (l1 : Int) (s0 : Bool) (w : Tw) (Q : Int → Tw → Prop) : Prop :=
  f_X4_faultOf l1 40 s0 w (fun x9 w8 => Q x9 w8)
theorem w_X4_readsRule_29 {t : Nat} {ad : Nat → Nat} {G0 : Wd} {Q : Int → Tw → Prop} {l1 : Int} {s0 : Bool} {w : Tw} {G : Wd} (h : f_X4_readsRule_29 l1 s0 w Q) (hT : TwAt t ad w (G 2)) (hG : ∀ r, r ≠ 2 → G r = G0 r) : wp m_X4_readsRule 172 0 0 29 [some (vR (some t)), some (vI l1), none] [vB s0] G (twQ t ad G0 (uI Q)) noX := by
  unfold f_X4_readsRule_29 at h
  refine r_istore_n (L' := [some (vR (some t)), some (vI l1), some (vB s0)]) dX4_readsRule_29 rfl rfl iB cI (by decide) ?_
  refine r_aload_n dX4_readsRule_30 rfl rfl iR ?_
  refine r_iload_n dX4_readsRule_31 rfl rfl iI ?_
  refine r_bipush dX4_readsRule_32 (by decide) ?_
  refine r_iload_n dX4_readsRule_34 rfl rfl iB ?_
  refine r_callV dX4_readsRule_35 (tisC hT) (c_X4_faultOf h hT hG) q2208 q2210 qs49 q117 q2211 rfl yo_X4_faultOf rfl (by decide) (by decide) rfl rc0 (by decide) (Nat.le_refl _) (Nat.le_refl _) (tofI fun x9 w8 G h hT hG => ?_) nox
  exact r_iret rfl dX4_readsRule_38 ⟨_, hT, hG, _, rfl, h⟩
def f_X4_readsRule_24 (l1 : Int) (w : Tw) (Q : Int → Tw → Prop) : Prop :=
  f_X4_readsRule_29 l1 true w Q
theorem w_X4_readsRule_24 {t : Nat} {ad : Nat → Nat} {G0 : Wd} {Q : Int → Tw → Prop} {l1 : Int} {w : Tw} {G : Wd} (h : f_X4_readsRule_24 l1 w Q) (hT : TwAt t ad w (G 2)) (hG : ∀ r, r ≠ 2 → G r = G0 r) : wp m_X4_readsRule 172 0 0 24 [some (vR (some t)), some (vI l1), none] [] G (twQ t ad G0 (uI Q)) noX := by
  unfold f_X4_readsRule_24 at h
  refine r_iconst dX4_readsRule_24 ?_
  refine r_goto (tgt := 29) dX4_readsRule_25 (by decide) ?_
  refine wp.cast (st' := [vB true]) rfl (congrArg (fun q => [q]) vI1) ?_
  exact w_X4_readsRule_29 h hT hG
def f_X4_readsRule (w : Tw) (Q : Int → Tw → Prop) : Prop :=
  f_X4_begins 40 w (fun x11 w10 => tS w10 11 0 0 (fun w12 => br0 x11 (x11 = 0) (f_X4_readsRule_24 x11 w12 Q) (f_X4_readsRank 150 0 w12 (fun x14 w13 => brB x14 (f_X4_readsRule_24 x11 w13 Q) (f_X4_readsRule_29 x11 false w13 Q)))))
theorem w_X4_readsRule {t : Nat} {ad : Nat → Nat} {G0 : Wd} {Q : Int → Tw → Prop} {w : Tw} {G : Wd} (h : f_X4_readsRule w Q) (hT : TwAt t ad w (G 2)) (hG : ∀ r, r ≠ 2 → G r = G0 r) : wp m_X4_readsRule 172 0 0 0 [some (vR (some t)), none, none] [] G (twQ t ad G0 (uI Q)) noX := by
  unfold f_X4_readsRule at h
  refine r_aload_n dX4_readsRule_0 rfl rfl iR ?_
  refine r_bipush dX4_readsRule_1 (by decide) ?_
  refine r_callV dX4_readsRule_3 (tisC hT) (c_X4_begins h hT hG) q2145 q2147 qs41 q117 q2148 rfl yo_X4_begins rfl (by decide) (by decide) rfl rc0 (by decide) (Nat.le_refl _) (Nat.le_refl _) (tofI fun x11 w10 G h hT hG => ?_) nox
  refine r_istore_n (L' := [some (vR (some t)), some (vI x11), none]) dX4_readsRule_6 rfl rfl iI cR (by decide) ?_
  refine r_aload_n dX4_readsRule_7 rfl rfl iR ?_
  refine r_iconst dX4_readsRule_8 ?_
  refine t_put (j := 11) hT hG dX4_readsRule_9 (fp1 (f := 11) fX4 (by decide) q2232 rfl rfl rfl) tF11 (by decide) h (fun w12 G h hT hG => ?_)
  refine r_iload_n dX4_readsRule_12 rfl rfl iI ?_
  refine r_if_eq (tgt := 24) dX4_readsRule_13 (by decide) h (fun h => ?_) (fun h => ?_)
  · exact w_X4_readsRule_24 h hT hG
  · refine r_aload_n dX4_readsRule_16 rfl rfl iR ?_
    refine r_iconst dX4_readsRule_17 ?_
    refine r_callV dX4_readsRule_18 (tisC hT) (c_X4_readsRank 150 h hT hG) q2150 q2152 qs42 q117 q2153 rfl yo_X4_readsRank rfl (by decide) (by decide) rfl rc0 (by decide) (Nat.le_refl _) (Nat.le_refl _) (tofB fun x14 w13 G h hT hG => ?_) nox
    refine r_ifZ_eq (tgt := 28) dX4_readsRule_21 (by decide) h (fun h => ?_) (fun h => ?_)
    · refine r_iconst dX4_readsRule_28 ?_
      refine wp.cast (st' := [vB false]) rfl (congrArg (fun q => [q]) vI0) ?_
      exact w_X4_readsRule_29 h hT hG
    · exact w_X4_readsRule_24 h hT hG
theorem c_X4_readsRule {t : Nat} {ad : Nat → Nat} {G0 : Wd} {Q : Int → Tw → Prop} {w : Tw} {G : Wd} (h : f_X4_readsRule w Q) (hT : TwAt t ad w (G 2)) (hG : ∀ r, r ≠ 2 → G r = G0 r) : call yX4_readsRule (Cond.code yX4_readsRule cX4_readsRule 3 (some .int)) 172 0 0 [vR (some t)] G (twQ t ad G0 (uI Q)) noX :=
  call.enter (by decide +kernel) (la_1 c1R (la_nil rfl)) rfl (w_X4_readsRule  h hT hG)
abbrev m_X4_freeId : Mt := (yX4_freeId.cls, cX4_freeId, 3, some .int, [], yX4_freeId.name)
theorem yo_X4_freeId : yOK yX4_freeId 2 := ⟨by decide +kernel, by decide +kernel, by decide +kernel⟩
def f_X4_freeId_23 (a0 : Nat) (l2 : Int) (w : Tw) (Q : Int → Tw → Prop) : Prop :=
  br l2 16 (¬ l2 = (16 : Int)) (Q l2 w) (Q (-1) w)
theorem w_X4_freeId_23 {t : Nat} {ad : Nat → Nat} {G0 : Wd} {a0 : Nat} (hA_a0 : (a0, 0, 844) ∈ twA) {Q : Int → Tw → Prop} {l2 : Int} {w : Tw} {G : Wd} (h : f_X4_freeId_23 a0 l2 w Q) (hT : TwAt t ad w (G 2)) (hG : ∀ r, r ≠ 2 → G r = G0 r) : wp m_X4_freeId 5 0 0 23 [none, none, some (vI l2)] [] G (twQ t ad G0 (uI Q)) noX := by
  unfold f_X4_freeId_23 at h
  refine r_iload_n dX4_freeId_23 rfl rfl iI ?_
  refine r_bipush dX4_freeId_24 (by decide) ?_
  refine r_icmp_ne (tgt := 33) dX4_freeId_26 (by decide) h (fun h => ?_) (fun h => ?_)
  · refine r_iload_n dX4_freeId_33 rfl rfl iI ?_
    exact r_iret rfl dX4_freeId_34 ⟨_, hT, hG, _, rfl, h⟩
  · refine r_iconst dX4_freeId_29 ?_
    refine r_goto (tgt := 34) dX4_freeId_30 (by decide) ?_
    exact r_iret rfl dX4_freeId_34 ⟨_, hT, hG, _, rfl, h⟩
def f_X4_freeId_2_b (a0 : Nat) (k2 : Int → Int → Tw → Prop) (l1 : Int) (l2 : Int) (w : Tw) (Q : Int → Tw → Prop) : Prop :=
  br l2 16 ((16 : Int) ≤ l2) (f_X4_freeId_23 a0 l2 w Q) (f_X4_isUsed a0 l1 l2 w (fun x6 w5 => brB x6 (k2 l1 (l2 + 1) w5) (f_X4_freeId_23 a0 l2 w5 Q)))
theorem w_X4_freeId_2_b {t : Nat} {ad : Nat → Nat} {G0 : Wd} {a0 : Nat} (hA_a0 : (a0, 0, 844) ∈ twA) {Q : Int → Tw → Prop} {k2 : Int → Int → Tw → Prop} (hk2 : ∀ {l1 : Int} {l2 : Int} {w : Tw} {G : Wd}, k2 l1 l2 w → TwAt t ad w (G 2) → (∀ r, r ≠ 2 → G r = G0 r) → wp m_X4_freeId 5 0 0 2 [some (vR (some (ad a0))), some (vI l1), some (vI l2)] [] G (twQ t ad G0 (uI Q)) noX) {l1 : Int} {l2 : Int} {w : Tw} {G : Wd} (h : f_X4_freeId_2_b a0 k2 l1 l2 w Q) (hT : TwAt t ad w (G 2)) (hG : ∀ r, r ≠ 2 → G r = G0 r) : wp m_X4_freeId 5 0 0 2 [some (vR (some (ad a0))), some (vI l1), some (vI l2)] [] G (twQ t ad G0 (uI Q)) noX := by
  unfold f_X4_freeId_2_b at h
  refine r_iload_n dX4_freeId_2 rfl rfl iI ?_
  refine r_bipush dX4_freeId_3 (by decide) ?_
  refine r_icmp_ge (tgt := 23) dX4_freeId_5 (by decide) h (fun h => ?_) (fun h => ?_)
  · refine wp.locals (L' := [none, none, some (vI l2)]) (ls_n (ls_n (ls_s ls_0))) ?_
    exact w_X4_freeId_23 hA_a0 h hT hG
  · refine r_aload_n dX4_freeId_8 rfl rfl iR ?_
    refine r_iload_n dX4_freeId_9 rfl rfl iI ?_
    refine r_iload_n dX4_freeId_10 rfl rfl iI ?_
    refine r_callS dX4_freeId_11 (c_X4_isUsed hA_a0 h hT hG) q2413 q2414 q117 q2415 yo_X4_isUsed rfl (by decide) (by decide) rfl rc0 (by decide) (Nat.le_refl _) (Nat.le_refl _) (tofB fun x6 w5 G h hT hG => ?_) nox
    refine r_ifZ_eq (tgt := 23) dX4_freeId_14 (by decide) h (fun h => ?_) (fun h => ?_)
    · refine wp.locals (L' := [none, none, some (vI l2)]) (ls_n (ls_n (ls_s ls_0))) ?_
      exact w_X4_freeId_23 hA_a0 h hT hG
    · refine r_iinc (L' := [some (vR (some (ad a0))), some (vI l1), some (vI (l2 + 1))]) dX4_freeId_17 rfl rfl cI (by decide) ?_
      refine r_goto (tgt := 2) dX4_freeId_20 (by decide) ?_
      exact hk2 h hT hG
def f_X4_freeId_2 (a0 : Nat) (Q : Int → Tw → Prop) : Nat → Int → Int → Tw → Prop
  | 0, _, _, _ => False
  | fl + 1, l1, l2, w => f_X4_freeId_2_b  a0  (fun l1 l2 w => f_X4_freeId_2  a0  Q fl l1 l2 w) l1 l2 w Q
theorem w_X4_freeId_2 {t : Nat} {ad : Nat → Nat} {G0 : Wd} {a0 : Nat} (hA_a0 : (a0, 0, 844) ∈ twA) {Q : Int → Tw → Prop} : ∀ (fl : Nat) {l1 : Int} {l2 : Int} {w : Tw} {G : Wd}, f_X4_freeId_2 a0 Q fl l1 l2 w → TwAt t ad w (G 2) → (∀ r, r ≠ 2 → G r = G0 r) → wp m_X4_freeId 5 0 0 2 [some (vR (some (ad a0))), some (vI l1), some (vI l2)] [] G (twQ t ad G0 (uI Q)) noX := by
  intro fl
  induction fl with
  | zero => intro l1 l2 w G h; exact (show False from h).elim
  | succ fl ih => intro l1 l2 w G h hT hG; exact w_X4_freeId_2_b hA_a0  (fun h hT hG => ih h hT hG) h hT hG
def f_X4_freeId (a0 : Nat) (a1 : Int) (w : Tw) (Q : Int → Tw → Prop) : Prop :=
  ∃ fl7, f_X4_freeId_2 a0 Q fl7 a1 0 w
theorem w_X4_freeId {t : Nat} {ad : Nat → Nat} {G0 : Wd} {a0 : Nat} (hA_a0 : (a0, 0, 844) ∈ twA) {Q : Int → Tw → Prop} {a1 : Int} {w : Tw} {G : Wd} (h : f_X4_freeId a0 a1 w Q) (hT : TwAt t ad w (G 2)) (hG : ∀ r, r ≠ 2 → G r = G0 r) : wp m_X4_freeId 5 0 0 0 [some (vR (some (ad a0))), some (vI a1), none] [] G (twQ t ad G0 (uI Q)) noX := by
  unfold f_X4_freeId at h
  refine r_iconst dX4_freeId_0 ?_
  refine r_istore_n (L' := [some (vR (some (ad a0))), some (vI a1), some (vI 0)]) dX4_freeId_1 rfl rfl iI cI (by decide) ?_
  obtain ⟨fl7, h⟩ := h
  exact w_X4_freeId_2 hA_a0 fl7 h hT hG
theorem c_X4_freeId {t : Nat} {ad : Nat → Nat} {G0 : Wd} {a0 : Nat} {a1 : Int} (hA_a0 : (a0, 0, 844) ∈ twA) {Q : Int → Tw → Prop} {w : Tw} {G : Wd} (h : f_X4_freeId a0 a1 w Q) (hT : TwAt t ad w (G 2)) (hG : ∀ r, r ≠ 2 → G r = G0 r) : call yX4_freeId (Cond.code yX4_freeId cX4_freeId 3 (some .int)) 5 0 0 [vR (some (ad a0)), vI a1] G (twQ t ad G0 (uI Q)) noX :=
  call.enter (by decide +kernel) (la_1 c1R (la_1 c1I (la_nil rfl))) rfl (w_X4_freeId hA_a0 h hT hG)
abbrev m_X4_fetches : Mt := (yX4_fetches.cls, cX4_fetches, 10, none, [], yX4_fetches.name)
theorem yo_X4_fetches : yOK yX4_fetches 1 := ⟨by decide +kernel, by decide +kernel, by decide +kernel⟩
def f_X4_fetches_115 (a1 : Nat) (l2 : Int) (l4 : Int) (w : Tw) (Q : Tw → Prop) : Prop :=
  f_X4_comesOut a1 l2 l4 4 0 w (fun w25 => Q w25)
theorem w_X4_fetches_115 {t : Nat} {ad : Nat → Nat} {G0 : Wd} {a1 : Nat} (hA_a1 : (a1, 0, 844) ∈ twA) {Q : Tw → Prop} {l2 : Int} {l4 : Int} {w : Tw} {G : Wd} (h : f_X4_fetches_115 a1 l2 l4 w Q) (hT : TwAt t ad w (G 2)) (hG : ∀ r, r ≠ 2 → G r = G0 r) : wp m_X4_fetches 6 0 0 115 [none, some (vR (some (ad a1))), some (vI l2), none, some (vI l4), none, none, none, none, none] [] G (twQ t ad G0 (uV Q)) noX := by
  unfold f_X4_fetches_115 at h
  refine r_aload_n dX4_fetches_115 rfl rfl iR ?_
  refine r_iload_n dX4_fetches_116 rfl rfl iI ?_
  refine r_iload dX4_fetches_117 rfl iI ?_
  refine r_iconst dX4_fetches_119 ?_
  refine r_iconst dX4_fetches_120 ?_
  refine r_callS dX4_fetches_121 (c_X4_comesOut hA_a1 h hT hG) q2479 q2480 q117 q2481 yo_X4_comesOut rfl (by decide) (by decide) rfl rc0 (by decide) (Nat.le_refl _) (Nat.le_refl _) (tofV fun w25 G h hT hG => ?_) nox
  exact r_vret rfl dX4_fetches_124 ⟨_, hT, hG, rfl, h⟩
def f_X4_fetches_190 (a1 : Nat) (l8 : Int) (l9 : Int) (w : Tw) (Q : Tw → Prop) : Prop :=
  wrA w a1 844 (l9 + 11) l8 (fun w26 => rdA w26 a1 844 493 (fun _ => wrA w26 a1 844 493 ((w26 a1 493) + 1) (fun w27 => Q w27)))
theorem w_X4_fetches_190 {t : Nat} {ad : Nat → Nat} {G0 : Wd} {a1 : Nat} (hA_a1 : (a1, 0, 844) ∈ twA) {Q : Tw → Prop} {l8 : Int} {l9 : Int} {w : Tw} {G : Wd} (h : f_X4_fetches_190 a1 l8 l9 w Q) (hT : TwAt t ad w (G 2)) (hG : ∀ r, r ≠ 2 → G r = G0 r) : wp m_X4_fetches 6 0 0 190 [none, some (vR (some (ad a1))), none, none, none, none, none, none, some (vI l8), some (vI l9)] [] G (twQ t ad G0 (uV Q)) noX := by
  unfold f_X4_fetches_190 at h
  refine r_aload_n dX4_fetches_190 rfl rfl iR ?_
  refine r_iload dX4_fetches_191 rfl iI ?_
  refine r_bipush dX4_fetches_193 (by decide) ?_
  refine r_iadd dX4_fetches_195 ?_
  refine r_iload dX4_fetches_196 rfl iI ?_
  refine t_iast hT hG dX4_fetches_198 hA_a1 (by decide) h (fun w26 G h hT hG => ?_)
  refine r_aload_n dX4_fetches_199 rfl rfl iR ?_
  refine r_sipush dX4_fetches_200 (by decide) ?_
  refine r_dup2 dX4_fetches_203 c1I c1R ?_
  refine t_iald hT dX4_fetches_204 hA_a1 (by decide) h (fun h => ?_)
  refine r_iconst dX4_fetches_205 ?_
  refine r_iadd dX4_fetches_206 ?_
  refine t_iast hT hG dX4_fetches_207 hA_a1 (by decide) h (fun w27 G h hT hG => ?_)
  exact r_vret rfl dX4_fetches_208 ⟨_, hT, hG, rfl, h⟩
def f_X4_fetches_109 (a1 : Nat) (l2 : Int) (l3 : Int) (l4 : Int) (l5 : Int) (l7 : Bool) (w : Tw) (Q : Tw → Prop) : Prop :=
  br l5 3 (¬ l5 = (3 : Int)) (f_X4_timeOf a1 l2 l3 w (fun x29 w28 => rdA w28 a1 844 493 (fun _ => f_X4_runAt (w28 a1 493) w28 (fun x31 w30 => wrA w30 a1 844 (x31 + 0) l2 (fun w32 => f_X4_lays a1 (x31 + 1) l3 w32 (fun w33 => wrA w33 a1 844 ((x31 + 6) + 1) (-1) (fun w34 => brB l7 (f_X4_fetchedOf a1 l2 w34 (fun x36 w35 => f_X4_lays a1 (x31 + 6) x36 w35 (fun w37 => f_X4_fetches_190 a1 x29 x31 w37 Q))) (f_X4_fetches_190 a1 x29 x31 w34 Q)))))))) (f_X4_fetches_115 a1 l2 l4 w Q)
theorem w_X4_fetches_109 {t : Nat} {ad : Nat → Nat} {G0 : Wd} {a1 : Nat} (hA_a1 : (a1, 0, 844) ∈ twA) {Q : Tw → Prop} {l2 : Int} {l3 : Int} {l4 : Int} {l5 : Int} {l7 : Bool} {w : Tw} {G : Wd} (h : f_X4_fetches_109 a1 l2 l3 l4 l5 l7 w Q) (hT : TwAt t ad w (G 2)) (hG : ∀ r, r ≠ 2 → G r = G0 r) : wp m_X4_fetches 6 0 0 109 [some (vR (some t)), some (vR (some (ad a1))), some (vI l2), some (vI l3), some (vI l4), some (vI l5), none, some (vB l7), none, none] [] G (twQ t ad G0 (uV Q)) noX := by
  unfold f_X4_fetches_109 at h
  refine r_iload dX4_fetches_109 rfl iI ?_
  refine r_iconst dX4_fetches_111 ?_
  refine r_icmp_ne (tgt := 125) dX4_fetches_112 (by decide) h (fun h => ?_) (fun h => ?_)
  · refine r_aload_n dX4_fetches_125 rfl rfl iR ?_
    refine r_aload_n dX4_fetches_126 rfl rfl iR ?_
    refine r_iload_n dX4_fetches_127 rfl rfl iI ?_
    refine r_iload_n dX4_fetches_128 rfl rfl iI ?_
    refine r_callV dX4_fetches_129 (tisC hT) (c_X4_timeOf hA_a1 h hT hG) q2522 q2524 qs69 q117 q2525 rfl yo_X4_timeOf rfl (by decide) (by decide) rfl rc0 (by decide) (Nat.le_refl _) (Nat.le_refl _) (tofI fun x29 w28 G h hT hG => ?_) nox
    refine r_istore (L' := [some (vR (some t)), some (vR (some (ad a1))), some (vI l2), some (vI l3), some (vI l4), some (vI l5), none, some (vB l7), some (vI x29), none]) dX4_fetches_132 rfl iI cB (by decide) ?_
    refine r_aload_n dX4_fetches_134 rfl rfl iR ?_
    refine r_sipush dX4_fetches_135 (by decide) ?_
    refine t_iald hT dX4_fetches_138 hA_a1 (by decide) h (fun h => ?_)
    refine r_callS dX4_fetches_139 (c_X4_runAt h hT hG) q2425 q2426 q117 q2427 yo_X4_runAt rfl (by decide) (by decide) rfl rc0 (by decide) (Nat.le_refl _) (Nat.le_refl _) (tofI fun x31 w30 G h hT hG => ?_) nox
    refine r_istore (L' := [some (vR (some t)), some (vR (some (ad a1))), some (vI l2), some (vI l3), some (vI l4), some (vI l5), none, some (vB l7), some (vI x29), some (vI x31)]) dX4_fetches_142 rfl iI cI (by decide) ?_
    refine r_aload_n dX4_fetches_144 rfl rfl iR ?_
    refine r_iload dX4_fetches_145 rfl iI ?_
    refine r_iconst dX4_fetches_147 ?_
    refine r_iadd dX4_fetches_148 ?_
    refine r_iload_n dX4_fetches_149 rfl rfl iI ?_
    refine t_iast hT hG dX4_fetches_150 hA_a1 (by decide) h (fun w32 G h hT hG => ?_)
    refine r_aload_n dX4_fetches_151 rfl rfl iR ?_
    refine r_iload dX4_fetches_152 rfl iI ?_
    refine r_iconst dX4_fetches_154 ?_
    refine r_iadd dX4_fetches_155 ?_
    refine r_iload_n dX4_fetches_156 rfl rfl iI ?_
    refine r_callS dX4_fetches_157 (c_X4_lays hA_a1 h hT hG) q2533 q2534 q117 q2535 yo_X4_lays rfl (by decide) (by decide) rfl rc0 (by decide) (Nat.le_refl _) (Nat.le_refl _) (tofV fun w33 G h hT hG => ?_) nox
    refine r_aload_n dX4_fetches_160 rfl rfl iR ?_
    refine r_iload dX4_fetches_161 rfl iI ?_
    refine r_bipush dX4_fetches_163 (by decide) ?_
    refine r_iadd dX4_fetches_165 ?_
    refine r_iconst dX4_fetches_166 ?_
    refine r_iadd dX4_fetches_167 ?_
    refine r_iconst dX4_fetches_168 ?_
    refine t_iast hT hG dX4_fetches_169 hA_a1 (by decide) h (fun w34 G h hT hG => ?_)
    refine r_iload dX4_fetches_170 rfl iB ?_
    refine r_ifZ_eq (tgt := 190) dX4_fetches_172 (by decide) h (fun h => ?_) (fun h => ?_)
    · refine wp.locals (L' := [none, some (vR (some (ad a1))), none, none, none, none, none, none, some (vI x29), some (vI x31)]) (ls_n (ls_s (ls_n (ls_n (ls_n (ls_n (ls_n (ls_n (ls_s (ls_s ls_0)))))))))) ?_
      exact w_X4_fetches_190 hA_a1 h hT hG
    · refine r_aload_n dX4_fetches_175 rfl rfl iR ?_
      refine r_iload dX4_fetches_176 rfl iI ?_
      refine r_bipush dX4_fetches_178 (by decide) ?_
      refine r_iadd dX4_fetches_180 ?_
      refine r_aload_n dX4_fetches_181 rfl rfl iR ?_
      refine r_aload_n dX4_fetches_182 rfl rfl iR ?_
      refine r_iload_n dX4_fetches_183 rfl rfl iI ?_
      refine r_callV dX4_fetches_184 (tisC hT) (c_X4_fetchedOf hA_a1 h hT hG) q2518 q2520 qs68 q117 q2521 rfl yo_X4_fetchedOf rfl (by decide) (by decide) rfl (rc1 c1I (rc1 c1R rc0)) (by decide) (Nat.le_refl _) (Nat.le_refl _) (tofI fun x36 w35 G h hT hG => ?_) nox
      refine r_callS dX4_fetches_187 (c_X4_lays hA_a1 h hT hG) q2533 q2534 q117 q2535 yo_X4_lays rfl (by decide) (by decide) rfl rc0 (by decide) (Nat.le_refl _) (Nat.le_refl _) (tofV fun w37 G h hT hG => ?_) nox
      refine wp.locals (L' := [none, some (vR (some (ad a1))), none, none, none, none, none, none, some (vI x29), some (vI x31)]) (ls_n (ls_s (ls_n (ls_n (ls_n (ls_n (ls_n (ls_n (ls_s (ls_s ls_0)))))))))) ?_
      exact w_X4_fetches_190 hA_a1 h hT hG
  · refine wp.locals (L' := [none, some (vR (some (ad a1))), some (vI l2), none, some (vI l4), none, none, none, none, none]) (ls_n (ls_s (ls_s (ls_n (ls_s (ls_n (ls_n (ls_n (ls_n (ls_n ls_0)))))))))) ?_
    exact w_X4_fetches_115 hA_a1 h hT hG
def f_X4_fetches_96 (a1 : Nat) (l2 : Int) (l3 : Int) (l4 : Int) (l5 : Int) (s0 : Bool) (w : Tw) (Q : Tw → Prop) : Prop :=
  br l5 2 (¬ l5 = (2 : Int)) (f_X4_fetches_109 a1 l2 l3 l4 l5 s0 w Q) (brB s0 (f_X4_fetches_109 a1 l2 l3 l4 l5 s0 w Q) (f_X4_fetches_115 a1 l2 l4 w Q))
theorem w_X4_fetches_96 {t : Nat} {ad : Nat → Nat} {G0 : Wd} {a1 : Nat} (hA_a1 : (a1, 0, 844) ∈ twA) {Q : Tw → Prop} {l2 : Int} {l3 : Int} {l4 : Int} {l5 : Int} {s0 : Bool} {w : Tw} {G : Wd} (h : f_X4_fetches_96 a1 l2 l3 l4 l5 s0 w Q) (hT : TwAt t ad w (G 2)) (hG : ∀ r, r ≠ 2 → G r = G0 r) : wp m_X4_fetches 6 0 0 96 [some (vR (some t)), some (vR (some (ad a1))), some (vI l2), some (vI l3), some (vI l4), some (vI l5), none, none, none, none] [vB s0] G (twQ t ad G0 (uV Q)) noX := by
  unfold f_X4_fetches_96 at h
  refine r_istore (L' := [some (vR (some t)), some (vR (some (ad a1))), some (vI l2), some (vI l3), some (vI l4), some (vI l5), none, some (vB s0), none, none]) dX4_fetches_96 rfl iB cN (by decide) ?_
  refine r_iload dX4_fetches_98 rfl iI ?_
  refine r_iconst dX4_fetches_100 ?_
  refine r_icmp_ne (tgt := 109) dX4_fetches_101 (by decide) h (fun h => ?_) (fun h => ?_)
  · exact w_X4_fetches_109 hA_a1 h hT hG
  · refine r_iload dX4_fetches_104 rfl iB ?_
    refine r_ifZ_eq (tgt := 115) dX4_fetches_106 (by decide) h (fun h => ?_) (fun h => ?_)
    · refine wp.locals (L' := [none, some (vR (some (ad a1))), some (vI l2), none, some (vI l4), none, none, none, none, none]) (ls_n (ls_s (ls_s (ls_n (ls_s (ls_n (ls_n (ls_n (ls_n (ls_n ls_0)))))))))) ?_
      exact w_X4_fetches_115 hA_a1 h hT hG
    · exact w_X4_fetches_109 hA_a1 h hT hG
def f_X4_fetches_95 (a1 : Nat) (l2 : Int) (l3 : Int) (l4 : Int) (l5 : Int) (w : Tw) (Q : Tw → Prop) : Prop :=
  f_X4_fetches_96 a1 l2 l3 l4 l5 false w Q
theorem w_X4_fetches_95 {t : Nat} {ad : Nat → Nat} {G0 : Wd} {a1 : Nat} (hA_a1 : (a1, 0, 844) ∈ twA) {Q : Tw → Prop} {l2 : Int} {l3 : Int} {l4 : Int} {l5 : Int} {w : Tw} {G : Wd} (h : f_X4_fetches_95 a1 l2 l3 l4 l5 w Q) (hT : TwAt t ad w (G 2)) (hG : ∀ r, r ≠ 2 → G r = G0 r) : wp m_X4_fetches 6 0 0 95 [some (vR (some t)), some (vR (some (ad a1))), some (vI l2), some (vI l3), some (vI l4), some (vI l5), none, none, none, none] [] G (twQ t ad G0 (uV Q)) noX := by
  unfold f_X4_fetches_95 at h
  refine r_iconst dX4_fetches_95 ?_
  refine wp.cast (st' := [vB false]) rfl (congrArg (fun q => [q]) vI0) ?_
  exact w_X4_fetches_96 hA_a1 h hT hG
def f_X4_fetches (a1 : Nat) (w : Tw) (Q : Tw → Prop) : Prop :=
  f_X4_chosen a1 w (fun x39 w38 => f_X4_fetchedOf a1 x39 w38 (fun x41 w40 => rdA w40 a1 844 (x41 + 0) (fun _ => rdA w40 a1 844 (x41 + 1) (fun _ => rdA w40 a1 844 (x41 + 4) (fun _ => br (w40 a1 (x41 + 4)) 1 (¬ (w40 a1 (x41 + 4)) = (1 : Int)) (f_X4_of a1 x39 3 w40 (fun x43 w42 => f_X4_ringAt x39 x43 w42 (fun x45 w44 => br (w40 a1 (x41 + 1)) 2 (¬ (w40 a1 (x41 + 1)) = (2 : Int)) (f_X4_fetches_95 a1 x39 x41 (w40 a1 (x41 + 0)) (w40 a1 (x41 + 1)) w44 Q) (f_X4_hasWork a1 x39 w44 (fun x47 w46 => brB x47 (rdA w46 a1 844 (x45 + 1) (fun _ => br (w46 a1 (x45 + 1)) 3 (¬ (w46 a1 (x45 + 1)) = (3 : Int)) (f_X4_fetches_95 a1 x39 x41 (w40 a1 (x41 + 0)) (w40 a1 (x41 + 1)) w46 Q) (rdA w46 a1 844 (x45 + 4) (fun _ => br0 (w46 a1 (x45 + 4)) (¬ (w46 a1 (x45 + 4)) = 0) (f_X4_fetches_95 a1 x39 x41 (w40 a1 (x41 + 0)) (w40 a1 (x41 + 1)) w46 Q) (f_X4_fetches_96 a1 x39 x41 (w40 a1 (x41 + 0)) (w40 a1 (x41 + 1)) true w46 Q))))) (f_X4_fetches_95 a1 x39 x41 (w40 a1 (x41 + 0)) (w40 a1 (x41 + 1)) w46 Q)))))) (f_X4_comesOut a1 x39 (w40 a1 (x41 + 0)) 1 0 w40 (fun w48 => Q w48)))))))
theorem w_X4_fetches {t : Nat} {ad : Nat → Nat} {G0 : Wd} {a1 : Nat} (hA_a1 : (a1, 0, 844) ∈ twA) {Q : Tw → Prop} {w : Tw} {G : Wd} (h : f_X4_fetches a1 w Q) (hT : TwAt t ad w (G 2)) (hG : ∀ r, r ≠ 2 → G r = G0 r) : wp m_X4_fetches 6 0 0 0 [some (vR (some t)), some (vR (some (ad a1))), none, none, none, none, none, none, none, none] [] G (twQ t ad G0 (uV Q)) noX := by
  unfold f_X4_fetches at h
  refine r_aload_n dX4_fetches_0 rfl rfl iR ?_
  refine r_aload_n dX4_fetches_1 rfl rfl iR ?_
  refine r_callV dX4_fetches_2 (tisC hT) (c_X4_chosen hA_a1 h hT hG) q2506 q2508 qs65 q117 q2509 rfl yo_X4_chosen rfl (by decide) (by decide) rfl rc0 (by decide) (Nat.le_refl _) (Nat.le_refl _) (tofI fun x39 w38 G h hT hG => ?_) nox
  refine r_istore_n (L' := [some (vR (some t)), some (vR (some (ad a1))), some (vI x39), none, none, none, none, none, none, none]) dX4_fetches_5 rfl rfl iI cR (by decide) ?_
  refine r_aload_n dX4_fetches_6 rfl rfl iR ?_
  refine r_aload_n dX4_fetches_7 rfl rfl iR ?_
  refine r_iload_n dX4_fetches_8 rfl rfl iI ?_
  refine r_callV dX4_fetches_9 (tisC hT) (c_X4_fetchedOf hA_a1 h hT hG) q2518 q2520 qs68 q117 q2521 rfl yo_X4_fetchedOf rfl (by decide) (by decide) rfl rc0 (by decide) (Nat.le_refl _) (Nat.le_refl _) (tofI fun x41 w40 G h hT hG => ?_) nox
  refine r_istore_n (L' := [some (vR (some t)), some (vR (some (ad a1))), some (vI x39), some (vI x41), none, none, none, none, none, none]) dX4_fetches_12 rfl rfl iI cI (by decide) ?_
  refine r_aload_n dX4_fetches_13 rfl rfl iR ?_
  refine r_iload_n dX4_fetches_14 rfl rfl iI ?_
  refine r_iconst dX4_fetches_15 ?_
  refine r_iadd dX4_fetches_16 ?_
  refine t_iald hT dX4_fetches_17 hA_a1 (by decide) h (fun h => ?_)
  refine r_istore (L' := [some (vR (some t)), some (vR (some (ad a1))), some (vI x39), some (vI x41), some (vI (w40 a1 (x41 + 0))), none, none, none, none, none]) dX4_fetches_18 rfl iI cI (by decide) ?_
  refine r_aload_n dX4_fetches_20 rfl rfl iR ?_
  refine r_iload_n dX4_fetches_21 rfl rfl iI ?_
  refine r_iconst dX4_fetches_22 ?_
  refine r_iadd dX4_fetches_23 ?_
  refine t_iald hT dX4_fetches_24 hA_a1 (by decide) h (fun h => ?_)
  refine r_istore (L' := [some (vR (some t)), some (vR (some (ad a1))), some (vI x39), some (vI x41), some (vI (w40 a1 (x41 + 0))), some (vI (w40 a1 (x41 + 1))), none, none, none, none]) dX4_fetches_25 rfl iI cI (by decide) ?_
  refine r_aload_n dX4_fetches_27 rfl rfl iR ?_
  refine r_iload_n dX4_fetches_28 rfl rfl iI ?_
  refine r_iconst dX4_fetches_29 ?_
  refine r_iadd dX4_fetches_30 ?_
  refine t_iald hT dX4_fetches_31 hA_a1 (by decide) h (fun h => ?_)
  refine r_iconst dX4_fetches_32 ?_
  refine r_icmp_ne (tgt := 46) dX4_fetches_33 (by decide) h (fun h => ?_) (fun h => ?_)
  · refine r_iload_n dX4_fetches_46 rfl rfl iI ?_
    refine r_aload_n dX4_fetches_47 rfl rfl iR ?_
    refine r_iload_n dX4_fetches_48 rfl rfl iI ?_
    refine r_iconst dX4_fetches_49 ?_
    refine r_callS dX4_fetches_50 (c_X4_of hA_a1 h hT hG) q2379 q2380 q117 q2381 yo_X4_of rfl (by decide) (by decide) rfl (rc1 c1I rc0) (by decide) (Nat.le_refl _) (Nat.le_refl _) (tofI fun x43 w42 G h hT hG => ?_) nox
    refine r_callS dX4_fetches_53 (c_X4_ringAt h hT hG) q2419 q2420 q117 q2421 yo_X4_ringAt rfl (by decide) (by decide) rfl rc0 (by decide) (Nat.le_refl _) (Nat.le_refl _) (tofI fun x45 w44 G h hT hG => ?_) nox
    refine r_istore (L' := [some (vR (some t)), some (vR (some (ad a1))), some (vI x39), some (vI x41), some (vI (w40 a1 (x41 + 0))), some (vI (w40 a1 (x41 + 1))), some (vI x45), none, none, none]) dX4_fetches_56 rfl iI cI (by decide) ?_
    refine r_iload dX4_fetches_58 rfl iI ?_
    refine r_iconst dX4_fetches_60 ?_
    refine r_icmp_ne (tgt := 95) dX4_fetches_61 (by decide) h (fun h => ?_) (fun h => ?_)
    · refine wp.locals (L' := [some (vR (some t)), some (vR (some (ad a1))), some (vI x39), some (vI x41), some (vI (w40 a1 (x41 + 0))), some (vI (w40 a1 (x41 + 1))), none, none, none, none]) (ls_s (ls_s (ls_s (ls_s (ls_s (ls_s (ls_n (ls_n (ls_n (ls_n ls_0)))))))))) ?_
      exact w_X4_fetches_95 hA_a1 h hT hG
    · refine r_aload_n dX4_fetches_64 rfl rfl iR ?_
      refine r_iload_n dX4_fetches_65 rfl rfl iI ?_
      refine r_callS dX4_fetches_66 (c_X4_hasWork hA_a1 h hT hG) q2499 q2500 q117 q2501 yo_X4_hasWork rfl (by decide) (by decide) rfl rc0 (by decide) (Nat.le_refl _) (Nat.le_refl _) (tofB fun x47 w46 G h hT hG => ?_) nox
      refine r_ifZ_eq (tgt := 95) dX4_fetches_69 (by decide) h (fun h => ?_) (fun h => ?_)
      · refine wp.locals (L' := [some (vR (some t)), some (vR (some (ad a1))), some (vI x39), some (vI x41), some (vI (w40 a1 (x41 + 0))), some (vI (w40 a1 (x41 + 1))), none, none, none, none]) (ls_s (ls_s (ls_s (ls_s (ls_s (ls_s (ls_n (ls_n (ls_n (ls_n ls_0)))))))))) ?_
        exact w_X4_fetches_95 hA_a1 h hT hG
      · refine r_aload_n dX4_fetches_72 rfl rfl iR ?_
        refine r_iload dX4_fetches_73 rfl iI ?_
        refine r_iconst dX4_fetches_75 ?_
        refine r_iadd dX4_fetches_76 ?_
        refine t_iald hT dX4_fetches_77 hA_a1 (by decide) h (fun h => ?_)
        refine r_iconst dX4_fetches_78 ?_
        refine r_icmp_ne (tgt := 95) dX4_fetches_79 (by decide) h (fun h => ?_) (fun h => ?_)
        · refine wp.locals (L' := [some (vR (some t)), some (vR (some (ad a1))), some (vI x39), some (vI x41), some (vI (w40 a1 (x41 + 0))), some (vI (w40 a1 (x41 + 1))), none, none, none, none]) (ls_s (ls_s (ls_s (ls_s (ls_s (ls_s (ls_n (ls_n (ls_n (ls_n ls_0)))))))))) ?_
          exact w_X4_fetches_95 hA_a1 h hT hG
        · refine r_aload_n dX4_fetches_82 rfl rfl iR ?_
          refine r_iload dX4_fetches_83 rfl iI ?_
          refine r_iconst dX4_fetches_85 ?_
          refine r_iadd dX4_fetches_86 ?_
          refine t_iald hT dX4_fetches_87 hA_a1 (by decide) h (fun h => ?_)
          refine r_if_ne (tgt := 95) dX4_fetches_88 (by decide) h (fun h => ?_) (fun h => ?_)
          · refine wp.locals (L' := [some (vR (some t)), some (vR (some (ad a1))), some (vI x39), some (vI x41), some (vI (w40 a1 (x41 + 0))), some (vI (w40 a1 (x41 + 1))), none, none, none, none]) (ls_s (ls_s (ls_s (ls_s (ls_s (ls_s (ls_n (ls_n (ls_n (ls_n ls_0)))))))))) ?_
            exact w_X4_fetches_95 hA_a1 h hT hG
          · refine r_iconst dX4_fetches_91 ?_
            refine r_goto (tgt := 96) dX4_fetches_92 (by decide) ?_
            refine wp.cast (st' := [vB true]) rfl (congrArg (fun q => [q]) vI1) ?_
            refine wp.locals (L' := [some (vR (some t)), some (vR (some (ad a1))), some (vI x39), some (vI x41), some (vI (w40 a1 (x41 + 0))), some (vI (w40 a1 (x41 + 1))), none, none, none, none]) (ls_s (ls_s (ls_s (ls_s (ls_s (ls_s (ls_n (ls_n (ls_n (ls_n ls_0)))))))))) ?_
            exact w_X4_fetches_96 hA_a1 h hT hG
  · refine r_aload_n dX4_fetches_36 rfl rfl iR ?_
    refine r_iload_n dX4_fetches_37 rfl rfl iI ?_
    refine r_iload dX4_fetches_38 rfl iI ?_
    refine r_iconst dX4_fetches_40 ?_
    refine r_iconst dX4_fetches_41 ?_
    refine r_callS dX4_fetches_42 (c_X4_comesOut hA_a1 h hT hG) q2479 q2480 q117 q2481 yo_X4_comesOut rfl (by decide) (by decide) rfl rc0 (by decide) (Nat.le_refl _) (Nat.le_refl _) (tofV fun w48 G h hT hG => ?_) nox
    exact r_vret rfl dX4_fetches_45 ⟨_, hT, hG, rfl, h⟩
theorem c_X4_fetches {t : Nat} {ad : Nat → Nat} {G0 : Wd} {a1 : Nat} (hA_a1 : (a1, 0, 844) ∈ twA) {Q : Tw → Prop} {w : Tw} {G : Wd} (h : f_X4_fetches a1 w Q) (hT : TwAt t ad w (G 2)) (hG : ∀ r, r ≠ 2 → G r = G0 r) : call yX4_fetches (Cond.code yX4_fetches cX4_fetches 10 (none)) 6 0 0 [vR (some t), vR (some (ad a1))] G (twQ t ad G0 (uV Q)) noX :=
  call.enter (by decide +kernel) (la_1 c1R (la_1 c1R (la_nil rfl))) rfl (w_X4_fetches hA_a1 h hT hG)
abbrev m_X4_calls : Mt := (yX4_calls.cls, cX4_calls, 3, some .int, [], yX4_calls.name)
theorem yo_X4_calls : yOK yX4_calls 2 := ⟨by decide +kernel, by decide +kernel, by decide +kernel⟩
def f_X4_calls (a1 : Int) (a2 : Int) (w : Tw) (Q : Int → Tw → Prop) : Prop :=
  tS w 0 0 0 (fun w7 => f_X4_putsBy  w7 (fun w8 => f_X4_callsOne 20 a1 a2 w8 (fun x10 w9 => f_X4_counted x10 w9 (fun x12 w11 => Q x12 w11))))
theorem w_X4_calls {t : Nat} {ad : Nat → Nat} {G0 : Wd} {Q : Int → Tw → Prop} {a1 : Int} {a2 : Int} {w : Tw} {G : Wd} (h : f_X4_calls a1 a2 w Q) (hT : TwAt t ad w (G 2)) (hG : ∀ r, r ≠ 2 → G r = G0 r) : wp m_X4_calls 6 0 0 0 [some (vR (some t)), some (vI a1), some (vI a2)] [] G (twQ t ad G0 (uI Q)) noX := by
  unfold f_X4_calls at h
  refine r_aload_n dX4_calls_0 rfl rfl iR ?_
  refine r_iconst dX4_calls_1 ?_
  refine t_put (j := 0) hT hG dX4_calls_2 (fp1 (f := 0) fX4 (by decide) q2221 rfl rfl rfl) tF0 (by decide) h (fun w7 G h hT hG => ?_)
  refine r_aload_n dX4_calls_5 rfl rfl iR ?_
  refine r_callV dX4_calls_6 (tisC hT) (c_X4_putsBy h hT hG) q2399 q2401 qs54 q117 q2402 rfl yo_X4_putsBy rfl (by decide) (by decide) rfl rc0 (by decide) (Nat.le_refl _) (Nat.le_refl _) (tofV fun w8 G h hT hG => ?_) nox
  refine r_aload_n dX4_calls_9 rfl rfl iR ?_
  refine r_aload_n dX4_calls_10 rfl rfl iR ?_
  refine r_aload_n dX4_calls_11 rfl rfl iR ?_
  refine t_getA (j := 20) hT dX4_calls_12 (fg1 (f := 20) fX4 (by decide) q2241 rfl) rfl ?_
  refine r_iload_n dX4_calls_15 rfl rfl iI ?_
  refine r_iload_n dX4_calls_16 rfl rfl iI ?_
  refine r_callV dX4_calls_17 (tisC hT) (c_X4_callsOne tA20 h hT hG) q2552 q2554 qs73 q117 q2555 rfl yo_X4_callsOne rfl (by decide) (by decide) rfl (rc1 c1R rc0) (by decide) (Nat.le_refl _) (Nat.le_refl _) (tofI fun x10 w9 G h hT hG => ?_) nox
  refine r_callV dX4_calls_20 (tisC hT) (c_X4_counted h hT hG) q2446 q2448 qs56 q117 q2449 rfl yo_X4_counted rfl (by decide) (by decide) rfl rc0 (by decide) (Nat.le_refl _) (Nat.le_refl _) (tofI fun x12 w11 G h hT hG => ?_) nox
  exact r_iret rfl dX4_calls_23 ⟨_, hT, hG, _, rfl, h⟩
theorem c_X4_calls {t : Nat} {ad : Nat → Nat} {G0 : Wd} {a1 : Int} {a2 : Int} {Q : Int → Tw → Prop} {w : Tw} {G : Wd} (h : f_X4_calls a1 a2 w Q) (hT : TwAt t ad w (G 2)) (hG : ∀ r, r ≠ 2 → G r = G0 r) : call yX4_calls (Cond.code yX4_calls cX4_calls 3 (some .int)) 6 0 0 [vR (some t), vI a1, vI a2] G (twQ t ad G0 (uI Q)) noX :=
  call.enter (by decide +kernel) (la_1 c1R (la_1 c1I (la_1 c1I (la_nil rfl)))) rfl (w_X4_calls  h hT hG)
abbrev m_X4_fits : Mt := (yX4_fits.cls, cX4_fits, 5, some .int, [], yX4_fits.name)
theorem yo_X4_fits : yOK yX4_fits 0 := ⟨by decide +kernel, by decide +kernel, by decide +kernel⟩
def f_X4_fits_59 (k14 : Int → Int → Tw → Prop) (k24 : Int → Int → Int → Tw → Prop) (l1 : Int) (l2 : Int) (l3 : Int) (l4 : Bool) (w : Tw) (Q : Int → Tw → Prop) : Prop :=
  f_X4_flag l4 w (fun x20 w19 => k24 (l1 + x20) l2 (l3 + 1) w19)
theorem w_X4_fits_59 {t : Nat} {ad : Nat → Nat} {G0 : Wd} {Q : Int → Tw → Prop} {k14 : Int → Int → Tw → Prop} (hk14 : ∀ {l1 : Int} {l2 : Int} {w : Tw} {G : Wd}, k14 l1 l2 w → TwAt t ad w (G 2) → (∀ r, r ≠ 2 → G r = G0 r) → wp m_X4_fits 7 0 0 14 [some (vR (some t)), some (vI l1), some (vI l2), none, none] [] G (twQ t ad G0 (uI Q)) noX) {k24 : Int → Int → Int → Tw → Prop} (hk24 : ∀ {l1 : Int} {l2 : Int} {l3 : Int} {w : Tw} {G : Wd}, k24 l1 l2 l3 w → TwAt t ad w (G 2) → (∀ r, r ≠ 2 → G r = G0 r) → wp m_X4_fits 7 0 0 24 [some (vR (some t)), some (vI l1), some (vI l2), some (vI l3), none] [] G (twQ t ad G0 (uI Q)) noX) {l1 : Int} {l2 : Int} {l3 : Int} {l4 : Bool} {w : Tw} {G : Wd} (h : f_X4_fits_59 k14 k24 l1 l2 l3 l4 w Q) (hT : TwAt t ad w (G 2)) (hG : ∀ r, r ≠ 2 → G r = G0 r) : wp m_X4_fits 7 0 0 59 [some (vR (some t)), some (vI l1), some (vI l2), some (vI l3), some (vB l4)] [] G (twQ t ad G0 (uI Q)) noX := by
  unfold f_X4_fits_59 at h
  refine r_iload_n dX4_fits_59 rfl rfl iI ?_
  refine r_iload dX4_fits_60 rfl iB ?_
  refine r_callS dX4_fits_62 (c_X4_flag h hT hG) q2162 q2163 q117 q2164 yo_X4_flag rfl (by decide) (by decide) rfl (rc1 c1I rc0) (by decide) (Nat.le_refl _) (Nat.le_refl _) (tofI fun x20 w19 G h hT hG => ?_) nox
  refine r_iadd dX4_fits_65 ?_
  refine r_istore_n (L' := [some (vR (some t)), some (vI (l1 + x20)), some (vI l2), some (vI l3), some (vB l4)]) dX4_fits_66 rfl rfl iI cR (by decide) ?_
  refine r_iinc (L' := [some (vR (some t)), some (vI (l1 + x20)), some (vI l2), some (vI (l3 + 1)), some (vB l4)]) dX4_fits_67 rfl rfl cI (by decide) ?_
  refine r_goto (tgt := 24) dX4_fits_70 (by decide) ?_
  refine wp.locals (L' := [some (vR (some t)), some (vI (l1 + x20)), some (vI l2), some (vI (l3 + 1)), none]) (ls_s (ls_s (ls_s (ls_s (ls_n ls_0))))) ?_
  exact hk24 h hT hG
def f_X4_fits_24_b (k14 : Int → Int → Tw → Prop) (k24 : Int → Int → Int → Tw → Prop) (l1 : Int) (l2 : Int) (l3 : Int) (w : Tw) (Q : Int → Tw → Prop) : Prop :=
  br l3 16 ((16 : Int) ≤ l3) (k14 l1 (l2 + 1) w) (f_X4_isFitting l2 l3 w (fun x22 w21 => brB x22 (br0 l1 (¬ l1 = 0) (f_X4_fits_59 k14 k24 l1 l2 l3 x22 w21 Q) (ok32 l2 (f_X4_enters l2 w21 (fun w23 => ok32 l3 (f_X4_enters l3 w23 (fun w24 => f_X4_fits_59 k14 k24 l1 l2 l3 x22 w24 Q)))))) (f_X4_fits_59 k14 k24 l1 l2 l3 x22 w21 Q)))
theorem w_X4_fits_24_b {t : Nat} {ad : Nat → Nat} {G0 : Wd} {Q : Int → Tw → Prop} {k14 : Int → Int → Tw → Prop} (hk14 : ∀ {l1 : Int} {l2 : Int} {w : Tw} {G : Wd}, k14 l1 l2 w → TwAt t ad w (G 2) → (∀ r, r ≠ 2 → G r = G0 r) → wp m_X4_fits 7 0 0 14 [some (vR (some t)), some (vI l1), some (vI l2), none, none] [] G (twQ t ad G0 (uI Q)) noX) {k24 : Int → Int → Int → Tw → Prop} (hk24 : ∀ {l1 : Int} {l2 : Int} {l3 : Int} {w : Tw} {G : Wd}, k24 l1 l2 l3 w → TwAt t ad w (G 2) → (∀ r, r ≠ 2 → G r = G0 r) → wp m_X4_fits 7 0 0 24 [some (vR (some t)), some (vI l1), some (vI l2), some (vI l3), none] [] G (twQ t ad G0 (uI Q)) noX) {l1 : Int} {l2 : Int} {l3 : Int} {w : Tw} {G : Wd} (h : f_X4_fits_24_b k14 k24 l1 l2 l3 w Q) (hT : TwAt t ad w (G 2)) (hG : ∀ r, r ≠ 2 → G r = G0 r) : wp m_X4_fits 7 0 0 24 [some (vR (some t)), some (vI l1), some (vI l2), some (vI l3), none] [] G (twQ t ad G0 (uI Q)) noX := by
  unfold f_X4_fits_24_b at h
  refine r_iload_n dX4_fits_24 rfl rfl iI ?_
  refine r_bipush dX4_fits_25 (by decide) ?_
  refine r_icmp_ge (tgt := 73) dX4_fits_27 (by decide) h (fun h => ?_) (fun h => ?_)
  · refine r_iinc (L' := [some (vR (some t)), some (vI l1), some (vI (l2 + 1)), some (vI l3), none]) dX4_fits_73 rfl rfl cI (by decide) ?_
    refine r_goto (tgt := 14) dX4_fits_76 (by decide) ?_
    refine wp.locals (L' := [some (vR (some t)), some (vI l1), some (vI (l2 + 1)), none, none]) (ls_s (ls_s (ls_s (ls_n (ls_n ls_0))))) ?_
    exact hk14 h hT hG
  · refine r_aload_n dX4_fits_30 rfl rfl iR ?_
    refine r_iload_n dX4_fits_31 rfl rfl iI ?_
    refine r_iload_n dX4_fits_32 rfl rfl iI ?_
    refine r_callV dX4_fits_33 (tisC hT) (c_X4_isFitting h hT hG) q2698 q2700 qs84 q117 q2701 rfl yo_X4_isFitting rfl (by decide) (by decide) rfl rc0 (by decide) (Nat.le_refl _) (Nat.le_refl _) (tofB fun x22 w21 G h hT hG => ?_) nox
    refine r_istore (L' := [some (vR (some t)), some (vI l1), some (vI l2), some (vI l3), some (vB x22)]) dX4_fits_36 rfl iB cI (by decide) ?_
    refine r_iload dX4_fits_38 rfl iB ?_
    refine r_ifZ_eq (tgt := 59) dX4_fits_40 (by decide) h (fun h => ?_) (fun h => ?_)
    · exact w_X4_fits_59 hk14 hk24 h hT hG
    · refine r_iload_n dX4_fits_43 rfl rfl iI ?_
      refine r_if_ne (tgt := 59) dX4_fits_44 (by decide) h (fun h => ?_) (fun h => ?_)
      · exact w_X4_fits_59 hk14 hk24 h hT hG
      · refine r_aload_n dX4_fits_47 rfl rfl iR ?_
        refine r_iload_n dX4_fits_48 rfl rfl iI ?_
        refine r_i2l dX4_fits_49 h (fun h => ?_)
        refine r_callV dX4_fits_50 (tisC hT) (c_X4_enters h hT hG) q2536 q2538 qs71 q117 q2539 rfl yo_X4_enters rfl (by decide) (by decide) rfl rc0 (by decide) (Nat.le_refl _) (Nat.le_refl _) (tofV fun w23 G h hT hG => ?_) nox
        refine r_aload_n dX4_fits_53 rfl rfl iR ?_
        refine r_iload_n dX4_fits_54 rfl rfl iI ?_
        refine r_i2l dX4_fits_55 h (fun h => ?_)
        refine r_callV dX4_fits_56 (tisC hT) (c_X4_enters h hT hG) q2536 q2538 qs71 q117 q2539 rfl yo_X4_enters rfl (by decide) (by decide) rfl rc0 (by decide) (Nat.le_refl _) (Nat.le_refl _) (tofV fun w24 G h hT hG => ?_) nox
        exact w_X4_fits_59 hk14 hk24 h hT hG
def f_X4_fits_24 (k14 : Int → Int → Tw → Prop) (Q : Int → Tw → Prop) : Nat → Int → Int → Int → Tw → Prop
  | 0, _, _, _, _ => False
  | fl + 1, l1, l2, l3, w => f_X4_fits_24_b   k14 (fun l1 l2 l3 w => f_X4_fits_24   k14 Q fl l1 l2 l3 w) l1 l2 l3 w Q
theorem w_X4_fits_24 {t : Nat} {ad : Nat → Nat} {G0 : Wd} {Q : Int → Tw → Prop} {k14 : Int → Int → Tw → Prop} (hk14 : ∀ {l1 : Int} {l2 : Int} {w : Tw} {G : Wd}, k14 l1 l2 w → TwAt t ad w (G 2) → (∀ r, r ≠ 2 → G r = G0 r) → wp m_X4_fits 7 0 0 14 [some (vR (some t)), some (vI l1), some (vI l2), none, none] [] G (twQ t ad G0 (uI Q)) noX) : ∀ (fl : Nat) {l1 : Int} {l2 : Int} {l3 : Int} {w : Tw} {G : Wd}, f_X4_fits_24 k14 Q fl l1 l2 l3 w → TwAt t ad w (G 2) → (∀ r, r ≠ 2 → G r = G0 r) → wp m_X4_fits 7 0 0 24 [some (vR (some t)), some (vI l1), some (vI l2), some (vI l3), none] [] G (twQ t ad G0 (uI Q)) noX := by
  intro fl
  induction fl with
  | zero => intro l1 l2 l3 w G h; exact (show False from h).elim
  | succ fl ih => intro l1 l2 l3 w G h hT hG; exact w_X4_fits_24_b  hk14 (fun h hT hG => ih h hT hG) h hT hG
def f_X4_fits_14_b (k14 : Int → Int → Tw → Prop) (l1 : Int) (l2 : Int) (w : Tw) (Q : Int → Tw → Prop) : Prop :=
  br l2 (w 14 0) ((w 14 0) ≤ l2) (Q l1 w) (∃ fl25, f_X4_fits_24 k14 Q fl25 l1 l2 0 w)
theorem w_X4_fits_14_b {t : Nat} {ad : Nat → Nat} {G0 : Wd} {Q : Int → Tw → Prop} {k14 : Int → Int → Tw → Prop} (hk14 : ∀ {l1 : Int} {l2 : Int} {w : Tw} {G : Wd}, k14 l1 l2 w → TwAt t ad w (G 2) → (∀ r, r ≠ 2 → G r = G0 r) → wp m_X4_fits 7 0 0 14 [some (vR (some t)), some (vI l1), some (vI l2), none, none] [] G (twQ t ad G0 (uI Q)) noX) {l1 : Int} {l2 : Int} {w : Tw} {G : Wd} (h : f_X4_fits_14_b k14 l1 l2 w Q) (hT : TwAt t ad w (G 2)) (hG : ∀ r, r ≠ 2 → G r = G0 r) : wp m_X4_fits 7 0 0 14 [some (vR (some t)), some (vI l1), some (vI l2), none, none] [] G (twQ t ad G0 (uI Q)) noX := by
  unfold f_X4_fits_14_b at h
  refine r_iload_n dX4_fits_14 rfl rfl iI ?_
  refine r_aload_n dX4_fits_15 rfl rfl iR ?_
  refine t_getI (j := 14) hT dX4_fits_16 (fg1 (f := 14) fX4 (by decide) q2235 rfl) rfl ?_
  refine r_icmp_ge (tgt := 79) dX4_fits_19 (by decide) h (fun h => ?_) (fun h => ?_)
  · refine r_iload_n dX4_fits_79 rfl rfl iI ?_
    exact r_iret rfl dX4_fits_80 ⟨_, hT, hG, _, rfl, h⟩
  · refine r_iconst dX4_fits_22 ?_
    refine r_istore_n (L' := [some (vR (some t)), some (vI l1), some (vI l2), some (vI 0), none]) dX4_fits_23 rfl rfl iI cI (by decide) ?_
    obtain ⟨fl25, h⟩ := h
    exact w_X4_fits_24 hk14 fl25 h hT hG
def f_X4_fits_14 (Q : Int → Tw → Prop) : Nat → Int → Int → Tw → Prop
  | 0, _, _, _ => False
  | fl + 1, l1, l2, w => f_X4_fits_14_b    (fun l1 l2 w => f_X4_fits_14    Q fl l1 l2 w) l1 l2 w Q
theorem w_X4_fits_14 {t : Nat} {ad : Nat → Nat} {G0 : Wd} {Q : Int → Tw → Prop} : ∀ (fl : Nat) {l1 : Int} {l2 : Int} {w : Tw} {G : Wd}, f_X4_fits_14 Q fl l1 l2 w → TwAt t ad w (G 2) → (∀ r, r ≠ 2 → G r = G0 r) → wp m_X4_fits 7 0 0 14 [some (vR (some t)), some (vI l1), some (vI l2), none, none] [] G (twQ t ad G0 (uI Q)) noX := by
  intro fl
  induction fl with
  | zero => intro l1 l2 w G h; exact (show False from h).elim
  | succ fl ih => intro l1 l2 w G h hT hG; exact w_X4_fits_14_b   (fun h hT hG => ih h hT hG) h hT hG
def f_X4_fits (w : Tw) (Q : Int → Tw → Prop) : Prop :=
  tS w 0 0 0 (fun w26 => tS w26 1 0 0 (fun w27 => ∃ fl28, f_X4_fits_14 Q fl28 0 0 w27))
theorem w_X4_fits {t : Nat} {ad : Nat → Nat} {G0 : Wd} {Q : Int → Tw → Prop} {w : Tw} {G : Wd} (h : f_X4_fits w Q) (hT : TwAt t ad w (G 2)) (hG : ∀ r, r ≠ 2 → G r = G0 r) : wp m_X4_fits 7 0 0 0 [some (vR (some t)), none, none, none, none] [] G (twQ t ad G0 (uI Q)) noX := by
  unfold f_X4_fits at h
  refine r_aload_n dX4_fits_0 rfl rfl iR ?_
  refine r_iconst dX4_fits_1 ?_
  refine t_put (j := 0) hT hG dX4_fits_2 (fp1 (f := 0) fX4 (by decide) q2221 rfl rfl rfl) tF0 (by decide) h (fun w26 G h hT hG => ?_)
  refine r_iconst dX4_fits_5 ?_
  refine r_istore_n (L' := [some (vR (some t)), some (vI 0), none, none, none]) dX4_fits_6 rfl rfl iI cR (by decide) ?_
  refine r_aload_n dX4_fits_7 rfl rfl iR ?_
  refine r_iconst dX4_fits_8 ?_
  refine t_put (j := 1) hT hG dX4_fits_9 (fp1 (f := 1) fX4 (by decide) q2222 rfl rfl rfl) tF1 (by decide) h (fun w27 G h hT hG => ?_)
  refine r_iconst dX4_fits_12 ?_
  refine r_istore_n (L' := [some (vR (some t)), some (vI 0), some (vI 0), none, none]) dX4_fits_13 rfl rfl iI cI (by decide) ?_
  obtain ⟨fl28, h⟩ := h
  exact w_X4_fits_14 fl28 h hT hG
theorem c_X4_fits {t : Nat} {ad : Nat → Nat} {G0 : Wd} {Q : Int → Tw → Prop} {w : Tw} {G : Wd} (h : f_X4_fits w Q) (hT : TwAt t ad w (G 2)) (hG : ∀ r, r ≠ 2 → G r = G0 r) : call yX4_fits (Cond.code yX4_fits cX4_fits 5 (some .int)) 7 0 0 [vR (some t)] G (twQ t ad G0 (uI Q)) noX :=
  call.enter (by decide +kernel) (la_1 c1R (la_nil rfl)) rfl (w_X4_fits  h hT hG)
abbrev m_X4_asks : Mt := (yX4_asks.cls, cX4_asks, 8, some .int, [], yX4_asks.name)
theorem yo_X4_asks : yOK yX4_asks 0 := ⟨by decide +kernel, by decide +kernel, by decide +kernel⟩
def f_X4_asks_19_b (k9 : Int → Int → Tw → Prop) (k19 : Int → Int → Int → Tw → Prop) (l1 : Int) (l2 : Int) (l3 : Int) (w : Tw) (Q : Int → Tw → Prop) : Prop :=
  br l3 16 ((16 : Int) ≤ l3) (k9 l1 (l2 + 1) w) (f_X4_isFitting l2 l3 w (fun x37 w36 => f_X4_flag x37 w36 (fun x39 w38 => k19 (l1 + x39) l2 (l3 + 1) w38)))
theorem w_X4_asks_19_b {t : Nat} {ad : Nat → Nat} {G0 : Wd} {Q : Int → Tw → Prop} {k9 : Int → Int → Tw → Prop} (hk9 : ∀ {l1 : Int} {l2 : Int} {w : Tw} {G : Wd}, k9 l1 l2 w → TwAt t ad w (G 2) → (∀ r, r ≠ 2 → G r = G0 r) → wp m_X4_asks 8 0 0 9 [some (vR (some t)), some (vI l1), some (vI l2), none, none, none, none, none] [] G (twQ t ad G0 (uI Q)) noX) {k19 : Int → Int → Int → Tw → Prop} (hk19 : ∀ {l1 : Int} {l2 : Int} {l3 : Int} {w : Tw} {G : Wd}, k19 l1 l2 l3 w → TwAt t ad w (G 2) → (∀ r, r ≠ 2 → G r = G0 r) → wp m_X4_asks 8 0 0 19 [some (vR (some t)), some (vI l1), some (vI l2), some (vI l3), none, none, none, none] [] G (twQ t ad G0 (uI Q)) noX) {l1 : Int} {l2 : Int} {l3 : Int} {w : Tw} {G : Wd} (h : f_X4_asks_19_b k9 k19 l1 l2 l3 w Q) (hT : TwAt t ad w (G 2)) (hG : ∀ r, r ≠ 2 → G r = G0 r) : wp m_X4_asks 8 0 0 19 [some (vR (some t)), some (vI l1), some (vI l2), some (vI l3), none, none, none, none] [] G (twQ t ad G0 (uI Q)) noX := by
  unfold f_X4_asks_19_b at h
  refine r_iload_n dX4_asks_19 rfl rfl iI ?_
  refine r_bipush dX4_asks_20 (by decide) ?_
  refine r_icmp_ge (tgt := 43) dX4_asks_22 (by decide) h (fun h => ?_) (fun h => ?_)
  · refine r_iinc (L' := [some (vR (some t)), some (vI l1), some (vI (l2 + 1)), some (vI l3), none, none, none, none]) dX4_asks_43 rfl rfl cI (by decide) ?_
    refine r_goto (tgt := 9) dX4_asks_46 (by decide) ?_
    refine wp.locals (L' := [some (vR (some t)), some (vI l1), some (vI (l2 + 1)), none, none, none, none, none]) (ls_s (ls_s (ls_s (ls_n (ls_n (ls_n (ls_n (ls_n ls_0)))))))) ?_
    exact hk9 h hT hG
  · refine r_iload_n dX4_asks_25 rfl rfl iI ?_
    refine r_aload_n dX4_asks_26 rfl rfl iR ?_
    refine r_iload_n dX4_asks_27 rfl rfl iI ?_
    refine r_iload_n dX4_asks_28 rfl rfl iI ?_
    refine r_callV dX4_asks_29 (tisC hT) (c_X4_isFitting h hT hG) q2698 q2700 qs84 q117 q2701 rfl yo_X4_isFitting rfl (by decide) (by decide) rfl (rc1 c1I rc0) (by decide) (Nat.le_refl _) (Nat.le_refl _) (tofB fun x37 w36 G h hT hG => ?_) nox
    refine r_callS dX4_asks_32 (c_X4_flag h hT hG) q2162 q2163 q117 q2164 yo_X4_flag rfl (by decide) (by decide) rfl (rc1 c1I rc0) (by decide) (Nat.le_refl _) (Nat.le_refl _) (tofI fun x39 w38 G h hT hG => ?_) nox
    refine r_iadd dX4_asks_35 ?_
    refine r_istore_n (L' := [some (vR (some t)), some (vI (l1 + x39)), some (vI l2), some (vI l3), none, none, none, none]) dX4_asks_36 rfl rfl iI cR (by decide) ?_
    refine r_iinc (L' := [some (vR (some t)), some (vI (l1 + x39)), some (vI l2), some (vI (l3 + 1)), none, none, none, none]) dX4_asks_37 rfl rfl cI (by decide) ?_
    refine r_goto (tgt := 19) dX4_asks_40 (by decide) ?_
    exact hk19 h hT hG
def f_X4_asks_19 (k9 : Int → Int → Tw → Prop) (Q : Int → Tw → Prop) : Nat → Int → Int → Int → Tw → Prop
  | 0, _, _, _, _ => False
  | fl + 1, l1, l2, l3, w => f_X4_asks_19_b   k9 (fun l1 l2 l3 w => f_X4_asks_19   k9 Q fl l1 l2 l3 w) l1 l2 l3 w Q
theorem w_X4_asks_19 {t : Nat} {ad : Nat → Nat} {G0 : Wd} {Q : Int → Tw → Prop} {k9 : Int → Int → Tw → Prop} (hk9 : ∀ {l1 : Int} {l2 : Int} {w : Tw} {G : Wd}, k9 l1 l2 w → TwAt t ad w (G 2) → (∀ r, r ≠ 2 → G r = G0 r) → wp m_X4_asks 8 0 0 9 [some (vR (some t)), some (vI l1), some (vI l2), none, none, none, none, none] [] G (twQ t ad G0 (uI Q)) noX) : ∀ (fl : Nat) {l1 : Int} {l2 : Int} {l3 : Int} {w : Tw} {G : Wd}, f_X4_asks_19 k9 Q fl l1 l2 l3 w → TwAt t ad w (G 2) → (∀ r, r ≠ 2 → G r = G0 r) → wp m_X4_asks 8 0 0 19 [some (vR (some t)), some (vI l1), some (vI l2), some (vI l3), none, none, none, none] [] G (twQ t ad G0 (uI Q)) noX := by
  intro fl
  induction fl with
  | zero => intro l1 l2 l3 w G h; exact (show False from h).elim
  | succ fl ih => intro l1 l2 l3 w G h hT hG; exact w_X4_asks_19_b  hk9 (fun h hT hG => ih h hT hG) h hT hG
def f_X4_asks_123 (k65 : Int → Int → Int → Int → Tw → Prop) (k74 : Int → Int → Int → Int → Int → Tw → Prop) (l1 : Int) (l3 : Int) (l4 : Int) (l5 : Int) (l7 : Int) (s0 : Int) (w : Tw) (Q : Int → Tw → Prop) : Prop :=
  ((R32 l3 ∧ R32 l7) ∧ k74 l1 s0 (min l3 l7) l4 (l5 + 1) w)
theorem w_X4_asks_123 {t : Nat} {ad : Nat → Nat} {G0 : Wd} {Q : Int → Tw → Prop} {k65 : Int → Int → Int → Int → Tw → Prop} (hk65 : ∀ {l1 : Int} {l2 : Int} {l3 : Int} {l4 : Int} {w : Tw} {G : Wd}, k65 l1 l2 l3 l4 w → TwAt t ad w (G 2) → (∀ r, r ≠ 2 → G r = G0 r) → wp m_X4_asks 8 0 0 65 [some (vR (some t)), some (vI l1), some (vI l2), some (vI l3), some (vI l4), none, none, none] [] G (twQ t ad G0 (uI Q)) noX) {k74 : Int → Int → Int → Int → Int → Tw → Prop} (hk74 : ∀ {l1 : Int} {l2 : Int} {l3 : Int} {l4 : Int} {l5 : Int} {w : Tw} {G : Wd}, k74 l1 l2 l3 l4 l5 w → TwAt t ad w (G 2) → (∀ r, r ≠ 2 → G r = G0 r) → wp m_X4_asks 8 0 0 74 [some (vR (some t)), some (vI l1), some (vI l2), some (vI l3), some (vI l4), some (vI l5), none, none] [] G (twQ t ad G0 (uI Q)) noX) {l1 : Int} {l3 : Int} {l4 : Int} {l5 : Int} {l7 : Int} {s0 : Int} {w : Tw} {G : Wd} (h : f_X4_asks_123 k65 k74 l1 l3 l4 l5 l7 s0 w Q) (hT : TwAt t ad w (G 2)) (hG : ∀ r, r ≠ 2 → G r = G0 r) : wp m_X4_asks 8 0 0 123 [some (vR (some t)), some (vI l1), none, some (vI l3), some (vI l4), some (vI l5), none, some (vI l7)] [vI s0] G (twQ t ad G0 (uI Q)) noX := by
  unfold f_X4_asks_123 at h
  refine r_istore_n (L' := [some (vR (some t)), some (vI l1), some (vI s0), some (vI l3), some (vI l4), some (vI l5), none, some (vI l7)]) dX4_asks_123 rfl rfl iI cI (by decide) ?_
  refine r_iload_n dX4_asks_124 rfl rfl iI ?_
  refine r_iload dX4_asks_125 rfl iI ?_
  refine r_mmin dX4_asks_127 q2149 rc0 (by decide) (by decide) h (fun h => ?_)
  refine r_istore_n (L' := [some (vR (some t)), some (vI l1), some (vI s0), some (vI (min l3 l7)), some (vI l4), some (vI l5), none, some (vI l7)]) dX4_asks_130 rfl rfl iI cI (by decide) ?_
  refine r_iinc (L' := [some (vR (some t)), some (vI l1), some (vI s0), some (vI (min l3 l7)), some (vI l4), some (vI (l5 + 1)), none, some (vI l7)]) dX4_asks_131 rfl rfl cI (by decide) ?_
  refine r_goto (tgt := 74) dX4_asks_134 (by decide) ?_
  refine wp.locals (L' := [some (vR (some t)), some (vI l1), some (vI s0), some (vI (min l3 l7)), some (vI l4), some (vI (l5 + 1)), none, none]) (ls_s (ls_s (ls_s (ls_s (ls_s (ls_s (ls_n (ls_n ls_0)))))))) ?_
  exact hk74 h hT hG
def f_X4_asks_74_b (k65 : Int → Int → Int → Int → Tw → Prop) (k74 : Int → Int → Int → Int → Int → Tw → Prop) (l1 : Int) (l2 : Int) (l3 : Int) (l4 : Int) (l5 : Int) (w : Tw) (Q : Int → Tw → Prop) : Prop :=
  f_X4_highest l4 w (fun x41 w40 => br l5 x41 (x41 < l5) (k65 l1 l2 l3 (l4 + 1) w40) (f_X4_soMany l4 l5 w40 (fun x43 w42 => ((R32 x43 ∧ R32 (l1 - x43)) ∧ br (max x43 (l1 - x43)) l3 (l3 ≤ (max x43 (l1 - x43))) (f_X4_asks_123 k65 k74 l1 l3 l4 l5 (max x43 (l1 - x43)) l2 w42 Q) (f_X4_asks_123 k65 k74 l1 l3 l4 l5 (max x43 (l1 - x43)) ((10 * l4) + l5) w42 Q)))))
theorem w_X4_asks_74_b {t : Nat} {ad : Nat → Nat} {G0 : Wd} {Q : Int → Tw → Prop} {k65 : Int → Int → Int → Int → Tw → Prop} (hk65 : ∀ {l1 : Int} {l2 : Int} {l3 : Int} {l4 : Int} {w : Tw} {G : Wd}, k65 l1 l2 l3 l4 w → TwAt t ad w (G 2) → (∀ r, r ≠ 2 → G r = G0 r) → wp m_X4_asks 8 0 0 65 [some (vR (some t)), some (vI l1), some (vI l2), some (vI l3), some (vI l4), none, none, none] [] G (twQ t ad G0 (uI Q)) noX) {k74 : Int → Int → Int → Int → Int → Tw → Prop} (hk74 : ∀ {l1 : Int} {l2 : Int} {l3 : Int} {l4 : Int} {l5 : Int} {w : Tw} {G : Wd}, k74 l1 l2 l3 l4 l5 w → TwAt t ad w (G 2) → (∀ r, r ≠ 2 → G r = G0 r) → wp m_X4_asks 8 0 0 74 [some (vR (some t)), some (vI l1), some (vI l2), some (vI l3), some (vI l4), some (vI l5), none, none] [] G (twQ t ad G0 (uI Q)) noX) {l1 : Int} {l2 : Int} {l3 : Int} {l4 : Int} {l5 : Int} {w : Tw} {G : Wd} (h : f_X4_asks_74_b k65 k74 l1 l2 l3 l4 l5 w Q) (hT : TwAt t ad w (G 2)) (hG : ∀ r, r ≠ 2 → G r = G0 r) : wp m_X4_asks 8 0 0 74 [some (vR (some t)), some (vI l1), some (vI l2), some (vI l3), some (vI l4), some (vI l5), none, none] [] G (twQ t ad G0 (uI Q)) noX := by
  unfold f_X4_asks_74_b at h
  refine r_iload dX4_asks_74 rfl iI ?_
  refine r_iload dX4_asks_76 rfl iI ?_
  refine r_callS dX4_asks_78 (c_X4_highest h hT hG) q2687 q2688 q117 q2689 yo_X4_highest rfl (by decide) (by decide) rfl (rc1 c1I rc0) (by decide) (Nat.le_refl _) (Nat.le_refl _) (tofI fun x41 w40 G h hT hG => ?_) nox
  refine r_icmp_gt (tgt := 137) dX4_asks_81 (by decide) h (fun h => ?_) (fun h => ?_)
  · refine r_iinc (L' := [some (vR (some t)), some (vI l1), some (vI l2), some (vI l3), some (vI (l4 + 1)), some (vI l5), none, none]) dX4_asks_137 rfl rfl cI (by decide) ?_
    refine r_goto (tgt := 65) dX4_asks_140 (by decide) ?_
    refine wp.locals (L' := [some (vR (some t)), some (vI l1), some (vI l2), some (vI l3), some (vI (l4 + 1)), none, none, none]) (ls_s (ls_s (ls_s (ls_s (ls_s (ls_n (ls_n (ls_n ls_0)))))))) ?_
    exact hk65 h hT hG
  · refine r_aload_n dX4_asks_84 rfl rfl iR ?_
    refine r_iload dX4_asks_85 rfl iI ?_
    refine r_iload dX4_asks_87 rfl iI ?_
    refine r_callV dX4_asks_89 (tisC hT) (c_X4_soMany h hT hG) q2715 q2717 qs87 q117 q2718 rfl yo_X4_soMany rfl (by decide) (by decide) rfl rc0 (by decide) (Nat.le_refl _) (Nat.le_refl _) (tofI fun x43 w42 G h hT hG => ?_) nox
    refine r_istore (L' := [some (vR (some t)), some (vI l1), some (vI l2), some (vI l3), some (vI l4), some (vI l5), some (vI x43), none]) dX4_asks_92 rfl iI cI (by decide) ?_
    refine r_iload dX4_asks_94 rfl iI ?_
    refine r_iload_n dX4_asks_96 rfl rfl iI ?_
    refine r_iload dX4_asks_97 rfl iI ?_
    refine r_isub dX4_asks_99 ?_
    refine r_mmax dX4_asks_100 q2387 rc0 (by decide) (by decide) h (fun h => ?_)
    refine r_istore (L' := [some (vR (some t)), some (vI l1), some (vI l2), some (vI l3), some (vI l4), some (vI l5), some (vI x43), some (vI (max x43 (l1 - x43)))]) dX4_asks_103 rfl iI cI (by decide) ?_
    refine r_iload dX4_asks_105 rfl iI ?_
    refine r_iload_n dX4_asks_107 rfl rfl iI ?_
    refine r_icmp_ge (tgt := 122) dX4_asks_108 (by decide) h (fun h => ?_) (fun h => ?_)
    · refine r_iload_n dX4_asks_122 rfl rfl iI ?_
      refine wp.locals (L' := [some (vR (some t)), some (vI l1), none, some (vI l3), some (vI l4), some (vI l5), none, some (vI (max x43 (l1 - x43)))]) (ls_s (ls_s (ls_n (ls_s (ls_s (ls_s (ls_n (ls_s ls_0)))))))) ?_
      exact w_X4_asks_123 hk65 hk74 h hT hG
    · refine r_bipush dX4_asks_111 (by decide) ?_
      refine r_iload dX4_asks_113 rfl iI ?_
      refine r_imul dX4_asks_115 ?_
      refine r_iload dX4_asks_116 rfl iI ?_
      refine r_iadd dX4_asks_118 ?_
      refine r_goto (tgt := 123) dX4_asks_119 (by decide) ?_
      refine wp.locals (L' := [some (vR (some t)), some (vI l1), none, some (vI l3), some (vI l4), some (vI l5), none, some (vI (max x43 (l1 - x43)))]) (ls_s (ls_s (ls_n (ls_s (ls_s (ls_s (ls_n (ls_s ls_0)))))))) ?_
      exact w_X4_asks_123 hk65 hk74 h hT hG
def f_X4_asks_74 (k65 : Int → Int → Int → Int → Tw → Prop) (Q : Int → Tw → Prop) : Nat → Int → Int → Int → Int → Int → Tw → Prop
  | 0, _, _, _, _, _, _ => False
  | fl + 1, l1, l2, l3, l4, l5, w => f_X4_asks_74_b   k65 (fun l1 l2 l3 l4 l5 w => f_X4_asks_74   k65 Q fl l1 l2 l3 l4 l5 w) l1 l2 l3 l4 l5 w Q
theorem w_X4_asks_74 {t : Nat} {ad : Nat → Nat} {G0 : Wd} {Q : Int → Tw → Prop} {k65 : Int → Int → Int → Int → Tw → Prop} (hk65 : ∀ {l1 : Int} {l2 : Int} {l3 : Int} {l4 : Int} {w : Tw} {G : Wd}, k65 l1 l2 l3 l4 w → TwAt t ad w (G 2) → (∀ r, r ≠ 2 → G r = G0 r) → wp m_X4_asks 8 0 0 65 [some (vR (some t)), some (vI l1), some (vI l2), some (vI l3), some (vI l4), none, none, none] [] G (twQ t ad G0 (uI Q)) noX) : ∀ (fl : Nat) {l1 : Int} {l2 : Int} {l3 : Int} {l4 : Int} {l5 : Int} {w : Tw} {G : Wd}, f_X4_asks_74 k65 Q fl l1 l2 l3 l4 l5 w → TwAt t ad w (G 2) → (∀ r, r ≠ 2 → G r = G0 r) → wp m_X4_asks 8 0 0 74 [some (vR (some t)), some (vI l1), some (vI l2), some (vI l3), some (vI l4), some (vI l5), none, none] [] G (twQ t ad G0 (uI Q)) noX := by
  intro fl
  induction fl with
  | zero => intro l1 l2 l3 l4 l5 w G h; exact (show False from h).elim
  | succ fl ih => intro l1 l2 l3 l4 l5 w G h hT hG; exact w_X4_asks_74_b  hk65 (fun h hT hG => ih h hT hG) h hT hG
def f_X4_asks_65_b (k65 : Int → Int → Int → Int → Tw → Prop) (l1 : Int) (l2 : Int) (l3 : Int) (l4 : Int) (w : Tw) (Q : Int → Tw → Prop) : Prop :=
  br l4 4 ((4 : Int) ≤ l4) (tS w 1 0 0 (fun w44 => ok32 l3 (f_X4_enters l3 w44 (fun w45 => Q l2 w45)))) (∃ fl46, f_X4_asks_74 k65 Q fl46 l1 l2 l3 l4 0 w)
theorem w_X4_asks_65_b {t : Nat} {ad : Nat → Nat} {G0 : Wd} {Q : Int → Tw → Prop} {k65 : Int → Int → Int → Int → Tw → Prop} (hk65 : ∀ {l1 : Int} {l2 : Int} {l3 : Int} {l4 : Int} {w : Tw} {G : Wd}, k65 l1 l2 l3 l4 w → TwAt t ad w (G 2) → (∀ r, r ≠ 2 → G r = G0 r) → wp m_X4_asks 8 0 0 65 [some (vR (some t)), some (vI l1), some (vI l2), some (vI l3), some (vI l4), none, none, none] [] G (twQ t ad G0 (uI Q)) noX) {l1 : Int} {l2 : Int} {l3 : Int} {l4 : Int} {w : Tw} {G : Wd} (h : f_X4_asks_65_b k65 l1 l2 l3 l4 w Q) (hT : TwAt t ad w (G 2)) (hG : ∀ r, r ≠ 2 → G r = G0 r) : wp m_X4_asks 8 0 0 65 [some (vR (some t)), some (vI l1), some (vI l2), some (vI l3), some (vI l4), none, none, none] [] G (twQ t ad G0 (uI Q)) noX := by
  unfold f_X4_asks_65_b at h
  refine r_iload dX4_asks_65 rfl iI ?_
  refine r_iconst dX4_asks_67 ?_
  refine r_icmp_ge (tgt := 143) dX4_asks_68 (by decide) h (fun h => ?_) (fun h => ?_)
  · refine r_aload_n dX4_asks_143 rfl rfl iR ?_
    refine r_iconst dX4_asks_144 ?_
    refine t_put (j := 1) hT hG dX4_asks_145 (fp1 (f := 1) fX4 (by decide) q2222 rfl rfl rfl) tF1 (by decide) h (fun w44 G h hT hG => ?_)
    refine r_aload_n dX4_asks_148 rfl rfl iR ?_
    refine r_iload_n dX4_asks_149 rfl rfl iI ?_
    refine r_i2l dX4_asks_150 h (fun h => ?_)
    refine r_callV dX4_asks_151 (tisC hT) (c_X4_enters h hT hG) q2536 q2538 qs71 q117 q2539 rfl yo_X4_enters rfl (by decide) (by decide) rfl rc0 (by decide) (Nat.le_refl _) (Nat.le_refl _) (tofV fun w45 G h hT hG => ?_) nox
    refine r_iload_n dX4_asks_154 rfl rfl iI ?_
    exact r_iret rfl dX4_asks_155 ⟨_, hT, hG, _, rfl, h⟩
  · refine r_iconst dX4_asks_71 ?_
    refine r_istore (L' := [some (vR (some t)), some (vI l1), some (vI l2), some (vI l3), some (vI l4), some (vI 0), none, none]) dX4_asks_72 rfl iI cI (by decide) ?_
    obtain ⟨fl46, h⟩ := h
    exact w_X4_asks_74 hk65 fl46 h hT hG
def f_X4_asks_65 (Q : Int → Tw → Prop) : Nat → Int → Int → Int → Int → Tw → Prop
  | 0, _, _, _, _, _ => False
  | fl + 1, l1, l2, l3, l4, w => f_X4_asks_65_b    (fun l1 l2 l3 l4 w => f_X4_asks_65    Q fl l1 l2 l3 l4 w) l1 l2 l3 l4 w Q
theorem w_X4_asks_65 {t : Nat} {ad : Nat → Nat} {G0 : Wd} {Q : Int → Tw → Prop} : ∀ (fl : Nat) {l1 : Int} {l2 : Int} {l3 : Int} {l4 : Int} {w : Tw} {G : Wd}, f_X4_asks_65 Q fl l1 l2 l3 l4 w → TwAt t ad w (G 2) → (∀ r, r ≠ 2 → G r = G0 r) → wp m_X4_asks 8 0 0 65 [some (vR (some t)), some (vI l1), some (vI l2), some (vI l3), some (vI l4), none, none, none] [] G (twQ t ad G0 (uI Q)) noX := by
  intro fl
  induction fl with
  | zero => intro l1 l2 l3 l4 w G h; exact (show False from h).elim
  | succ fl ih => intro l1 l2 l3 l4 w G h hT hG; exact w_X4_asks_65_b   (fun h hT hG => ih h hT hG) h hT hG
def f_X4_asks_9_b (k9 : Int → Int → Tw → Prop) (l1 : Int) (l2 : Int) (w : Tw) (Q : Int → Tw → Prop) : Prop :=
  br l2 (w 14 0) ((w 14 0) ≤ l2) (br0 l1 (¬ l1 = 0) (∃ fl47, f_X4_asks_65 Q fl47 l1 (-1) 1000000 0 w) (Q (-2) w)) (∃ fl48, f_X4_asks_19 k9 Q fl48 l1 l2 0 w)
theorem w_X4_asks_9_b {t : Nat} {ad : Nat → Nat} {G0 : Wd} {Q : Int → Tw → Prop} {k9 : Int → Int → Tw → Prop} (hk9 : ∀ {l1 : Int} {l2 : Int} {w : Tw} {G : Wd}, k9 l1 l2 w → TwAt t ad w (G 2) → (∀ r, r ≠ 2 → G r = G0 r) → wp m_X4_asks 8 0 0 9 [some (vR (some t)), some (vI l1), some (vI l2), none, none, none, none, none] [] G (twQ t ad G0 (uI Q)) noX) {l1 : Int} {l2 : Int} {w : Tw} {G : Wd} (h : f_X4_asks_9_b k9 l1 l2 w Q) (hT : TwAt t ad w (G 2)) (hG : ∀ r, r ≠ 2 → G r = G0 r) : wp m_X4_asks 8 0 0 9 [some (vR (some t)), some (vI l1), some (vI l2), none, none, none, none, none] [] G (twQ t ad G0 (uI Q)) noX := by
  unfold f_X4_asks_9_b at h
  refine r_iload_n dX4_asks_9 rfl rfl iI ?_
  refine r_aload_n dX4_asks_10 rfl rfl iR ?_
  refine t_getI (j := 14) hT dX4_asks_11 (fg1 (f := 14) fX4 (by decide) q2235 rfl) rfl ?_
  refine r_icmp_ge (tgt := 49) dX4_asks_14 (by decide) h (fun h => ?_) (fun h => ?_)
  · refine r_iload_n dX4_asks_49 rfl rfl iI ?_
    refine r_if_ne (tgt := 56) dX4_asks_50 (by decide) h (fun h => ?_) (fun h => ?_)
    · refine r_iconst dX4_asks_56 ?_
      refine r_istore_n (L' := [some (vR (some t)), some (vI l1), some (vI (-1)), none, none, none, none, none]) dX4_asks_57 rfl rfl iI cI (by decide) ?_
      refine r_ldcw (x := 1000000) dX4_asks_58 q2714 (by decide) ?_
      refine r_istore_n (L' := [some (vR (some t)), some (vI l1), some (vI (-1)), some (vI 1000000), none, none, none, none]) dX4_asks_61 rfl rfl iI cI (by decide) ?_
      refine r_iconst dX4_asks_62 ?_
      refine r_istore (L' := [some (vR (some t)), some (vI l1), some (vI (-1)), some (vI 1000000), some (vI 0), none, none, none]) dX4_asks_63 rfl iI cI (by decide) ?_
      obtain ⟨fl47, h⟩ := h
      exact w_X4_asks_65 fl47 h hT hG
    · refine r_bipush dX4_asks_53 (by decide) ?_
      exact r_iret rfl dX4_asks_55 ⟨_, hT, hG, _, rfl, h⟩
  · refine r_iconst dX4_asks_17 ?_
    refine r_istore_n (L' := [some (vR (some t)), some (vI l1), some (vI l2), some (vI 0), none, none, none, none]) dX4_asks_18 rfl rfl iI cI (by decide) ?_
    obtain ⟨fl48, h⟩ := h
    exact w_X4_asks_19 hk9 fl48 h hT hG
def f_X4_asks_9 (Q : Int → Tw → Prop) : Nat → Int → Int → Tw → Prop
  | 0, _, _, _ => False
  | fl + 1, l1, l2, w => f_X4_asks_9_b    (fun l1 l2 w => f_X4_asks_9    Q fl l1 l2 w) l1 l2 w Q
theorem w_X4_asks_9 {t : Nat} {ad : Nat → Nat} {G0 : Wd} {Q : Int → Tw → Prop} : ∀ (fl : Nat) {l1 : Int} {l2 : Int} {w : Tw} {G : Wd}, f_X4_asks_9 Q fl l1 l2 w → TwAt t ad w (G 2) → (∀ r, r ≠ 2 → G r = G0 r) → wp m_X4_asks 8 0 0 9 [some (vR (some t)), some (vI l1), some (vI l2), none, none, none, none, none] [] G (twQ t ad G0 (uI Q)) noX := by
  intro fl
  induction fl with
  | zero => intro l1 l2 w G h; exact (show False from h).elim
  | succ fl ih => intro l1 l2 w G h hT hG; exact w_X4_asks_9_b   (fun h hT hG => ih h hT hG) h hT hG
def f_X4_asks (w : Tw) (Q : Int → Tw → Prop) : Prop :=
  tS w 0 0 0 (fun w49 => ∃ fl50, f_X4_asks_9 Q fl50 0 0 w49)
theorem w_X4_asks {t : Nat} {ad : Nat → Nat} {G0 : Wd} {Q : Int → Tw → Prop} {w : Tw} {G : Wd} (h : f_X4_asks w Q) (hT : TwAt t ad w (G 2)) (hG : ∀ r, r ≠ 2 → G r = G0 r) : wp m_X4_asks 8 0 0 0 [some (vR (some t)), none, none, none, none, none, none, none] [] G (twQ t ad G0 (uI Q)) noX := by
  unfold f_X4_asks at h
  refine r_aload_n dX4_asks_0 rfl rfl iR ?_
  refine r_iconst dX4_asks_1 ?_
  refine t_put (j := 0) hT hG dX4_asks_2 (fp1 (f := 0) fX4 (by decide) q2221 rfl rfl rfl) tF0 (by decide) h (fun w49 G h hT hG => ?_)
  refine r_iconst dX4_asks_5 ?_
  refine r_istore_n (L' := [some (vR (some t)), some (vI 0), none, none, none, none, none, none]) dX4_asks_6 rfl rfl iI cR (by decide) ?_
  refine r_iconst dX4_asks_7 ?_
  refine r_istore_n (L' := [some (vR (some t)), some (vI 0), some (vI 0), none, none, none, none, none]) dX4_asks_8 rfl rfl iI cI (by decide) ?_
  obtain ⟨fl50, h⟩ := h
  exact w_X4_asks_9 fl50 h hT hG
theorem c_X4_asks {t : Nat} {ad : Nat → Nat} {G0 : Wd} {Q : Int → Tw → Prop} {w : Tw} {G : Wd} (h : f_X4_asks w Q) (hT : TwAt t ad w (G 2)) (hG : ∀ r, r ≠ 2 → G r = G0 r) : call yX4_asks (Cond.code yX4_asks cX4_asks 8 (some .int)) 8 0 0 [vR (some t)] G (twQ t ad G0 (uI Q)) noX :=
  call.enter (by decide +kernel) (la_1 c1R (la_nil rfl)) rfl (w_X4_asks  h hT hG)
abbrev m_X4_rule : Mt := (yX4_rule.cls, cX4_rule, 2, some .int, [], yX4_rule.name)
theorem yo_X4_rule : yOK yX4_rule 0 := ⟨by decide +kernel, by decide +kernel, by decide +kernel⟩
def f_X4_rule (w : Tw) (Q : Int → Tw → Prop) : Prop :=
  tS w 0 0 0 (fun w5 => f_X4_readsRule  w5 (fun x7 w6 => br0 x7 (¬ x7 = 0) (Q x7 w6) (f_X4_laysCode 9 (w6 11 0) w6 (fun w8 => Q x7 w8))))
theorem w_X4_rule {t : Nat} {ad : Nat → Nat} {G0 : Wd} {Q : Int → Tw → Prop} {w : Tw} {G : Wd} (h : f_X4_rule w Q) (hT : TwAt t ad w (G 2)) (hG : ∀ r, r ≠ 2 → G r = G0 r) : wp m_X4_rule 173 0 0 0 [some (vR (some t)), none] [] G (twQ t ad G0 (uI Q)) noX := by
  unfold f_X4_rule at h
  refine r_aload_n dX4_rule_0 rfl rfl iR ?_
  refine r_iconst dX4_rule_1 ?_
  refine t_put (j := 0) hT hG dX4_rule_2 (fp1 (f := 0) fX4 (by decide) q2221 rfl rfl rfl) tF0 (by decide) h (fun w5 G h hT hG => ?_)
  refine r_aload_n dX4_rule_5 rfl rfl iR ?_
  refine r_callV dX4_rule_6 (tisC hT) (c_X4_readsRule h hT hG) q2140 q2142 qs40 q117 q2144 rfl yo_X4_readsRule rfl (by decide) (by decide) rfl rc0 (by decide) (Nat.le_refl _) (Nat.le_refl _) (tofI fun x7 w6 G h hT hG => ?_) nox
  refine r_istore_n (L' := [some (vR (some t)), some (vI x7)]) dX4_rule_9 rfl rfl iI cR (by decide) ?_
  refine r_iload_n dX4_rule_10 rfl rfl iI ?_
  refine r_if_ne (tgt := 26) dX4_rule_11 (by decide) h (fun h => ?_) (fun h => ?_)
  · refine r_iload_n dX4_rule_26 rfl rfl iI ?_
    exact r_iret rfl dX4_rule_27 ⟨_, hT, hG, _, rfl, h⟩
  · refine r_aload_n dX4_rule_14 rfl rfl iR ?_
    refine r_aload_n dX4_rule_15 rfl rfl iR ?_
    refine t_getA (j := 9) hT dX4_rule_16 (fg1 (f := 9) fX4 (by decide) q2230 rfl) rfl ?_
    refine r_aload_n dX4_rule_19 rfl rfl iR ?_
    refine t_getI (j := 11) hT dX4_rule_20 (fg1 (f := 11) fX4 (by decide) q2232 rfl) rfl ?_
    refine r_callV dX4_rule_23 (tisC hT) (c_X4_laysCode tA9 h hT hG) q2212 q2214 qs50 q117 q2215 rfl yo_X4_laysCode rfl (by decide) (by decide) rfl rc0 (by decide) (Nat.le_refl _) (Nat.le_refl _) (tofV fun w8 G h hT hG => ?_) nox
    refine r_iload_n dX4_rule_26 rfl rfl iI ?_
    exact r_iret rfl dX4_rule_27 ⟨_, hT, hG, _, rfl, h⟩
theorem c_X4_rule {t : Nat} {ad : Nat → Nat} {G0 : Wd} {Q : Int → Tw → Prop} {w : Tw} {G : Wd} (h : f_X4_rule w Q) (hT : TwAt t ad w (G 2)) (hG : ∀ r, r ≠ 2 → G r = G0 r) : call yX4_rule (Cond.code yX4_rule cX4_rule 2 (some .int)) 173 0 0 [vR (some t)] G (twQ t ad G0 (uI Q)) noX :=
  call.enter (by decide +kernel) (la_1 c1R (la_nil rfl)) rfl (w_X4_rule  h hT hG)
abbrev m_X4_putsOne : Mt := (yX4_putsOne.cls, cX4_putsOne, 8, some .int, [], yX4_putsOne.name)
theorem yo_X4_putsOne : yOK yX4_putsOne 5 := ⟨by decide +kernel, by decide +kernel, by decide +kernel⟩
def f_X4_putsOne (a1 : Nat) (a2 : Int) (a3 : Int) (a4 : Int) (a5 : Int) (w : Tw) (Q : Int → Tw → Prop) : Prop :=
  f_X4_isQueue a2 w (fun x28 w27 => brB x28 (ok32 a3 (f_X4_in a3 0 4 w27 (fun x30 w29 => brB x30 (ok32 a4 (f_X4_in a4 0 9 w29 (fun x32 w31 => brB x32 (ok32 a5 (f_X4_in a5 0 99 w31 (fun x34 w33 => brB x34 (f_X4_of a1 a2 0 w33 (fun x36 w35 => f_X4_of a1 a2 4 w35 (fun x38 w37 => rdA w37 16 5 a2 (fun _ => br (x36 - x38) ((w37 16 a2) - 1) ((x36 - x38) < ((w37 16 a2) - 1)) (f_X4_freeId a1 a2 w37 (fun x40 w39 => br0 x40 (0 ≤ x40) (f_X4_of a1 a2 0 w39 (fun x42 w41 => f_X4_ringAt a2 x42 w41 (fun x44 w43 => wrA w43 a1 844 (x44 + 0) x40 (fun w45 => wrA w45 a1 844 (x44 + 1) a3 (fun w46 => wrA w46 a1 844 (x44 + 2) a4 (fun w47 => wrA w47 a1 844 (x44 + 3) a5 (fun w48 => wrA w48 a1 844 (x44 + 4) 0 (fun w49 => f_X4_of a1 a2 0 w49 (fun x51 w50 => f_X4_sets a1 a2 0 (x51 + 1) w50 (fun w52 => Q x40 w52)))))))))) (Q (-3) w39))) (Q (-2) w37))))) (Q (-1) w33)))) (Q (-1) w31)))) (Q (-1) w29)))) (Q (-1) w27))
theorem w_X4_putsOne {t : Nat} {ad : Nat → Nat} {G0 : Wd} {a1 : Nat} (hA_a1 : (a1, 0, 844) ∈ twA) {Q : Int → Tw → Prop} {a2 : Int} {a3 : Int} {a4 : Int} {a5 : Int} {w : Tw} {G : Wd} (h : f_X4_putsOne a1 a2 a3 a4 a5 w Q) (hT : TwAt t ad w (G 2)) (hG : ∀ r, r ≠ 2 → G r = G0 r) : wp m_X4_putsOne 6 0 0 0 [some (vR (some t)), some (vR (some (ad a1))), some (vI a2), some (vI a3), some (vI a4), some (vI a5), none, none] [] G (twQ t ad G0 (uI Q)) noX := by
  unfold f_X4_putsOne at h
  refine r_aload_n dX4_putsOne_0 rfl rfl iR ?_
  refine r_iload_n dX4_putsOne_1 rfl rfl iI ?_
  refine r_callV dX4_putsOne_2 (tisC hT) (c_X4_isQueue h hT hG) q2370 q2372 qs52 q117 q2373 rfl yo_X4_isQueue rfl (by decide) (by decide) rfl rc0 (by decide) (Nat.le_refl _) (Nat.le_refl _) (tofB fun x28 w27 G h hT hG => ?_) nox
  refine r_ifZ_eq (tgt := 46) dX4_putsOne_5 (by decide) h (fun h => ?_) (fun h => ?_)
  · refine r_iconst dX4_putsOne_46 ?_
    exact r_iret rfl dX4_putsOne_47 ⟨_, hT, hG, _, rfl, h⟩
  · refine r_iload_n dX4_putsOne_8 rfl rfl iI ?_
    refine r_i2l dX4_putsOne_9 h (fun h => ?_)
    refine r_lconst (y := 0) dX4_putsOne_10 (by decide) ?_
    refine r_ldc2 (x := 4) dX4_putsOne_11 q2407 (by decide) ?_
    refine r_callS dX4_putsOne_14 (c_X4_in h hT hG) q2133 q2134 q117 q2135 yo_X4_in rfl (by decide) (by decide) rfl rc0 (by decide) (Nat.le_refl _) (Nat.le_refl _) (tofB fun x30 w29 G h hT hG => ?_) nox
    refine r_ifZ_eq (tgt := 46) dX4_putsOne_17 (by decide) h (fun h => ?_) (fun h => ?_)
    · refine r_iconst dX4_putsOne_46 ?_
      exact r_iret rfl dX4_putsOne_47 ⟨_, hT, hG, _, rfl, h⟩
    · refine r_iload dX4_putsOne_20 rfl iI ?_
      refine r_i2l dX4_putsOne_22 h (fun h => ?_)
      refine r_lconst (y := 0) dX4_putsOne_23 (by decide) ?_
      refine r_ldc2 (x := 9) dX4_putsOne_24 q2408 (by decide) ?_
      refine r_callS dX4_putsOne_27 (c_X4_in h hT hG) q2133 q2134 q117 q2135 yo_X4_in rfl (by decide) (by decide) rfl rc0 (by decide) (Nat.le_refl _) (Nat.le_refl _) (tofB fun x32 w31 G h hT hG => ?_) nox
      refine r_ifZ_eq (tgt := 46) dX4_putsOne_30 (by decide) h (fun h => ?_) (fun h => ?_)
      · refine r_iconst dX4_putsOne_46 ?_
        exact r_iret rfl dX4_putsOne_47 ⟨_, hT, hG, _, rfl, h⟩
      · refine r_iload dX4_putsOne_33 rfl iI ?_
        refine r_i2l dX4_putsOne_35 h (fun h => ?_)
        refine r_lconst (y := 0) dX4_putsOne_36 (by decide) ?_
        refine r_ldc2 (x := 99) dX4_putsOne_37 q2409 (by decide) ?_
        refine r_callS dX4_putsOne_40 (c_X4_in h hT hG) q2133 q2134 q117 q2135 yo_X4_in rfl (by decide) (by decide) rfl rc0 (by decide) (Nat.le_refl _) (Nat.le_refl _) (tofB fun x34 w33 G h hT hG => ?_) nox
        refine r_ifZ_ne (tgt := 48) dX4_putsOne_43 (by decide) h (fun h => ?_) (fun h => ?_)
        · refine r_aload_n dX4_putsOne_48 rfl rfl iR ?_
          refine r_iload_n dX4_putsOne_49 rfl rfl iI ?_
          refine r_iconst dX4_putsOne_50 ?_
          refine r_callS dX4_putsOne_51 (c_X4_of hA_a1 h hT hG) q2379 q2380 q117 q2381 yo_X4_of rfl (by decide) (by decide) rfl rc0 (by decide) (Nat.le_refl _) (Nat.le_refl _) (tofI fun x36 w35 G h hT hG => ?_) nox
          refine r_aload_n dX4_putsOne_54 rfl rfl iR ?_
          refine r_iload_n dX4_putsOne_55 rfl rfl iI ?_
          refine r_iconst dX4_putsOne_56 ?_
          refine r_callS dX4_putsOne_57 (c_X4_of hA_a1 h hT hG) q2379 q2380 q117 q2381 yo_X4_of rfl (by decide) (by decide) rfl (rc1 c1I rc0) (by decide) (Nat.le_refl _) (Nat.le_refl _) (tofI fun x38 w37 G h hT hG => ?_) nox
          refine r_isub dX4_putsOne_60 ?_
          refine r_aload_n dX4_putsOne_61 rfl rfl iR ?_
          refine t_getA (j := 16) hT dX4_putsOne_62 (fg1 (f := 16) fX4 (by decide) q2237 rfl) rfl ?_
          refine r_iload_n dX4_putsOne_65 rfl rfl iI ?_
          refine t_iald hT dX4_putsOne_66 tA16 (by decide) h (fun h => ?_)
          refine r_iconst dX4_putsOne_67 ?_
          refine r_isub dX4_putsOne_68 ?_
          refine r_icmp_lt (tgt := 75) dX4_putsOne_69 (by decide) h (fun h => ?_) (fun h => ?_)
          · refine r_aload_n dX4_putsOne_75 rfl rfl iR ?_
            refine r_iload_n dX4_putsOne_76 rfl rfl iI ?_
            refine r_callS dX4_putsOne_77 (c_X4_freeId hA_a1 h hT hG) q2410 q2411 q117 q2412 yo_X4_freeId rfl (by decide) (by decide) rfl rc0 (by decide) (Nat.le_refl _) (Nat.le_refl _) (tofI fun x40 w39 G h hT hG => ?_) nox
            refine r_istore (L' := [some (vR (some t)), some (vR (some (ad a1))), some (vI a2), some (vI a3), some (vI a4), some (vI a5), some (vI x40), none]) dX4_putsOne_80 rfl iI cI (by decide) ?_
            refine r_iload dX4_putsOne_82 rfl iI ?_
            refine r_if_ge (tgt := 90) dX4_putsOne_84 (by decide) h (fun h => ?_) (fun h => ?_)
            · refine r_iload_n dX4_putsOne_90 rfl rfl iI ?_
              refine r_aload_n dX4_putsOne_91 rfl rfl iR ?_
              refine r_iload_n dX4_putsOne_92 rfl rfl iI ?_
              refine r_iconst dX4_putsOne_93 ?_
              refine r_callS dX4_putsOne_94 (c_X4_of hA_a1 h hT hG) q2379 q2380 q117 q2381 yo_X4_of rfl (by decide) (by decide) rfl (rc1 c1I rc0) (by decide) (Nat.le_refl _) (Nat.le_refl _) (tofI fun x42 w41 G h hT hG => ?_) nox
              refine r_callS dX4_putsOne_97 (c_X4_ringAt h hT hG) q2419 q2420 q117 q2421 yo_X4_ringAt rfl (by decide) (by decide) rfl rc0 (by decide) (Nat.le_refl _) (Nat.le_refl _) (tofI fun x44 w43 G h hT hG => ?_) nox
              refine r_istore (L' := [some (vR (some t)), some (vR (some (ad a1))), some (vI a2), some (vI a3), some (vI a4), some (vI a5), some (vI x40), some (vI x44)]) dX4_putsOne_100 rfl iI cI (by decide) ?_
              refine r_aload_n dX4_putsOne_102 rfl rfl iR ?_
              refine r_iload dX4_putsOne_103 rfl iI ?_
              refine r_iconst dX4_putsOne_105 ?_
              refine r_iadd dX4_putsOne_106 ?_
              refine r_iload dX4_putsOne_107 rfl iI ?_
              refine t_iast hT hG dX4_putsOne_109 hA_a1 (by decide) h (fun w45 G h hT hG => ?_)
              refine r_aload_n dX4_putsOne_110 rfl rfl iR ?_
              refine r_iload dX4_putsOne_111 rfl iI ?_
              refine r_iconst dX4_putsOne_113 ?_
              refine r_iadd dX4_putsOne_114 ?_
              refine r_iload_n dX4_putsOne_115 rfl rfl iI ?_
              refine t_iast hT hG dX4_putsOne_116 hA_a1 (by decide) h (fun w46 G h hT hG => ?_)
              refine r_aload_n dX4_putsOne_117 rfl rfl iR ?_
              refine r_iload dX4_putsOne_118 rfl iI ?_
              refine r_iconst dX4_putsOne_120 ?_
              refine r_iadd dX4_putsOne_121 ?_
              refine r_iload dX4_putsOne_122 rfl iI ?_
              refine t_iast hT hG dX4_putsOne_124 hA_a1 (by decide) h (fun w47 G h hT hG => ?_)
              refine r_aload_n dX4_putsOne_125 rfl rfl iR ?_
              refine r_iload dX4_putsOne_126 rfl iI ?_
              refine r_iconst dX4_putsOne_128 ?_
              refine r_iadd dX4_putsOne_129 ?_
              refine r_iload dX4_putsOne_130 rfl iI ?_
              refine t_iast hT hG dX4_putsOne_132 hA_a1 (by decide) h (fun w48 G h hT hG => ?_)
              refine r_aload_n dX4_putsOne_133 rfl rfl iR ?_
              refine r_iload dX4_putsOne_134 rfl iI ?_
              refine r_iconst dX4_putsOne_136 ?_
              refine r_iadd dX4_putsOne_137 ?_
              refine r_iconst dX4_putsOne_138 ?_
              refine t_iast hT hG dX4_putsOne_139 hA_a1 (by decide) h (fun w49 G h hT hG => ?_)
              refine r_aload_n dX4_putsOne_140 rfl rfl iR ?_
              refine r_iload_n dX4_putsOne_141 rfl rfl iI ?_
              refine r_iconst dX4_putsOne_142 ?_
              refine r_aload_n dX4_putsOne_143 rfl rfl iR ?_
              refine r_iload_n dX4_putsOne_144 rfl rfl iI ?_
              refine r_iconst dX4_putsOne_145 ?_
              refine r_callS dX4_putsOne_146 (c_X4_of hA_a1 h hT hG) q2379 q2380 q117 q2381 yo_X4_of rfl (by decide) (by decide) rfl (rc1 c1I (rc1 c1I (rc1 c1R rc0))) (by decide) (Nat.le_refl _) (Nat.le_refl _) (tofI fun x51 w50 G h hT hG => ?_) nox
              refine r_iconst dX4_putsOne_149 ?_
              refine r_iadd dX4_putsOne_150 ?_
              refine r_callS dX4_putsOne_151 (c_X4_sets hA_a1 h hT hG) q2443 q2444 q117 q2445 yo_X4_sets rfl (by decide) (by decide) rfl rc0 (by decide) (Nat.le_refl _) (Nat.le_refl _) (tofV fun w52 G h hT hG => ?_) nox
              refine r_iload dX4_putsOne_154 rfl iI ?_
              exact r_iret rfl dX4_putsOne_156 ⟨_, hT, hG, _, rfl, h⟩
            · refine r_bipush dX4_putsOne_87 (by decide) ?_
              exact r_iret rfl dX4_putsOne_89 ⟨_, hT, hG, _, rfl, h⟩
          · refine r_bipush dX4_putsOne_72 (by decide) ?_
            exact r_iret rfl dX4_putsOne_74 ⟨_, hT, hG, _, rfl, h⟩
        · refine r_iconst dX4_putsOne_46 ?_
          exact r_iret rfl dX4_putsOne_47 ⟨_, hT, hG, _, rfl, h⟩
theorem c_X4_putsOne {t : Nat} {ad : Nat → Nat} {G0 : Wd} {a1 : Nat} {a2 : Int} {a3 : Int} {a4 : Int} {a5 : Int} (hA_a1 : (a1, 0, 844) ∈ twA) {Q : Int → Tw → Prop} {w : Tw} {G : Wd} (h : f_X4_putsOne a1 a2 a3 a4 a5 w Q) (hT : TwAt t ad w (G 2)) (hG : ∀ r, r ≠ 2 → G r = G0 r) : call yX4_putsOne (Cond.code yX4_putsOne cX4_putsOne 8 (some .int)) 6 0 0 [vR (some t), vR (some (ad a1)), vI a2, vI a3, vI a4, vI a5] G (twQ t ad G0 (uI Q)) noX :=
  call.enter (by decide +kernel) (la_1 c1R (la_1 c1R (la_1 c1I (la_1 c1I (la_1 c1I (la_1 c1I (la_nil rfl))))))) rfl (w_X4_putsOne hA_a1 h hT hG)
abbrev m_X4_tickGoes : Mt := (yX4_tickGoes.cls, cX4_tickGoes, 4, none, [], yX4_tickGoes.name)
theorem yo_X4_tickGoes : yOK yX4_tickGoes 1 := ⟨by decide +kernel, by decide +kernel, by decide +kernel⟩
def f_X4_tickGoes_152 (a1 : Nat) (k75 : Int → Tw → Prop) (l3 : Int) (w : Tw) (Q : Tw → Prop) : Prop :=
  k75 (l3 + 1) w
theorem w_X4_tickGoes_152 {t : Nat} {ad : Nat → Nat} {G0 : Wd} {a1 : Nat} (hA_a1 : (a1, 0, 844) ∈ twA) {Q : Tw → Prop} {k75 : Int → Tw → Prop} (hk75 : ∀ {l3 : Int} {w : Tw} {G : Wd}, k75 l3 w → TwAt t ad w (G 2) → (∀ r, r ≠ 2 → G r = G0 r) → wp m_X4_tickGoes 7 0 0 75 [some (vR (some t)), some (vR (some (ad a1))), none, some (vI l3)] [] G (twQ t ad G0 (uV Q)) noX) {l3 : Int} {w : Tw} {G : Wd} (h : f_X4_tickGoes_152 a1 k75 l3 w Q) (hT : TwAt t ad w (G 2)) (hG : ∀ r, r ≠ 2 → G r = G0 r) : wp m_X4_tickGoes 7 0 0 152 [some (vR (some t)), some (vR (some (ad a1))), none, some (vI l3)] [] G (twQ t ad G0 (uV Q)) noX := by
  unfold f_X4_tickGoes_152 at h
  refine r_iinc (L' := [some (vR (some t)), some (vR (some (ad a1))), none, some (vI (l3 + 1))]) dX4_tickGoes_152 rfl rfl cN (by decide) ?_
  refine r_goto (tgt := 75) dX4_tickGoes_155 (by decide) ?_
  exact hk75 h hT hG
def f_X4_tickGoes_192 (a1 : Nat) (l3 : Int) (w : Tw) (Q : Tw → Prop) : Prop :=
  f_X4_fetchedAll a1 w (fun x53 w52 => tS w52 25 0 ((w 25 0) + (x53 - l3)) (fun w54 => rdA w54 a1 844 827 (fun _ => wrA w54 a1 844 827 ((w54 a1 827) + 1) (fun w55 => Q w55))))
theorem w_X4_tickGoes_192 {t : Nat} {ad : Nat → Nat} {G0 : Wd} {a1 : Nat} (hA_a1 : (a1, 0, 844) ∈ twA) {Q : Tw → Prop} {l3 : Int} {w : Tw} {G : Wd} (h : f_X4_tickGoes_192 a1 l3 w Q) (hT : TwAt t ad w (G 2)) (hG : ∀ r, r ≠ 2 → G r = G0 r) : wp m_X4_tickGoes 7 0 0 192 [some (vR (some t)), some (vR (some (ad a1))), none, some (vI l3)] [] G (twQ t ad G0 (uV Q)) noX := by
  unfold f_X4_tickGoes_192 at h
  refine r_aload_n dX4_tickGoes_192 rfl rfl iR ?_
  refine r_dup dX4_tickGoes_193 c1R ?_
  refine t_getI (j := 25) hT dX4_tickGoes_194 (fg1 (f := 25) fX4 (by decide) q2246 rfl) rfl ?_
  refine r_aload_n dX4_tickGoes_197 rfl rfl iR ?_
  refine r_callS dX4_tickGoes_198 (c_X4_fetchedAll hA_a1 h hT hG) q2492 q2493 q117 q2494 yo_X4_fetchedAll rfl (by decide) (by decide) rfl (rc1 c1I (rc1 c1R rc0)) (by decide) (Nat.le_refl _) (Nat.le_refl _) (tofI fun x53 w52 G h hT hG => ?_) nox
  refine r_iload_n dX4_tickGoes_201 rfl rfl iI ?_
  refine r_isub dX4_tickGoes_202 ?_
  refine r_iadd dX4_tickGoes_203 ?_
  refine t_put (j := 25) hT hG dX4_tickGoes_204 (fp1 (f := 25) fX4 (by decide) q2246 rfl rfl rfl) tF25 (by decide) h (fun w54 G h hT hG => ?_)
  refine r_aload_n dX4_tickGoes_207 rfl rfl iR ?_
  refine r_sipush dX4_tickGoes_208 (by decide) ?_
  refine r_dup2 dX4_tickGoes_211 c1I c1R ?_
  refine t_iald hT dX4_tickGoes_212 hA_a1 (by decide) h (fun h => ?_)
  refine r_iconst dX4_tickGoes_213 ?_
  refine r_iadd dX4_tickGoes_214 ?_
  refine t_iast hT hG dX4_tickGoes_215 hA_a1 (by decide) h (fun w55 G h hT hG => ?_)
  exact r_vret rfl dX4_tickGoes_216 ⟨_, hT, hG, rfl, h⟩
def f_X4_tickGoes_163_b (a1 : Nat) (k163 : Int → Tw → Prop) (l3 : Int) (w : Tw) (Q : Tw → Prop) : Prop :=
  rdA w a1 844 493 (fun _ => rdA w a1 844 826 (fun _ => br (w a1 493) (w a1 826) ((w a1 826) ≤ (w a1 493)) (f_X4_tickGoes_192 a1 l3 w Q) (f_X4_isAnyWork a1 w (fun x57 w56 => brB x57 (f_X4_fetches a1 w56 (fun w58 => k163 l3 w58)) (f_X4_tickGoes_192 a1 l3 w56 Q)))))
theorem w_X4_tickGoes_163_b {t : Nat} {ad : Nat → Nat} {G0 : Wd} {a1 : Nat} (hA_a1 : (a1, 0, 844) ∈ twA) {Q : Tw → Prop} {k163 : Int → Tw → Prop} (hk163 : ∀ {l3 : Int} {w : Tw} {G : Wd}, k163 l3 w → TwAt t ad w (G 2) → (∀ r, r ≠ 2 → G r = G0 r) → wp m_X4_tickGoes 7 0 0 163 [some (vR (some t)), some (vR (some (ad a1))), none, some (vI l3)] [] G (twQ t ad G0 (uV Q)) noX) {l3 : Int} {w : Tw} {G : Wd} (h : f_X4_tickGoes_163_b a1 k163 l3 w Q) (hT : TwAt t ad w (G 2)) (hG : ∀ r, r ≠ 2 → G r = G0 r) : wp m_X4_tickGoes 7 0 0 163 [some (vR (some t)), some (vR (some (ad a1))), none, some (vI l3)] [] G (twQ t ad G0 (uV Q)) noX := by
  unfold f_X4_tickGoes_163_b at h
  refine r_aload_n dX4_tickGoes_163 rfl rfl iR ?_
  refine r_sipush dX4_tickGoes_164 (by decide) ?_
  refine t_iald hT dX4_tickGoes_167 hA_a1 (by decide) h (fun h => ?_)
  refine r_aload_n dX4_tickGoes_168 rfl rfl iR ?_
  refine r_sipush dX4_tickGoes_169 (by decide) ?_
  refine t_iald hT dX4_tickGoes_172 hA_a1 (by decide) h (fun h => ?_)
  refine r_icmp_ge (tgt := 192) dX4_tickGoes_173 (by decide) h (fun h => ?_) (fun h => ?_)
  · exact w_X4_tickGoes_192 hA_a1 h hT hG
  · refine r_aload_n dX4_tickGoes_176 rfl rfl iR ?_
    refine r_aload_n dX4_tickGoes_177 rfl rfl iR ?_
    refine r_callV dX4_tickGoes_178 (tisC hT) (c_X4_isAnyWork hA_a1 h hT hG) q2495 q2497 qs63 q117 q2498 rfl yo_X4_isAnyWork rfl (by decide) (by decide) rfl rc0 (by decide) (Nat.le_refl _) (Nat.le_refl _) (tofB fun x57 w56 G h hT hG => ?_) nox
    refine r_ifZ_eq (tgt := 192) dX4_tickGoes_181 (by decide) h (fun h => ?_) (fun h => ?_)
    · exact w_X4_tickGoes_192 hA_a1 h hT hG
    · refine r_aload_n dX4_tickGoes_184 rfl rfl iR ?_
      refine r_aload_n dX4_tickGoes_185 rfl rfl iR ?_
      refine r_callV dX4_tickGoes_186 (tisC hT) (c_X4_fetches hA_a1 h hT hG) q2502 q2504 qs64 q117 q2505 rfl yo_X4_fetches rfl (by decide) (by decide) rfl rc0 (by decide) (Nat.le_refl _) (Nat.le_refl _) (tofV fun w58 G h hT hG => ?_) nox
      refine r_goto (tgt := 163) dX4_tickGoes_189 (by decide) ?_
      exact hk163 h hT hG
def f_X4_tickGoes_163 (a1 : Nat) (Q : Tw → Prop) : Nat → Int → Tw → Prop
  | 0, _, _ => False
  | fl + 1, l3, w => f_X4_tickGoes_163_b  a1  (fun l3 w => f_X4_tickGoes_163  a1  Q fl l3 w) l3 w Q
theorem w_X4_tickGoes_163 {t : Nat} {ad : Nat → Nat} {G0 : Wd} {a1 : Nat} (hA_a1 : (a1, 0, 844) ∈ twA) {Q : Tw → Prop} : ∀ (fl : Nat) {l3 : Int} {w : Tw} {G : Wd}, f_X4_tickGoes_163 a1 Q fl l3 w → TwAt t ad w (G 2) → (∀ r, r ≠ 2 → G r = G0 r) → wp m_X4_tickGoes 7 0 0 163 [some (vR (some t)), some (vR (some (ad a1))), none, some (vI l3)] [] G (twQ t ad G0 (uV Q)) noX := by
  intro fl
  induction fl with
  | zero => intro l3 w G h; exact (show False from h).elim
  | succ fl ih => intro l3 w G h hT hG; exact w_X4_tickGoes_163_b hA_a1  (fun h hT hG => ih h hT hG) h hT hG
def f_X4_tickGoes_75_b (a1 : Nat) (k75 : Int → Tw → Prop) (l3 : Int) (w : Tw) (Q : Tw → Prop) : Prop :=
  br l3 (w 14 0) ((w 14 0) ≤ l3) (f_X4_fetchedAll a1 w (fun x60 w59 => ∃ fl61, f_X4_tickGoes_163 a1 Q fl61 x60 w59)) (rdA w 19 5 l3 (fun _ => br (w 19 l3) 1 (¬ (w 19 l3) = (1 : Int)) (f_X4_tickGoes_152 a1 k75 l3 w Q) (f_X4_of a1 l3 8 w (fun x63 w62 => br x63 1 (¬ x63 = (1 : Int)) (f_X4_tickGoes_152 a1 k75 l3 w62 Q) (f_X4_of a1 l3 1 w62 (fun x65 w64 => f_X4_sets a1 l3 2 x65 w64 (fun w66 => f_X4_of a1 l3 2 w66 (fun x68 w67 => f_X4_of a1 l3 3 w67 (fun x70 w69 => br x68 x70 (¬ x68 = x70) (f_X4_tickGoes_152 a1 k75 l3 w69 Q) (f_X4_of a1 l3 2 w69 (fun x72 w71 => f_X4_sets a1 l3 7 x72 w71 (fun w73 => f_X4_sets a1 l3 8 0 w73 (fun w74 => f_X4_tickGoes_152 a1 k75 l3 w74 Q)))))))))))))
theorem w_X4_tickGoes_75_b {t : Nat} {ad : Nat → Nat} {G0 : Wd} {a1 : Nat} (hA_a1 : (a1, 0, 844) ∈ twA) {Q : Tw → Prop} {k75 : Int → Tw → Prop} (hk75 : ∀ {l3 : Int} {w : Tw} {G : Wd}, k75 l3 w → TwAt t ad w (G 2) → (∀ r, r ≠ 2 → G r = G0 r) → wp m_X4_tickGoes 7 0 0 75 [some (vR (some t)), some (vR (some (ad a1))), none, some (vI l3)] [] G (twQ t ad G0 (uV Q)) noX) {l3 : Int} {w : Tw} {G : Wd} (h : f_X4_tickGoes_75_b a1 k75 l3 w Q) (hT : TwAt t ad w (G 2)) (hG : ∀ r, r ≠ 2 → G r = G0 r) : wp m_X4_tickGoes 7 0 0 75 [some (vR (some t)), some (vR (some (ad a1))), none, some (vI l3)] [] G (twQ t ad G0 (uV Q)) noX := by
  unfold f_X4_tickGoes_75_b at h
  refine r_iload_n dX4_tickGoes_75 rfl rfl iI ?_
  refine r_aload_n dX4_tickGoes_76 rfl rfl iR ?_
  refine t_getI (j := 14) hT dX4_tickGoes_77 (fg1 (f := 14) fX4 (by decide) q2235 rfl) rfl ?_
  refine r_icmp_ge (tgt := 158) dX4_tickGoes_80 (by decide) h (fun h => ?_) (fun h => ?_)
  · refine r_aload_n dX4_tickGoes_158 rfl rfl iR ?_
    refine r_callS dX4_tickGoes_159 (c_X4_fetchedAll hA_a1 h hT hG) q2492 q2493 q117 q2494 yo_X4_fetchedAll rfl (by decide) (by decide) rfl rc0 (by decide) (Nat.le_refl _) (Nat.le_refl _) (tofI fun x60 w59 G h hT hG => ?_) nox
    refine r_istore_n (L' := [some (vR (some t)), some (vR (some (ad a1))), none, some (vI x60)]) dX4_tickGoes_162 rfl rfl iI cN (by decide) ?_
    obtain ⟨fl61, h⟩ := h
    exact w_X4_tickGoes_163 hA_a1 fl61 h hT hG
  · refine r_aload_n dX4_tickGoes_83 rfl rfl iR ?_
    refine t_getA (j := 19) hT dX4_tickGoes_84 (fg1 (f := 19) fX4 (by decide) q2240 rfl) rfl ?_
    refine r_iload_n dX4_tickGoes_87 rfl rfl iI ?_
    refine t_iald hT dX4_tickGoes_88 tA19 (by decide) h (fun h => ?_)
    refine r_iconst dX4_tickGoes_89 ?_
    refine r_icmp_ne (tgt := 152) dX4_tickGoes_90 (by decide) h (fun h => ?_) (fun h => ?_)
    · exact w_X4_tickGoes_152 hA_a1 hk75 h hT hG
    · refine r_aload_n dX4_tickGoes_93 rfl rfl iR ?_
      refine r_iload_n dX4_tickGoes_94 rfl rfl iI ?_
      refine r_bipush dX4_tickGoes_95 (by decide) ?_
      refine r_callS dX4_tickGoes_97 (c_X4_of hA_a1 h hT hG) q2379 q2380 q117 q2381 yo_X4_of rfl (by decide) (by decide) rfl rc0 (by decide) (Nat.le_refl _) (Nat.le_refl _) (tofI fun x63 w62 G h hT hG => ?_) nox
      refine r_iconst dX4_tickGoes_100 ?_
      refine r_icmp_ne (tgt := 152) dX4_tickGoes_101 (by decide) h (fun h => ?_) (fun h => ?_)
      · exact w_X4_tickGoes_152 hA_a1 hk75 h hT hG
      · refine r_aload_n dX4_tickGoes_104 rfl rfl iR ?_
        refine r_iload_n dX4_tickGoes_105 rfl rfl iI ?_
        refine r_iconst dX4_tickGoes_106 ?_
        refine r_aload_n dX4_tickGoes_107 rfl rfl iR ?_
        refine r_iload_n dX4_tickGoes_108 rfl rfl iI ?_
        refine r_iconst dX4_tickGoes_109 ?_
        refine r_callS dX4_tickGoes_110 (c_X4_of hA_a1 h hT hG) q2379 q2380 q117 q2381 yo_X4_of rfl (by decide) (by decide) rfl (rc1 c1I (rc1 c1I (rc1 c1R rc0))) (by decide) (Nat.le_refl _) (Nat.le_refl _) (tofI fun x65 w64 G h hT hG => ?_) nox
        refine r_callS dX4_tickGoes_113 (c_X4_sets hA_a1 h hT hG) q2443 q2444 q117 q2445 yo_X4_sets rfl (by decide) (by decide) rfl rc0 (by decide) (Nat.le_refl _) (Nat.le_refl _) (tofV fun w66 G h hT hG => ?_) nox
        refine r_aload_n dX4_tickGoes_116 rfl rfl iR ?_
        refine r_iload_n dX4_tickGoes_117 rfl rfl iI ?_
        refine r_iconst dX4_tickGoes_118 ?_
        refine r_callS dX4_tickGoes_119 (c_X4_of hA_a1 h hT hG) q2379 q2380 q117 q2381 yo_X4_of rfl (by decide) (by decide) rfl rc0 (by decide) (Nat.le_refl _) (Nat.le_refl _) (tofI fun x68 w67 G h hT hG => ?_) nox
        refine r_aload_n dX4_tickGoes_122 rfl rfl iR ?_
        refine r_iload_n dX4_tickGoes_123 rfl rfl iI ?_
        refine r_iconst dX4_tickGoes_124 ?_
        refine r_callS dX4_tickGoes_125 (c_X4_of hA_a1 h hT hG) q2379 q2380 q117 q2381 yo_X4_of rfl (by decide) (by decide) rfl (rc1 c1I rc0) (by decide) (Nat.le_refl _) (Nat.le_refl _) (tofI fun x70 w69 G h hT hG => ?_) nox
        refine r_icmp_ne (tgt := 152) dX4_tickGoes_128 (by decide) h (fun h => ?_) (fun h => ?_)
        · exact w_X4_tickGoes_152 hA_a1 hk75 h hT hG
        · refine r_aload_n dX4_tickGoes_131 rfl rfl iR ?_
          refine r_iload_n dX4_tickGoes_132 rfl rfl iI ?_
          refine r_bipush dX4_tickGoes_133 (by decide) ?_
          refine r_aload_n dX4_tickGoes_135 rfl rfl iR ?_
          refine r_iload_n dX4_tickGoes_136 rfl rfl iI ?_
          refine r_iconst dX4_tickGoes_137 ?_
          refine r_callS dX4_tickGoes_138 (c_X4_of hA_a1 h hT hG) q2379 q2380 q117 q2381 yo_X4_of rfl (by decide) (by decide) rfl (rc1 c1I (rc1 c1I (rc1 c1R rc0))) (by decide) (Nat.le_refl _) (Nat.le_refl _) (tofI fun x72 w71 G h hT hG => ?_) nox
          refine r_callS dX4_tickGoes_141 (c_X4_sets hA_a1 h hT hG) q2443 q2444 q117 q2445 yo_X4_sets rfl (by decide) (by decide) rfl rc0 (by decide) (Nat.le_refl _) (Nat.le_refl _) (tofV fun w73 G h hT hG => ?_) nox
          refine r_aload_n dX4_tickGoes_144 rfl rfl iR ?_
          refine r_iload_n dX4_tickGoes_145 rfl rfl iI ?_
          refine r_bipush dX4_tickGoes_146 (by decide) ?_
          refine r_iconst dX4_tickGoes_148 ?_
          refine r_callS dX4_tickGoes_149 (c_X4_sets hA_a1 h hT hG) q2443 q2444 q117 q2445 yo_X4_sets rfl (by decide) (by decide) rfl rc0 (by decide) (Nat.le_refl _) (Nat.le_refl _) (tofV fun w74 G h hT hG => ?_) nox
          exact w_X4_tickGoes_152 hA_a1 hk75 h hT hG
def f_X4_tickGoes_75 (a1 : Nat) (Q : Tw → Prop) : Nat → Int → Tw → Prop
  | 0, _, _ => False
  | fl + 1, l3, w => f_X4_tickGoes_75_b  a1  (fun l3 w => f_X4_tickGoes_75  a1  Q fl l3 w) l3 w Q
theorem w_X4_tickGoes_75 {t : Nat} {ad : Nat → Nat} {G0 : Wd} {a1 : Nat} (hA_a1 : (a1, 0, 844) ∈ twA) {Q : Tw → Prop} : ∀ (fl : Nat) {l3 : Int} {w : Tw} {G : Wd}, f_X4_tickGoes_75 a1 Q fl l3 w → TwAt t ad w (G 2) → (∀ r, r ≠ 2 → G r = G0 r) → wp m_X4_tickGoes 7 0 0 75 [some (vR (some t)), some (vR (some (ad a1))), none, some (vI l3)] [] G (twQ t ad G0 (uV Q)) noX := by
  intro fl
  induction fl with
  | zero => intro l3 w G h; exact (show False from h).elim
  | succ fl ih => intro l3 w G h hT hG; exact w_X4_tickGoes_75_b hA_a1  (fun h hT hG => ih h hT hG) h hT hG
def f_X4_tickGoes_32_b (a1 : Nat) (k32 : Int → Tw → Prop) (l2 : Int) (w : Tw) (Q : Tw → Prop) : Prop :=
  rdA w a1 844 493 (fun _ => br l2 (w a1 493) ((w a1 493) ≤ l2) (f_X4_posts a1 w (fun w75 => ∃ fl76, f_X4_tickGoes_75 a1 Q fl76 0 w75)) (f_X4_runAt l2 w (fun x78 w77 => rdA w77 a1 844 (x78 + 11) (fun _ => br0 (w77 a1 (x78 + 11)) (¬ (w77 a1 (x78 + 11)) = 0) (k32 (l2 + 1) w77) (f_X4_ends a1 l2 w77 (fun w79 => k32 l2 w79))))))
theorem w_X4_tickGoes_32_b {t : Nat} {ad : Nat → Nat} {G0 : Wd} {a1 : Nat} (hA_a1 : (a1, 0, 844) ∈ twA) {Q : Tw → Prop} {k32 : Int → Tw → Prop} (hk32 : ∀ {l2 : Int} {w : Tw} {G : Wd}, k32 l2 w → TwAt t ad w (G 2) → (∀ r, r ≠ 2 → G r = G0 r) → wp m_X4_tickGoes 7 0 0 32 [some (vR (some t)), some (vR (some (ad a1))), some (vI l2), none] [] G (twQ t ad G0 (uV Q)) noX) {l2 : Int} {w : Tw} {G : Wd} (h : f_X4_tickGoes_32_b a1 k32 l2 w Q) (hT : TwAt t ad w (G 2)) (hG : ∀ r, r ≠ 2 → G r = G0 r) : wp m_X4_tickGoes 7 0 0 32 [some (vR (some t)), some (vR (some (ad a1))), some (vI l2), none] [] G (twQ t ad G0 (uV Q)) noX := by
  unfold f_X4_tickGoes_32_b at h
  refine r_iload_n dX4_tickGoes_32 rfl rfl iI ?_
  refine r_aload_n dX4_tickGoes_33 rfl rfl iR ?_
  refine r_sipush dX4_tickGoes_34 (by decide) ?_
  refine t_iald hT dX4_tickGoes_37 hA_a1 (by decide) h (fun h => ?_)
  refine r_icmp_ge (tgt := 68) dX4_tickGoes_38 (by decide) h (fun h => ?_) (fun h => ?_)
  · refine r_aload_n dX4_tickGoes_68 rfl rfl iR ?_
    refine r_aload_n dX4_tickGoes_69 rfl rfl iR ?_
    refine r_callV dX4_tickGoes_70 (tisC hT) (c_X4_posts hA_a1 h hT hG) q2485 q2487 qs62 q117 q2488 rfl yo_X4_posts rfl (by decide) (by decide) rfl rc0 (by decide) (Nat.le_refl _) (Nat.le_refl _) (tofV fun w75 G h hT hG => ?_) nox
    refine r_iconst dX4_tickGoes_73 ?_
    refine r_istore_n (L' := [some (vR (some t)), some (vR (some (ad a1))), some (vI l2), some (vI 0)]) dX4_tickGoes_74 rfl rfl iI cI (by decide) ?_
    refine wp.locals (L' := [some (vR (some t)), some (vR (some (ad a1))), none, some (vI 0)]) (ls_s (ls_s (ls_n (ls_s ls_0)))) ?_
    obtain ⟨fl76, h⟩ := h
    exact w_X4_tickGoes_75 hA_a1 fl76 h hT hG
  · refine r_aload_n dX4_tickGoes_41 rfl rfl iR ?_
    refine r_iload_n dX4_tickGoes_42 rfl rfl iI ?_
    refine r_callS dX4_tickGoes_43 (c_X4_runAt h hT hG) q2425 q2426 q117 q2427 yo_X4_runAt rfl (by decide) (by decide) rfl (rc1 c1R rc0) (by decide) (Nat.le_refl _) (Nat.le_refl _) (tofI fun x78 w77 G h hT hG => ?_) nox
    refine r_bipush dX4_tickGoes_46 (by decide) ?_
    refine r_iadd dX4_tickGoes_48 ?_
    refine t_iald hT dX4_tickGoes_49 hA_a1 (by decide) h (fun h => ?_)
    refine r_if_ne (tgt := 62) dX4_tickGoes_50 (by decide) h (fun h => ?_) (fun h => ?_)
    · refine r_iinc (L' := [some (vR (some t)), some (vR (some (ad a1))), some (vI (l2 + 1)), none]) dX4_tickGoes_62 rfl rfl cR (by decide) ?_
      refine r_goto (tgt := 32) dX4_tickGoes_65 (by decide) ?_
      exact hk32 h hT hG
    · refine r_aload_n dX4_tickGoes_53 rfl rfl iR ?_
      refine r_aload_n dX4_tickGoes_54 rfl rfl iR ?_
      refine r_iload_n dX4_tickGoes_55 rfl rfl iI ?_
      refine r_callV dX4_tickGoes_56 (tisC hT) (c_X4_ends hA_a1 h hT hG) q2475 q2477 qs61 q117 q2478 rfl yo_X4_ends rfl (by decide) (by decide) rfl rc0 (by decide) (Nat.le_refl _) (Nat.le_refl _) (tofV fun w79 G h hT hG => ?_) nox
      refine r_goto (tgt := 32) dX4_tickGoes_59 (by decide) ?_
      exact hk32 h hT hG
def f_X4_tickGoes_32 (a1 : Nat) (Q : Tw → Prop) : Nat → Int → Tw → Prop
  | 0, _, _ => False
  | fl + 1, l2, w => f_X4_tickGoes_32_b  a1  (fun l2 w => f_X4_tickGoes_32  a1  Q fl l2 w) l2 w Q
theorem w_X4_tickGoes_32 {t : Nat} {ad : Nat → Nat} {G0 : Wd} {a1 : Nat} (hA_a1 : (a1, 0, 844) ∈ twA) {Q : Tw → Prop} : ∀ (fl : Nat) {l2 : Int} {w : Tw} {G : Wd}, f_X4_tickGoes_32 a1 Q fl l2 w → TwAt t ad w (G 2) → (∀ r, r ≠ 2 → G r = G0 r) → wp m_X4_tickGoes 7 0 0 32 [some (vR (some t)), some (vR (some (ad a1))), some (vI l2), none] [] G (twQ t ad G0 (uV Q)) noX := by
  intro fl
  induction fl with
  | zero => intro l2 w G h; exact (show False from h).elim
  | succ fl ih => intro l2 w G h hT hG; exact w_X4_tickGoes_32_b hA_a1  (fun h hT hG => ih h hT hG) h hT hG
def f_X4_tickGoes_2_b (a1 : Nat) (k2 : Int → Tw → Prop) (l2 : Int) (w : Tw) (Q : Tw → Prop) : Prop :=
  rdA w a1 844 493 (fun _ => br l2 (w a1 493) ((w a1 493) ≤ l2) (∃ fl80, f_X4_tickGoes_32 a1 Q fl80 0 w) (f_X4_runAt l2 w (fun x82 w81 => rdA w81 a1 844 (x82 + 11) (fun _ => wrA w81 a1 844 (x82 + 11) ((w81 a1 (x82 + 11)) - 1) (fun w83 => k2 (l2 + 1) w83)))))
theorem w_X4_tickGoes_2_b {t : Nat} {ad : Nat → Nat} {G0 : Wd} {a1 : Nat} (hA_a1 : (a1, 0, 844) ∈ twA) {Q : Tw → Prop} {k2 : Int → Tw → Prop} (hk2 : ∀ {l2 : Int} {w : Tw} {G : Wd}, k2 l2 w → TwAt t ad w (G 2) → (∀ r, r ≠ 2 → G r = G0 r) → wp m_X4_tickGoes 7 0 0 2 [some (vR (some t)), some (vR (some (ad a1))), some (vI l2), none] [] G (twQ t ad G0 (uV Q)) noX) {l2 : Int} {w : Tw} {G : Wd} (h : f_X4_tickGoes_2_b a1 k2 l2 w Q) (hT : TwAt t ad w (G 2)) (hG : ∀ r, r ≠ 2 → G r = G0 r) : wp m_X4_tickGoes 7 0 0 2 [some (vR (some t)), some (vR (some (ad a1))), some (vI l2), none] [] G (twQ t ad G0 (uV Q)) noX := by
  unfold f_X4_tickGoes_2_b at h
  refine r_iload_n dX4_tickGoes_2 rfl rfl iI ?_
  refine r_aload_n dX4_tickGoes_3 rfl rfl iR ?_
  refine r_sipush dX4_tickGoes_4 (by decide) ?_
  refine t_iald hT dX4_tickGoes_7 hA_a1 (by decide) h (fun h => ?_)
  refine r_icmp_ge (tgt := 30) dX4_tickGoes_8 (by decide) h (fun h => ?_) (fun h => ?_)
  · refine r_iconst dX4_tickGoes_30 ?_
    refine r_istore_n (L' := [some (vR (some t)), some (vR (some (ad a1))), some (vI 0), none]) dX4_tickGoes_31 rfl rfl iI cR (by decide) ?_
    obtain ⟨fl80, h⟩ := h
    exact w_X4_tickGoes_32 hA_a1 fl80 h hT hG
  · refine r_aload_n dX4_tickGoes_11 rfl rfl iR ?_
    refine r_iload_n dX4_tickGoes_12 rfl rfl iI ?_
    refine r_callS dX4_tickGoes_13 (c_X4_runAt h hT hG) q2425 q2426 q117 q2427 yo_X4_runAt rfl (by decide) (by decide) rfl (rc1 c1R rc0) (by decide) (Nat.le_refl _) (Nat.le_refl _) (tofI fun x82 w81 G h hT hG => ?_) nox
    refine r_bipush dX4_tickGoes_16 (by decide) ?_
    refine r_iadd dX4_tickGoes_18 ?_
    refine r_dup2 dX4_tickGoes_19 c1I c1R ?_
    refine t_iald hT dX4_tickGoes_20 hA_a1 (by decide) h (fun h => ?_)
    refine r_iconst dX4_tickGoes_21 ?_
    refine r_isub dX4_tickGoes_22 ?_
    refine t_iast hT hG dX4_tickGoes_23 hA_a1 (by decide) h (fun w83 G h hT hG => ?_)
    refine r_iinc (L' := [some (vR (some t)), some (vR (some (ad a1))), some (vI (l2 + 1)), none]) dX4_tickGoes_24 rfl rfl cR (by decide) ?_
    refine r_goto (tgt := 2) dX4_tickGoes_27 (by decide) ?_
    exact hk2 h hT hG
def f_X4_tickGoes_2 (a1 : Nat) (Q : Tw → Prop) : Nat → Int → Tw → Prop
  | 0, _, _ => False
  | fl + 1, l2, w => f_X4_tickGoes_2_b  a1  (fun l2 w => f_X4_tickGoes_2  a1  Q fl l2 w) l2 w Q
theorem w_X4_tickGoes_2 {t : Nat} {ad : Nat → Nat} {G0 : Wd} {a1 : Nat} (hA_a1 : (a1, 0, 844) ∈ twA) {Q : Tw → Prop} : ∀ (fl : Nat) {l2 : Int} {w : Tw} {G : Wd}, f_X4_tickGoes_2 a1 Q fl l2 w → TwAt t ad w (G 2) → (∀ r, r ≠ 2 → G r = G0 r) → wp m_X4_tickGoes 7 0 0 2 [some (vR (some t)), some (vR (some (ad a1))), some (vI l2), none] [] G (twQ t ad G0 (uV Q)) noX := by
  intro fl
  induction fl with
  | zero => intro l2 w G h; exact (show False from h).elim
  | succ fl ih => intro l2 w G h hT hG; exact w_X4_tickGoes_2_b hA_a1  (fun h hT hG => ih h hT hG) h hT hG
def f_X4_tickGoes (a1 : Nat) (w : Tw) (Q : Tw → Prop) : Prop :=
  ∃ fl84, f_X4_tickGoes_2 a1 Q fl84 0 w
theorem w_X4_tickGoes {t : Nat} {ad : Nat → Nat} {G0 : Wd} {a1 : Nat} (hA_a1 : (a1, 0, 844) ∈ twA) {Q : Tw → Prop} {w : Tw} {G : Wd} (h : f_X4_tickGoes a1 w Q) (hT : TwAt t ad w (G 2)) (hG : ∀ r, r ≠ 2 → G r = G0 r) : wp m_X4_tickGoes 7 0 0 0 [some (vR (some t)), some (vR (some (ad a1))), none, none] [] G (twQ t ad G0 (uV Q)) noX := by
  unfold f_X4_tickGoes at h
  refine r_iconst dX4_tickGoes_0 ?_
  refine r_istore_n (L' := [some (vR (some t)), some (vR (some (ad a1))), some (vI 0), none]) dX4_tickGoes_1 rfl rfl iI cR (by decide) ?_
  obtain ⟨fl84, h⟩ := h
  exact w_X4_tickGoes_2 hA_a1 fl84 h hT hG
theorem c_X4_tickGoes {t : Nat} {ad : Nat → Nat} {G0 : Wd} {a1 : Nat} (hA_a1 : (a1, 0, 844) ∈ twA) {Q : Tw → Prop} {w : Tw} {G : Wd} (h : f_X4_tickGoes a1 w Q) (hT : TwAt t ad w (G 2)) (hG : ∀ r, r ≠ 2 → G r = G0 r) : call yX4_tickGoes (Cond.code yX4_tickGoes cX4_tickGoes 4 (none)) 7 0 0 [vR (some t), vR (some (ad a1))] G (twQ t ad G0 (uV Q)) noX :=
  call.enter (by decide +kernel) (la_1 c1R (la_1 c1R (la_nil rfl))) rfl (w_X4_tickGoes hA_a1 h hT hG)
abbrev m_X4_when : Mt := (yX4_when.cls, cX4_when, 6, some .int, [], yX4_when.name)
theorem yo_X4_when : yOK yX4_when 2 := ⟨by decide +kernel, by decide +kernel, by decide +kernel⟩
def f_X4_when_98_b (k72 : Int → Int → Int → Tw → Prop) (k98 : Int → Int → Int → Int → Tw → Prop) (l1 : Int) (l2 : Int) (l3 : Int) (l4 : Int) (w : Tw) (Q : Int → Tw → Prop) : Prop :=
  f_X4_of 21 l1 5 w (fun x34 w33 => br l4 x34 (x34 ≤ l4) (k72 l1 l2 (l3 + 1) w33) (f_X4_placeAt l1 l4 w33 (fun x36 w35 => rdA w35 21 844 (x36 + 0) (fun _ => br (w35 21 (x36 + 0)) l2 (¬ (w35 21 (x36 + 0)) = l2) (k98 l1 l2 l3 (l4 + 1) w35) (tS w35 1 0 0 (fun w37 => rdA w37 21 844 (x36 + 1) (fun _ => ok32 (w37 21 (x36 + 1)) (f_X4_enters (w37 21 (x36 + 1)) w37 (fun w38 => rdA w38 21 844 (x36 + 2) (fun _ => ok32 (w38 21 (x36 + 2)) (f_X4_enters (w38 21 (x36 + 2)) w38 (fun w39 => Q l3 w39))))))))))))
theorem w_X4_when_98_b {t : Nat} {ad : Nat → Nat} {G0 : Wd} {Q : Int → Tw → Prop} {k72 : Int → Int → Int → Tw → Prop} (hk72 : ∀ {l1 : Int} {l2 : Int} {l3 : Int} {w : Tw} {G : Wd}, k72 l1 l2 l3 w → TwAt t ad w (G 2) → (∀ r, r ≠ 2 → G r = G0 r) → wp m_X4_when 8 0 0 72 [some (vR (some t)), some (vI l1), some (vI l2), some (vI l3), none, none] [] G (twQ t ad G0 (uI Q)) noX) {k98 : Int → Int → Int → Int → Tw → Prop} (hk98 : ∀ {l1 : Int} {l2 : Int} {l3 : Int} {l4 : Int} {w : Tw} {G : Wd}, k98 l1 l2 l3 l4 w → TwAt t ad w (G 2) → (∀ r, r ≠ 2 → G r = G0 r) → wp m_X4_when 8 0 0 98 [some (vR (some t)), some (vI l1), some (vI l2), some (vI l3), some (vI l4), none] [] G (twQ t ad G0 (uI Q)) noX) {l1 : Int} {l2 : Int} {l3 : Int} {l4 : Int} {w : Tw} {G : Wd} (h : f_X4_when_98_b k72 k98 l1 l2 l3 l4 w Q) (hT : TwAt t ad w (G 2)) (hG : ∀ r, r ≠ 2 → G r = G0 r) : wp m_X4_when 8 0 0 98 [some (vR (some t)), some (vI l1), some (vI l2), some (vI l3), some (vI l4), none] [] G (twQ t ad G0 (uI Q)) noX := by
  unfold f_X4_when_98_b at h
  refine r_iload dX4_when_98 rfl iI ?_
  refine r_aload_n dX4_when_100 rfl rfl iR ?_
  refine t_getA (j := 21) hT dX4_when_101 (fg1 (f := 21) fX4 (by decide) q2242 rfl) rfl ?_
  refine r_iload_n dX4_when_104 rfl rfl iI ?_
  refine r_iconst dX4_when_105 ?_
  refine r_callS dX4_when_106 (c_X4_of tA21 h hT hG) q2379 q2380 q117 q2381 yo_X4_of rfl (by decide) (by decide) rfl (rc1 c1I rc0) (by decide) (Nat.le_refl _) (Nat.le_refl _) (tofI fun x34 w33 G h hT hG => ?_) nox
  refine r_icmp_ge (tgt := 174) dX4_when_109 (by decide) h (fun h => ?_) (fun h => ?_)
  · refine r_iinc (L' := [some (vR (some t)), some (vI l1), some (vI l2), some (vI (l3 + 1)), some (vI l4), none]) dX4_when_174 rfl rfl cI (by decide) ?_
    refine r_goto (tgt := 72) dX4_when_177 (by decide) ?_
    refine wp.locals (L' := [some (vR (some t)), some (vI l1), some (vI l2), some (vI (l3 + 1)), none, none]) (ls_s (ls_s (ls_s (ls_s (ls_n (ls_n ls_0)))))) ?_
    exact hk72 h hT hG
  · refine r_iload_n dX4_when_112 rfl rfl iI ?_
    refine r_iload dX4_when_113 rfl iI ?_
    refine r_callS dX4_when_115 (c_X4_placeAt h hT hG) q2440 q2441 q117 q2442 yo_X4_placeAt rfl (by decide) (by decide) rfl rc0 (by decide) (Nat.le_refl _) (Nat.le_refl _) (tofI fun x36 w35 G h hT hG => ?_) nox
    refine r_istore (L' := [some (vR (some t)), some (vI l1), some (vI l2), some (vI l3), some (vI l4), some (vI x36)]) dX4_when_118 rfl iI cI (by decide) ?_
    refine r_aload_n dX4_when_120 rfl rfl iR ?_
    refine t_getA (j := 21) hT dX4_when_121 (fg1 (f := 21) fX4 (by decide) q2242 rfl) rfl ?_
    refine r_iload dX4_when_124 rfl iI ?_
    refine r_iconst dX4_when_126 ?_
    refine r_iadd dX4_when_127 ?_
    refine t_iald hT dX4_when_128 tA21 (by decide) h (fun h => ?_)
    refine r_iload_n dX4_when_129 rfl rfl iI ?_
    refine r_icmp_ne (tgt := 168) dX4_when_130 (by decide) h (fun h => ?_) (fun h => ?_)
    · refine r_iinc (L' := [some (vR (some t)), some (vI l1), some (vI l2), some (vI l3), some (vI (l4 + 1)), some (vI x36)]) dX4_when_168 rfl rfl cI (by decide) ?_
      refine r_goto (tgt := 98) dX4_when_171 (by decide) ?_
      refine wp.locals (L' := [some (vR (some t)), some (vI l1), some (vI l2), some (vI l3), some (vI (l4 + 1)), none]) (ls_s (ls_s (ls_s (ls_s (ls_s (ls_n ls_0)))))) ?_
      exact hk98 h hT hG
    · refine r_aload_n dX4_when_133 rfl rfl iR ?_
      refine r_iconst dX4_when_134 ?_
      refine t_put (j := 1) hT hG dX4_when_135 (fp1 (f := 1) fX4 (by decide) q2222 rfl rfl rfl) tF1 (by decide) h (fun w37 G h hT hG => ?_)
      refine r_aload_n dX4_when_138 rfl rfl iR ?_
      refine r_aload_n dX4_when_139 rfl rfl iR ?_
      refine t_getA (j := 21) hT dX4_when_140 (fg1 (f := 21) fX4 (by decide) q2242 rfl) rfl ?_
      refine r_iload dX4_when_143 rfl iI ?_
      refine r_iconst dX4_when_145 ?_
      refine r_iadd dX4_when_146 ?_
      refine t_iald hT dX4_when_147 tA21 (by decide) h (fun h => ?_)
      refine r_i2l dX4_when_148 h (fun h => ?_)
      refine r_callV dX4_when_149 (tisC hT) (c_X4_enters h hT hG) q2536 q2538 qs71 q117 q2539 rfl yo_X4_enters rfl (by decide) (by decide) rfl rc0 (by decide) (Nat.le_refl _) (Nat.le_refl _) (tofV fun w38 G h hT hG => ?_) nox
      refine r_aload_n dX4_when_152 rfl rfl iR ?_
      refine r_aload_n dX4_when_153 rfl rfl iR ?_
      refine t_getA (j := 21) hT dX4_when_154 (fg1 (f := 21) fX4 (by decide) q2242 rfl) rfl ?_
      refine r_iload dX4_when_157 rfl iI ?_
      refine r_iconst dX4_when_159 ?_
      refine r_iadd dX4_when_160 ?_
      refine t_iald hT dX4_when_161 tA21 (by decide) h (fun h => ?_)
      refine r_i2l dX4_when_162 h (fun h => ?_)
      refine r_callV dX4_when_163 (tisC hT) (c_X4_enters h hT hG) q2536 q2538 qs71 q117 q2539 rfl yo_X4_enters rfl (by decide) (by decide) rfl rc0 (by decide) (Nat.le_refl _) (Nat.le_refl _) (tofV fun w39 G h hT hG => ?_) nox
      refine r_iload_n dX4_when_166 rfl rfl iI ?_
      exact r_iret rfl dX4_when_167 ⟨_, hT, hG, _, rfl, h⟩
def f_X4_when_98 (k72 : Int → Int → Int → Tw → Prop) (Q : Int → Tw → Prop) : Nat → Int → Int → Int → Int → Tw → Prop
  | 0, _, _, _, _, _ => False
  | fl + 1, l1, l2, l3, l4, w => f_X4_when_98_b   k72 (fun l1 l2 l3 l4 w => f_X4_when_98   k72 Q fl l1 l2 l3 l4 w) l1 l2 l3 l4 w Q
theorem w_X4_when_98 {t : Nat} {ad : Nat → Nat} {G0 : Wd} {Q : Int → Tw → Prop} {k72 : Int → Int → Int → Tw → Prop} (hk72 : ∀ {l1 : Int} {l2 : Int} {l3 : Int} {w : Tw} {G : Wd}, k72 l1 l2 l3 w → TwAt t ad w (G 2) → (∀ r, r ≠ 2 → G r = G0 r) → wp m_X4_when 8 0 0 72 [some (vR (some t)), some (vI l1), some (vI l2), some (vI l3), none, none] [] G (twQ t ad G0 (uI Q)) noX) : ∀ (fl : Nat) {l1 : Int} {l2 : Int} {l3 : Int} {l4 : Int} {w : Tw} {G : Wd}, f_X4_when_98 k72 Q fl l1 l2 l3 l4 w → TwAt t ad w (G 2) → (∀ r, r ≠ 2 → G r = G0 r) → wp m_X4_when 8 0 0 98 [some (vR (some t)), some (vI l1), some (vI l2), some (vI l3), some (vI l4), none] [] G (twQ t ad G0 (uI Q)) noX := by
  intro fl
  induction fl with
  | zero => intro l1 l2 l3 l4 w G h; exact (show False from h).elim
  | succ fl ih => intro l1 l2 l3 l4 w G h hT hG; exact w_X4_when_98_b  hk72 (fun h hT hG => ih h hT hG) h hT hG
def f_X4_when_72_b (k72 : Int → Int → Int → Tw → Prop) (l1 : Int) (l2 : Int) (l3 : Int) (w : Tw) (Q : Int → Tw → Prop) : Prop :=
  br l3 99 ((99 : Int) < l3) (Q (-2) w) (f_X4_tickGoes 21 w (fun w40 => f_X4_of 21 l1 6 w40 (fun x42 w41 => ∃ fl43, f_X4_when_98 k72 Q fl43 l1 l2 l3 x42 w41)))
theorem w_X4_when_72_b {t : Nat} {ad : Nat → Nat} {G0 : Wd} {Q : Int → Tw → Prop} {k72 : Int → Int → Int → Tw → Prop} (hk72 : ∀ {l1 : Int} {l2 : Int} {l3 : Int} {w : Tw} {G : Wd}, k72 l1 l2 l3 w → TwAt t ad w (G 2) → (∀ r, r ≠ 2 → G r = G0 r) → wp m_X4_when 8 0 0 72 [some (vR (some t)), some (vI l1), some (vI l2), some (vI l3), none, none] [] G (twQ t ad G0 (uI Q)) noX) {l1 : Int} {l2 : Int} {l3 : Int} {w : Tw} {G : Wd} (h : f_X4_when_72_b k72 l1 l2 l3 w Q) (hT : TwAt t ad w (G 2)) (hG : ∀ r, r ≠ 2 → G r = G0 r) : wp m_X4_when 8 0 0 72 [some (vR (some t)), some (vI l1), some (vI l2), some (vI l3), none, none] [] G (twQ t ad G0 (uI Q)) noX := by
  unfold f_X4_when_72_b at h
  refine r_iload_n dX4_when_72 rfl rfl iI ?_
  refine r_bipush dX4_when_73 (by decide) ?_
  refine r_icmp_gt (tgt := 180) dX4_when_75 (by decide) h (fun h => ?_) (fun h => ?_)
  · refine r_bipush dX4_when_180 (by decide) ?_
    exact r_iret rfl dX4_when_182 ⟨_, hT, hG, _, rfl, h⟩
  · refine r_aload_n dX4_when_78 rfl rfl iR ?_
    refine r_aload_n dX4_when_79 rfl rfl iR ?_
    refine t_getA (j := 21) hT dX4_when_80 (fg1 (f := 21) fX4 (by decide) q2242 rfl) rfl ?_
    refine r_callV dX4_when_83 (tisC hT) (c_X4_tickGoes tA21 h hT hG) q2471 q2473 qs60 q117 q2474 rfl yo_X4_tickGoes rfl (by decide) (by decide) rfl rc0 (by decide) (Nat.le_refl _) (Nat.le_refl _) (tofV fun w40 G h hT hG => ?_) nox
    refine r_aload_n dX4_when_86 rfl rfl iR ?_
    refine t_getA (j := 21) hT dX4_when_87 (fg1 (f := 21) fX4 (by decide) q2242 rfl) rfl ?_
    refine r_iload_n dX4_when_90 rfl rfl iI ?_
    refine r_bipush dX4_when_91 (by decide) ?_
    refine r_callS dX4_when_93 (c_X4_of tA21 h hT hG) q2379 q2380 q117 q2381 yo_X4_of rfl (by decide) (by decide) rfl rc0 (by decide) (Nat.le_refl _) (Nat.le_refl _) (tofI fun x42 w41 G h hT hG => ?_) nox
    refine r_istore (L' := [some (vR (some t)), some (vI l1), some (vI l2), some (vI l3), some (vI x42), none]) dX4_when_96 rfl iI cI (by decide) ?_
    obtain ⟨fl43, h⟩ := h
    exact w_X4_when_98 hk72 fl43 h hT hG
def f_X4_when_72 (Q : Int → Tw → Prop) : Nat → Int → Int → Int → Tw → Prop
  | 0, _, _, _, _ => False
  | fl + 1, l1, l2, l3, w => f_X4_when_72_b    (fun l1 l2 l3 w => f_X4_when_72    Q fl l1 l2 l3 w) l1 l2 l3 w Q
theorem w_X4_when_72 {t : Nat} {ad : Nat → Nat} {G0 : Wd} {Q : Int → Tw → Prop} : ∀ (fl : Nat) {l1 : Int} {l2 : Int} {l3 : Int} {w : Tw} {G : Wd}, f_X4_when_72 Q fl l1 l2 l3 w → TwAt t ad w (G 2) → (∀ r, r ≠ 2 → G r = G0 r) → wp m_X4_when 8 0 0 72 [some (vR (some t)), some (vI l1), some (vI l2), some (vI l3), none, none] [] G (twQ t ad G0 (uI Q)) noX := by
  intro fl
  induction fl with
  | zero => intro l1 l2 l3 w G h; exact (show False from h).elim
  | succ fl ih => intro l1 l2 l3 w G h hT hG; exact w_X4_when_72_b   (fun h hT hG => ih h hT hG) h hT hG
def f_X4_when_66 (l1 : Int) (l2 : Int) (w : Tw) (Q : Int → Tw → Prop) : Prop :=
  f_X4_copies  w (fun w44 => ∃ fl45, f_X4_when_72 Q fl45 l1 l2 1 w44)
theorem w_X4_when_66 {t : Nat} {ad : Nat → Nat} {G0 : Wd} {Q : Int → Tw → Prop} {l1 : Int} {l2 : Int} {w : Tw} {G : Wd} (h : f_X4_when_66 l1 l2 w Q) (hT : TwAt t ad w (G 2)) (hG : ∀ r, r ≠ 2 → G r = G0 r) : wp m_X4_when 8 0 0 66 [some (vR (some t)), some (vI l1), some (vI l2), none, none, none] [] G (twQ t ad G0 (uI Q)) noX := by
  unfold f_X4_when_66 at h
  refine r_aload_n dX4_when_66 rfl rfl iR ?_
  refine r_callV dX4_when_67 (tisC hT) (c_X4_copies h hT hG) q2635 q2637 qs80 q117 q2638 rfl yo_X4_copies rfl (by decide) (by decide) rfl rc0 (by decide) (Nat.le_refl _) (Nat.le_refl _) (tofV fun w44 G h hT hG => ?_) nox
  refine r_iconst dX4_when_70 ?_
  refine r_istore_n (L' := [some (vR (some t)), some (vI l1), some (vI l2), some (vI 1), none, none]) dX4_when_71 rfl rfl iI cI (by decide) ?_
  obtain ⟨fl45, h⟩ := h
  exact w_X4_when_72 fl45 h hT hG
def f_X4_when (a1 : Int) (a2 : Int) (w : Tw) (Q : Int → Tw → Prop) : Prop :=
  tS w 0 0 0 (fun w46 => f_X4_isQueue a1 w46 (fun x48 w47 => brB x48 (ok32 a2 (f_X4_in a2 0 15 w47 (fun x50 w49 => brB x50 (f_X4_ringOf 20 a1 a2 w49 (fun x52 w51 => br0 x52 (0 ≤ x52) (f_X4_when_66 a1 a2 w51 Q) (f_X4_runOf 20 a1 a2 w51 (fun x54 w53 => br0 x54 (0 ≤ x54) (f_X4_when_66 a1 a2 w53 Q) (f_X4_outOf 20 a1 a2 w53 (fun x56 w55 => br0 x56 (0 ≤ x56) (f_X4_when_66 a1 a2 w55 Q) (Q (-3) w55))))))) (Q (-1) w49)))) (Q (-1) w47)))
theorem w_X4_when {t : Nat} {ad : Nat → Nat} {G0 : Wd} {Q : Int → Tw → Prop} {a1 : Int} {a2 : Int} {w : Tw} {G : Wd} (h : f_X4_when a1 a2 w Q) (hT : TwAt t ad w (G 2)) (hG : ∀ r, r ≠ 2 → G r = G0 r) : wp m_X4_when 8 0 0 0 [some (vR (some t)), some (vI a1), some (vI a2), none, none, none] [] G (twQ t ad G0 (uI Q)) noX := by
  unfold f_X4_when at h
  refine r_aload_n dX4_when_0 rfl rfl iR ?_
  refine r_iconst dX4_when_1 ?_
  refine t_put (j := 0) hT hG dX4_when_2 (fp1 (f := 0) fX4 (by decide) q2221 rfl rfl rfl) tF0 (by decide) h (fun w46 G h hT hG => ?_)
  refine r_aload_n dX4_when_5 rfl rfl iR ?_
  refine r_iload_n dX4_when_6 rfl rfl iI ?_
  refine r_callV dX4_when_7 (tisC hT) (c_X4_isQueue h hT hG) q2370 q2372 qs52 q117 q2373 rfl yo_X4_isQueue rfl (by decide) (by decide) rfl rc0 (by decide) (Nat.le_refl _) (Nat.le_refl _) (tofB fun x48 w47 G h hT hG => ?_) nox
  refine r_ifZ_eq (tgt := 25) dX4_when_10 (by decide) h (fun h => ?_) (fun h => ?_)
  · refine r_iconst dX4_when_25 ?_
    exact r_iret rfl dX4_when_26 ⟨_, hT, hG, _, rfl, h⟩
  · refine r_iload_n dX4_when_13 rfl rfl iI ?_
    refine r_i2l dX4_when_14 h (fun h => ?_)
    refine r_lconst (y := 0) dX4_when_15 (by decide) ?_
    refine r_ldc2 (x := 15) dX4_when_16 q2560 (by decide) ?_
    refine r_callS dX4_when_19 (c_X4_in h hT hG) q2133 q2134 q117 q2135 yo_X4_in rfl (by decide) (by decide) rfl rc0 (by decide) (Nat.le_refl _) (Nat.le_refl _) (tofB fun x50 w49 G h hT hG => ?_) nox
    refine r_ifZ_ne (tgt := 27) dX4_when_22 (by decide) h (fun h => ?_) (fun h => ?_)
    · refine r_aload_n dX4_when_27 rfl rfl iR ?_
      refine t_getA (j := 20) hT dX4_when_28 (fg1 (f := 20) fX4 (by decide) q2241 rfl) rfl ?_
      refine r_iload_n dX4_when_31 rfl rfl iI ?_
      refine r_iload_n dX4_when_32 rfl rfl iI ?_
      refine r_callS dX4_when_33 (c_X4_ringOf tA20 h hT hG) q2416 q2417 q117 q2418 yo_X4_ringOf rfl (by decide) (by decide) rfl rc0 (by decide) (Nat.le_refl _) (Nat.le_refl _) (tofI fun x52 w51 G h hT hG => ?_) nox
      refine r_if_ge (tgt := 66) dX4_when_36 (by decide) h (fun h => ?_) (fun h => ?_)
      · exact w_X4_when_66 h hT hG
      · refine r_aload_n dX4_when_39 rfl rfl iR ?_
        refine t_getA (j := 20) hT dX4_when_40 (fg1 (f := 20) fX4 (by decide) q2241 rfl) rfl ?_
        refine r_iload_n dX4_when_43 rfl rfl iI ?_
        refine r_iload_n dX4_when_44 rfl rfl iI ?_
        refine r_callS dX4_when_45 (c_X4_runOf tA20 h hT hG) q2422 q2423 q117 q2424 yo_X4_runOf rfl (by decide) (by decide) rfl rc0 (by decide) (Nat.le_refl _) (Nat.le_refl _) (tofI fun x54 w53 G h hT hG => ?_) nox
        refine r_if_ge (tgt := 66) dX4_when_48 (by decide) h (fun h => ?_) (fun h => ?_)
        · exact w_X4_when_66 h hT hG
        · refine r_aload_n dX4_when_51 rfl rfl iR ?_
          refine t_getA (j := 20) hT dX4_when_52 (fg1 (f := 20) fX4 (by decide) q2241 rfl) rfl ?_
          refine r_iload_n dX4_when_55 rfl rfl iI ?_
          refine r_iload_n dX4_when_56 rfl rfl iI ?_
          refine r_callS dX4_when_57 (c_X4_outOf tA20 h hT hG) q2431 q2432 q117 q2433 yo_X4_outOf rfl (by decide) (by decide) rfl rc0 (by decide) (Nat.le_refl _) (Nat.le_refl _) (tofI fun x56 w55 G h hT hG => ?_) nox
          refine r_if_ge (tgt := 66) dX4_when_60 (by decide) h (fun h => ?_) (fun h => ?_)
          · exact w_X4_when_66 h hT hG
          · refine r_bipush dX4_when_63 (by decide) ?_
            exact r_iret rfl dX4_when_65 ⟨_, hT, hG, _, rfl, h⟩
    · refine r_iconst dX4_when_25 ?_
      exact r_iret rfl dX4_when_26 ⟨_, hT, hG, _, rfl, h⟩
theorem c_X4_when {t : Nat} {ad : Nat → Nat} {G0 : Wd} {a1 : Int} {a2 : Int} {Q : Int → Tw → Prop} {w : Tw} {G : Wd} (h : f_X4_when a1 a2 w Q) (hT : TwAt t ad w (G 2)) (hG : ∀ r, r ≠ 2 → G r = G0 r) : call yX4_when (Cond.code yX4_when cX4_when 6 (some .int)) 8 0 0 [vR (some t), vI a1, vI a2] G (twQ t ad G0 (uI Q)) noX :=
  call.enter (by decide +kernel) (la_1 c1R (la_1 c1I (la_1 c1I (la_nil rfl)))) rfl (w_X4_when  h hT hG)
abbrev m_X4_drainsOf : Mt := (yX4_drainsOf.cls, cX4_drainsOf, 3, some .int, [], yX4_drainsOf.name)
theorem yo_X4_drainsOf : yOK yX4_drainsOf 1 := ⟨by decide +kernel, by decide +kernel, by decide +kernel⟩
def f_X4_drainsOf_39 (a1 : Nat) (k7 : Int → Tw → Prop) (l2 : Int) (w : Tw) (Q : Int → Tw → Prop) : Prop :=
  k7 (l2 + 1) w
theorem w_X4_drainsOf_39 {t : Nat} {ad : Nat → Nat} {G0 : Wd} {a1 : Nat} (hA_a1 : (a1, 0, 844) ∈ twA) {Q : Int → Tw → Prop} {k7 : Int → Tw → Prop} (hk7 : ∀ {l2 : Int} {w : Tw} {G : Wd}, k7 l2 w → TwAt t ad w (G 2) → (∀ r, r ≠ 2 → G r = G0 r) → wp m_X4_drainsOf 8 0 0 7 [some (vR (some t)), some (vR (some (ad a1))), some (vI l2)] [] G (twQ t ad G0 (uI Q)) noX) {l2 : Int} {w : Tw} {G : Wd} (h : f_X4_drainsOf_39 a1 k7 l2 w Q) (hT : TwAt t ad w (G 2)) (hG : ∀ r, r ≠ 2 → G r = G0 r) : wp m_X4_drainsOf 8 0 0 39 [some (vR (some t)), some (vR (some (ad a1))), some (vI l2)] [] G (twQ t ad G0 (uI Q)) noX := by
  unfold f_X4_drainsOf_39 at h
  refine r_iinc (L' := [some (vR (some t)), some (vR (some (ad a1))), some (vI (l2 + 1))]) dX4_drainsOf_39 rfl rfl cR (by decide) ?_
  refine r_goto (tgt := 7) dX4_drainsOf_42 (by decide) ?_
  exact hk7 h hT hG
def f_X4_drainsOf_7_b (a1 : Nat) (k7 : Int → Tw → Prop) (l2 : Int) (w : Tw) (Q : Int → Tw → Prop) : Prop :=
  br l2 99 ((99 : Int) < l2) (Q (-2) w) (f_X4_isDrained a1 w (fun x11 w10 => brB x11 (Q l2 w10) (f_X4_takesAll a1 w10 (fun w12 => br l2 99 ((99 : Int) ≤ l2) (f_X4_drainsOf_39 a1 k7 l2 w12 Q) (f_X4_tickGoes a1 w12 (fun w13 => f_X4_drainsOf_39 a1 k7 l2 w13 Q))))))
theorem w_X4_drainsOf_7_b {t : Nat} {ad : Nat → Nat} {G0 : Wd} {a1 : Nat} (hA_a1 : (a1, 0, 844) ∈ twA) {Q : Int → Tw → Prop} {k7 : Int → Tw → Prop} (hk7 : ∀ {l2 : Int} {w : Tw} {G : Wd}, k7 l2 w → TwAt t ad w (G 2) → (∀ r, r ≠ 2 → G r = G0 r) → wp m_X4_drainsOf 8 0 0 7 [some (vR (some t)), some (vR (some (ad a1))), some (vI l2)] [] G (twQ t ad G0 (uI Q)) noX) {l2 : Int} {w : Tw} {G : Wd} (h : f_X4_drainsOf_7_b a1 k7 l2 w Q) (hT : TwAt t ad w (G 2)) (hG : ∀ r, r ≠ 2 → G r = G0 r) : wp m_X4_drainsOf 8 0 0 7 [some (vR (some t)), some (vR (some (ad a1))), some (vI l2)] [] G (twQ t ad G0 (uI Q)) noX := by
  unfold f_X4_drainsOf_7_b at h
  refine r_iload_n dX4_drainsOf_7 rfl rfl iI ?_
  refine r_bipush dX4_drainsOf_8 (by decide) ?_
  refine r_icmp_gt (tgt := 45) dX4_drainsOf_10 (by decide) h (fun h => ?_) (fun h => ?_)
  · refine r_bipush dX4_drainsOf_45 (by decide) ?_
    exact r_iret rfl dX4_drainsOf_47 ⟨_, hT, hG, _, rfl, h⟩
  · refine r_aload_n dX4_drainsOf_13 rfl rfl iR ?_
    refine r_aload_n dX4_drainsOf_14 rfl rfl iR ?_
    refine r_callV dX4_drainsOf_15 (tisC hT) (c_X4_isDrained hA_a1 h hT hG) q2655 q2657 qs82 q117 q2658 rfl yo_X4_isDrained rfl (by decide) (by decide) rfl rc0 (by decide) (Nat.le_refl _) (Nat.le_refl _) (tofB fun x11 w10 G h hT hG => ?_) nox
    refine r_ifZ_eq (tgt := 23) dX4_drainsOf_18 (by decide) h (fun h => ?_) (fun h => ?_)
    · refine r_aload_n dX4_drainsOf_23 rfl rfl iR ?_
      refine r_aload_n dX4_drainsOf_24 rfl rfl iR ?_
      refine r_callV dX4_drainsOf_25 (tisC hT) (c_X4_takesAll hA_a1 h hT hG) q2659 q2661 qs83 q117 q2662 rfl yo_X4_takesAll rfl (by decide) (by decide) rfl rc0 (by decide) (Nat.le_refl _) (Nat.le_refl _) (tofV fun w12 G h hT hG => ?_) nox
      refine r_iload_n dX4_drainsOf_28 rfl rfl iI ?_
      refine r_bipush dX4_drainsOf_29 (by decide) ?_
      refine r_icmp_ge (tgt := 39) dX4_drainsOf_31 (by decide) h (fun h => ?_) (fun h => ?_)
      · exact w_X4_drainsOf_39 hA_a1 hk7 h hT hG
      · refine r_aload_n dX4_drainsOf_34 rfl rfl iR ?_
        refine r_aload_n dX4_drainsOf_35 rfl rfl iR ?_
        refine r_callV dX4_drainsOf_36 (tisC hT) (c_X4_tickGoes hA_a1 h hT hG) q2471 q2473 qs60 q117 q2474 rfl yo_X4_tickGoes rfl (by decide) (by decide) rfl rc0 (by decide) (Nat.le_refl _) (Nat.le_refl _) (tofV fun w13 G h hT hG => ?_) nox
        exact w_X4_drainsOf_39 hA_a1 hk7 h hT hG
    · refine r_iload_n dX4_drainsOf_21 rfl rfl iI ?_
      exact r_iret rfl dX4_drainsOf_22 ⟨_, hT, hG, _, rfl, h⟩
def f_X4_drainsOf_7 (a1 : Nat) (Q : Int → Tw → Prop) : Nat → Int → Tw → Prop
  | 0, _, _ => False
  | fl + 1, l2, w => f_X4_drainsOf_7_b  a1  (fun l2 w => f_X4_drainsOf_7  a1  Q fl l2 w) l2 w Q
theorem w_X4_drainsOf_7 {t : Nat} {ad : Nat → Nat} {G0 : Wd} {a1 : Nat} (hA_a1 : (a1, 0, 844) ∈ twA) {Q : Int → Tw → Prop} : ∀ (fl : Nat) {l2 : Int} {w : Tw} {G : Wd}, f_X4_drainsOf_7 a1 Q fl l2 w → TwAt t ad w (G 2) → (∀ r, r ≠ 2 → G r = G0 r) → wp m_X4_drainsOf 8 0 0 7 [some (vR (some t)), some (vR (some (ad a1))), some (vI l2)] [] G (twQ t ad G0 (uI Q)) noX := by
  intro fl
  induction fl with
  | zero => intro l2 w G h; exact (show False from h).elim
  | succ fl ih => intro l2 w G h hT hG; exact w_X4_drainsOf_7_b hA_a1  (fun h hT hG => ih h hT hG) h hT hG
def f_X4_drainsOf (a1 : Nat) (w : Tw) (Q : Int → Tw → Prop) : Prop :=
  tS w 35 0 0 (fun w14 => ∃ fl15, f_X4_drainsOf_7 a1 Q fl15 0 w14)
theorem w_X4_drainsOf {t : Nat} {ad : Nat → Nat} {G0 : Wd} {a1 : Nat} (hA_a1 : (a1, 0, 844) ∈ twA) {Q : Int → Tw → Prop} {w : Tw} {G : Wd} (h : f_X4_drainsOf a1 w Q) (hT : TwAt t ad w (G 2)) (hG : ∀ r, r ≠ 2 → G r = G0 r) : wp m_X4_drainsOf 8 0 0 0 [some (vR (some t)), some (vR (some (ad a1))), none] [] G (twQ t ad G0 (uI Q)) noX := by
  unfold f_X4_drainsOf at h
  refine r_aload_n dX4_drainsOf_0 rfl rfl iR ?_
  refine r_iconst dX4_drainsOf_1 ?_
  refine t_put (j := 35) hT hG dX4_drainsOf_2 (fp1 (f := 35) fX4 (by decide) q2256 rfl rfl rfl) tF35 (by decide) h (fun w14 G h hT hG => ?_)
  refine r_iconst dX4_drainsOf_5 ?_
  refine r_istore_n (L' := [some (vR (some t)), some (vR (some (ad a1))), some (vI 0)]) dX4_drainsOf_6 rfl rfl iI cR (by decide) ?_
  obtain ⟨fl15, h⟩ := h
  exact w_X4_drainsOf_7 hA_a1 fl15 h hT hG
theorem c_X4_drainsOf {t : Nat} {ad : Nat → Nat} {G0 : Wd} {a1 : Nat} (hA_a1 : (a1, 0, 844) ∈ twA) {Q : Int → Tw → Prop} {w : Tw} {G : Wd} (h : f_X4_drainsOf a1 w Q) (hT : TwAt t ad w (G 2)) (hG : ∀ r, r ≠ 2 → G r = G0 r) : call yX4_drainsOf (Cond.code yX4_drainsOf cX4_drainsOf 3 (some .int)) 8 0 0 [vR (some t), vR (some (ad a1))] G (twQ t ad G0 (uI Q)) noX :=
  call.enter (by decide +kernel) (la_1 c1R (la_1 c1R (la_nil rfl))) rfl (w_X4_drainsOf hA_a1 h hT hG)
abbrev m_X4_would : Mt := (yX4_would.cls, cX4_would, 3, some .int, [], yX4_would.name)
theorem yo_X4_would : yOK yX4_would 1 := ⟨by decide +kernel, by decide +kernel, by decide +kernel⟩
def f_X4_would_73 (l1 : Int) (s1 : Bool) (w : Tw) (Q : Int → Tw → Prop) : Prop :=
  f_X4_flag s1 w (fun x19 w18 => ok32 x19 (f_X4_enters x19 w18 (fun w20 => rdA w20 21 844 (828 + l1) (fun _ => Q (w20 21 (828 + l1)) w20))))
theorem w_X4_would_73 {t : Nat} {ad : Nat → Nat} {G0 : Wd} {Q : Int → Tw → Prop} {l1 : Int} {s1 : Bool} {w : Tw} {G : Wd} (h : f_X4_would_73 l1 s1 w Q) (hT : TwAt t ad w (G 2)) (hG : ∀ r, r ≠ 2 → G r = G0 r) : wp m_X4_would 9 0 0 73 [some (vR (some t)), some (vI l1), none] [vB s1, vR (some t)] G (twQ t ad G0 (uI Q)) noX := by
  unfold f_X4_would_73 at h
  refine r_callS dX4_would_73 (c_X4_flag h hT hG) q2162 q2163 q117 q2164 yo_X4_flag rfl (by decide) (by decide) rfl (rc1 c1R rc0) (by decide) (Nat.le_refl _) (Nat.le_refl _) (tofI fun x19 w18 G h hT hG => ?_) nox
  refine r_i2l dX4_would_76 h (fun h => ?_)
  refine r_callV dX4_would_77 (tisC hT) (c_X4_enters h hT hG) q2536 q2538 qs71 q117 q2539 rfl yo_X4_enters rfl (by decide) (by decide) rfl rc0 (by decide) (Nat.le_refl _) (Nat.le_refl _) (tofV fun w20 G h hT hG => ?_) nox
  refine r_aload_n dX4_would_80 rfl rfl iR ?_
  refine t_getA (j := 21) hT dX4_would_81 (fg1 (f := 21) fX4 (by decide) q2242 rfl) rfl ?_
  refine r_sipush dX4_would_84 (by decide) ?_
  refine r_iload_n dX4_would_87 rfl rfl iI ?_
  refine r_iadd dX4_would_88 ?_
  refine t_iald hT dX4_would_89 tA21 (by decide) h (fun h => ?_)
  exact r_iret rfl dX4_would_90 ⟨_, hT, hG, _, rfl, h⟩
def f_X4_would_25_b (k25 : Int → Int → Tw → Prop) (l1 : Int) (l2 : Int) (w : Tw) (Q : Int → Tw → Prop) : Prop :=
  br l2 (w 14 0) ((w 14 0) ≤ l2) (f_X4_drainsOf 21 w (fun x22 w21 => tS w21 1 0 0 (fun w23 => br0 x22 (x22 < 0) (f_X4_would_73 l1 false w23 Q) (f_X4_would_73 l1 true w23 Q)))) (f_X4_ringsOne 21 l2 w (fun x25 w24 => k25 l1 (l2 + 1) w24))
theorem w_X4_would_25_b {t : Nat} {ad : Nat → Nat} {G0 : Wd} {Q : Int → Tw → Prop} {k25 : Int → Int → Tw → Prop} (hk25 : ∀ {l1 : Int} {l2 : Int} {w : Tw} {G : Wd}, k25 l1 l2 w → TwAt t ad w (G 2) → (∀ r, r ≠ 2 → G r = G0 r) → wp m_X4_would 9 0 0 25 [some (vR (some t)), some (vI l1), some (vI l2)] [] G (twQ t ad G0 (uI Q)) noX) {l1 : Int} {l2 : Int} {w : Tw} {G : Wd} (h : f_X4_would_25_b k25 l1 l2 w Q) (hT : TwAt t ad w (G 2)) (hG : ∀ r, r ≠ 2 → G r = G0 r) : wp m_X4_would 9 0 0 25 [some (vR (some t)), some (vI l1), some (vI l2)] [] G (twQ t ad G0 (uI Q)) noX := by
  unfold f_X4_would_25_b at h
  refine r_iload_n dX4_would_25 rfl rfl iI ?_
  refine r_aload_n dX4_would_26 rfl rfl iR ?_
  refine t_getI (j := 14) hT dX4_would_27 (fg1 (f := 14) fX4 (by decide) q2235 rfl) rfl ?_
  refine r_icmp_ge (tgt := 49) dX4_would_30 (by decide) h (fun h => ?_) (fun h => ?_)
  · refine r_aload_n dX4_would_49 rfl rfl iR ?_
    refine r_aload_n dX4_would_50 rfl rfl iR ?_
    refine t_getA (j := 21) hT dX4_would_51 (fg1 (f := 21) fX4 (by decide) q2242 rfl) rfl ?_
    refine r_callV dX4_would_54 (tisC hT) (c_X4_drainsOf tA21 h hT hG) q2651 q2653 qs81 q117 q2654 rfl yo_X4_drainsOf rfl (by decide) (by decide) rfl rc0 (by decide) (Nat.le_refl _) (Nat.le_refl _) (tofI fun x22 w21 G h hT hG => ?_) nox
    refine r_istore_n (L' := [some (vR (some t)), some (vI l1), some (vI x22)]) dX4_would_57 rfl rfl iI cI (by decide) ?_
    refine r_aload_n dX4_would_58 rfl rfl iR ?_
    refine r_iconst dX4_would_59 ?_
    refine t_put (j := 1) hT hG dX4_would_60 (fp1 (f := 1) fX4 (by decide) q2222 rfl rfl rfl) tF1 (by decide) h (fun w23 G h hT hG => ?_)
    refine r_aload_n dX4_would_63 rfl rfl iR ?_
    refine r_iload_n dX4_would_64 rfl rfl iI ?_
    refine r_if_lt (tgt := 72) dX4_would_65 (by decide) h (fun h => ?_) (fun h => ?_)
    · refine r_iconst dX4_would_72 ?_
      refine wp.cast (st' := [vB false, vR (some t)]) rfl (congrArg (fun q => [q, vR (some t)]) vI0) ?_
      refine wp.locals (L' := [some (vR (some t)), some (vI l1), none]) (ls_s (ls_s (ls_n ls_0))) ?_
      exact w_X4_would_73 h hT hG
    · refine r_iconst dX4_would_68 ?_
      refine r_goto (tgt := 73) dX4_would_69 (by decide) ?_
      refine wp.cast (st' := [vB true, vR (some t)]) rfl (congrArg (fun q => [q, vR (some t)]) vI1) ?_
      refine wp.locals (L' := [some (vR (some t)), some (vI l1), none]) (ls_s (ls_s (ls_n ls_0))) ?_
      exact w_X4_would_73 h hT hG
  · refine r_aload_n dX4_would_33 rfl rfl iR ?_
    refine r_aload_n dX4_would_34 rfl rfl iR ?_
    refine t_getA (j := 21) hT dX4_would_35 (fg1 (f := 21) fX4 (by decide) q2242 rfl) rfl ?_
    refine r_iload_n dX4_would_38 rfl rfl iI ?_
    refine r_callV dX4_would_39 (tisC hT) (c_X4_ringsOne tA21 h hT hG) q2458 q2460 qs58 q117 q2461 rfl yo_X4_ringsOne rfl (by decide) (by decide) rfl rc0 (by decide) (Nat.le_refl _) (Nat.le_refl _) (tofI fun x25 w24 G h hT hG => ?_) nox
    refine r_pop dX4_would_42 c1I ?_
    refine r_iinc (L' := [some (vR (some t)), some (vI l1), some (vI (l2 + 1))]) dX4_would_43 rfl rfl cI (by decide) ?_
    refine r_goto (tgt := 25) dX4_would_46 (by decide) ?_
    exact hk25 h hT hG
def f_X4_would_25 (Q : Int → Tw → Prop) : Nat → Int → Int → Tw → Prop
  | 0, _, _, _ => False
  | fl + 1, l1, l2, w => f_X4_would_25_b    (fun l1 l2 w => f_X4_would_25    Q fl l1 l2 w) l1 l2 w Q
theorem w_X4_would_25 {t : Nat} {ad : Nat → Nat} {G0 : Wd} {Q : Int → Tw → Prop} : ∀ (fl : Nat) {l1 : Int} {l2 : Int} {w : Tw} {G : Wd}, f_X4_would_25 Q fl l1 l2 w → TwAt t ad w (G 2) → (∀ r, r ≠ 2 → G r = G0 r) → wp m_X4_would 9 0 0 25 [some (vR (some t)), some (vI l1), some (vI l2)] [] G (twQ t ad G0 (uI Q)) noX := by
  intro fl
  induction fl with
  | zero => intro l1 l2 w G h; exact (show False from h).elim
  | succ fl ih => intro l1 l2 w G h hT hG; exact w_X4_would_25_b   (fun h hT hG => ih h hT hG) h hT hG
def f_X4_would (a1 : Int) (w : Tw) (Q : Int → Tw → Prop) : Prop :=
  tS w 0 0 0 (fun w26 => ok32 a1 (f_X4_in a1 0 9 w26 (fun x28 w27 => brB x28 (f_X4_copies  w27 (fun w29 => ∃ fl30, f_X4_would_25 Q fl30 a1 0 w29)) (Q (-1) w27))))
theorem w_X4_would {t : Nat} {ad : Nat → Nat} {G0 : Wd} {Q : Int → Tw → Prop} {a1 : Int} {w : Tw} {G : Wd} (h : f_X4_would a1 w Q) (hT : TwAt t ad w (G 2)) (hG : ∀ r, r ≠ 2 → G r = G0 r) : wp m_X4_would 9 0 0 0 [some (vR (some t)), some (vI a1), none] [] G (twQ t ad G0 (uI Q)) noX := by
  unfold f_X4_would at h
  refine r_aload_n dX4_would_0 rfl rfl iR ?_
  refine r_iconst dX4_would_1 ?_
  refine t_put (j := 0) hT hG dX4_would_2 (fp1 (f := 0) fX4 (by decide) q2221 rfl rfl rfl) tF0 (by decide) h (fun w26 G h hT hG => ?_)
  refine r_iload_n dX4_would_5 rfl rfl iI ?_
  refine r_i2l dX4_would_6 h (fun h => ?_)
  refine r_lconst (y := 0) dX4_would_7 (by decide) ?_
  refine r_ldc2 (x := 9) dX4_would_8 q2408 (by decide) ?_
  refine r_callS dX4_would_11 (c_X4_in h hT hG) q2133 q2134 q117 q2135 yo_X4_in rfl (by decide) (by decide) rfl rc0 (by decide) (Nat.le_refl _) (Nat.le_refl _) (tofB fun x28 w27 G h hT hG => ?_) nox
  refine r_ifZ_ne (tgt := 19) dX4_would_14 (by decide) h (fun h => ?_) (fun h => ?_)
  · refine r_aload_n dX4_would_19 rfl rfl iR ?_
    refine r_callV dX4_would_20 (tisC hT) (c_X4_copies h hT hG) q2635 q2637 qs80 q117 q2638 rfl yo_X4_copies rfl (by decide) (by decide) rfl rc0 (by decide) (Nat.le_refl _) (Nat.le_refl _) (tofV fun w29 G h hT hG => ?_) nox
    refine r_iconst dX4_would_23 ?_
    refine r_istore_n (L' := [some (vR (some t)), some (vI a1), some (vI 0)]) dX4_would_24 rfl rfl iI cI (by decide) ?_
    obtain ⟨fl30, h⟩ := h
    exact w_X4_would_25 fl30 h hT hG
  · refine r_iconst dX4_would_17 ?_
    exact r_iret rfl dX4_would_18 ⟨_, hT, hG, _, rfl, h⟩
theorem c_X4_would {t : Nat} {ad : Nat → Nat} {G0 : Wd} {a1 : Int} {Q : Int → Tw → Prop} {w : Tw} {G : Wd} (h : f_X4_would a1 w Q) (hT : TwAt t ad w (G 2)) (hG : ∀ r, r ≠ 2 → G r = G0 r) : call yX4_would (Cond.code yX4_would cX4_would 3 (some .int)) 9 0 0 [vR (some t), vI a1] G (twQ t ad G0 (uI Q)) noX :=
  call.enter (by decide +kernel) (la_1 c1R (la_1 c1I (la_nil rfl))) rfl (w_X4_would  h hT hG)
abbrev m_X4_drainsBy : Mt := (yX4_drainsBy.cls, cX4_drainsBy, 2, some .int, [], yX4_drainsBy.name)
theorem yo_X4_drainsBy : yOK yX4_drainsBy 0 := ⟨by decide +kernel, by decide +kernel, by decide +kernel⟩
def f_X4_drainsBy (w : Tw) (Q : Int → Tw → Prop) : Prop :=
  f_X4_copies  w (fun w4 => f_X4_drainsOf 21 w4 (fun x6 w5 => br0 x6 (0 ≤ x6) (Q x6 w5) (Q 100 w5)))
theorem w_X4_drainsBy {t : Nat} {ad : Nat → Nat} {G0 : Wd} {Q : Int → Tw → Prop} {w : Tw} {G : Wd} (h : f_X4_drainsBy w Q) (hT : TwAt t ad w (G 2)) (hG : ∀ r, r ≠ 2 → G r = G0 r) : wp m_X4_drainsBy 9 0 0 0 [some (vR (some t)), none] [] G (twQ t ad G0 (uI Q)) noX := by
  unfold f_X4_drainsBy at h
  refine r_aload_n dX4_drainsBy_0 rfl rfl iR ?_
  refine r_callV dX4_drainsBy_1 (tisC hT) (c_X4_copies h hT hG) q2635 q2637 qs80 q117 q2638 rfl yo_X4_copies rfl (by decide) (by decide) rfl rc0 (by decide) (Nat.le_refl _) (Nat.le_refl _) (tofV fun w4 G h hT hG => ?_) nox
  refine r_aload_n dX4_drainsBy_4 rfl rfl iR ?_
  refine r_aload_n dX4_drainsBy_5 rfl rfl iR ?_
  refine t_getA (j := 21) hT dX4_drainsBy_6 (fg1 (f := 21) fX4 (by decide) q2242 rfl) rfl ?_
  refine r_callV dX4_drainsBy_9 (tisC hT) (c_X4_drainsOf tA21 h hT hG) q2651 q2653 qs81 q117 q2654 rfl yo_X4_drainsOf rfl (by decide) (by decide) rfl rc0 (by decide) (Nat.le_refl _) (Nat.le_refl _) (tofI fun x6 w5 G h hT hG => ?_) nox
  refine r_istore_n (L' := [some (vR (some t)), some (vI x6)]) dX4_drainsBy_12 rfl rfl iI cR (by decide) ?_
  refine r_iload_n dX4_drainsBy_13 rfl rfl iI ?_
  refine r_if_ge (tgt := 22) dX4_drainsBy_14 (by decide) h (fun h => ?_) (fun h => ?_)
  · refine r_iload_n dX4_drainsBy_22 rfl rfl iI ?_
    exact r_iret rfl dX4_drainsBy_23 ⟨_, hT, hG, _, rfl, h⟩
  · refine r_bipush dX4_drainsBy_17 (by decide) ?_
    refine r_goto (tgt := 23) dX4_drainsBy_19 (by decide) ?_
    exact r_iret rfl dX4_drainsBy_23 ⟨_, hT, hG, _, rfl, h⟩
theorem c_X4_drainsBy {t : Nat} {ad : Nat → Nat} {G0 : Wd} {Q : Int → Tw → Prop} {w : Tw} {G : Wd} (h : f_X4_drainsBy w Q) (hT : TwAt t ad w (G 2)) (hG : ∀ r, r ≠ 2 → G r = G0 r) : call yX4_drainsBy (Cond.code yX4_drainsBy cX4_drainsBy 2 (some .int)) 9 0 0 [vR (some t)] G (twQ t ad G0 (uI Q)) noX :=
  call.enter (by decide +kernel) (la_1 c1R (la_nil rfl)) rfl (w_X4_drainsBy  h hT hG)
abbrev m_X4_drawnAct : Mt := (yX4_drawnAct.cls, cX4_drawnAct, 5, some .boolean, [], yX4_drawnAct.name)
theorem yo_X4_drawnAct : yOK yX4_drawnAct 2 := ⟨by decide +kernel, by decide +kernel, by decide +kernel⟩
def f_X4_drawnAct (a1 : Int) (a2 : Int) (w : Tw) (Q : Bool → Tw → Prop) : Prop :=
  ok32 a1 (swc a1 2 (f_X4_ringsOne 21 a2 w (fun x19 w18 => Q false w18)) (swc a1 3 (f_X4_tickGoes 21 w (fun w20 => Q false w20)) (swc a1 4 (f_X4_takesOne 21 a2 w (fun x22 w21 => br0 x22 (x22 < 0) (Q false w21) (Q true w21))) (swc a1 5 (f_X4_draws 16 w (fun x24 w23 => f_X4_callsOne 21 a2 x24 w23 (fun x26 w25 => Q false w25))) (f_X4_draws 5 w (fun x28 w27 => f_X4_draws 10 w27 (fun x30 w29 => f_X4_draws 100 w29 (fun x32 w31 => f_X4_putsOne 21 a2 x28 x30 x32 w31 (fun x34 w33 => Q false w33)))))))))
theorem w_X4_drawnAct {t : Nat} {ad : Nat → Nat} {G0 : Wd} {Q : Bool → Tw → Prop} {a1 : Int} {a2 : Int} {w : Tw} {G : Wd} (h : f_X4_drawnAct a1 a2 w Q) (hT : TwAt t ad w (G 2)) (hG : ∀ r, r ≠ 2 → G r = G0 r) : wp m_X4_drawnAct 8 0 0 0 [some (vR (some t)), some (vI a1), some (vI a2), none, none] [] G (twQ t ad G0 (uB Q)) noX := by
  unfold f_X4_drawnAct at h
  refine r_iload_n dX4_drawnAct_0 rfl rfl iI ?_
  obtain ⟨hr, h⟩ := h
  refine r_swc h (fun e2 h => ?_) (fun e2 h => ?_)
  · refine r_tsIn (tgt := 32) dX4_drawnAct_1 hr e2 (by decide) (by decide) rfl (by decide) ?_
    refine r_aload_n dX4_drawnAct_32 rfl rfl iR ?_
    refine r_aload_n dX4_drawnAct_33 rfl rfl iR ?_
    refine t_getA (j := 21) hT dX4_drawnAct_34 (fg1 (f := 21) fX4 (by decide) q2242 rfl) rfl ?_
    refine r_iload_n dX4_drawnAct_37 rfl rfl iI ?_
    refine r_callV dX4_drawnAct_38 (tisC hT) (c_X4_ringsOne tA21 h hT hG) q2458 q2460 qs58 q117 q2461 rfl yo_X4_ringsOne rfl (by decide) (by decide) rfl rc0 (by decide) (Nat.le_refl _) (Nat.le_refl _) (tofI fun x19 w18 G h hT hG => ?_) nox
    refine r_pop dX4_drawnAct_41 c1I ?_
    refine r_iconst dX4_drawnAct_42 ?_
    refine wp.cast (st' := [vB false]) rfl (congrArg (fun q => [q]) vI0) ?_
    exact r_zret rfl dX4_drawnAct_43 ⟨_, hT, hG, _, rfl, h⟩
  · refine r_swc h (fun e3 h => ?_) (fun e3 h => ?_)
    · refine r_tsIn (tgt := 44) dX4_drawnAct_1 hr e3 (by decide) (by decide) rfl (by decide) ?_
      refine r_aload_n dX4_drawnAct_44 rfl rfl iR ?_
      refine r_aload_n dX4_drawnAct_45 rfl rfl iR ?_
      refine t_getA (j := 21) hT dX4_drawnAct_46 (fg1 (f := 21) fX4 (by decide) q2242 rfl) rfl ?_
      refine r_callV dX4_drawnAct_49 (tisC hT) (c_X4_tickGoes tA21 h hT hG) q2471 q2473 qs60 q117 q2474 rfl yo_X4_tickGoes rfl (by decide) (by decide) rfl rc0 (by decide) (Nat.le_refl _) (Nat.le_refl _) (tofV fun w20 G h hT hG => ?_) nox
      refine r_iconst dX4_drawnAct_52 ?_
      refine wp.cast (st' := [vB false]) rfl (congrArg (fun q => [q]) vI0) ?_
      exact r_zret rfl dX4_drawnAct_53 ⟨_, hT, hG, _, rfl, h⟩
    · refine r_swc h (fun e4 h => ?_) (fun e4 h => ?_)
      · refine r_tsIn (tgt := 54) dX4_drawnAct_1 hr e4 (by decide) (by decide) rfl (by decide) ?_
        refine r_aload_n dX4_drawnAct_54 rfl rfl iR ?_
        refine r_aload_n dX4_drawnAct_55 rfl rfl iR ?_
        refine t_getA (j := 21) hT dX4_drawnAct_56 (fg1 (f := 21) fX4 (by decide) q2242 rfl) rfl ?_
        refine r_iload_n dX4_drawnAct_59 rfl rfl iI ?_
        refine r_callV dX4_drawnAct_60 (tisC hT) (c_X4_takesOne tA21 h hT hG) q2544 q2546 qs72 q117 q2547 rfl yo_X4_takesOne rfl (by decide) (by decide) rfl rc0 (by decide) (Nat.le_refl _) (Nat.le_refl _) (tofI fun x22 w21 G h hT hG => ?_) nox
        refine r_if_lt (tgt := 70) dX4_drawnAct_63 (by decide) h (fun h => ?_) (fun h => ?_)
        · refine r_iconst dX4_drawnAct_70 ?_
          refine wp.cast (st' := [vB false]) rfl (congrArg (fun q => [q]) vI0) ?_
          exact r_zret rfl dX4_drawnAct_71 ⟨_, hT, hG, _, rfl, h⟩
        · refine r_iconst dX4_drawnAct_66 ?_
          refine r_goto (tgt := 71) dX4_drawnAct_67 (by decide) ?_
          refine wp.cast (st' := [vB true]) rfl (congrArg (fun q => [q]) vI1) ?_
          exact r_zret rfl dX4_drawnAct_71 ⟨_, hT, hG, _, rfl, h⟩
      · refine r_swc h (fun e5 h => ?_) (fun e5 h => ?_)
        · refine r_tsIn (tgt := 72) dX4_drawnAct_1 hr e5 (by decide) (by decide) rfl (by decide) ?_
          refine r_aload_n dX4_drawnAct_72 rfl rfl iR ?_
          refine r_aload_n dX4_drawnAct_73 rfl rfl iR ?_
          refine t_getA (j := 21) hT dX4_drawnAct_74 (fg1 (f := 21) fX4 (by decide) q2242 rfl) rfl ?_
          refine r_iload_n dX4_drawnAct_77 rfl rfl iI ?_
          refine r_aload_n dX4_drawnAct_78 rfl rfl iR ?_
          refine r_bipush dX4_drawnAct_79 (by decide) ?_
          refine r_callV dX4_drawnAct_81 (tisC hT) (c_X4_draws h hT hG) q2737 q2739 qs89 q117 q2740 rfl yo_X4_draws rfl (by decide) (by decide) rfl (rc1 c1I (rc1 c1R (rc1 c1R rc0))) (by decide) (Nat.le_refl _) (Nat.le_refl _) (tofI fun x24 w23 G h hT hG => ?_) nox
          refine r_callV dX4_drawnAct_84 (tisC hT) (c_X4_callsOne tA21 h hT hG) q2552 q2554 qs73 q117 q2555 rfl yo_X4_callsOne rfl (by decide) (by decide) rfl rc0 (by decide) (Nat.le_refl _) (Nat.le_refl _) (tofI fun x26 w25 G h hT hG => ?_) nox
          refine r_pop dX4_drawnAct_87 c1I ?_
          refine r_iconst dX4_drawnAct_88 ?_
          refine wp.cast (st' := [vB false]) rfl (congrArg (fun q => [q]) vI0) ?_
          exact r_zret rfl dX4_drawnAct_89 ⟨_, hT, hG, _, rfl, h⟩
        · refine r_tsOut (tgt := 90) dX4_drawnAct_1 hr (by omega) (by decide) ?_
          refine r_aload_n dX4_drawnAct_90 rfl rfl iR ?_
          refine r_iconst dX4_drawnAct_91 ?_
          refine r_callV dX4_drawnAct_92 (tisC hT) (c_X4_draws h hT hG) q2737 q2739 qs89 q117 q2740 rfl yo_X4_draws rfl (by decide) (by decide) rfl rc0 (by decide) (Nat.le_refl _) (Nat.le_refl _) (tofI fun x28 w27 G h hT hG => ?_) nox
          refine r_istore_n (L' := [some (vR (some t)), some (vI a1), some (vI a2), some (vI x28), none]) dX4_drawnAct_95 rfl rfl iI cI (by decide) ?_
          refine r_aload_n dX4_drawnAct_96 rfl rfl iR ?_
          refine r_bipush dX4_drawnAct_97 (by decide) ?_
          refine r_callV dX4_drawnAct_99 (tisC hT) (c_X4_draws h hT hG) q2737 q2739 qs89 q117 q2740 rfl yo_X4_draws rfl (by decide) (by decide) rfl rc0 (by decide) (Nat.le_refl _) (Nat.le_refl _) (tofI fun x30 w29 G h hT hG => ?_) nox
          refine r_istore (L' := [some (vR (some t)), some (vI a1), some (vI a2), some (vI x28), some (vI x30)]) dX4_drawnAct_102 rfl iI cI (by decide) ?_
          refine r_aload_n dX4_drawnAct_104 rfl rfl iR ?_
          refine r_aload_n dX4_drawnAct_105 rfl rfl iR ?_
          refine t_getA (j := 21) hT dX4_drawnAct_106 (fg1 (f := 21) fX4 (by decide) q2242 rfl) rfl ?_
          refine r_iload_n dX4_drawnAct_109 rfl rfl iI ?_
          refine r_iload_n dX4_drawnAct_110 rfl rfl iI ?_
          refine r_iload dX4_drawnAct_111 rfl iI ?_
          refine r_aload_n dX4_drawnAct_113 rfl rfl iR ?_
          refine r_bipush dX4_drawnAct_114 (by decide) ?_
          refine r_callV dX4_drawnAct_116 (tisC hT) (c_X4_draws h hT hG) q2737 q2739 qs89 q117 q2740 rfl yo_X4_draws rfl (by decide) (by decide) rfl (rc1 c1I (rc1 c1I (rc1 c1I (rc1 c1R (rc1 c1R rc0))))) (by decide) (Nat.le_refl _) (Nat.le_refl _) (tofI fun x32 w31 G h hT hG => ?_) nox
          refine r_callV dX4_drawnAct_119 (tisC hT) (c_X4_putsOne tA21 h hT hG) q2403 q2405 qs55 q117 q2406 rfl yo_X4_putsOne rfl (by decide) (by decide) rfl rc0 (by decide) (Nat.le_refl _) (Nat.le_refl _) (tofI fun x34 w33 G h hT hG => ?_) nox
          refine r_pop dX4_drawnAct_122 c1I ?_
          refine r_iconst dX4_drawnAct_123 ?_
          refine wp.cast (st' := [vB false]) rfl (congrArg (fun q => [q]) vI0) ?_
          exact r_zret rfl dX4_drawnAct_124 ⟨_, hT, hG, _, rfl, h⟩
theorem c_X4_drawnAct {t : Nat} {ad : Nat → Nat} {G0 : Wd} {a1 : Int} {a2 : Int} {Q : Bool → Tw → Prop} {w : Tw} {G : Wd} (h : f_X4_drawnAct a1 a2 w Q) (hT : TwAt t ad w (G 2)) (hG : ∀ r, r ≠ 2 → G r = G0 r) : call yX4_drawnAct (Cond.code yX4_drawnAct cX4_drawnAct 5 (some .boolean)) 8 0 0 [vR (some t), vI a1, vI a2] G (twQ t ad G0 (uB Q)) noX :=
  call.enter (by decide +kernel) (la_1 c1R (la_1 c1I (la_1 c1I (la_nil rfl)))) rfl (w_X4_drawnAct  h hT hG)
abbrev m_X4_puts : Mt := (yX4_puts.cls, cX4_puts, 5, some .int, [], yX4_puts.name)
theorem yo_X4_puts : yOK yX4_puts 4 := ⟨by decide +kernel, by decide +kernel, by decide +kernel⟩
def f_X4_puts (a1 : Int) (a2 : Int) (a3 : Int) (a4 : Int) (w : Tw) (Q : Int → Tw → Prop) : Prop :=
  tS w 0 0 0 (fun w7 => f_X4_putsBy  w7 (fun w8 => f_X4_putsOne 20 a1 a2 a3 a4 w8 (fun x10 w9 => f_X4_counted x10 w9 (fun x12 w11 => Q x12 w11))))
theorem w_X4_puts {t : Nat} {ad : Nat → Nat} {G0 : Wd} {Q : Int → Tw → Prop} {a1 : Int} {a2 : Int} {a3 : Int} {a4 : Int} {w : Tw} {G : Wd} (h : f_X4_puts a1 a2 a3 a4 w Q) (hT : TwAt t ad w (G 2)) (hG : ∀ r, r ≠ 2 → G r = G0 r) : wp m_X4_puts 7 0 0 0 [some (vR (some t)), some (vI a1), some (vI a2), some (vI a3), some (vI a4)] [] G (twQ t ad G0 (uI Q)) noX := by
  unfold f_X4_puts at h
  refine r_aload_n dX4_puts_0 rfl rfl iR ?_
  refine r_iconst dX4_puts_1 ?_
  refine t_put (j := 0) hT hG dX4_puts_2 (fp1 (f := 0) fX4 (by decide) q2221 rfl rfl rfl) tF0 (by decide) h (fun w7 G h hT hG => ?_)
  refine r_aload_n dX4_puts_5 rfl rfl iR ?_
  refine r_callV dX4_puts_6 (tisC hT) (c_X4_putsBy h hT hG) q2399 q2401 qs54 q117 q2402 rfl yo_X4_putsBy rfl (by decide) (by decide) rfl rc0 (by decide) (Nat.le_refl _) (Nat.le_refl _) (tofV fun w8 G h hT hG => ?_) nox
  refine r_aload_n dX4_puts_9 rfl rfl iR ?_
  refine r_aload_n dX4_puts_10 rfl rfl iR ?_
  refine r_aload_n dX4_puts_11 rfl rfl iR ?_
  refine t_getA (j := 20) hT dX4_puts_12 (fg1 (f := 20) fX4 (by decide) q2241 rfl) rfl ?_
  refine r_iload_n dX4_puts_15 rfl rfl iI ?_
  refine r_iload_n dX4_puts_16 rfl rfl iI ?_
  refine r_iload_n dX4_puts_17 rfl rfl iI ?_
  refine r_iload dX4_puts_18 rfl iI ?_
  refine r_callV dX4_puts_20 (tisC hT) (c_X4_putsOne tA20 h hT hG) q2403 q2405 qs55 q117 q2406 rfl yo_X4_putsOne rfl (by decide) (by decide) rfl (rc1 c1R rc0) (by decide) (Nat.le_refl _) (Nat.le_refl _) (tofI fun x10 w9 G h hT hG => ?_) nox
  refine r_callV dX4_puts_23 (tisC hT) (c_X4_counted h hT hG) q2446 q2448 qs56 q117 q2449 rfl yo_X4_counted rfl (by decide) (by decide) rfl rc0 (by decide) (Nat.le_refl _) (Nat.le_refl _) (tofI fun x12 w11 G h hT hG => ?_) nox
  exact r_iret rfl dX4_puts_26 ⟨_, hT, hG, _, rfl, h⟩
theorem c_X4_puts {t : Nat} {ad : Nat → Nat} {G0 : Wd} {a1 : Int} {a2 : Int} {a3 : Int} {a4 : Int} {Q : Int → Tw → Prop} {w : Tw} {G : Wd} (h : f_X4_puts a1 a2 a3 a4 w Q) (hT : TwAt t ad w (G 2)) (hG : ∀ r, r ≠ 2 → G r = G0 r) : call yX4_puts (Cond.code yX4_puts cX4_puts 5 (some .int)) 7 0 0 [vR (some t), vI a1, vI a2, vI a3, vI a4] G (twQ t ad G0 (uI Q)) noX :=
  call.enter (by decide +kernel) (la_1 c1R (la_1 c1I (la_1 c1I (la_1 c1I (la_1 c1I (la_nil rfl)))))) rfl (w_X4_puts  h hT hG)
abbrev m_X4_ticksGo : Mt := (yX4_ticksGo.cls, cX4_ticksGo, 4, none, [], yX4_ticksGo.name)
theorem yo_X4_ticksGo : yOK yX4_ticksGo 2 := ⟨by decide +kernel, by decide +kernel, by decide +kernel⟩
def f_X4_ticksGo_45 (a1 : Nat) (k17 : Int → Int → Tw → Prop) (l2 : Int) (l3 : Int) (s1 : Int) (s2 : Bool) (w : Tw) (Q : Tw → Prop) : Prop :=
  f_X4_flag s2 w (fun x13 w12 => tS w12 26 0 (s1 + x13) (fun w14 => k17 l2 (l3 + 1) w14))
theorem w_X4_ticksGo_45 {t : Nat} {ad : Nat → Nat} {G0 : Wd} {a1 : Nat} (hA_a1 : (a1, 0, 844) ∈ twA) {Q : Tw → Prop} {k17 : Int → Int → Tw → Prop} (hk17 : ∀ {l2 : Int} {l3 : Int} {w : Tw} {G : Wd}, k17 l2 l3 w → TwAt t ad w (G 2) → (∀ r, r ≠ 2 → G r = G0 r) → wp m_X4_ticksGo 8 0 0 17 [some (vR (some t)), some (vR (some (ad a1))), some (vI l2), some (vI l3)] [] G (twQ t ad G0 (uV Q)) noX) {l2 : Int} {l3 : Int} {s1 : Int} {s2 : Bool} {w : Tw} {G : Wd} (h : f_X4_ticksGo_45 a1 k17 l2 l3 s1 s2 w Q) (hT : TwAt t ad w (G 2)) (hG : ∀ r, r ≠ 2 → G r = G0 r) : wp m_X4_ticksGo 8 0 0 45 [some (vR (some t)), some (vR (some (ad a1))), some (vI l2), some (vI l3)] [vB s2, vI s1, vR (some t)] G (twQ t ad G0 (uV Q)) noX := by
  unfold f_X4_ticksGo_45 at h
  refine r_callS dX4_ticksGo_45 (c_X4_flag h hT hG) q2162 q2163 q117 q2164 yo_X4_flag rfl (by decide) (by decide) rfl (rc1 c1I (rc1 c1R rc0)) (by decide) (Nat.le_refl _) (Nat.le_refl _) (tofI fun x13 w12 G h hT hG => ?_) nox
  refine r_iadd dX4_ticksGo_48 ?_
  refine t_put (j := 26) hT hG dX4_ticksGo_49 (fp1 (f := 26) fX4 (by decide) q2247 rfl rfl rfl) tF26 (by decide) h (fun w14 G h hT hG => ?_)
  refine r_iinc (L' := [some (vR (some t)), some (vR (some (ad a1))), some (vI l2), some (vI (l3 + 1))]) dX4_ticksGo_52 rfl rfl cI (by decide) ?_
  refine r_goto (tgt := 17) dX4_ticksGo_55 (by decide) ?_
  exact hk17 h hT hG
def f_X4_ticksGo_17_b (a1 : Nat) (k17 : Int → Int → Tw → Prop) (l2 : Int) (l3 : Int) (w : Tw) (Q : Tw → Prop) : Prop :=
  br l3 l2 (l2 ≤ l3) (Q w) (f_X4_tickGoes a1 w (fun w15 => rdA w15 a1 844 493 (fun _ => br0 (w15 a1 493) (¬ (w15 a1 493) = 0) (f_X4_ticksGo_45 a1 k17 l2 l3 (w15 26 0) false w15 Q) (f_X4_ticksGo_45 a1 k17 l2 l3 (w15 26 0) true w15 Q))))
theorem w_X4_ticksGo_17_b {t : Nat} {ad : Nat → Nat} {G0 : Wd} {a1 : Nat} (hA_a1 : (a1, 0, 844) ∈ twA) {Q : Tw → Prop} {k17 : Int → Int → Tw → Prop} (hk17 : ∀ {l2 : Int} {l3 : Int} {w : Tw} {G : Wd}, k17 l2 l3 w → TwAt t ad w (G 2) → (∀ r, r ≠ 2 → G r = G0 r) → wp m_X4_ticksGo 8 0 0 17 [some (vR (some t)), some (vR (some (ad a1))), some (vI l2), some (vI l3)] [] G (twQ t ad G0 (uV Q)) noX) {l2 : Int} {l3 : Int} {w : Tw} {G : Wd} (h : f_X4_ticksGo_17_b a1 k17 l2 l3 w Q) (hT : TwAt t ad w (G 2)) (hG : ∀ r, r ≠ 2 → G r = G0 r) : wp m_X4_ticksGo 8 0 0 17 [some (vR (some t)), some (vR (some (ad a1))), some (vI l2), some (vI l3)] [] G (twQ t ad G0 (uV Q)) noX := by
  unfold f_X4_ticksGo_17_b at h
  refine r_iload_n dX4_ticksGo_17 rfl rfl iI ?_
  refine r_iload_n dX4_ticksGo_18 rfl rfl iI ?_
  refine r_icmp_ge (tgt := 58) dX4_ticksGo_19 (by decide) h (fun h => ?_) (fun h => ?_)
  · exact r_vret rfl dX4_ticksGo_58 ⟨_, hT, hG, rfl, h⟩
  · refine r_aload_n dX4_ticksGo_22 rfl rfl iR ?_
    refine r_aload_n dX4_ticksGo_23 rfl rfl iR ?_
    refine r_callV dX4_ticksGo_24 (tisC hT) (c_X4_tickGoes hA_a1 h hT hG) q2471 q2473 qs60 q117 q2474 rfl yo_X4_tickGoes rfl (by decide) (by decide) rfl rc0 (by decide) (Nat.le_refl _) (Nat.le_refl _) (tofV fun w15 G h hT hG => ?_) nox
    refine r_aload_n dX4_ticksGo_27 rfl rfl iR ?_
    refine r_dup dX4_ticksGo_28 c1R ?_
    refine t_getI (j := 26) hT dX4_ticksGo_29 (fg1 (f := 26) fX4 (by decide) q2247 rfl) rfl ?_
    refine r_aload_n dX4_ticksGo_32 rfl rfl iR ?_
    refine r_sipush dX4_ticksGo_33 (by decide) ?_
    refine t_iald hT dX4_ticksGo_36 hA_a1 (by decide) h (fun h => ?_)
    refine r_if_ne (tgt := 44) dX4_ticksGo_37 (by decide) h (fun h => ?_) (fun h => ?_)
    · refine r_iconst dX4_ticksGo_44 ?_
      refine wp.cast (st' := [vB false, vI (w15 26 0), vR (some t)]) rfl (congrArg (fun q => [q, vI (w15 26 0), vR (some t)]) vI0) ?_
      exact w_X4_ticksGo_45 hA_a1 hk17 h hT hG
    · refine r_iconst dX4_ticksGo_40 ?_
      refine r_goto (tgt := 45) dX4_ticksGo_41 (by decide) ?_
      refine wp.cast (st' := [vB true, vI (w15 26 0), vR (some t)]) rfl (congrArg (fun q => [q, vI (w15 26 0), vR (some t)]) vI1) ?_
      exact w_X4_ticksGo_45 hA_a1 hk17 h hT hG
def f_X4_ticksGo_17 (a1 : Nat) (Q : Tw → Prop) : Nat → Int → Int → Tw → Prop
  | 0, _, _, _ => False
  | fl + 1, l2, l3, w => f_X4_ticksGo_17_b  a1  (fun l2 l3 w => f_X4_ticksGo_17  a1  Q fl l2 l3 w) l2 l3 w Q
theorem w_X4_ticksGo_17 {t : Nat} {ad : Nat → Nat} {G0 : Wd} {a1 : Nat} (hA_a1 : (a1, 0, 844) ∈ twA) {Q : Tw → Prop} : ∀ (fl : Nat) {l2 : Int} {l3 : Int} {w : Tw} {G : Wd}, f_X4_ticksGo_17 a1 Q fl l2 l3 w → TwAt t ad w (G 2) → (∀ r, r ≠ 2 → G r = G0 r) → wp m_X4_ticksGo 8 0 0 17 [some (vR (some t)), some (vR (some (ad a1))), some (vI l2), some (vI l3)] [] G (twQ t ad G0 (uV Q)) noX := by
  intro fl
  induction fl with
  | zero => intro l2 l3 w G h; exact (show False from h).elim
  | succ fl ih => intro l2 l3 w G h hT hG; exact w_X4_ticksGo_17_b hA_a1  (fun h hT hG => ih h hT hG) h hT hG
def f_X4_ticksGo (a1 : Nat) (a2 : Int) (w : Tw) (Q : Tw → Prop) : Prop :=
  tS w 24 0 0 (fun w16 => tS w16 25 0 0 (fun w17 => tS w17 26 0 0 (fun w18 => ∃ fl19, f_X4_ticksGo_17 a1 Q fl19 a2 0 w18)))
theorem w_X4_ticksGo {t : Nat} {ad : Nat → Nat} {G0 : Wd} {a1 : Nat} (hA_a1 : (a1, 0, 844) ∈ twA) {Q : Tw → Prop} {a2 : Int} {w : Tw} {G : Wd} (h : f_X4_ticksGo a1 a2 w Q) (hT : TwAt t ad w (G 2)) (hG : ∀ r, r ≠ 2 → G r = G0 r) : wp m_X4_ticksGo 8 0 0 0 [some (vR (some t)), some (vR (some (ad a1))), some (vI a2), none] [] G (twQ t ad G0 (uV Q)) noX := by
  unfold f_X4_ticksGo at h
  refine r_aload_n dX4_ticksGo_0 rfl rfl iR ?_
  refine r_iconst dX4_ticksGo_1 ?_
  refine t_put (j := 24) hT hG dX4_ticksGo_2 (fp1 (f := 24) fX4 (by decide) q2245 rfl rfl rfl) tF24 (by decide) h (fun w16 G h hT hG => ?_)
  refine r_aload_n dX4_ticksGo_5 rfl rfl iR ?_
  refine r_iconst dX4_ticksGo_6 ?_
  refine t_put (j := 25) hT hG dX4_ticksGo_7 (fp1 (f := 25) fX4 (by decide) q2246 rfl rfl rfl) tF25 (by decide) h (fun w17 G h hT hG => ?_)
  refine r_aload_n dX4_ticksGo_10 rfl rfl iR ?_
  refine r_iconst dX4_ticksGo_11 ?_
  refine t_put (j := 26) hT hG dX4_ticksGo_12 (fp1 (f := 26) fX4 (by decide) q2247 rfl rfl rfl) tF26 (by decide) h (fun w18 G h hT hG => ?_)
  refine r_iconst dX4_ticksGo_15 ?_
  refine r_istore_n (L' := [some (vR (some t)), some (vR (some (ad a1))), some (vI a2), some (vI 0)]) dX4_ticksGo_16 rfl rfl iI cI (by decide) ?_
  obtain ⟨fl19, h⟩ := h
  exact w_X4_ticksGo_17 hA_a1 fl19 h hT hG
theorem c_X4_ticksGo {t : Nat} {ad : Nat → Nat} {G0 : Wd} {a1 : Nat} {a2 : Int} (hA_a1 : (a1, 0, 844) ∈ twA) {Q : Tw → Prop} {w : Tw} {G : Wd} (h : f_X4_ticksGo a1 a2 w Q) (hT : TwAt t ad w (G 2)) (hG : ∀ r, r ≠ 2 → G r = G0 r) : call yX4_ticksGo (Cond.code yX4_ticksGo cX4_ticksGo 4 (none)) 8 0 0 [vR (some t), vR (some (ad a1)), vI a2] G (twQ t ad G0 (uV Q)) noX :=
  call.enter (by decide +kernel) (la_1 c1R (la_1 c1R (la_1 c1I (la_nil rfl)))) rfl (w_X4_ticksGo hA_a1 h hT hG)
abbrev m_X4_does : Mt := (yX4_does.cls, cX4_does, 3, some .int, [], yX4_does.name)
theorem yo_X4_does : yOK yX4_does 1 := ⟨by decide +kernel, by decide +kernel, by decide +kernel⟩
def f_X4_does (a1 : Int) (w : Tw) (Q : Int → Tw → Prop) : Prop :=
  rdA w 28 80 a1 (fun _ => rdA w 27 80 a1 (fun _ => ok32 (w 27 a1) (swc (w 27 a1) 0 (f_X4_resetsAll 20 false w (fun x13 w12 => Q x13 w12)) (swc (w 27 a1) 1 (f_X4_ringsOne 20 (w 28 a1) w (fun x15 w14 => Q x15 w14)) (swc (w 27 a1) 2 (f_X4_ticksGo 20 (w 28 a1) w (fun w16 => Q 0 w16)) (swc (w 27 a1) 3 (f_X4_takesOne 20 (w 28 a1) w (fun x18 w17 => Q x18 w17)) (swc (w 27 a1) 4 (rdA w 29 80 a1 (fun _ => f_X4_callsOne 20 (w 28 a1) (w 29 a1) w (fun x20 w19 => Q x20 w19))) (rdA w 29 80 a1 (fun _ => rdA w 30 80 a1 (fun _ => rdA w 31 80 a1 (fun _ => f_X4_putsOne 20 (w 28 a1) (w 29 a1) (w 30 a1) (w 31 a1) w (fun x22 w21 => Q x22 w21))))))))))))
theorem w_X4_does {t : Nat} {ad : Nat → Nat} {G0 : Wd} {Q : Int → Tw → Prop} {a1 : Int} {w : Tw} {G : Wd} (h : f_X4_does a1 w Q) (hT : TwAt t ad w (G 2)) (hG : ∀ r, r ≠ 2 → G r = G0 r) : wp m_X4_does 9 0 0 0 [some (vR (some t)), some (vI a1), none] [] G (twQ t ad G0 (uI Q)) noX := by
  unfold f_X4_does at h
  refine r_aload_n dX4_does_0 rfl rfl iR ?_
  refine t_getA (j := 28) hT dX4_does_1 (fg1 (f := 28) fX4 (by decide) q2249 rfl) rfl ?_
  refine r_iload_n dX4_does_4 rfl rfl iI ?_
  refine t_iald hT dX4_does_5 tA28 (by decide) h (fun h => ?_)
  refine r_istore_n (L' := [some (vR (some t)), some (vI a1), some (vI (w 28 a1))]) dX4_does_6 rfl rfl iI cI (by decide) ?_
  refine r_aload_n dX4_does_7 rfl rfl iR ?_
  refine t_getA (j := 27) hT dX4_does_8 (fg1 (f := 27) fX4 (by decide) q2248 rfl) rfl ?_
  refine r_iload_n dX4_does_11 rfl rfl iI ?_
  refine t_iald hT dX4_does_12 tA27 (by decide) h (fun h => ?_)
  obtain ⟨hr, h⟩ := h
  refine r_swc h (fun e0 h => ?_) (fun e0 h => ?_)
  · refine r_tsIn (tgt := 48) dX4_does_13 hr e0 (by decide) (by decide) rfl (by decide) ?_
    refine r_aload_n dX4_does_48 rfl rfl iR ?_
    refine r_aload_n dX4_does_49 rfl rfl iR ?_
    refine t_getA (j := 20) hT dX4_does_50 (fg1 (f := 20) fX4 (by decide) q2241 rfl) rfl ?_
    refine r_iconst dX4_does_53 ?_
    refine wp.cast (st' := [vB false, vR (some (ad 20)), vR (some t)]) rfl (congrArg (fun q => [q, vR (some (ad 20)), vR (some t)]) vI0) ?_
    refine r_callV dX4_does_54 (tisC hT) (c_X4_resetsAll tA20 h hT hG) q2565 q2567 qs75 q117 q2568 rfl yo_X4_resetsAll rfl (by decide) (by decide) rfl rc0 (by decide) (Nat.le_refl _) (Nat.le_refl _) (tofI fun x13 w12 G h hT hG => ?_) nox
    exact r_iret rfl dX4_does_57 ⟨_, hT, hG, _, rfl, h⟩
  · refine r_swc h (fun e1 h => ?_) (fun e1 h => ?_)
    · refine r_tsIn (tgt := 58) dX4_does_13 hr e1 (by decide) (by decide) rfl (by decide) ?_
      refine r_aload_n dX4_does_58 rfl rfl iR ?_
      refine r_aload_n dX4_does_59 rfl rfl iR ?_
      refine t_getA (j := 20) hT dX4_does_60 (fg1 (f := 20) fX4 (by decide) q2241 rfl) rfl ?_
      refine r_iload_n dX4_does_63 rfl rfl iI ?_
      refine r_callV dX4_does_64 (tisC hT) (c_X4_ringsOne tA20 h hT hG) q2458 q2460 qs58 q117 q2461 rfl yo_X4_ringsOne rfl (by decide) (by decide) rfl rc0 (by decide) (Nat.le_refl _) (Nat.le_refl _) (tofI fun x15 w14 G h hT hG => ?_) nox
      exact r_iret rfl dX4_does_67 ⟨_, hT, hG, _, rfl, h⟩
    · refine r_swc h (fun e2 h => ?_) (fun e2 h => ?_)
      · refine r_tsIn (tgt := 68) dX4_does_13 hr e2 (by decide) (by decide) rfl (by decide) ?_
        refine r_aload_n dX4_does_68 rfl rfl iR ?_
        refine r_aload_n dX4_does_69 rfl rfl iR ?_
        refine t_getA (j := 20) hT dX4_does_70 (fg1 (f := 20) fX4 (by decide) q2241 rfl) rfl ?_
        refine r_iload_n dX4_does_73 rfl rfl iI ?_
        refine r_callV dX4_does_74 (tisC hT) (c_X4_ticksGo tA20 h hT hG) q2467 q2469 qs59 q117 q2470 rfl yo_X4_ticksGo rfl (by decide) (by decide) rfl rc0 (by decide) (Nat.le_refl _) (Nat.le_refl _) (tofV fun w16 G h hT hG => ?_) nox
        refine r_iconst dX4_does_77 ?_
        exact r_iret rfl dX4_does_78 ⟨_, hT, hG, _, rfl, h⟩
      · refine r_swc h (fun e3 h => ?_) (fun e3 h => ?_)
        · refine r_tsIn (tgt := 79) dX4_does_13 hr e3 (by decide) (by decide) rfl (by decide) ?_
          refine r_aload_n dX4_does_79 rfl rfl iR ?_
          refine r_aload_n dX4_does_80 rfl rfl iR ?_
          refine t_getA (j := 20) hT dX4_does_81 (fg1 (f := 20) fX4 (by decide) q2241 rfl) rfl ?_
          refine r_iload_n dX4_does_84 rfl rfl iI ?_
          refine r_callV dX4_does_85 (tisC hT) (c_X4_takesOne tA20 h hT hG) q2544 q2546 qs72 q117 q2547 rfl yo_X4_takesOne rfl (by decide) (by decide) rfl rc0 (by decide) (Nat.le_refl _) (Nat.le_refl _) (tofI fun x18 w17 G h hT hG => ?_) nox
          exact r_iret rfl dX4_does_88 ⟨_, hT, hG, _, rfl, h⟩
        · refine r_swc h (fun e4 h => ?_) (fun e4 h => ?_)
          · refine r_tsIn (tgt := 89) dX4_does_13 hr e4 (by decide) (by decide) rfl (by decide) ?_
            refine r_aload_n dX4_does_89 rfl rfl iR ?_
            refine r_aload_n dX4_does_90 rfl rfl iR ?_
            refine t_getA (j := 20) hT dX4_does_91 (fg1 (f := 20) fX4 (by decide) q2241 rfl) rfl ?_
            refine r_iload_n dX4_does_94 rfl rfl iI ?_
            refine r_aload_n dX4_does_95 rfl rfl iR ?_
            refine t_getA (j := 29) hT dX4_does_96 (fg1 (f := 29) fX4 (by decide) q2250 rfl) rfl ?_
            refine r_iload_n dX4_does_99 rfl rfl iI ?_
            refine t_iald hT dX4_does_100 tA29 (by decide) h (fun h => ?_)
            refine r_callV dX4_does_101 (tisC hT) (c_X4_callsOne tA20 h hT hG) q2552 q2554 qs73 q117 q2555 rfl yo_X4_callsOne rfl (by decide) (by decide) rfl rc0 (by decide) (Nat.le_refl _) (Nat.le_refl _) (tofI fun x20 w19 G h hT hG => ?_) nox
            exact r_iret rfl dX4_does_104 ⟨_, hT, hG, _, rfl, h⟩
          · refine r_tsOut (tgt := 105) dX4_does_13 hr (by omega) (by decide) ?_
            refine r_aload_n dX4_does_105 rfl rfl iR ?_
            refine r_aload_n dX4_does_106 rfl rfl iR ?_
            refine t_getA (j := 20) hT dX4_does_107 (fg1 (f := 20) fX4 (by decide) q2241 rfl) rfl ?_
            refine r_iload_n dX4_does_110 rfl rfl iI ?_
            refine r_aload_n dX4_does_111 rfl rfl iR ?_
            refine t_getA (j := 29) hT dX4_does_112 (fg1 (f := 29) fX4 (by decide) q2250 rfl) rfl ?_
            refine r_iload_n dX4_does_115 rfl rfl iI ?_
            refine t_iald hT dX4_does_116 tA29 (by decide) h (fun h => ?_)
            refine r_aload_n dX4_does_117 rfl rfl iR ?_
            refine t_getA (j := 30) hT dX4_does_118 (fg1 (f := 30) fX4 (by decide) q2251 rfl) rfl ?_
            refine r_iload_n dX4_does_121 rfl rfl iI ?_
            refine t_iald hT dX4_does_122 tA30 (by decide) h (fun h => ?_)
            refine r_aload_n dX4_does_123 rfl rfl iR ?_
            refine t_getA (j := 31) hT dX4_does_124 (fg1 (f := 31) fX4 (by decide) q2252 rfl) rfl ?_
            refine r_iload_n dX4_does_127 rfl rfl iI ?_
            refine t_iald hT dX4_does_128 tA31 (by decide) h (fun h => ?_)
            refine r_callV dX4_does_129 (tisC hT) (c_X4_putsOne tA20 h hT hG) q2403 q2405 qs55 q117 q2406 rfl yo_X4_putsOne rfl (by decide) (by decide) rfl rc0 (by decide) (Nat.le_refl _) (Nat.le_refl _) (tofI fun x22 w21 G h hT hG => ?_) nox
            exact r_iret rfl dX4_does_132 ⟨_, hT, hG, _, rfl, h⟩
theorem c_X4_does {t : Nat} {ad : Nat → Nat} {G0 : Wd} {a1 : Int} {Q : Int → Tw → Prop} {w : Tw} {G : Wd} (h : f_X4_does a1 w Q) (hT : TwAt t ad w (G 2)) (hG : ∀ r, r ≠ 2 → G r = G0 r) : call yX4_does (Cond.code yX4_does cX4_does 3 (some .int)) 9 0 0 [vR (some t), vI a1] G (twQ t ad G0 (uI Q)) noX :=
  call.enter (by decide +kernel) (la_1 c1R (la_1 c1I (la_nil rfl))) rfl (w_X4_does  h hT hG)
abbrev m_X4_drains : Mt := (yX4_drains.cls, cX4_drains, 2, some .int, [], yX4_drains.name)
theorem yo_X4_drains : yOK yX4_drains 0 := ⟨by decide +kernel, by decide +kernel, by decide +kernel⟩
def f_X4_drains (w : Tw) (Q : Int → Tw → Prop) : Prop :=
  tS w 0 0 0 (fun w10 => f_X4_copies  w10 (fun w11 => f_X4_drainsOf 21 w11 (fun x13 w12 => br0 x13 (0 ≤ x13) (tS w12 1 0 0 (fun w14 => ok32 (w14 35 0) (f_X4_enters (w14 35 0) w14 (fun w15 => f_X4_blocksOf 21 w15 (fun x17 w16 => ok32 x17 (f_X4_enters x17 w16 (fun w18 => Q x13 w18))))))) (Q (-2) w12))))
theorem w_X4_drains {t : Nat} {ad : Nat → Nat} {G0 : Wd} {Q : Int → Tw → Prop} {w : Tw} {G : Wd} (h : f_X4_drains w Q) (hT : TwAt t ad w (G 2)) (hG : ∀ r, r ≠ 2 → G r = G0 r) : wp m_X4_drains 9 0 0 0 [some (vR (some t)), none] [] G (twQ t ad G0 (uI Q)) noX := by
  unfold f_X4_drains at h
  refine r_aload_n dX4_drains_0 rfl rfl iR ?_
  refine r_iconst dX4_drains_1 ?_
  refine t_put (j := 0) hT hG dX4_drains_2 (fp1 (f := 0) fX4 (by decide) q2221 rfl rfl rfl) tF0 (by decide) h (fun w10 G h hT hG => ?_)
  refine r_aload_n dX4_drains_5 rfl rfl iR ?_
  refine r_callV dX4_drains_6 (tisC hT) (c_X4_copies h hT hG) q2635 q2637 qs80 q117 q2638 rfl yo_X4_copies rfl (by decide) (by decide) rfl rc0 (by decide) (Nat.le_refl _) (Nat.le_refl _) (tofV fun w11 G h hT hG => ?_) nox
  refine r_aload_n dX4_drains_9 rfl rfl iR ?_
  refine r_aload_n dX4_drains_10 rfl rfl iR ?_
  refine t_getA (j := 21) hT dX4_drains_11 (fg1 (f := 21) fX4 (by decide) q2242 rfl) rfl ?_
  refine r_callV dX4_drains_14 (tisC hT) (c_X4_drainsOf tA21 h hT hG) q2651 q2653 qs81 q117 q2654 rfl yo_X4_drainsOf rfl (by decide) (by decide) rfl rc0 (by decide) (Nat.le_refl _) (Nat.le_refl _) (tofI fun x13 w12 G h hT hG => ?_) nox
  refine r_istore_n (L' := [some (vR (some t)), some (vI x13)]) dX4_drains_17 rfl rfl iI cR (by decide) ?_
  refine r_iload_n dX4_drains_18 rfl rfl iI ?_
  refine r_if_ge (tgt := 25) dX4_drains_19 (by decide) h (fun h => ?_) (fun h => ?_)
  · refine r_aload_n dX4_drains_25 rfl rfl iR ?_
    refine r_iconst dX4_drains_26 ?_
    refine t_put (j := 1) hT hG dX4_drains_27 (fp1 (f := 1) fX4 (by decide) q2222 rfl rfl rfl) tF1 (by decide) h (fun w14 G h hT hG => ?_)
    refine r_aload_n dX4_drains_30 rfl rfl iR ?_
    refine r_aload_n dX4_drains_31 rfl rfl iR ?_
    refine t_getI (j := 35) hT dX4_drains_32 (fg1 (f := 35) fX4 (by decide) q2256 rfl) rfl ?_
    refine r_i2l dX4_drains_35 h (fun h => ?_)
    refine r_callV dX4_drains_36 (tisC hT) (c_X4_enters h hT hG) q2536 q2538 qs71 q117 q2539 rfl yo_X4_enters rfl (by decide) (by decide) rfl rc0 (by decide) (Nat.le_refl _) (Nat.le_refl _) (tofV fun w15 G h hT hG => ?_) nox
    refine r_aload_n dX4_drains_39 rfl rfl iR ?_
    refine r_aload_n dX4_drains_40 rfl rfl iR ?_
    refine t_getA (j := 21) hT dX4_drains_41 (fg1 (f := 21) fX4 (by decide) q2242 rfl) rfl ?_
    refine r_callS dX4_drains_44 (c_X4_blocksOf tA21 h hT hG) q2388 q2389 q117 q2390 yo_X4_blocksOf rfl (by decide) (by decide) rfl (rc1 c1R rc0) (by decide) (Nat.le_refl _) (Nat.le_refl _) (tofI fun x17 w16 G h hT hG => ?_) nox
    refine r_i2l dX4_drains_47 h (fun h => ?_)
    refine r_callV dX4_drains_48 (tisC hT) (c_X4_enters h hT hG) q2536 q2538 qs71 q117 q2539 rfl yo_X4_enters rfl (by decide) (by decide) rfl rc0 (by decide) (Nat.le_refl _) (Nat.le_refl _) (tofV fun w18 G h hT hG => ?_) nox
    refine r_iload_n dX4_drains_51 rfl rfl iI ?_
    exact r_iret rfl dX4_drains_52 ⟨_, hT, hG, _, rfl, h⟩
  · refine r_bipush dX4_drains_22 (by decide) ?_
    exact r_iret rfl dX4_drains_24 ⟨_, hT, hG, _, rfl, h⟩
theorem c_X4_drains {t : Nat} {ad : Nat → Nat} {G0 : Wd} {Q : Int → Tw → Prop} {w : Tw} {G : Wd} (h : f_X4_drains w Q) (hT : TwAt t ad w (G 2)) (hG : ∀ r, r ≠ 2 → G r = G0 r) : call yX4_drains (Cond.code yX4_drains cX4_drains 2 (some .int)) 9 0 0 [vR (some t)] G (twQ t ad G0 (uI Q)) noX :=
  call.enter (by decide +kernel) (la_1 c1R (la_nil rfl)) rfl (w_X4_drains  h hT hG)
abbrev m_X4_law : Mt := (yX4_law.cls, cX4_law, 5, some .int, [], yX4_law.name)
theorem yo_X4_law : yOK yX4_law 0 := ⟨by decide +kernel, by decide +kernel, by decide +kernel⟩
def f_X4_law_35_b (k35 : Int → Int → Int → Tw → Prop) (l2 : Int) (l3 : Int) (l4 : Int) (w : Tw) (Q : Int → Tw → Prop) : Prop :=
  br l4 (w 10 0) ((w 10 0) ≤ l4) (f_X4_laysCode 9 (w 11 0) w (fun w22 => f_X4_drainsBy  w22 (fun x24 w23 => f_X4_laysCode 40 l3 w23 (fun w25 => tS w25 1 0 0 (fun w26 => ok32 x24 (f_X4_enters x24 w26 (fun w27 => ok32 l2 (f_X4_enters l2 w27 (fun w28 => Q (x24 - l2) w28))))))))) (rdA w 8 80 l4 (fun _ => wrA w 40 80 l4 (w 8 l4) (fun w29 => k35 l2 l3 (l4 + 1) w29)))
theorem w_X4_law_35_b {t : Nat} {ad : Nat → Nat} {G0 : Wd} {Q : Int → Tw → Prop} {k35 : Int → Int → Int → Tw → Prop} (hk35 : ∀ {l2 : Int} {l3 : Int} {l4 : Int} {w : Tw} {G : Wd}, k35 l2 l3 l4 w → TwAt t ad w (G 2) → (∀ r, r ≠ 2 → G r = G0 r) → wp m_X4_law 173 0 0 35 [some (vR (some t)), none, some (vI l2), some (vI l3), some (vI l4)] [] G (twQ t ad G0 (uI Q)) noX) {l2 : Int} {l3 : Int} {l4 : Int} {w : Tw} {G : Wd} (h : f_X4_law_35_b k35 l2 l3 l4 w Q) (hT : TwAt t ad w (G 2)) (hG : ∀ r, r ≠ 2 → G r = G0 r) : wp m_X4_law 173 0 0 35 [some (vR (some t)), none, some (vI l2), some (vI l3), some (vI l4)] [] G (twQ t ad G0 (uI Q)) noX := by
  unfold f_X4_law_35_b at h
  refine r_iload dX4_law_35 rfl iI ?_
  refine r_aload_n dX4_law_37 rfl rfl iR ?_
  refine t_getI (j := 10) hT dX4_law_38 (fg1 (f := 10) fX4 (by decide) q2231 rfl) rfl ?_
  refine r_icmp_ge (tgt := 64) dX4_law_41 (by decide) h (fun h => ?_) (fun h => ?_)
  · refine r_aload_n dX4_law_64 rfl rfl iR ?_
    refine r_aload_n dX4_law_65 rfl rfl iR ?_
    refine t_getA (j := 9) hT dX4_law_66 (fg1 (f := 9) fX4 (by decide) q2230 rfl) rfl ?_
    refine r_aload_n dX4_law_69 rfl rfl iR ?_
    refine t_getI (j := 11) hT dX4_law_70 (fg1 (f := 11) fX4 (by decide) q2232 rfl) rfl ?_
    refine r_callV dX4_law_73 (tisC hT) (c_X4_laysCode tA9 h hT hG) q2212 q2214 qs50 q117 q2215 rfl yo_X4_laysCode rfl (by decide) (by decide) rfl rc0 (by decide) (Nat.le_refl _) (Nat.le_refl _) (tofV fun w22 G h hT hG => ?_) nox
    refine r_aload_n dX4_law_76 rfl rfl iR ?_
    refine r_callV dX4_law_77 (tisC hT) (c_X4_drainsBy h hT hG) q2729 q2731 qs88 q117 q2732 rfl yo_X4_drainsBy rfl (by decide) (by decide) rfl rc0 (by decide) (Nat.le_refl _) (Nat.le_refl _) (tofI fun x24 w23 G h hT hG => ?_) nox
    refine r_istore (L' := [some (vR (some t)), none, some (vI l2), some (vI l3), some (vI x24)]) dX4_law_80 rfl iI cI (by decide) ?_
    refine r_aload_n dX4_law_82 rfl rfl iR ?_
    refine r_aload_n dX4_law_83 rfl rfl iR ?_
    refine t_getA (j := 40) hT dX4_law_84 (fg1 (f := 40) fX4 (by decide) q2261 rfl) rfl ?_
    refine r_iload_n dX4_law_87 rfl rfl iI ?_
    refine r_callV dX4_law_88 (tisC hT) (c_X4_laysCode tA40 h hT hG) q2212 q2214 qs50 q117 q2215 rfl yo_X4_laysCode rfl (by decide) (by decide) rfl rc0 (by decide) (Nat.le_refl _) (Nat.le_refl _) (tofV fun w25 G h hT hG => ?_) nox
    refine r_aload_n dX4_law_91 rfl rfl iR ?_
    refine r_iconst dX4_law_92 ?_
    refine t_put (j := 1) hT hG dX4_law_93 (fp1 (f := 1) fX4 (by decide) q2222 rfl rfl rfl) tF1 (by decide) h (fun w26 G h hT hG => ?_)
    refine r_aload_n dX4_law_96 rfl rfl iR ?_
    refine r_iload dX4_law_97 rfl iI ?_
    refine r_i2l dX4_law_99 h (fun h => ?_)
    refine r_callV dX4_law_100 (tisC hT) (c_X4_enters h hT hG) q2536 q2538 qs71 q117 q2539 rfl yo_X4_enters rfl (by decide) (by decide) rfl rc0 (by decide) (Nat.le_refl _) (Nat.le_refl _) (tofV fun w27 G h hT hG => ?_) nox
    refine r_aload_n dX4_law_103 rfl rfl iR ?_
    refine r_iload_n dX4_law_104 rfl rfl iI ?_
    refine r_i2l dX4_law_105 h (fun h => ?_)
    refine r_callV dX4_law_106 (tisC hT) (c_X4_enters h hT hG) q2536 q2538 qs71 q117 q2539 rfl yo_X4_enters rfl (by decide) (by decide) rfl rc0 (by decide) (Nat.le_refl _) (Nat.le_refl _) (tofV fun w28 G h hT hG => ?_) nox
    refine r_iload dX4_law_109 rfl iI ?_
    refine r_iload_n dX4_law_111 rfl rfl iI ?_
    refine r_isub dX4_law_112 ?_
    exact r_iret rfl dX4_law_113 ⟨_, hT, hG, _, rfl, h⟩
  · refine r_aload_n dX4_law_44 rfl rfl iR ?_
    refine t_getA (j := 40) hT dX4_law_45 (fg1 (f := 40) fX4 (by decide) q2261 rfl) rfl ?_
    refine r_iload dX4_law_48 rfl iI ?_
    refine r_aload_n dX4_law_50 rfl rfl iR ?_
    refine t_getA (j := 8) hT dX4_law_51 (fg1 (f := 8) fX4 (by decide) q2229 rfl) rfl ?_
    refine r_iload dX4_law_54 rfl iI ?_
    refine t_iald hT dX4_law_56 tA8 (by decide) h (fun h => ?_)
    refine t_iast hT hG dX4_law_57 tA40 (by decide) h (fun w29 G h hT hG => ?_)
    refine r_iinc (L' := [some (vR (some t)), none, some (vI l2), some (vI l3), some (vI (l4 + 1))]) dX4_law_58 rfl rfl cI (by decide) ?_
    refine r_goto (tgt := 35) dX4_law_61 (by decide) ?_
    exact hk35 h hT hG
def f_X4_law_35 (Q : Int → Tw → Prop) : Nat → Int → Int → Int → Tw → Prop
  | 0, _, _, _, _ => False
  | fl + 1, l2, l3, l4, w => f_X4_law_35_b    (fun l2 l3 l4 w => f_X4_law_35    Q fl l2 l3 l4 w) l2 l3 l4 w Q
theorem w_X4_law_35 {t : Nat} {ad : Nat → Nat} {G0 : Wd} {Q : Int → Tw → Prop} : ∀ (fl : Nat) {l2 : Int} {l3 : Int} {l4 : Int} {w : Tw} {G : Wd}, f_X4_law_35 Q fl l2 l3 l4 w → TwAt t ad w (G 2) → (∀ r, r ≠ 2 → G r = G0 r) → wp m_X4_law 173 0 0 35 [some (vR (some t)), none, some (vI l2), some (vI l3), some (vI l4)] [] G (twQ t ad G0 (uI Q)) noX := by
  intro fl
  induction fl with
  | zero => intro l2 l3 l4 w G h; exact (show False from h).elim
  | succ fl ih => intro l2 l3 l4 w G h hT hG; exact w_X4_law_35_b   (fun h hT hG => ih h hT hG) h hT hG
def f_X4_law (w : Tw) (Q : Int → Tw → Prop) : Prop :=
  tS w 0 0 0 (fun w30 => f_X4_readsRule  w30 (fun x32 w31 => br0 x32 (0 ≤ x32) (f_X4_drainsBy  w31 (fun x34 w33 => ∃ fl35, f_X4_law_35 Q fl35 x34 (w33 10 0) 0 w33)) (Q ((x32 + 1) - 1000) w31)))
theorem w_X4_law {t : Nat} {ad : Nat → Nat} {G0 : Wd} {Q : Int → Tw → Prop} {w : Tw} {G : Wd} (h : f_X4_law w Q) (hT : TwAt t ad w (G 2)) (hG : ∀ r, r ≠ 2 → G r = G0 r) : wp m_X4_law 173 0 0 0 [some (vR (some t)), none, none, none, none] [] G (twQ t ad G0 (uI Q)) noX := by
  unfold f_X4_law at h
  refine r_aload_n dX4_law_0 rfl rfl iR ?_
  refine r_iconst dX4_law_1 ?_
  refine t_put (j := 0) hT hG dX4_law_2 (fp1 (f := 0) fX4 (by decide) q2221 rfl rfl rfl) tF0 (by decide) h (fun w30 G h hT hG => ?_)
  refine r_aload_n dX4_law_5 rfl rfl iR ?_
  refine r_callV dX4_law_6 (tisC hT) (c_X4_readsRule h hT hG) q2140 q2142 qs40 q117 q2144 rfl yo_X4_readsRule rfl (by decide) (by decide) rfl rc0 (by decide) (Nat.le_refl _) (Nat.le_refl _) (tofI fun x32 w31 G h hT hG => ?_) nox
  refine r_istore_n (L' := [some (vR (some t)), some (vI x32), none, none, none]) dX4_law_9 rfl rfl iI cR (by decide) ?_
  refine r_iload_n dX4_law_10 rfl rfl iI ?_
  refine r_if_ge (tgt := 22) dX4_law_11 (by decide) h (fun h => ?_) (fun h => ?_)
  · refine r_aload_n dX4_law_22 rfl rfl iR ?_
    refine r_callV dX4_law_23 (tisC hT) (c_X4_drainsBy h hT hG) q2729 q2731 qs88 q117 q2732 rfl yo_X4_drainsBy rfl (by decide) (by decide) rfl rc0 (by decide) (Nat.le_refl _) (Nat.le_refl _) (tofI fun x34 w33 G h hT hG => ?_) nox
    refine r_istore_n (L' := [some (vR (some t)), some (vI x32), some (vI x34), none, none]) dX4_law_26 rfl rfl iI cI (by decide) ?_
    refine r_aload_n dX4_law_27 rfl rfl iR ?_
    refine t_getI (j := 10) hT dX4_law_28 (fg1 (f := 10) fX4 (by decide) q2231 rfl) rfl ?_
    refine r_istore_n (L' := [some (vR (some t)), some (vI x32), some (vI x34), some (vI (w33 10 0)), none]) dX4_law_31 rfl rfl iI cI (by decide) ?_
    refine r_iconst dX4_law_32 ?_
    refine r_istore (L' := [some (vR (some t)), some (vI x32), some (vI x34), some (vI (w33 10 0)), some (vI 0)]) dX4_law_33 rfl iI cI (by decide) ?_
    refine wp.locals (L' := [some (vR (some t)), none, some (vI x34), some (vI (w33 10 0)), some (vI 0)]) (ls_s (ls_n (ls_s (ls_s (ls_s ls_0))))) ?_
    obtain ⟨fl35, h⟩ := h
    exact w_X4_law_35 fl35 h hT hG
  · refine r_iload_n dX4_law_14 rfl rfl iI ?_
    refine r_iconst dX4_law_15 ?_
    refine r_iadd dX4_law_16 ?_
    refine r_sipush dX4_law_17 (by decide) ?_
    refine r_isub dX4_law_20 ?_
    exact r_iret rfl dX4_law_21 ⟨_, hT, hG, _, rfl, h⟩
theorem c_X4_law {t : Nat} {ad : Nat → Nat} {G0 : Wd} {Q : Int → Tw → Prop} {w : Tw} {G : Wd} (h : f_X4_law w Q) (hT : TwAt t ad w (G 2)) (hG : ∀ r, r ≠ 2 → G r = G0 r) : call yX4_law (Cond.code yX4_law cX4_law 5 (some .int)) 173 0 0 [vR (some t)] G (twQ t ad G0 (uI Q)) noX :=
  call.enter (by decide +kernel) (la_1 c1R (la_nil rfl)) rfl (w_X4_law  h hT hG)
abbrev m_X4_years : Mt := (yX4_years.cls, cX4_years, 6, some .int, [], yX4_years.name)
theorem yo_X4_years : yOK yX4_years 2 := ⟨by decide +kernel, by decide +kernel, by decide +kernel⟩
def f_X4_years_74 (k33 : Int → Int → Int → Tw → Prop) (l2 : Int) (l3 : Int) (l4 : Int) (w : Tw) (Q : Int → Tw → Prop) : Prop :=
  k33 l2 l3 (l4 + 1) w
theorem w_X4_years_74 {t : Nat} {ad : Nat → Nat} {G0 : Wd} {Q : Int → Tw → Prop} {k33 : Int → Int → Int → Tw → Prop} (hk33 : ∀ {l2 : Int} {l3 : Int} {l4 : Int} {w : Tw} {G : Wd}, k33 l2 l3 l4 w → TwAt t ad w (G 2) → (∀ r, r ≠ 2 → G r = G0 r) → wp m_X4_years 9 0 0 33 [some (vR (some t)), none, some (vI l2), some (vI l3), some (vI l4), none] [] G (twQ t ad G0 (uI Q)) noX) {l2 : Int} {l3 : Int} {l4 : Int} {w : Tw} {G : Wd} (h : f_X4_years_74 k33 l2 l3 l4 w Q) (hT : TwAt t ad w (G 2)) (hG : ∀ r, r ≠ 2 → G r = G0 r) : wp m_X4_years 9 0 0 74 [some (vR (some t)), none, some (vI l2), some (vI l3), some (vI l4), none] [] G (twQ t ad G0 (uI Q)) noX := by
  unfold f_X4_years_74 at h
  refine r_iinc (L' := [some (vR (some t)), none, some (vI l2), some (vI l3), some (vI (l4 + 1)), none]) dX4_years_74 rfl rfl cI (by decide) ?_
  refine r_goto (tgt := 33) dX4_years_77 (by decide) ?_
  exact hk33 h hT hG
def f_X4_years_33_b (k33 : Int → Int → Int → Tw → Prop) (l2 : Int) (l3 : Int) (l4 : Int) (w : Tw) (Q : Int → Tw → Prop) : Prop :=
  br l4 l2 (l2 ≤ l4) (tS w 1 0 0 (fun w42 => f_X4_fetchedAll 21 w42 (fun x44 w43 => f_X4_fetchedAll 20 w43 (fun x46 w45 => ok32 (x44 - x46) (f_X4_enters (x44 - x46) w45 (fun w47 => f_X4_blocksOf 21 w47 (fun x49 w48 => ok32 x49 (f_X4_enters x49 w48 (fun w50 => rdA w50 21 844 827 (fun _ => ok32 (w50 21 827) (f_X4_enters (w50 21 827) w50 (fun w51 => Q l3 w51)))))))))))) (f_X4_draws 6 w (fun x53 w52 => br0 (w52 14 0) ((w52 14 0) ≤ 0) (f_X4_years_74 k33 l2 l3 l4 w52 Q) (f_X4_draws (w52 14 0) w52 (fun x55 w54 => f_X4_drawnAct x53 x55 w54 (fun x57 w56 => f_X4_flag x57 w56 (fun x59 w58 => f_X4_years_74 k33 l2 (l3 + x59) l4 w58 Q))))))
theorem w_X4_years_33_b {t : Nat} {ad : Nat → Nat} {G0 : Wd} {Q : Int → Tw → Prop} {k33 : Int → Int → Int → Tw → Prop} (hk33 : ∀ {l2 : Int} {l3 : Int} {l4 : Int} {w : Tw} {G : Wd}, k33 l2 l3 l4 w → TwAt t ad w (G 2) → (∀ r, r ≠ 2 → G r = G0 r) → wp m_X4_years 9 0 0 33 [some (vR (some t)), none, some (vI l2), some (vI l3), some (vI l4), none] [] G (twQ t ad G0 (uI Q)) noX) {l2 : Int} {l3 : Int} {l4 : Int} {w : Tw} {G : Wd} (h : f_X4_years_33_b k33 l2 l3 l4 w Q) (hT : TwAt t ad w (G 2)) (hG : ∀ r, r ≠ 2 → G r = G0 r) : wp m_X4_years 9 0 0 33 [some (vR (some t)), none, some (vI l2), some (vI l3), some (vI l4), none] [] G (twQ t ad G0 (uI Q)) noX := by
  unfold f_X4_years_33_b at h
  refine r_iload dX4_years_33 rfl iI ?_
  refine r_iload_n dX4_years_35 rfl rfl iI ?_
  refine r_icmp_ge (tgt := 80) dX4_years_36 (by decide) h (fun h => ?_) (fun h => ?_)
  · refine r_aload_n dX4_years_80 rfl rfl iR ?_
    refine r_iconst dX4_years_81 ?_
    refine t_put (j := 1) hT hG dX4_years_82 (fp1 (f := 1) fX4 (by decide) q2222 rfl rfl rfl) tF1 (by decide) h (fun w42 G h hT hG => ?_)
    refine r_aload_n dX4_years_85 rfl rfl iR ?_
    refine r_aload_n dX4_years_86 rfl rfl iR ?_
    refine t_getA (j := 21) hT dX4_years_87 (fg1 (f := 21) fX4 (by decide) q2242 rfl) rfl ?_
    refine r_callS dX4_years_90 (c_X4_fetchedAll tA21 h hT hG) q2492 q2493 q117 q2494 yo_X4_fetchedAll rfl (by decide) (by decide) rfl (rc1 c1R rc0) (by decide) (Nat.le_refl _) (Nat.le_refl _) (tofI fun x44 w43 G h hT hG => ?_) nox
    refine r_aload_n dX4_years_93 rfl rfl iR ?_
    refine t_getA (j := 20) hT dX4_years_94 (fg1 (f := 20) fX4 (by decide) q2241 rfl) rfl ?_
    refine r_callS dX4_years_97 (c_X4_fetchedAll tA20 h hT hG) q2492 q2493 q117 q2494 yo_X4_fetchedAll rfl (by decide) (by decide) rfl (rc1 c1I (rc1 c1R rc0)) (by decide) (Nat.le_refl _) (Nat.le_refl _) (tofI fun x46 w45 G h hT hG => ?_) nox
    refine r_isub dX4_years_100 ?_
    refine r_i2l dX4_years_101 h (fun h => ?_)
    refine r_callV dX4_years_102 (tisC hT) (c_X4_enters h hT hG) q2536 q2538 qs71 q117 q2539 rfl yo_X4_enters rfl (by decide) (by decide) rfl rc0 (by decide) (Nat.le_refl _) (Nat.le_refl _) (tofV fun w47 G h hT hG => ?_) nox
    refine r_aload_n dX4_years_105 rfl rfl iR ?_
    refine r_aload_n dX4_years_106 rfl rfl iR ?_
    refine t_getA (j := 21) hT dX4_years_107 (fg1 (f := 21) fX4 (by decide) q2242 rfl) rfl ?_
    refine r_callS dX4_years_110 (c_X4_blocksOf tA21 h hT hG) q2388 q2389 q117 q2390 yo_X4_blocksOf rfl (by decide) (by decide) rfl (rc1 c1R rc0) (by decide) (Nat.le_refl _) (Nat.le_refl _) (tofI fun x49 w48 G h hT hG => ?_) nox
    refine r_i2l dX4_years_113 h (fun h => ?_)
    refine r_callV dX4_years_114 (tisC hT) (c_X4_enters h hT hG) q2536 q2538 qs71 q117 q2539 rfl yo_X4_enters rfl (by decide) (by decide) rfl rc0 (by decide) (Nat.le_refl _) (Nat.le_refl _) (tofV fun w50 G h hT hG => ?_) nox
    refine r_aload_n dX4_years_117 rfl rfl iR ?_
    refine r_aload_n dX4_years_118 rfl rfl iR ?_
    refine t_getA (j := 21) hT dX4_years_119 (fg1 (f := 21) fX4 (by decide) q2242 rfl) rfl ?_
    refine r_sipush dX4_years_122 (by decide) ?_
    refine t_iald hT dX4_years_125 tA21 (by decide) h (fun h => ?_)
    refine r_i2l dX4_years_126 h (fun h => ?_)
    refine r_callV dX4_years_127 (tisC hT) (c_X4_enters h hT hG) q2536 q2538 qs71 q117 q2539 rfl yo_X4_enters rfl (by decide) (by decide) rfl rc0 (by decide) (Nat.le_refl _) (Nat.le_refl _) (tofV fun w51 G h hT hG => ?_) nox
    refine r_iload_n dX4_years_130 rfl rfl iI ?_
    exact r_iret rfl dX4_years_131 ⟨_, hT, hG, _, rfl, h⟩
  · refine r_aload_n dX4_years_39 rfl rfl iR ?_
    refine r_bipush dX4_years_40 (by decide) ?_
    refine r_callV dX4_years_42 (tisC hT) (c_X4_draws h hT hG) q2737 q2739 qs89 q117 q2740 rfl yo_X4_draws rfl (by decide) (by decide) rfl rc0 (by decide) (Nat.le_refl _) (Nat.le_refl _) (tofI fun x53 w52 G h hT hG => ?_) nox
    refine r_istore (L' := [some (vR (some t)), none, some (vI l2), some (vI l3), some (vI l4), some (vI x53)]) dX4_years_45 rfl iI cI (by decide) ?_
    refine r_aload_n dX4_years_47 rfl rfl iR ?_
    refine t_getI (j := 14) hT dX4_years_48 (fg1 (f := 14) fX4 (by decide) q2235 rfl) rfl ?_
    refine r_if_le (tgt := 74) dX4_years_51 (by decide) h (fun h => ?_) (fun h => ?_)
    · refine wp.locals (L' := [some (vR (some t)), none, some (vI l2), some (vI l3), some (vI l4), none]) (ls_s (ls_n (ls_s (ls_s (ls_s (ls_n ls_0)))))) ?_
      exact w_X4_years_74 hk33 h hT hG
    · refine r_iload_n dX4_years_54 rfl rfl iI ?_
      refine r_aload_n dX4_years_55 rfl rfl iR ?_
      refine r_iload dX4_years_56 rfl iI ?_
      refine r_aload_n dX4_years_58 rfl rfl iR ?_
      refine r_aload_n dX4_years_59 rfl rfl iR ?_
      refine t_getI (j := 14) hT dX4_years_60 (fg1 (f := 14) fX4 (by decide) q2235 rfl) rfl ?_
      refine r_callV dX4_years_63 (tisC hT) (c_X4_draws h hT hG) q2737 q2739 qs89 q117 q2740 rfl yo_X4_draws rfl (by decide) (by decide) rfl (rc1 c1I (rc1 c1R (rc1 c1I rc0))) (by decide) (Nat.le_refl _) (Nat.le_refl _) (tofI fun x55 w54 G h hT hG => ?_) nox
      refine r_callV dX4_years_66 (tisC hT) (c_X4_drawnAct h hT hG) q2742 q2744 qs90 q117 q2745 rfl yo_X4_drawnAct rfl (by decide) (by decide) rfl (rc1 c1I rc0) (by decide) (Nat.le_refl _) (Nat.le_refl _) (tofB fun x57 w56 G h hT hG => ?_) nox
      refine r_callS dX4_years_69 (c_X4_flag h hT hG) q2162 q2163 q117 q2164 yo_X4_flag rfl (by decide) (by decide) rfl (rc1 c1I rc0) (by decide) (Nat.le_refl _) (Nat.le_refl _) (tofI fun x59 w58 G h hT hG => ?_) nox
      refine r_iadd dX4_years_72 ?_
      refine r_istore_n (L' := [some (vR (some t)), none, some (vI l2), some (vI (l3 + x59)), some (vI l4), some (vI x53)]) dX4_years_73 rfl rfl iI cI (by decide) ?_
      refine wp.locals (L' := [some (vR (some t)), none, some (vI l2), some (vI (l3 + x59)), some (vI l4), none]) (ls_s (ls_n (ls_s (ls_s (ls_s (ls_n ls_0)))))) ?_
      exact w_X4_years_74 hk33 h hT hG
def f_X4_years_33 (Q : Int → Tw → Prop) : Nat → Int → Int → Int → Tw → Prop
  | 0, _, _, _, _ => False
  | fl + 1, l2, l3, l4, w => f_X4_years_33_b    (fun l2 l3 l4 w => f_X4_years_33    Q fl l2 l3 l4 w) l2 l3 l4 w Q
theorem w_X4_years_33 {t : Nat} {ad : Nat → Nat} {G0 : Wd} {Q : Int → Tw → Prop} : ∀ (fl : Nat) {l2 : Int} {l3 : Int} {l4 : Int} {w : Tw} {G : Wd}, f_X4_years_33 Q fl l2 l3 l4 w → TwAt t ad w (G 2) → (∀ r, r ≠ 2 → G r = G0 r) → wp m_X4_years 9 0 0 33 [some (vR (some t)), none, some (vI l2), some (vI l3), some (vI l4), none] [] G (twQ t ad G0 (uI Q)) noX := by
  intro fl
  induction fl with
  | zero => intro l2 l3 l4 w G h; exact (show False from h).elim
  | succ fl ih => intro l2 l3 l4 w G h hT hG; exact w_X4_years_33_b   (fun h hT hG => ih h hT hG) h hT hG
def f_X4_years (a1 : Int) (a2 : Int) (w : Tw) (Q : Int → Tw → Prop) : Prop :=
  tS w 0 0 0 (fun w60 => ok32 a2 (f_X4_in a2 1 40 w60 (fun x62 w61 => brB x62 (tS w61 41 0 a1 (fun w63 => f_X4_copies  w63 (fun w64 => ∃ fl65, f_X4_years_33 Q fl65 a2 0 0 w64))) (Q (-1) w61))))
theorem w_X4_years {t : Nat} {ad : Nat → Nat} {G0 : Wd} {Q : Int → Tw → Prop} {a1 : Int} {a2 : Int} {w : Tw} {G : Wd} (h : f_X4_years a1 a2 w Q) (hT : TwAt t ad w (G 2)) (hG : ∀ r, r ≠ 2 → G r = G0 r) : wp m_X4_years 9 0 0 0 [some (vR (some t)), some (vI a1), some (vI a2), none, none, none] [] G (twQ t ad G0 (uI Q)) noX := by
  unfold f_X4_years at h
  refine r_aload_n dX4_years_0 rfl rfl iR ?_
  refine r_iconst dX4_years_1 ?_
  refine t_put (j := 0) hT hG dX4_years_2 (fp1 (f := 0) fX4 (by decide) q2221 rfl rfl rfl) tF0 (by decide) h (fun w60 G h hT hG => ?_)
  refine r_iload_n dX4_years_5 rfl rfl iI ?_
  refine r_i2l dX4_years_6 h (fun h => ?_)
  refine r_lconst (y := 1) dX4_years_7 (by decide) ?_
  refine r_ldc2 (x := 40) dX4_years_8 q2724 (by decide) ?_
  refine r_callS dX4_years_11 (c_X4_in h hT hG) q2133 q2134 q117 q2135 yo_X4_in rfl (by decide) (by decide) rfl rc0 (by decide) (Nat.le_refl _) (Nat.le_refl _) (tofB fun x62 w61 G h hT hG => ?_) nox
  refine r_ifZ_ne (tgt := 19) dX4_years_14 (by decide) h (fun h => ?_) (fun h => ?_)
  · refine r_aload_n dX4_years_19 rfl rfl iR ?_
    refine r_iload_n dX4_years_20 rfl rfl iI ?_
    refine t_put (j := 41) hT hG dX4_years_21 (fp1 (f := 41) fX4 (by decide) q2262 rfl rfl rfl) tF41 (by decide) h (fun w63 G h hT hG => ?_)
    refine r_aload_n dX4_years_24 rfl rfl iR ?_
    refine r_callV dX4_years_25 (tisC hT) (c_X4_copies h hT hG) q2635 q2637 qs80 q117 q2638 rfl yo_X4_copies rfl (by decide) (by decide) rfl rc0 (by decide) (Nat.le_refl _) (Nat.le_refl _) (tofV fun w64 G h hT hG => ?_) nox
    refine r_iconst dX4_years_28 ?_
    refine r_istore_n (L' := [some (vR (some t)), some (vI a1), some (vI a2), some (vI 0), none, none]) dX4_years_29 rfl rfl iI cI (by decide) ?_
    refine r_iconst dX4_years_30 ?_
    refine r_istore (L' := [some (vR (some t)), some (vI a1), some (vI a2), some (vI 0), some (vI 0), none]) dX4_years_31 rfl iI cI (by decide) ?_
    refine wp.locals (L' := [some (vR (some t)), none, some (vI a2), some (vI 0), some (vI 0), none]) (ls_s (ls_n (ls_s (ls_s (ls_s (ls_n ls_0)))))) ?_
    obtain ⟨fl65, h⟩ := h
    exact w_X4_years_33 fl65 h hT hG
  · refine r_iconst dX4_years_17 ?_
    exact r_iret rfl dX4_years_18 ⟨_, hT, hG, _, rfl, h⟩
theorem c_X4_years {t : Nat} {ad : Nat → Nat} {G0 : Wd} {a1 : Int} {a2 : Int} {Q : Int → Tw → Prop} {w : Tw} {G : Wd} (h : f_X4_years a1 a2 w Q) (hT : TwAt t ad w (G 2)) (hG : ∀ r, r ≠ 2 → G r = G0 r) : call yX4_years (Cond.code yX4_years cX4_years 6 (some .int)) 9 0 0 [vR (some t), vI a1, vI a2] G (twQ t ad G0 (uI Q)) noX :=
  call.enter (by decide +kernel) (la_1 c1R (la_1 c1I (la_1 c1I (la_nil rfl)))) rfl (w_X4_years  h hT hG)
abbrev m_X4_ticks : Mt := (yX4_ticks.cls, cX4_ticks, 2, some .int, [], yX4_ticks.name)
theorem yo_X4_ticks : yOK yX4_ticks 1 := ⟨by decide +kernel, by decide +kernel, by decide +kernel⟩
def f_X4_ticks (a1 : Int) (w : Tw) (Q : Int → Tw → Prop) : Prop :=
  tS w 0 0 0 (fun w11 => ok32 a1 (f_X4_in a1 0 60 w11 (fun x13 w12 => brB x13 (f_X4_putsBy  w12 (fun w14 => f_X4_ticksGo 20 a1 w14 (fun w15 => tS w15 1 0 0 (fun w16 => ok32 (w16 25 0) (f_X4_enters (w16 25 0) w16 (fun w17 => ok32 (w17 26 0) (f_X4_enters (w17 26 0) w17 (fun w18 => f_X4_adds (w18 24 0) w18 (fun x20 w19 => Q x20 w19))))))))) (Q (-1) w12))))
theorem w_X4_ticks {t : Nat} {ad : Nat → Nat} {G0 : Wd} {Q : Int → Tw → Prop} {a1 : Int} {w : Tw} {G : Wd} (h : f_X4_ticks a1 w Q) (hT : TwAt t ad w (G 2)) (hG : ∀ r, r ≠ 2 → G r = G0 r) : wp m_X4_ticks 9 0 0 0 [some (vR (some t)), some (vI a1)] [] G (twQ t ad G0 (uI Q)) noX := by
  unfold f_X4_ticks at h
  refine r_aload_n dX4_ticks_0 rfl rfl iR ?_
  refine r_iconst dX4_ticks_1 ?_
  refine t_put (j := 0) hT hG dX4_ticks_2 (fp1 (f := 0) fX4 (by decide) q2221 rfl rfl rfl) tF0 (by decide) h (fun w11 G h hT hG => ?_)
  refine r_iload_n dX4_ticks_5 rfl rfl iI ?_
  refine r_i2l dX4_ticks_6 h (fun h => ?_)
  refine r_lconst (y := 0) dX4_ticks_7 (by decide) ?_
  refine r_ldc2 (x := 60) dX4_ticks_8 q2466 (by decide) ?_
  refine r_callS dX4_ticks_11 (c_X4_in h hT hG) q2133 q2134 q117 q2135 yo_X4_in rfl (by decide) (by decide) rfl rc0 (by decide) (Nat.le_refl _) (Nat.le_refl _) (tofB fun x13 w12 G h hT hG => ?_) nox
  refine r_ifZ_ne (tgt := 19) dX4_ticks_14 (by decide) h (fun h => ?_) (fun h => ?_)
  · refine r_aload_n dX4_ticks_19 rfl rfl iR ?_
    refine r_callV dX4_ticks_20 (tisC hT) (c_X4_putsBy h hT hG) q2399 q2401 qs54 q117 q2402 rfl yo_X4_putsBy rfl (by decide) (by decide) rfl rc0 (by decide) (Nat.le_refl _) (Nat.le_refl _) (tofV fun w14 G h hT hG => ?_) nox
    refine r_aload_n dX4_ticks_23 rfl rfl iR ?_
    refine r_aload_n dX4_ticks_24 rfl rfl iR ?_
    refine t_getA (j := 20) hT dX4_ticks_25 (fg1 (f := 20) fX4 (by decide) q2241 rfl) rfl ?_
    refine r_iload_n dX4_ticks_28 rfl rfl iI ?_
    refine r_callV dX4_ticks_29 (tisC hT) (c_X4_ticksGo tA20 h hT hG) q2467 q2469 qs59 q117 q2470 rfl yo_X4_ticksGo rfl (by decide) (by decide) rfl rc0 (by decide) (Nat.le_refl _) (Nat.le_refl _) (tofV fun w15 G h hT hG => ?_) nox
    refine r_aload_n dX4_ticks_32 rfl rfl iR ?_
    refine r_iconst dX4_ticks_33 ?_
    refine t_put (j := 1) hT hG dX4_ticks_34 (fp1 (f := 1) fX4 (by decide) q2222 rfl rfl rfl) tF1 (by decide) h (fun w16 G h hT hG => ?_)
    refine r_aload_n dX4_ticks_37 rfl rfl iR ?_
    refine r_aload_n dX4_ticks_38 rfl rfl iR ?_
    refine t_getI (j := 25) hT dX4_ticks_39 (fg1 (f := 25) fX4 (by decide) q2246 rfl) rfl ?_
    refine r_i2l dX4_ticks_42 h (fun h => ?_)
    refine r_callV dX4_ticks_43 (tisC hT) (c_X4_enters h hT hG) q2536 q2538 qs71 q117 q2539 rfl yo_X4_enters rfl (by decide) (by decide) rfl rc0 (by decide) (Nat.le_refl _) (Nat.le_refl _) (tofV fun w17 G h hT hG => ?_) nox
    refine r_aload_n dX4_ticks_46 rfl rfl iR ?_
    refine r_aload_n dX4_ticks_47 rfl rfl iR ?_
    refine t_getI (j := 26) hT dX4_ticks_48 (fg1 (f := 26) fX4 (by decide) q2247 rfl) rfl ?_
    refine r_i2l dX4_ticks_51 h (fun h => ?_)
    refine r_callV dX4_ticks_52 (tisC hT) (c_X4_enters h hT hG) q2536 q2538 qs71 q117 q2539 rfl yo_X4_enters rfl (by decide) (by decide) rfl rc0 (by decide) (Nat.le_refl _) (Nat.le_refl _) (tofV fun w18 G h hT hG => ?_) nox
    refine r_aload_n dX4_ticks_55 rfl rfl iR ?_
    refine r_aload_n dX4_ticks_56 rfl rfl iR ?_
    refine t_getI (j := 24) hT dX4_ticks_57 (fg1 (f := 24) fX4 (by decide) q2245 rfl) rfl ?_
    refine r_callV dX4_ticks_60 (tisC hT) (c_X4_adds h hT hG) q2450 q2452 qs57 q117 q2453 rfl yo_X4_adds rfl (by decide) (by decide) rfl rc0 (by decide) (Nat.le_refl _) (Nat.le_refl _) (tofI fun x20 w19 G h hT hG => ?_) nox
    exact r_iret rfl dX4_ticks_63 ⟨_, hT, hG, _, rfl, h⟩
  · refine r_iconst dX4_ticks_17 ?_
    exact r_iret rfl dX4_ticks_18 ⟨_, hT, hG, _, rfl, h⟩
theorem c_X4_ticks {t : Nat} {ad : Nat → Nat} {G0 : Wd} {a1 : Int} {Q : Int → Tw → Prop} {w : Tw} {G : Wd} (h : f_X4_ticks a1 w Q) (hT : TwAt t ad w (G 2)) (hG : ∀ r, r ≠ 2 → G r = G0 r) : call yX4_ticks (Cond.code yX4_ticks cX4_ticks 2 (some .int)) 9 0 0 [vR (some t), vI a1] G (twQ t ad G0 (uI Q)) noX :=
  call.enter (by decide +kernel) (la_1 c1R (la_1 c1I (la_nil rfl))) rfl (w_X4_ticks  h hT hG)
abbrev m_X4_day : Mt := (yX4_day.cls, cX4_day, 2, some .int, [], yX4_day.name)
theorem yo_X4_day : yOK yX4_day 0 := ⟨by decide +kernel, by decide +kernel, by decide +kernel⟩
def f_X4_day_89 (l1 : Int) (s1 : Bool) (w : Tw) (Q : Int → Tw → Prop) : Prop :=
  f_X4_flag s1 w (fun x27 w26 => ok32 x27 (f_X4_enters x27 w26 (fun w28 => rdA w28 20 844 827 (fun _ => ok32 (w28 20 827) (f_X4_enters (w28 20 827) w28 (fun w29 => br0 l1 (l1 ≤ 0) (Q 0 w29) (f_X4_adds l1 w29 (fun x31 w30 => Q x31 w30))))))))
theorem w_X4_day_89 {t : Nat} {ad : Nat → Nat} {G0 : Wd} {Q : Int → Tw → Prop} {l1 : Int} {s1 : Bool} {w : Tw} {G : Wd} (h : f_X4_day_89 l1 s1 w Q) (hT : TwAt t ad w (G 2)) (hG : ∀ r, r ≠ 2 → G r = G0 r) : wp m_X4_day 10 0 0 89 [some (vR (some t)), some (vI l1)] [vB s1, vR (some t)] G (twQ t ad G0 (uI Q)) noX := by
  unfold f_X4_day_89 at h
  refine r_callS dX4_day_89 (c_X4_flag h hT hG) q2162 q2163 q117 q2164 yo_X4_flag rfl (by decide) (by decide) rfl (rc1 c1R rc0) (by decide) (Nat.le_refl _) (Nat.le_refl _) (tofI fun x27 w26 G h hT hG => ?_) nox
  refine r_i2l dX4_day_92 h (fun h => ?_)
  refine r_callV dX4_day_93 (tisC hT) (c_X4_enters h hT hG) q2536 q2538 qs71 q117 q2539 rfl yo_X4_enters rfl (by decide) (by decide) rfl rc0 (by decide) (Nat.le_refl _) (Nat.le_refl _) (tofV fun w28 G h hT hG => ?_) nox
  refine r_aload_n dX4_day_96 rfl rfl iR ?_
  refine r_aload_n dX4_day_97 rfl rfl iR ?_
  refine t_getA (j := 20) hT dX4_day_98 (fg1 (f := 20) fX4 (by decide) q2241 rfl) rfl ?_
  refine r_sipush dX4_day_101 (by decide) ?_
  refine t_iald hT dX4_day_104 tA20 (by decide) h (fun h => ?_)
  refine r_i2l dX4_day_105 h (fun h => ?_)
  refine r_callV dX4_day_106 (tisC hT) (c_X4_enters h hT hG) q2536 q2538 qs71 q117 q2539 rfl yo_X4_enters rfl (by decide) (by decide) rfl rc0 (by decide) (Nat.le_refl _) (Nat.le_refl _) (tofV fun w29 G h hT hG => ?_) nox
  refine r_iload_n dX4_day_109 rfl rfl iI ?_
  refine r_if_le (tgt := 121) dX4_day_110 (by decide) h (fun h => ?_) (fun h => ?_)
  · refine r_iconst dX4_day_121 ?_
    exact r_iret rfl dX4_day_122 ⟨_, hT, hG, _, rfl, h⟩
  · refine r_aload_n dX4_day_113 rfl rfl iR ?_
    refine r_iload_n dX4_day_114 rfl rfl iI ?_
    refine r_callV dX4_day_115 (tisC hT) (c_X4_adds h hT hG) q2450 q2452 qs57 q117 q2453 rfl yo_X4_adds rfl (by decide) (by decide) rfl rc0 (by decide) (Nat.le_refl _) (Nat.le_refl _) (tofI fun x31 w30 G h hT hG => ?_) nox
    refine r_goto (tgt := 122) dX4_day_118 (by decide) ?_
    exact r_iret rfl dX4_day_122 ⟨_, hT, hG, _, rfl, h⟩
def f_X4_day_70 (l1 : Int) (w : Tw) (Q : Int → Tw → Prop) : Prop :=
  tS w 1 0 0 (fun w32 => br l1 (w32 32 0) ((w32 32 0) ≤ l1) (f_X4_day_89 l1 false w32 Q) (f_X4_day_89 l1 true w32 Q))
theorem w_X4_day_70 {t : Nat} {ad : Nat → Nat} {G0 : Wd} {Q : Int → Tw → Prop} {l1 : Int} {w : Tw} {G : Wd} (h : f_X4_day_70 l1 w Q) (hT : TwAt t ad w (G 2)) (hG : ∀ r, r ≠ 2 → G r = G0 r) : wp m_X4_day 10 0 0 70 [some (vR (some t)), some (vI l1)] [] G (twQ t ad G0 (uI Q)) noX := by
  unfold f_X4_day_70 at h
  refine r_aload_n dX4_day_70 rfl rfl iR ?_
  refine r_iconst dX4_day_71 ?_
  refine t_put (j := 1) hT hG dX4_day_72 (fp1 (f := 1) fX4 (by decide) q2222 rfl rfl rfl) tF1 (by decide) h (fun w32 G h hT hG => ?_)
  refine r_aload_n dX4_day_75 rfl rfl iR ?_
  refine r_iload_n dX4_day_76 rfl rfl iI ?_
  refine r_aload_n dX4_day_77 rfl rfl iR ?_
  refine t_getI (j := 32) hT dX4_day_78 (fg1 (f := 32) fX4 (by decide) q2253 rfl) rfl ?_
  refine r_icmp_ge (tgt := 88) dX4_day_81 (by decide) h (fun h => ?_) (fun h => ?_)
  · refine r_iconst dX4_day_88 ?_
    refine wp.cast (st' := [vB false, vR (some t)]) rfl (congrArg (fun q => [q, vR (some t)]) vI0) ?_
    exact w_X4_day_89 h hT hG
  · refine r_iconst dX4_day_84 ?_
    refine r_goto (tgt := 89) dX4_day_85 (by decide) ?_
    refine wp.cast (st' := [vB true, vR (some t)]) rfl (congrArg (fun q => [q, vR (some t)]) vI1) ?_
    exact w_X4_day_89 h hT hG
def f_X4_day_48_b (k48 : Int → Tw → Prop) (l1 : Int) (w : Tw) (Q : Int → Tw → Prop) : Prop :=
  br l1 (w 32 0) ((w 32 0) ≤ l1) (f_X4_day_70 l1 w Q) (f_X4_does l1 w (fun x34 w33 => br0 x34 (x34 < 0) (f_X4_day_70 l1 w33 Q) (k48 (l1 + 1) w33)))
theorem w_X4_day_48_b {t : Nat} {ad : Nat → Nat} {G0 : Wd} {Q : Int → Tw → Prop} {k48 : Int → Tw → Prop} (hk48 : ∀ {l1 : Int} {w : Tw} {G : Wd}, k48 l1 w → TwAt t ad w (G 2) → (∀ r, r ≠ 2 → G r = G0 r) → wp m_X4_day 10 0 0 48 [some (vR (some t)), some (vI l1)] [] G (twQ t ad G0 (uI Q)) noX) {l1 : Int} {w : Tw} {G : Wd} (h : f_X4_day_48_b k48 l1 w Q) (hT : TwAt t ad w (G 2)) (hG : ∀ r, r ≠ 2 → G r = G0 r) : wp m_X4_day 10 0 0 48 [some (vR (some t)), some (vI l1)] [] G (twQ t ad G0 (uI Q)) noX := by
  unfold f_X4_day_48_b at h
  refine r_iload_n dX4_day_48 rfl rfl iI ?_
  refine r_aload_n dX4_day_49 rfl rfl iR ?_
  refine t_getI (j := 32) hT dX4_day_50 (fg1 (f := 32) fX4 (by decide) q2253 rfl) rfl ?_
  refine r_icmp_ge (tgt := 70) dX4_day_53 (by decide) h (fun h => ?_) (fun h => ?_)
  · exact w_X4_day_70 h hT hG
  · refine r_aload_n dX4_day_56 rfl rfl iR ?_
    refine r_iload_n dX4_day_57 rfl rfl iI ?_
    refine r_callV dX4_day_58 (tisC hT) (c_X4_does h hT hG) q2596 q2598 qs78 q117 q2599 rfl yo_X4_does rfl (by decide) (by decide) rfl rc0 (by decide) (Nat.le_refl _) (Nat.le_refl _) (tofI fun x34 w33 G h hT hG => ?_) nox
    refine r_if_lt (tgt := 70) dX4_day_61 (by decide) h (fun h => ?_) (fun h => ?_)
    · exact w_X4_day_70 h hT hG
    · refine r_iinc (L' := [some (vR (some t)), some (vI (l1 + 1))]) dX4_day_64 rfl rfl cR (by decide) ?_
      refine r_goto (tgt := 48) dX4_day_67 (by decide) ?_
      exact hk48 h hT hG
def f_X4_day_48 (Q : Int → Tw → Prop) : Nat → Int → Tw → Prop
  | 0, _, _ => False
  | fl + 1, l1, w => f_X4_day_48_b    (fun l1 w => f_X4_day_48    Q fl l1 w) l1 w Q
theorem w_X4_day_48 {t : Nat} {ad : Nat → Nat} {G0 : Wd} {Q : Int → Tw → Prop} : ∀ (fl : Nat) {l1 : Int} {w : Tw} {G : Wd}, f_X4_day_48 Q fl l1 w → TwAt t ad w (G 2) → (∀ r, r ≠ 2 → G r = G0 r) → wp m_X4_day 10 0 0 48 [some (vR (some t)), some (vI l1)] [] G (twQ t ad G0 (uI Q)) noX := by
  intro fl
  induction fl with
  | zero => intro l1 w G h; exact (show False from h).elim
  | succ fl ih => intro l1 w G h hT hG; exact w_X4_day_48_b   (fun h hT hG => ih h hT hG) h hT hG
def f_X4_day_17_b (k17 : Tw → Prop) (w : Tw) (Q : Int → Tw → Prop) : Prop :=
  br (w 5 0) (w 6 0) ((w 6 0) ≤ (w 5 0)) (f_X4_putsBy  w (fun w35 => ∃ fl36, f_X4_day_48 Q fl36 0 w35)) (f_X4_readsAct  w (fun x38 w37 => brB x38 (k17 w37) (Q ((-1) - (w37 5 0)) w37)))
theorem w_X4_day_17_b {t : Nat} {ad : Nat → Nat} {G0 : Wd} {Q : Int → Tw → Prop} {k17 : Tw → Prop} (hk17 : ∀ {w : Tw} {G : Wd}, k17 w → TwAt t ad w (G 2) → (∀ r, r ≠ 2 → G r = G0 r) → wp m_X4_day 10 0 0 17 [some (vR (some t)), none] [] G (twQ t ad G0 (uI Q)) noX) {w : Tw} {G : Wd} (h : f_X4_day_17_b k17 w Q) (hT : TwAt t ad w (G 2)) (hG : ∀ r, r ≠ 2 → G r = G0 r) : wp m_X4_day 10 0 0 17 [some (vR (some t)), none] [] G (twQ t ad G0 (uI Q)) noX := by
  unfold f_X4_day_17_b at h
  refine r_aload_n dX4_day_17 rfl rfl iR ?_
  refine t_getI (j := 5) hT dX4_day_18 (fg1 (f := 5) fX4 (by decide) q2226 rfl) rfl ?_
  refine r_aload_n dX4_day_21 rfl rfl iR ?_
  refine t_getI (j := 6) hT dX4_day_22 (fg1 (f := 6) fX4 (by decide) q2227 rfl) rfl ?_
  refine r_icmp_ge (tgt := 42) dX4_day_25 (by decide) h (fun h => ?_) (fun h => ?_)
  · refine r_aload_n dX4_day_42 rfl rfl iR ?_
    refine r_callV dX4_day_43 (tisC hT) (c_X4_putsBy h hT hG) q2399 q2401 qs54 q117 q2402 rfl yo_X4_putsBy rfl (by decide) (by decide) rfl rc0 (by decide) (Nat.le_refl _) (Nat.le_refl _) (tofV fun w35 G h hT hG => ?_) nox
    refine r_iconst dX4_day_46 ?_
    refine r_istore_n (L' := [some (vR (some t)), some (vI 0)]) dX4_day_47 rfl rfl iI cR (by decide) ?_
    obtain ⟨fl36, h⟩ := h
    exact w_X4_day_48 fl36 h hT hG
  · refine r_aload_n dX4_day_28 rfl rfl iR ?_
    refine r_callV dX4_day_29 (tisC hT) (c_X4_readsAct h hT hG) q2587 q2589 qs76 q117 q2590 rfl yo_X4_readsAct rfl (by decide) (by decide) rfl rc0 (by decide) (Nat.le_refl _) (Nat.le_refl _) (tofB fun x38 w37 G h hT hG => ?_) nox
    refine r_ifZ_ne (tgt := 17) dX4_day_32 (by decide) h (fun h => ?_) (fun h => ?_)
    · exact hk17 h hT hG
    · refine r_iconst dX4_day_35 ?_
      refine r_aload_n dX4_day_36 rfl rfl iR ?_
      refine t_getI (j := 5) hT dX4_day_37 (fg1 (f := 5) fX4 (by decide) q2226 rfl) rfl ?_
      refine r_isub dX4_day_40 ?_
      exact r_iret rfl dX4_day_41 ⟨_, hT, hG, _, rfl, h⟩
def f_X4_day_17 (Q : Int → Tw → Prop) : Nat → Tw → Prop
  | 0, _ => False
  | fl + 1, w => f_X4_day_17_b    (fun  w => f_X4_day_17    Q fl  w)  w Q
theorem w_X4_day_17 {t : Nat} {ad : Nat → Nat} {G0 : Wd} {Q : Int → Tw → Prop} : ∀ (fl : Nat) {w : Tw} {G : Wd}, f_X4_day_17 Q fl w → TwAt t ad w (G 2) → (∀ r, r ≠ 2 → G r = G0 r) → wp m_X4_day 10 0 0 17 [some (vR (some t)), none] [] G (twQ t ad G0 (uI Q)) noX := by
  intro fl
  induction fl with
  | zero => intro  w G h; exact (show False from h).elim
  | succ fl ih => intro  w G h hT hG; exact w_X4_day_17_b   (fun h hT hG => ih h hT hG) h hT hG
def f_X4_day (w : Tw) (Q : Int → Tw → Prop) : Prop :=
  tS w 0 0 0 (fun w39 => f_X4_begins 80 w39 (fun x41 w40 => tS w40 32 0 0 (fun w42 => ∃ fl43, f_X4_day_17 Q fl43 w42)))
theorem w_X4_day {t : Nat} {ad : Nat → Nat} {G0 : Wd} {Q : Int → Tw → Prop} {w : Tw} {G : Wd} (h : f_X4_day w Q) (hT : TwAt t ad w (G 2)) (hG : ∀ r, r ≠ 2 → G r = G0 r) : wp m_X4_day 10 0 0 0 [some (vR (some t)), none] [] G (twQ t ad G0 (uI Q)) noX := by
  unfold f_X4_day at h
  refine r_aload_n dX4_day_0 rfl rfl iR ?_
  refine r_iconst dX4_day_1 ?_
  refine t_put (j := 0) hT hG dX4_day_2 (fp1 (f := 0) fX4 (by decide) q2221 rfl rfl rfl) tF0 (by decide) h (fun w39 G h hT hG => ?_)
  refine r_aload_n dX4_day_5 rfl rfl iR ?_
  refine r_bipush dX4_day_6 (by decide) ?_
  refine r_callV dX4_day_8 (tisC hT) (c_X4_begins h hT hG) q2145 q2147 qs41 q117 q2148 rfl yo_X4_begins rfl (by decide) (by decide) rfl rc0 (by decide) (Nat.le_refl _) (Nat.le_refl _) (tofI fun x41 w40 G h hT hG => ?_) nox
  refine r_pop dX4_day_11 c1I ?_
  refine r_aload_n dX4_day_12 rfl rfl iR ?_
  refine r_iconst dX4_day_13 ?_
  refine t_put (j := 32) hT hG dX4_day_14 (fp1 (f := 32) fX4 (by decide) q2253 rfl rfl rfl) tF32 (by decide) h (fun w42 G h hT hG => ?_)
  obtain ⟨fl43, h⟩ := h
  exact w_X4_day_17 fl43 h hT hG
theorem c_X4_day {t : Nat} {ad : Nat → Nat} {G0 : Wd} {Q : Int → Tw → Prop} {w : Tw} {G : Wd} (h : f_X4_day w Q) (hT : TwAt t ad w (G 2)) (hG : ∀ r, r ≠ 2 → G r = G0 r) : call yX4_day (Cond.code yX4_day cX4_day 2 (some .int)) 10 0 0 [vR (some t)] G (twQ t ad G0 (uI Q)) noX :=
  call.enter (by decide +kernel) (la_1 c1R (la_nil rfl)) rfl (w_X4_day  h hT hG)
