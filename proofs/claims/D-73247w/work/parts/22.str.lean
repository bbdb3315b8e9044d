/-! Strings, decompiled (printed by genx.py) -/
set_option maxRecDepth 100000
abbrev m_J12_isLatin1 : Mt := (yJ12_isLatin1.cls, cJ12_isLatin1, 1, some .boolean, [], yJ12_isLatin1.name)
theorem yo_J12_isLatin1 : yOK yJ12_isLatin1 0 := ⟨by decide +kernel, by decide +kernel, by decide +kernel⟩
def f_J12_isLatin1_17 (a0 : Nat) (G : Wd) (Q : Bool → Wd → Prop) : Prop :=
  Q false G
theorem w_J12_isLatin1_17 {a0 : Nat} {Q : Bool → Wd → Prop} {G : Wd} (h : f_J12_isLatin1_17 a0 G Q) : wp m_J12_isLatin1 1 0 0 17 [none] [] G (qB Q) noX := by
  unfold f_J12_isLatin1_17 at h
  refine r_iconst dJ12_isLatin1_17 ?_
  refine wp.cast (st' := [vB false]) rfl (congrArg (fun q => [q]) vI0) ?_
  exact r_zret rfl dJ12_isLatin1_18 ⟨_, rfl, h⟩
def f_J12_isLatin1 (a0 : Nat) (G : Wd) (Q : Bool → Wd → Prop) : Prop :=
  br0 1 ((1 : Int) = 0) (f_J12_isLatin1_17 a0 G Q) (gSc G a0 (br0 0 (¬ (0 : Int) = 0) (f_J12_isLatin1_17 a0 G Q) (Q true G)))
theorem w_J12_isLatin1 {a0 : Nat} {Q : Bool → Wd → Prop} {G : Wd} (h : f_J12_isLatin1 a0 G Q) : wp m_J12_isLatin1 1 0 0 0 [some (vR (some a0))] [] G (qB Q) noX := by
  unfold f_J12_isLatin1 at h
  refine r_getsI (x := 1) dJ12_isLatin1_0 q402 q270 q107 st_CS rfl ?_
  refine r_if_eq (tgt := 17) dJ12_isLatin1_3 (by decide) h (fun h => ?_) (fun h => ?_)
  · refine wp.locals (L' := [none]) (ls_n ls_0) ?_
    exact w_J12_isLatin1_17 h
  · refine r_aload_n dJ12_isLatin1_6 rfl rfl iR ?_
    refine r_getSc dJ12_isLatin1_7 q512 h (fun h => ?_)
    refine r_if_ne (tgt := 17) dJ12_isLatin1_10 (by decide) h (fun h => ?_) (fun h => ?_)
    · refine wp.locals (L' := [none]) (ls_n ls_0) ?_
      exact w_J12_isLatin1_17 h
    · refine r_iconst dJ12_isLatin1_13 ?_
      refine r_goto (tgt := 18) dJ12_isLatin1_14 (by decide) ?_
      refine wp.cast (st' := [vB true]) rfl (congrArg (fun q => [q]) vI1) ?_
      exact r_zret rfl dJ12_isLatin1_18 ⟨_, rfl, h⟩
theorem c_J12_isLatin1 {a0 : Nat} {Q : Bool → Wd → Prop} {G : Wd} (h : f_J12_isLatin1 a0 G Q) : call yJ12_isLatin1 (Cond.code yJ12_isLatin1 cJ12_isLatin1 1 (some .boolean)) 1 0 0 [vR (some a0)] G (qB Q) noX :=
  call.enter (by decide +kernel) (la_1 c1R (la_nil rfl)) rfl (w_J12_isLatin1 h)
abbrev m_J12_coder : Mt := (yJ12_coder.cls, cJ12_coder, 1, some .byte, [], yJ12_coder.name)
theorem yo_J12_coder : yOK yJ12_coder 0 := ⟨by decide +kernel, by decide +kernel, by decide +kernel⟩
def f_J12_coder (a0 : Nat) (G : Wd) (Q : Int → Wd → Prop) : Prop :=
  br0 1 ((1 : Int) = 0) (((-128 ≤ (1 : Int) ∧ (1 : Int) < 128) ∧ Q 1 G)) (gSc G a0 (((-128 ≤ (0 : Int) ∧ (0 : Int) < 128) ∧ Q 0 G)))
theorem w_J12_coder {a0 : Nat} {Q : Int → Wd → Prop} {G : Wd} (h : f_J12_coder a0 G Q) : wp m_J12_coder 1 0 0 0 [some (vR (some a0))] [] G (qI Q) noX := by
  unfold f_J12_coder at h
  refine r_getsI (x := 1) dJ12_coder_0 q402 q270 q107 st_CS rfl ?_
  refine r_if_eq (tgt := 13) dJ12_coder_3 (by decide) h (fun h => ?_) (fun h => ?_)
  · refine r_iconst dJ12_coder_13 ?_
    obtain ⟨hc, h⟩ := h
    exact r_bret hc rfl dJ12_coder_14 ⟨_, rfl, h⟩
  · refine r_aload_n dJ12_coder_6 rfl rfl iR ?_
    refine r_getSc dJ12_coder_7 q512 h (fun h => ?_)
    refine r_goto (tgt := 14) dJ12_coder_10 (by decide) ?_
    obtain ⟨hc, h⟩ := h
    exact r_bret hc rfl dJ12_coder_14 ⟨_, rfl, h⟩
theorem c_J12_coder {a0 : Nat} {Q : Int → Wd → Prop} {G : Wd} (h : f_J12_coder a0 G Q) : call yJ12_coder (Cond.code yJ12_coder cJ12_coder 1 (some .byte)) 1 0 0 [vR (some a0)] G (qI Q) noX :=
  call.enter (by decide +kernel) (la_1 c1R (la_nil rfl)) rfl (w_J12_coder h)
abbrev m_J17_checkIndex : Mt := (yJ17_checkIndex.cls, cJ17_checkIndex, 3, some .int, [], yJ17_checkIndex.name)
theorem yo_J17_checkIndex : yOK yJ17_checkIndex 3 := ⟨by decide +kernel, by decide +kernel, by decide +kernel⟩
def f_J17_checkIndex_9 (l0 : Int) (l1 : Int) (l2 : Option Nat) (G : Wd) (Q : Int → Wd → Prop) : Prop :=
  False
theorem w_J17_checkIndex_9 {Q : Int → Wd → Prop} {l0 : Int} {l1 : Int} {l2 : Option Nat} {G : Wd} (h : f_J17_checkIndex_9 l0 l1 l2 G Q) : wp m_J17_checkIndex 1 0 0 9 [some (vI l0), some (vI l1), some (vR l2)] [] G (qI Q) noX := by
  unfold f_J17_checkIndex_9 at h
  refine r_aload_n dJ17_checkIndex_9 rfl rfl iR ?_
  refine r_iload_n dJ17_checkIndex_10 rfl rfl iI ?_
  refine r_iload_n dJ17_checkIndex_11 rfl rfl iI ?_
  exact h.elim
def f_J17_checkIndex (a0 : Int) (a1 : Int) (a2 : Option Nat) (G : Wd) (Q : Int → Wd → Prop) : Prop :=
  br0 a0 (a0 < 0) (f_J17_checkIndex_9 a0 a1 a2 G Q) (br a0 a1 (a0 < a1) (Q a0 G) (f_J17_checkIndex_9 a0 a1 a2 G Q))
theorem w_J17_checkIndex {Q : Int → Wd → Prop} {a0 : Int} {a1 : Int} {a2 : Option Nat} {G : Wd} (h : f_J17_checkIndex a0 a1 a2 G Q) : wp m_J17_checkIndex 1 0 0 0 [some (vI a0), some (vI a1), some (vR a2)] [] G (qI Q) noX := by
  unfold f_J17_checkIndex at h
  refine r_iload_n dJ17_checkIndex_0 rfl rfl iI ?_
  refine r_if_lt (tgt := 9) dJ17_checkIndex_1 (by decide) h (fun h => ?_) (fun h => ?_)
  · exact w_J17_checkIndex_9 h
  · refine r_iload_n dJ17_checkIndex_4 rfl rfl iI ?_
    refine r_iload_n dJ17_checkIndex_5 rfl rfl iI ?_
    refine r_icmp_lt (tgt := 16) dJ17_checkIndex_6 (by decide) h (fun h => ?_) (fun h => ?_)
    · refine r_iload_n dJ17_checkIndex_16 rfl rfl iI ?_
      exact r_iret rfl dJ17_checkIndex_17 ⟨_, rfl, h⟩
    · exact w_J17_checkIndex_9 h
theorem c_J17_checkIndex {a0 : Int} {a1 : Int} {a2 : Option Nat} {Q : Int → Wd → Prop} {G : Wd} (h : f_J17_checkIndex a0 a1 a2 G Q) : call yJ17_checkIndex (Cond.code yJ17_checkIndex cJ17_checkIndex 3 (some .int)) 1 0 0 [vI a0, vI a1, vR a2] G (qI Q) noX :=
  call.enter (by decide +kernel) (la_1 c1I (la_1 c1I (la_1 c1R (la_nil rfl)))) rfl (w_J17_checkIndex h)
abbrev m_J18_canEncode : Mt := (yJ18_canEncode.cls, cJ18_canEncode, 1, some .boolean, [], yJ18_canEncode.name)
theorem yo_J18_canEncode : yOK yJ18_canEncode 1 := ⟨by decide +kernel, by decide +kernel, by decide +kernel⟩
def f_J18_canEncode_15 (G : Wd) (Q : Bool → Wd → Prop) : Prop :=
  Q false G
theorem w_J18_canEncode_15 {Q : Bool → Wd → Prop} {G : Wd} (h : f_J18_canEncode_15 G Q) : wp m_J18_canEncode 1 0 0 15 [none] [] G (qB Q) noX := by
  unfold f_J18_canEncode_15 at h
  refine r_iconst dJ18_canEncode_15 ?_
  refine wp.cast (st' := [vB false]) rfl (congrArg (fun q => [q]) vI0) ?_
  exact r_zret rfl dJ18_canEncode_16 ⟨_, rfl, h⟩
def f_J18_canEncode (a0 : Int) (G : Wd) (Q : Bool → Wd → Prop) : Prop :=
  br0 a0 (a0 < 0) (f_J18_canEncode_15 G Q) (br a0 255 ((255 : Int) < a0) (f_J18_canEncode_15 G Q) (Q true G))
theorem w_J18_canEncode {Q : Bool → Wd → Prop} {a0 : Int} {G : Wd} (h : f_J18_canEncode a0 G Q) : wp m_J18_canEncode 1 0 0 0 [some (vI a0)] [] G (qB Q) noX := by
  unfold f_J18_canEncode at h
  refine r_iload_n dJ18_canEncode_0 rfl rfl iI ?_
  refine r_if_lt (tgt := 15) dJ18_canEncode_1 (by decide) h (fun h => ?_) (fun h => ?_)
  · refine wp.locals (L' := [none]) (ls_n ls_0) ?_
    exact w_J18_canEncode_15 h
  · refine r_iload_n dJ18_canEncode_4 rfl rfl iI ?_
    refine r_sipush dJ18_canEncode_5 (by decide) ?_
    refine r_icmp_gt (tgt := 15) dJ18_canEncode_8 (by decide) h (fun h => ?_) (fun h => ?_)
    · refine wp.locals (L' := [none]) (ls_n ls_0) ?_
      exact w_J18_canEncode_15 h
    · refine r_iconst dJ18_canEncode_11 ?_
      refine r_goto (tgt := 16) dJ18_canEncode_12 (by decide) ?_
      refine wp.cast (st' := [vB true]) rfl (congrArg (fun q => [q]) vI1) ?_
      exact r_zret rfl dJ18_canEncode_16 ⟨_, rfl, h⟩
theorem c_J18_canEncode {a0 : Int} {Q : Bool → Wd → Prop} {G : Wd} (h : f_J18_canEncode a0 G Q) : call yJ18_canEncode (Cond.code yJ18_canEncode cJ18_canEncode 1 (some .boolean)) 1 0 0 [vI a0] G (qB Q) noX :=
  call.enter (by decide +kernel) (la_1 c1I (la_nil rfl)) rfl (w_J18_canEncode h)
abbrev m_J18_indexOfChar : Mt := (yJ18_indexOfChar.cls, cJ18_indexOfChar, 6, some .int, [], yJ18_indexOfChar.name)
theorem yo_J18_indexOfChar : yOK yJ18_indexOfChar 4 := ⟨by decide +kernel, by decide +kernel, by decide +kernel⟩
def f_J18_indexOfChar_7_b (k7 : Option Nat → Int → Int → Int → Wd → Prop) (l0 : Option Nat) (l3 : Int) (l4 : Int) (l5 : Int) (G : Wd) (Q : Int → Wd → Prop) : Prop :=
  br l5 l3 (l3 ≤ l5) (Q (-1) G) (nn l0 (fun a3 => ldSb G a3 l5 (fun x4 => br x4 l4 (¬ x4 = l4) (k7 (some a3) l3 l4 (l5 + 1) G) (Q l5 G))))
theorem w_J18_indexOfChar_7_b {Q : Int → Wd → Prop} {k7 : Option Nat → Int → Int → Int → Wd → Prop} (hk7 : ∀ {l0 : Option Nat} {l3 : Int} {l4 : Int} {l5 : Int} {G : Wd}, k7 l0 l3 l4 l5 G → wp m_J18_indexOfChar 1 0 0 7 [some (vR l0), none, none, some (vI l3), some (vI l4), some (vI l5)] [] G (qI Q) noX) {l0 : Option Nat} {l3 : Int} {l4 : Int} {l5 : Int} {G : Wd} (h : f_J18_indexOfChar_7_b k7 l0 l3 l4 l5 G Q) : wp m_J18_indexOfChar 1 0 0 7 [some (vR l0), none, none, some (vI l3), some (vI l4), some (vI l5)] [] G (qI Q) noX := by
  unfold f_J18_indexOfChar_7_b at h
  refine r_iload dJ18_indexOfChar_7 rfl iI ?_
  refine r_iload_n dJ18_indexOfChar_9 rfl rfl iI ?_
  refine r_icmp_ge (tgt := 31) dJ18_indexOfChar_10 (by decide) h (fun h => ?_) (fun h => ?_)
  · refine r_iconst dJ18_indexOfChar_31 ?_
    exact r_iret rfl dJ18_indexOfChar_32 ⟨_, rfl, h⟩
  · refine r_aload_n dJ18_indexOfChar_13 rfl rfl iR ?_
    refine r_iload dJ18_indexOfChar_14 rfl iI ?_
    obtain ⟨a3, e, h⟩ := h
    refine wp.cast (L' := [some (vR (some a3)), none, none, some (vI l3), some (vI l4), some (vI l5)]) (st' := [vI l5, vR (some a3)]) (by rw [e]) (by rw [e]) ?_
    refine r_baldS dJ18_indexOfChar_16 h (fun x4 h => ?_)
    refine r_iload dJ18_indexOfChar_17 rfl iI ?_
    refine r_icmp_ne (tgt := 25) dJ18_indexOfChar_19 (by decide) h (fun h => ?_) (fun h => ?_)
    · refine r_iinc (L' := [some (vR (some a3)), none, none, some (vI l3), some (vI l4), some (vI (l5 + 1))]) dJ18_indexOfChar_25 rfl rfl cI (by decide) ?_
      refine r_goto (tgt := 7) dJ18_indexOfChar_28 (by decide) ?_
      exact hk7 h
    · refine r_iload dJ18_indexOfChar_22 rfl iI ?_
      exact r_iret rfl dJ18_indexOfChar_24 ⟨_, rfl, h⟩
def f_J18_indexOfChar_7 (Q : Int → Wd → Prop) : Nat → Option Nat → Int → Int → Int → Wd → Prop
  | 0, _, _, _, _, _ => False
  | fl + 1, l0, l3, l4, l5, G => f_J18_indexOfChar_7_b  (fun l0 l3 l4 l5 G => f_J18_indexOfChar_7  Q fl l0 l3 l4 l5 G) l0 l3 l4 l5 G Q
theorem w_J18_indexOfChar_7 {Q : Int → Wd → Prop} : ∀ (fl : Nat) {l0 : Option Nat} {l3 : Int} {l4 : Int} {l5 : Int} {G : Wd}, f_J18_indexOfChar_7 Q fl l0 l3 l4 l5 G → wp m_J18_indexOfChar 1 0 0 7 [some (vR l0), none, none, some (vI l3), some (vI l4), some (vI l5)] [] G (qI Q) noX := by
  intro fl
  induction fl with
  | zero => intro l0 l3 l4 l5 G h; exact (show False from h).elim
  | succ fl ih => intro l0 l3 l4 l5 G h; exact w_J18_indexOfChar_7_b  (fun h => ih h) h
def f_J18_indexOfChar (a0 : Option Nat) (a1 : Int) (a2 : Int) (a3 : Int) (G : Wd) (Q : Int → Wd → Prop) : Prop :=
  ∃ fl5, f_J18_indexOfChar_7 Q fl5 a0 a3 (a1.bmod 256) a2 G
theorem w_J18_indexOfChar {Q : Int → Wd → Prop} {a0 : Option Nat} {a1 : Int} {a2 : Int} {a3 : Int} {G : Wd} (h : f_J18_indexOfChar a0 a1 a2 a3 G Q) : wp m_J18_indexOfChar 1 0 0 0 [some (vR a0), some (vI a1), some (vI a2), some (vI a3), none, none] [] G (qI Q) noX := by
  unfold f_J18_indexOfChar at h
  refine r_iload_n dJ18_indexOfChar_0 rfl rfl iI ?_
  refine r_i2b dJ18_indexOfChar_1 ?_
  refine r_istore (L' := [some (vR a0), some (vI a1), some (vI a2), some (vI a3), some (vI (a1.bmod 256)), none]) dJ18_indexOfChar_2 rfl iI cI (by decide) ?_
  refine r_iload_n dJ18_indexOfChar_4 rfl rfl iI ?_
  refine r_istore (L' := [some (vR a0), some (vI a1), some (vI a2), some (vI a3), some (vI (a1.bmod 256)), some (vI a2)]) dJ18_indexOfChar_5 rfl iI cI (by decide) ?_
  refine wp.locals (L' := [some (vR a0), none, none, some (vI a3), some (vI (a1.bmod 256)), some (vI a2)]) (ls_s (ls_n (ls_n (ls_s (ls_s (ls_s ls_0)))))) ?_
  obtain ⟨fl5, h⟩ := h
  exact w_J18_indexOfChar_7 fl5 h
theorem c_J18_indexOfChar {a0 : Option Nat} {a1 : Int} {a2 : Int} {a3 : Int} {Q : Int → Wd → Prop} {G : Wd} (h : f_J18_indexOfChar a0 a1 a2 a3 G Q) : call yJ18_indexOfChar (Cond.code yJ18_indexOfChar cJ18_indexOfChar 6 (some .int)) 1 0 0 [vR a0, vI a1, vI a2, vI a3] G (qI Q) noX :=
  call.enter (by decide +kernel) (la_1 c1R (la_1 c1I (la_1 c1I (la_1 c1I (la_nil rfl))))) rfl (w_J18_indexOfChar h)
abbrev m_X1_in : Mt := (yX1_in.cls, cX1_in, 6, some .boolean, [], yX1_in.name)
theorem yo_X1_in : yOK yX1_in 3 := ⟨by decide +kernel, by decide +kernel, by decide +kernel⟩
def f_X1_in_17 (G : Wd) (Q : Bool → Wd → Prop) : Prop :=
  Q false G
theorem w_X1_in_17 {Q : Bool → Wd → Prop} {G : Wd} (h : f_X1_in_17 G Q) : wp m_X1_in 1 0 0 17 [none, none, none, none, none, none] [] G (qB Q) noX := by
  unfold f_X1_in_17 at h
  refine r_iconst dX1_in_17 ?_
  refine wp.cast (st' := [vB false]) rfl (congrArg (fun q => [q]) vI0) ?_
  exact r_zret rfl dX1_in_18 ⟨_, rfl, h⟩
def f_X1_in (a0 : Int) (a2 : Int) (a4 : Int) (G : Wd) (Q : Bool → Wd → Prop) : Prop :=
  ((R64 a0 ∧ R64 a2) ∧ br0 (sg a0 a2) ((sg a0 a2) < 0) (f_X1_in_17 G Q) (((R64 a0 ∧ R64 a4) ∧ br0 (sg a0 a4) (0 < (sg a0 a4)) (f_X1_in_17 G Q) (Q true G))))
theorem w_X1_in {Q : Bool → Wd → Prop} {a0 : Int} {a2 : Int} {a4 : Int} {G : Wd} (h : f_X1_in a0 a2 a4 G Q) : wp m_X1_in 1 0 0 0 [some (vJ a0), none, some (vJ a2), none, some (vJ a4), none] [] G (qB Q) noX := by
  unfold f_X1_in at h
  refine r_lload_n dX1_in_0 rfl rfl iJ ?_
  refine r_lload_n dX1_in_1 rfl rfl iJ ?_
  refine r_lcmp dX1_in_2 h (fun h => ?_)
  refine r_if_lt (tgt := 17) dX1_in_3 (by decide) h (fun h => ?_) (fun h => ?_)
  · refine wp.locals (L' := [none, none, none, none, none, none]) (ls_n (ls_n (ls_n (ls_n (ls_n (ls_n ls_0)))))) ?_
    exact w_X1_in_17 h
  · refine r_lload_n dX1_in_6 rfl rfl iJ ?_
    refine r_lload dX1_in_7 rfl iJ ?_
    refine r_lcmp dX1_in_9 h (fun h => ?_)
    refine r_if_gt (tgt := 17) dX1_in_10 (by decide) h (fun h => ?_) (fun h => ?_)
    · refine wp.locals (L' := [none, none, none, none, none, none]) (ls_n (ls_n (ls_n (ls_n (ls_n (ls_n ls_0)))))) ?_
      exact w_X1_in_17 h
    · refine r_iconst dX1_in_13 ?_
      refine r_goto (tgt := 18) dX1_in_14 (by decide) ?_
      refine wp.cast (st' := [vB true]) rfl (congrArg (fun q => [q]) vI1) ?_
      exact r_zret rfl dX1_in_18 ⟨_, rfl, h⟩
theorem c_X1_in {a0 : Int} {a2 : Int} {a4 : Int} {Q : Bool → Wd → Prop} {G : Wd} (h : f_X1_in a0 a2 a4 G Q) : call yX1_in (Cond.code yX1_in cX1_in 6 (some .boolean)) 1 0 0 [vJ a0, vJ a2, vJ a4] G (qB Q) noX :=
  call.enter (by decide +kernel) (la_2 (la_2 (la_2 (la_nil rfl)))) rfl (w_X1_in h)
abbrev m_J12_length : Mt := (yJ12_length.cls, cJ12_length, 1, some .int, [], yJ12_length.name)
theorem yo_J12_length : yOK yJ12_length 0 := ⟨by decide +kernel, by decide +kernel, by decide +kernel⟩
def f_J12_length (a0 : Nat) (G : Wd) (Q : Int → Wd → Prop) : Prop :=
  gSv G a0 (fun a5 => lnS G a5 (fun x6 => (isS G a0 ∧ f_J12_coder a0  G (fun x8 G7 => Q (ishr x6 x8) G7))))
theorem w_J12_length {a0 : Nat} {Q : Int → Wd → Prop} {G : Wd} (h : f_J12_length a0 G Q) : wp m_J12_length 2 0 0 0 [some (vR (some a0))] [] G (qI Q) noX := by
  unfold f_J12_length at h
  refine r_aload_n dJ12_length_0 rfl rfl iR ?_
  refine r_getSv dJ12_length_1 q511 h (fun a5 h => ?_)
  refine r_lenS dJ12_length_4 h (fun x6 h => ?_)
  refine r_aload_n dJ12_length_5 rfl rfl iR ?_
  obtain ⟨hC, h⟩ := h
  refine r_callVS dJ12_length_6 hC (c_J12_coder h) q398 q399 q400 q107 q401 rfl yo_J12_coder rfl (by decide) (by decide) rfl (rc1 c1I rc0) (by decide) (Nat.zero_le _) (Nat.zero_le _) (ofI fun x8 G7 h => ?_) nox
  refine r_ishr dJ12_length_9 ?_
  exact r_iret rfl dJ12_length_10 ⟨_, rfl, h⟩
theorem c_J12_length {a0 : Nat} {Q : Int → Wd → Prop} {G : Wd} (h : f_J12_length a0 G Q) : call yJ12_length (Cond.code yJ12_length cJ12_length 1 (some .int)) 2 0 0 [vR (some a0)] G (qI Q) noX :=
  call.enter (by decide +kernel) (la_1 c1R (la_nil rfl)) rfl (w_J12_length h)
abbrev m_J12_checkIndex : Mt := (yJ12_checkIndex.cls, cJ12_checkIndex, 2, none, [], yJ12_checkIndex.name)
theorem yo_J12_checkIndex : yOK yJ12_checkIndex 2 := ⟨by decide +kernel, by decide +kernel, by decide +kernel⟩
def f_J12_checkIndex (a0 : Int) (a1 : Int) (G : Wd) (Q : Wd → Prop) : Prop :=
  (∀ x4 : Option Nat, f_J17_checkIndex a0 a1 x4 G (fun x6 G5 => Q G5))
theorem w_J12_checkIndex {Q : Wd → Prop} {a0 : Int} {a1 : Int} {G : Wd} (h : f_J12_checkIndex a0 a1 G Q) : wp m_J12_checkIndex 2 0 0 0 [some (vI a0), some (vI a1)] [] G (qV Q) noX := by
  unfold f_J12_checkIndex at h
  refine r_iload_n dJ12_checkIndex_0 rfl rfl iI ?_
  refine r_iload_n dJ12_checkIndex_1 rfl rfl iI ?_
  refine r_getsR dJ12_checkIndex_2 q380 q381 q113 st_SF (fun x4 => ?_)
  have h := h x4
  refine r_callS dJ12_checkIndex_5 (c_J17_checkIndex h) q2195 q2196 q113 q2197 yo_J17_checkIndex rfl (by decide) (by decide) rfl rc0 (by decide) (Nat.zero_le _) (Nat.zero_le _) (ofI fun x6 G5 h => ?_) nox
  refine r_pop dJ12_checkIndex_8 c1I ?_
  exact r_vret rfl dJ12_checkIndex_9 ⟨rfl, h⟩
theorem c_J12_checkIndex {a0 : Int} {a1 : Int} {Q : Wd → Prop} {G : Wd} (h : f_J12_checkIndex a0 a1 G Q) : call yJ12_checkIndex (Cond.code yJ12_checkIndex cJ12_checkIndex 2 (none)) 2 0 0 [vI a0, vI a1] G (qV Q) noX :=
  call.enter (by decide +kernel) (la_1 c1I (la_1 c1I (la_nil rfl))) rfl (w_J12_checkIndex h)
abbrev m_J18_indexOf : Mt := (yJ18_indexOf.cls, cJ18_indexOf, 4, some .int, [], yJ18_indexOf.name)
theorem yo_J18_indexOf : yOK yJ18_indexOf 4 := ⟨by decide +kernel, by decide +kernel, by decide +kernel⟩
def f_J18_indexOf (a0 : Option Nat) (a1 : Int) (a2 : Int) (a3 : Int) (G : Wd) (Q : Int → Wd → Prop) : Prop :=
  f_J18_canEncode a1 G (fun x8 G7 => brB x8 (((R32 a2 ∧ R32 0) ∧ nn a0 (fun a9 => lnS G7 a9 (fun x10 => ((R32 a3 ∧ R32 x10) ∧ br (max a2 0) (min a3 x10) ((max a2 0) < (min a3 x10)) (f_J18_indexOfChar (some a9) a1 (max a2 0) (min a3 x10) G7 (fun x12 G11 => Q x12 G11)) (Q (-1) G7)))))) (Q (-1) G7))
theorem w_J18_indexOf {Q : Int → Wd → Prop} {a0 : Option Nat} {a1 : Int} {a2 : Int} {a3 : Int} {G : Wd} (h : f_J18_indexOf a0 a1 a2 a3 G Q) : wp m_J18_indexOf 2 0 0 0 [some (vR a0), some (vI a1), some (vI a2), some (vI a3)] [] G (qI Q) noX := by
  unfold f_J18_indexOf at h
  refine r_iload_n dJ18_indexOf_0 rfl rfl iI ?_
  refine r_callS dJ18_indexOf_1 (c_J18_canEncode h) q874 q875 q114 q876 yo_J18_canEncode rfl (by decide) (by decide) rfl rc0 (by decide) (Nat.zero_le _) (Nat.zero_le _) (ofB fun x8 G7 h => ?_) nox
  refine r_ifZ_ne (tgt := 9) dJ18_indexOf_4 (by decide) h (fun h => ?_) (fun h => ?_)
  · refine r_iload_n dJ18_indexOf_9 rfl rfl iI ?_
    refine r_iconst dJ18_indexOf_10 ?_
    refine r_mmax dJ18_indexOf_11 q877 rc0 (by decide) (by decide) h (fun h => ?_)
    refine r_istore_n (L' := [some (vR a0), some (vI a1), some (vI (max a2 0)), some (vI a3)]) dJ18_indexOf_14 rfl rfl iI cI (by decide) ?_
    refine r_iload_n dJ18_indexOf_15 rfl rfl iI ?_
    refine r_aload_n dJ18_indexOf_16 rfl rfl iR ?_
    obtain ⟨a9, e, h⟩ := h
    refine wp.cast (L' := [some (vR (some a9)), some (vI a1), some (vI (max a2 0)), some (vI a3)]) (st' := [vR (some a9), vI a3]) (by rw [e]) (by rw [e]) ?_
    refine r_lenS dJ18_indexOf_17 h (fun x10 h => ?_)
    refine r_mmin dJ18_indexOf_18 q878 rc0 (by decide) (by decide) h (fun h => ?_)
    refine r_istore_n (L' := [some (vR (some a9)), some (vI a1), some (vI (max a2 0)), some (vI (min a3 x10))]) dJ18_indexOf_21 rfl rfl iI cI (by decide) ?_
    refine r_iload_n dJ18_indexOf_22 rfl rfl iI ?_
    refine r_iload_n dJ18_indexOf_23 rfl rfl iI ?_
    refine r_icmp_lt (tgt := 29) dJ18_indexOf_24 (by decide) h (fun h => ?_) (fun h => ?_)
    · refine r_aload_n dJ18_indexOf_29 rfl rfl iR ?_
      refine r_iload_n dJ18_indexOf_30 rfl rfl iI ?_
      refine r_iload_n dJ18_indexOf_31 rfl rfl iI ?_
      refine r_iload_n dJ18_indexOf_32 rfl rfl iI ?_
      refine r_callS dJ18_indexOf_33 (c_J18_indexOfChar h) q879 q880 q114 q881 yo_J18_indexOfChar rfl (by decide) (by decide) rfl rc0 (by decide) (Nat.zero_le _) (Nat.zero_le _) (ofI fun x12 G11 h => ?_) nox
      exact r_iret rfl dJ18_indexOf_36 ⟨_, rfl, h⟩
    · refine r_iconst dJ18_indexOf_27 ?_
      exact r_iret rfl dJ18_indexOf_28 ⟨_, rfl, h⟩
  · refine r_iconst dJ18_indexOf_7 ?_
    exact r_iret rfl dJ18_indexOf_8 ⟨_, rfl, h⟩
theorem c_J18_indexOf {a0 : Option Nat} {a1 : Int} {a2 : Int} {a3 : Int} {Q : Int → Wd → Prop} {G : Wd} (h : f_J18_indexOf a0 a1 a2 a3 G Q) : call yJ18_indexOf (Cond.code yJ18_indexOf cJ18_indexOf 4 (some .int)) 2 0 0 [vR a0, vI a1, vI a2, vI a3] G (qI Q) noX :=
  call.enter (by decide +kernel) (la_1 c1R (la_1 c1I (la_1 c1I (la_1 c1I (la_nil rfl))))) rfl (w_J18_indexOf h)
abbrev m_J18_charAt : Mt := (yJ18_charAt.cls, cJ18_charAt, 2, some .char, [], yJ18_charAt.name)
theorem yo_J18_charAt : yOK yJ18_charAt 2 := ⟨by decide +kernel, by decide +kernel, by decide +kernel⟩
def f_J18_charAt (a0 : Option Nat) (a1 : Int) (G : Wd) (Q : Int → Wd → Prop) : Prop :=
  nn a0 (fun a5 => lnS G a5 (fun x6 => f_J12_checkIndex a1 x6 G (fun G7 => ldSb G7 a5 a1 (fun x8 => okc (iand x8 255) (((0 ≤ iand x8 255 ∧ iand x8 255 < 65536) ∧ Q (iand x8 255) G7))))))
theorem w_J18_charAt {Q : Int → Wd → Prop} {a0 : Option Nat} {a1 : Int} {G : Wd} (h : f_J18_charAt a0 a1 G Q) : wp m_J18_charAt 3 0 0 0 [some (vR a0), some (vI a1)] [] G (qI Q) noX := by
  unfold f_J18_charAt at h
  refine r_iload_n dJ18_charAt_0 rfl rfl iI ?_
  refine r_aload_n dJ18_charAt_1 rfl rfl iR ?_
  obtain ⟨a5, e, h⟩ := h
  refine wp.cast (L' := [some (vR (some a5)), some (vI a1)]) (st' := [vR (some a5), vI a1]) (by rw [e]) (by rw [e]) ?_
  refine r_lenS dJ18_charAt_2 h (fun x6 h => ?_)
  refine r_callS dJ18_charAt_3 (c_J12_checkIndex h) q2192 q2193 q107 q2194 yo_J12_checkIndex rfl (by decide) (by decide) rfl rc0 (by decide) (Nat.zero_le _) (Nat.zero_le _) (ofV fun G7 h => ?_) nox
  refine r_aload_n dJ18_charAt_6 rfl rfl iR ?_
  refine r_iload_n dJ18_charAt_7 rfl rfl iI ?_
  refine r_baldS dJ18_charAt_8 h (fun x8 h => ?_)
  refine r_sipush dJ18_charAt_9 (by decide) ?_
  refine r_iand dJ18_charAt_12 ?_
  refine r_i2c dJ18_charAt_13 h (fun h => ?_)
  obtain ⟨hc, h⟩ := h
  exact r_cret hc rfl dJ18_charAt_14 ⟨_, rfl, h⟩
theorem c_J18_charAt {a0 : Option Nat} {a1 : Int} {Q : Int → Wd → Prop} {G : Wd} (h : f_J18_charAt a0 a1 G Q) : call yJ18_charAt (Cond.code yJ18_charAt cJ18_charAt 2 (some .char)) 3 0 0 [vR a0, vI a1] G (qI Q) noX :=
  call.enter (by decide +kernel) (la_1 c1R (la_1 c1I (la_nil rfl))) rfl (w_J18_charAt h)
abbrev m_J12_indexOf_2 : Mt := (yJ12_indexOf_2.cls, cJ12_indexOf_2, 3, some .int, [], yJ12_indexOf_2.name)
theorem yo_J12_indexOf_2 : yOK yJ12_indexOf_2 2 := ⟨by decide +kernel, by decide +kernel, by decide +kernel⟩
def f_J12_indexOf_2 (a0 : Nat) (a1 : Int) (a2 : Int) (G : Wd) (Q : Int → Wd → Prop) : Prop :=
  (isS G a0 ∧ f_J12_isLatin1 a0  G (fun x12 G11 => brB x12 (gSv G11 a0 (fun a16 => (isS G11 a0 ∧ f_J12_length a0  G11 (fun x18 G17 => f_J18_indexOf (some a16) a1 a2 x18 G17 (fun x20 G19 => Q x20 G19))))) (gSv G11 a0 (fun a13 => (isS G11 a0 ∧ f_J12_length a0  G11 (fun x15 G14 => False))))))
theorem w_J12_indexOf_2 {a0 : Nat} {Q : Int → Wd → Prop} {a1 : Int} {a2 : Int} {G : Wd} (h : f_J12_indexOf_2 a0 a1 a2 G Q) : wp m_J12_indexOf_2 3 0 0 0 [some (vR (some a0)), some (vI a1), some (vI a2)] [] G (qI Q) noX := by
  unfold f_J12_indexOf_2 at h
  refine r_aload_n dJ12_indexOf_2_0 rfl rfl iR ?_
  obtain ⟨hC, h⟩ := h
  refine r_callVS dJ12_indexOf_2_1 hC (c_J12_isLatin1 h) q866 q867 q868 q107 q869 rfl yo_J12_isLatin1 rfl (by decide) (by decide) rfl rc0 (by decide) (Nat.zero_le _) (Nat.zero_le _) (ofB fun x12 G11 h => ?_) nox
  refine r_ifZ_eq (tgt := 23) dJ12_indexOf_2_4 (by decide) h (fun h => ?_) (fun h => ?_)
  · refine r_aload_n dJ12_indexOf_2_23 rfl rfl iR ?_
    refine r_getSv dJ12_indexOf_2_24 q511 h (fun a13 h => ?_)
    refine r_iload_n dJ12_indexOf_2_27 rfl rfl iI ?_
    refine r_iload_n dJ12_indexOf_2_28 rfl rfl iI ?_
    refine r_aload_n dJ12_indexOf_2_29 rfl rfl iR ?_
    obtain ⟨hC, h⟩ := h
    refine r_callVS dJ12_indexOf_2_30 hC (c_J12_length h) q870 q395 q396 q107 q397 rfl yo_J12_length rfl (by decide) (by decide) rfl (rc1 c1I (rc1 c1I (rc1 c1R rc0))) (by decide) (Nat.zero_le _) (Nat.zero_le _) (ofI fun x15 G14 h => ?_) nox
    exact h.elim
  · refine r_aload_n dJ12_indexOf_2_7 rfl rfl iR ?_
    refine r_getSv dJ12_indexOf_2_8 q511 h (fun a16 h => ?_)
    refine r_iload_n dJ12_indexOf_2_11 rfl rfl iI ?_
    refine r_iload_n dJ12_indexOf_2_12 rfl rfl iI ?_
    refine r_aload_n dJ12_indexOf_2_13 rfl rfl iR ?_
    obtain ⟨hC, h⟩ := h
    refine r_callVS dJ12_indexOf_2_14 hC (c_J12_length h) q870 q395 q396 q107 q397 rfl yo_J12_length rfl (by decide) (by decide) rfl (rc1 c1I (rc1 c1I (rc1 c1R rc0))) (by decide) (Nat.zero_le _) (Nat.zero_le _) (ofI fun x18 G17 h => ?_) nox
    refine r_callS dJ12_indexOf_2_17 (c_J18_indexOf h) q871 q872 q114 q873 yo_J18_indexOf rfl (by decide) (by decide) rfl rc0 (by decide) (Nat.zero_le _) (Nat.zero_le _) (ofI fun x20 G19 h => ?_) nox
    refine r_goto (tgt := 36) dJ12_indexOf_2_20 (by decide) ?_
    exact r_iret rfl dJ12_indexOf_2_36 ⟨_, rfl, h⟩
theorem c_J12_indexOf_2 {a0 : Nat} {a1 : Int} {a2 : Int} {Q : Int → Wd → Prop} {G : Wd} (h : f_J12_indexOf_2 a0 a1 a2 G Q) : call yJ12_indexOf_2 (Cond.code yJ12_indexOf_2 cJ12_indexOf_2 3 (some .int)) 3 0 0 [vR (some a0), vI a1, vI a2] G (qI Q) noX :=
  call.enter (by decide +kernel) (la_1 c1R (la_1 c1I (la_1 c1I (la_nil rfl)))) rfl (w_J12_indexOf_2 h)
abbrev m_J12_charAt : Mt := (yJ12_charAt.cls, cJ12_charAt, 2, some .char, [], yJ12_charAt.name)
theorem yo_J12_charAt : yOK yJ12_charAt 1 := ⟨by decide +kernel, by decide +kernel, by decide +kernel⟩
def f_J12_charAt (a0 : Nat) (a1 : Int) (G : Wd) (Q : Int → Wd → Prop) : Prop :=
  (isS G a0 ∧ f_J12_isLatin1 a0  G (fun x8 G7 => brB x8 (gSv G7 a0 (fun a10 => f_J18_charAt (some a10) a1 G7 (fun x12 G11 => ((0 ≤ x12 ∧ x12 < 65536) ∧ Q x12 G11)))) (gSv G7 a0 (fun a9 => False))))
theorem w_J12_charAt {a0 : Nat} {Q : Int → Wd → Prop} {a1 : Int} {G : Wd} (h : f_J12_charAt a0 a1 G Q) : wp m_J12_charAt 4 0 0 0 [some (vR (some a0)), some (vI a1)] [] G (qI Q) noX := by
  unfold f_J12_charAt at h
  refine r_aload_n dJ12_charAt_0 rfl rfl iR ?_
  obtain ⟨hC, h⟩ := h
  refine r_callVS dJ12_charAt_1 hC (c_J12_isLatin1 h) q866 q867 q868 q107 q869 rfl yo_J12_isLatin1 rfl (by decide) (by decide) rfl rc0 (by decide) (Nat.zero_le _) (Nat.zero_le _) (ofB fun x8 G7 h => ?_) nox
  refine r_ifZ_eq (tgt := 16) dJ12_charAt_4 (by decide) h (fun h => ?_) (fun h => ?_)
  · refine r_aload_n dJ12_charAt_16 rfl rfl iR ?_
    refine r_getSv dJ12_charAt_17 q511 h (fun a9 h => ?_)
    refine r_iload_n dJ12_charAt_20 rfl rfl iI ?_
    exact h.elim
  · refine r_aload_n dJ12_charAt_7 rfl rfl iR ?_
    refine r_getSv dJ12_charAt_8 q511 h (fun a10 h => ?_)
    refine r_iload_n dJ12_charAt_11 rfl rfl iI ?_
    refine r_callS dJ12_charAt_12 (c_J18_charAt h) q2189 q2190 q114 q2191 yo_J18_charAt rfl (by decide) (by decide) rfl rc0 (by decide) (Nat.zero_le _) (Nat.zero_le _) (ofI fun x12 G11 h => ?_) nox
    obtain ⟨hc, h⟩ := h
    exact r_cret hc rfl dJ12_charAt_15 ⟨_, rfl, h⟩
theorem c_J12_charAt {a0 : Nat} {a1 : Int} {Q : Int → Wd → Prop} {G : Wd} (h : f_J12_charAt a0 a1 G Q) : call yJ12_charAt (Cond.code yJ12_charAt cJ12_charAt 2 (some .char)) 4 0 0 [vR (some a0), vI a1] G (qI Q) noX :=
  call.enter (by decide +kernel) (la_1 c1R (la_1 c1I (la_nil rfl))) rfl (w_J12_charAt h)
abbrev m_J12_indexOf : Mt := (yJ12_indexOf.cls, cJ12_indexOf, 2, some .int, [], yJ12_indexOf.name)
theorem yo_J12_indexOf : yOK yJ12_indexOf 1 := ⟨by decide +kernel, by decide +kernel, by decide +kernel⟩
def f_J12_indexOf (a0 : Nat) (a1 : Int) (G : Wd) (Q : Int → Wd → Prop) : Prop :=
  (isS G a0 ∧ f_J12_indexOf_2 a0 a1 0 G (fun x4 G3 => Q x4 G3))
theorem w_J12_indexOf {a0 : Nat} {Q : Int → Wd → Prop} {a1 : Int} {G : Wd} (h : f_J12_indexOf a0 a1 G Q) : wp m_J12_indexOf 4 0 0 0 [some (vR (some a0)), some (vI a1)] [] G (qI Q) noX := by
  unfold f_J12_indexOf at h
  refine r_aload_n dJ12_indexOf_0 rfl rfl iR ?_
  refine r_iload_n dJ12_indexOf_1 rfl rfl iI ?_
  refine r_iconst dJ12_indexOf_2 ?_
  obtain ⟨hC, h⟩ := h
  refine r_callVS dJ12_indexOf_3 hC (c_J12_indexOf_2 h) q862 q863 q864 q107 q865 rfl yo_J12_indexOf_2 rfl (by decide) (by decide) rfl rc0 (by decide) (Nat.zero_le _) (Nat.zero_le _) (ofI fun x4 G3 h => ?_) nox
  exact r_iret rfl dJ12_indexOf_6 ⟨_, rfl, h⟩
theorem c_J12_indexOf {a0 : Nat} {a1 : Int} {Q : Int → Wd → Prop} {G : Wd} (h : f_J12_indexOf a0 a1 G Q) : call yJ12_indexOf (Cond.code yJ12_indexOf cJ12_indexOf 2 (some .int)) 4 0 0 [vR (some a0), vI a1] G (qI Q) noX :=
  call.enter (by decide +kernel) (la_1 c1R (la_1 c1I (la_nil rfl))) rfl (w_J12_indexOf h)
