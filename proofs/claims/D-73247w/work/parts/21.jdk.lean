/-! JDK collections, decompiled (printed by genx.py) -/
set_option maxRecDepth 100000
abbrev m_J26_init : Mt := (yJ26_init.cls, cJ26_init, 4, none, [], yJ26_init.name)
theorem yo_J26_init : yOK yJ26_init 3 := ⟨by decide +kernel, by decide +kernel, by decide +kernel⟩
def f_J26_init (a0 : Nat) (a1 : Option Nat) (a2 : Option Nat) (a3 : Option Nat) (G : Wd) (Q : Wd → Prop) : Prop :=
  pF G a0 [17] 0 (vR a2) (fun G4 => pF G4 a0 [17] 1 (vR a3) (fun G5 => pF G5 a0 [17] 2 (vR a1) (fun G6 => Q G6)))
theorem w_J26_init {a0 : Nat} {Q : Wd → Prop} {a1 : Option Nat} {a2 : Option Nat} {a3 : Option Nat} {G : Wd} (h : f_J26_init a0 a1 a2 a3 G Q) : wp m_J26_init 1 0 0 0 [some (vR (some a0)), some (vR a1), some (vR a2), some (vR a3)] [] G (qV Q) noX := by
  unfold f_J26_init at h
  refine r_aload_n dJ26_init_0 rfl rfl iR ?_
  refine r_objInit dJ26_init_1 q1408 q142 q143 rc0 (by decide) (by decide) ?_
  refine r_aload_n dJ26_init_4 rfl rfl iR ?_
  refine r_aload_n dJ26_init_5 rfl rfl iR ?_
  refine r_put dJ26_init_6 (fp1 (f := 0) fJ26 (by decide) q1409 rfl rfl rfl) fvO h (fun G4 h => ?_)
  refine r_aload_n dJ26_init_9 rfl rfl iR ?_
  refine r_aload_n dJ26_init_10 rfl rfl iR ?_
  refine r_put dJ26_init_11 (fp1 (f := 1) fJ26 (by decide) q1412 rfl rfl rfl) fvO h (fun G5 h => ?_)
  refine r_aload_n dJ26_init_14 rfl rfl iR ?_
  refine r_aload_n dJ26_init_15 rfl rfl iR ?_
  refine r_put dJ26_init_16 (fp1 (f := 2) fJ26 (by decide) q1415 rfl rfl rfl) fvO h (fun G6 h => ?_)
  exact r_vret rfl dJ26_init_19 ⟨rfl, h⟩
theorem c_J26_init {a0 : Nat} {a1 : Option Nat} {a2 : Option Nat} {a3 : Option Nat} {Q : Wd → Prop} {G : Wd} (h : f_J26_init a0 a1 a2 a3 G Q) : call yJ26_init (Cond.code yJ26_init cJ26_init 4 (none)) 1 0 0 [vR (some a0), vR a1, vR a2, vR a3] G (qV Q) noX :=
  call.enter (by decide +kernel) (la_1 c1R (la_1 c1R (la_1 c1R (la_1 c1R (la_nil rfl))))) rfl (w_J26_init h)
abbrev m_J23_hasNext : Mt := (yJ23_hasNext.cls, cJ23_hasNext, 1, some .boolean, [], yJ23_hasNext.name)
theorem yo_J23_hasNext : yOK yJ23_hasNext 0 := ⟨by decide +kernel, by decide +kernel, by decide +kernel⟩
def f_J23_hasNext (a0 : Nat) (G : Wd) (Q : Bool → Wd → Prop) : Prop :=
  gI G a0 [15] 1 (fun x2 => br0 x2 (x2 ≤ 0) (Q false G) (Q true G))
theorem w_J23_hasNext {a0 : Nat} {Q : Bool → Wd → Prop} {G : Wd} (h : f_J23_hasNext a0 G Q) : wp m_J23_hasNext 1 0 0 0 [some (vR (some a0))] [] G (qB Q) noX := by
  unfold f_J23_hasNext at h
  refine r_aload_n dJ23_hasNext_0 rfl rfl iR ?_
  refine r_getI dJ23_hasNext_1 (fg1 (f := 1) fJ23 (by decide) q1102 rfl) h (fun x2 h => ?_)
  refine r_if_le (tgt := 11) dJ23_hasNext_4 (by decide) h (fun h => ?_) (fun h => ?_)
  · refine r_iconst dJ23_hasNext_11 ?_
    refine wp.cast (st' := [vB false]) rfl (congrArg (fun q => [q]) vI0) ?_
    exact r_zret rfl dJ23_hasNext_12 ⟨_, rfl, h⟩
  · refine r_iconst dJ23_hasNext_7 ?_
    refine r_goto (tgt := 12) dJ23_hasNext_8 (by decide) ?_
    refine wp.cast (st' := [vB true]) rfl (congrArg (fun q => [q]) vI1) ?_
    exact r_zret rfl dJ23_hasNext_12 ⟨_, rfl, h⟩
theorem c_J23_hasNext {a0 : Nat} {Q : Bool → Wd → Prop} {G : Wd} (h : f_J23_hasNext a0 G Q) : call yJ23_hasNext (Cond.code yJ23_hasNext cJ23_hasNext 1 (some .boolean)) 1 0 0 [vR (some a0)] G (qB Q) noX :=
  call.enter (by decide +kernel) (la_1 c1R (la_nil rfl)) rfl (w_J23_hasNext h)
abbrev m_J25_hasNext : Mt := (yJ25_hasNext.cls, cJ25_hasNext, 1, some .boolean, [], yJ25_hasNext.name)
theorem yo_J25_hasNext : yOK yJ25_hasNext 0 := ⟨by decide +kernel, by decide +kernel, by decide +kernel⟩
def f_J25_hasNext (a0 : Nat) (G : Wd) (Q : Bool → Wd → Prop) : Prop :=
  gI G a0 [16] 2 (fun x5 => gR G a0 [16] 4 (fun x6 => nn x6 (fun a7 => gI G a7 [12] 1 (fun x8 => br x5 x8 (x8 ≤ x5) (Q false G) (Q true G)))))
theorem w_J25_hasNext {a0 : Nat} {Q : Bool → Wd → Prop} {G : Wd} (h : f_J25_hasNext a0 G Q) : wp m_J25_hasNext 1 0 0 0 [some (vR (some a0))] [] G (qB Q) noX := by
  unfold f_J25_hasNext at h
  refine r_aload_n dJ25_hasNext_0 rfl rfl iR ?_
  refine r_getI dJ25_hasNext_1 (fg1 (f := 2) fJ25 (by decide) q1375 rfl) h (fun x5 h => ?_)
  refine r_aload_n dJ25_hasNext_4 rfl rfl iR ?_
  refine r_getR dJ25_hasNext_5 (fg1 (f := 4) fJ25 (by decide) q1377 rfl) h (fun x6 h => ?_)
  obtain ⟨a7, e, h⟩ := h
  refine wp.cast (L' := [some (vR (some a0))]) (st' := [vR (some a7), vI x5]) rfl (by rw [e]) ?_
  refine r_getI dJ25_hasNext_8 (fg1 (f := 1) fJ3 (by decide) q168 rfl) h (fun x8 h => ?_)
  refine r_icmp_ge (tgt := 18) dJ25_hasNext_11 (by decide) h (fun h => ?_) (fun h => ?_)
  · refine r_iconst dJ25_hasNext_18 ?_
    refine wp.cast (st' := [vB false]) rfl (congrArg (fun q => [q]) vI0) ?_
    exact r_zret rfl dJ25_hasNext_19 ⟨_, rfl, h⟩
  · refine r_iconst dJ25_hasNext_14 ?_
    refine r_goto (tgt := 19) dJ25_hasNext_15 (by decide) ?_
    refine wp.cast (st' := [vB true]) rfl (congrArg (fun q => [q]) vI1) ?_
    exact r_zret rfl dJ25_hasNext_19 ⟨_, rfl, h⟩
theorem c_J25_hasNext {a0 : Nat} {Q : Bool → Wd → Prop} {G : Wd} (h : f_J25_hasNext a0 G Q) : call yJ25_hasNext (Cond.code yJ25_hasNext cJ25_hasNext 1 (some .boolean)) 1 0 0 [vR (some a0)] G (qB Q) noX :=
  call.enter (by decide +kernel) (la_1 c1R (la_nil rfl)) rfl (w_J25_hasNext h)
abbrev m_J25_checkForComodification : Mt := (yJ25_checkForComodification.cls, cJ25_checkForComodification, 1, none, [], yJ25_checkForComodification.name)
theorem yo_J25_checkForComodification : yOK yJ25_checkForComodification 0 := ⟨by decide +kernel, by decide +kernel, by decide +kernel⟩
def f_J25_checkForComodification (a0 : Nat) (G : Wd) (Q : Wd → Prop) : Prop :=
  gR G a0 [16] 4 (fun x5 => nn x5 (fun a6 => gI G a6 [12] 0 (fun x7 => gI G a0 [16] 3 (fun x8 => br x7 x8 (x7 = x8) (Q G) (False)))))
theorem w_J25_checkForComodification {a0 : Nat} {Q : Wd → Prop} {G : Wd} (h : f_J25_checkForComodification a0 G Q) : wp m_J25_checkForComodification 1 0 0 0 [some (vR (some a0))] [] G (qV Q) noX := by
  unfold f_J25_checkForComodification at h
  refine r_aload_n dJ25_checkForComodification_0 rfl rfl iR ?_
  refine r_getR dJ25_checkForComodification_1 (fg1 (f := 4) fJ25 (by decide) q1377 rfl) h (fun x5 h => ?_)
  obtain ⟨a6, e, h⟩ := h
  refine wp.cast (L' := [some (vR (some a0))]) (st' := [vR (some a6)]) rfl (by rw [e]) ?_
  refine r_getI dJ25_checkForComodification_4 (fg1s (f := 0) fJ3 (by decide) q172 q173) h (fun x7 h => ?_)
  refine r_aload_n dJ25_checkForComodification_7 rfl rfl iR ?_
  refine r_getI dJ25_checkForComodification_8 (fg1 (f := 3) fJ25 (by decide) q1376 rfl) h (fun x8 h => ?_)
  refine r_icmp_eq (tgt := 22) dJ25_checkForComodification_11 (by decide) h (fun h => ?_) (fun h => ?_)
  · exact r_vret rfl dJ25_checkForComodification_22 ⟨rfl, h⟩
  · exact h.elim
theorem c_J25_checkForComodification {a0 : Nat} {Q : Wd → Prop} {G : Wd} (h : f_J25_checkForComodification a0 G Q) : call yJ25_checkForComodification (Cond.code yJ25_checkForComodification cJ25_checkForComodification 1 (none)) 1 0 0 [vR (some a0)] G (qV Q) noX :=
  call.enter (by decide +kernel) (la_1 c1R (la_nil rfl)) rfl (w_J25_checkForComodification h)
abbrev m_J3_node : Mt := (yJ3_node.cls, cJ3_node, 4, some (.object "java/util/LinkedList$Node"), [], yJ3_node.name)
theorem yo_J3_node : yOK yJ3_node 1 := ⟨by decide +kernel, by decide +kernel, by decide +kernel⟩
def f_J3_node_17_b (a0 : Nat) (k17 : Int → Option Nat → Int → Wd → Prop) (l1 : Int) (l2 : Option Nat) (l3 : Int) (G : Wd) (Q : Option Nat → Wd → Prop) : Prop :=
  br l3 l1 (l1 ≤ l3) (Q l2 G) (nn l2 (fun a11 => gR G a11 [17] 1 (fun x12 => k17 l1 x12 (l3 + 1) G)))
theorem w_J3_node_17_b {a0 : Nat} {Q : Option Nat → Wd → Prop} {k17 : Int → Option Nat → Int → Wd → Prop} (hk17 : ∀ {l1 : Int} {l2 : Option Nat} {l3 : Int} {G : Wd}, k17 l1 l2 l3 G → wp m_J3_node 1 0 0 17 [none, some (vI l1), some (vR l2), some (vI l3)] [] G (qR Q) noX) {l1 : Int} {l2 : Option Nat} {l3 : Int} {G : Wd} (h : f_J3_node_17_b a0 k17 l1 l2 l3 G Q) : wp m_J3_node 1 0 0 17 [none, some (vI l1), some (vR l2), some (vI l3)] [] G (qR Q) noX := by
  unfold f_J3_node_17_b at h
  refine r_iload_n dJ3_node_17 rfl rfl iI ?_
  refine r_iload_n dJ3_node_18 rfl rfl iI ?_
  refine r_icmp_ge (tgt := 33) dJ3_node_19 (by decide) h (fun h => ?_) (fun h => ?_)
  · refine r_aload_n dJ3_node_33 rfl rfl iR ?_
    exact r_aret rtO dJ3_node_34 ⟨_, rfl, h⟩
  · refine r_aload_n dJ3_node_22 rfl rfl iR ?_
    obtain ⟨a11, e, h⟩ := h
    refine wp.cast (L' := [none, some (vI l1), some (vR (some a11)), some (vI l3)]) (st' := [vR (some a11)]) (by rw [e]) (by rw [e]) ?_
    refine r_getR dJ3_node_23 (fg1 (f := 1) fJ26 (by decide) q1414 rfl) h (fun x12 h => ?_)
    refine r_astore_n (L' := [none, some (vI l1), some (vR x12), some (vI l3)]) dJ3_node_26 rfl rfl iR cI (by decide) ?_
    refine r_iinc (L' := [none, some (vI l1), some (vR x12), some (vI (l3 + 1))]) dJ3_node_27 rfl rfl cR (by decide) ?_
    refine r_goto (tgt := 17) dJ3_node_30 (by decide) ?_
    exact hk17 h
def f_J3_node_17 (a0 : Nat) (Q : Option Nat → Wd → Prop) : Nat → Int → Option Nat → Int → Wd → Prop
  | 0, _, _, _, _ => False
  | fl + 1, l1, l2, l3, G => f_J3_node_17_b a0  (fun l1 l2 l3 G => f_J3_node_17 a0  Q fl l1 l2 l3 G) l1 l2 l3 G Q
theorem w_J3_node_17 {a0 : Nat} {Q : Option Nat → Wd → Prop} : ∀ (fl : Nat) {l1 : Int} {l2 : Option Nat} {l3 : Int} {G : Wd}, f_J3_node_17 a0 Q fl l1 l2 l3 G → wp m_J3_node 1 0 0 17 [none, some (vI l1), some (vR l2), some (vI l3)] [] G (qR Q) noX := by
  intro fl
  induction fl with
  | zero => intro l1 l2 l3 G h; exact (show False from h).elim
  | succ fl ih => intro l1 l2 l3 G h; exact w_J3_node_17_b  (fun h => ih h) h
def f_J3_node_47_b (a0 : Nat) (k47 : Int → Option Nat → Int → Wd → Prop) (l1 : Int) (l2 : Option Nat) (l3 : Int) (G : Wd) (Q : Option Nat → Wd → Prop) : Prop :=
  br l3 l1 (l3 ≤ l1) (Q l2 G) (nn l2 (fun a13 => gR G a13 [17] 2 (fun x14 => k47 l1 x14 (l3 + (-1)) G)))
theorem w_J3_node_47_b {a0 : Nat} {Q : Option Nat → Wd → Prop} {k47 : Int → Option Nat → Int → Wd → Prop} (hk47 : ∀ {l1 : Int} {l2 : Option Nat} {l3 : Int} {G : Wd}, k47 l1 l2 l3 G → wp m_J3_node 1 0 0 47 [none, some (vI l1), some (vR l2), some (vI l3)] [] G (qR Q) noX) {l1 : Int} {l2 : Option Nat} {l3 : Int} {G : Wd} (h : f_J3_node_47_b a0 k47 l1 l2 l3 G Q) : wp m_J3_node 1 0 0 47 [none, some (vI l1), some (vR l2), some (vI l3)] [] G (qR Q) noX := by
  unfold f_J3_node_47_b at h
  refine r_iload_n dJ3_node_47 rfl rfl iI ?_
  refine r_iload_n dJ3_node_48 rfl rfl iI ?_
  refine r_icmp_le (tgt := 63) dJ3_node_49 (by decide) h (fun h => ?_) (fun h => ?_)
  · refine r_aload_n dJ3_node_63 rfl rfl iR ?_
    exact r_aret rtO dJ3_node_64 ⟨_, rfl, h⟩
  · refine r_aload_n dJ3_node_52 rfl rfl iR ?_
    obtain ⟨a13, e, h⟩ := h
    refine wp.cast (L' := [none, some (vI l1), some (vR (some a13)), some (vI l3)]) (st' := [vR (some a13)]) (by rw [e]) (by rw [e]) ?_
    refine r_getR dJ3_node_53 (fg1 (f := 2) fJ26 (by decide) q1416 rfl) h (fun x14 h => ?_)
    refine r_astore_n (L' := [none, some (vI l1), some (vR x14), some (vI l3)]) dJ3_node_56 rfl rfl iR cI (by decide) ?_
    refine r_iinc (L' := [none, some (vI l1), some (vR x14), some (vI (l3 + (-1)))]) dJ3_node_57 rfl rfl cR (by decide) ?_
    refine r_goto (tgt := 47) dJ3_node_60 (by decide) ?_
    exact hk47 h
def f_J3_node_47 (a0 : Nat) (Q : Option Nat → Wd → Prop) : Nat → Int → Option Nat → Int → Wd → Prop
  | 0, _, _, _, _ => False
  | fl + 1, l1, l2, l3, G => f_J3_node_47_b a0  (fun l1 l2 l3 G => f_J3_node_47 a0  Q fl l1 l2 l3 G) l1 l2 l3 G Q
theorem w_J3_node_47 {a0 : Nat} {Q : Option Nat → Wd → Prop} : ∀ (fl : Nat) {l1 : Int} {l2 : Option Nat} {l3 : Int} {G : Wd}, f_J3_node_47 a0 Q fl l1 l2 l3 G → wp m_J3_node 1 0 0 47 [none, some (vI l1), some (vR l2), some (vI l3)] [] G (qR Q) noX := by
  intro fl
  induction fl with
  | zero => intro l1 l2 l3 G h; exact (show False from h).elim
  | succ fl ih => intro l1 l2 l3 G h; exact w_J3_node_47_b  (fun h => ih h) h
def f_J3_node (a0 : Nat) (a1 : Int) (G : Wd) (Q : Option Nat → Wd → Prop) : Prop :=
  gI G a0 [12] 1 (fun x15 => br a1 (ishr x15 1) ((ishr x15 1) ≤ a1) (gR G a0 [12] 3 (fun x16 => gI G a0 [12] 1 (fun x17 => ∃ fl18, f_J3_node_47 a0 Q fl18 a1 x16 (x17 - 1) G))) (gR G a0 [12] 2 (fun x19 => ∃ fl20, f_J3_node_17 a0 Q fl20 a1 x19 0 G)))
theorem w_J3_node {a0 : Nat} {Q : Option Nat → Wd → Prop} {a1 : Int} {G : Wd} (h : f_J3_node a0 a1 G Q) : wp m_J3_node 1 0 0 0 [some (vR (some a0)), some (vI a1), none, none] [] G (qR Q) noX := by
  unfold f_J3_node at h
  refine r_iload_n dJ3_node_0 rfl rfl iI ?_
  refine r_aload_n dJ3_node_1 rfl rfl iR ?_
  refine r_getI dJ3_node_2 (fg1 (f := 1) fJ3 (by decide) q167 rfl) h (fun x15 h => ?_)
  refine r_iconst dJ3_node_5 ?_
  refine r_ishr dJ3_node_6 ?_
  refine r_icmp_ge (tgt := 35) dJ3_node_7 (by decide) h (fun h => ?_) (fun h => ?_)
  · refine r_aload_n dJ3_node_35 rfl rfl iR ?_
    refine r_getR dJ3_node_36 (fg1 (f := 3) fJ3 (by decide) q170 rfl) h (fun x16 h => ?_)
    refine r_astore_n (L' := [some (vR (some a0)), some (vI a1), some (vR x16), none]) dJ3_node_39 rfl rfl iR cI (by decide) ?_
    refine r_aload_n dJ3_node_40 rfl rfl iR ?_
    refine r_getI dJ3_node_41 (fg1 (f := 1) fJ3 (by decide) q167 rfl) h (fun x17 h => ?_)
    refine r_iconst dJ3_node_44 ?_
    refine r_isub dJ3_node_45 ?_
    refine r_istore_n (L' := [some (vR (some a0)), some (vI a1), some (vR x16), some (vI (x17 - 1))]) dJ3_node_46 rfl rfl iI cR (by decide) ?_
    refine wp.locals (L' := [none, some (vI a1), some (vR x16), some (vI (x17 - 1))]) (ls_n (ls_s (ls_s (ls_s ls_0)))) ?_
    obtain ⟨fl18, h⟩ := h
    exact w_J3_node_47 fl18 h
  · refine r_aload_n dJ3_node_10 rfl rfl iR ?_
    refine r_getR dJ3_node_11 (fg1 (f := 2) fJ3 (by decide) q169 rfl) h (fun x19 h => ?_)
    refine r_astore_n (L' := [some (vR (some a0)), some (vI a1), some (vR x19), none]) dJ3_node_14 rfl rfl iR cI (by decide) ?_
    refine r_iconst dJ3_node_15 ?_
    refine r_istore_n (L' := [some (vR (some a0)), some (vI a1), some (vR x19), some (vI 0)]) dJ3_node_16 rfl rfl iI cR (by decide) ?_
    refine wp.locals (L' := [none, some (vI a1), some (vR x19), some (vI 0)]) (ls_n (ls_s (ls_s (ls_s ls_0)))) ?_
    obtain ⟨fl20, h⟩ := h
    exact w_J3_node_17 fl20 h
theorem c_J3_node {a0 : Nat} {a1 : Int} {Q : Option Nat → Wd → Prop} {G : Wd} (h : f_J3_node a0 a1 G Q) : call yJ3_node (Cond.code yJ3_node cJ3_node 4 (some (.object "java/util/LinkedList$Node"))) 1 0 0 [vR (some a0), vI a1] G (qR Q) noX :=
  call.enter (by decide +kernel) (la_1 c1R (la_1 c1I (la_nil rfl))) rfl (w_J3_node h)
abbrev m_J3_size : Mt := (yJ3_size.cls, cJ3_size, 1, some .int, [], yJ3_size.name)
theorem yo_J3_size : yOK yJ3_size 0 := ⟨by decide +kernel, by decide +kernel, by decide +kernel⟩
def f_J3_size (a0 : Nat) (G : Wd) (Q : Int → Wd → Prop) : Prop :=
  gI G a0 [12] 1 (fun x2 => Q x2 G)
theorem w_J3_size {a0 : Nat} {Q : Int → Wd → Prop} {G : Wd} (h : f_J3_size a0 G Q) : wp m_J3_size 1 0 0 0 [some (vR (some a0))] [] G (qI Q) noX := by
  unfold f_J3_size at h
  refine r_aload_n dJ3_size_0 rfl rfl iR ?_
  refine r_getI dJ3_size_1 (fg1 (f := 1) fJ3 (by decide) q167 rfl) h (fun x2 h => ?_)
  exact r_iret rfl dJ3_size_4 ⟨_, rfl, h⟩
theorem c_J3_size {a0 : Nat} {Q : Int → Wd → Prop} {G : Wd} (h : f_J3_size a0 G Q) : call yJ3_size (Cond.code yJ3_size cJ3_size 1 (some .int)) 1 0 0 [vR (some a0)] G (qI Q) noX :=
  call.enter (by decide +kernel) (la_1 c1R (la_nil rfl)) rfl (w_J3_size h)
abbrev m_J3_clear : Mt := (yJ3_clear.cls, cJ3_clear, 3, none, [], yJ3_clear.name)
theorem yo_J3_clear : yOK yJ3_clear 0 := ⟨by decide +kernel, by decide +kernel, by decide +kernel⟩
def f_J3_clear_5_b (a0 : Nat) (k5 : Option Nat → Wd → Prop) (l1 : Option Nat) (G : Wd) (Q : Wd → Prop) : Prop :=
  brN l1 (pF G a0 [12] 3 (vR none) (fun G13 => pF G13 a0 [12] 2 (vR none) (fun G14 => pF G14 a0 [12] 1 (vI 0) (fun G15 => gI G15 a0 [12] 0 (fun x16 => pF G15 a0 [12] 0 (vI (x16 + 1)) (fun G17 => Q G17)))))) (fun a12 => gR G a12 [17] 1 (fun x18 => pF G a12 [17] 0 (vR none) (fun G19 => pF G19 a12 [17] 1 (vR none) (fun G20 => pF G20 a12 [17] 2 (vR none) (fun G21 => k5 x18 G21)))))
theorem w_J3_clear_5_b {a0 : Nat} {Q : Wd → Prop} {k5 : Option Nat → Wd → Prop} (hk5 : ∀ {l1 : Option Nat} {G : Wd}, k5 l1 G → wp m_J3_clear 1 0 0 5 [some (vR (some a0)), some (vR l1), none] [] G (qV Q) noX) {l1 : Option Nat} {G : Wd} (h : f_J3_clear_5_b a0 k5 l1 G Q) : wp m_J3_clear 1 0 0 5 [some (vR (some a0)), some (vR l1), none] [] G (qV Q) noX := by
  unfold f_J3_clear_5_b at h
  refine r_aload_n dJ3_clear_5 rfl rfl iR ?_
  refine r_ifnullV (tgt := 34) dJ3_clear_6 (by decide) h (fun e h => ?_) (fun a12 e h => ?_)
  · refine wp.cast (L' := [some (vR (some a0)), some (vR none), none]) (st' := []) (by rw [e]) rfl ?_
    refine r_aload_n dJ3_clear_34 rfl rfl iR ?_
    refine r_aload_n dJ3_clear_35 rfl rfl iR ?_
    refine r_null dJ3_clear_36 ?_
    refine r_dup_x1 dJ3_clear_37 c1R c1R ?_
    refine r_put dJ3_clear_38 (fp1 (f := 3) fJ3 (by decide) q170 rfl rfl rfl) fvO h (fun G13 h => ?_)
    refine r_put dJ3_clear_41 (fp1 (f := 2) fJ3 (by decide) q169 rfl rfl rfl) fvO h (fun G14 h => ?_)
    refine r_aload_n dJ3_clear_44 rfl rfl iR ?_
    refine r_iconst dJ3_clear_45 ?_
    refine r_put dJ3_clear_46 (fp1 (f := 1) fJ3 (by decide) q167 rfl rfl rfl) fvI h (fun G15 h => ?_)
    refine r_aload_n dJ3_clear_49 rfl rfl iR ?_
    refine r_dup dJ3_clear_50 c1R ?_
    refine r_getI dJ3_clear_51 (fg1s (f := 0) fJ3 (by decide) q175 q173) h (fun x16 h => ?_)
    refine r_iconst dJ3_clear_54 ?_
    refine r_iadd dJ3_clear_55 ?_
    refine r_put dJ3_clear_56 (fp1s (f := 0) fJ3 (by decide) q175 q173 rfl rfl) fvI h (fun G17 h => ?_)
    exact r_vret rfl dJ3_clear_59 ⟨rfl, h⟩
  · refine wp.cast (L' := [some (vR (some a0)), some (vR (some a12)), none]) (st' := []) (by rw [e]) rfl ?_
    refine r_aload_n dJ3_clear_9 rfl rfl iR ?_
    refine r_getR dJ3_clear_10 (fg1 (f := 1) fJ26 (by decide) q1414 rfl) h (fun x18 h => ?_)
    refine r_astore_n (L' := [some (vR (some a0)), some (vR (some a12)), some (vR x18)]) dJ3_clear_13 rfl rfl iR cR (by decide) ?_
    refine r_aload_n dJ3_clear_14 rfl rfl iR ?_
    refine r_null dJ3_clear_15 ?_
    refine r_put dJ3_clear_16 (fp1 (f := 0) fJ26 (by decide) q1411 rfl rfl rfl) fvO h (fun G19 h => ?_)
    refine r_aload_n dJ3_clear_19 rfl rfl iR ?_
    refine r_null dJ3_clear_20 ?_
    refine r_put dJ3_clear_21 (fp1 (f := 1) fJ26 (by decide) q1414 rfl rfl rfl) fvO h (fun G20 h => ?_)
    refine r_aload_n dJ3_clear_24 rfl rfl iR ?_
    refine r_null dJ3_clear_25 ?_
    refine r_put dJ3_clear_26 (fp1 (f := 2) fJ26 (by decide) q1416 rfl rfl rfl) fvO h (fun G21 h => ?_)
    refine r_aload_n dJ3_clear_29 rfl rfl iR ?_
    refine r_astore_n (L' := [some (vR (some a0)), some (vR x18), some (vR x18)]) dJ3_clear_30 rfl rfl iR cR (by decide) ?_
    refine r_goto (tgt := 5) dJ3_clear_31 (by decide) ?_
    refine wp.locals (L' := [some (vR (some a0)), some (vR x18), none]) (ls_s (ls_s (ls_n ls_0))) ?_
    exact hk5 h
def f_J3_clear_5 (a0 : Nat) (Q : Wd → Prop) : Nat → Option Nat → Wd → Prop
  | 0, _, _ => False
  | fl + 1, l1, G => f_J3_clear_5_b a0  (fun l1 G => f_J3_clear_5 a0  Q fl l1 G) l1 G Q
theorem w_J3_clear_5 {a0 : Nat} {Q : Wd → Prop} : ∀ (fl : Nat) {l1 : Option Nat} {G : Wd}, f_J3_clear_5 a0 Q fl l1 G → wp m_J3_clear 1 0 0 5 [some (vR (some a0)), some (vR l1), none] [] G (qV Q) noX := by
  intro fl
  induction fl with
  | zero => intro l1 G h; exact (show False from h).elim
  | succ fl ih => intro l1 G h; exact w_J3_clear_5_b  (fun h => ih h) h
def f_J3_clear (a0 : Nat) (G : Wd) (Q : Wd → Prop) : Prop :=
  gR G a0 [12] 2 (fun x22 => ∃ fl23, f_J3_clear_5 a0 Q fl23 x22 G)
theorem w_J3_clear {a0 : Nat} {Q : Wd → Prop} {G : Wd} (h : f_J3_clear a0 G Q) : wp m_J3_clear 1 0 0 0 [some (vR (some a0)), none, none] [] G (qV Q) noX := by
  unfold f_J3_clear at h
  refine r_aload_n dJ3_clear_0 rfl rfl iR ?_
  refine r_getR dJ3_clear_1 (fg1 (f := 2) fJ3 (by decide) q169 rfl) h (fun x22 h => ?_)
  refine r_astore_n (L' := [some (vR (some a0)), some (vR x22), none]) dJ3_clear_4 rfl rfl iR cR (by decide) ?_
  obtain ⟨fl23, h⟩ := h
  exact w_J3_clear_5 fl23 h
theorem c_J3_clear {a0 : Nat} {Q : Wd → Prop} {G : Wd} (h : f_J3_clear a0 G Q) : call yJ3_clear (Cond.code yJ3_clear cJ3_clear 3 (none)) 1 0 0 [vR (some a0)] G (qV Q) noX :=
  call.enter (by decide +kernel) (la_1 c1R (la_nil rfl)) rfl (w_J3_clear h)
abbrev m_J3_isPositionIndex : Mt := (yJ3_isPositionIndex.cls, cJ3_isPositionIndex, 2, some .boolean, [], yJ3_isPositionIndex.name)
theorem yo_J3_isPositionIndex : yOK yJ3_isPositionIndex 1 := ⟨by decide +kernel, by decide +kernel, by decide +kernel⟩
def f_J3_isPositionIndex_16 (a0 : Nat) (G : Wd) (Q : Bool → Wd → Prop) : Prop :=
  Q false G
theorem w_J3_isPositionIndex_16 {a0 : Nat} {Q : Bool → Wd → Prop} {G : Wd} (h : f_J3_isPositionIndex_16 a0 G Q) : wp m_J3_isPositionIndex 1 0 0 16 [none, none] [] G (qB Q) noX := by
  unfold f_J3_isPositionIndex_16 at h
  refine r_iconst dJ3_isPositionIndex_16 ?_
  refine wp.cast (st' := [vB false]) rfl (congrArg (fun q => [q]) vI0) ?_
  exact r_zret rfl dJ3_isPositionIndex_17 ⟨_, rfl, h⟩
def f_J3_isPositionIndex (a0 : Nat) (a1 : Int) (G : Wd) (Q : Bool → Wd → Prop) : Prop :=
  br0 a1 (a1 < 0) (f_J3_isPositionIndex_16 a0 G Q) (gI G a0 [12] 1 (fun x2 => br a1 x2 (x2 < a1) (f_J3_isPositionIndex_16 a0 G Q) (Q true G)))
theorem w_J3_isPositionIndex {a0 : Nat} {Q : Bool → Wd → Prop} {a1 : Int} {G : Wd} (h : f_J3_isPositionIndex a0 a1 G Q) : wp m_J3_isPositionIndex 1 0 0 0 [some (vR (some a0)), some (vI a1)] [] G (qB Q) noX := by
  unfold f_J3_isPositionIndex at h
  refine r_iload_n dJ3_isPositionIndex_0 rfl rfl iI ?_
  refine r_if_lt (tgt := 16) dJ3_isPositionIndex_1 (by decide) h (fun h => ?_) (fun h => ?_)
  · refine wp.locals (L' := [none, none]) (ls_n (ls_n ls_0)) ?_
    exact w_J3_isPositionIndex_16 h
  · refine r_iload_n dJ3_isPositionIndex_4 rfl rfl iI ?_
    refine r_aload_n dJ3_isPositionIndex_5 rfl rfl iR ?_
    refine r_getI dJ3_isPositionIndex_6 (fg1 (f := 1) fJ3 (by decide) q167 rfl) h (fun x2 h => ?_)
    refine r_icmp_gt (tgt := 16) dJ3_isPositionIndex_9 (by decide) h (fun h => ?_) (fun h => ?_)
    · refine wp.locals (L' := [none, none]) (ls_n (ls_n ls_0)) ?_
      exact w_J3_isPositionIndex_16 h
    · refine r_iconst dJ3_isPositionIndex_12 ?_
      refine r_goto (tgt := 17) dJ3_isPositionIndex_13 (by decide) ?_
      refine wp.cast (st' := [vB true]) rfl (congrArg (fun q => [q]) vI1) ?_
      exact r_zret rfl dJ3_isPositionIndex_17 ⟨_, rfl, h⟩
theorem c_J3_isPositionIndex {a0 : Nat} {a1 : Int} {Q : Bool → Wd → Prop} {G : Wd} (h : f_J3_isPositionIndex a0 a1 G Q) : call yJ3_isPositionIndex (Cond.code yJ3_isPositionIndex cJ3_isPositionIndex 2 (some .boolean)) 1 0 0 [vR (some a0), vI a1] G (qB Q) noX :=
  call.enter (by decide +kernel) (la_1 c1R (la_1 c1I (la_nil rfl))) rfl (w_J3_isPositionIndex h)
abbrev m_J3_linkLast : Mt := (yJ3_linkLast.cls, cJ3_linkLast, 4, none, [], yJ3_linkLast.name)
theorem yo_J3_linkLast : yOK yJ3_linkLast 1 := ⟨by decide +kernel, by decide +kernel, by decide +kernel⟩
def f_J3_linkLast_38 (a0 : Nat) (k n : Nat) (G : Wd) (Q : Wd → Prop) : Prop :=
  gI G a0 [12] 1 (fun x13 => pF G a0 [12] 1 (vI (x13 + 1)) (fun G14 => gI G14 a0 [12] 0 (fun x15 => pF G14 a0 [12] 0 (vI (x15 + 1)) (fun G16 => Q G16))))
theorem w_J3_linkLast_38 {a0 : Nat} {Q : Wd → Prop} {k n : Nat} {G : Wd} (h : f_J3_linkLast_38 a0 k n G Q) : wp m_J3_linkLast 2 k n 38 [some (vR (some a0)), none, none, none] [] G (qV Q) noX := by
  unfold f_J3_linkLast_38 at h
  refine r_aload_n dJ3_linkLast_38 rfl rfl iR ?_
  refine r_dup dJ3_linkLast_39 c1R ?_
  refine r_getI dJ3_linkLast_40 (fg1 (f := 1) fJ3 (by decide) q167 rfl) h (fun x13 h => ?_)
  refine r_iconst dJ3_linkLast_43 ?_
  refine r_iadd dJ3_linkLast_44 ?_
  refine r_put dJ3_linkLast_45 (fp1 (f := 1) fJ3 (by decide) q167 rfl rfl rfl) fvI h (fun G14 h => ?_)
  refine r_aload_n dJ3_linkLast_48 rfl rfl iR ?_
  refine r_dup dJ3_linkLast_49 c1R ?_
  refine r_getI dJ3_linkLast_50 (fg1s (f := 0) fJ3 (by decide) q175 q173) h (fun x15 h => ?_)
  refine r_iconst dJ3_linkLast_53 ?_
  refine r_iadd dJ3_linkLast_54 ?_
  refine r_put dJ3_linkLast_55 (fp1s (f := 0) fJ3 (by decide) q175 q173 rfl rfl) fvI h (fun G16 h => ?_)
  exact r_vret rfl dJ3_linkLast_58 ⟨rfl, h⟩
def f_J3_linkLast (k n : Nat) (a0 : Nat) (a1 : Option Nat) (G : Wd) (Q : Wd → Prop) : Prop :=
  gR G a0 [12] 3 (fun x17 => nO G k n 17 3 zJ26 (fun a18 G19 => f_J26_init a18 x17 a1 none G19 (fun G20 => pF G20 a0 [12] 3 (vR (some a18)) (fun G21 => brN x17 (pF G21 a0 [12] 2 (vR (some a18)) (fun G24 => f_J3_linkLast_38 a0 (k - 1) (n - 3) G24 Q)) (fun a22 => pF G21 a22 [17] 1 (vR (some a18)) (fun G23 => f_J3_linkLast_38 a0 (k - 1) (n - 3) G23 Q))))))
theorem w_J3_linkLast {a0 : Nat} {Q : Wd → Prop} {k n : Nat} {a1 : Option Nat} {G : Wd} (h : f_J3_linkLast k n a0 a1 G Q) : wp m_J3_linkLast 2 k n 0 [some (vR (some a0)), some (vR a1), none, none] [] G (qV Q) noX := by
  unfold f_J3_linkLast at h
  refine r_aload_n dJ3_linkLast_0 rfl rfl iR ?_
  refine r_getR dJ3_linkLast_1 (fg1 (f := 3) fJ3 (by decide) q170 rfl) h (fun x17 h => ?_)
  refine r_astore_n (L' := [some (vR (some a0)), some (vR a1), some (vR x17), none]) dJ3_linkLast_4 rfl rfl iR cR (by decide) ?_
  refine r_new dJ3_linkLast_5 fJ26 q1403 q1404 q128 dfJ26 h (fun a18 G19 h => ?_)
  refine r_dup dJ3_linkLast_8 c1R ?_
  refine r_aload_n dJ3_linkLast_9 rfl rfl iR ?_
  refine r_aload_n dJ3_linkLast_10 rfl rfl iR ?_
  refine r_null dJ3_linkLast_11 ?_
  refine r_callI dJ3_linkLast_12 (c_J26_init h) rfl q1405 q1406 q128 q1407 yo_J26_init rfl (by decide) (by decide) rfl (rc1 c1R rc0) (by decide) (Nat.zero_le _) (Nat.zero_le _) (ofV fun G20 h => ?_) nox
  refine r_astore_n (L' := [some (vR (some a0)), some (vR a1), some (vR x17), some (vR (some a18))]) dJ3_linkLast_15 rfl rfl iR cR (by decide) ?_
  refine r_aload_n dJ3_linkLast_16 rfl rfl iR ?_
  refine r_aload_n dJ3_linkLast_17 rfl rfl iR ?_
  refine r_put dJ3_linkLast_18 (fp1 (f := 3) fJ3 (by decide) q170 rfl rfl rfl) fvO h (fun G21 h => ?_)
  refine r_aload_n dJ3_linkLast_21 rfl rfl iR ?_
  refine r_ifnonnullV (tgt := 33) dJ3_linkLast_22 (by decide) h (fun a22 e h => ?_) (fun e h => ?_)
  · refine wp.cast (L' := [some (vR (some a0)), some (vR a1), some (vR (some a22)), some (vR (some a18))]) (st' := []) (by rw [e]) rfl ?_
    refine r_aload_n dJ3_linkLast_33 rfl rfl iR ?_
    refine r_aload_n dJ3_linkLast_34 rfl rfl iR ?_
    refine r_put dJ3_linkLast_35 (fp1 (f := 1) fJ26 (by decide) q1414 rfl rfl rfl) fvO h (fun G23 h => ?_)
    refine wp.locals (L' := [some (vR (some a0)), none, none, none]) (ls_s (ls_n (ls_n (ls_n ls_0)))) ?_
    exact w_J3_linkLast_38 h
  · refine wp.cast (L' := [some (vR (some a0)), some (vR a1), some (vR none), some (vR (some a18))]) (st' := []) (by rw [e]) rfl ?_
    refine r_aload_n dJ3_linkLast_25 rfl rfl iR ?_
    refine r_aload_n dJ3_linkLast_26 rfl rfl iR ?_
    refine r_put dJ3_linkLast_27 (fp1 (f := 2) fJ3 (by decide) q169 rfl rfl rfl) fvO h (fun G24 h => ?_)
    refine r_goto (tgt := 38) dJ3_linkLast_30 (by decide) ?_
    refine wp.locals (L' := [some (vR (some a0)), none, none, none]) (ls_s (ls_n (ls_n (ls_n ls_0)))) ?_
    exact w_J3_linkLast_38 h
theorem c_J3_linkLast {a0 : Nat} {a1 : Option Nat} {k n : Nat} {Q : Wd → Prop} {G : Wd} (h : f_J3_linkLast k n a0 a1 G Q) : call yJ3_linkLast (Cond.code yJ3_linkLast cJ3_linkLast 4 (none)) 2 k n [vR (some a0), vR a1] G (qV Q) noX :=
  call.enter (by decide +kernel) (la_1 c1R (la_1 c1R (la_nil rfl))) rfl (w_J3_linkLast h)
abbrev m_J3_unlinkFirst : Mt := (yJ3_unlinkFirst.cls, cJ3_unlinkFirst, 4, some (.object "java/lang/Object"), [], yJ3_unlinkFirst.name)
theorem yo_J3_unlinkFirst : yOK yJ3_unlinkFirst 1 := ⟨by decide +kernel, by decide +kernel, by decide +kernel⟩
def f_J3_unlinkFirst_42 (a0 : Nat) (l2 : Option Nat) (G : Wd) (Q : Option Nat → Wd → Prop) : Prop :=
  gI G a0 [12] 1 (fun x14 => pF G a0 [12] 1 (vI (x14 - 1)) (fun G15 => gI G15 a0 [12] 0 (fun x16 => pF G15 a0 [12] 0 (vI (x16 + 1)) (fun G17 => Q l2 G17))))
theorem w_J3_unlinkFirst_42 {a0 : Nat} {Q : Option Nat → Wd → Prop} {l2 : Option Nat} {G : Wd} (h : f_J3_unlinkFirst_42 a0 l2 G Q) : wp m_J3_unlinkFirst 1 0 0 42 [some (vR (some a0)), none, some (vR l2), none] [] G (qR Q) noX := by
  unfold f_J3_unlinkFirst_42 at h
  refine r_aload_n dJ3_unlinkFirst_42 rfl rfl iR ?_
  refine r_dup dJ3_unlinkFirst_43 c1R ?_
  refine r_getI dJ3_unlinkFirst_44 (fg1 (f := 1) fJ3 (by decide) q167 rfl) h (fun x14 h => ?_)
  refine r_iconst dJ3_unlinkFirst_47 ?_
  refine r_isub dJ3_unlinkFirst_48 ?_
  refine r_put dJ3_unlinkFirst_49 (fp1 (f := 1) fJ3 (by decide) q167 rfl rfl rfl) fvI h (fun G15 h => ?_)
  refine r_aload_n dJ3_unlinkFirst_52 rfl rfl iR ?_
  refine r_dup dJ3_unlinkFirst_53 c1R ?_
  refine r_getI dJ3_unlinkFirst_54 (fg1s (f := 0) fJ3 (by decide) q175 q173) h (fun x16 h => ?_)
  refine r_iconst dJ3_unlinkFirst_57 ?_
  refine r_iadd dJ3_unlinkFirst_58 ?_
  refine r_put dJ3_unlinkFirst_59 (fp1s (f := 0) fJ3 (by decide) q175 q173 rfl rfl) fvI h (fun G17 h => ?_)
  refine r_aload_n dJ3_unlinkFirst_62 rfl rfl iR ?_
  exact r_aret rtO dJ3_unlinkFirst_63 ⟨_, rfl, h⟩
def f_J3_unlinkFirst (a0 : Nat) (a1 : Option Nat) (G : Wd) (Q : Option Nat → Wd → Prop) : Prop :=
  nn a1 (fun a18 => gR G a18 [17] 0 (fun x19 => gR G a18 [17] 1 (fun x20 => pF G a18 [17] 0 (vR none) (fun G21 => pF G21 a18 [17] 1 (vR none) (fun G22 => pF G22 a0 [12] 2 (vR x20) (fun G23 => brN x20 (pF G23 a0 [12] 3 (vR none) (fun G26 => f_J3_unlinkFirst_42 a0 x19 G26 Q)) (fun a24 => pF G23 a24 [17] 2 (vR none) (fun G25 => f_J3_unlinkFirst_42 a0 x19 G25 Q))))))))
theorem w_J3_unlinkFirst {a0 : Nat} {Q : Option Nat → Wd → Prop} {a1 : Option Nat} {G : Wd} (h : f_J3_unlinkFirst a0 a1 G Q) : wp m_J3_unlinkFirst 1 0 0 0 [some (vR (some a0)), some (vR a1), none, none] [] G (qR Q) noX := by
  unfold f_J3_unlinkFirst at h
  refine r_aload_n dJ3_unlinkFirst_0 rfl rfl iR ?_
  obtain ⟨a18, e, h⟩ := h
  refine wp.cast (L' := [some (vR (some a0)), some (vR (some a18)), none, none]) (st' := [vR (some a18)]) (by rw [e]) (by rw [e]) ?_
  refine r_getR dJ3_unlinkFirst_1 (fg1 (f := 0) fJ26 (by decide) q1411 rfl) h (fun x19 h => ?_)
  refine r_astore_n (L' := [some (vR (some a0)), some (vR (some a18)), some (vR x19), none]) dJ3_unlinkFirst_4 rfl rfl iR cR (by decide) ?_
  refine r_aload_n dJ3_unlinkFirst_5 rfl rfl iR ?_
  refine r_getR dJ3_unlinkFirst_6 (fg1 (f := 1) fJ26 (by decide) q1414 rfl) h (fun x20 h => ?_)
  refine r_astore_n (L' := [some (vR (some a0)), some (vR (some a18)), some (vR x19), some (vR x20)]) dJ3_unlinkFirst_9 rfl rfl iR cR (by decide) ?_
  refine r_aload_n dJ3_unlinkFirst_10 rfl rfl iR ?_
  refine r_null dJ3_unlinkFirst_11 ?_
  refine r_put dJ3_unlinkFirst_12 (fp1 (f := 0) fJ26 (by decide) q1411 rfl rfl rfl) fvO h (fun G21 h => ?_)
  refine r_aload_n dJ3_unlinkFirst_15 rfl rfl iR ?_
  refine r_null dJ3_unlinkFirst_16 ?_
  refine r_put dJ3_unlinkFirst_17 (fp1 (f := 1) fJ26 (by decide) q1414 rfl rfl rfl) fvO h (fun G22 h => ?_)
  refine r_aload_n dJ3_unlinkFirst_20 rfl rfl iR ?_
  refine r_aload_n dJ3_unlinkFirst_21 rfl rfl iR ?_
  refine r_put dJ3_unlinkFirst_22 (fp1 (f := 2) fJ3 (by decide) q169 rfl rfl rfl) fvO h (fun G23 h => ?_)
  refine r_aload_n dJ3_unlinkFirst_25 rfl rfl iR ?_
  refine r_ifnonnullV (tgt := 37) dJ3_unlinkFirst_26 (by decide) h (fun a24 e h => ?_) (fun e h => ?_)
  · refine wp.cast (L' := [some (vR (some a0)), some (vR (some a18)), some (vR x19), some (vR (some a24))]) (st' := []) (by rw [e]) rfl ?_
    refine r_aload_n dJ3_unlinkFirst_37 rfl rfl iR ?_
    refine r_null dJ3_unlinkFirst_38 ?_
    refine r_put dJ3_unlinkFirst_39 (fp1 (f := 2) fJ26 (by decide) q1416 rfl rfl rfl) fvO h (fun G25 h => ?_)
    refine wp.locals (L' := [some (vR (some a0)), none, some (vR x19), none]) (ls_s (ls_n (ls_s (ls_n ls_0)))) ?_
    exact w_J3_unlinkFirst_42 h
  · refine wp.cast (L' := [some (vR (some a0)), some (vR (some a18)), some (vR x19), some (vR none)]) (st' := []) (by rw [e]) rfl ?_
    refine r_aload_n dJ3_unlinkFirst_29 rfl rfl iR ?_
    refine r_null dJ3_unlinkFirst_30 ?_
    refine r_put dJ3_unlinkFirst_31 (fp1 (f := 3) fJ3 (by decide) q170 rfl rfl rfl) fvO h (fun G26 h => ?_)
    refine r_goto (tgt := 42) dJ3_unlinkFirst_34 (by decide) ?_
    refine wp.locals (L' := [some (vR (some a0)), none, some (vR x19), none]) (ls_s (ls_n (ls_s (ls_n ls_0)))) ?_
    exact w_J3_unlinkFirst_42 h
theorem c_J3_unlinkFirst {a0 : Nat} {a1 : Option Nat} {Q : Option Nat → Wd → Prop} {G : Wd} (h : f_J3_unlinkFirst a0 a1 G Q) : call yJ3_unlinkFirst (Cond.code yJ3_unlinkFirst cJ3_unlinkFirst 4 (some (.object "java/lang/Object"))) 1 0 0 [vR (some a0), vR a1] G (qR Q) noX :=
  call.enter (by decide +kernel) (la_1 c1R (la_1 c1R (la_nil rfl))) rfl (w_J3_unlinkFirst h)
abbrev m_J3_unlink : Mt := (yJ3_unlink.cls, cJ3_unlink, 5, some (.object "java/lang/Object"), [], yJ3_unlink.name)
theorem yo_J3_unlink : yOK yJ3_unlink 1 := ⟨by decide +kernel, by decide +kernel, by decide +kernel⟩
def f_J3_unlink_64 (a0 : Nat) (l1 : Option Nat) (l2 : Option Nat) (G : Wd) (Q : Option Nat → Wd → Prop) : Prop :=
  nn l1 (fun a20 => pF G a20 [17] 0 (vR none) (fun G21 => gI G21 a0 [12] 1 (fun x22 => pF G21 a0 [12] 1 (vI (x22 - 1)) (fun G23 => gI G23 a0 [12] 0 (fun x24 => pF G23 a0 [12] 0 (vI (x24 + 1)) (fun G25 => Q l2 G25))))))
theorem w_J3_unlink_64 {a0 : Nat} {Q : Option Nat → Wd → Prop} {l1 : Option Nat} {l2 : Option Nat} {G : Wd} (h : f_J3_unlink_64 a0 l1 l2 G Q) : wp m_J3_unlink 1 0 0 64 [some (vR (some a0)), some (vR l1), some (vR l2), none, none] [] G (qR Q) noX := by
  unfold f_J3_unlink_64 at h
  refine r_aload_n dJ3_unlink_64 rfl rfl iR ?_
  refine r_null dJ3_unlink_65 ?_
  obtain ⟨a20, e, h⟩ := h
  refine wp.cast (L' := [some (vR (some a0)), some (vR (some a20)), some (vR l2), none, none]) (st' := [vR none, vR (some a20)]) (by rw [e]) (by rw [e]) ?_
  refine r_put dJ3_unlink_66 (fp1 (f := 0) fJ26 (by decide) q1411 rfl rfl rfl) fvO h (fun G21 h => ?_)
  refine r_aload_n dJ3_unlink_69 rfl rfl iR ?_
  refine r_dup dJ3_unlink_70 c1R ?_
  refine r_getI dJ3_unlink_71 (fg1 (f := 1) fJ3 (by decide) q167 rfl) h (fun x22 h => ?_)
  refine r_iconst dJ3_unlink_74 ?_
  refine r_isub dJ3_unlink_75 ?_
  refine r_put dJ3_unlink_76 (fp1 (f := 1) fJ3 (by decide) q167 rfl rfl rfl) fvI h (fun G23 h => ?_)
  refine r_aload_n dJ3_unlink_79 rfl rfl iR ?_
  refine r_dup dJ3_unlink_80 c1R ?_
  refine r_getI dJ3_unlink_81 (fg1s (f := 0) fJ3 (by decide) q175 q173) h (fun x24 h => ?_)
  refine r_iconst dJ3_unlink_84 ?_
  refine r_iadd dJ3_unlink_85 ?_
  refine r_put dJ3_unlink_86 (fp1s (f := 0) fJ3 (by decide) q175 q173 rfl rfl) fvI h (fun G25 h => ?_)
  refine r_aload_n dJ3_unlink_89 rfl rfl iR ?_
  exact r_aret rtO dJ3_unlink_90 ⟨_, rfl, h⟩
def f_J3_unlink_40 (a0 : Nat) (l1 : Option Nat) (l2 : Option Nat) (l3 : Option Nat) (l4 : Option Nat) (G : Wd) (Q : Option Nat → Wd → Prop) : Prop :=
  brN l3 (pF G a0 [12] 3 (vR l4) (fun G30 => f_J3_unlink_64 a0 l1 l2 G30 Q)) (fun a26 => pF G a26 [17] 2 (vR l4) (fun G27 => nn l1 (fun a28 => pF G27 a28 [17] 1 (vR none) (fun G29 => f_J3_unlink_64 a0 (some a28) l2 G29 Q))))
theorem w_J3_unlink_40 {a0 : Nat} {Q : Option Nat → Wd → Prop} {l1 : Option Nat} {l2 : Option Nat} {l3 : Option Nat} {l4 : Option Nat} {G : Wd} (h : f_J3_unlink_40 a0 l1 l2 l3 l4 G Q) : wp m_J3_unlink 1 0 0 40 [some (vR (some a0)), some (vR l1), some (vR l2), some (vR l3), some (vR l4)] [] G (qR Q) noX := by
  unfold f_J3_unlink_40 at h
  refine r_aload_n dJ3_unlink_40 rfl rfl iR ?_
  refine r_ifnonnullV (tgt := 53) dJ3_unlink_41 (by decide) h (fun a26 e h => ?_) (fun e h => ?_)
  · refine wp.cast (L' := [some (vR (some a0)), some (vR l1), some (vR l2), some (vR (some a26)), some (vR l4)]) (st' := []) (by rw [e]) rfl ?_
    refine r_aload_n dJ3_unlink_53 rfl rfl iR ?_
    refine r_aload dJ3_unlink_54 rfl iR ?_
    refine r_put dJ3_unlink_56 (fp1 (f := 2) fJ26 (by decide) q1416 rfl rfl rfl) fvO h (fun G27 h => ?_)
    refine r_aload_n dJ3_unlink_59 rfl rfl iR ?_
    refine r_null dJ3_unlink_60 ?_
    obtain ⟨a28, e, h⟩ := h
    refine wp.cast (L' := [some (vR (some a0)), some (vR (some a28)), some (vR l2), some (vR (some a26)), some (vR l4)]) (st' := [vR none, vR (some a28)]) (by rw [e]) (by rw [e]) ?_
    refine r_put dJ3_unlink_61 (fp1 (f := 1) fJ26 (by decide) q1414 rfl rfl rfl) fvO h (fun G29 h => ?_)
    refine wp.locals (L' := [some (vR (some a0)), some (vR (some a28)), some (vR l2), none, none]) (ls_s (ls_s (ls_s (ls_n (ls_n ls_0))))) ?_
    exact w_J3_unlink_64 h
  · refine wp.cast (L' := [some (vR (some a0)), some (vR l1), some (vR l2), some (vR none), some (vR l4)]) (st' := []) (by rw [e]) rfl ?_
    refine r_aload_n dJ3_unlink_44 rfl rfl iR ?_
    refine r_aload dJ3_unlink_45 rfl iR ?_
    refine r_put dJ3_unlink_47 (fp1 (f := 3) fJ3 (by decide) q170 rfl rfl rfl) fvO h (fun G30 h => ?_)
    refine r_goto (tgt := 64) dJ3_unlink_50 (by decide) ?_
    refine wp.locals (L' := [some (vR (some a0)), some (vR l1), some (vR l2), none, none]) (ls_s (ls_s (ls_s (ls_n (ls_n ls_0))))) ?_
    exact w_J3_unlink_64 h
def f_J3_unlink (a0 : Nat) (a1 : Option Nat) (G : Wd) (Q : Option Nat → Wd → Prop) : Prop :=
  nn a1 (fun a31 => gR G a31 [17] 0 (fun x32 => gR G a31 [17] 1 (fun x33 => gR G a31 [17] 2 (fun x34 => brN x34 (pF G a0 [12] 2 (vR x33) (fun G38 => f_J3_unlink_40 a0 (some a31) x32 x33 none G38 Q)) (fun a35 => pF G a35 [17] 1 (vR x33) (fun G36 => pF G36 a31 [17] 2 (vR none) (fun G37 => f_J3_unlink_40 a0 (some a31) x32 x33 (some a35) G37 Q)))))))
theorem w_J3_unlink {a0 : Nat} {Q : Option Nat → Wd → Prop} {a1 : Option Nat} {G : Wd} (h : f_J3_unlink a0 a1 G Q) : wp m_J3_unlink 1 0 0 0 [some (vR (some a0)), some (vR a1), none, none, none] [] G (qR Q) noX := by
  unfold f_J3_unlink at h
  refine r_aload_n dJ3_unlink_0 rfl rfl iR ?_
  obtain ⟨a31, e, h⟩ := h
  refine wp.cast (L' := [some (vR (some a0)), some (vR (some a31)), none, none, none]) (st' := [vR (some a31)]) (by rw [e]) (by rw [e]) ?_
  refine r_getR dJ3_unlink_1 (fg1 (f := 0) fJ26 (by decide) q1411 rfl) h (fun x32 h => ?_)
  refine r_astore_n (L' := [some (vR (some a0)), some (vR (some a31)), some (vR x32), none, none]) dJ3_unlink_4 rfl rfl iR cR (by decide) ?_
  refine r_aload_n dJ3_unlink_5 rfl rfl iR ?_
  refine r_getR dJ3_unlink_6 (fg1 (f := 1) fJ26 (by decide) q1414 rfl) h (fun x33 h => ?_)
  refine r_astore_n (L' := [some (vR (some a0)), some (vR (some a31)), some (vR x32), some (vR x33), none]) dJ3_unlink_9 rfl rfl iR cR (by decide) ?_
  refine r_aload_n dJ3_unlink_10 rfl rfl iR ?_
  refine r_getR dJ3_unlink_11 (fg1 (f := 2) fJ26 (by decide) q1416 rfl) h (fun x34 h => ?_)
  refine r_astore (L' := [some (vR (some a0)), some (vR (some a31)), some (vR x32), some (vR x33), some (vR x34)]) dJ3_unlink_14 rfl iR cR (by decide) ?_
  refine r_aload dJ3_unlink_16 rfl iR ?_
  refine r_ifnonnullV (tgt := 29) dJ3_unlink_18 (by decide) h (fun a35 e h => ?_) (fun e h => ?_)
  · refine wp.cast (L' := [some (vR (some a0)), some (vR (some a31)), some (vR x32), some (vR x33), some (vR (some a35))]) (st' := []) (by rw [e]) rfl ?_
    refine r_aload dJ3_unlink_29 rfl iR ?_
    refine r_aload_n dJ3_unlink_31 rfl rfl iR ?_
    refine r_put dJ3_unlink_32 (fp1 (f := 1) fJ26 (by decide) q1414 rfl rfl rfl) fvO h (fun G36 h => ?_)
    refine r_aload_n dJ3_unlink_35 rfl rfl iR ?_
    refine r_null dJ3_unlink_36 ?_
    refine r_put dJ3_unlink_37 (fp1 (f := 2) fJ26 (by decide) q1416 rfl rfl rfl) fvO h (fun G37 h => ?_)
    exact w_J3_unlink_40 h
  · refine wp.cast (L' := [some (vR (some a0)), some (vR (some a31)), some (vR x32), some (vR x33), some (vR none)]) (st' := []) (by rw [e]) rfl ?_
    refine r_aload_n dJ3_unlink_21 rfl rfl iR ?_
    refine r_aload_n dJ3_unlink_22 rfl rfl iR ?_
    refine r_put dJ3_unlink_23 (fp1 (f := 2) fJ3 (by decide) q169 rfl rfl rfl) fvO h (fun G38 h => ?_)
    refine r_goto (tgt := 40) dJ3_unlink_26 (by decide) ?_
    exact w_J3_unlink_40 h
theorem c_J3_unlink {a0 : Nat} {a1 : Option Nat} {Q : Option Nat → Wd → Prop} {G : Wd} (h : f_J3_unlink a0 a1 G Q) : call yJ3_unlink (Cond.code yJ3_unlink cJ3_unlink 5 (some (.object "java/lang/Object"))) 1 0 0 [vR (some a0), vR a1] G (qR Q) noX :=
  call.enter (by decide +kernel) (la_1 c1R (la_1 c1R (la_nil rfl))) rfl (w_J3_unlink h)
abbrev m_J0_init : Mt := (yJ0_init.cls, cJ0_init, 1, none, [], yJ0_init.name)
theorem yo_J0_init : yOK yJ0_init 0 := ⟨by decide +kernel, by decide +kernel, by decide +kernel⟩
def f_J0_init (a0 : Nat) (G : Wd) (Q : Wd → Prop) : Prop :=
  Q G
theorem w_J0_init {a0 : Nat} {Q : Wd → Prop} {G : Wd} (h : f_J0_init a0 G Q) : wp m_J0_init 1 0 0 0 [some (vR (some a0))] [] G (qV Q) noX := by
  unfold f_J0_init at h
  refine r_aload_n dJ0_init_0 rfl rfl iR ?_
  refine r_objInit dJ0_init_1 q166 q142 q143 rc0 (by decide) (by decide) ?_
  exact r_vret rfl dJ0_init_4 ⟨rfl, h⟩
theorem c_J0_init {a0 : Nat} {Q : Wd → Prop} {G : Wd} (h : f_J0_init a0 G Q) : call yJ0_init (Cond.code yJ0_init cJ0_init 1 (none)) 1 0 0 [vR (some a0)] G (qV Q) noX :=
  call.enter (by decide +kernel) (la_1 c1R (la_nil rfl)) rfl (w_J0_init h)
abbrev m_J1_init : Mt := (yJ1_init.cls, cJ1_init, 1, none, [], yJ1_init.name)
theorem yo_J1_init : yOK yJ1_init 0 := ⟨by decide +kernel, by decide +kernel, by decide +kernel⟩
def f_J1_init (a0 : Nat) (G : Wd) (Q : Wd → Prop) : Prop :=
  f_J0_init a0  G (fun G3 => pF G3 a0 [12] 0 (vI 0) (fun G4 => Q G4))
theorem w_J1_init {a0 : Nat} {Q : Wd → Prop} {G : Wd} (h : f_J1_init a0 G Q) : wp m_J1_init 2 0 0 0 [some (vR (some a0))] [] G (qV Q) noX := by
  unfold f_J1_init at h
  refine r_aload_n dJ1_init_0 rfl rfl iR ?_
  refine r_callI dJ1_init_1 (c_J0_init h) rfl q163 q164 q94 q165 yo_J0_init rfl (by decide) (by decide) rfl rc0 (by decide) (Nat.zero_le _) (Nat.zero_le _) (ofV fun G3 h => ?_) nox
  refine r_aload_n dJ1_init_4 rfl rfl iR ?_
  refine r_iconst dJ1_init_5 ?_
  refine r_put dJ1_init_6 (fp1 (f := 0) fJ3 (by decide) q171 rfl rfl rfl) fvI h (fun G4 h => ?_)
  exact r_vret rfl dJ1_init_9 ⟨rfl, h⟩
theorem c_J1_init {a0 : Nat} {Q : Wd → Prop} {G : Wd} (h : f_J1_init a0 G Q) : call yJ1_init (Cond.code yJ1_init cJ1_init 1 (none)) 2 0 0 [vR (some a0)] G (qV Q) noX :=
  call.enter (by decide +kernel) (la_1 c1R (la_nil rfl)) rfl (w_J1_init h)
abbrev m_J2_init : Mt := (yJ2_init.cls, cJ2_init, 1, none, [], yJ2_init.name)
theorem yo_J2_init : yOK yJ2_init 0 := ⟨by decide +kernel, by decide +kernel, by decide +kernel⟩
def f_J2_init (a0 : Nat) (G : Wd) (Q : Wd → Prop) : Prop :=
  f_J1_init a0  G (fun G2 => Q G2)
theorem w_J2_init {a0 : Nat} {Q : Wd → Prop} {G : Wd} (h : f_J2_init a0 G Q) : wp m_J2_init 3 0 0 0 [some (vR (some a0))] [] G (qV Q) noX := by
  unfold f_J2_init at h
  refine r_aload_n dJ2_init_0 rfl rfl iR ?_
  refine r_callI dJ2_init_1 (c_J1_init h) rfl q160 q161 q95 q162 yo_J1_init rfl (by decide) (by decide) rfl rc0 (by decide) (Nat.zero_le _) (Nat.zero_le _) (ofV fun G2 h => ?_) nox
  exact r_vret rfl dJ2_init_4 ⟨rfl, h⟩
theorem c_J2_init {a0 : Nat} {Q : Wd → Prop} {G : Wd} (h : f_J2_init a0 G Q) : call yJ2_init (Cond.code yJ2_init cJ2_init 1 (none)) 3 0 0 [vR (some a0)] G (qV Q) noX :=
  call.enter (by decide +kernel) (la_1 c1R (la_nil rfl)) rfl (w_J2_init h)
abbrev m_J4_init : Mt := (yJ4_init.cls, cJ4_init, 1, none, [], yJ4_init.name)
theorem yo_J4_init : yOK yJ4_init 0 := ⟨by decide +kernel, by decide +kernel, by decide +kernel⟩
def f_J4_init (k n : Nat) (a0 : Nat) (G : Wd) (Q : Wd → Prop) : Prop :=
  f_J0_init a0  G (fun G5 => nA G5 k n 17 (fun l => aR 9 l (fun _ => none)) (fun a6 G7 => pF G7 a0 [13] 0 (vR (some a6)) (fun G8 => Q G8)))
theorem w_J4_init {a0 : Nat} {Q : Wd → Prop} {k n : Nat} {G : Wd} (h : f_J4_init k n a0 G Q) : wp m_J4_init 2 k n 0 [some (vR (some a0))] [] G (qV Q) noX := by
  unfold f_J4_init at h
  refine r_aload_n dJ4_init_0 rfl rfl iR ?_
  refine r_callI dJ4_init_1 (c_J0_init h) rfl q195 q164 q94 q165 yo_J0_init rfl (by decide) (by decide) rfl rc0 (by decide) (Nat.zero_le _) (Nat.zero_le _) (ofV fun G5 h => ?_) nox
  refine r_aload_n dJ4_init_4 rfl rfl iR ?_
  refine r_bipush dJ4_init_5 (by decide) ?_
  refine r_newR (kd := 9) dJ4_init_7 (fun _ => rfl) q196 q197 h (fun a6 G7 h => ?_)
  refine r_put dJ4_init_10 (fp1 (f := 0) fJ4 (by decide) q198 rfl rfl rfl) fvA h (fun G8 h => ?_)
  exact r_vret rfl dJ4_init_13 ⟨rfl, h⟩
theorem c_J4_init {a0 : Nat} {k n : Nat} {Q : Wd → Prop} {G : Wd} (h : f_J4_init k n a0 G Q) : call yJ4_init (Cond.code yJ4_init cJ4_init 1 (none)) 2 k n [vR (some a0)] G (qV Q) noX :=
  call.enter (by decide +kernel) (la_1 c1R (la_nil rfl)) rfl (w_J4_init h)
abbrev m_J4_circularClear : Mt := (yJ4_circularClear.cls, cJ4_circularClear, 4, none, [], yJ4_circularClear.name)
theorem yo_J4_circularClear : yOK yJ4_circularClear 3 := ⟨by decide +kernel, by decide +kernel, by decide +kernel⟩
def f_J4_circularClear_12_b (k12 : Option Nat → Int → Int → Int → Wd → Prop) (l0 : Option Nat) (l1 : Int) (l2 : Int) (l3 : Int) (G : Wd) (Q : Wd → Prop) : Prop :=
  br l1 l3 (l3 ≤ l1) (br l3 l2 (¬ l3 = l2) (k12 l0 0 l2 l2 G) (Q G)) (nn l0 (fun a7 => stR G a7 9 l1 none [7, 10] (fun G8 => k12 (some a7) (l1 + 1) l2 l3 G8)))
theorem w_J4_circularClear_12_b {Q : Wd → Prop} {k12 : Option Nat → Int → Int → Int → Wd → Prop} (hk12 : ∀ {l0 : Option Nat} {l1 : Int} {l2 : Int} {l3 : Int} {G : Wd}, k12 l0 l1 l2 l3 G → wp m_J4_circularClear 1 0 0 12 [some (vR l0), some (vI l1), some (vI l2), some (vI l3)] [] G (qV Q) noX) {l0 : Option Nat} {l1 : Int} {l2 : Int} {l3 : Int} {G : Wd} (h : f_J4_circularClear_12_b k12 l0 l1 l2 l3 G Q) : wp m_J4_circularClear 1 0 0 12 [some (vR l0), some (vI l1), some (vI l2), some (vI l3)] [] G (qV Q) noX := by
  unfold f_J4_circularClear_12_b at h
  refine r_iload_n dJ4_circularClear_12 rfl rfl iI ?_
  refine r_iload_n dJ4_circularClear_13 rfl rfl iI ?_
  refine r_icmp_ge (tgt := 27) dJ4_circularClear_14 (by decide) h (fun h => ?_) (fun h => ?_)
  · refine r_iload_n dJ4_circularClear_27 rfl rfl iI ?_
    refine r_iload_n dJ4_circularClear_28 rfl rfl iI ?_
    refine r_icmp_ne (tgt := 35) dJ4_circularClear_29 (by decide) h (fun h => ?_) (fun h => ?_)
    · refine r_iconst dJ4_circularClear_35 ?_
      refine r_istore_n (L' := [some (vR l0), some (vI 0), some (vI l2), some (vI l3)]) dJ4_circularClear_36 rfl rfl iI cR (by decide) ?_
      refine r_iload_n dJ4_circularClear_37 rfl rfl iI ?_
      refine r_istore_n (L' := [some (vR l0), some (vI 0), some (vI l2), some (vI l2)]) dJ4_circularClear_38 rfl rfl iI cI (by decide) ?_
      refine r_goto (tgt := 12) dJ4_circularClear_39 (by decide) ?_
      exact hk12 h
    · refine r_goto (tgt := 42) dJ4_circularClear_32 (by decide) ?_
      exact r_vret rfl dJ4_circularClear_42 ⟨rfl, h⟩
  · refine r_aload_n dJ4_circularClear_17 rfl rfl iR ?_
    refine r_iload_n dJ4_circularClear_18 rfl rfl iI ?_
    refine r_null dJ4_circularClear_19 ?_
    obtain ⟨a7, e, h⟩ := h
    refine wp.cast (L' := [some (vR (some a7)), some (vI l1), some (vI l2), some (vI l3)]) (st' := [vR none, vI l1, vR (some a7)]) (by rw [e]) (by rw [e]) ?_
    refine r_aast dJ4_circularClear_20 kd9 h (fun G8 h => ?_)
    refine r_iinc (L' := [some (vR (some a7)), some (vI (l1 + 1)), some (vI l2), some (vI l3)]) dJ4_circularClear_21 rfl rfl cR (by decide) ?_
    refine r_goto (tgt := 12) dJ4_circularClear_24 (by decide) ?_
    exact hk12 h
def f_J4_circularClear_12 (Q : Wd → Prop) : Nat → Option Nat → Int → Int → Int → Wd → Prop
  | 0, _, _, _, _, _ => False
  | fl + 1, l0, l1, l2, l3, G => f_J4_circularClear_12_b  (fun l0 l1 l2 l3 G => f_J4_circularClear_12  Q fl l0 l1 l2 l3 G) l0 l1 l2 l3 G Q
theorem w_J4_circularClear_12 {Q : Wd → Prop} : ∀ (fl : Nat) {l0 : Option Nat} {l1 : Int} {l2 : Int} {l3 : Int} {G : Wd}, f_J4_circularClear_12 Q fl l0 l1 l2 l3 G → wp m_J4_circularClear 1 0 0 12 [some (vR l0), some (vI l1), some (vI l2), some (vI l3)] [] G (qV Q) noX := by
  intro fl
  induction fl with
  | zero => intro l0 l1 l2 l3 G h; exact (show False from h).elim
  | succ fl ih => intro l0 l1 l2 l3 G h; exact w_J4_circularClear_12_b  (fun h => ih h) h
def f_J4_circularClear_11 (l0 : Option Nat) (l1 : Int) (l2 : Int) (s0 : Int) (G : Wd) (Q : Wd → Prop) : Prop :=
  ∃ fl9, f_J4_circularClear_12 Q fl9 l0 l1 l2 s0 G
theorem w_J4_circularClear_11 {Q : Wd → Prop} {l0 : Option Nat} {l1 : Int} {l2 : Int} {s0 : Int} {G : Wd} (h : f_J4_circularClear_11 l0 l1 l2 s0 G Q) : wp m_J4_circularClear 1 0 0 11 [some (vR l0), some (vI l1), some (vI l2), none] [vI s0] G (qV Q) noX := by
  unfold f_J4_circularClear_11 at h
  refine r_istore_n (L' := [some (vR l0), some (vI l1), some (vI l2), some (vI s0)]) dJ4_circularClear_11 rfl rfl iI cI (by decide) ?_
  obtain ⟨fl9, h⟩ := h
  exact w_J4_circularClear_12 fl9 h
def f_J4_circularClear (a0 : Option Nat) (a1 : Int) (a2 : Int) (G : Wd) (Q : Wd → Prop) : Prop :=
  br a1 a2 (a2 < a1) (nn a0 (fun a10 => lnR G a10 9 (fun x11 => f_J4_circularClear_11 (some a10) a1 a2 x11 G Q))) (f_J4_circularClear_11 a0 a1 a2 a2 G Q)
theorem w_J4_circularClear {Q : Wd → Prop} {a0 : Option Nat} {a1 : Int} {a2 : Int} {G : Wd} (h : f_J4_circularClear a0 a1 a2 G Q) : wp m_J4_circularClear 1 0 0 0 [some (vR a0), some (vI a1), some (vI a2), none] [] G (qV Q) noX := by
  unfold f_J4_circularClear at h
  refine r_iload_n dJ4_circularClear_0 rfl rfl iI ?_
  refine r_iload_n dJ4_circularClear_1 rfl rfl iI ?_
  refine r_icmp_gt (tgt := 9) dJ4_circularClear_2 (by decide) h (fun h => ?_) (fun h => ?_)
  · refine r_aload_n dJ4_circularClear_9 rfl rfl iR ?_
    obtain ⟨a10, e, h⟩ := h
    refine wp.cast (L' := [some (vR (some a10)), some (vI a1), some (vI a2), none]) (st' := [vR (some a10)]) (by rw [e]) (by rw [e]) ?_
    refine r_lenR (kd := 9) (by decide) dJ4_circularClear_10 h (fun x11 h => ?_)
    exact w_J4_circularClear_11 h
  · refine r_iload_n dJ4_circularClear_5 rfl rfl iI ?_
    refine r_goto (tgt := 11) dJ4_circularClear_6 (by decide) ?_
    exact w_J4_circularClear_11 h
theorem c_J4_circularClear {a0 : Option Nat} {a1 : Int} {a2 : Int} {Q : Wd → Prop} {G : Wd} (h : f_J4_circularClear a0 a1 a2 G Q) : call yJ4_circularClear (Cond.code yJ4_circularClear cJ4_circularClear 4 (none)) 1 0 0 [vR a0, vI a1, vI a2] G (qV Q) noX :=
  call.enter (by decide +kernel) (la_1 c1R (la_1 c1I (la_1 c1I (la_nil rfl)))) rfl (w_J4_circularClear h)
abbrev m_J4_sub : Mt := (yJ4_sub.cls, cJ4_sub, 3, some .int, [], yJ4_sub.name)
theorem yo_J4_sub : yOK yJ4_sub 3 := ⟨by decide +kernel, by decide +kernel, by decide +kernel⟩
def f_J4_sub (a0 : Int) (a1 : Int) (a2 : Int) (G : Wd) (Q : Int → Wd → Prop) : Prop :=
  br0 (a0 - a1) (0 ≤ (a0 - a1)) (Q (a0 - a1) G) (Q ((a0 - a1) + a2) G)
theorem w_J4_sub {Q : Int → Wd → Prop} {a0 : Int} {a1 : Int} {a2 : Int} {G : Wd} (h : f_J4_sub a0 a1 a2 G Q) : wp m_J4_sub 1 0 0 0 [some (vI a0), some (vI a1), some (vI a2)] [] G (qI Q) noX := by
  unfold f_J4_sub at h
  refine r_iload_n dJ4_sub_0 rfl rfl iI ?_
  refine r_iload_n dJ4_sub_1 rfl rfl iI ?_
  refine r_isub dJ4_sub_2 ?_
  refine r_dup dJ4_sub_3 c1I ?_
  refine r_istore_n (L' := [some (vI (a0 - a1)), some (vI a1), some (vI a2)]) dJ4_sub_4 rfl rfl iI cN (by decide) ?_
  refine r_if_ge (tgt := 12) dJ4_sub_5 (by decide) h (fun h => ?_) (fun h => ?_)
  · refine r_iload_n dJ4_sub_12 rfl rfl iI ?_
    exact r_iret rfl dJ4_sub_13 ⟨_, rfl, h⟩
  · refine r_iload_n dJ4_sub_8 rfl rfl iI ?_
    refine r_iload_n dJ4_sub_9 rfl rfl iI ?_
    refine r_iadd dJ4_sub_10 ?_
    refine r_istore_n (L' := [some (vI ((a0 - a1) + a2)), some (vI a1), some (vI a2)]) dJ4_sub_11 rfl rfl iI cN (by decide) ?_
    refine r_iload_n dJ4_sub_12 rfl rfl iI ?_
    exact r_iret rfl dJ4_sub_13 ⟨_, rfl, h⟩
theorem c_J4_sub {a0 : Int} {a1 : Int} {a2 : Int} {Q : Int → Wd → Prop} {G : Wd} (h : f_J4_sub a0 a1 a2 G Q) : call yJ4_sub (Cond.code yJ4_sub cJ4_sub 3 (some .int)) 1 0 0 [vI a0, vI a1, vI a2] G (qI Q) noX :=
  call.enter (by decide +kernel) (la_1 c1I (la_1 c1I (la_1 c1I (la_nil rfl)))) rfl (w_J4_sub h)
abbrev m_J4_inc : Mt := (yJ4_inc.cls, cJ4_inc, 2, some .int, [], yJ4_inc.name)
theorem yo_J4_inc : yOK yJ4_inc 2 := ⟨by decide +kernel, by decide +kernel, by decide +kernel⟩
def f_J4_inc (a0 : Int) (a1 : Int) (G : Wd) (Q : Int → Wd → Prop) : Prop :=
  br (a0 + 1) a1 ((a0 + 1) < a1) (Q (a0 + 1) G) (Q 0 G)
theorem w_J4_inc {Q : Int → Wd → Prop} {a0 : Int} {a1 : Int} {G : Wd} (h : f_J4_inc a0 a1 G Q) : wp m_J4_inc 1 0 0 0 [some (vI a0), some (vI a1)] [] G (qI Q) noX := by
  unfold f_J4_inc at h
  refine r_iinc (L' := [some (vI (a0 + 1)), some (vI a1)]) dJ4_inc_0 rfl rfl cN (by decide) ?_
  refine r_iload_n dJ4_inc_3 rfl rfl iI ?_
  refine r_iload_n dJ4_inc_4 rfl rfl iI ?_
  refine r_icmp_lt (tgt := 10) dJ4_inc_5 (by decide) h (fun h => ?_) (fun h => ?_)
  · refine r_iload_n dJ4_inc_10 rfl rfl iI ?_
    exact r_iret rfl dJ4_inc_11 ⟨_, rfl, h⟩
  · refine r_iconst dJ4_inc_8 ?_
    refine r_istore_n (L' := [some (vI 0), some (vI a1)]) dJ4_inc_9 rfl rfl iI cN (by decide) ?_
    refine r_iload_n dJ4_inc_10 rfl rfl iI ?_
    exact r_iret rfl dJ4_inc_11 ⟨_, rfl, h⟩
theorem c_J4_inc {a0 : Int} {a1 : Int} {Q : Int → Wd → Prop} {G : Wd} (h : f_J4_inc a0 a1 G Q) : call yJ4_inc (Cond.code yJ4_inc cJ4_inc 2 (some .int)) 1 0 0 [vI a0, vI a1] G (qI Q) noX :=
  call.enter (by decide +kernel) (la_1 c1I (la_1 c1I (la_nil rfl))) rfl (w_J4_inc h)
abbrev m_J4_dec : Mt := (yJ4_dec.cls, cJ4_dec, 2, some .int, [], yJ4_dec.name)
theorem yo_J4_dec : yOK yJ4_dec 2 := ⟨by decide +kernel, by decide +kernel, by decide +kernel⟩
def f_J4_dec (a0 : Int) (a1 : Int) (G : Wd) (Q : Int → Wd → Prop) : Prop :=
  br0 (a0 + (-1)) (0 ≤ (a0 + (-1))) (Q (a0 + (-1)) G) (Q (a1 - 1) G)
theorem w_J4_dec {Q : Int → Wd → Prop} {a0 : Int} {a1 : Int} {G : Wd} (h : f_J4_dec a0 a1 G Q) : wp m_J4_dec 1 0 0 0 [some (vI a0), some (vI a1)] [] G (qI Q) noX := by
  unfold f_J4_dec at h
  refine r_iinc (L' := [some (vI (a0 + (-1))), some (vI a1)]) dJ4_dec_0 rfl rfl cN (by decide) ?_
  refine r_iload_n dJ4_dec_3 rfl rfl iI ?_
  refine r_if_ge (tgt := 11) dJ4_dec_4 (by decide) h (fun h => ?_) (fun h => ?_)
  · refine r_iload_n dJ4_dec_11 rfl rfl iI ?_
    exact r_iret rfl dJ4_dec_12 ⟨_, rfl, h⟩
  · refine r_iload_n dJ4_dec_7 rfl rfl iI ?_
    refine r_iconst dJ4_dec_8 ?_
    refine r_isub dJ4_dec_9 ?_
    refine r_istore_n (L' := [some (vI (a1 - 1)), some (vI a1)]) dJ4_dec_10 rfl rfl iI cN (by decide) ?_
    refine r_iload_n dJ4_dec_11 rfl rfl iI ?_
    exact r_iret rfl dJ4_dec_12 ⟨_, rfl, h⟩
theorem c_J4_dec {a0 : Int} {a1 : Int} {Q : Int → Wd → Prop} {G : Wd} (h : f_J4_dec a0 a1 G Q) : call yJ4_dec (Cond.code yJ4_dec cJ4_dec 2 (some .int)) 1 0 0 [vI a0, vI a1] G (qI Q) noX :=
  call.enter (by decide +kernel) (la_1 c1I (la_1 c1I (la_nil rfl))) rfl (w_J4_dec h)
abbrev m_J4_addLast : Mt := (yJ4_addLast.cls, cJ4_addLast, 3, none, [], yJ4_addLast.name)
theorem yo_J4_addLast : yOK yJ4_addLast 1 := ⟨by decide +kernel, by decide +kernel, by decide +kernel⟩
def f_J4_addLast (a0 : Nat) (a1 : Option Nat) (G : Wd) (Q : Wd → Prop) : Prop :=
  brN a1 (False) (fun a12 => gR G a0 [13] 0 (fun x13 => gI G a0 [13] 2 (fun x14 => nn x13 (fun a15 => stR G a15 9 x14 (some a12) [7, 10] (fun G16 => gI G16 a0 [13] 1 (fun x17 => gI G16 a0 [13] 2 (fun x18 => lnR G16 a15 9 (fun x19 => f_J4_inc x18 x19 G16 (fun x21 G20 => pF G20 a0 [13] 2 (vI x21) (fun G22 => br x17 x21 (¬ x17 = x21) (Q G22) (False)))))))))))
theorem w_J4_addLast {a0 : Nat} {Q : Wd → Prop} {a1 : Option Nat} {G : Wd} (h : f_J4_addLast a0 a1 G Q) : wp m_J4_addLast 2 0 0 0 [some (vR (some a0)), some (vR a1), none] [] G (qV Q) noX := by
  unfold f_J4_addLast at h
  refine r_aload_n dJ4_addLast_0 rfl rfl iR ?_
  refine r_ifnonnullV (tgt := 12) dJ4_addLast_1 (by decide) h (fun a12 e h => ?_) (fun e h => ?_)
  · refine wp.cast (L' := [some (vR (some a0)), some (vR (some a12)), none]) (st' := []) (by rw [e]) rfl ?_
    refine r_aload_n dJ4_addLast_12 rfl rfl iR ?_
    refine r_getR dJ4_addLast_13 (fg1 (f := 0) fJ4 (by decide) q198 rfl) h (fun x13 h => ?_)
    refine r_astore_n (L' := [some (vR (some a0)), some (vR (some a12)), some (vR x13)]) dJ4_addLast_16 rfl rfl iR cR (by decide) ?_
    refine r_aload_n dJ4_addLast_17 rfl rfl iR ?_
    refine r_aload_n dJ4_addLast_18 rfl rfl iR ?_
    refine r_getI dJ4_addLast_19 (fg1 (f := 2) fJ4 (by decide) q202 rfl) h (fun x14 h => ?_)
    refine r_aload_n dJ4_addLast_22 rfl rfl iR ?_
    obtain ⟨a15, e, h⟩ := h
    refine wp.cast (L' := [some (vR (some a0)), some (vR (some a12)), some (vR (some a15))]) (st' := [vR (some a12), vI x14, vR (some a15)]) (by rw [e]) (by rw [e]) ?_
    refine r_aast dJ4_addLast_23 kd9 h (fun G16 h => ?_)
    refine r_aload_n dJ4_addLast_24 rfl rfl iR ?_
    refine r_getI dJ4_addLast_25 (fg1 (f := 1) fJ4 (by decide) q201 rfl) h (fun x17 h => ?_)
    refine r_aload_n dJ4_addLast_28 rfl rfl iR ?_
    refine r_aload_n dJ4_addLast_29 rfl rfl iR ?_
    refine r_getI dJ4_addLast_30 (fg1 (f := 2) fJ4 (by decide) q202 rfl) h (fun x18 h => ?_)
    refine r_aload_n dJ4_addLast_33 rfl rfl iR ?_
    refine r_lenR (kd := 9) (by decide) dJ4_addLast_34 h (fun x19 h => ?_)
    refine r_callS dJ4_addLast_35 (c_J4_inc h) q1289 q1270 q99 q1271 yo_J4_inc rfl (by decide) (by decide) rfl (rc1 c1R (rc1 c1I rc0)) (by decide) (Nat.zero_le _) (Nat.zero_le _) (ofI fun x21 G20 h => ?_) nox
    refine r_dup_x1 dJ4_addLast_38 c1I c1R ?_
    refine r_put dJ4_addLast_39 (fp1 (f := 2) fJ4 (by decide) q202 rfl rfl rfl) fvI h (fun G22 h => ?_)
    refine r_icmp_ne (tgt := 50) dJ4_addLast_42 (by decide) h (fun h => ?_) (fun h => ?_)
    · exact r_vret rfl dJ4_addLast_50 ⟨rfl, h⟩
    · refine r_aload_n dJ4_addLast_45 rfl rfl iR ?_
      refine r_iconst dJ4_addLast_46 ?_
      exact h.elim
  · refine wp.cast (L' := [some (vR (some a0)), some (vR none), none]) (st' := []) (by rw [e]) rfl ?_
    exact h.elim
theorem c_J4_addLast {a0 : Nat} {a1 : Option Nat} {Q : Wd → Prop} {G : Wd} (h : f_J4_addLast a0 a1 G Q) : call yJ4_addLast (Cond.code yJ4_addLast cJ4_addLast 3 (none)) 2 0 0 [vR (some a0), vR a1] G (qV Q) noX :=
  call.enter (by decide +kernel) (la_1 c1R (la_1 c1R (la_nil rfl))) rfl (w_J4_addLast h)
abbrev m_J4_elementAt : Mt := (yJ4_elementAt.cls, cJ4_elementAt, 2, some (.object "java/lang/Object"), [], yJ4_elementAt.name)
theorem yo_J4_elementAt : yOK yJ4_elementAt 2 := ⟨by decide +kernel, by decide +kernel, by decide +kernel⟩
def f_J4_elementAt (a0 : Option Nat) (a1 : Int) (G : Wd) (Q : Option Nat → Wd → Prop) : Prop :=
  nn a0 (fun a3 => ldR G a3 9 a1 (fun x4 => Q x4 G))
theorem w_J4_elementAt {Q : Option Nat → Wd → Prop} {a0 : Option Nat} {a1 : Int} {G : Wd} (h : f_J4_elementAt a0 a1 G Q) : wp m_J4_elementAt 1 0 0 0 [some (vR a0), some (vI a1)] [] G (qR Q) noX := by
  unfold f_J4_elementAt at h
  refine r_aload_n dJ4_elementAt_0 rfl rfl iR ?_
  refine r_iload_n dJ4_elementAt_1 rfl rfl iI ?_
  obtain ⟨a3, e, h⟩ := h
  refine wp.cast (L' := [some (vR (some a3)), some (vI a1)]) (st' := [vI a1, vR (some a3)]) (by rw [e]) (by rw [e]) ?_
  refine r_aald dJ4_elementAt_2 (by decide) (by decide) h (fun x4 h => ?_)
  exact r_aret rtO dJ4_elementAt_3 ⟨_, rfl, h⟩
theorem c_J4_elementAt {a0 : Option Nat} {a1 : Int} {Q : Option Nat → Wd → Prop} {G : Wd} (h : f_J4_elementAt a0 a1 G Q) : call yJ4_elementAt (Cond.code yJ4_elementAt cJ4_elementAt 2 (some (.object "java/lang/Object"))) 1 0 0 [vR a0, vI a1] G (qR Q) noX :=
  call.enter (by decide +kernel) (la_1 c1R (la_1 c1I (la_nil rfl))) rfl (w_J4_elementAt h)
abbrev m_J4_nonNullElementAt : Mt := (yJ4_nonNullElementAt.cls, cJ4_nonNullElementAt, 3, some (.object "java/lang/Object"), [], yJ4_nonNullElementAt.name)
theorem yo_J4_nonNullElementAt : yOK yJ4_nonNullElementAt 2 := ⟨by decide +kernel, by decide +kernel, by decide +kernel⟩
def f_J4_nonNullElementAt (a0 : Option Nat) (a1 : Int) (G : Wd) (Q : Option Nat → Wd → Prop) : Prop :=
  nn a0 (fun a4 => ldR G a4 9 a1 (fun x5 => brN x5 (False) (fun a6 => Q (some a6) G)))
theorem w_J4_nonNullElementAt {Q : Option Nat → Wd → Prop} {a0 : Option Nat} {a1 : Int} {G : Wd} (h : f_J4_nonNullElementAt a0 a1 G Q) : wp m_J4_nonNullElementAt 1 0 0 0 [some (vR a0), some (vI a1), none] [] G (qR Q) noX := by
  unfold f_J4_nonNullElementAt at h
  refine r_aload_n dJ4_nonNullElementAt_0 rfl rfl iR ?_
  refine r_iload_n dJ4_nonNullElementAt_1 rfl rfl iI ?_
  obtain ⟨a4, e, h⟩ := h
  refine wp.cast (L' := [some (vR (some a4)), some (vI a1), none]) (st' := [vI a1, vR (some a4)]) (by rw [e]) (by rw [e]) ?_
  refine r_aald dJ4_nonNullElementAt_2 (by decide) (by decide) h (fun x5 h => ?_)
  refine r_astore_n (L' := [some (vR (some a4)), some (vI a1), some (vR x5)]) dJ4_nonNullElementAt_3 rfl rfl iR cI (by decide) ?_
  refine r_aload_n dJ4_nonNullElementAt_4 rfl rfl iR ?_
  refine r_ifnonnullV (tgt := 16) dJ4_nonNullElementAt_5 (by decide) h (fun a6 e h => ?_) (fun e h => ?_)
  · refine wp.cast (L' := [some (vR (some a4)), some (vI a1), some (vR (some a6))]) (st' := []) (by rw [e]) rfl ?_
    refine r_aload_n dJ4_nonNullElementAt_16 rfl rfl iR ?_
    exact r_aret rtO dJ4_nonNullElementAt_17 ⟨_, rfl, h⟩
  · refine wp.cast (L' := [some (vR (some a4)), some (vI a1), some (vR none)]) (st' := []) (by rw [e]) rfl ?_
    exact h.elim
theorem c_J4_nonNullElementAt {a0 : Option Nat} {a1 : Int} {Q : Option Nat → Wd → Prop} {G : Wd} (h : f_J4_nonNullElementAt a0 a1 G Q) : call yJ4_nonNullElementAt (Cond.code yJ4_nonNullElementAt cJ4_nonNullElementAt 3 (some (.object "java/lang/Object"))) 1 0 0 [vR a0, vI a1] G (qR Q) noX :=
  call.enter (by decide +kernel) (la_1 c1R (la_1 c1I (la_nil rfl))) rfl (w_J4_nonNullElementAt h)
abbrev m_J4_peekFirst : Mt := (yJ4_peekFirst.cls, cJ4_peekFirst, 1, some (.object "java/lang/Object"), [], yJ4_peekFirst.name)
theorem yo_J4_peekFirst : yOK yJ4_peekFirst 0 := ⟨by decide +kernel, by decide +kernel, by decide +kernel⟩
def f_J4_peekFirst (a0 : Nat) (G : Wd) (Q : Option Nat → Wd → Prop) : Prop :=
  gR G a0 [13] 0 (fun x5 => gI G a0 [13] 1 (fun x6 => f_J4_elementAt x5 x6 G (fun x8 G7 => Q x8 G7)))
theorem w_J4_peekFirst {a0 : Nat} {Q : Option Nat → Wd → Prop} {G : Wd} (h : f_J4_peekFirst a0 G Q) : wp m_J4_peekFirst 2 0 0 0 [some (vR (some a0))] [] G (qR Q) noX := by
  unfold f_J4_peekFirst at h
  refine r_aload_n dJ4_peekFirst_0 rfl rfl iR ?_
  refine r_getR dJ4_peekFirst_1 (fg1 (f := 0) fJ4 (by decide) q198 rfl) h (fun x5 h => ?_)
  refine r_aload_n dJ4_peekFirst_4 rfl rfl iR ?_
  refine r_getI dJ4_peekFirst_5 (fg1 (f := 1) fJ4 (by decide) q201 rfl) h (fun x6 h => ?_)
  refine r_callS dJ4_peekFirst_8 (c_J4_elementAt h) q1734 q1735 q99 q1736 yo_J4_elementAt rfl (by decide) (by decide) rfl rc0 (by decide) (Nat.zero_le _) (Nat.zero_le _) (ofR fun x8 G7 h => ?_) nox
  exact r_aret rtO dJ4_peekFirst_11 ⟨_, rfl, h⟩
theorem c_J4_peekFirst {a0 : Nat} {Q : Option Nat → Wd → Prop} {G : Wd} (h : f_J4_peekFirst a0 G Q) : call yJ4_peekFirst (Cond.code yJ4_peekFirst cJ4_peekFirst 1 (some (.object "java/lang/Object"))) 2 0 0 [vR (some a0)] G (qR Q) noX :=
  call.enter (by decide +kernel) (la_1 c1R (la_nil rfl)) rfl (w_J4_peekFirst h)
abbrev m_J4_isEmpty : Mt := (yJ4_isEmpty.cls, cJ4_isEmpty, 1, some .boolean, [], yJ4_isEmpty.name)
theorem yo_J4_isEmpty : yOK yJ4_isEmpty 0 := ⟨by decide +kernel, by decide +kernel, by decide +kernel⟩
def f_J4_isEmpty (a0 : Nat) (G : Wd) (Q : Bool → Wd → Prop) : Prop :=
  gI G a0 [13] 1 (fun x3 => gI G a0 [13] 2 (fun x4 => br x3 x4 (¬ x3 = x4) (Q false G) (Q true G)))
theorem w_J4_isEmpty {a0 : Nat} {Q : Bool → Wd → Prop} {G : Wd} (h : f_J4_isEmpty a0 G Q) : wp m_J4_isEmpty 1 0 0 0 [some (vR (some a0))] [] G (qB Q) noX := by
  unfold f_J4_isEmpty at h
  refine r_aload_n dJ4_isEmpty_0 rfl rfl iR ?_
  refine r_getI dJ4_isEmpty_1 (fg1 (f := 1) fJ4 (by decide) q201 rfl) h (fun x3 h => ?_)
  refine r_aload_n dJ4_isEmpty_4 rfl rfl iR ?_
  refine r_getI dJ4_isEmpty_5 (fg1 (f := 2) fJ4 (by decide) q202 rfl) h (fun x4 h => ?_)
  refine r_icmp_ne (tgt := 15) dJ4_isEmpty_8 (by decide) h (fun h => ?_) (fun h => ?_)
  · refine r_iconst dJ4_isEmpty_15 ?_
    refine wp.cast (st' := [vB false]) rfl (congrArg (fun q => [q]) vI0) ?_
    exact r_zret rfl dJ4_isEmpty_16 ⟨_, rfl, h⟩
  · refine r_iconst dJ4_isEmpty_11 ?_
    refine r_goto (tgt := 16) dJ4_isEmpty_12 (by decide) ?_
    refine wp.cast (st' := [vB true]) rfl (congrArg (fun q => [q]) vI1) ?_
    exact r_zret rfl dJ4_isEmpty_16 ⟨_, rfl, h⟩
theorem c_J4_isEmpty {a0 : Nat} {Q : Bool → Wd → Prop} {G : Wd} (h : f_J4_isEmpty a0 G Q) : call yJ4_isEmpty (Cond.code yJ4_isEmpty cJ4_isEmpty 1 (some .boolean)) 1 0 0 [vR (some a0)] G (qB Q) noX :=
  call.enter (by decide +kernel) (la_1 c1R (la_nil rfl)) rfl (w_J4_isEmpty h)
abbrev m_J5_wordIndex : Mt := (yJ5_wordIndex.cls, cJ5_wordIndex, 1, some .int, [], yJ5_wordIndex.name)
theorem yo_J5_wordIndex : yOK yJ5_wordIndex 1 := ⟨by decide +kernel, by decide +kernel, by decide +kernel⟩
def f_J5_wordIndex (a0 : Int) (G : Wd) (Q : Int → Wd → Prop) : Prop :=
  Q (ishr a0 6) G
theorem w_J5_wordIndex {Q : Int → Wd → Prop} {a0 : Int} {G : Wd} (h : f_J5_wordIndex a0 G Q) : wp m_J5_wordIndex 1 0 0 0 [some (vI a0)] [] G (qI Q) noX := by
  unfold f_J5_wordIndex at h
  refine r_iload_n dJ5_wordIndex_0 rfl rfl iI ?_
  refine r_bipush dJ5_wordIndex_1 (by decide) ?_
  refine r_ishr dJ5_wordIndex_3 ?_
  exact r_iret rfl dJ5_wordIndex_4 ⟨_, rfl, h⟩
theorem c_J5_wordIndex {a0 : Int} {Q : Int → Wd → Prop} {G : Wd} (h : f_J5_wordIndex a0 G Q) : call yJ5_wordIndex (Cond.code yJ5_wordIndex cJ5_wordIndex 1 (some .int)) 1 0 0 [vI a0] G (qI Q) noX :=
  call.enter (by decide +kernel) (la_1 c1I (la_nil rfl)) rfl (w_J5_wordIndex h)
abbrev m_J5_clear : Mt := (yJ5_clear.cls, cJ5_clear, 1, none, [], yJ5_clear.name)
theorem yo_J5_clear : yOK yJ5_clear 0 := ⟨by decide +kernel, by decide +kernel, by decide +kernel⟩
def f_J5_clear_0_b (a0 : Nat) (k0 : Wd → Prop) (G : Wd) (Q : Wd → Prop) : Prop :=
  gI G a0 [14] 1 (fun x7 => br0 x7 (x7 ≤ 0) (Q G) (gR G a0 [14] 0 (fun x8 => gI G a0 [14] 1 (fun x9 => pF G a0 [14] 1 (vI (x9 - 1)) (fun G10 => nn x8 (fun a11 => stJ G10 a11 (x9 - 1) 0 (fun G12 => k0 G12)))))))
theorem w_J5_clear_0_b {a0 : Nat} {Q : Wd → Prop} {k0 : Wd → Prop} (hk0 : ∀ {G : Wd}, k0 G → wp m_J5_clear 1 0 0 0 [some (vR (some a0))] [] G (qV Q) noX) {G : Wd} (h : f_J5_clear_0_b a0 k0 G Q) : wp m_J5_clear 1 0 0 0 [some (vR (some a0))] [] G (qV Q) noX := by
  unfold f_J5_clear_0_b at h
  refine r_aload_n dJ5_clear_0 rfl rfl iR ?_
  refine r_getI dJ5_clear_1 (fg1 (f := 1) fJ5 (by decide) q542 rfl) h (fun x7 h => ?_)
  refine r_if_le (tgt := 27) dJ5_clear_4 (by decide) h (fun h => ?_) (fun h => ?_)
  · exact r_vret rfl dJ5_clear_27 ⟨rfl, h⟩
  · refine r_aload_n dJ5_clear_7 rfl rfl iR ?_
    refine r_getR dJ5_clear_8 (fg1 (f := 0) fJ5 (by decide) q541 rfl) h (fun x8 h => ?_)
    refine r_aload_n dJ5_clear_11 rfl rfl iR ?_
    refine r_dup dJ5_clear_12 c1R ?_
    refine r_getI dJ5_clear_13 (fg1 (f := 1) fJ5 (by decide) q542 rfl) h (fun x9 h => ?_)
    refine r_iconst dJ5_clear_16 ?_
    refine r_isub dJ5_clear_17 ?_
    refine r_dup_x1 dJ5_clear_18 c1I c1R ?_
    refine r_put dJ5_clear_19 (fp1 (f := 1) fJ5 (by decide) q542 rfl rfl rfl) fvI h (fun G10 h => ?_)
    refine r_lconst (y := 0) dJ5_clear_22 (by decide) ?_
    obtain ⟨a11, e, h⟩ := h
    refine wp.cast (L' := [some (vR (some a0))]) (st' := [vJ 0, vI (x9 - 1), vR (some a11)]) rfl (by rw [e]) ?_
    refine r_last dJ5_clear_23 h (fun G12 h => ?_)
    refine r_goto (tgt := 0) dJ5_clear_24 (by decide) ?_
    exact hk0 h
def f_J5_clear_0 (a0 : Nat) (Q : Wd → Prop) : Nat → Wd → Prop
  | 0, _ => False
  | fl + 1, G => f_J5_clear_0_b a0  (fun  G => f_J5_clear_0 a0  Q fl  G)  G Q
theorem w_J5_clear_0 {a0 : Nat} {Q : Wd → Prop} : ∀ (fl : Nat) {G : Wd}, f_J5_clear_0 a0 Q fl G → wp m_J5_clear 1 0 0 0 [some (vR (some a0))] [] G (qV Q) noX := by
  intro fl
  induction fl with
  | zero => intro  G h; exact (show False from h).elim
  | succ fl ih => intro  G h; exact w_J5_clear_0_b  (fun h => ih h) h
def f_J5_clear (a0 : Nat) (G : Wd) (Q : Wd → Prop) : Prop := ∃ fl, f_J5_clear_0 a0 Q fl G
theorem c_J5_clear {a0 : Nat} {Q : Wd → Prop} {G : Wd} (h : f_J5_clear a0 G Q) : call yJ5_clear (Cond.code yJ5_clear cJ5_clear 1 (none)) 1 0 0 [vR (some a0)] G (qV Q) noX :=
  call.enter (by decide +kernel) (la_1 c1R (la_nil rfl)) rfl (h.elim fun fl h => w_J5_clear_0 fl h)
abbrev m_J5_ensureCapacity : Mt := (yJ5_ensureCapacity.cls, cJ5_ensureCapacity, 3, none, [], yJ5_ensureCapacity.name)
theorem yo_J5_ensureCapacity : yOK yJ5_ensureCapacity 1 := ⟨by decide +kernel, by decide +kernel, by decide +kernel⟩
def f_J5_ensureCapacity (a0 : Nat) (a1 : Int) (G : Wd) (Q : Wd → Prop) : Prop :=
  gR G a0 [14] 0 (fun x8 => nn x8 (fun a9 => lnJ G a9 (fun x10 => br x10 a1 (a1 ≤ x10) (Q G) (gR G a0 [14] 0 (fun x11 => nn x11 (fun a12 => lnJ G a12 (fun x13 => ((R32 (2 * x13) ∧ R32 a1) ∧ gR G a0 [14] 0 (fun x14 => False)))))))))
theorem w_J5_ensureCapacity {a0 : Nat} {Q : Wd → Prop} {a1 : Int} {G : Wd} (h : f_J5_ensureCapacity a0 a1 G Q) : wp m_J5_ensureCapacity 1 0 0 0 [some (vR (some a0)), some (vI a1), none] [] G (qV Q) noX := by
  unfold f_J5_ensureCapacity at h
  refine r_aload_n dJ5_ensureCapacity_0 rfl rfl iR ?_
  refine r_getR dJ5_ensureCapacity_1 (fg1 (f := 0) fJ5 (by decide) q541 rfl) h (fun x8 h => ?_)
  obtain ⟨a9, e, h⟩ := h
  refine wp.cast (L' := [some (vR (some a0)), some (vI a1), none]) (st' := [vR (some a9)]) rfl (by rw [e]) ?_
  refine r_lenJ dJ5_ensureCapacity_4 h (fun x10 h => ?_)
  refine r_iload_n dJ5_ensureCapacity_5 rfl rfl iI ?_
  refine r_icmp_ge (tgt := 38) dJ5_ensureCapacity_6 (by decide) h (fun h => ?_) (fun h => ?_)
  · exact r_vret rfl dJ5_ensureCapacity_38 ⟨rfl, h⟩
  · refine r_iconst dJ5_ensureCapacity_9 ?_
    refine r_aload_n dJ5_ensureCapacity_10 rfl rfl iR ?_
    refine r_getR dJ5_ensureCapacity_11 (fg1 (f := 0) fJ5 (by decide) q541 rfl) h (fun x11 h => ?_)
    obtain ⟨a12, e, h⟩ := h
    refine wp.cast (L' := [some (vR (some a0)), some (vI a1), none]) (st' := [vR (some a12), vI 2]) rfl (by rw [e]) ?_
    refine r_lenJ dJ5_ensureCapacity_14 h (fun x13 h => ?_)
    refine r_imul dJ5_ensureCapacity_15 ?_
    refine r_iload_n dJ5_ensureCapacity_16 rfl rfl iI ?_
    refine r_mmax dJ5_ensureCapacity_17 q1320 rc0 (by decide) (by decide) h (fun h => ?_)
    refine r_istore_n (L' := [some (vR (some a0)), some (vI a1), some (vI (max (2 * x13) a1))]) dJ5_ensureCapacity_20 rfl rfl iI cI (by decide) ?_
    refine r_aload_n dJ5_ensureCapacity_21 rfl rfl iR ?_
    refine r_aload_n dJ5_ensureCapacity_22 rfl rfl iR ?_
    refine r_getR dJ5_ensureCapacity_23 (fg1 (f := 0) fJ5 (by decide) q541 rfl) h (fun x14 h => ?_)
    refine r_iload_n dJ5_ensureCapacity_26 rfl rfl iI ?_
    exact h.elim
theorem c_J5_ensureCapacity {a0 : Nat} {a1 : Int} {Q : Wd → Prop} {G : Wd} (h : f_J5_ensureCapacity a0 a1 G Q) : call yJ5_ensureCapacity (Cond.code yJ5_ensureCapacity cJ5_ensureCapacity 3 (none)) 1 0 0 [vR (some a0), vI a1] G (qV Q) noX :=
  call.enter (by decide +kernel) (la_1 c1R (la_1 c1I (la_nil rfl))) rfl (w_J5_ensureCapacity h)
abbrev m_J5_checkInvariants : Mt := (yJ5_checkInvariants.cls, cJ5_checkInvariants, 1, none, [], yJ5_checkInvariants.name)
theorem yo_J5_checkInvariants : yOK yJ5_checkInvariants 0 := ⟨by decide +kernel, by decide +kernel, by decide +kernel⟩
def f_J5_checkInvariants_62 (a0 : Nat) (G : Wd) (Q : Wd → Prop) : Prop :=
  False
theorem w_J5_checkInvariants_62 {a0 : Nat} {Q : Wd → Prop} {G : Wd} (h : f_J5_checkInvariants_62 a0 G Q) : wp m_J5_checkInvariants 1 0 0 62 [none] [] G (qV Q) noX := by
  unfold f_J5_checkInvariants_62 at h
  exact h.elim
def f_J5_checkInvariants_70 (a0 : Nat) (G : Wd) (Q : Wd → Prop) : Prop :=
  br0 1 (¬ (1 : Int) = 0) (Q G) (gI G a0 [14] 1 (fun x19 => gR G a0 [14] 0 (fun x20 => nn x20 (fun a21 => lnJ G a21 (fun x22 => br x19 x22 (x19 = x22) (Q G) (gR G a0 [14] 0 (fun x23 => gI G a0 [14] 1 (fun x24 => nn x23 (fun a25 => ldJ G a25 x24 (fun x26 => ((R64 x26 ∧ R64 0) ∧ br0 (sg x26 0) ((sg x26 0) = 0) (Q G) (False))))))))))))
theorem w_J5_checkInvariants_70 {a0 : Nat} {Q : Wd → Prop} {G : Wd} (h : f_J5_checkInvariants_70 a0 G Q) : wp m_J5_checkInvariants 1 0 0 70 [some (vR (some a0))] [] G (qV Q) noX := by
  unfold f_J5_checkInvariants_70 at h
  refine r_getsI (x := 1) dJ5_checkInvariants_70 q1334 q1335 q100 st_BA rfl ?_
  refine r_if_ne (tgt := 110) dJ5_checkInvariants_73 (by decide) h (fun h => ?_) (fun h => ?_)
  · exact r_vret rfl dJ5_checkInvariants_110 ⟨rfl, h⟩
  · refine r_aload_n dJ5_checkInvariants_76 rfl rfl iR ?_
    refine r_getI dJ5_checkInvariants_77 (fg1 (f := 1) fJ5 (by decide) q542 rfl) h (fun x19 h => ?_)
    refine r_aload_n dJ5_checkInvariants_80 rfl rfl iR ?_
    refine r_getR dJ5_checkInvariants_81 (fg1 (f := 0) fJ5 (by decide) q541 rfl) h (fun x20 h => ?_)
    obtain ⟨a21, e, h⟩ := h
    refine wp.cast (L' := [some (vR (some a0))]) (st' := [vR (some a21), vI x19]) rfl (by rw [e]) ?_
    refine r_lenJ dJ5_checkInvariants_84 h (fun x22 h => ?_)
    refine r_icmp_eq (tgt := 110) dJ5_checkInvariants_85 (by decide) h (fun h => ?_) (fun h => ?_)
    · exact r_vret rfl dJ5_checkInvariants_110 ⟨rfl, h⟩
    · refine r_aload_n dJ5_checkInvariants_88 rfl rfl iR ?_
      refine r_getR dJ5_checkInvariants_89 (fg1 (f := 0) fJ5 (by decide) q541 rfl) h (fun x23 h => ?_)
      refine r_aload_n dJ5_checkInvariants_92 rfl rfl iR ?_
      refine r_getI dJ5_checkInvariants_93 (fg1 (f := 1) fJ5 (by decide) q542 rfl) h (fun x24 h => ?_)
      obtain ⟨a25, e, h⟩ := h
      refine wp.cast (L' := [some (vR (some a0))]) (st' := [vI x24, vR (some a25)]) rfl (by rw [e]) ?_
      refine r_lald dJ5_checkInvariants_96 h (fun x26 h => ?_)
      refine r_lconst (y := 0) dJ5_checkInvariants_97 (by decide) ?_
      refine r_lcmp dJ5_checkInvariants_98 h (fun h => ?_)
      refine r_if_eq (tgt := 110) dJ5_checkInvariants_99 (by decide) h (fun h => ?_) (fun h => ?_)
      · exact r_vret rfl dJ5_checkInvariants_110 ⟨rfl, h⟩
      · exact h.elim
def f_J5_checkInvariants_37 (a0 : Nat) (G : Wd) (Q : Wd → Prop) : Prop :=
  br0 1 (¬ (1 : Int) = 0) (f_J5_checkInvariants_70 a0 G Q) (gI G a0 [14] 1 (fun x27 => br0 x27 (x27 < 0) (f_J5_checkInvariants_62 a0 G Q) (gI G a0 [14] 1 (fun x28 => gR G a0 [14] 0 (fun x29 => nn x29 (fun a30 => lnJ G a30 (fun x31 => br x28 x31 (x28 ≤ x31) (f_J5_checkInvariants_70 a0 G Q) (f_J5_checkInvariants_62 a0 G Q))))))))
theorem w_J5_checkInvariants_37 {a0 : Nat} {Q : Wd → Prop} {G : Wd} (h : f_J5_checkInvariants_37 a0 G Q) : wp m_J5_checkInvariants 1 0 0 37 [some (vR (some a0))] [] G (qV Q) noX := by
  unfold f_J5_checkInvariants_37 at h
  refine r_getsI (x := 1) dJ5_checkInvariants_37 q1334 q1335 q100 st_BA rfl ?_
  refine r_if_ne (tgt := 70) dJ5_checkInvariants_40 (by decide) h (fun h => ?_) (fun h => ?_)
  · exact w_J5_checkInvariants_70 h
  · refine r_aload_n dJ5_checkInvariants_43 rfl rfl iR ?_
    refine r_getI dJ5_checkInvariants_44 (fg1 (f := 1) fJ5 (by decide) q542 rfl) h (fun x27 h => ?_)
    refine r_if_lt (tgt := 62) dJ5_checkInvariants_47 (by decide) h (fun h => ?_) (fun h => ?_)
    · refine wp.locals (L' := [none]) (ls_n ls_0) ?_
      exact w_J5_checkInvariants_62 h
    · refine r_aload_n dJ5_checkInvariants_50 rfl rfl iR ?_
      refine r_getI dJ5_checkInvariants_51 (fg1 (f := 1) fJ5 (by decide) q542 rfl) h (fun x28 h => ?_)
      refine r_aload_n dJ5_checkInvariants_54 rfl rfl iR ?_
      refine r_getR dJ5_checkInvariants_55 (fg1 (f := 0) fJ5 (by decide) q541 rfl) h (fun x29 h => ?_)
      obtain ⟨a30, e, h⟩ := h
      refine wp.cast (L' := [some (vR (some a0))]) (st' := [vR (some a30), vI x28]) rfl (by rw [e]) ?_
      refine r_lenJ dJ5_checkInvariants_58 h (fun x31 h => ?_)
      refine r_icmp_le (tgt := 70) dJ5_checkInvariants_59 (by decide) h (fun h => ?_) (fun h => ?_)
      · exact w_J5_checkInvariants_70 h
      · refine wp.locals (L' := [none]) (ls_n ls_0) ?_
        exact w_J5_checkInvariants_62 h
def f_J5_checkInvariants (a0 : Nat) (G : Wd) (Q : Wd → Prop) : Prop :=
  br0 1 (¬ (1 : Int) = 0) (f_J5_checkInvariants_37 a0 G Q) (gI G a0 [14] 1 (fun x32 => br0 x32 (x32 = 0) (f_J5_checkInvariants_37 a0 G Q) (gR G a0 [14] 0 (fun x33 => gI G a0 [14] 1 (fun x34 => nn x33 (fun a35 => ldJ G a35 (x34 - 1) (fun x36 => ((R64 x36 ∧ R64 0) ∧ br0 (sg x36 0) (¬ (sg x36 0) = 0) (f_J5_checkInvariants_37 a0 G Q) (False)))))))))
theorem w_J5_checkInvariants {a0 : Nat} {Q : Wd → Prop} {G : Wd} (h : f_J5_checkInvariants a0 G Q) : wp m_J5_checkInvariants 1 0 0 0 [some (vR (some a0))] [] G (qV Q) noX := by
  unfold f_J5_checkInvariants at h
  refine r_getsI (x := 1) dJ5_checkInvariants_0 q1334 q1335 q100 st_BA rfl ?_
  refine r_if_ne (tgt := 37) dJ5_checkInvariants_3 (by decide) h (fun h => ?_) (fun h => ?_)
  · exact w_J5_checkInvariants_37 h
  · refine r_aload_n dJ5_checkInvariants_6 rfl rfl iR ?_
    refine r_getI dJ5_checkInvariants_7 (fg1 (f := 1) fJ5 (by decide) q542 rfl) h (fun x32 h => ?_)
    refine r_if_eq (tgt := 37) dJ5_checkInvariants_10 (by decide) h (fun h => ?_) (fun h => ?_)
    · exact w_J5_checkInvariants_37 h
    · refine r_aload_n dJ5_checkInvariants_13 rfl rfl iR ?_
      refine r_getR dJ5_checkInvariants_14 (fg1 (f := 0) fJ5 (by decide) q541 rfl) h (fun x33 h => ?_)
      refine r_aload_n dJ5_checkInvariants_17 rfl rfl iR ?_
      refine r_getI dJ5_checkInvariants_18 (fg1 (f := 1) fJ5 (by decide) q542 rfl) h (fun x34 h => ?_)
      refine r_iconst dJ5_checkInvariants_21 ?_
      refine r_isub dJ5_checkInvariants_22 ?_
      obtain ⟨a35, e, h⟩ := h
      refine wp.cast (L' := [some (vR (some a0))]) (st' := [vI (x34 - 1), vR (some a35)]) rfl (by rw [e]) ?_
      refine r_lald dJ5_checkInvariants_23 h (fun x36 h => ?_)
      refine r_lconst (y := 0) dJ5_checkInvariants_24 (by decide) ?_
      refine r_lcmp dJ5_checkInvariants_25 h (fun h => ?_)
      refine r_if_ne (tgt := 37) dJ5_checkInvariants_26 (by decide) h (fun h => ?_) (fun h => ?_)
      · exact w_J5_checkInvariants_37 h
      · exact h.elim
theorem c_J5_checkInvariants {a0 : Nat} {Q : Wd → Prop} {G : Wd} (h : f_J5_checkInvariants a0 G Q) : call yJ5_checkInvariants (Cond.code yJ5_checkInvariants cJ5_checkInvariants 1 (none)) 1 0 0 [vR (some a0)] G (qV Q) noX :=
  call.enter (by decide +kernel) (la_1 c1R (la_nil rfl)) rfl (w_J5_checkInvariants h)
abbrev m_J5_expandTo : Mt := (yJ5_expandTo.cls, cJ5_expandTo, 3, none, [], yJ5_expandTo.name)
theorem yo_J5_expandTo : yOK yJ5_expandTo 1 := ⟨by decide +kernel, by decide +kernel, by decide +kernel⟩
def f_J5_expandTo (a0 : Nat) (a1 : Int) (G : Wd) (Q : Wd → Prop) : Prop :=
  gI G a0 [14] 1 (fun x4 => br x4 (a1 + 1) ((a1 + 1) ≤ x4) (Q G) ((isC G a0 14 ∧ f_J5_ensureCapacity a0 (a1 + 1) G (fun G5 => pF G5 a0 [14] 1 (vI (a1 + 1)) (fun G6 => Q G6)))))
theorem w_J5_expandTo {a0 : Nat} {Q : Wd → Prop} {a1 : Int} {G : Wd} (h : f_J5_expandTo a0 a1 G Q) : wp m_J5_expandTo 2 0 0 0 [some (vR (some a0)), some (vI a1), none] [] G (qV Q) noX := by
  unfold f_J5_expandTo at h
  refine r_iload_n dJ5_expandTo_0 rfl rfl iI ?_
  refine r_iconst dJ5_expandTo_1 ?_
  refine r_iadd dJ5_expandTo_2 ?_
  refine r_istore_n (L' := [some (vR (some a0)), some (vI a1), some (vI (a1 + 1))]) dJ5_expandTo_3 rfl rfl iI cI (by decide) ?_
  refine r_aload_n dJ5_expandTo_4 rfl rfl iR ?_
  refine r_getI dJ5_expandTo_5 (fg1 (f := 1) fJ5 (by decide) q542 rfl) h (fun x4 h => ?_)
  refine r_iload_n dJ5_expandTo_8 rfl rfl iI ?_
  refine r_icmp_ge (tgt := 22) dJ5_expandTo_9 (by decide) h (fun h => ?_) (fun h => ?_)
  · exact r_vret rfl dJ5_expandTo_22 ⟨rfl, h⟩
  · refine r_aload_n dJ5_expandTo_12 rfl rfl iR ?_
    refine r_iload_n dJ5_expandTo_13 rfl rfl iI ?_
    obtain ⟨hC, h⟩ := h
    refine r_callV dJ5_expandTo_14 hC (c_J5_ensureCapacity h) q1316 q1318 qs13 q100 q1319 rfl yo_J5_ensureCapacity rfl (by decide) (by decide) rfl rc0 (by decide) (Nat.zero_le _) (Nat.zero_le _) (ofV fun G5 h => ?_) nox
    refine r_aload_n dJ5_expandTo_17 rfl rfl iR ?_
    refine r_iload_n dJ5_expandTo_18 rfl rfl iI ?_
    refine r_put dJ5_expandTo_19 (fp1 (f := 1) fJ5 (by decide) q542 rfl rfl rfl) fvI h (fun G6 h => ?_)
    exact r_vret rfl dJ5_expandTo_22 ⟨rfl, h⟩
theorem c_J5_expandTo {a0 : Nat} {a1 : Int} {Q : Wd → Prop} {G : Wd} (h : f_J5_expandTo a0 a1 G Q) : call yJ5_expandTo (Cond.code yJ5_expandTo cJ5_expandTo 3 (none)) 2 0 0 [vR (some a0), vI a1] G (qV Q) noX :=
  call.enter (by decide +kernel) (la_1 c1R (la_1 c1I (la_nil rfl))) rfl (w_J5_expandTo h)
abbrev m_J5_recalculateWordsInUse : Mt := (yJ5_recalculateWordsInUse.cls, cJ5_recalculateWordsInUse, 2, none, [], yJ5_recalculateWordsInUse.name)
theorem yo_J5_recalculateWordsInUse : yOK yJ5_recalculateWordsInUse 0 := ⟨by decide +kernel, by decide +kernel, by decide +kernel⟩
def f_J5_recalculateWordsInUse_31 (a0 : Nat) (l1 : Int) (G : Wd) (Q : Wd → Prop) : Prop :=
  pF G a0 [14] 1 (vI (l1 + 1)) (fun G6 => Q G6)
theorem w_J5_recalculateWordsInUse_31 {a0 : Nat} {Q : Wd → Prop} {l1 : Int} {G : Wd} (h : f_J5_recalculateWordsInUse_31 a0 l1 G Q) : wp m_J5_recalculateWordsInUse 1 0 0 31 [some (vR (some a0)), some (vI l1)] [] G (qV Q) noX := by
  unfold f_J5_recalculateWordsInUse_31 at h
  refine r_aload_n dJ5_recalculateWordsInUse_31 rfl rfl iR ?_
  refine r_iload_n dJ5_recalculateWordsInUse_32 rfl rfl iI ?_
  refine r_iconst dJ5_recalculateWordsInUse_33 ?_
  refine r_iadd dJ5_recalculateWordsInUse_34 ?_
  refine r_put dJ5_recalculateWordsInUse_35 (fp1 (f := 1) fJ5 (by decide) q542 rfl rfl rfl) fvI h (fun G6 h => ?_)
  exact r_vret rfl dJ5_recalculateWordsInUse_38 ⟨rfl, h⟩
def f_J5_recalculateWordsInUse_7_b (a0 : Nat) (k7 : Int → Wd → Prop) (l1 : Int) (G : Wd) (Q : Wd → Prop) : Prop :=
  br0 l1 (l1 < 0) (f_J5_recalculateWordsInUse_31 a0 l1 G Q) (gR G a0 [14] 0 (fun x7 => nn x7 (fun a8 => ldJ G a8 l1 (fun x9 => ((R64 x9 ∧ R64 0) ∧ br0 (sg x9 0) ((sg x9 0) = 0) (k7 (l1 + (-1)) G) (f_J5_recalculateWordsInUse_31 a0 l1 G Q))))))
theorem w_J5_recalculateWordsInUse_7_b {a0 : Nat} {Q : Wd → Prop} {k7 : Int → Wd → Prop} (hk7 : ∀ {l1 : Int} {G : Wd}, k7 l1 G → wp m_J5_recalculateWordsInUse 1 0 0 7 [some (vR (some a0)), some (vI l1)] [] G (qV Q) noX) {l1 : Int} {G : Wd} (h : f_J5_recalculateWordsInUse_7_b a0 k7 l1 G Q) : wp m_J5_recalculateWordsInUse 1 0 0 7 [some (vR (some a0)), some (vI l1)] [] G (qV Q) noX := by
  unfold f_J5_recalculateWordsInUse_7_b at h
  refine r_iload_n dJ5_recalculateWordsInUse_7 rfl rfl iI ?_
  refine r_if_lt (tgt := 31) dJ5_recalculateWordsInUse_8 (by decide) h (fun h => ?_) (fun h => ?_)
  · exact w_J5_recalculateWordsInUse_31 h
  · refine r_aload_n dJ5_recalculateWordsInUse_11 rfl rfl iR ?_
    refine r_getR dJ5_recalculateWordsInUse_12 (fg1 (f := 0) fJ5 (by decide) q541 rfl) h (fun x7 h => ?_)
    refine r_iload_n dJ5_recalculateWordsInUse_15 rfl rfl iI ?_
    obtain ⟨a8, e, h⟩ := h
    refine wp.cast (L' := [some (vR (some a0)), some (vI l1)]) (st' := [vI l1, vR (some a8)]) rfl (by rw [e]) ?_
    refine r_lald dJ5_recalculateWordsInUse_16 h (fun x9 h => ?_)
    refine r_lconst (y := 0) dJ5_recalculateWordsInUse_17 (by decide) ?_
    refine r_lcmp dJ5_recalculateWordsInUse_18 h (fun h => ?_)
    refine r_if_eq (tgt := 25) dJ5_recalculateWordsInUse_19 (by decide) h (fun h => ?_) (fun h => ?_)
    · refine r_iinc (L' := [some (vR (some a0)), some (vI (l1 + (-1)))]) dJ5_recalculateWordsInUse_25 rfl rfl cR (by decide) ?_
      refine r_goto (tgt := 7) dJ5_recalculateWordsInUse_28 (by decide) ?_
      exact hk7 h
    · refine r_goto (tgt := 31) dJ5_recalculateWordsInUse_22 (by decide) ?_
      exact w_J5_recalculateWordsInUse_31 h
def f_J5_recalculateWordsInUse_7 (a0 : Nat) (Q : Wd → Prop) : Nat → Int → Wd → Prop
  | 0, _, _ => False
  | fl + 1, l1, G => f_J5_recalculateWordsInUse_7_b a0  (fun l1 G => f_J5_recalculateWordsInUse_7 a0  Q fl l1 G) l1 G Q
theorem w_J5_recalculateWordsInUse_7 {a0 : Nat} {Q : Wd → Prop} : ∀ (fl : Nat) {l1 : Int} {G : Wd}, f_J5_recalculateWordsInUse_7 a0 Q fl l1 G → wp m_J5_recalculateWordsInUse 1 0 0 7 [some (vR (some a0)), some (vI l1)] [] G (qV Q) noX := by
  intro fl
  induction fl with
  | zero => intro l1 G h; exact (show False from h).elim
  | succ fl ih => intro l1 G h; exact w_J5_recalculateWordsInUse_7_b  (fun h => ih h) h
def f_J5_recalculateWordsInUse (a0 : Nat) (G : Wd) (Q : Wd → Prop) : Prop :=
  gI G a0 [14] 1 (fun x10 => ∃ fl11, f_J5_recalculateWordsInUse_7 a0 Q fl11 (x10 - 1) G)
theorem w_J5_recalculateWordsInUse {a0 : Nat} {Q : Wd → Prop} {G : Wd} (h : f_J5_recalculateWordsInUse a0 G Q) : wp m_J5_recalculateWordsInUse 1 0 0 0 [some (vR (some a0)), none] [] G (qV Q) noX := by
  unfold f_J5_recalculateWordsInUse at h
  refine r_aload_n dJ5_recalculateWordsInUse_0 rfl rfl iR ?_
  refine r_getI dJ5_recalculateWordsInUse_1 (fg1 (f := 1) fJ5 (by decide) q542 rfl) h (fun x10 h => ?_)
  refine r_iconst dJ5_recalculateWordsInUse_4 ?_
  refine r_isub dJ5_recalculateWordsInUse_5 ?_
  refine r_istore_n (L' := [some (vR (some a0)), some (vI (x10 - 1))]) dJ5_recalculateWordsInUse_6 rfl rfl iI cR (by decide) ?_
  obtain ⟨fl11, h⟩ := h
  exact w_J5_recalculateWordsInUse_7 fl11 h
theorem c_J5_recalculateWordsInUse {a0 : Nat} {Q : Wd → Prop} {G : Wd} (h : f_J5_recalculateWordsInUse a0 G Q) : call yJ5_recalculateWordsInUse (Cond.code yJ5_recalculateWordsInUse cJ5_recalculateWordsInUse 2 (none)) 1 0 0 [vR (some a0)] G (qV Q) noX :=
  call.enter (by decide +kernel) (la_1 c1R (la_nil rfl)) rfl (w_J5_recalculateWordsInUse h)
abbrev m_J5_get : Mt := (yJ5_get.cls, cJ5_get, 3, some .boolean, [], yJ5_get.name)
theorem yo_J5_get : yOK yJ5_get 1 := ⟨by decide +kernel, by decide +kernel, by decide +kernel⟩
def f_J5_get_67 (a0 : Nat) (G : Wd) (Q : Bool → Wd → Prop) : Prop :=
  Q false G
theorem w_J5_get_67 {a0 : Nat} {Q : Bool → Wd → Prop} {G : Wd} (h : f_J5_get_67 a0 G Q) : wp m_J5_get 2 0 0 67 [none, none, none] [] G (qB Q) noX := by
  unfold f_J5_get_67 at h
  refine r_iconst dJ5_get_67 ?_
  refine wp.cast (st' := [vB false]) rfl (congrArg (fun q => [q]) vI0) ?_
  exact r_zret rfl dJ5_get_68 ⟨_, rfl, h⟩
def f_J5_get (a0 : Nat) (a1 : Int) (G : Wd) (Q : Bool → Wd → Prop) : Prop :=
  br0 a1 (0 ≤ a1) ((isC G a0 14 ∧ f_J5_checkInvariants a0  G (fun G8 => f_J5_wordIndex a1 G8 (fun x10 G9 => gI G9 a0 [14] 1 (fun x11 => br x10 x11 (x11 ≤ x10) (f_J5_get_67 a0 G9 Q) (gR G9 a0 [14] 0 (fun x12 => nn x12 (fun a13 => ldJ G9 a13 x10 (fun x14 => ((R64 (jand x14 (jshl 1 a1)) ∧ R64 0) ∧ br0 (sg (jand x14 (jshl 1 a1)) 0) ((sg (jand x14 (jshl 1 a1)) 0) = 0) (f_J5_get_67 a0 G9 Q) (Q true G9))))))))))) (False)
theorem w_J5_get {a0 : Nat} {Q : Bool → Wd → Prop} {a1 : Int} {G : Wd} (h : f_J5_get a0 a1 G Q) : wp m_J5_get 2 0 0 0 [some (vR (some a0)), some (vI a1), none] [] G (qB Q) noX := by
  unfold f_J5_get at h
  refine r_iload_n dJ5_get_0 rfl rfl iI ?_
  refine r_if_ge (tgt := 31) dJ5_get_1 (by decide) h (fun h => ?_) (fun h => ?_)
  · refine r_aload_n dJ5_get_31 rfl rfl iR ?_
    obtain ⟨hC, h⟩ := h
    refine r_callV dJ5_get_32 hC (c_J5_checkInvariants h) q1330 q1332 qs14 q100 q1333 rfl yo_J5_checkInvariants rfl (by decide) (by decide) rfl rc0 (by decide) (Nat.zero_le _) (Nat.zero_le _) (ofV fun G8 h => ?_) nox
    refine r_iload_n dJ5_get_35 rfl rfl iI ?_
    refine r_callS dJ5_get_36 (c_J5_wordIndex h) q538 q539 q100 q540 yo_J5_wordIndex rfl (by decide) (by decide) rfl rc0 (by decide) (Nat.zero_le _) (Nat.zero_le _) (ofI fun x10 G9 h => ?_) nox
    refine r_istore_n (L' := [some (vR (some a0)), some (vI a1), some (vI x10)]) dJ5_get_39 rfl rfl iI cI (by decide) ?_
    refine r_iload_n dJ5_get_40 rfl rfl iI ?_
    refine r_aload_n dJ5_get_41 rfl rfl iR ?_
    refine r_getI dJ5_get_42 (fg1 (f := 1) fJ5 (by decide) q542 rfl) h (fun x11 h => ?_)
    refine r_icmp_ge (tgt := 67) dJ5_get_45 (by decide) h (fun h => ?_) (fun h => ?_)
    · refine wp.locals (L' := [none, none, none]) (ls_n (ls_n (ls_n ls_0))) ?_
      exact w_J5_get_67 h
    · refine r_aload_n dJ5_get_48 rfl rfl iR ?_
      refine r_getR dJ5_get_49 (fg1 (f := 0) fJ5 (by decide) q541 rfl) h (fun x12 h => ?_)
      refine r_iload_n dJ5_get_52 rfl rfl iI ?_
      obtain ⟨a13, e, h⟩ := h
      refine wp.cast (L' := [some (vR (some a0)), some (vI a1), some (vI x10)]) (st' := [vI x10, vR (some a13)]) rfl (by rw [e]) ?_
      refine r_lald dJ5_get_53 h (fun x14 h => ?_)
      refine r_lconst (y := 1) dJ5_get_54 (by decide) ?_
      refine r_iload_n dJ5_get_55 rfl rfl iI ?_
      refine r_lshl dJ5_get_56 ?_
      refine r_land dJ5_get_57 ?_
      refine r_lconst (y := 0) dJ5_get_58 (by decide) ?_
      refine r_lcmp dJ5_get_59 h (fun h => ?_)
      refine r_if_eq (tgt := 67) dJ5_get_60 (by decide) h (fun h => ?_) (fun h => ?_)
      · refine wp.locals (L' := [none, none, none]) (ls_n (ls_n (ls_n ls_0))) ?_
        exact w_J5_get_67 h
      · refine r_iconst dJ5_get_63 ?_
        refine r_goto (tgt := 68) dJ5_get_64 (by decide) ?_
        refine wp.cast (st' := [vB true]) rfl (congrArg (fun q => [q]) vI1) ?_
        exact r_zret rfl dJ5_get_68 ⟨_, rfl, h⟩
  · exact h.elim
theorem c_J5_get {a0 : Nat} {a1 : Int} {Q : Bool → Wd → Prop} {G : Wd} (h : f_J5_get a0 a1 G Q) : call yJ5_get (Cond.code yJ5_get cJ5_get 3 (some .boolean)) 2 0 0 [vR (some a0), vI a1] G (qB Q) noX :=
  call.enter (by decide +kernel) (la_1 c1R (la_1 c1I (la_nil rfl))) rfl (w_J5_get h)
abbrev m_J16_fill : Mt := (yJ16_fill.cls, cJ16_fill, 4, none, [], yJ16_fill.name)
theorem yo_J16_fill : yOK yJ16_fill 2 := ⟨by decide +kernel, by decide +kernel, by decide +kernel⟩
def f_J16_fill_5_b (k5 : Option Nat → Int → Int → Int → Wd → Prop) (l0 : Option Nat) (l1 : Int) (l2 : Int) (l3 : Int) (G : Wd) (Q : Wd → Prop) : Prop :=
  br l2 l3 (l3 ≤ l2) (Q G) (nn l0 (fun a7 => (stI G a7 0 l2 l1 (fun G8 => k5 (some a7) l1 (l2 + 1) l3 G8))))
theorem w_J16_fill_5_b {Q : Wd → Prop} {k5 : Option Nat → Int → Int → Int → Wd → Prop} (hk5 : ∀ {l0 : Option Nat} {l1 : Int} {l2 : Int} {l3 : Int} {G : Wd}, k5 l0 l1 l2 l3 G → wp m_J16_fill 1 0 0 5 [some (vR l0), some (vI l1), some (vI l2), some (vI l3)] [] G (qV Q) noX) {l0 : Option Nat} {l1 : Int} {l2 : Int} {l3 : Int} {G : Wd} (h : f_J16_fill_5_b k5 l0 l1 l2 l3 G Q) : wp m_J16_fill 1 0 0 5 [some (vR l0), some (vI l1), some (vI l2), some (vI l3)] [] G (qV Q) noX := by
  unfold f_J16_fill_5_b at h
  refine r_iload_n dJ16_fill_5 rfl rfl iI ?_
  refine r_iload_n dJ16_fill_6 rfl rfl iI ?_
  refine r_icmp_ge (tgt := 20) dJ16_fill_7 (by decide) h (fun h => ?_) (fun h => ?_)
  · exact r_vret rfl dJ16_fill_20 ⟨rfl, h⟩
  · refine r_aload_n dJ16_fill_10 rfl rfl iR ?_
    refine r_iload_n dJ16_fill_11 rfl rfl iI ?_
    refine r_iload_n dJ16_fill_12 rfl rfl iI ?_
    obtain ⟨a7, e, h⟩ := h
    refine wp.cast (L' := [some (vR (some a7)), some (vI l1), some (vI l2), some (vI l3)]) (st' := [vI l1, vI l2, vR (some a7)]) (by rw [e]) (by rw [e]) ?_
    refine r_iast dJ16_fill_13 h (fun G8 h => ?_)
    refine r_iinc (L' := [some (vR (some a7)), some (vI l1), some (vI (l2 + 1)), some (vI l3)]) dJ16_fill_14 rfl rfl cI (by decide) ?_
    refine r_goto (tgt := 5) dJ16_fill_17 (by decide) ?_
    exact hk5 h
def f_J16_fill_5 (Q : Wd → Prop) : Nat → Option Nat → Int → Int → Int → Wd → Prop
  | 0, _, _, _, _, _ => False
  | fl + 1, l0, l1, l2, l3, G => f_J16_fill_5_b  (fun l0 l1 l2 l3 G => f_J16_fill_5  Q fl l0 l1 l2 l3 G) l0 l1 l2 l3 G Q
theorem w_J16_fill_5 {Q : Wd → Prop} : ∀ (fl : Nat) {l0 : Option Nat} {l1 : Int} {l2 : Int} {l3 : Int} {G : Wd}, f_J16_fill_5 Q fl l0 l1 l2 l3 G → wp m_J16_fill 1 0 0 5 [some (vR l0), some (vI l1), some (vI l2), some (vI l3)] [] G (qV Q) noX := by
  intro fl
  induction fl with
  | zero => intro l0 l1 l2 l3 G h; exact (show False from h).elim
  | succ fl ih => intro l0 l1 l2 l3 G h; exact w_J16_fill_5_b  (fun h => ih h) h
def f_J16_fill (a0 : Option Nat) (a1 : Int) (G : Wd) (Q : Wd → Prop) : Prop :=
  nn a0 (fun a9 => lnI G a9 0 (fun x10 => ∃ fl11, f_J16_fill_5 Q fl11 (some a9) a1 0 x10 G))
theorem w_J16_fill {Q : Wd → Prop} {a0 : Option Nat} {a1 : Int} {G : Wd} (h : f_J16_fill a0 a1 G Q) : wp m_J16_fill 1 0 0 0 [some (vR a0), some (vI a1), none, none] [] G (qV Q) noX := by
  unfold f_J16_fill at h
  refine r_iconst dJ16_fill_0 ?_
  refine r_istore_n (L' := [some (vR a0), some (vI a1), some (vI 0), none]) dJ16_fill_1 rfl rfl iI cI (by decide) ?_
  refine r_aload_n dJ16_fill_2 rfl rfl iR ?_
  obtain ⟨a9, e, h⟩ := h
  refine wp.cast (L' := [some (vR (some a9)), some (vI a1), some (vI 0), none]) (st' := [vR (some a9)]) (by rw [e]) (by rw [e]) ?_
  refine r_lenI (kd := 0) (by decide) dJ16_fill_3 h (fun x10 h => ?_)
  refine r_istore_n (L' := [some (vR (some a9)), some (vI a1), some (vI 0), some (vI x10)]) dJ16_fill_4 rfl rfl iI cI (by decide) ?_
  obtain ⟨fl11, h⟩ := h
  exact w_J16_fill_5 fl11 h
theorem c_J16_fill {a0 : Option Nat} {a1 : Int} {Q : Wd → Prop} {G : Wd} (h : f_J16_fill a0 a1 G Q) : call yJ16_fill (Cond.code yJ16_fill cJ16_fill 4 (none)) 1 0 0 [vR a0, vI a1] G (qV Q) noX :=
  call.enter (by decide +kernel) (la_1 c1R (la_1 c1I (la_nil rfl))) rfl (w_J16_fill h)
abbrev m_J16_fill_2 : Mt := (yJ16_fill_2.cls, cJ16_fill_2, 4, none, [], yJ16_fill_2.name)
theorem yo_J16_fill_2 : yOK yJ16_fill_2 2 := ⟨by decide +kernel, by decide +kernel, by decide +kernel⟩
def f_J16_fill_2_5_b (k5 : Option Nat → Option Nat → Int → Int → Wd → Prop) (l0 : Option Nat) (l1 : Option Nat) (l2 : Int) (l3 : Int) (G : Wd) (Q : Wd → Prop) : Prop :=
  br l2 l3 (l3 ≤ l2) (Q G) (nn l0 (fun a7 => stR G a7 9 l2 l1 [7, 10] (fun G8 => k5 (some a7) l1 (l2 + 1) l3 G8)))
theorem w_J16_fill_2_5_b {Q : Wd → Prop} {k5 : Option Nat → Option Nat → Int → Int → Wd → Prop} (hk5 : ∀ {l0 : Option Nat} {l1 : Option Nat} {l2 : Int} {l3 : Int} {G : Wd}, k5 l0 l1 l2 l3 G → wp m_J16_fill_2 1 0 0 5 [some (vR l0), some (vR l1), some (vI l2), some (vI l3)] [] G (qV Q) noX) {l0 : Option Nat} {l1 : Option Nat} {l2 : Int} {l3 : Int} {G : Wd} (h : f_J16_fill_2_5_b k5 l0 l1 l2 l3 G Q) : wp m_J16_fill_2 1 0 0 5 [some (vR l0), some (vR l1), some (vI l2), some (vI l3)] [] G (qV Q) noX := by
  unfold f_J16_fill_2_5_b at h
  refine r_iload_n dJ16_fill_2_5 rfl rfl iI ?_
  refine r_iload_n dJ16_fill_2_6 rfl rfl iI ?_
  refine r_icmp_ge (tgt := 20) dJ16_fill_2_7 (by decide) h (fun h => ?_) (fun h => ?_)
  · exact r_vret rfl dJ16_fill_2_20 ⟨rfl, h⟩
  · refine r_aload_n dJ16_fill_2_10 rfl rfl iR ?_
    refine r_iload_n dJ16_fill_2_11 rfl rfl iI ?_
    refine r_aload_n dJ16_fill_2_12 rfl rfl iR ?_
    obtain ⟨a7, e, h⟩ := h
    refine wp.cast (L' := [some (vR (some a7)), some (vR l1), some (vI l2), some (vI l3)]) (st' := [vR l1, vI l2, vR (some a7)]) (by rw [e]) (by rw [e]) ?_
    refine r_aast dJ16_fill_2_13 kd9 h (fun G8 h => ?_)
    refine r_iinc (L' := [some (vR (some a7)), some (vR l1), some (vI (l2 + 1)), some (vI l3)]) dJ16_fill_2_14 rfl rfl cR (by decide) ?_
    refine r_goto (tgt := 5) dJ16_fill_2_17 (by decide) ?_
    exact hk5 h
def f_J16_fill_2_5 (Q : Wd → Prop) : Nat → Option Nat → Option Nat → Int → Int → Wd → Prop
  | 0, _, _, _, _, _ => False
  | fl + 1, l0, l1, l2, l3, G => f_J16_fill_2_5_b  (fun l0 l1 l2 l3 G => f_J16_fill_2_5  Q fl l0 l1 l2 l3 G) l0 l1 l2 l3 G Q
theorem w_J16_fill_2_5 {Q : Wd → Prop} : ∀ (fl : Nat) {l0 : Option Nat} {l1 : Option Nat} {l2 : Int} {l3 : Int} {G : Wd}, f_J16_fill_2_5 Q fl l0 l1 l2 l3 G → wp m_J16_fill_2 1 0 0 5 [some (vR l0), some (vR l1), some (vI l2), some (vI l3)] [] G (qV Q) noX := by
  intro fl
  induction fl with
  | zero => intro l0 l1 l2 l3 G h; exact (show False from h).elim
  | succ fl ih => intro l0 l1 l2 l3 G h; exact w_J16_fill_2_5_b  (fun h => ih h) h
def f_J16_fill_2 (a0 : Option Nat) (a1 : Option Nat) (G : Wd) (Q : Wd → Prop) : Prop :=
  nn a0 (fun a9 => lnR G a9 9 (fun x10 => ∃ fl11, f_J16_fill_2_5 Q fl11 (some a9) a1 0 x10 G))
theorem w_J16_fill_2 {Q : Wd → Prop} {a0 : Option Nat} {a1 : Option Nat} {G : Wd} (h : f_J16_fill_2 a0 a1 G Q) : wp m_J16_fill_2 1 0 0 0 [some (vR a0), some (vR a1), none, none] [] G (qV Q) noX := by
  unfold f_J16_fill_2 at h
  refine r_iconst dJ16_fill_2_0 ?_
  refine r_istore_n (L' := [some (vR a0), some (vR a1), some (vI 0), none]) dJ16_fill_2_1 rfl rfl iI cR (by decide) ?_
  refine r_aload_n dJ16_fill_2_2 rfl rfl iR ?_
  obtain ⟨a9, e, h⟩ := h
  refine wp.cast (L' := [some (vR (some a9)), some (vR a1), some (vI 0), none]) (st' := [vR (some a9)]) (by rw [e]) (by rw [e]) ?_
  refine r_lenR (kd := 9) (by decide) dJ16_fill_2_3 h (fun x10 h => ?_)
  refine r_istore_n (L' := [some (vR (some a9)), some (vR a1), some (vI 0), some (vI x10)]) dJ16_fill_2_4 rfl rfl iI cI (by decide) ?_
  obtain ⟨fl11, h⟩ := h
  exact w_J16_fill_2_5 fl11 h
theorem c_J16_fill_2 {a0 : Option Nat} {a1 : Option Nat} {Q : Wd → Prop} {G : Wd} (h : f_J16_fill_2 a0 a1 G Q) : call yJ16_fill_2 (Cond.code yJ16_fill_2 cJ16_fill_2 4 (none)) 1 0 0 [vR a0, vR a1] G (qV Q) noX :=
  call.enter (by decide +kernel) (la_1 c1R (la_1 c1R (la_nil rfl))) rfl (w_J16_fill_2 h)
abbrev m_J22_bitCount : Mt := (yJ22_bitCount.cls, cJ22_bitCount, 2, some .int, [], yJ22_bitCount.name)
theorem yo_J22_bitCount : yOK yJ22_bitCount 1 := ⟨by decide +kernel, by decide +kernel, by decide +kernel⟩
def f_J22_bitCount (a0 : Int) (G : Wd) (Q : Int → Wd → Prop) : Prop :=
  Q (iand ((((jand (((jand (a0 - (jand (jushr a0 1) 6148914691236517205)) 3689348814741910323) + (jand (jushr (a0 - (jand (jushr a0 1) 6148914691236517205)) 2) 3689348814741910323)) + (jushr ((jand (a0 - (jand (jushr a0 1) 6148914691236517205)) 3689348814741910323) + (jand (jushr (a0 - (jand (jushr a0 1) 6148914691236517205)) 2) 3689348814741910323)) 4)) 1085102592571150095) + (jushr (jand (((jand (a0 - (jand (jushr a0 1) 6148914691236517205)) 3689348814741910323) + (jand (jushr (a0 - (jand (jushr a0 1) 6148914691236517205)) 2) 3689348814741910323)) + (jushr ((jand (a0 - (jand (jushr a0 1) 6148914691236517205)) 3689348814741910323) + (jand (jushr (a0 - (jand (jushr a0 1) 6148914691236517205)) 2) 3689348814741910323)) 4)) 1085102592571150095) 8)) + (jushr ((jand (((jand (a0 - (jand (jushr a0 1) 6148914691236517205)) 3689348814741910323) + (jand (jushr (a0 - (jand (jushr a0 1) 6148914691236517205)) 2) 3689348814741910323)) + (jushr ((jand (a0 - (jand (jushr a0 1) 6148914691236517205)) 3689348814741910323) + (jand (jushr (a0 - (jand (jushr a0 1) 6148914691236517205)) 2) 3689348814741910323)) 4)) 1085102592571150095) + (jushr (jand (((jand (a0 - (jand (jushr a0 1) 6148914691236517205)) 3689348814741910323) + (jand (jushr (a0 - (jand (jushr a0 1) 6148914691236517205)) 2) 3689348814741910323)) + (jushr ((jand (a0 - (jand (jushr a0 1) 6148914691236517205)) 3689348814741910323) + (jand (jushr (a0 - (jand (jushr a0 1) 6148914691236517205)) 2) 3689348814741910323)) 4)) 1085102592571150095) 8)) 16)) + (jushr (((jand (((jand (a0 - (jand (jushr a0 1) 6148914691236517205)) 3689348814741910323) + (jand (jushr (a0 - (jand (jushr a0 1) 6148914691236517205)) 2) 3689348814741910323)) + (jushr ((jand (a0 - (jand (jushr a0 1) 6148914691236517205)) 3689348814741910323) + (jand (jushr (a0 - (jand (jushr a0 1) 6148914691236517205)) 2) 3689348814741910323)) 4)) 1085102592571150095) + (jushr (jand (((jand (a0 - (jand (jushr a0 1) 6148914691236517205)) 3689348814741910323) + (jand (jushr (a0 - (jand (jushr a0 1) 6148914691236517205)) 2) 3689348814741910323)) + (jushr ((jand (a0 - (jand (jushr a0 1) 6148914691236517205)) 3689348814741910323) + (jand (jushr (a0 - (jand (jushr a0 1) 6148914691236517205)) 2) 3689348814741910323)) 4)) 1085102592571150095) 8)) + (jushr ((jand (((jand (a0 - (jand (jushr a0 1) 6148914691236517205)) 3689348814741910323) + (jand (jushr (a0 - (jand (jushr a0 1) 6148914691236517205)) 2) 3689348814741910323)) + (jushr ((jand (a0 - (jand (jushr a0 1) 6148914691236517205)) 3689348814741910323) + (jand (jushr (a0 - (jand (jushr a0 1) 6148914691236517205)) 2) 3689348814741910323)) 4)) 1085102592571150095) + (jushr (jand (((jand (a0 - (jand (jushr a0 1) 6148914691236517205)) 3689348814741910323) + (jand (jushr (a0 - (jand (jushr a0 1) 6148914691236517205)) 2) 3689348814741910323)) + (jushr ((jand (a0 - (jand (jushr a0 1) 6148914691236517205)) 3689348814741910323) + (jand (jushr (a0 - (jand (jushr a0 1) 6148914691236517205)) 2) 3689348814741910323)) 4)) 1085102592571150095) 8)) 16)) 32)) 127) G
theorem w_J22_bitCount {Q : Int → Wd → Prop} {a0 : Int} {G : Wd} (h : f_J22_bitCount a0 G Q) : wp m_J22_bitCount 1 0 0 0 [some (vJ a0), none] [] G (qI Q) noX := by
  unfold f_J22_bitCount at h
  refine r_lload_n dJ22_bitCount_0 rfl rfl iJ ?_
  refine r_lload_n dJ22_bitCount_1 rfl rfl iJ ?_
  refine r_iconst dJ22_bitCount_2 ?_
  refine r_lushr dJ22_bitCount_3 ?_
  refine r_ldc2 (x := 6148914691236517205) dJ22_bitCount_4 q1068 (by decide) ?_
  refine r_land dJ22_bitCount_7 ?_
  refine r_lsub dJ22_bitCount_8 ?_
  refine r_lstore_n (L' := [some (vJ (a0 - (jand (jushr a0 1) 6148914691236517205))), none]) dJ22_bitCount_9 rfl rfl iJ cN (by decide) ?_
  refine r_lload_n dJ22_bitCount_10 rfl rfl iJ ?_
  refine r_ldc2 (x := 3689348814741910323) dJ22_bitCount_11 q1069 (by decide) ?_
  refine r_land dJ22_bitCount_14 ?_
  refine r_lload_n dJ22_bitCount_15 rfl rfl iJ ?_
  refine r_iconst dJ22_bitCount_16 ?_
  refine r_lushr dJ22_bitCount_17 ?_
  refine r_ldc2 (x := 3689348814741910323) dJ22_bitCount_18 q1069 (by decide) ?_
  refine r_land dJ22_bitCount_21 ?_
  refine r_ladd dJ22_bitCount_22 ?_
  refine r_lstore_n (L' := [some (vJ ((jand (a0 - (jand (jushr a0 1) 6148914691236517205)) 3689348814741910323) + (jand (jushr (a0 - (jand (jushr a0 1) 6148914691236517205)) 2) 3689348814741910323))), none]) dJ22_bitCount_23 rfl rfl iJ cN (by decide) ?_
  refine r_lload_n dJ22_bitCount_24 rfl rfl iJ ?_
  refine r_lload_n dJ22_bitCount_25 rfl rfl iJ ?_
  refine r_iconst dJ22_bitCount_26 ?_
  refine r_lushr dJ22_bitCount_27 ?_
  refine r_ladd dJ22_bitCount_28 ?_
  refine r_ldc2 (x := 1085102592571150095) dJ22_bitCount_29 q1070 (by decide) ?_
  refine r_land dJ22_bitCount_32 ?_
  refine r_lstore_n (L' := [some (vJ (jand (((jand (a0 - (jand (jushr a0 1) 6148914691236517205)) 3689348814741910323) + (jand (jushr (a0 - (jand (jushr a0 1) 6148914691236517205)) 2) 3689348814741910323)) + (jushr ((jand (a0 - (jand (jushr a0 1) 6148914691236517205)) 3689348814741910323) + (jand (jushr (a0 - (jand (jushr a0 1) 6148914691236517205)) 2) 3689348814741910323)) 4)) 1085102592571150095)), none]) dJ22_bitCount_33 rfl rfl iJ cN (by decide) ?_
  refine r_lload_n dJ22_bitCount_34 rfl rfl iJ ?_
  refine r_lload_n dJ22_bitCount_35 rfl rfl iJ ?_
  refine r_bipush dJ22_bitCount_36 (by decide) ?_
  refine r_lushr dJ22_bitCount_38 ?_
  refine r_ladd dJ22_bitCount_39 ?_
  refine r_lstore_n (L' := [some (vJ ((jand (((jand (a0 - (jand (jushr a0 1) 6148914691236517205)) 3689348814741910323) + (jand (jushr (a0 - (jand (jushr a0 1) 6148914691236517205)) 2) 3689348814741910323)) + (jushr ((jand (a0 - (jand (jushr a0 1) 6148914691236517205)) 3689348814741910323) + (jand (jushr (a0 - (jand (jushr a0 1) 6148914691236517205)) 2) 3689348814741910323)) 4)) 1085102592571150095) + (jushr (jand (((jand (a0 - (jand (jushr a0 1) 6148914691236517205)) 3689348814741910323) + (jand (jushr (a0 - (jand (jushr a0 1) 6148914691236517205)) 2) 3689348814741910323)) + (jushr ((jand (a0 - (jand (jushr a0 1) 6148914691236517205)) 3689348814741910323) + (jand (jushr (a0 - (jand (jushr a0 1) 6148914691236517205)) 2) 3689348814741910323)) 4)) 1085102592571150095) 8))), none]) dJ22_bitCount_40 rfl rfl iJ cN (by decide) ?_
  refine r_lload_n dJ22_bitCount_41 rfl rfl iJ ?_
  refine r_lload_n dJ22_bitCount_42 rfl rfl iJ ?_
  refine r_bipush dJ22_bitCount_43 (by decide) ?_
  refine r_lushr dJ22_bitCount_45 ?_
  refine r_ladd dJ22_bitCount_46 ?_
  refine r_lstore_n (L' := [some (vJ (((jand (((jand (a0 - (jand (jushr a0 1) 6148914691236517205)) 3689348814741910323) + (jand (jushr (a0 - (jand (jushr a0 1) 6148914691236517205)) 2) 3689348814741910323)) + (jushr ((jand (a0 - (jand (jushr a0 1) 6148914691236517205)) 3689348814741910323) + (jand (jushr (a0 - (jand (jushr a0 1) 6148914691236517205)) 2) 3689348814741910323)) 4)) 1085102592571150095) + (jushr (jand (((jand (a0 - (jand (jushr a0 1) 6148914691236517205)) 3689348814741910323) + (jand (jushr (a0 - (jand (jushr a0 1) 6148914691236517205)) 2) 3689348814741910323)) + (jushr ((jand (a0 - (jand (jushr a0 1) 6148914691236517205)) 3689348814741910323) + (jand (jushr (a0 - (jand (jushr a0 1) 6148914691236517205)) 2) 3689348814741910323)) 4)) 1085102592571150095) 8)) + (jushr ((jand (((jand (a0 - (jand (jushr a0 1) 6148914691236517205)) 3689348814741910323) + (jand (jushr (a0 - (jand (jushr a0 1) 6148914691236517205)) 2) 3689348814741910323)) + (jushr ((jand (a0 - (jand (jushr a0 1) 6148914691236517205)) 3689348814741910323) + (jand (jushr (a0 - (jand (jushr a0 1) 6148914691236517205)) 2) 3689348814741910323)) 4)) 1085102592571150095) + (jushr (jand (((jand (a0 - (jand (jushr a0 1) 6148914691236517205)) 3689348814741910323) + (jand (jushr (a0 - (jand (jushr a0 1) 6148914691236517205)) 2) 3689348814741910323)) + (jushr ((jand (a0 - (jand (jushr a0 1) 6148914691236517205)) 3689348814741910323) + (jand (jushr (a0 - (jand (jushr a0 1) 6148914691236517205)) 2) 3689348814741910323)) 4)) 1085102592571150095) 8)) 16))), none]) dJ22_bitCount_47 rfl rfl iJ cN (by decide) ?_
  refine r_lload_n dJ22_bitCount_48 rfl rfl iJ ?_
  refine r_lload_n dJ22_bitCount_49 rfl rfl iJ ?_
  refine r_bipush dJ22_bitCount_50 (by decide) ?_
  refine r_lushr dJ22_bitCount_52 ?_
  refine r_ladd dJ22_bitCount_53 ?_
  refine r_lstore_n (L' := [some (vJ ((((jand (((jand (a0 - (jand (jushr a0 1) 6148914691236517205)) 3689348814741910323) + (jand (jushr (a0 - (jand (jushr a0 1) 6148914691236517205)) 2) 3689348814741910323)) + (jushr ((jand (a0 - (jand (jushr a0 1) 6148914691236517205)) 3689348814741910323) + (jand (jushr (a0 - (jand (jushr a0 1) 6148914691236517205)) 2) 3689348814741910323)) 4)) 1085102592571150095) + (jushr (jand (((jand (a0 - (jand (jushr a0 1) 6148914691236517205)) 3689348814741910323) + (jand (jushr (a0 - (jand (jushr a0 1) 6148914691236517205)) 2) 3689348814741910323)) + (jushr ((jand (a0 - (jand (jushr a0 1) 6148914691236517205)) 3689348814741910323) + (jand (jushr (a0 - (jand (jushr a0 1) 6148914691236517205)) 2) 3689348814741910323)) 4)) 1085102592571150095) 8)) + (jushr ((jand (((jand (a0 - (jand (jushr a0 1) 6148914691236517205)) 3689348814741910323) + (jand (jushr (a0 - (jand (jushr a0 1) 6148914691236517205)) 2) 3689348814741910323)) + (jushr ((jand (a0 - (jand (jushr a0 1) 6148914691236517205)) 3689348814741910323) + (jand (jushr (a0 - (jand (jushr a0 1) 6148914691236517205)) 2) 3689348814741910323)) 4)) 1085102592571150095) + (jushr (jand (((jand (a0 - (jand (jushr a0 1) 6148914691236517205)) 3689348814741910323) + (jand (jushr (a0 - (jand (jushr a0 1) 6148914691236517205)) 2) 3689348814741910323)) + (jushr ((jand (a0 - (jand (jushr a0 1) 6148914691236517205)) 3689348814741910323) + (jand (jushr (a0 - (jand (jushr a0 1) 6148914691236517205)) 2) 3689348814741910323)) 4)) 1085102592571150095) 8)) 16)) + (jushr (((jand (((jand (a0 - (jand (jushr a0 1) 6148914691236517205)) 3689348814741910323) + (jand (jushr (a0 - (jand (jushr a0 1) 6148914691236517205)) 2) 3689348814741910323)) + (jushr ((jand (a0 - (jand (jushr a0 1) 6148914691236517205)) 3689348814741910323) + (jand (jushr (a0 - (jand (jushr a0 1) 6148914691236517205)) 2) 3689348814741910323)) 4)) 1085102592571150095) + (jushr (jand (((jand (a0 - (jand (jushr a0 1) 6148914691236517205)) 3689348814741910323) + (jand (jushr (a0 - (jand (jushr a0 1) 6148914691236517205)) 2) 3689348814741910323)) + (jushr ((jand (a0 - (jand (jushr a0 1) 6148914691236517205)) 3689348814741910323) + (jand (jushr (a0 - (jand (jushr a0 1) 6148914691236517205)) 2) 3689348814741910323)) 4)) 1085102592571150095) 8)) + (jushr ((jand (((jand (a0 - (jand (jushr a0 1) 6148914691236517205)) 3689348814741910323) + (jand (jushr (a0 - (jand (jushr a0 1) 6148914691236517205)) 2) 3689348814741910323)) + (jushr ((jand (a0 - (jand (jushr a0 1) 6148914691236517205)) 3689348814741910323) + (jand (jushr (a0 - (jand (jushr a0 1) 6148914691236517205)) 2) 3689348814741910323)) 4)) 1085102592571150095) + (jushr (jand (((jand (a0 - (jand (jushr a0 1) 6148914691236517205)) 3689348814741910323) + (jand (jushr (a0 - (jand (jushr a0 1) 6148914691236517205)) 2) 3689348814741910323)) + (jushr ((jand (a0 - (jand (jushr a0 1) 6148914691236517205)) 3689348814741910323) + (jand (jushr (a0 - (jand (jushr a0 1) 6148914691236517205)) 2) 3689348814741910323)) 4)) 1085102592571150095) 8)) 16)) 32))), none]) dJ22_bitCount_54 rfl rfl iJ cN (by decide) ?_
  refine r_lload_n dJ22_bitCount_55 rfl rfl iJ ?_
  refine r_l2i dJ22_bitCount_56 ?_
  refine r_bipush dJ22_bitCount_57 (by decide) ?_
  refine r_iand dJ22_bitCount_59 ?_
  exact r_iret rfl dJ22_bitCount_60 ⟨_, rfl, h⟩
theorem c_J22_bitCount {a0 : Int} {Q : Int → Wd → Prop} {G : Wd} (h : f_J22_bitCount a0 G Q) : call yJ22_bitCount (Cond.code yJ22_bitCount cJ22_bitCount 2 (some .int)) 1 0 0 [vJ a0] G (qI Q) noX :=
  call.enter (by decide +kernel) (la_2 (la_nil rfl)) rfl (w_J22_bitCount h)
abbrev m_J19_numberOfTrailingZeros : Mt := (yJ19_numberOfTrailingZeros.cls, cJ19_numberOfTrailingZeros, 2, some .int, [], yJ19_numberOfTrailingZeros.name)
theorem yo_J19_numberOfTrailingZeros : yOK yJ19_numberOfTrailingZeros 1 := ⟨by decide +kernel, by decide +kernel, by decide +kernel⟩
def f_J19_numberOfTrailingZeros_74 (l0 : Int) (l1 : Int) (G : Wd) (Q : Int → Wd → Prop) : Prop :=
  Q (l1 + (iushr l0 1)) G
theorem w_J19_numberOfTrailingZeros_74 {Q : Int → Wd → Prop} {l0 : Int} {l1 : Int} {G : Wd} (h : f_J19_numberOfTrailingZeros_74 l0 l1 G Q) : wp m_J19_numberOfTrailingZeros 1 0 0 74 [some (vI l0), some (vI l1)] [] G (qI Q) noX := by
  unfold f_J19_numberOfTrailingZeros_74 at h
  refine r_iload_n dJ19_numberOfTrailingZeros_74 rfl rfl iI ?_
  refine r_iload_n dJ19_numberOfTrailingZeros_75 rfl rfl iI ?_
  refine r_iconst dJ19_numberOfTrailingZeros_76 ?_
  refine r_iushr dJ19_numberOfTrailingZeros_77 ?_
  refine r_iadd dJ19_numberOfTrailingZeros_78 ?_
  exact r_iret rfl dJ19_numberOfTrailingZeros_79 ⟨_, rfl, h⟩
def f_J19_numberOfTrailingZeros_62 (l0 : Int) (l1 : Int) (G : Wd) (Q : Int → Wd → Prop) : Prop :=
  br l0 4 (l0 ≤ (4 : Int)) (f_J19_numberOfTrailingZeros_74 l0 l1 G Q) (f_J19_numberOfTrailingZeros_74 (iushr l0 2) (l1 + 2) G Q)
theorem w_J19_numberOfTrailingZeros_62 {Q : Int → Wd → Prop} {l0 : Int} {l1 : Int} {G : Wd} (h : f_J19_numberOfTrailingZeros_62 l0 l1 G Q) : wp m_J19_numberOfTrailingZeros 1 0 0 62 [some (vI l0), some (vI l1)] [] G (qI Q) noX := by
  unfold f_J19_numberOfTrailingZeros_62 at h
  refine r_iload_n dJ19_numberOfTrailingZeros_62 rfl rfl iI ?_
  refine r_iconst dJ19_numberOfTrailingZeros_63 ?_
  refine r_icmp_le (tgt := 74) dJ19_numberOfTrailingZeros_64 (by decide) h (fun h => ?_) (fun h => ?_)
  · exact w_J19_numberOfTrailingZeros_74 h
  · refine r_iinc (L' := [some (vI l0), some (vI (l1 + 2))]) dJ19_numberOfTrailingZeros_67 rfl rfl cI (by decide) ?_
    refine r_iload_n dJ19_numberOfTrailingZeros_70 rfl rfl iI ?_
    refine r_iconst dJ19_numberOfTrailingZeros_71 ?_
    refine r_iushr dJ19_numberOfTrailingZeros_72 ?_
    refine r_istore_n (L' := [some (vI (iushr l0 2)), some (vI (l1 + 2))]) dJ19_numberOfTrailingZeros_73 rfl rfl iI cN (by decide) ?_
    exact w_J19_numberOfTrailingZeros_74 h
def f_J19_numberOfTrailingZeros_49 (l0 : Int) (l1 : Int) (G : Wd) (Q : Int → Wd → Prop) : Prop :=
  br l0 16 (l0 ≤ (16 : Int)) (f_J19_numberOfTrailingZeros_62 l0 l1 G Q) (f_J19_numberOfTrailingZeros_62 (iushr l0 4) (l1 + 4) G Q)
theorem w_J19_numberOfTrailingZeros_49 {Q : Int → Wd → Prop} {l0 : Int} {l1 : Int} {G : Wd} (h : f_J19_numberOfTrailingZeros_49 l0 l1 G Q) : wp m_J19_numberOfTrailingZeros 1 0 0 49 [some (vI l0), some (vI l1)] [] G (qI Q) noX := by
  unfold f_J19_numberOfTrailingZeros_49 at h
  refine r_iload_n dJ19_numberOfTrailingZeros_49 rfl rfl iI ?_
  refine r_bipush dJ19_numberOfTrailingZeros_50 (by decide) ?_
  refine r_icmp_le (tgt := 62) dJ19_numberOfTrailingZeros_52 (by decide) h (fun h => ?_) (fun h => ?_)
  · exact w_J19_numberOfTrailingZeros_62 h
  · refine r_iinc (L' := [some (vI l0), some (vI (l1 + 4))]) dJ19_numberOfTrailingZeros_55 rfl rfl cI (by decide) ?_
    refine r_iload_n dJ19_numberOfTrailingZeros_58 rfl rfl iI ?_
    refine r_iconst dJ19_numberOfTrailingZeros_59 ?_
    refine r_iushr dJ19_numberOfTrailingZeros_60 ?_
    refine r_istore_n (L' := [some (vI (iushr l0 4)), some (vI (l1 + 4))]) dJ19_numberOfTrailingZeros_61 rfl rfl iI cN (by decide) ?_
    exact w_J19_numberOfTrailingZeros_62 h
def f_J19_numberOfTrailingZeros_34 (l0 : Int) (l1 : Int) (G : Wd) (Q : Int → Wd → Prop) : Prop :=
  br l0 256 (l0 ≤ (256 : Int)) (f_J19_numberOfTrailingZeros_49 l0 l1 G Q) (f_J19_numberOfTrailingZeros_49 (iushr l0 8) (l1 + 8) G Q)
theorem w_J19_numberOfTrailingZeros_34 {Q : Int → Wd → Prop} {l0 : Int} {l1 : Int} {G : Wd} (h : f_J19_numberOfTrailingZeros_34 l0 l1 G Q) : wp m_J19_numberOfTrailingZeros 1 0 0 34 [some (vI l0), some (vI l1)] [] G (qI Q) noX := by
  unfold f_J19_numberOfTrailingZeros_34 at h
  refine r_iload_n dJ19_numberOfTrailingZeros_34 rfl rfl iI ?_
  refine r_sipush dJ19_numberOfTrailingZeros_35 (by decide) ?_
  refine r_icmp_le (tgt := 49) dJ19_numberOfTrailingZeros_38 (by decide) h (fun h => ?_) (fun h => ?_)
  · exact w_J19_numberOfTrailingZeros_49 h
  · refine r_iinc (L' := [some (vI l0), some (vI (l1 + 8))]) dJ19_numberOfTrailingZeros_41 rfl rfl cI (by decide) ?_
    refine r_iload_n dJ19_numberOfTrailingZeros_44 rfl rfl iI ?_
    refine r_bipush dJ19_numberOfTrailingZeros_45 (by decide) ?_
    refine r_iushr dJ19_numberOfTrailingZeros_47 ?_
    refine r_istore_n (L' := [some (vI (iushr l0 8)), some (vI (l1 + 8))]) dJ19_numberOfTrailingZeros_48 rfl rfl iI cN (by decide) ?_
    exact w_J19_numberOfTrailingZeros_49 h
def f_J19_numberOfTrailingZeros (a0 : Int) (G : Wd) (Q : Int → Wd → Prop) : Prop :=
  br0 (iand (ixor a0 (-1)) (a0 - 1)) (0 < (iand (ixor a0 (-1)) (a0 - 1))) (br (iand (ixor a0 (-1)) (a0 - 1)) 65536 ((iand (ixor a0 (-1)) (a0 - 1)) ≤ (65536 : Int)) (f_J19_numberOfTrailingZeros_34 (iand (ixor a0 (-1)) (a0 - 1)) 1 G Q) (f_J19_numberOfTrailingZeros_34 (iushr (iand (ixor a0 (-1)) (a0 - 1)) 16) (1 + 16) G Q)) (Q (iand (iand (ixor a0 (-1)) (a0 - 1)) 32) G)
theorem w_J19_numberOfTrailingZeros {Q : Int → Wd → Prop} {a0 : Int} {G : Wd} (h : f_J19_numberOfTrailingZeros a0 G Q) : wp m_J19_numberOfTrailingZeros 1 0 0 0 [some (vI a0), none] [] G (qI Q) noX := by
  unfold f_J19_numberOfTrailingZeros at h
  refine r_iload_n dJ19_numberOfTrailingZeros_0 rfl rfl iI ?_
  refine r_iconst dJ19_numberOfTrailingZeros_1 ?_
  refine r_ixor dJ19_numberOfTrailingZeros_2 ?_
  refine r_iload_n dJ19_numberOfTrailingZeros_3 rfl rfl iI ?_
  refine r_iconst dJ19_numberOfTrailingZeros_4 ?_
  refine r_isub dJ19_numberOfTrailingZeros_5 ?_
  refine r_iand dJ19_numberOfTrailingZeros_6 ?_
  refine r_istore_n (L' := [some (vI (iand (ixor a0 (-1)) (a0 - 1))), none]) dJ19_numberOfTrailingZeros_7 rfl rfl iI cN (by decide) ?_
  refine r_iload_n dJ19_numberOfTrailingZeros_8 rfl rfl iI ?_
  refine r_if_gt (tgt := 17) dJ19_numberOfTrailingZeros_9 (by decide) h (fun h => ?_) (fun h => ?_)
  · refine r_iconst dJ19_numberOfTrailingZeros_17 ?_
    refine r_istore_n (L' := [some (vI (iand (ixor a0 (-1)) (a0 - 1))), some (vI 1)]) dJ19_numberOfTrailingZeros_18 rfl rfl iI cI (by decide) ?_
    refine r_iload_n dJ19_numberOfTrailingZeros_19 rfl rfl iI ?_
    refine r_ldcw (x := 65536) dJ19_numberOfTrailingZeros_20 q1444 (by decide) ?_
    refine r_icmp_le (tgt := 34) dJ19_numberOfTrailingZeros_23 (by decide) h (fun h => ?_) (fun h => ?_)
    · exact w_J19_numberOfTrailingZeros_34 h
    · refine r_iinc (L' := [some (vI (iand (ixor a0 (-1)) (a0 - 1))), some (vI (1 + 16))]) dJ19_numberOfTrailingZeros_26 rfl rfl cI (by decide) ?_
      refine r_iload_n dJ19_numberOfTrailingZeros_29 rfl rfl iI ?_
      refine r_bipush dJ19_numberOfTrailingZeros_30 (by decide) ?_
      refine r_iushr dJ19_numberOfTrailingZeros_32 ?_
      refine r_istore_n (L' := [some (vI (iushr (iand (ixor a0 (-1)) (a0 - 1)) 16)), some (vI (1 + 16))]) dJ19_numberOfTrailingZeros_33 rfl rfl iI cN (by decide) ?_
      exact w_J19_numberOfTrailingZeros_34 h
  · refine r_iload_n dJ19_numberOfTrailingZeros_12 rfl rfl iI ?_
    refine r_bipush dJ19_numberOfTrailingZeros_13 (by decide) ?_
    refine r_iand dJ19_numberOfTrailingZeros_15 ?_
    exact r_iret rfl dJ19_numberOfTrailingZeros_16 ⟨_, rfl, h⟩
theorem c_J19_numberOfTrailingZeros {a0 : Int} {Q : Int → Wd → Prop} {G : Wd} (h : f_J19_numberOfTrailingZeros a0 G Q) : call yJ19_numberOfTrailingZeros (Cond.code yJ19_numberOfTrailingZeros cJ19_numberOfTrailingZeros 2 (some .int)) 1 0 0 [vI a0] G (qI Q) noX :=
  call.enter (by decide +kernel) (la_1 c1I (la_nil rfl)) rfl (w_J19_numberOfTrailingZeros h)
abbrev m_J23_next : Mt := (yJ23_next.cls, cJ23_next, 3, some (.object "java/lang/Object"), [], yJ23_next.name)
theorem yo_J23_next : yOK yJ23_next 0 := ⟨by decide +kernel, by decide +kernel, by decide +kernel⟩
def f_J23_next (a0 : Nat) (G : Wd) (Q : Option Nat → Wd → Prop) : Prop :=
  gI G a0 [15] 1 (fun x17 => br0 x17 (0 < x17) (gR G a0 [15] 3 (fun x18 => nn x18 (fun a19 => gR G a19 [13] 0 (fun x20 => gI G a0 [15] 0 (fun x21 => f_J4_nonNullElementAt x20 x21 G (fun x23 G22 => gI G22 a0 [15] 0 (fun x24 => pF G22 a0 [15] 2 (vI x24) (fun G25 => nn x20 (fun a26 => lnR G25 a26 9 (fun x27 => f_J4_inc x24 x27 G25 (fun x29 G28 => pF G28 a0 [15] 0 (vI x29) (fun G30 => gI G30 a0 [15] 1 (fun x31 => pF G30 a0 [15] 1 (vI (x31 - 1)) (fun G32 => Q x23 G32)))))))))))))) (False))
theorem w_J23_next {a0 : Nat} {Q : Option Nat → Wd → Prop} {G : Wd} (h : f_J23_next a0 G Q) : wp m_J23_next 2 0 0 0 [some (vR (some a0)), none, none] [] G (qR Q) noX := by
  unfold f_J23_next at h
  refine r_aload_n dJ23_next_0 rfl rfl iR ?_
  refine r_getI dJ23_next_1 (fg1 (f := 1) fJ23 (by decide) q1102 rfl) h (fun x17 h => ?_)
  refine r_if_gt (tgt := 15) dJ23_next_4 (by decide) h (fun h => ?_) (fun h => ?_)
  · refine r_aload_n dJ23_next_15 rfl rfl iR ?_
    refine r_getR dJ23_next_16 (fg1 (f := 3) fJ23 (by decide) q1104 rfl) h (fun x18 h => ?_)
    obtain ⟨a19, e, h⟩ := h
    refine wp.cast (L' := [some (vR (some a0)), none, none]) (st' := [vR (some a19)]) rfl (by rw [e]) ?_
    refine r_getR dJ23_next_19 (fg1 (f := 0) fJ4 (by decide) q199 rfl) h (fun x20 h => ?_)
    refine r_astore_n (L' := [some (vR (some a0)), some (vR x20), none]) dJ23_next_22 rfl rfl iR cR (by decide) ?_
    refine r_aload_n dJ23_next_23 rfl rfl iR ?_
    refine r_aload_n dJ23_next_24 rfl rfl iR ?_
    refine r_getI dJ23_next_25 (fg1 (f := 0) fJ23 (by decide) q1101 rfl) h (fun x21 h => ?_)
    refine r_callS dJ23_next_28 (c_J4_nonNullElementAt h) q1266 q1267 q99 q1268 yo_J4_nonNullElementAt rfl (by decide) (by decide) rfl rc0 (by decide) (Nat.zero_le _) (Nat.zero_le _) (ofR fun x23 G22 h => ?_) nox
    refine r_astore_n (L' := [some (vR (some a0)), some (vR x20), some (vR x23)]) dJ23_next_31 rfl rfl iR cR (by decide) ?_
    refine r_aload_n dJ23_next_32 rfl rfl iR ?_
    refine r_aload_n dJ23_next_33 rfl rfl iR ?_
    refine r_aload_n dJ23_next_34 rfl rfl iR ?_
    refine r_getI dJ23_next_35 (fg1 (f := 0) fJ23 (by decide) q1101 rfl) h (fun x24 h => ?_)
    refine r_dup_x1 dJ23_next_38 c1I c1R ?_
    refine r_put dJ23_next_39 (fp1 (f := 2) fJ23 (by decide) q1103 rfl rfl rfl) fvI h (fun G25 h => ?_)
    refine r_aload_n dJ23_next_42 rfl rfl iR ?_
    obtain ⟨a26, e, h⟩ := h
    refine wp.cast (L' := [some (vR (some a0)), some (vR (some a26)), some (vR x23)]) (st' := [vR (some a26), vI x24, vR (some a0)]) (by rw [e]) (by rw [e]) ?_
    refine r_lenR (kd := 9) (by decide) dJ23_next_43 h (fun x27 h => ?_)
    refine r_callS dJ23_next_44 (c_J4_inc h) q1269 q1270 q99 q1271 yo_J4_inc rfl (by decide) (by decide) rfl (rc1 c1R rc0) (by decide) (Nat.zero_le _) (Nat.zero_le _) (ofI fun x29 G28 h => ?_) nox
    refine r_put dJ23_next_47 (fp1 (f := 0) fJ23 (by decide) q1101 rfl rfl rfl) fvI h (fun G30 h => ?_)
    refine r_aload_n dJ23_next_50 rfl rfl iR ?_
    refine r_dup dJ23_next_51 c1R ?_
    refine r_getI dJ23_next_52 (fg1 (f := 1) fJ23 (by decide) q1102 rfl) h (fun x31 h => ?_)
    refine r_iconst dJ23_next_55 ?_
    refine r_isub dJ23_next_56 ?_
    refine r_put dJ23_next_57 (fp1 (f := 1) fJ23 (by decide) q1102 rfl rfl rfl) fvI h (fun G32 h => ?_)
    refine r_aload_n dJ23_next_60 rfl rfl iR ?_
    exact r_aret rtO dJ23_next_61 ⟨_, rfl, h⟩
  · exact h.elim
theorem c_J23_next {a0 : Nat} {Q : Option Nat → Wd → Prop} {G : Wd} (h : f_J23_next a0 G Q) : call yJ23_next (Cond.code yJ23_next cJ23_next 3 (some (.object "java/lang/Object"))) 2 0 0 [vR (some a0)] G (qR Q) noX :=
  call.enter (by decide +kernel) (la_1 c1R (la_nil rfl)) rfl (w_J23_next h)
abbrev m_J25_next : Mt := (yJ25_next.cls, cJ25_next, 1, some (.object "java/lang/Object"), [], yJ25_next.name)
theorem yo_J25_next : yOK yJ25_next 0 := ⟨by decide +kernel, by decide +kernel, by decide +kernel⟩
def f_J25_next (a0 : Nat) (G : Wd) (Q : Option Nat → Wd → Prop) : Prop :=
  (isC G a0 16 ∧ f_J25_checkForComodification a0  G (fun G15 => (isC G15 a0 16 ∧ f_J25_hasNext a0  G15 (fun x17 G16 => brB x17 (gR G16 a0 [16] 1 (fun x18 => pF G16 a0 [16] 0 (vR x18) (fun G19 => gR G19 a0 [16] 1 (fun x20 => nn x20 (fun a21 => gR G19 a21 [17] 1 (fun x22 => pF G19 a0 [16] 1 (vR x22) (fun G23 => gI G23 a0 [16] 2 (fun x24 => pF G23 a0 [16] 2 (vI (x24 + 1)) (fun G25 => gR G25 a0 [16] 0 (fun x26 => nn x26 (fun a27 => gR G25 a27 [17] 0 (fun x28 => Q x28 G25)))))))))))) (False)))))
theorem w_J25_next {a0 : Nat} {Q : Option Nat → Wd → Prop} {G : Wd} (h : f_J25_next a0 G Q) : wp m_J25_next 2 0 0 0 [some (vR (some a0))] [] G (qR Q) noX := by
  unfold f_J25_next at h
  refine r_aload_n dJ25_next_0 rfl rfl iR ?_
  obtain ⟨hC, h⟩ := h
  refine r_callV dJ25_next_1 hC (c_J25_checkForComodification h) q1277 q1278 q1279 q127 q1280 rfl yo_J25_checkForComodification rfl (by decide) (by decide) rfl rc0 (by decide) (Nat.zero_le _) (Nat.zero_le _) (ofV fun G15 h => ?_) nox
  refine r_aload_n dJ25_next_4 rfl rfl iR ?_
  obtain ⟨hC, h⟩ := h
  refine r_callV dJ25_next_5 hC (c_J25_hasNext h) q1281 q1137 q2771 q127 q1139 rfl yo_J25_hasNext rfl (by decide) (by decide) rfl rc0 (by decide) (Nat.zero_le _) (Nat.zero_le _) (ofB fun x17 G16 h => ?_) nox
  refine r_ifZ_ne (tgt := 19) dJ25_next_8 (by decide) h (fun h => ?_) (fun h => ?_)
  · refine r_aload_n dJ25_next_19 rfl rfl iR ?_
    refine r_aload_n dJ25_next_20 rfl rfl iR ?_
    refine r_getR dJ25_next_21 (fg1 (f := 1) fJ25 (by decide) q1374 rfl) h (fun x18 h => ?_)
    refine r_put dJ25_next_24 (fp1 (f := 0) fJ25 (by decide) q1373 rfl rfl rfl) fvO h (fun G19 h => ?_)
    refine r_aload_n dJ25_next_27 rfl rfl iR ?_
    refine r_aload_n dJ25_next_28 rfl rfl iR ?_
    refine r_getR dJ25_next_29 (fg1 (f := 1) fJ25 (by decide) q1374 rfl) h (fun x20 h => ?_)
    obtain ⟨a21, e, h⟩ := h
    refine wp.cast (L' := [some (vR (some a0))]) (st' := [vR (some a21), vR (some a0)]) rfl (by rw [e]) ?_
    refine r_getR dJ25_next_32 (fg1 (f := 1) fJ26 (by decide) q1413 rfl) h (fun x22 h => ?_)
    refine r_put dJ25_next_35 (fp1 (f := 1) fJ25 (by decide) q1374 rfl rfl rfl) fvO h (fun G23 h => ?_)
    refine r_aload_n dJ25_next_38 rfl rfl iR ?_
    refine r_dup dJ25_next_39 c1R ?_
    refine r_getI dJ25_next_40 (fg1 (f := 2) fJ25 (by decide) q1375 rfl) h (fun x24 h => ?_)
    refine r_iconst dJ25_next_43 ?_
    refine r_iadd dJ25_next_44 ?_
    refine r_put dJ25_next_45 (fp1 (f := 2) fJ25 (by decide) q1375 rfl rfl rfl) fvI h (fun G25 h => ?_)
    refine r_aload_n dJ25_next_48 rfl rfl iR ?_
    refine r_getR dJ25_next_49 (fg1 (f := 0) fJ25 (by decide) q1373 rfl) h (fun x26 h => ?_)
    obtain ⟨a27, e, h⟩ := h
    refine wp.cast (L' := [some (vR (some a0))]) (st' := [vR (some a27)]) rfl (by rw [e]) ?_
    refine r_getR dJ25_next_52 (fg1 (f := 0) fJ26 (by decide) q1410 rfl) h (fun x28 h => ?_)
    exact r_aret rtO dJ25_next_55 ⟨_, rfl, h⟩
  · exact h.elim
theorem c_J25_next {a0 : Nat} {Q : Option Nat → Wd → Prop} {G : Wd} (h : f_J25_next a0 G Q) : call yJ25_next (Cond.code yJ25_next cJ25_next 1 (some (.object "java/lang/Object"))) 2 0 0 [vR (some a0)] G (qR Q) noX :=
  call.enter (by decide +kernel) (la_1 c1R (la_nil rfl)) rfl (w_J25_next h)
abbrev m_J25_init : Mt := (yJ25_init.cls, cJ25_init, 3, none, [], yJ25_init.name)
theorem yo_J25_init : yOK yJ25_init 2 := ⟨by decide +kernel, by decide +kernel, by decide +kernel⟩
def f_J25_init_38 (a0 : Nat) (l2 : Int) (s1 : Option Nat) (G : Wd) (Q : Wd → Prop) : Prop :=
  pF G a0 [16] 1 (vR s1) (fun G12 => pF G12 a0 [16] 2 (vI l2) (fun G13 => Q G13))
theorem w_J25_init_38 {a0 : Nat} {Q : Wd → Prop} {l2 : Int} {s1 : Option Nat} {G : Wd} (h : f_J25_init_38 a0 l2 s1 G Q) : wp m_J25_init 2 0 0 38 [some (vR (some a0)), none, some (vI l2)] [vR s1, vR (some a0)] G (qV Q) noX := by
  unfold f_J25_init_38 at h
  refine r_put dJ25_init_38 (fp1 (f := 1) fJ25 (by decide) q1374 rfl rfl rfl) fvO h (fun G12 h => ?_)
  refine r_aload_n dJ25_init_41 rfl rfl iR ?_
  refine r_iload_n dJ25_init_42 rfl rfl iI ?_
  refine r_put dJ25_init_43 (fp1 (f := 2) fJ25 (by decide) q1375 rfl rfl rfl) fvI h (fun G13 h => ?_)
  exact r_vret rfl dJ25_init_46 ⟨rfl, h⟩
def f_J25_init (a0 : Nat) (a1 : Option Nat) (a2 : Int) (G : Wd) (Q : Wd → Prop) : Prop :=
  pF G a0 [16] 4 (vR a1) (fun G14 => gR G14 a0 [16] 4 (fun x15 => nn x15 (fun a16 => gI G14 a16 [12] 0 (fun x17 => pF G14 a0 [16] 3 (vI x17) (fun G18 => nn a1 (fun a19 => gI G18 a19 [12] 1 (fun x20 => br a2 x20 (¬ a2 = x20) ((isC G18 a19 12 ∧ f_J3_node a19 a2 G18 (fun x22 G21 => f_J25_init_38 a0 a2 x22 G21 Q))) (f_J25_init_38 a0 a2 none G18 Q))))))))
theorem w_J25_init {a0 : Nat} {Q : Wd → Prop} {a1 : Option Nat} {a2 : Int} {G : Wd} (h : f_J25_init a0 a1 a2 G Q) : wp m_J25_init 2 0 0 0 [some (vR (some a0)), some (vR a1), some (vI a2)] [] G (qV Q) noX := by
  unfold f_J25_init at h
  refine r_aload_n dJ25_init_0 rfl rfl iR ?_
  refine r_aload_n dJ25_init_1 rfl rfl iR ?_
  refine r_put dJ25_init_2 (fp1F (f := 4) fJ25 (by decide) q1377 rfl rfl rfl rfl) fvO h (fun G14 h => ?_)
  refine r_aload_n dJ25_init_5 rfl rfl iR ?_
  refine r_objInit dJ25_init_6 q1371 q142 q143 rc0 (by decide) (by decide) ?_
  refine r_aload_n dJ25_init_9 rfl rfl iR ?_
  refine r_aload_n dJ25_init_10 rfl rfl iR ?_
  refine r_getR dJ25_init_11 (fg1 (f := 4) fJ25 (by decide) q1377 rfl) h (fun x15 h => ?_)
  obtain ⟨a16, e, h⟩ := h
  refine wp.cast (L' := [some (vR (some a0)), some (vR a1), some (vI a2)]) (st' := [vR (some a16), vR (some a0)]) rfl (by rw [e]) ?_
  refine r_getI dJ25_init_14 (fg1s (f := 0) fJ3 (by decide) q172 q173) h (fun x17 h => ?_)
  refine r_put dJ25_init_17 (fp1 (f := 3) fJ25 (by decide) q1376 rfl rfl rfl) fvI h (fun G18 h => ?_)
  refine r_aload_n dJ25_init_20 rfl rfl iR ?_
  refine r_iload_n dJ25_init_21 rfl rfl iI ?_
  refine r_aload_n dJ25_init_22 rfl rfl iR ?_
  obtain ⟨a19, e, h⟩ := h
  refine wp.cast (L' := [some (vR (some a0)), some (vR (some a19)), some (vI a2)]) (st' := [vR (some a19), vI a2, vR (some a0)]) (by rw [e]) (by rw [e]) ?_
  refine r_getI dJ25_init_23 (fg1 (f := 1) fJ3 (by decide) q168 rfl) h (fun x20 h => ?_)
  refine r_icmp_ne (tgt := 33) dJ25_init_26 (by decide) h (fun h => ?_) (fun h => ?_)
  · refine r_aload_n dJ25_init_33 rfl rfl iR ?_
    refine r_iload_n dJ25_init_34 rfl rfl iI ?_
    obtain ⟨hC, h⟩ := h
    refine r_callV dJ25_init_35 hC (c_J3_node h) q1372 q1169 q1170 q97 q1171 rfl yo_J3_node rfl (by decide) (by decide) rfl (rc1 c1R rc0) (by decide) (Nat.zero_le _) (Nat.zero_le _) (ofR fun x22 G21 h => ?_) nox
    refine wp.locals (L' := [some (vR (some a0)), none, some (vI a2)]) (ls_s (ls_n (ls_s ls_0))) ?_
    exact w_J25_init_38 h
  · refine r_null dJ25_init_29 ?_
    refine r_goto (tgt := 38) dJ25_init_30 (by decide) ?_
    refine wp.locals (L' := [some (vR (some a0)), none, some (vI a2)]) (ls_s (ls_n (ls_s ls_0))) ?_
    exact w_J25_init_38 h
theorem c_J25_init {a0 : Nat} {a1 : Option Nat} {a2 : Int} {Q : Wd → Prop} {G : Wd} (h : f_J25_init a0 a1 a2 G Q) : call yJ25_init (Cond.code yJ25_init cJ25_init 3 (none)) 2 0 0 [vR (some a0), vR a1, vI a2] G (qV Q) noX :=
  call.enter (by decide +kernel) (la_1 c1R (la_1 c1R (la_1 c1I (la_nil rfl)))) rfl (w_J25_init h)
abbrev m_J25_remove : Mt := (yJ25_remove.cls, cJ25_remove, 2, none, [], yJ25_remove.name)
theorem yo_J25_remove : yOK yJ25_remove 0 := ⟨by decide +kernel, by decide +kernel, by decide +kernel⟩
def f_J25_remove_68 (a0 : Nat) (G : Wd) (Q : Wd → Prop) : Prop :=
  pF G a0 [16] 0 (vR none) (fun G20 => gI G20 a0 [16] 3 (fun x21 => pF G20 a0 [16] 3 (vI (x21 + 1)) (fun G22 => Q G22)))
theorem w_J25_remove_68 {a0 : Nat} {Q : Wd → Prop} {G : Wd} (h : f_J25_remove_68 a0 G Q) : wp m_J25_remove 2 0 0 68 [some (vR (some a0)), none] [] G (qV Q) noX := by
  unfold f_J25_remove_68 at h
  refine r_aload_n dJ25_remove_68 rfl rfl iR ?_
  refine r_null dJ25_remove_69 ?_
  refine r_put dJ25_remove_70 (fp1 (f := 0) fJ25 (by decide) q1373 rfl rfl rfl) fvO h (fun G20 h => ?_)
  refine r_aload_n dJ25_remove_73 rfl rfl iR ?_
  refine r_dup dJ25_remove_74 c1R ?_
  refine r_getI dJ25_remove_75 (fg1 (f := 3) fJ25 (by decide) q1376 rfl) h (fun x21 h => ?_)
  refine r_iconst dJ25_remove_78 ?_
  refine r_iadd dJ25_remove_79 ?_
  refine r_put dJ25_remove_80 (fp1 (f := 3) fJ25 (by decide) q1376 rfl rfl rfl) fvI h (fun G22 h => ?_)
  exact r_vret rfl dJ25_remove_83 ⟨rfl, h⟩
def f_J25_remove (a0 : Nat) (G : Wd) (Q : Wd → Prop) : Prop :=
  (isC G a0 16 ∧ f_J25_checkForComodification a0  G (fun G23 => gR G23 a0 [16] 0 (fun x24 => brN x24 (False) (fun a25 => gR G23 a0 [16] 0 (fun x26 => nn x26 (fun a27 => gR G23 a27 [17] 1 (fun x28 => gR G23 a0 [16] 4 (fun x29 => gR G23 a0 [16] 0 (fun x30 => nn x29 (fun a31 => (isC G23 a31 12 ∧ f_J3_unlink a31 x30 G23 (fun x33 G32 => gR G32 a0 [16] 1 (fun x34 => gR G32 a0 [16] 0 (fun x35 => ((¬ x34 = x35 → gI G32 a0 [16] 2 (fun x36 => pF G32 a0 [16] 2 (vI (x36 - 1)) (fun G37 => f_J25_remove_68 a0 G37 Q))) ∧ (x34 = x35 → pF G32 a0 [16] 1 (vR x28) (fun G38 => f_J25_remove_68 a0 G38 Q)))))))))))))))))
theorem w_J25_remove {a0 : Nat} {Q : Wd → Prop} {G : Wd} (h : f_J25_remove a0 G Q) : wp m_J25_remove 2 0 0 0 [some (vR (some a0)), none] [] G (qV Q) noX := by
  unfold f_J25_remove at h
  refine r_aload_n dJ25_remove_0 rfl rfl iR ?_
  obtain ⟨hC, h⟩ := h
  refine r_callV dJ25_remove_1 hC (c_J25_checkForComodification h) q1277 q1278 q1279 q127 q1280 rfl yo_J25_checkForComodification rfl (by decide) (by decide) rfl rc0 (by decide) (Nat.zero_le _) (Nat.zero_le _) (ofV fun G23 h => ?_) nox
  refine r_aload_n dJ25_remove_4 rfl rfl iR ?_
  refine r_getR dJ25_remove_5 (fg1 (f := 0) fJ25 (by decide) q1373 rfl) h (fun x24 h => ?_)
  refine r_ifnonnullV (tgt := 19) dJ25_remove_8 (by decide) h (fun a25 e h => ?_) (fun e h => ?_)
  · refine r_aload_n dJ25_remove_19 rfl rfl iR ?_
    refine r_getR dJ25_remove_20 (fg1 (f := 0) fJ25 (by decide) q1373 rfl) h (fun x26 h => ?_)
    obtain ⟨a27, e, h⟩ := h
    refine wp.cast (L' := [some (vR (some a0)), none]) (st' := [vR (some a27)]) rfl (by rw [e]) ?_
    refine r_getR dJ25_remove_23 (fg1 (f := 1) fJ26 (by decide) q1413 rfl) h (fun x28 h => ?_)
    refine r_astore_n (L' := [some (vR (some a0)), some (vR x28)]) dJ25_remove_26 rfl rfl iR cR (by decide) ?_
    refine r_aload_n dJ25_remove_27 rfl rfl iR ?_
    refine r_getR dJ25_remove_28 (fg1 (f := 4) fJ25 (by decide) q1377 rfl) h (fun x29 h => ?_)
    refine r_aload_n dJ25_remove_31 rfl rfl iR ?_
    refine r_getR dJ25_remove_32 (fg1 (f := 0) fJ25 (by decide) q1373 rfl) h (fun x30 h => ?_)
    obtain ⟨a31, e, h⟩ := h
    refine wp.cast (L' := [some (vR (some a0)), some (vR x28)]) (st' := [vR x30, vR (some a31)]) rfl (by rw [e]) ?_
    obtain ⟨hC, h⟩ := h
    refine r_callV dJ25_remove_35 hC (c_J3_unlink h) q1697 q1658 q1659 q97 q1660 rfl yo_J3_unlink rfl (by decide) (by decide) rfl rc0 (by decide) (Nat.zero_le _) (Nat.zero_le _) (ofR fun x33 G32 h => ?_) nox
    refine r_pop dJ25_remove_38 c1R ?_
    refine r_aload_n dJ25_remove_39 rfl rfl iR ?_
    refine r_getR dJ25_remove_40 (fg1 (f := 1) fJ25 (by decide) q1374 rfl) h (fun x34 h => ?_)
    refine r_aload_n dJ25_remove_43 rfl rfl iR ?_
    refine r_getR dJ25_remove_44 (fg1 (f := 0) fJ25 (by decide) q1373 rfl) h (fun x35 h => ?_)
    refine r_acmp_ne (tgt := 58) dJ25_remove_47 (by decide) h (fun h => ?_) (fun h => ?_)
    · refine r_aload_n dJ25_remove_58 rfl rfl iR ?_
      refine r_dup dJ25_remove_59 c1R ?_
      refine r_getI dJ25_remove_60 (fg1 (f := 2) fJ25 (by decide) q1375 rfl) h (fun x36 h => ?_)
      refine r_iconst dJ25_remove_63 ?_
      refine r_isub dJ25_remove_64 ?_
      refine r_put dJ25_remove_65 (fp1 (f := 2) fJ25 (by decide) q1375 rfl rfl rfl) fvI h (fun G37 h => ?_)
      refine wp.locals (L' := [some (vR (some a0)), none]) (ls_s (ls_n ls_0)) ?_
      exact w_J25_remove_68 h
    · refine r_aload_n dJ25_remove_50 rfl rfl iR ?_
      refine r_aload_n dJ25_remove_51 rfl rfl iR ?_
      refine r_put dJ25_remove_52 (fp1 (f := 1) fJ25 (by decide) q1374 rfl rfl rfl) fvO h (fun G38 h => ?_)
      refine r_goto (tgt := 68) dJ25_remove_55 (by decide) ?_
      refine wp.locals (L' := [some (vR (some a0)), none]) (ls_s (ls_n ls_0)) ?_
      exact w_J25_remove_68 h
  · exact h.elim
theorem c_J25_remove {a0 : Nat} {Q : Wd → Prop} {G : Wd} (h : f_J25_remove a0 G Q) : call yJ25_remove (Cond.code yJ25_remove cJ25_remove 2 (none)) 2 0 0 [vR (some a0)] G (qV Q) noX :=
  call.enter (by decide +kernel) (la_1 c1R (la_nil rfl)) rfl (w_J25_remove h)
abbrev m_J3_init : Mt := (yJ3_init.cls, cJ3_init, 1, none, [], yJ3_init.name)
theorem yo_J3_init : yOK yJ3_init 0 := ⟨by decide +kernel, by decide +kernel, by decide +kernel⟩
def f_J3_init (a0 : Nat) (G : Wd) (Q : Wd → Prop) : Prop :=
  f_J2_init a0  G (fun G3 => pF G3 a0 [12] 1 (vI 0) (fun G4 => Q G4))
theorem w_J3_init {a0 : Nat} {Q : Wd → Prop} {G : Wd} (h : f_J3_init a0 G Q) : wp m_J3_init 4 0 0 0 [some (vR (some a0))] [] G (qV Q) noX := by
  unfold f_J3_init at h
  refine r_aload_n dJ3_init_0 rfl rfl iR ?_
  refine r_callI dJ3_init_1 (c_J2_init h) rfl q157 q158 q96 q159 yo_J2_init rfl (by decide) (by decide) rfl rc0 (by decide) (Nat.zero_le _) (Nat.zero_le _) (ofV fun G3 h => ?_) nox
  refine r_aload_n dJ3_init_4 rfl rfl iR ?_
  refine r_iconst dJ3_init_5 ?_
  refine r_put dJ3_init_6 (fp1 (f := 1) fJ3 (by decide) q167 rfl rfl rfl) fvI h (fun G4 h => ?_)
  exact r_vret rfl dJ3_init_9 ⟨rfl, h⟩
theorem c_J3_init {a0 : Nat} {Q : Wd → Prop} {G : Wd} (h : f_J3_init a0 G Q) : call yJ3_init (Cond.code yJ3_init cJ3_init 1 (none)) 4 0 0 [vR (some a0)] G (qV Q) noX :=
  call.enter (by decide +kernel) (la_1 c1R (la_nil rfl)) rfl (w_J3_init h)
abbrev m_J3_checkPositionIndex : Mt := (yJ3_checkPositionIndex.cls, cJ3_checkPositionIndex, 2, none, [], yJ3_checkPositionIndex.name)
theorem yo_J3_checkPositionIndex : yOK yJ3_checkPositionIndex 1 := ⟨by decide +kernel, by decide +kernel, by decide +kernel⟩
def f_J3_checkPositionIndex (a0 : Nat) (a1 : Int) (G : Wd) (Q : Wd → Prop) : Prop :=
  (isC G a0 12 ∧ f_J3_isPositionIndex a0 a1 G (fun x4 G3 => brB x4 (Q G3) (False)))
theorem w_J3_checkPositionIndex {a0 : Nat} {Q : Wd → Prop} {a1 : Int} {G : Wd} (h : f_J3_checkPositionIndex a0 a1 G Q) : wp m_J3_checkPositionIndex 2 0 0 0 [some (vR (some a0)), some (vI a1)] [] G (qV Q) noX := by
  unfold f_J3_checkPositionIndex at h
  refine r_aload_n dJ3_checkPositionIndex_0 rfl rfl iR ?_
  refine r_iload_n dJ3_checkPositionIndex_1 rfl rfl iI ?_
  obtain ⟨hC, h⟩ := h
  refine r_callV dJ3_checkPositionIndex_2 hC (c_J3_isPositionIndex h) q1362 q1364 qs16 q97 q1365 rfl yo_J3_isPositionIndex rfl (by decide) (by decide) rfl rc0 (by decide) (Nat.zero_le _) (Nat.zero_le _) (ofB fun x4 G3 h => ?_) nox
  refine r_ifZ_ne (tgt := 21) dJ3_checkPositionIndex_5 (by decide) h (fun h => ?_) (fun h => ?_)
  · exact r_vret rfl dJ3_checkPositionIndex_21 ⟨rfl, h⟩
  · exact h.elim
theorem c_J3_checkPositionIndex {a0 : Nat} {a1 : Int} {Q : Wd → Prop} {G : Wd} (h : f_J3_checkPositionIndex a0 a1 G Q) : call yJ3_checkPositionIndex (Cond.code yJ3_checkPositionIndex cJ3_checkPositionIndex 2 (none)) 2 0 0 [vR (some a0), vI a1] G (qV Q) noX :=
  call.enter (by decide +kernel) (la_1 c1R (la_1 c1I (la_nil rfl))) rfl (w_J3_checkPositionIndex h)
abbrev m_J3_addLast : Mt := (yJ3_addLast.cls, cJ3_addLast, 2, none, [], yJ3_addLast.name)
theorem yo_J3_addLast : yOK yJ3_addLast 1 := ⟨by decide +kernel, by decide +kernel, by decide +kernel⟩
def f_J3_addLast (k n : Nat) (a0 : Nat) (a1 : Option Nat) (G : Wd) (Q : Wd → Prop) : Prop :=
  (∃ k5 n6, (k5 ≤ k ∧ n6 ≤ n) ∧ (isC G a0 12 ∧ f_J3_linkLast k5 n6 a0 a1 G (fun G4 => Q G4)))
theorem w_J3_addLast {a0 : Nat} {Q : Wd → Prop} {k n : Nat} {a1 : Option Nat} {G : Wd} (h : f_J3_addLast k n a0 a1 G Q) : wp m_J3_addLast 3 k n 0 [some (vR (some a0)), some (vR a1)] [] G (qV Q) noX := by
  unfold f_J3_addLast at h
  refine r_aload_n dJ3_addLast_0 rfl rfl iR ?_
  refine r_aload_n dJ3_addLast_1 rfl rfl iR ?_
  obtain ⟨k5, n6, ⟨hk1, hn1⟩, h⟩ := h
  obtain ⟨hC, h⟩ := h
  refine r_callV dJ3_addLast_2 hC (c_J3_linkLast h) q1399 q1400 q1401 q97 q1402 rfl yo_J3_linkLast rfl (by decide) (by decide) rfl rc0 (by decide) hk1 hn1 (ofV fun G4 h => ?_) nox
  exact r_vret rfl dJ3_addLast_5 ⟨rfl, h⟩
theorem c_J3_addLast {a0 : Nat} {a1 : Option Nat} {k n : Nat} {Q : Wd → Prop} {G : Wd} (h : f_J3_addLast k n a0 a1 G Q) : call yJ3_addLast (Cond.code yJ3_addLast cJ3_addLast 2 (none)) 3 k n [vR (some a0), vR a1] G (qV Q) noX :=
  call.enter (by decide +kernel) (la_1 c1R (la_1 c1R (la_nil rfl))) rfl (w_J3_addLast h)
abbrev m_J3_pollFirst : Mt := (yJ3_pollFirst.cls, cJ3_pollFirst, 2, some (.object "java/lang/Object"), [], yJ3_pollFirst.name)
theorem yo_J3_pollFirst : yOK yJ3_pollFirst 0 := ⟨by decide +kernel, by decide +kernel, by decide +kernel⟩
def f_J3_pollFirst (a0 : Nat) (G : Wd) (Q : Option Nat → Wd → Prop) : Prop :=
  gR G a0 [12] 2 (fun x5 => brN x5 (Q none G) (fun a6 => (isC G a0 12 ∧ f_J3_unlinkFirst a0 (some a6) G (fun x8 G7 => Q x8 G7))))
theorem w_J3_pollFirst {a0 : Nat} {Q : Option Nat → Wd → Prop} {G : Wd} (h : f_J3_pollFirst a0 G Q) : wp m_J3_pollFirst 2 0 0 0 [some (vR (some a0)), none] [] G (qR Q) noX := by
  unfold f_J3_pollFirst at h
  refine r_aload_n dJ3_pollFirst_0 rfl rfl iR ?_
  refine r_getR dJ3_pollFirst_1 (fg1 (f := 2) fJ3 (by decide) q169 rfl) h (fun x5 h => ?_)
  refine r_astore_n (L' := [some (vR (some a0)), some (vR x5)]) dJ3_pollFirst_4 rfl rfl iR cR (by decide) ?_
  refine r_aload_n dJ3_pollFirst_5 rfl rfl iR ?_
  refine r_ifnonnullV (tgt := 13) dJ3_pollFirst_6 (by decide) h (fun a6 e h => ?_) (fun e h => ?_)
  · refine wp.cast (L' := [some (vR (some a0)), some (vR (some a6))]) (st' := []) (by rw [e]) rfl ?_
    refine r_aload_n dJ3_pollFirst_13 rfl rfl iR ?_
    refine r_aload_n dJ3_pollFirst_14 rfl rfl iR ?_
    obtain ⟨hC, h⟩ := h
    refine r_callV dJ3_pollFirst_15 hC (c_J3_unlinkFirst h) q1529 q1531 qs20 q97 q1532 rfl yo_J3_unlinkFirst rfl (by decide) (by decide) rfl rc0 (by decide) (Nat.zero_le _) (Nat.zero_le _) (ofR fun x8 G7 h => ?_) nox
    exact r_aret rtO dJ3_pollFirst_18 ⟨_, rfl, h⟩
  · refine wp.cast (L' := [some (vR (some a0)), some (vR none)]) (st' := []) (by rw [e]) rfl ?_
    refine r_null dJ3_pollFirst_9 ?_
    refine r_goto (tgt := 18) dJ3_pollFirst_10 (by decide) ?_
    exact r_aret rtO dJ3_pollFirst_18 ⟨_, rfl, h⟩
theorem c_J3_pollFirst {a0 : Nat} {Q : Option Nat → Wd → Prop} {G : Wd} (h : f_J3_pollFirst a0 G Q) : call yJ3_pollFirst (Cond.code yJ3_pollFirst cJ3_pollFirst 2 (some (.object "java/lang/Object"))) 2 0 0 [vR (some a0)] G (qR Q) noX :=
  call.enter (by decide +kernel) (la_1 c1R (la_nil rfl)) rfl (w_J3_pollFirst h)
abbrev m_J4_clear : Mt := (yJ4_clear.cls, cJ4_clear, 1, none, [], yJ4_clear.name)
theorem yo_J4_clear : yOK yJ4_clear 0 := ⟨by decide +kernel, by decide +kernel, by decide +kernel⟩
def f_J4_clear (a0 : Nat) (G : Wd) (Q : Wd → Prop) : Prop :=
  gR G a0 [13] 0 (fun x7 => gI G a0 [13] 1 (fun x8 => gI G a0 [13] 2 (fun x9 => f_J4_circularClear x7 x8 x9 G (fun G10 => pF G10 a0 [13] 2 (vI 0) (fun G11 => pF G11 a0 [13] 1 (vI 0) (fun G12 => Q G12))))))
theorem w_J4_clear {a0 : Nat} {Q : Wd → Prop} {G : Wd} (h : f_J4_clear a0 G Q) : wp m_J4_clear 2 0 0 0 [some (vR (some a0))] [] G (qV Q) noX := by
  unfold f_J4_clear at h
  refine r_aload_n dJ4_clear_0 rfl rfl iR ?_
  refine r_getR dJ4_clear_1 (fg1 (f := 0) fJ4 (by decide) q198 rfl) h (fun x7 h => ?_)
  refine r_aload_n dJ4_clear_4 rfl rfl iR ?_
  refine r_getI dJ4_clear_5 (fg1 (f := 1) fJ4 (by decide) q201 rfl) h (fun x8 h => ?_)
  refine r_aload_n dJ4_clear_8 rfl rfl iR ?_
  refine r_getI dJ4_clear_9 (fg1 (f := 2) fJ4 (by decide) q202 rfl) h (fun x9 h => ?_)
  refine r_callS dJ4_clear_12 (c_J4_circularClear h) q931 q932 q99 q933 yo_J4_circularClear rfl (by decide) (by decide) rfl rc0 (by decide) (Nat.zero_le _) (Nat.zero_le _) (ofV fun G10 h => ?_) nox
  refine r_aload_n dJ4_clear_15 rfl rfl iR ?_
  refine r_aload_n dJ4_clear_16 rfl rfl iR ?_
  refine r_iconst dJ4_clear_17 ?_
  refine r_dup_x1 dJ4_clear_18 c1I c1R ?_
  refine r_put dJ4_clear_19 (fp1 (f := 2) fJ4 (by decide) q202 rfl rfl rfl) fvI h (fun G11 h => ?_)
  refine r_put dJ4_clear_22 (fp1 (f := 1) fJ4 (by decide) q201 rfl rfl rfl) fvI h (fun G12 h => ?_)
  exact r_vret rfl dJ4_clear_25 ⟨rfl, h⟩
theorem c_J4_clear {a0 : Nat} {Q : Wd → Prop} {G : Wd} (h : f_J4_clear a0 G Q) : call yJ4_clear (Cond.code yJ4_clear cJ4_clear 1 (none)) 2 0 0 [vR (some a0)] G (qV Q) noX :=
  call.enter (by decide +kernel) (la_1 c1R (la_nil rfl)) rfl (w_J4_clear h)
abbrev m_J4_size : Mt := (yJ4_size.cls, cJ4_size, 1, some .int, [], yJ4_size.name)
theorem yo_J4_size : yOK yJ4_size 0 := ⟨by decide +kernel, by decide +kernel, by decide +kernel⟩
def f_J4_size (a0 : Nat) (G : Wd) (Q : Int → Wd → Prop) : Prop :=
  gI G a0 [13] 2 (fun x8 => gI G a0 [13] 1 (fun x9 => gR G a0 [13] 0 (fun x10 => nn x10 (fun a11 => lnR G a11 9 (fun x12 => f_J4_sub x8 x9 x12 G (fun x14 G13 => Q x14 G13))))))
theorem w_J4_size {a0 : Nat} {Q : Int → Wd → Prop} {G : Wd} (h : f_J4_size a0 G Q) : wp m_J4_size 2 0 0 0 [some (vR (some a0))] [] G (qI Q) noX := by
  unfold f_J4_size at h
  refine r_aload_n dJ4_size_0 rfl rfl iR ?_
  refine r_getI dJ4_size_1 (fg1 (f := 2) fJ4 (by decide) q202 rfl) h (fun x8 h => ?_)
  refine r_aload_n dJ4_size_4 rfl rfl iR ?_
  refine r_getI dJ4_size_5 (fg1 (f := 1) fJ4 (by decide) q201 rfl) h (fun x9 h => ?_)
  refine r_aload_n dJ4_size_8 rfl rfl iR ?_
  refine r_getR dJ4_size_9 (fg1 (f := 0) fJ4 (by decide) q198 rfl) h (fun x10 h => ?_)
  obtain ⟨a11, e, h⟩ := h
  refine wp.cast (L' := [some (vR (some a0))]) (st' := [vR (some a11), vI x9, vI x8]) rfl (by rw [e]) ?_
  refine r_lenR (kd := 9) (by decide) dJ4_size_12 h (fun x12 h => ?_)
  refine r_callS dJ4_size_13 (c_J4_sub h) q1098 q1099 q99 q1100 yo_J4_sub rfl (by decide) (by decide) rfl rc0 (by decide) (Nat.zero_le _) (Nat.zero_le _) (ofI fun x14 G13 h => ?_) nox
  exact r_iret rfl dJ4_size_16 ⟨_, rfl, h⟩
theorem c_J4_size {a0 : Nat} {Q : Int → Wd → Prop} {G : Wd} (h : f_J4_size a0 G Q) : call yJ4_size (Cond.code yJ4_size cJ4_size 1 (some .int)) 2 0 0 [vR (some a0)] G (qI Q) noX :=
  call.enter (by decide +kernel) (la_1 c1R (la_nil rfl)) rfl (w_J4_size h)
abbrev m_J4_pollFirst : Mt := (yJ4_pollFirst.cls, cJ4_pollFirst, 4, some (.object "java/lang/Object"), [], yJ4_pollFirst.name)
theorem yo_J4_pollFirst : yOK yJ4_pollFirst 0 := ⟨by decide +kernel, by decide +kernel, by decide +kernel⟩
def f_J4_pollFirst (a0 : Nat) (G : Wd) (Q : Option Nat → Wd → Prop) : Prop :=
  gR G a0 [13] 0 (fun x12 => gI G a0 [13] 1 (fun x13 => f_J4_elementAt x12 x13 G (fun x15 G14 => brN x15 (Q none G14) (fun a16 => nn x12 (fun a17 => stR G14 a17 9 x13 none [7, 10] (fun G18 => lnR G18 a17 9 (fun x19 => f_J4_inc x13 x19 G18 (fun x21 G20 => pF G20 a0 [13] 1 (vI x21) (fun G22 => Q (some a16) G22)))))))))
theorem w_J4_pollFirst {a0 : Nat} {Q : Option Nat → Wd → Prop} {G : Wd} (h : f_J4_pollFirst a0 G Q) : wp m_J4_pollFirst 2 0 0 0 [some (vR (some a0)), none, none, none] [] G (qR Q) noX := by
  unfold f_J4_pollFirst at h
  refine r_aload_n dJ4_pollFirst_0 rfl rfl iR ?_
  refine r_getR dJ4_pollFirst_1 (fg1 (f := 0) fJ4 (by decide) q198 rfl) h (fun x12 h => ?_)
  refine r_dup dJ4_pollFirst_4 c1R ?_
  refine r_astore_n (L' := [some (vR (some a0)), some (vR x12), none, none]) dJ4_pollFirst_5 rfl rfl iR cR (by decide) ?_
  refine r_aload_n dJ4_pollFirst_6 rfl rfl iR ?_
  refine r_getI dJ4_pollFirst_7 (fg1 (f := 1) fJ4 (by decide) q201 rfl) h (fun x13 h => ?_)
  refine r_dup dJ4_pollFirst_10 c1I ?_
  refine r_istore_n (L' := [some (vR (some a0)), some (vR x12), some (vI x13), none]) dJ4_pollFirst_11 rfl rfl iI cR (by decide) ?_
  refine r_callS dJ4_pollFirst_12 (c_J4_elementAt h) q1734 q1735 q99 q1736 yo_J4_elementAt rfl (by decide) (by decide) rfl rc0 (by decide) (Nat.zero_le _) (Nat.zero_le _) (ofR fun x15 G14 h => ?_) nox
  refine r_astore_n (L' := [some (vR (some a0)), some (vR x12), some (vI x13), some (vR x15)]) dJ4_pollFirst_15 rfl rfl iR cI (by decide) ?_
  refine r_aload_n dJ4_pollFirst_16 rfl rfl iR ?_
  refine r_ifnullV (tgt := 34) dJ4_pollFirst_17 (by decide) h (fun e h => ?_) (fun a16 e h => ?_)
  · refine wp.cast (L' := [some (vR (some a0)), some (vR x12), some (vI x13), some (vR none)]) (st' := []) (by rw [e]) rfl ?_
    refine r_aload_n dJ4_pollFirst_34 rfl rfl iR ?_
    exact r_aret rtO dJ4_pollFirst_35 ⟨_, rfl, h⟩
  · refine wp.cast (L' := [some (vR (some a0)), some (vR x12), some (vI x13), some (vR (some a16))]) (st' := []) (by rw [e]) rfl ?_
    refine r_aload_n dJ4_pollFirst_20 rfl rfl iR ?_
    refine r_iload_n dJ4_pollFirst_21 rfl rfl iI ?_
    refine r_null dJ4_pollFirst_22 ?_
    obtain ⟨a17, e, h⟩ := h
    refine wp.cast (L' := [some (vR (some a0)), some (vR (some a17)), some (vI x13), some (vR (some a16))]) (st' := [vR none, vI x13, vR (some a17)]) (by rw [e]) (by rw [e]) ?_
    refine r_aast dJ4_pollFirst_23 kd9 h (fun G18 h => ?_)
    refine r_aload_n dJ4_pollFirst_24 rfl rfl iR ?_
    refine r_iload_n dJ4_pollFirst_25 rfl rfl iI ?_
    refine r_aload_n dJ4_pollFirst_26 rfl rfl iR ?_
    refine r_lenR (kd := 9) (by decide) dJ4_pollFirst_27 h (fun x19 h => ?_)
    refine r_callS dJ4_pollFirst_28 (c_J4_inc h) q1289 q1270 q99 q1271 yo_J4_inc rfl (by decide) (by decide) rfl (rc1 c1R rc0) (by decide) (Nat.zero_le _) (Nat.zero_le _) (ofI fun x21 G20 h => ?_) nox
    refine r_put dJ4_pollFirst_31 (fp1 (f := 1) fJ4 (by decide) q201 rfl rfl rfl) fvI h (fun G22 h => ?_)
    refine r_aload_n dJ4_pollFirst_34 rfl rfl iR ?_
    exact r_aret rtO dJ4_pollFirst_35 ⟨_, rfl, h⟩
theorem c_J4_pollFirst {a0 : Nat} {Q : Option Nat → Wd → Prop} {G : Wd} (h : f_J4_pollFirst a0 G Q) : call yJ4_pollFirst (Cond.code yJ4_pollFirst cJ4_pollFirst 4 (some (.object "java/lang/Object"))) 2 0 0 [vR (some a0)] G (qR Q) noX :=
  call.enter (by decide +kernel) (la_1 c1R (la_nil rfl)) rfl (w_J4_pollFirst h)
abbrev m_J5_initWords : Mt := (yJ5_initWords.cls, cJ5_initWords, 2, none, [], yJ5_initWords.name)
theorem yo_J5_initWords : yOK yJ5_initWords 1 := ⟨by decide +kernel, by decide +kernel, by decide +kernel⟩
def f_J5_initWords (k n : Nat) (a0 : Nat) (a1 : Int) (G : Wd) (Q : Wd → Prop) : Prop :=
  f_J5_wordIndex (a1 - 1) G (fun x7 G6 => nA G6 k n (x7 + 1) (fun l => aJ l (fun _ => 0)) (fun a8 G9 => pF G9 a0 [14] 0 (vR (some a8)) (fun G10 => Q G10)))
theorem w_J5_initWords {a0 : Nat} {Q : Wd → Prop} {k n : Nat} {a1 : Int} {G : Wd} (h : f_J5_initWords k n a0 a1 G Q) : wp m_J5_initWords 2 k n 0 [some (vR (some a0)), some (vI a1)] [] G (qV Q) noX := by
  unfold f_J5_initWords at h
  refine r_aload_n dJ5_initWords_0 rfl rfl iR ?_
  refine r_iload_n dJ5_initWords_1 rfl rfl iI ?_
  refine r_iconst dJ5_initWords_2 ?_
  refine r_isub dJ5_initWords_3 ?_
  refine r_callS dJ5_initWords_4 (c_J5_wordIndex h) q538 q539 q100 q540 yo_J5_wordIndex rfl (by decide) (by decide) rfl (rc1 c1R rc0) (by decide) (Nat.zero_le _) (Nat.zero_le _) (ofI fun x7 G6 h => ?_) nox
  refine r_iconst dJ5_initWords_7 ?_
  refine r_iadd dJ5_initWords_8 ?_
  refine r_newJ dJ5_initWords_9 h (fun a8 G9 h => ?_)
  refine r_put dJ5_initWords_11 (fp1 (f := 0) fJ5 (by decide) q541 rfl rfl rfl) fvA h (fun G10 h => ?_)
  exact r_vret rfl dJ5_initWords_14 ⟨rfl, h⟩
theorem c_J5_initWords {a0 : Nat} {a1 : Int} {k n : Nat} {Q : Wd → Prop} {G : Wd} (h : f_J5_initWords k n a0 a1 G Q) : call yJ5_initWords (Cond.code yJ5_initWords cJ5_initWords 2 (none)) 2 k n [vR (some a0), vI a1] G (qV Q) noX :=
  call.enter (by decide +kernel) (la_1 c1R (la_1 c1I (la_nil rfl))) rfl (w_J5_initWords h)
abbrev m_J5_cardinality : Mt := (yJ5_cardinality.cls, cJ5_cardinality, 3, some .int, [], yJ5_cardinality.name)
theorem yo_J5_cardinality : yOK yJ5_cardinality 0 := ⟨by decide +kernel, by decide +kernel, by decide +kernel⟩
def f_J5_cardinality_4_b (a0 : Nat) (k4 : Int → Int → Wd → Prop) (l1 : Int) (l2 : Int) (G : Wd) (Q : Int → Wd → Prop) : Prop :=
  gI G a0 [14] 1 (fun x13 => br l2 x13 (x13 ≤ l2) (Q l1 G) (gR G a0 [14] 0 (fun x14 => nn x14 (fun a15 => ldJ G a15 l2 (fun x16 => f_J22_bitCount x16 G (fun x18 G17 => k4 (l1 + x18) (l2 + 1) G17))))))
theorem w_J5_cardinality_4_b {a0 : Nat} {Q : Int → Wd → Prop} {k4 : Int → Int → Wd → Prop} (hk4 : ∀ {l1 : Int} {l2 : Int} {G : Wd}, k4 l1 l2 G → wp m_J5_cardinality 2 0 0 4 [some (vR (some a0)), some (vI l1), some (vI l2)] [] G (qI Q) noX) {l1 : Int} {l2 : Int} {G : Wd} (h : f_J5_cardinality_4_b a0 k4 l1 l2 G Q) : wp m_J5_cardinality 2 0 0 4 [some (vR (some a0)), some (vI l1), some (vI l2)] [] G (qI Q) noX := by
  unfold f_J5_cardinality_4_b at h
  refine r_iload_n dJ5_cardinality_4 rfl rfl iI ?_
  refine r_aload_n dJ5_cardinality_5 rfl rfl iR ?_
  refine r_getI dJ5_cardinality_6 (fg1 (f := 1) fJ5 (by decide) q542 rfl) h (fun x13 h => ?_)
  refine r_icmp_ge (tgt := 30) dJ5_cardinality_9 (by decide) h (fun h => ?_) (fun h => ?_)
  · refine r_iload_n dJ5_cardinality_30 rfl rfl iI ?_
    exact r_iret rfl dJ5_cardinality_31 ⟨_, rfl, h⟩
  · refine r_iload_n dJ5_cardinality_12 rfl rfl iI ?_
    refine r_aload_n dJ5_cardinality_13 rfl rfl iR ?_
    refine r_getR dJ5_cardinality_14 (fg1 (f := 0) fJ5 (by decide) q541 rfl) h (fun x14 h => ?_)
    refine r_iload_n dJ5_cardinality_17 rfl rfl iI ?_
    obtain ⟨a15, e, h⟩ := h
    refine wp.cast (L' := [some (vR (some a0)), some (vI l1), some (vI l2)]) (st' := [vI l2, vR (some a15), vI l1]) rfl (by rw [e]) ?_
    refine r_lald dJ5_cardinality_18 h (fun x16 h => ?_)
    refine r_callS dJ5_cardinality_19 (c_J22_bitCount h) q1065 q1066 q123 q1067 yo_J22_bitCount rfl (by decide) (by decide) rfl (rc1 c1I rc0) (by decide) (Nat.zero_le _) (Nat.zero_le _) (ofI fun x18 G17 h => ?_) nox
    refine r_iadd dJ5_cardinality_22 ?_
    refine r_istore_n (L' := [some (vR (some a0)), some (vI (l1 + x18)), some (vI l2)]) dJ5_cardinality_23 rfl rfl iI cR (by decide) ?_
    refine r_iinc (L' := [some (vR (some a0)), some (vI (l1 + x18)), some (vI (l2 + 1))]) dJ5_cardinality_24 rfl rfl cI (by decide) ?_
    refine r_goto (tgt := 4) dJ5_cardinality_27 (by decide) ?_
    exact hk4 h
def f_J5_cardinality_4 (a0 : Nat) (Q : Int → Wd → Prop) : Nat → Int → Int → Wd → Prop
  | 0, _, _, _ => False
  | fl + 1, l1, l2, G => f_J5_cardinality_4_b a0  (fun l1 l2 G => f_J5_cardinality_4 a0  Q fl l1 l2 G) l1 l2 G Q
theorem w_J5_cardinality_4 {a0 : Nat} {Q : Int → Wd → Prop} : ∀ (fl : Nat) {l1 : Int} {l2 : Int} {G : Wd}, f_J5_cardinality_4 a0 Q fl l1 l2 G → wp m_J5_cardinality 2 0 0 4 [some (vR (some a0)), some (vI l1), some (vI l2)] [] G (qI Q) noX := by
  intro fl
  induction fl with
  | zero => intro l1 l2 G h; exact (show False from h).elim
  | succ fl ih => intro l1 l2 G h; exact w_J5_cardinality_4_b  (fun h => ih h) h
def f_J5_cardinality (a0 : Nat) (G : Wd) (Q : Int → Wd → Prop) : Prop :=
  ∃ fl19, f_J5_cardinality_4 a0 Q fl19 0 0 G
theorem w_J5_cardinality {a0 : Nat} {Q : Int → Wd → Prop} {G : Wd} (h : f_J5_cardinality a0 G Q) : wp m_J5_cardinality 2 0 0 0 [some (vR (some a0)), none, none] [] G (qI Q) noX := by
  unfold f_J5_cardinality at h
  refine r_iconst dJ5_cardinality_0 ?_
  refine r_istore_n (L' := [some (vR (some a0)), some (vI 0), none]) dJ5_cardinality_1 rfl rfl iI cR (by decide) ?_
  refine r_iconst dJ5_cardinality_2 ?_
  refine r_istore_n (L' := [some (vR (some a0)), some (vI 0), some (vI 0)]) dJ5_cardinality_3 rfl rfl iI cI (by decide) ?_
  obtain ⟨fl19, h⟩ := h
  exact w_J5_cardinality_4 fl19 h
theorem c_J5_cardinality {a0 : Nat} {Q : Int → Wd → Prop} {G : Wd} (h : f_J5_cardinality a0 G Q) : call yJ5_cardinality (Cond.code yJ5_cardinality cJ5_cardinality 3 (some .int)) 2 0 0 [vR (some a0)] G (qI Q) noX :=
  call.enter (by decide +kernel) (la_1 c1R (la_nil rfl)) rfl (w_J5_cardinality h)
abbrev m_J5_or : Mt := (yJ5_or.cls, cJ5_or, 4, none, [], yJ5_or.name)
theorem yo_J5_or : yOK yJ5_or 1 := ⟨by decide +kernel, by decide +kernel, by decide +kernel⟩
def f_J5_or_100 (a0 : Nat) (G : Wd) (Q : Wd → Prop) : Prop :=
  (isC G a0 14 ∧ f_J5_checkInvariants a0  G (fun G43 => Q G43))
theorem w_J5_or_100 {a0 : Nat} {Q : Wd → Prop} {G : Wd} (h : f_J5_or_100 a0 G Q) : wp m_J5_or 2 0 0 100 [some (vR (some a0)), none, none, none] [] G (qV Q) noX := by
  unfold f_J5_or_100 at h
  refine r_aload_n dJ5_or_100 rfl rfl iR ?_
  obtain ⟨hC, h⟩ := h
  refine r_callV dJ5_or_101 hC (c_J5_checkInvariants h) q1330 q1332 qs14 q100 q1333 rfl yo_J5_checkInvariants rfl (by decide) (by decide) rfl rc0 (by decide) (Nat.zero_le _) (Nat.zero_le _) (ofV fun G43 h => ?_) nox
  exact r_vret rfl dJ5_or_104 ⟨rfl, h⟩
def f_J5_or_47_b (a0 : Nat) (k47 : Option Nat → Int → Int → Wd → Prop) (l1 : Option Nat) (l2 : Int) (l3 : Int) (G : Wd) (Q : Wd → Prop) : Prop :=
  br l3 l2 (l2 ≤ l3) (nn l1 (fun a44 => gI G a44 [14] 1 (fun x45 => br l2 x45 (x45 ≤ l2) (f_J5_or_100 a0 G Q) (gR G a44 [14] 0 (fun x46 => gR G a0 [14] 0 (fun x47 => gI G a0 [14] 1 (fun x48 => nn x47 (fun a49 => nn x46 (fun a50 => cpJ G a50 l2 a49 l2 (x48 - l2) (fun G51 => f_J5_or_100 a0 G51 Q)))))))))) (gR G a0 [14] 0 (fun x52 => nn x52 (fun a53 => ldJ G a53 l3 (fun x54 => nn l1 (fun a55 => gR G a55 [14] 0 (fun x56 => nn x56 (fun a57 => ldJ G a57 l3 (fun x58 => stJ G a53 l3 (jor x54 x58) (fun G59 => k47 (some a55) l2 (l3 + 1) G59)))))))))
theorem w_J5_or_47_b {a0 : Nat} {Q : Wd → Prop} {k47 : Option Nat → Int → Int → Wd → Prop} (hk47 : ∀ {l1 : Option Nat} {l2 : Int} {l3 : Int} {G : Wd}, k47 l1 l2 l3 G → wp m_J5_or 2 0 0 47 [some (vR (some a0)), some (vR l1), some (vI l2), some (vI l3)] [] G (qV Q) noX) {l1 : Option Nat} {l2 : Int} {l3 : Int} {G : Wd} (h : f_J5_or_47_b a0 k47 l1 l2 l3 G Q) : wp m_J5_or 2 0 0 47 [some (vR (some a0)), some (vR l1), some (vI l2), some (vI l3)] [] G (qV Q) noX := by
  unfold f_J5_or_47_b at h
  refine r_iload_n dJ5_or_47 rfl rfl iI ?_
  refine r_iload_n dJ5_or_48 rfl rfl iI ?_
  refine r_icmp_ge (tgt := 73) dJ5_or_49 (by decide) h (fun h => ?_) (fun h => ?_)
  · refine r_iload_n dJ5_or_73 rfl rfl iI ?_
    refine r_aload_n dJ5_or_74 rfl rfl iR ?_
    obtain ⟨a44, e, h⟩ := h
    refine wp.cast (L' := [some (vR (some a0)), some (vR (some a44)), some (vI l2), some (vI l3)]) (st' := [vR (some a44), vI l2]) (by rw [e]) (by rw [e]) ?_
    refine r_getI dJ5_or_75 (fg1 (f := 1) fJ5 (by decide) q542 rfl) h (fun x45 h => ?_)
    refine r_icmp_ge (tgt := 100) dJ5_or_78 (by decide) h (fun h => ?_) (fun h => ?_)
    · refine wp.locals (L' := [some (vR (some a0)), none, none, none]) (ls_s (ls_n (ls_n (ls_n ls_0)))) ?_
      exact w_J5_or_100 h
    · refine r_aload_n dJ5_or_81 rfl rfl iR ?_
      refine r_getR dJ5_or_82 (fg1 (f := 0) fJ5 (by decide) q541 rfl) h (fun x46 h => ?_)
      refine r_iload_n dJ5_or_85 rfl rfl iI ?_
      refine r_aload_n dJ5_or_86 rfl rfl iR ?_
      refine r_getR dJ5_or_87 (fg1 (f := 0) fJ5 (by decide) q541 rfl) h (fun x47 h => ?_)
      refine r_iload_n dJ5_or_90 rfl rfl iI ?_
      refine r_aload_n dJ5_or_91 rfl rfl iR ?_
      refine r_getI dJ5_or_92 (fg1 (f := 1) fJ5 (by decide) q542 rfl) h (fun x48 h => ?_)
      refine r_iload_n dJ5_or_95 rfl rfl iI ?_
      refine r_isub dJ5_or_96 ?_
      obtain ⟨a49, e, h⟩ := h
      refine wp.cast (L' := [some (vR (some a0)), some (vR (some a44)), some (vI l2), some (vI l3)]) (st' := [vI (x48 - l2), vI l2, vR (some a49), vI l2, vR x46]) rfl (by rw [e]) ?_
      obtain ⟨a50, e, h⟩ := h
      refine wp.cast (L' := [some (vR (some a0)), some (vR (some a44)), some (vI l2), some (vI l3)]) (st' := [vI (x48 - l2), vI l2, vR (some a49), vI l2, vR (some a50)]) rfl (by rw [e]) ?_
      refine r_cpJ dJ5_or_97 q1329 rc0 (by decide) (by decide) h (fun G51 h => ?_)
      refine wp.locals (L' := [some (vR (some a0)), none, none, none]) (ls_s (ls_n (ls_n (ls_n ls_0)))) ?_
      exact w_J5_or_100 h
  · refine r_aload_n dJ5_or_52 rfl rfl iR ?_
    refine r_getR dJ5_or_53 (fg1 (f := 0) fJ5 (by decide) q541 rfl) h (fun x52 h => ?_)
    refine r_iload_n dJ5_or_56 rfl rfl iI ?_
    refine r_dup2 dJ5_or_57 c1I c1R ?_
    obtain ⟨a53, e, h⟩ := h
    refine wp.cast (L' := [some (vR (some a0)), some (vR l1), some (vI l2), some (vI l3)]) (st' := [vI l3, vR (some a53), vI l3, vR (some a53)]) rfl (by rw [e]) ?_
    refine r_lald dJ5_or_58 h (fun x54 h => ?_)
    refine r_aload_n dJ5_or_59 rfl rfl iR ?_
    obtain ⟨a55, e, h⟩ := h
    refine wp.cast (L' := [some (vR (some a0)), some (vR (some a55)), some (vI l2), some (vI l3)]) (st' := [vR (some a55), vJ x54, vI l3, vR (some a53)]) (by rw [e]) (by rw [e]) ?_
    refine r_getR dJ5_or_60 (fg1 (f := 0) fJ5 (by decide) q541 rfl) h (fun x56 h => ?_)
    refine r_iload_n dJ5_or_63 rfl rfl iI ?_
    obtain ⟨a57, e, h⟩ := h
    refine wp.cast (L' := [some (vR (some a0)), some (vR (some a55)), some (vI l2), some (vI l3)]) (st' := [vI l3, vR (some a57), vJ x54, vI l3, vR (some a53)]) rfl (by rw [e]) ?_
    refine r_lald dJ5_or_64 h (fun x58 h => ?_)
    refine r_lor dJ5_or_65 ?_
    refine r_last dJ5_or_66 h (fun G59 h => ?_)
    refine r_iinc (L' := [some (vR (some a0)), some (vR (some a55)), some (vI l2), some (vI (l3 + 1))]) dJ5_or_67 rfl rfl cI (by decide) ?_
    refine r_goto (tgt := 47) dJ5_or_70 (by decide) ?_
    exact hk47 h
def f_J5_or_47 (a0 : Nat) (Q : Wd → Prop) : Nat → Option Nat → Int → Int → Wd → Prop
  | 0, _, _, _, _ => False
  | fl + 1, l1, l2, l3, G => f_J5_or_47_b a0  (fun l1 l2 l3 G => f_J5_or_47 a0  Q fl l1 l2 l3 G) l1 l2 l3 G Q
theorem w_J5_or_47 {a0 : Nat} {Q : Wd → Prop} : ∀ (fl : Nat) {l1 : Option Nat} {l2 : Int} {l3 : Int} {G : Wd}, f_J5_or_47 a0 Q fl l1 l2 l3 G → wp m_J5_or 2 0 0 47 [some (vR (some a0)), some (vR l1), some (vI l2), some (vI l3)] [] G (qV Q) noX := by
  intro fl
  induction fl with
  | zero => intro l1 l2 l3 G h; exact (show False from h).elim
  | succ fl ih => intro l1 l2 l3 G h; exact w_J5_or_47_b  (fun h => ih h) h
def f_J5_or_45 (a0 : Nat) (l1 : Option Nat) (l2 : Int) (G : Wd) (Q : Wd → Prop) : Prop :=
  ∃ fl60, f_J5_or_47 a0 Q fl60 l1 l2 0 G
theorem w_J5_or_45 {a0 : Nat} {Q : Wd → Prop} {l1 : Option Nat} {l2 : Int} {G : Wd} (h : f_J5_or_45 a0 l1 l2 G Q) : wp m_J5_or 2 0 0 45 [some (vR (some a0)), some (vR l1), some (vI l2), none] [] G (qV Q) noX := by
  unfold f_J5_or_45 at h
  refine r_iconst dJ5_or_45 ?_
  refine r_istore_n (L' := [some (vR (some a0)), some (vR l1), some (vI l2), some (vI 0)]) dJ5_or_46 rfl rfl iI cI (by decide) ?_
  obtain ⟨fl60, h⟩ := h
  exact w_J5_or_47 fl60 h
def f_J5_or (a0 : Nat) (a1 : Option Nat) (G : Wd) (Q : Wd → Prop) : Prop :=
  ((¬ some a0 = a1 → gI G a0 [14] 1 (fun x61 => nn a1 (fun a62 => gI G a62 [14] 1 (fun x63 => ((R32 x61 ∧ R32 x63) ∧ gI G a0 [14] 1 (fun x64 => gI G a62 [14] 1 (fun x65 => br x64 x65 (x65 ≤ x64) (f_J5_or_45 a0 (some a62) (min x61 x63) G Q) (gI G a62 [14] 1 (fun x66 => (isC G a0 14 ∧ f_J5_ensureCapacity a0 x66 G (fun G67 => gI G67 a62 [14] 1 (fun x68 => pF G67 a0 [14] 1 (vI x68) (fun G69 => f_J5_or_45 a0 (some a62) (min x61 x63) G69 Q))))))))))))) ∧ (some a0 = a1 → Q G))
theorem w_J5_or {a0 : Nat} {Q : Wd → Prop} {a1 : Option Nat} {G : Wd} (h : f_J5_or a0 a1 G Q) : wp m_J5_or 2 0 0 0 [some (vR (some a0)), some (vR a1), none, none] [] G (qV Q) noX := by
  unfold f_J5_or at h
  refine r_aload_n dJ5_or_0 rfl rfl iR ?_
  refine r_aload_n dJ5_or_1 rfl rfl iR ?_
  refine r_acmp_ne (tgt := 6) dJ5_or_2 (by decide) h (fun h => ?_) (fun h => ?_)
  · refine r_aload_n dJ5_or_6 rfl rfl iR ?_
    refine r_getI dJ5_or_7 (fg1 (f := 1) fJ5 (by decide) q542 rfl) h (fun x61 h => ?_)
    refine r_aload_n dJ5_or_10 rfl rfl iR ?_
    obtain ⟨a62, e, h⟩ := h
    refine wp.cast (L' := [some (vR (some a0)), some (vR (some a62)), none, none]) (st' := [vR (some a62), vI x61]) (by rw [e]) (by rw [e]) ?_
    refine r_getI dJ5_or_11 (fg1 (f := 1) fJ5 (by decide) q542 rfl) h (fun x63 h => ?_)
    refine r_mmin dJ5_or_14 q1315 rc0 (by decide) (by decide) h (fun h => ?_)
    refine r_istore_n (L' := [some (vR (some a0)), some (vR (some a62)), some (vI (min x61 x63)), none]) dJ5_or_17 rfl rfl iI cR (by decide) ?_
    refine r_aload_n dJ5_or_18 rfl rfl iR ?_
    refine r_getI dJ5_or_19 (fg1 (f := 1) fJ5 (by decide) q542 rfl) h (fun x64 h => ?_)
    refine r_aload_n dJ5_or_22 rfl rfl iR ?_
    refine r_getI dJ5_or_23 (fg1 (f := 1) fJ5 (by decide) q542 rfl) h (fun x65 h => ?_)
    refine r_icmp_ge (tgt := 45) dJ5_or_26 (by decide) h (fun h => ?_) (fun h => ?_)
    · exact w_J5_or_45 h
    · refine r_aload_n dJ5_or_29 rfl rfl iR ?_
      refine r_aload_n dJ5_or_30 rfl rfl iR ?_
      refine r_getI dJ5_or_31 (fg1 (f := 1) fJ5 (by decide) q542 rfl) h (fun x66 h => ?_)
      obtain ⟨hC, h⟩ := h
      refine r_callV dJ5_or_34 hC (c_J5_ensureCapacity h) q1316 q1318 qs13 q100 q1319 rfl yo_J5_ensureCapacity rfl (by decide) (by decide) rfl rc0 (by decide) (Nat.zero_le _) (Nat.zero_le _) (ofV fun G67 h => ?_) nox
      refine r_aload_n dJ5_or_37 rfl rfl iR ?_
      refine r_aload_n dJ5_or_38 rfl rfl iR ?_
      refine r_getI dJ5_or_39 (fg1 (f := 1) fJ5 (by decide) q542 rfl) h (fun x68 h => ?_)
      refine r_put dJ5_or_42 (fp1 (f := 1) fJ5 (by decide) q542 rfl rfl rfl) fvI h (fun G69 h => ?_)
      exact w_J5_or_45 h
  · exact r_vret rfl dJ5_or_5 ⟨rfl, h⟩
theorem c_J5_or {a0 : Nat} {a1 : Option Nat} {Q : Wd → Prop} {G : Wd} (h : f_J5_or a0 a1 G Q) : call yJ5_or (Cond.code yJ5_or cJ5_or 4 (none)) 2 0 0 [vR (some a0), vR a1] G (qV Q) noX :=
  call.enter (by decide +kernel) (la_1 c1R (la_1 c1R (la_nil rfl))) rfl (w_J5_or h)
abbrev m_J5_set : Mt := (yJ5_set.cls, cJ5_set, 3, none, [], yJ5_set.name)
theorem yo_J5_set : yOK yJ5_set 1 := ⟨by decide +kernel, by decide +kernel, by decide +kernel⟩
def f_J5_set (a0 : Nat) (a1 : Int) (G : Wd) (Q : Wd → Prop) : Prop :=
  br0 a1 (0 ≤ a1) (f_J5_wordIndex a1 G (fun x10 G9 => (isC G9 a0 14 ∧ f_J5_expandTo a0 x10 G9 (fun G11 => gR G11 a0 [14] 0 (fun x12 => nn x12 (fun a13 => ldJ G11 a13 x10 (fun x14 => stJ G11 a13 x10 (jor x14 (jshl 1 a1)) (fun G15 => (isC G15 a0 14 ∧ f_J5_checkInvariants a0  G15 (fun G16 => Q G16)))))))))) (False)
theorem w_J5_set {a0 : Nat} {Q : Wd → Prop} {a1 : Int} {G : Wd} (h : f_J5_set a0 a1 G Q) : wp m_J5_set 3 0 0 0 [some (vR (some a0)), some (vI a1), none] [] G (qV Q) noX := by
  unfold f_J5_set at h
  refine r_iload_n dJ5_set_0 rfl rfl iI ?_
  refine r_if_ge (tgt := 31) dJ5_set_1 (by decide) h (fun h => ?_) (fun h => ?_)
  · refine r_iload_n dJ5_set_31 rfl rfl iI ?_
    refine r_callS dJ5_set_32 (c_J5_wordIndex h) q538 q539 q100 q540 yo_J5_wordIndex rfl (by decide) (by decide) rfl rc0 (by decide) (Nat.zero_le _) (Nat.zero_le _) (ofI fun x10 G9 h => ?_) nox
    refine r_istore_n (L' := [some (vR (some a0)), some (vI a1), some (vI x10)]) dJ5_set_35 rfl rfl iI cI (by decide) ?_
    refine r_aload_n dJ5_set_36 rfl rfl iR ?_
    refine r_iload_n dJ5_set_37 rfl rfl iI ?_
    obtain ⟨hC, h⟩ := h
    refine r_callV dJ5_set_38 hC (c_J5_expandTo h) q1449 q1451 qs17 q100 q1452 rfl yo_J5_expandTo rfl (by decide) (by decide) rfl rc0 (by decide) (Nat.zero_le _) (Nat.zero_le _) (ofV fun G11 h => ?_) nox
    refine r_aload_n dJ5_set_41 rfl rfl iR ?_
    refine r_getR dJ5_set_42 (fg1 (f := 0) fJ5 (by decide) q541 rfl) h (fun x12 h => ?_)
    refine r_iload_n dJ5_set_45 rfl rfl iI ?_
    refine r_dup2 dJ5_set_46 c1I c1R ?_
    obtain ⟨a13, e, h⟩ := h
    refine wp.cast (L' := [some (vR (some a0)), some (vI a1), some (vI x10)]) (st' := [vI x10, vR (some a13), vI x10, vR (some a13)]) rfl (by rw [e]) ?_
    refine r_lald dJ5_set_47 h (fun x14 h => ?_)
    refine r_lconst (y := 1) dJ5_set_48 (by decide) ?_
    refine r_iload_n dJ5_set_49 rfl rfl iI ?_
    refine r_lshl dJ5_set_50 ?_
    refine r_lor dJ5_set_51 ?_
    refine r_last dJ5_set_52 h (fun G15 h => ?_)
    refine r_aload_n dJ5_set_53 rfl rfl iR ?_
    obtain ⟨hC, h⟩ := h
    refine r_callV dJ5_set_54 hC (c_J5_checkInvariants h) q1330 q1332 qs14 q100 q1333 rfl yo_J5_checkInvariants rfl (by decide) (by decide) rfl rc0 (by decide) (Nat.zero_le _) (Nat.zero_le _) (ofV fun G16 h => ?_) nox
    exact r_vret rfl dJ5_set_57 ⟨rfl, h⟩
  · exact h.elim
theorem c_J5_set {a0 : Nat} {a1 : Int} {Q : Wd → Prop} {G : Wd} (h : f_J5_set a0 a1 G Q) : call yJ5_set (Cond.code yJ5_set cJ5_set 3 (none)) 3 0 0 [vR (some a0), vI a1] G (qV Q) noX :=
  call.enter (by decide +kernel) (la_1 c1R (la_1 c1I (la_nil rfl))) rfl (w_J5_set h)
abbrev m_J5_clear_2 : Mt := (yJ5_clear_2.cls, cJ5_clear_2, 3, none, [], yJ5_clear_2.name)
theorem yo_J5_clear_2 : yOK yJ5_clear_2 1 := ⟨by decide +kernel, by decide +kernel, by decide +kernel⟩
def f_J5_clear_2 (a0 : Nat) (a1 : Int) (G : Wd) (Q : Wd → Prop) : Prop :=
  br0 a1 (0 ≤ a1) (f_J5_wordIndex a1 G (fun x11 G10 => gI G10 a0 [14] 1 (fun x12 => br x11 x12 (x11 < x12) (gR G10 a0 [14] 0 (fun x13 => nn x13 (fun a14 => ldJ G10 a14 x11 (fun x15 => stJ G10 a14 x11 (jand x15 (jxor (jshl 1 a1) (-1))) (fun G16 => (isC G16 a0 14 ∧ f_J5_recalculateWordsInUse a0  G16 (fun G17 => (isC G17 a0 14 ∧ f_J5_checkInvariants a0  G17 (fun G18 => Q G18))))))))) (Q G10)))) (False)
theorem w_J5_clear_2 {a0 : Nat} {Q : Wd → Prop} {a1 : Int} {G : Wd} (h : f_J5_clear_2 a0 a1 G Q) : wp m_J5_clear_2 2 0 0 0 [some (vR (some a0)), some (vI a1), none] [] G (qV Q) noX := by
  unfold f_J5_clear_2 at h
  refine r_iload_n dJ5_clear_2_0 rfl rfl iI ?_
  refine r_if_ge (tgt := 31) dJ5_clear_2_1 (by decide) h (fun h => ?_) (fun h => ?_)
  · refine r_iload_n dJ5_clear_2_31 rfl rfl iI ?_
    refine r_callS dJ5_clear_2_32 (c_J5_wordIndex h) q538 q539 q100 q540 yo_J5_wordIndex rfl (by decide) (by decide) rfl rc0 (by decide) (Nat.zero_le _) (Nat.zero_le _) (ofI fun x11 G10 h => ?_) nox
    refine r_istore_n (L' := [some (vR (some a0)), some (vI a1), some (vI x11)]) dJ5_clear_2_35 rfl rfl iI cI (by decide) ?_
    refine r_iload_n dJ5_clear_2_36 rfl rfl iI ?_
    refine r_aload_n dJ5_clear_2_37 rfl rfl iR ?_
    refine r_getI dJ5_clear_2_38 (fg1 (f := 1) fJ5 (by decide) q542 rfl) h (fun x12 h => ?_)
    refine r_icmp_lt (tgt := 45) dJ5_clear_2_41 (by decide) h (fun h => ?_) (fun h => ?_)
    · refine r_aload_n dJ5_clear_2_45 rfl rfl iR ?_
      refine r_getR dJ5_clear_2_46 (fg1 (f := 0) fJ5 (by decide) q541 rfl) h (fun x13 h => ?_)
      refine r_iload_n dJ5_clear_2_49 rfl rfl iI ?_
      refine r_dup2 dJ5_clear_2_50 c1I c1R ?_
      obtain ⟨a14, e, h⟩ := h
      refine wp.cast (L' := [some (vR (some a0)), some (vI a1), some (vI x11)]) (st' := [vI x11, vR (some a14), vI x11, vR (some a14)]) rfl (by rw [e]) ?_
      refine r_lald dJ5_clear_2_51 h (fun x15 h => ?_)
      refine r_lconst (y := 1) dJ5_clear_2_52 (by decide) ?_
      refine r_iload_n dJ5_clear_2_53 rfl rfl iI ?_
      refine r_lshl dJ5_clear_2_54 ?_
      refine r_ldc2 (x := -1) dJ5_clear_2_55 q1437 (by decide) ?_
      refine r_lxor dJ5_clear_2_58 ?_
      refine r_land dJ5_clear_2_59 ?_
      refine r_last dJ5_clear_2_60 h (fun G16 h => ?_)
      refine r_aload_n dJ5_clear_2_61 rfl rfl iR ?_
      obtain ⟨hC, h⟩ := h
      refine r_callV dJ5_clear_2_62 hC (c_J5_recalculateWordsInUse h) q1785 q1787 qs28 q100 q1788 rfl yo_J5_recalculateWordsInUse rfl (by decide) (by decide) rfl rc0 (by decide) (Nat.zero_le _) (Nat.zero_le _) (ofV fun G17 h => ?_) nox
      refine r_aload_n dJ5_clear_2_65 rfl rfl iR ?_
      obtain ⟨hC, h⟩ := h
      refine r_callV dJ5_clear_2_66 hC (c_J5_checkInvariants h) q1330 q1332 qs14 q100 q1333 rfl yo_J5_checkInvariants rfl (by decide) (by decide) rfl rc0 (by decide) (Nat.zero_le _) (Nat.zero_le _) (ofV fun G18 h => ?_) nox
      exact r_vret rfl dJ5_clear_2_69 ⟨rfl, h⟩
    · exact r_vret rfl dJ5_clear_2_44 ⟨rfl, h⟩
  · exact h.elim
theorem c_J5_clear_2 {a0 : Nat} {a1 : Int} {Q : Wd → Prop} {G : Wd} (h : f_J5_clear_2 a0 a1 G Q) : call yJ5_clear_2 (Cond.code yJ5_clear_2 cJ5_clear_2 3 (none)) 2 0 0 [vR (some a0), vI a1] G (qV Q) noX :=
  call.enter (by decide +kernel) (la_1 c1R (la_1 c1I (la_nil rfl))) rfl (w_J5_clear_2 h)
abbrev m_J22_numberOfTrailingZeros : Mt := (yJ22_numberOfTrailingZeros.cls, cJ22_numberOfTrailingZeros, 3, some .int, [], yJ22_numberOfTrailingZeros.name)
theorem yo_J22_numberOfTrailingZeros : yOK yJ22_numberOfTrailingZeros 1 := ⟨by decide +kernel, by decide +kernel, by decide +kernel⟩
def f_J22_numberOfTrailingZeros (a0 : Int) (G : Wd) (Q : Int → Wd → Prop) : Prop :=
  br0 a0 (¬ a0 = 0) (f_J19_numberOfTrailingZeros a0 G (fun x6 G5 => Q x6 G5)) (f_J19_numberOfTrailingZeros (jushr a0 32) G (fun x8 G7 => Q (32 + x8) G7))
theorem w_J22_numberOfTrailingZeros {Q : Int → Wd → Prop} {a0 : Int} {G : Wd} (h : f_J22_numberOfTrailingZeros a0 G Q) : wp m_J22_numberOfTrailingZeros 2 0 0 0 [some (vJ a0), none, none] [] G (qI Q) noX := by
  unfold f_J22_numberOfTrailingZeros at h
  refine r_lload_n dJ22_numberOfTrailingZeros_0 rfl rfl iJ ?_
  refine r_l2i dJ22_numberOfTrailingZeros_1 ?_
  refine r_istore_n (L' := [some (vJ a0), none, some (vI a0)]) dJ22_numberOfTrailingZeros_2 rfl rfl iI cN (by decide) ?_
  refine r_iload_n dJ22_numberOfTrailingZeros_3 rfl rfl iI ?_
  refine r_if_ne (tgt := 21) dJ22_numberOfTrailingZeros_4 (by decide) h (fun h => ?_) (fun h => ?_)
  · refine r_iload_n dJ22_numberOfTrailingZeros_21 rfl rfl iI ?_
    refine r_callS dJ22_numberOfTrailingZeros_22 (c_J19_numberOfTrailingZeros h) q1441 q1442 q116 q1443 yo_J19_numberOfTrailingZeros rfl (by decide) (by decide) rfl rc0 (by decide) (Nat.zero_le _) (Nat.zero_le _) (ofI fun x6 G5 h => ?_) nox
    exact r_iret rfl dJ22_numberOfTrailingZeros_25 ⟨_, rfl, h⟩
  · refine r_bipush dJ22_numberOfTrailingZeros_7 (by decide) ?_
    refine r_lload_n dJ22_numberOfTrailingZeros_9 rfl rfl iJ ?_
    refine r_bipush dJ22_numberOfTrailingZeros_10 (by decide) ?_
    refine r_lushr dJ22_numberOfTrailingZeros_12 ?_
    refine r_l2i dJ22_numberOfTrailingZeros_13 ?_
    refine r_callS dJ22_numberOfTrailingZeros_14 (c_J19_numberOfTrailingZeros h) q1441 q1442 q116 q1443 yo_J19_numberOfTrailingZeros rfl (by decide) (by decide) rfl (rc1 c1I rc0) (by decide) (Nat.zero_le _) (Nat.zero_le _) (ofI fun x8 G7 h => ?_) nox
    refine r_iadd dJ22_numberOfTrailingZeros_17 ?_
    refine r_goto (tgt := 25) dJ22_numberOfTrailingZeros_18 (by decide) ?_
    exact r_iret rfl dJ22_numberOfTrailingZeros_25 ⟨_, rfl, h⟩
theorem c_J22_numberOfTrailingZeros {a0 : Int} {Q : Int → Wd → Prop} {G : Wd} (h : f_J22_numberOfTrailingZeros a0 G Q) : call yJ22_numberOfTrailingZeros (Cond.code yJ22_numberOfTrailingZeros cJ22_numberOfTrailingZeros 3 (some .int)) 2 0 0 [vJ a0] G (qI Q) noX :=
  call.enter (by decide +kernel) (la_2 (la_nil rfl)) rfl (w_J22_numberOfTrailingZeros h)
abbrev m_J23_init : Mt := (yJ23_init.cls, cJ23_init, 2, none, [], yJ23_init.name)
theorem yo_J23_init : yOK yJ23_init 1 := ⟨by decide +kernel, by decide +kernel, by decide +kernel⟩
def f_J23_init (a0 : Nat) (a1 : Option Nat) (G : Wd) (Q : Wd → Prop) : Prop :=
  pF G a0 [15] 3 (vR a1) (fun G11 => gR G11 a0 [15] 3 (fun x12 => nn x12 (fun a13 => (isC G11 a13 13 ∧ f_J4_size a13  G11 (fun x15 G14 => pF G14 a0 [15] 1 (vI x15) (fun G16 => pF G16 a0 [15] 2 (vI (-1)) (fun G17 => nn a1 (fun a18 => gI G17 a18 [13] 1 (fun x19 => pF G17 a0 [15] 0 (vI x19) (fun G20 => Q G20))))))))))
theorem w_J23_init {a0 : Nat} {Q : Wd → Prop} {a1 : Option Nat} {G : Wd} (h : f_J23_init a0 a1 G Q) : wp m_J23_init 3 0 0 0 [some (vR (some a0)), some (vR a1)] [] G (qV Q) noX := by
  unfold f_J23_init at h
  refine r_aload_n dJ23_init_0 rfl rfl iR ?_
  refine r_aload_n dJ23_init_1 rfl rfl iR ?_
  refine r_put dJ23_init_2 (fp1F (f := 3) fJ23 (by decide) q1104 rfl rfl rfl rfl) fvO h (fun G11 h => ?_)
  refine r_aload_n dJ23_init_5 rfl rfl iR ?_
  refine r_objInit dJ23_init_6 q1093 q142 q143 rc0 (by decide) (by decide) ?_
  refine r_aload_n dJ23_init_9 rfl rfl iR ?_
  refine r_aload_n dJ23_init_10 rfl rfl iR ?_
  refine r_getR dJ23_init_11 (fg1 (f := 3) fJ23 (by decide) q1104 rfl) h (fun x12 h => ?_)
  obtain ⟨a13, e, h⟩ := h
  refine wp.cast (L' := [some (vR (some a0)), some (vR a1)]) (st' := [vR (some a13), vR (some a0)]) rfl (by rw [e]) ?_
  obtain ⟨hC, h⟩ := h
  refine r_callV dJ23_init_14 hC (c_J4_size h) q1094 q1095 q1096 q99 q1097 rfl yo_J4_size rfl (by decide) (by decide) rfl (rc1 c1R rc0) (by decide) (Nat.zero_le _) (Nat.zero_le _) (ofI fun x15 G14 h => ?_) nox
  refine r_put dJ23_init_17 (fp1 (f := 1) fJ23 (by decide) q1102 rfl rfl rfl) fvI h (fun G16 h => ?_)
  refine r_aload_n dJ23_init_20 rfl rfl iR ?_
  refine r_iconst dJ23_init_21 ?_
  refine r_put dJ23_init_22 (fp1 (f := 2) fJ23 (by decide) q1103 rfl rfl rfl) fvI h (fun G17 h => ?_)
  refine r_aload_n dJ23_init_25 rfl rfl iR ?_
  refine r_aload_n dJ23_init_26 rfl rfl iR ?_
  obtain ⟨a18, e, h⟩ := h
  refine wp.cast (L' := [some (vR (some a0)), some (vR (some a18))]) (st' := [vR (some a18), vR (some a0)]) (by rw [e]) (by rw [e]) ?_
  refine r_getI dJ23_init_27 (fg1 (f := 1) fJ4 (by decide) q200 rfl) h (fun x19 h => ?_)
  refine r_put dJ23_init_30 (fp1 (f := 0) fJ23 (by decide) q1101 rfl rfl rfl) fvI h (fun G20 h => ?_)
  exact r_vret rfl dJ23_init_33 ⟨rfl, h⟩
theorem c_J23_init {a0 : Nat} {a1 : Option Nat} {Q : Wd → Prop} {G : Wd} (h : f_J23_init a0 a1 G Q) : call yJ23_init (Cond.code yJ23_init cJ23_init 2 (none)) 3 0 0 [vR (some a0), vR a1] G (qV Q) noX :=
  call.enter (by decide +kernel) (la_1 c1R (la_1 c1R (la_nil rfl))) rfl (w_J23_init h)
abbrev m_J3_listIterator : Mt := (yJ3_listIterator.cls, cJ3_listIterator, 2, some (.object "java/util/ListIterator"), [], yJ3_listIterator.name)
theorem yo_J3_listIterator : yOK yJ3_listIterator 1 := ⟨by decide +kernel, by decide +kernel, by decide +kernel⟩
def f_J3_listIterator (k n : Nat) (a0 : Nat) (a1 : Int) (G : Wd) (Q : Option Nat → Wd → Prop) : Prop :=
  (isC G a0 12 ∧ f_J3_checkPositionIndex a0 a1 G (fun G5 => nO G5 k n 16 5 zJ25 (fun a6 G7 => f_J25_init a6 (some a0) a1 G7 (fun G8 => Q (some a6) G8))))
theorem w_J3_listIterator {a0 : Nat} {Q : Option Nat → Wd → Prop} {k n : Nat} {a1 : Int} {G : Wd} (h : f_J3_listIterator k n a0 a1 G Q) : wp m_J3_listIterator 3 k n 0 [some (vR (some a0)), some (vI a1)] [] G (qR Q) noX := by
  unfold f_J3_listIterator at h
  refine r_aload_n dJ3_listIterator_0 rfl rfl iR ?_
  refine r_iload_n dJ3_listIterator_1 rfl rfl iI ?_
  obtain ⟨hC, h⟩ := h
  refine r_callV dJ3_listIterator_2 hC (c_J3_checkPositionIndex h) q1358 q1360 qs15 q97 q1361 rfl yo_J3_checkPositionIndex rfl (by decide) (by decide) rfl rc0 (by decide) (Nat.zero_le _) (Nat.zero_le _) (ofV fun G5 h => ?_) nox
  refine r_new dJ3_listIterator_5 fJ25 q1366 q1367 q127 dfJ25 h (fun a6 G7 h => ?_)
  refine r_dup dJ3_listIterator_8 c1R ?_
  refine r_aload_n dJ3_listIterator_9 rfl rfl iR ?_
  refine r_iload_n dJ3_listIterator_10 rfl rfl iI ?_
  refine r_callI dJ3_listIterator_11 (c_J25_init h) rfl q1368 q1369 q127 q1370 yo_J25_init rfl (by decide) (by decide) rfl (rc1 c1R rc0) (by decide) (Nat.zero_le _) (Nat.zero_le _) (ofV fun G8 h => ?_) nox
  exact r_aret rtO dJ3_listIterator_14 ⟨_, rfl, h⟩
theorem c_J3_listIterator {a0 : Nat} {a1 : Int} {k n : Nat} {Q : Option Nat → Wd → Prop} {G : Wd} (h : f_J3_listIterator k n a0 a1 G Q) : call yJ3_listIterator (Cond.code yJ3_listIterator cJ3_listIterator 2 (some (.object "java/util/ListIterator"))) 3 k n [vR (some a0), vI a1] G (qR Q) noX :=
  call.enter (by decide +kernel) (la_1 c1R (la_1 c1I (la_nil rfl))) rfl (w_J3_listIterator h)
abbrev m_J0_isEmpty : Mt := (yJ0_isEmpty.cls, cJ0_isEmpty, 1, some .boolean, [], yJ0_isEmpty.name)
theorem yo_J0_isEmpty : yOK yJ0_isEmpty 0 := ⟨by decide +kernel, by decide +kernel, by decide +kernel⟩
def f_J0_isEmpty (a0 : Nat) (G : Wd) (Q : Bool → Wd → Prop) : Prop :=
  (isC G a0 12 ∧ f_J3_size a0  G (fun x4 G3 => br0 x4 (¬ x4 = 0) (Q false G3) (Q true G3)))
theorem w_J0_isEmpty {a0 : Nat} {Q : Bool → Wd → Prop} {G : Wd} (h : f_J0_isEmpty a0 G Q) : wp m_J0_isEmpty 3 0 0 0 [some (vR (some a0))] [] G (qB Q) noX := by
  unfold f_J0_isEmpty at h
  refine r_aload_n dJ0_isEmpty_0 rfl rfl iR ?_
  obtain ⟨hC, h⟩ := h
  refine r_callO dJ0_isEmpty_1 hC (c_J3_size h) q1760 q2772 q2774 q1015 q97 q1017 q1126 ⟨by decide +kernel, by decide +kernel, by decide +kernel⟩ rfl rfl (by decide) (by decide) rfl rc0 (by decide) (Nat.zero_le _) (Nat.zero_le _) (ofI fun x4 G3 h => ?_) nox
  refine r_if_ne (tgt := 11) dJ0_isEmpty_4 (by decide) h (fun h => ?_) (fun h => ?_)
  · refine r_iconst dJ0_isEmpty_11 ?_
    refine wp.cast (st' := [vB false]) rfl (congrArg (fun q => [q]) vI0) ?_
    exact r_zret rfl dJ0_isEmpty_12 ⟨_, rfl, h⟩
  · refine r_iconst dJ0_isEmpty_7 ?_
    refine r_goto (tgt := 12) dJ0_isEmpty_8 (by decide) ?_
    refine wp.cast (st' := [vB true]) rfl (congrArg (fun q => [q]) vI1) ?_
    exact r_zret rfl dJ0_isEmpty_12 ⟨_, rfl, h⟩
theorem c_J0_isEmpty {a0 : Nat} {Q : Bool → Wd → Prop} {G : Wd} (h : f_J0_isEmpty a0 G Q) : call yJ0_isEmpty (Cond.code yJ0_isEmpty cJ0_isEmpty 1 (some .boolean)) 3 0 0 [vR (some a0)] G (qB Q) noX :=
  call.enter (by decide +kernel) (la_1 c1R (la_nil rfl)) rfl (w_J0_isEmpty h)
abbrev m_J1_listIterator : Mt := (yJ1_listIterator.cls, cJ1_listIterator, 1, some (.object "java/util/ListIterator"), [], yJ1_listIterator.name)
theorem yo_J1_listIterator : yOK yJ1_listIterator 0 := ⟨by decide +kernel, by decide +kernel, by decide +kernel⟩
def f_J1_listIterator (k n : Nat) (a0 : Nat) (G : Wd) (Q : Option Nat → Wd → Prop) : Prop :=
  (∃ k6 n7, (k6 ≤ k ∧ n7 ≤ n) ∧ (isC G a0 12 ∧ f_J3_listIterator k6 n7 a0 0 G (fun x8 G5 => Q x8 G5)))
theorem w_J1_listIterator {a0 : Nat} {Q : Option Nat → Wd → Prop} {k n : Nat} {G : Wd} (h : f_J1_listIterator k n a0 G Q) : wp m_J1_listIterator 4 k n 0 [some (vR (some a0))] [] G (qR Q) noX := by
  unfold f_J1_listIterator at h
  refine r_aload_n dJ1_listIterator_0 rfl rfl iR ?_
  refine r_iconst dJ1_listIterator_1 ?_
  obtain ⟨k6, n7, ⟨hk1, hn1⟩, h⟩ := h
  obtain ⟨hC, h⟩ := h
  refine r_callO dJ1_listIterator_2 hC (c_J3_listIterator h) q1352 q1354 q1355 q1356 q97 q1357 q1389 ⟨by decide +kernel, by decide +kernel, by decide +kernel⟩ rfl rfl (by decide) (by decide) rfl rc0 (by decide) hk1 hn1 (ofR fun x8 G5 h => ?_) nox
  exact r_aret rtO dJ1_listIterator_5 ⟨_, rfl, h⟩
theorem c_J1_listIterator {a0 : Nat} {k n : Nat} {Q : Option Nat → Wd → Prop} {G : Wd} (h : f_J1_listIterator k n a0 G Q) : call yJ1_listIterator (Cond.code yJ1_listIterator cJ1_listIterator 1 (some (.object "java/util/ListIterator"))) 4 k n [vR (some a0)] G (qR Q) noX :=
  call.enter (by decide +kernel) (la_1 c1R (la_nil rfl)) rfl (w_J1_listIterator h)
abbrev m_J2_iterator : Mt := (yJ2_iterator.cls, cJ2_iterator, 1, some (.object "java/util/Iterator"), [], yJ2_iterator.name)
theorem yo_J2_iterator : yOK yJ2_iterator 0 := ⟨by decide +kernel, by decide +kernel, by decide +kernel⟩
def f_J2_iterator (k n : Nat) (a0 : Nat) (G : Wd) (Q : Option Nat → Wd → Prop) : Prop :=
  (∃ k6 n7, (k6 ≤ k ∧ n7 ≤ n) ∧ (isC G a0 12 ∧ f_J1_listIterator k6 n7 a0  G (fun x8 G5 => Q x8 G5)))
theorem w_J2_iterator {a0 : Nat} {Q : Option Nat → Wd → Prop} {k n : Nat} {G : Wd} (h : f_J2_iterator k n a0 G Q) : wp m_J2_iterator 5 k n 0 [some (vR (some a0))] [] G (qR Q) noX := by
  unfold f_J2_iterator at h
  refine r_aload_n dJ2_iterator_0 rfl rfl iR ?_
  obtain ⟨k6, n7, ⟨hk1, hn1⟩, h⟩ := h
  obtain ⟨hC, h⟩ := h
  refine r_callU dJ2_iterator_1 hC (c_J1_listIterator h) q1346 q1347 q1349 q1350 q95 q1351 rfl rfl yo_J1_listIterator rfl (by decide) (by decide) rfl rc0 (by decide) hk1 hn1 (ofR fun x8 G5 h => ?_) nox
  exact r_aret rtO dJ2_iterator_4 ⟨_, rfl, h⟩
theorem c_J2_iterator {a0 : Nat} {k n : Nat} {Q : Option Nat → Wd → Prop} {G : Wd} (h : f_J2_iterator k n a0 G Q) : call yJ2_iterator (Cond.code yJ2_iterator cJ2_iterator 1 (some (.object "java/util/Iterator"))) 5 k n [vR (some a0)] G (qR Q) noX :=
  call.enter (by decide +kernel) (la_1 c1R (la_nil rfl)) rfl (w_J2_iterator h)
abbrev m_J4_iterator : Mt := (yJ4_iterator.cls, cJ4_iterator, 1, some (.object "java/util/Iterator"), [], yJ4_iterator.name)
theorem yo_J4_iterator : yOK yJ4_iterator 0 := ⟨by decide +kernel, by decide +kernel, by decide +kernel⟩
def f_J4_iterator (k n : Nat) (a0 : Nat) (G : Wd) (Q : Option Nat → Wd → Prop) : Prop :=
  nO G k n 15 4 zJ23 (fun a4 G5 => f_J23_init a4 (some a0) G5 (fun G6 => Q (some a4) G6))
theorem w_J4_iterator {a0 : Nat} {Q : Option Nat → Wd → Prop} {k n : Nat} {G : Wd} (h : f_J4_iterator k n a0 G Q) : wp m_J4_iterator 4 k n 0 [some (vR (some a0))] [] G (qR Q) noX := by
  unfold f_J4_iterator at h
  refine r_new dJ4_iterator_0 fJ23 q1088 q1089 q124 dfJ23 h (fun a4 G5 h => ?_)
  refine r_dup dJ4_iterator_3 c1R ?_
  refine r_aload_n dJ4_iterator_4 rfl rfl iR ?_
  refine r_callI dJ4_iterator_5 (c_J23_init h) rfl q1090 q1091 q124 q1092 yo_J23_init rfl (by decide) (by decide) rfl (rc1 c1R rc0) (by decide) (Nat.zero_le _) (Nat.zero_le _) (ofV fun G6 h => ?_) nox
  exact r_aret rtO dJ4_iterator_8 ⟨_, rfl, h⟩
theorem c_J4_iterator {a0 : Nat} {k n : Nat} {Q : Option Nat → Wd → Prop} {G : Wd} (h : f_J4_iterator k n a0 G Q) : call yJ4_iterator (Cond.code yJ4_iterator cJ4_iterator 1 (some (.object "java/util/Iterator"))) 4 k n [vR (some a0)] G (qR Q) noX :=
  call.enter (by decide +kernel) (la_1 c1R (la_nil rfl)) rfl (w_J4_iterator h)
abbrev m_J5_init : Mt := (yJ5_init.cls, cJ5_init, 2, none, [], yJ5_init.name)
theorem yo_J5_init : yOK yJ5_init 1 := ⟨by decide +kernel, by decide +kernel, by decide +kernel⟩
def f_J5_init (k n : Nat) (a0 : Nat) (a1 : Int) (G : Wd) (Q : Wd → Prop) : Prop :=
  pF G a0 [14] 1 (vI 0) (fun G7 => pF G7 a0 [14] 2 (vB false) (fun G8 => br0 a1 (0 ≤ a1) ((∃ k10 n11, (k10 ≤ k ∧ n11 ≤ n) ∧ (isC G8 a0 14 ∧ f_J5_initWords k10 n11 a0 a1 G8 (fun G9 => pF G9 a0 [14] 2 (vB true) (fun G12 => Q G12))))) (False)))
theorem w_J5_init {a0 : Nat} {Q : Wd → Prop} {k n : Nat} {a1 : Int} {G : Wd} (h : f_J5_init k n a0 a1 G Q) : wp m_J5_init 3 k n 0 [some (vR (some a0)), some (vI a1)] [] G (qV Q) noX := by
  unfold f_J5_init at h
  refine r_aload_n dJ5_init_0 rfl rfl iR ?_
  refine r_objInit dJ5_init_1 q216 q142 q143 rc0 (by decide) (by decide) ?_
  refine r_aload_n dJ5_init_4 rfl rfl iR ?_
  refine r_iconst dJ5_init_5 ?_
  refine r_put dJ5_init_6 (fp1 (f := 1) fJ5 (by decide) q542 rfl rfl rfl) fvI h (fun G7 h => ?_)
  refine r_aload_n dJ5_init_9 rfl rfl iR ?_
  refine r_iconst dJ5_init_10 ?_
  refine wp.cast (st' := [vB false, vR (some a0)]) rfl (congrArg (fun q => [q, vR (some a0)]) vI0) ?_
  refine r_put dJ5_init_11 (fp1 (f := 2) fJ5 (by decide) q543 rfl rfl rfl) fvB h (fun G8 h => ?_)
  refine r_iload_n dJ5_init_14 rfl rfl iI ?_
  refine r_if_ge (tgt := 45) dJ5_init_15 (by decide) h (fun h => ?_) (fun h => ?_)
  · refine r_aload_n dJ5_init_45 rfl rfl iR ?_
    refine r_iload_n dJ5_init_46 rfl rfl iI ?_
    obtain ⟨k10, n11, ⟨hk1, hn1⟩, h⟩ := h
    obtain ⟨hC, h⟩ := h
    refine r_callV dJ5_init_47 hC (c_J5_initWords h) q534 q536 qs1 q100 q537 rfl yo_J5_initWords rfl (by decide) (by decide) rfl rc0 (by decide) hk1 hn1 (ofV fun G9 h => ?_) nox
    refine r_aload_n dJ5_init_50 rfl rfl iR ?_
    refine r_iconst dJ5_init_51 ?_
    refine wp.cast (st' := [vB true, vR (some a0)]) rfl (congrArg (fun q => [q, vR (some a0)]) vI1) ?_
    refine r_put dJ5_init_52 (fp1 (f := 2) fJ5 (by decide) q543 rfl rfl rfl) fvB h (fun G12 h => ?_)
    exact r_vret rfl dJ5_init_55 ⟨rfl, h⟩
  · exact h.elim
theorem c_J5_init {a0 : Nat} {a1 : Int} {k n : Nat} {Q : Wd → Prop} {G : Wd} (h : f_J5_init k n a0 a1 G Q) : call yJ5_init (Cond.code yJ5_init cJ5_init 2 (none)) 3 k n [vR (some a0), vI a1] G (qV Q) noX :=
  call.enter (by decide +kernel) (la_1 c1R (la_1 c1I (la_nil rfl))) rfl (w_J5_init h)
abbrev m_J5_nextClearBit : Mt := (yJ5_nextClearBit.cls, cJ5_nextClearBit, 5, some .int, [], yJ5_nextClearBit.name)
theorem yo_J5_nextClearBit : yOK yJ5_nextClearBit 1 := ⟨by decide +kernel, by decide +kernel, by decide +kernel⟩
def f_J5_nextClearBit_67_b (a0 : Nat) (k67 : Int → Int → Wd → Prop) (l2 : Int) (l3 : Int) (G : Wd) (Q : Int → Wd → Prop) : Prop :=
  ((R64 l3 ∧ R64 0) ∧ br0 (sg l3 0) ((sg l3 0) = 0) (gI G a0 [14] 1 (fun x15 => br (l2 + 1) x15 (¬ (l2 + 1) = x15) (gR G a0 [14] 0 (fun x16 => nn x16 (fun a17 => ldJ G a17 (l2 + 1) (fun x18 => k67 (l2 + 1) (jxor x18 (-1)) G)))) (gI G a0 [14] 1 (fun x19 => Q (x19 * 64) G)))) (f_J22_numberOfTrailingZeros l3 G (fun x21 G20 => Q ((l2 * 64) + x21) G20)))
theorem w_J5_nextClearBit_67_b {a0 : Nat} {Q : Int → Wd → Prop} {k67 : Int → Int → Wd → Prop} (hk67 : ∀ {l2 : Int} {l3 : Int} {G : Wd}, k67 l2 l3 G → wp m_J5_nextClearBit 3 0 0 67 [some (vR (some a0)), none, some (vI l2), some (vJ l3), none] [] G (qI Q) noX) {l2 : Int} {l3 : Int} {G : Wd} (h : f_J5_nextClearBit_67_b a0 k67 l2 l3 G Q) : wp m_J5_nextClearBit 3 0 0 67 [some (vR (some a0)), none, some (vI l2), some (vJ l3), none] [] G (qI Q) noX := by
  unfold f_J5_nextClearBit_67_b at h
  refine r_lload_n dJ5_nextClearBit_67 rfl rfl iJ ?_
  refine r_lconst (y := 0) dJ5_nextClearBit_68 (by decide) ?_
  refine r_lcmp dJ5_nextClearBit_69 h (fun h => ?_)
  refine r_if_eq (tgt := 83) dJ5_nextClearBit_70 (by decide) h (fun h => ?_) (fun h => ?_)
  · refine r_iinc (L' := [some (vR (some a0)), none, some (vI (l2 + 1)), some (vJ l3), none]) dJ5_nextClearBit_83 rfl rfl cN (by decide) ?_
    refine r_iload_n dJ5_nextClearBit_86 rfl rfl iI ?_
    refine r_aload_n dJ5_nextClearBit_87 rfl rfl iR ?_
    refine r_getI dJ5_nextClearBit_88 (fg1 (f := 1) fJ5 (by decide) q542 rfl) h (fun x15 h => ?_)
    refine r_icmp_ne (tgt := 102) dJ5_nextClearBit_91 (by decide) h (fun h => ?_) (fun h => ?_)
    · refine r_aload_n dJ5_nextClearBit_102 rfl rfl iR ?_
      refine r_getR dJ5_nextClearBit_103 (fg1 (f := 0) fJ5 (by decide) q541 rfl) h (fun x16 h => ?_)
      refine r_iload_n dJ5_nextClearBit_106 rfl rfl iI ?_
      obtain ⟨a17, e, h⟩ := h
      refine wp.cast (L' := [some (vR (some a0)), none, some (vI (l2 + 1)), some (vJ l3), none]) (st' := [vI (l2 + 1), vR (some a17)]) rfl (by rw [e]) ?_
      refine r_lald dJ5_nextClearBit_107 h (fun x18 h => ?_)
      refine r_ldc2 (x := -1) dJ5_nextClearBit_108 q1437 (by decide) ?_
      refine r_lxor dJ5_nextClearBit_111 ?_
      refine r_lstore_n (L' := [some (vR (some a0)), none, some (vI (l2 + 1)), some (vJ (jxor x18 (-1))), none]) dJ5_nextClearBit_112 rfl rfl iJ cI (by decide) ?_
      refine r_goto (tgt := 67) dJ5_nextClearBit_113 (by decide) ?_
      exact hk67 h
    · refine r_aload_n dJ5_nextClearBit_94 rfl rfl iR ?_
      refine r_getI dJ5_nextClearBit_95 (fg1 (f := 1) fJ5 (by decide) q542 rfl) h (fun x19 h => ?_)
      refine r_bipush dJ5_nextClearBit_98 (by decide) ?_
      refine r_imul dJ5_nextClearBit_100 ?_
      exact r_iret rfl dJ5_nextClearBit_101 ⟨_, rfl, h⟩
  · refine r_iload_n dJ5_nextClearBit_73 rfl rfl iI ?_
    refine r_bipush dJ5_nextClearBit_74 (by decide) ?_
    refine r_imul dJ5_nextClearBit_76 ?_
    refine r_lload_n dJ5_nextClearBit_77 rfl rfl iJ ?_
    refine r_callS dJ5_nextClearBit_78 (c_J22_numberOfTrailingZeros h) q1438 q1439 q123 q1440 yo_J22_numberOfTrailingZeros rfl (by decide) (by decide) rfl (rc1 c1I rc0) (by decide) (Nat.zero_le _) (Nat.zero_le _) (ofI fun x21 G20 h => ?_) nox
    refine r_iadd dJ5_nextClearBit_81 ?_
    exact r_iret rfl dJ5_nextClearBit_82 ⟨_, rfl, h⟩
def f_J5_nextClearBit_67 (a0 : Nat) (Q : Int → Wd → Prop) : Nat → Int → Int → Wd → Prop
  | 0, _, _, _ => False
  | fl + 1, l2, l3, G => f_J5_nextClearBit_67_b a0  (fun l2 l3 G => f_J5_nextClearBit_67 a0  Q fl l2 l3 G) l2 l3 G Q
theorem w_J5_nextClearBit_67 {a0 : Nat} {Q : Int → Wd → Prop} : ∀ (fl : Nat) {l2 : Int} {l3 : Int} {G : Wd}, f_J5_nextClearBit_67 a0 Q fl l2 l3 G → wp m_J5_nextClearBit 3 0 0 67 [some (vR (some a0)), none, some (vI l2), some (vJ l3), none] [] G (qI Q) noX := by
  intro fl
  induction fl with
  | zero => intro l2 l3 G h; exact (show False from h).elim
  | succ fl ih => intro l2 l3 G h; exact w_J5_nextClearBit_67_b  (fun h => ih h) h
def f_J5_nextClearBit (a0 : Nat) (a1 : Int) (G : Wd) (Q : Int → Wd → Prop) : Prop :=
  br0 a1 (0 ≤ a1) ((isC G a0 14 ∧ f_J5_checkInvariants a0  G (fun G22 => f_J5_wordIndex a1 G22 (fun x24 G23 => gI G23 a0 [14] 1 (fun x25 => br x24 x25 (x24 < x25) (gR G23 a0 [14] 0 (fun x26 => nn x26 (fun a27 => ldJ G23 a27 x24 (fun x28 => ∃ fl29, f_J5_nextClearBit_67 a0 Q fl29 x24 (jand (jxor x28 (-1)) (jshl (-1) a1)) G23)))) (Q a1 G23)))))) (False)
theorem w_J5_nextClearBit {a0 : Nat} {Q : Int → Wd → Prop} {a1 : Int} {G : Wd} (h : f_J5_nextClearBit a0 a1 G Q) : wp m_J5_nextClearBit 3 0 0 0 [some (vR (some a0)), some (vI a1), none, none, none] [] G (qI Q) noX := by
  unfold f_J5_nextClearBit at h
  refine r_iload_n dJ5_nextClearBit_0 rfl rfl iI ?_
  refine r_if_ge (tgt := 31) dJ5_nextClearBit_1 (by decide) h (fun h => ?_) (fun h => ?_)
  · refine r_aload_n dJ5_nextClearBit_31 rfl rfl iR ?_
    obtain ⟨hC, h⟩ := h
    refine r_callV dJ5_nextClearBit_32 hC (c_J5_checkInvariants h) q1330 q1332 qs14 q100 q1333 rfl yo_J5_checkInvariants rfl (by decide) (by decide) rfl rc0 (by decide) (Nat.zero_le _) (Nat.zero_le _) (ofV fun G22 h => ?_) nox
    refine r_iload_n dJ5_nextClearBit_35 rfl rfl iI ?_
    refine r_callS dJ5_nextClearBit_36 (c_J5_wordIndex h) q538 q539 q100 q540 yo_J5_wordIndex rfl (by decide) (by decide) rfl rc0 (by decide) (Nat.zero_le _) (Nat.zero_le _) (ofI fun x24 G23 h => ?_) nox
    refine r_istore_n (L' := [some (vR (some a0)), some (vI a1), some (vI x24), none, none]) dJ5_nextClearBit_39 rfl rfl iI cI (by decide) ?_
    refine r_iload_n dJ5_nextClearBit_40 rfl rfl iI ?_
    refine r_aload_n dJ5_nextClearBit_41 rfl rfl iR ?_
    refine r_getI dJ5_nextClearBit_42 (fg1 (f := 1) fJ5 (by decide) q542 rfl) h (fun x25 h => ?_)
    refine r_icmp_lt (tgt := 50) dJ5_nextClearBit_45 (by decide) h (fun h => ?_) (fun h => ?_)
    · refine r_aload_n dJ5_nextClearBit_50 rfl rfl iR ?_
      refine r_getR dJ5_nextClearBit_51 (fg1 (f := 0) fJ5 (by decide) q541 rfl) h (fun x26 h => ?_)
      refine r_iload_n dJ5_nextClearBit_54 rfl rfl iI ?_
      obtain ⟨a27, e, h⟩ := h
      refine wp.cast (L' := [some (vR (some a0)), some (vI a1), some (vI x24), none, none]) (st' := [vI x24, vR (some a27)]) rfl (by rw [e]) ?_
      refine r_lald dJ5_nextClearBit_55 h (fun x28 h => ?_)
      refine r_ldc2 (x := -1) dJ5_nextClearBit_56 q1437 (by decide) ?_
      refine r_lxor dJ5_nextClearBit_59 ?_
      refine r_ldc2 (x := -1) dJ5_nextClearBit_60 q1437 (by decide) ?_
      refine r_iload_n dJ5_nextClearBit_63 rfl rfl iI ?_
      refine r_lshl dJ5_nextClearBit_64 ?_
      refine r_land dJ5_nextClearBit_65 ?_
      refine r_lstore_n (L' := [some (vR (some a0)), some (vI a1), some (vI x24), some (vJ (jand (jxor x28 (-1)) (jshl (-1) a1))), none]) dJ5_nextClearBit_66 rfl rfl iJ cI (by decide) ?_
      refine wp.locals (L' := [some (vR (some a0)), none, some (vI x24), some (vJ (jand (jxor x28 (-1)) (jshl (-1) a1))), none]) (ls_s (ls_n (ls_s (ls_s (ls_n ls_0))))) ?_
      obtain ⟨fl29, h⟩ := h
      exact w_J5_nextClearBit_67 fl29 h
    · refine r_iload_n dJ5_nextClearBit_48 rfl rfl iI ?_
      exact r_iret rfl dJ5_nextClearBit_49 ⟨_, rfl, h⟩
  · exact h.elim
theorem c_J5_nextClearBit {a0 : Nat} {a1 : Int} {Q : Int → Wd → Prop} {G : Wd} (h : f_J5_nextClearBit a0 a1 G Q) : call yJ5_nextClearBit (Cond.code yJ5_nextClearBit cJ5_nextClearBit 5 (some .int)) 3 0 0 [vR (some a0), vI a1] G (qI Q) noX :=
  call.enter (by decide +kernel) (la_1 c1R (la_1 c1I (la_nil rfl))) rfl (w_J5_nextClearBit h)
