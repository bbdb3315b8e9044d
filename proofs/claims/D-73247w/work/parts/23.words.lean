/-! Words, Rule, Order, decompiled (printed by genx.py) -/
set_option maxRecDepth 100000
theorem yo_X7_thing : yOK yX7_thing 1 := ⟨by decide +kernel, by decide +kernel, by decide +kernel⟩
abbrev m_X5_init : Mt := (yX5_init.cls, cX5_init, 4, none, [], yX5_init.name)
theorem yo_X5_init : yOK yX5_init 3 := ⟨by decide +kernel, by decide +kernel, by decide +kernel⟩
def f_X5_init (a0 : Nat) (a1 : Option Nat) (a2 : Int) (a3 : Int) (G : Wd) (Q : Wd → Prop) : Prop :=
  pF G a0 [4, 6, 11] 0 (vR a1) (fun G4 => pF G4 a0 [4, 6, 11] 1 (vI a2) (fun G5 => ((R32 a2 ∧ R32 a3) ∧ pF G5 a0 [4, 6, 11] 2 (vI (min a2 a3)) (fun G6 => Q G6))))
theorem w_X5_init {a0 : Nat} {Q : Wd → Prop} {a1 : Option Nat} {a2 : Int} {a3 : Int} {G : Wd} (h : f_X5_init a0 a1 a2 a3 G Q) : wp m_X5_init 1 0 0 0 [some (vR (some a0)), some (vR a1), some (vI a2), some (vI a3)] [] G (qV Q) noX := by
  unfold f_X5_init at h
  refine r_aload_n dX5_init_0 rfl rfl iR ?_
  refine r_objInit dX5_init_1 q793 q142 q143 rc0 (by decide) (by decide) ?_
  refine r_aload_n dX5_init_4 rfl rfl iR ?_
  refine r_aload_n dX5_init_5 rfl rfl iR ?_
  refine r_put dX5_init_6 (fpc (fp1F (f := 0) fX5 (by decide) q795 rfl rfl rfl rfl) (fpc (fp1F (f := 0) fX7 (by decide) q795 rfl rfl rfl rfl) (fp1F (f := 0) fX12 (by decide) q795 rfl rfl rfl rfl))) fvA h (fun G4 h => ?_)
  refine r_aload_n dX5_init_9 rfl rfl iR ?_
  refine r_iload_n dX5_init_10 rfl rfl iI ?_
  refine r_put dX5_init_11 (fpc (fp1F (f := 1) fX5 (by decide) q796 rfl rfl rfl rfl) (fpc (fp1F (f := 1) fX7 (by decide) q796 rfl rfl rfl rfl) (fp1F (f := 1) fX12 (by decide) q796 rfl rfl rfl rfl))) fvI h (fun G5 h => ?_)
  refine r_aload_n dX5_init_14 rfl rfl iR ?_
  refine r_iload_n dX5_init_15 rfl rfl iI ?_
  refine r_iload_n dX5_init_16 rfl rfl iI ?_
  refine r_mmin dX5_init_17 q794 (rc1 c1R rc0) (by decide) (by decide) h (fun h => ?_)
  refine r_put dX5_init_20 (fpc (fp1F (f := 2) fX5 (by decide) q797 rfl rfl rfl rfl) (fpc (fp1F (f := 2) fX7 (by decide) q797 rfl rfl rfl rfl) (fp1F (f := 2) fX12 (by decide) q797 rfl rfl rfl rfl))) fvI h (fun G6 h => ?_)
  exact r_vret rfl dX5_init_23 ⟨rfl, h⟩
theorem c_X5_init {a0 : Nat} {a1 : Option Nat} {a2 : Int} {a3 : Int} {Q : Wd → Prop} {G : Wd} (h : f_X5_init a0 a1 a2 a3 G Q) : call yX5_init (Cond.code yX5_init cX5_init 4 (none)) 1 0 0 [vR (some a0), vR a1, vI a2, vI a3] G (qV Q) noX :=
  call.enter (by decide +kernel) (la_1 c1R (la_1 c1R (la_1 c1I (la_1 c1I (la_nil rfl))))) rfl (w_X5_init h)
abbrev m_X5_here : Mt := (yX5_here.cls, cX5_here, 1, some .int, [], yX5_here.name)
theorem yo_X5_here : yOK yX5_here 0 := ⟨by decide +kernel, by decide +kernel, by decide +kernel⟩
def f_X5_here (a0 : Nat) (G : Wd) (Q : Int → Wd → Prop) : Prop :=
  gI G a0 [4, 6, 11] 3 (fun x7 => gI G a0 [4, 6, 11] 2 (fun x8 => br x7 x8 (x8 ≤ x7) (Q (-1) G) (gR G a0 [4, 6, 11] 0 (fun x9 => gI G a0 [4, 6, 11] 3 (fun x10 => nn x9 (fun a11 => ldI G a11 1 x10 (fun x12 => Q (iand x12 255) G)))))))
theorem w_X5_here {a0 : Nat} {Q : Int → Wd → Prop} {G : Wd} (h : f_X5_here a0 G Q) : wp m_X5_here 1 0 0 0 [some (vR (some a0))] [] G (qI Q) noX := by
  unfold f_X5_here at h
  refine r_aload_n dX5_here_0 rfl rfl iR ?_
  refine r_getI dX5_here_1 (fgc (fg1 (f := 3) fX5 (by decide) q800 rfl) (fgc (fg1 (f := 3) fX7 (by decide) q800 rfl) (fg1 (f := 3) fX12 (by decide) q800 rfl))) h (fun x7 h => ?_)
  refine r_aload_n dX5_here_4 rfl rfl iR ?_
  refine r_getI dX5_here_5 (fgc (fg1 (f := 2) fX5 (by decide) q797 rfl) (fgc (fg1 (f := 2) fX7 (by decide) q797 rfl) (fg1 (f := 2) fX12 (by decide) q797 rfl))) h (fun x8 h => ?_)
  refine r_icmp_ge (tgt := 27) dX5_here_8 (by decide) h (fun h => ?_) (fun h => ?_)
  · refine r_iconst dX5_here_27 ?_
    exact r_iret rfl dX5_here_28 ⟨_, rfl, h⟩
  · refine r_aload_n dX5_here_11 rfl rfl iR ?_
    refine r_getR dX5_here_12 (fgc (fg1 (f := 0) fX5 (by decide) q795 rfl) (fgc (fg1 (f := 0) fX7 (by decide) q795 rfl) (fg1 (f := 0) fX12 (by decide) q795 rfl))) h (fun x9 h => ?_)
    refine r_aload_n dX5_here_15 rfl rfl iR ?_
    refine r_getI dX5_here_16 (fgc (fg1 (f := 3) fX5 (by decide) q800 rfl) (fgc (fg1 (f := 3) fX7 (by decide) q800 rfl) (fg1 (f := 3) fX12 (by decide) q800 rfl))) h (fun x10 h => ?_)
    obtain ⟨a11, e, h⟩ := h
    refine wp.cast (L' := [some (vR (some a0))]) (st' := [vI x10, vR (some a11)]) rfl (by rw [e]) ?_
    refine r_bald dX5_here_19 h (fun x12 h => ?_)
    refine r_sipush dX5_here_20 (by decide) ?_
    refine r_iand dX5_here_23 ?_
    refine r_goto (tgt := 28) dX5_here_24 (by decide) ?_
    exact r_iret rfl dX5_here_28 ⟨_, rfl, h⟩
theorem c_X5_here {a0 : Nat} {Q : Int → Wd → Prop} {G : Wd} (h : f_X5_here a0 G Q) : call yX5_here (Cond.code yX5_here cX5_here 1 (some .int)) 1 0 0 [vR (some a0)] G (qI Q) noX :=
  call.enter (by decide +kernel) (la_1 c1R (la_nil rfl)) rfl (w_X5_here h)
abbrev m_X5_need : Mt := (yX5_need.cls, cX5_need, 2, none, [], yX5_need.name)
theorem yo_X5_need : yOK yX5_need 1 := ⟨by decide +kernel, by decide +kernel, by decide +kernel⟩
def f_X5_need (k n : Nat) (a0 : Nat) (a1 : Bool) (G : Wd) (Q : Wd → Prop) (X : Xt) : Prop :=
  brB a1 (Q G) (nF G k n a0 (fun a3 G4 => (isC G4 a3 5 ∧ X "QueueDrive$Fault" a3 G4)))
theorem w_X5_need {a0 : Nat} {Q : Wd → Prop} {X : Xt} {k n : Nat} {a1 : Bool} {G : Wd} (h : f_X5_need k n a0 a1 G Q X) : wp m_X5_need 9 k n 0 [some (vR (some a0)), some (vB a1)] [] G (qV Q) X := by
  unfold f_X5_need at h
  refine r_iload_n dX5_need_0 rfl rfl iB ?_
  refine r_ifZ_ne (tgt := 16) dX5_need_1 (by decide) h (fun h => ?_) (fun h => ?_)
  · exact r_vret rfl dX5_need_16 ⟨rfl, h⟩
  · refine r_newFault dX5_need_4 dX5_need_7 dX5_need_8 dX5_need_9 dX5_need_12 q837 q846 (fgc (fg1 (f := 3) fX5 (by decide) q800 rfl) (fgc (fg1 (f := 3) fX7 (by decide) q800 rfl) (fg1 (f := 3) fX12 (by decide) q800 rfl))) rfl (by decide) (by decide) h (fun a3 G4 h => ?_)
    obtain ⟨hC, h⟩ := h
    exact r_athrow dX5_need_15 hC rfl (wpX.out (by decide) h)
theorem c_X5_need {a0 : Nat} {a1 : Bool} {k n : Nat} {Q : Wd → Prop} {X : Xt} {G : Wd} (h : f_X5_need k n a0 a1 G Q X) : call yX5_need (Cond.code yX5_need cX5_need 2 (none)) 9 k n [vR (some a0), vB a1] G (qV Q) X :=
  call.enter (by decide +kernel) (la_1 c1R (la_1 c1B (la_nil rfl))) rfl (w_X5_need h)
abbrev m_X5_needEnd : Mt := (yX5_needEnd.cls, cX5_needEnd, 1, none, [], yX5_needEnd.name)
theorem yo_X5_needEnd : yOK yX5_needEnd 0 := ⟨by decide +kernel, by decide +kernel, by decide +kernel⟩
def f_X5_needEnd_17 (a0 : Nat) (k n : Nat) (s1 : Bool) (G : Wd) (Q : Wd → Prop) (X : Xt) : Prop :=
  (∃ k7 n8, (k7 ≤ k ∧ n8 ≤ n) ∧ ((∃ ci, ci ∈ [4, 6, 11] ∧ isC G a0 ci) ∧ f_X5_need k7 n8 a0 s1 G (fun G6 => Q G6) X))
theorem w_X5_needEnd_17 {a0 : Nat} {Q : Wd → Prop} {X : Xt} {k n : Nat} {s1 : Bool} {G : Wd} (h : f_X5_needEnd_17 a0 k n s1 G Q X) : wp m_X5_needEnd 10 k n 17 [none] [vB s1, vR (some a0)] G (qV Q) X := by
  unfold f_X5_needEnd_17 at h
  obtain ⟨k7, n8, ⟨hk1, hn1⟩, h⟩ := h
  obtain ⟨hC, h⟩ := h
  refine r_callM dX5_needEnd_17 hC (c_X5_need h) (soc (so (ci := 4) rfl q830 q833 q832 rfl) (soc (so (ci := 6) rfl q830 q833 q835 rfl) (soc (so (ci := 11) rfl q830 q833 q834 rfl) so0))) q831 q118 q836 yo_X5_need rfl (by decide) (by decide) rfl rc0 (by decide) hk1 hn1 (ofV fun G6 h => ?_) (fun E q G h => wpX.out (by decide) h)
  exact r_vret rfl dX5_needEnd_20 ⟨rfl, h⟩
def f_X5_needEnd (k n : Nat) (a0 : Nat) (G : Wd) (Q : Wd → Prop) (X : Xt) : Prop :=
  gI G a0 [4, 6, 11] 3 (fun x9 => gI G a0 [4, 6, 11] 1 (fun x10 => br x9 x10 (¬ x9 = x10) (f_X5_needEnd_17 a0 k n false G Q X) (f_X5_needEnd_17 a0 k n true G Q X)))
theorem w_X5_needEnd {a0 : Nat} {Q : Wd → Prop} {X : Xt} {k n : Nat} {G : Wd} (h : f_X5_needEnd k n a0 G Q X) : wp m_X5_needEnd 10 k n 0 [some (vR (some a0))] [] G (qV Q) X := by
  unfold f_X5_needEnd at h
  refine r_aload_n dX5_needEnd_0 rfl rfl iR ?_
  refine r_aload_n dX5_needEnd_1 rfl rfl iR ?_
  refine r_getI dX5_needEnd_2 (fgc (fg1 (f := 3) fX5 (by decide) q800 rfl) (fgc (fg1 (f := 3) fX7 (by decide) q800 rfl) (fg1 (f := 3) fX12 (by decide) q800 rfl))) h (fun x9 h => ?_)
  refine r_aload_n dX5_needEnd_5 rfl rfl iR ?_
  refine r_getI dX5_needEnd_6 (fgc (fg1 (f := 1) fX5 (by decide) q796 rfl) (fgc (fg1 (f := 1) fX7 (by decide) q796 rfl) (fg1 (f := 1) fX12 (by decide) q796 rfl))) h (fun x10 h => ?_)
  refine r_icmp_ne (tgt := 16) dX5_needEnd_9 (by decide) h (fun h => ?_) (fun h => ?_)
  · refine r_iconst dX5_needEnd_16 ?_
    refine wp.cast (st' := [vB false, vR (some a0)]) rfl (congrArg (fun q => [q, vR (some a0)]) vI0) ?_
    refine wp.locals (L' := [none]) (ls_n ls_0) ?_
    exact w_X5_needEnd_17 h
  · refine r_iconst dX5_needEnd_12 ?_
    refine r_goto (tgt := 17) dX5_needEnd_13 (by decide) ?_
    refine wp.cast (st' := [vB true, vR (some a0)]) rfl (congrArg (fun q => [q, vR (some a0)]) vI1) ?_
    refine wp.locals (L' := [none]) (ls_n ls_0) ?_
    exact w_X5_needEnd_17 h
theorem c_X5_needEnd {a0 : Nat} {k n : Nat} {Q : Wd → Prop} {X : Xt} {G : Wd} (h : f_X5_needEnd k n a0 G Q X) : call yX5_needEnd (Cond.code yX5_needEnd cX5_needEnd 1 (none)) 10 k n [vR (some a0)] G (qV Q) X :=
  call.enter (by decide +kernel) (la_1 c1R (la_nil rfl)) rfl (w_X5_needEnd h)
abbrev m_X5_passes : Mt := (yX5_passes.cls, cX5_passes, 2, some .boolean, [], yX5_passes.name)
theorem yo_X5_passes : yOK yX5_passes 1 := ⟨by decide +kernel, by decide +kernel, by decide +kernel⟩
def f_X5_passes (a0 : Nat) (a1 : Int) (G : Wd) (Q : Bool → Wd → Prop) : Prop :=
  ((∃ ci, ci ∈ [4, 6, 11] ∧ isC G a0 ci) ∧ f_X5_here a0  G (fun x6 G5 => br x6 a1 (x6 = a1) (gI G5 a0 [4, 6, 11] 3 (fun x7 => pF G5 a0 [4, 6, 11] 3 (vI (x7 + 1)) (fun G8 => Q true G8))) (Q false G5)))
theorem w_X5_passes {a0 : Nat} {Q : Bool → Wd → Prop} {a1 : Int} {G : Wd} (h : f_X5_passes a0 a1 G Q) : wp m_X5_passes 2 0 0 0 [some (vR (some a0)), some (vI a1)] [] G (qB Q) noX := by
  unfold f_X5_passes at h
  refine r_aload_n dX5_passes_0 rfl rfl iR ?_
  obtain ⟨hC, h⟩ := h
  refine r_callM dX5_passes_1 hC (c_X5_here h) (soc (so (ci := 4) rfl q822 q825 q824 rfl) (soc (so (ci := 6) rfl q822 q825 q827 rfl) (soc (so (ci := 11) rfl q822 q825 q826 rfl) so0))) q823 q118 q828 yo_X5_here rfl (by decide) (by decide) rfl rc0 (by decide) (Nat.zero_le _) (Nat.zero_le _) (ofI fun x6 G5 h => ?_) nox
  refine r_iload_n dX5_passes_4 rfl rfl iI ?_
  refine r_icmp_eq (tgt := 10) dX5_passes_5 (by decide) h (fun h => ?_) (fun h => ?_)
  · refine r_aload_n dX5_passes_10 rfl rfl iR ?_
    refine r_dup dX5_passes_11 c1R ?_
    refine r_getI dX5_passes_12 (fgc (fg1 (f := 3) fX5 (by decide) q800 rfl) (fgc (fg1 (f := 3) fX7 (by decide) q800 rfl) (fg1 (f := 3) fX12 (by decide) q800 rfl))) h (fun x7 h => ?_)
    refine r_iconst dX5_passes_15 ?_
    refine r_iadd dX5_passes_16 ?_
    refine r_put dX5_passes_17 (fpc (fp1 (f := 3) fX5 (by decide) q800 rfl rfl rfl) (fpc (fp1 (f := 3) fX7 (by decide) q800 rfl rfl rfl) (fp1 (f := 3) fX12 (by decide) q800 rfl rfl rfl))) fvI h (fun G8 h => ?_)
    refine r_iconst dX5_passes_20 ?_
    refine wp.cast (st' := [vB true]) rfl (congrArg (fun q => [q]) vI1) ?_
    exact r_zret rfl dX5_passes_21 ⟨_, rfl, h⟩
  · refine r_iconst dX5_passes_8 ?_
    refine wp.cast (st' := [vB false]) rfl (congrArg (fun q => [q]) vI0) ?_
    exact r_zret rfl dX5_passes_9 ⟨_, rfl, h⟩
theorem c_X5_passes {a0 : Nat} {a1 : Int} {Q : Bool → Wd → Prop} {G : Wd} (h : f_X5_passes a0 a1 G Q) : call yX5_passes (Cond.code yX5_passes cX5_passes 2 (some .boolean)) 2 0 0 [vR (some a0), vI a1] G (qB Q) noX :=
  call.enter (by decide +kernel) (la_1 c1R (la_1 c1I (la_nil rfl))) rfl (w_X5_passes h)
abbrev m_X5_digit : Mt := (yX5_digit.cls, cX5_digit, 3, some .int, [], yX5_digit.name)
theorem yo_X5_digit : yOK yX5_digit 2 := ⟨by decide +kernel, by decide +kernel, by decide +kernel⟩
def f_X5_digit (k n : Nat) (a0 : Nat) (a1 : Int) (a2 : Int) (G : Wd) (Q : Int → Wd → Prop) (X : Xt) : Prop :=
  ((∃ ci, ci ∈ [4, 6, 11] ∧ isC G a0 ci) ∧ f_X5_here a0  G (fun x15 G14 => ok32 x15 (ok32 a1 (ok32 ((a1 + a2) - 1) (f_X1_in x15 a1 ((a1 + a2) - 1) G14 (fun x17 G16 => (∃ k19 n20, (k19 ≤ k ∧ n20 ≤ n) ∧ ((∃ ci, ci ∈ [4, 6, 11] ∧ isC G16 a0 ci) ∧ f_X5_need k19 n20 a0 x17 G16 (fun G18 => gI G18 a0 [4, 6, 11] 3 (fun x21 => pF G18 a0 [4, 6, 11] 3 (vI (x21 + 1)) (fun G22 => gR G22 a0 [4, 6, 11] 0 (fun x23 => gI G22 a0 [4, 6, 11] 3 (fun x24 => nn x23 (fun a25 => ldI G22 a25 1 (x24 - 1) (fun x26 => Q (x26 - a1) G22))))))) X))))))))
theorem w_X5_digit {a0 : Nat} {Q : Int → Wd → Prop} {X : Xt} {k n : Nat} {a1 : Int} {a2 : Int} {G : Wd} (h : f_X5_digit k n a0 a1 a2 G Q X) : wp m_X5_digit 10 k n 0 [some (vR (some a0)), some (vI a1), some (vI a2)] [] G (qI Q) X := by
  unfold f_X5_digit at h
  refine r_aload_n dX5_digit_0 rfl rfl iR ?_
  refine r_aload_n dX5_digit_1 rfl rfl iR ?_
  obtain ⟨hC, h⟩ := h
  refine r_callM dX5_digit_2 hC (c_X5_here h) (soc (so (ci := 4) rfl q822 q825 q824 rfl) (soc (so (ci := 6) rfl q822 q825 q827 rfl) (soc (so (ci := 11) rfl q822 q825 q826 rfl) so0))) q823 q118 q828 yo_X5_here rfl (by decide) (by decide) rfl (rc1 c1R rc0) (by decide) (Nat.zero_le _) (Nat.zero_le _) (ofI fun x15 G14 h => ?_) nox
  refine r_i2l dX5_digit_5 h (fun h => ?_)
  refine r_iload_n dX5_digit_6 rfl rfl iI ?_
  refine r_i2l dX5_digit_7 h (fun h => ?_)
  refine r_iload_n dX5_digit_8 rfl rfl iI ?_
  refine r_iload_n dX5_digit_9 rfl rfl iI ?_
  refine r_iadd dX5_digit_10 ?_
  refine r_iconst dX5_digit_11 ?_
  refine r_isub dX5_digit_12 ?_
  refine r_i2l dX5_digit_13 h (fun h => ?_)
  refine r_callSN dX5_digit_14 (c_X1_in h) q829 q777 q92 q778 yo_X1_in rfl (by decide) (by decide) rfl (rc1 c1R rc0) (by decide) (Nat.zero_le _) (Nat.zero_le _) (ofB fun x17 G16 h => ?_) nox
  obtain ⟨k19, n20, ⟨hk1, hn1⟩, h⟩ := h
  obtain ⟨hC, h⟩ := h
  refine r_callM dX5_digit_17 hC (c_X5_need h) (soc (so (ci := 4) rfl q830 q833 q832 rfl) (soc (so (ci := 6) rfl q830 q833 q835 rfl) (soc (so (ci := 11) rfl q830 q833 q834 rfl) so0))) q831 q118 q836 yo_X5_need rfl (by decide) (by decide) rfl rc0 (by decide) hk1 hn1 (ofV fun G18 h => ?_) (fun E q G h => wpX.out (by decide) h)
  refine r_aload_n dX5_digit_20 rfl rfl iR ?_
  refine r_dup dX5_digit_21 c1R ?_
  refine r_getI dX5_digit_22 (fgc (fg1 (f := 3) fX5 (by decide) q800 rfl) (fgc (fg1 (f := 3) fX7 (by decide) q800 rfl) (fg1 (f := 3) fX12 (by decide) q800 rfl))) h (fun x21 h => ?_)
  refine r_iconst dX5_digit_25 ?_
  refine r_iadd dX5_digit_26 ?_
  refine r_put dX5_digit_27 (fpc (fp1 (f := 3) fX5 (by decide) q800 rfl rfl rfl) (fpc (fp1 (f := 3) fX7 (by decide) q800 rfl rfl rfl) (fp1 (f := 3) fX12 (by decide) q800 rfl rfl rfl))) fvI h (fun G22 h => ?_)
  refine r_aload_n dX5_digit_30 rfl rfl iR ?_
  refine r_getR dX5_digit_31 (fgc (fg1 (f := 0) fX5 (by decide) q795 rfl) (fgc (fg1 (f := 0) fX7 (by decide) q795 rfl) (fg1 (f := 0) fX12 (by decide) q795 rfl))) h (fun x23 h => ?_)
  refine r_aload_n dX5_digit_34 rfl rfl iR ?_
  refine r_getI dX5_digit_35 (fgc (fg1 (f := 3) fX5 (by decide) q800 rfl) (fgc (fg1 (f := 3) fX7 (by decide) q800 rfl) (fg1 (f := 3) fX12 (by decide) q800 rfl))) h (fun x24 h => ?_)
  refine r_iconst dX5_digit_38 ?_
  refine r_isub dX5_digit_39 ?_
  obtain ⟨a25, e, h⟩ := h
  refine wp.cast (L' := [some (vR (some a0)), some (vI a1), some (vI a2)]) (st' := [vI (x24 - 1), vR (some a25)]) rfl (by rw [e]) ?_
  refine r_bald dX5_digit_40 h (fun x26 h => ?_)
  refine r_iload_n dX5_digit_41 rfl rfl iI ?_
  refine r_isub dX5_digit_42 ?_
  exact r_iret rfl dX5_digit_43 ⟨_, rfl, h⟩
theorem c_X5_digit {a0 : Nat} {a1 : Int} {a2 : Int} {k n : Nat} {Q : Int → Wd → Prop} {X : Xt} {G : Wd} (h : f_X5_digit k n a0 a1 a2 G Q X) : call yX5_digit (Cond.code yX5_digit cX5_digit 3 (some .int)) 10 k n [vR (some a0), vI a1, vI a2] G (qI Q) X :=
  call.enter (by decide +kernel) (la_1 c1R (la_1 c1I (la_1 c1I (la_nil rfl)))) rfl (w_X5_digit h)
abbrev m_X5_number : Mt := (yX5_number.cls, cX5_number, 4, some .int, [], yX5_number.name)
theorem yo_X5_number : yOK yX5_number 1 := ⟨by decide +kernel, by decide +kernel, by decide +kernel⟩
def f_X5_number_11_b (a0 : Nat) (k11 : Nat → Nat → Int → Int → Int → Wd → Prop) (k n : Nat) (l1 : Int) (l2 : Int) (l3 : Int) (G : Wd) (Q : Int → Wd → Prop) (X : Xt) : Prop :=
  br l3 l1 (l1 ≤ l3) (Q l2 G) (((∃ ci, ci ∈ [4, 6, 11] ∧ isC G a0 ci) ∧ f_X5_here a0  G (fun x22 G21 => ok32 x22 (f_X1_in x22 48 57 G21 (fun x24 G23 => brB x24 ((∃ k26 n27, (k26 ≤ k ∧ n27 ≤ n) ∧ ((∃ ci, ci ∈ [4, 6, 11] ∧ isC G23 a0 ci) ∧ f_X5_digit k26 n27 a0 48 10 G23 (fun x28 G25 => k11 (k - k26) (n - n27) l1 ((10 * l2) + x28) (l3 + 1) G25) X))) (Q l2 G23))))))
theorem w_X5_number_11_b {a0 : Nat} {Q : Int → Wd → Prop} {X : Xt} {k11 : Nat → Nat → Int → Int → Int → Wd → Prop} (hk11 : ∀ {k n : Nat} {l1 : Int} {l2 : Int} {l3 : Int} {G : Wd}, k11 k n l1 l2 l3 G → wp m_X5_number 11 k n 11 [some (vR (some a0)), some (vI l1), some (vI l2), some (vI l3)] [] G (qI Q) X) {k n : Nat} {l1 : Int} {l2 : Int} {l3 : Int} {G : Wd} (h : f_X5_number_11_b a0 k11 k n l1 l2 l3 G Q X) : wp m_X5_number 11 k n 11 [some (vR (some a0)), some (vI l1), some (vI l2), some (vI l3)] [] G (qI Q) X := by
  unfold f_X5_number_11_b at h
  refine r_iload_n dX5_number_11 rfl rfl iI ?_
  refine r_iload_n dX5_number_12 rfl rfl iI ?_
  refine r_icmp_ge (tgt := 53) dX5_number_13 (by decide) h (fun h => ?_) (fun h => ?_)
  · refine r_iload_n dX5_number_53 rfl rfl iI ?_
    exact r_iret rfl dX5_number_54 ⟨_, rfl, h⟩
  · refine r_aload_n dX5_number_16 rfl rfl iR ?_
    obtain ⟨hC, h⟩ := h
    refine r_callM dX5_number_17 hC (c_X5_here h) (soc (so (ci := 4) rfl q822 q825 q824 rfl) (soc (so (ci := 6) rfl q822 q825 q827 rfl) (soc (so (ci := 11) rfl q822 q825 q826 rfl) so0))) q823 q118 q828 yo_X5_here rfl (by decide) (by decide) rfl rc0 (by decide) (Nat.zero_le _) (Nat.zero_le _) (ofI fun x22 G21 h => ?_) nox
    refine r_i2l dX5_number_20 h (fun h => ?_)
    refine r_ldc2 (x := 48) dX5_number_21 q1006 (by decide) ?_
    refine r_ldc2 (x := 57) dX5_number_24 q1007 (by decide) ?_
    refine r_callSN dX5_number_27 (c_X1_in h) q829 q777 q92 q778 yo_X1_in rfl (by decide) (by decide) rfl rc0 (by decide) (Nat.zero_le _) (Nat.zero_le _) (ofB fun x24 G23 h => ?_) nox
    refine r_ifZ_eq (tgt := 53) dX5_number_30 (by decide) h (fun h => ?_) (fun h => ?_)
    · refine r_iload_n dX5_number_53 rfl rfl iI ?_
      exact r_iret rfl dX5_number_54 ⟨_, rfl, h⟩
    · refine r_bipush dX5_number_33 (by decide) ?_
      refine r_iload_n dX5_number_35 rfl rfl iI ?_
      refine r_imul dX5_number_36 ?_
      refine r_aload_n dX5_number_37 rfl rfl iR ?_
      refine r_bipush dX5_number_38 (by decide) ?_
      refine r_bipush dX5_number_40 (by decide) ?_
      obtain ⟨k26, n27, ⟨hk1, hn1⟩, h⟩ := h
      obtain ⟨hC, h⟩ := h
      refine r_callM dX5_number_42 hC (c_X5_digit h) (soc (so (ci := 4) rfl q1005 q818 q817 rfl) (soc (so (ci := 6) rfl q1005 q818 q820 rfl) (soc (so (ci := 11) rfl q1005 q818 q819 rfl) so0))) q816 q118 q821 yo_X5_digit rfl (by decide) (by decide) rfl (rc1 c1I rc0) (by decide) hk1 hn1 (ofI fun x28 G25 h => ?_) (fun E q G h => wpX.out (by decide) h)
      refine r_iadd dX5_number_45 ?_
      refine r_istore_n (L' := [some (vR (some a0)), some (vI l1), some (vI ((10 * l2) + x28)), some (vI l3)]) dX5_number_46 rfl rfl iI cI (by decide) ?_
      refine r_iinc (L' := [some (vR (some a0)), some (vI l1), some (vI ((10 * l2) + x28)), some (vI (l3 + 1))]) dX5_number_47 rfl rfl cI (by decide) ?_
      refine r_goto (tgt := 11) dX5_number_50 (by decide) ?_
      exact hk11 h
def f_X5_number_11 (a0 : Nat) (Q : Int → Wd → Prop) (X : Xt) : Nat → Nat → Nat → Int → Int → Int → Wd → Prop
  | 0, _, _, _, _, _, _ => False
  | fl + 1, k, n, l1, l2, l3, G => f_X5_number_11_b a0  (fun k n l1 l2 l3 G => f_X5_number_11 a0  Q X fl k n l1 l2 l3 G) k n l1 l2 l3 G Q X
theorem w_X5_number_11 {a0 : Nat} {Q : Int → Wd → Prop} {X : Xt} : ∀ (fl : Nat) {k n : Nat} {l1 : Int} {l2 : Int} {l3 : Int} {G : Wd}, f_X5_number_11 a0 Q X fl k n l1 l2 l3 G → wp m_X5_number 11 k n 11 [some (vR (some a0)), some (vI l1), some (vI l2), some (vI l3)] [] G (qI Q) X := by
  intro fl
  induction fl with
  | zero => intro k n l1 l2 l3 G h; exact (show False from h).elim
  | succ fl ih => intro k n l1 l2 l3 G h; exact w_X5_number_11_b  (fun h => ih h) h
def f_X5_number (k n : Nat) (a0 : Nat) (a1 : Int) (G : Wd) (Q : Int → Wd → Prop) (X : Xt) : Prop :=
  (∃ k30 n31, (k30 ≤ k ∧ n31 ≤ n) ∧ ((∃ ci, ci ∈ [4, 6, 11] ∧ isC G a0 ci) ∧ f_X5_digit k30 n31 a0 48 10 G (fun x32 G29 => ∃ fl33, f_X5_number_11 a0 Q X fl33 (k - k30) (n - n31) a1 x32 1 G29) X))
theorem w_X5_number {a0 : Nat} {Q : Int → Wd → Prop} {X : Xt} {k n : Nat} {a1 : Int} {G : Wd} (h : f_X5_number k n a0 a1 G Q X) : wp m_X5_number 11 k n 0 [some (vR (some a0)), some (vI a1), none, none] [] G (qI Q) X := by
  unfold f_X5_number at h
  refine r_aload_n dX5_number_0 rfl rfl iR ?_
  refine r_bipush dX5_number_1 (by decide) ?_
  refine r_bipush dX5_number_3 (by decide) ?_
  obtain ⟨k30, n31, ⟨hk1, hn1⟩, h⟩ := h
  obtain ⟨hC, h⟩ := h
  refine r_callM dX5_number_5 hC (c_X5_digit h) (soc (so (ci := 4) rfl q1005 q818 q817 rfl) (soc (so (ci := 6) rfl q1005 q818 q820 rfl) (soc (so (ci := 11) rfl q1005 q818 q819 rfl) so0))) q816 q118 q821 yo_X5_digit rfl (by decide) (by decide) rfl rc0 (by decide) hk1 hn1 (ofI fun x32 G29 h => ?_) (fun E q G h => wpX.out (by decide) h)
  refine r_istore_n (L' := [some (vR (some a0)), some (vI a1), some (vI x32), none]) dX5_number_8 rfl rfl iI cI (by decide) ?_
  refine r_iconst dX5_number_9 ?_
  refine r_istore_n (L' := [some (vR (some a0)), some (vI a1), some (vI x32), some (vI 1)]) dX5_number_10 rfl rfl iI cI (by decide) ?_
  obtain ⟨fl33, h⟩ := h
  exact w_X5_number_11 fl33 h
theorem c_X5_number {a0 : Nat} {a1 : Int} {k n : Nat} {Q : Int → Wd → Prop} {X : Xt} {G : Wd} (h : f_X5_number k n a0 a1 G Q X) : call yX5_number (Cond.code yX5_number cX5_number 4 (some .int)) 11 k n [vR (some a0), vI a1] G (qI Q) X :=
  call.enter (by decide +kernel) (la_1 c1R (la_1 c1I (la_nil rfl))) rfl (w_X5_number h)
abbrev m_X7_init : Mt := (yX7_init.cls, cX7_init, 3, none, [], yX7_init.name)
theorem yo_X7_init : yOK yX7_init 2 := ⟨by decide +kernel, by decide +kernel, by decide +kernel⟩
def f_X7_init (a0 : Nat) (a1 : Option Nat) (a2 : Int) (G : Wd) (Q : Wd → Prop) : Prop :=
  f_X5_init a0 a1 a2 40 G (fun G2 => Q G2)
theorem w_X7_init {a0 : Nat} {Q : Wd → Prop} {a1 : Option Nat} {a2 : Int} {G : Wd} (h : f_X7_init a0 a1 a2 G Q) : wp m_X7_init 2 0 0 0 [some (vR (some a0)), some (vR a1), some (vI a2)] [] G (qV Q) noX := by
  unfold f_X7_init at h
  refine r_aload_n dX7_init_0 rfl rfl iR ?_
  refine r_aload_n dX7_init_1 rfl rfl iR ?_
  refine r_iload_n dX7_init_2 rfl rfl iI ?_
  refine r_bipush dX7_init_3 (by decide) ?_
  refine r_callI dX7_init_5 (c_X5_init h) rfl q949 q791 q118 q792 yo_X5_init rfl (by decide) (by decide) rfl rc0 (by decide) (Nat.zero_le _) (Nat.zero_le _) (ofV fun G2 h => ?_) nox
  exact r_vret rfl dX7_init_8 ⟨rfl, h⟩
theorem c_X7_init {a0 : Nat} {a1 : Option Nat} {a2 : Int} {Q : Wd → Prop} {G : Wd} (h : f_X7_init a0 a1 a2 G Q) : call yX7_init (Cond.code yX7_init cX7_init 3 (none)) 2 0 0 [vR (some a0), vR a1, vI a2] G (qV Q) noX :=
  call.enter (by decide +kernel) (la_1 c1R (la_1 c1R (la_1 c1I (la_nil rfl)))) rfl (w_X7_init h)
abbrev m_X7_product : Mt := (yX7_product.cls, cX7_product, 5, some .int, [], yX7_product.name)
theorem yo_X7_product : yOK yX7_product 1 := ⟨by decide +kernel, by decide +kernel, by decide +kernel⟩
def f_X7_product_80 (T : Nat → Nat → Nat → Int → Wd → (Int → Wd → Prop) → Xt → Prop) (a0 : Nat) (k6 : Nat → Nat → Int → Int → Wd → Prop) (k n : Nat) (l1 : Int) (s0 : Int) (G : Wd) (Q : Int → Wd → Prop) (X : Xt) : Prop :=
  k6 k n l1 s0 G
theorem w_X7_product_80 {T : Nat → Nat → Nat → Int → Wd → (Int → Wd → Prop) → Xt → Prop} {e : Nat} (he : 16 ≤ e) (hT : ∀ {k n a0 : Nat} {a1 : Int} {G : Wd} {Q : Int → Wd → Prop} {X : Xt}, T k n a0 a1 G Q X → call yX7_thing (Cond.code yX7_thing cX7_thing 3 (some .int)) e k n [vR (some a0), vI a1] G (qI Q) X) {a0 : Nat} {Q : Int → Wd → Prop} {X : Xt} {k6 : Nat → Nat → Int → Int → Wd → Prop} (hk6 : ∀ {k n : Nat} {l1 : Int} {l2 : Int} {G : Wd}, k6 k n l1 l2 G → wp m_X7_product (e + 1) k n 6 [some (vR (some a0)), some (vI l1), some (vI l2), none, none] [] G (qI Q) X) {k n : Nat} {l1 : Int} {s0 : Int} {G : Wd} (h : f_X7_product_80 T a0 k6 k n l1 s0 G Q X) : wp m_X7_product (e + 1) k n 80 [some (vR (some a0)), some (vI l1), none, none, none] [vI s0] G (qI Q) X := by
  unfold f_X7_product_80 at h
  refine r_istore_n (L' := [some (vR (some a0)), some (vI l1), some (vI s0), none, none]) dX7_product_80 rfl rfl iI cI (by decide) ?_
  refine r_goto (tgt := 6) dX7_product_81 (by decide) ?_
  exact hk6 h
def f_X7_product_38 (T : Nat → Nat → Nat → Int → Wd → (Int → Wd → Prop) → Xt → Prop) (a0 : Nat) (k6 : Nat → Nat → Int → Int → Wd → Prop) (k n : Nat) (l1 : Int) (l2 : Int) (s0 : Bool) (G : Wd) (Q : Int → Wd → Prop) (X : Xt) : Prop :=
  gI G a0 [6] 3 (fun x17 => pF G a0 [6] 3 (vI (wr (x17 + 1))) (fun G18 => (∃ k20 n21, (k20 ≤ k ∧ n21 ≤ n) ∧ (isC G18 a0 6 ∧ T k20 n21 a0 l1 G18 (fun x22 G19 => brB s0 (f_X7_product_80 T a0 k6 (k - k20) (n - n21) l1 (wr (l2 * x22)) G19 Q X) (br0 x22 (¬ x22 = 0) (okd l2 x22 (f_X7_product_80 T a0 k6 (k - k20) (n - n21) l1 (wr (l2.tdiv x22)) G19 Q X)) (f_X7_product_80 T a0 k6 (k - k20) (n - n21) l1 0 G19 Q X))) X))))
theorem w_X7_product_38 {T : Nat → Nat → Nat → Int → Wd → (Int → Wd → Prop) → Xt → Prop} {e : Nat} (he : 16 ≤ e) (hT : ∀ {k n a0 : Nat} {a1 : Int} {G : Wd} {Q : Int → Wd → Prop} {X : Xt}, T k n a0 a1 G Q X → call yX7_thing (Cond.code yX7_thing cX7_thing 3 (some .int)) e k n [vR (some a0), vI a1] G (qI Q) X) {a0 : Nat} {Q : Int → Wd → Prop} {X : Xt} {k6 : Nat → Nat → Int → Int → Wd → Prop} (hk6 : ∀ {k n : Nat} {l1 : Int} {l2 : Int} {G : Wd}, k6 k n l1 l2 G → wp m_X7_product (e + 1) k n 6 [some (vR (some a0)), some (vI l1), some (vI l2), none, none] [] G (qI Q) X) {k n : Nat} {l1 : Int} {l2 : Int} {s0 : Bool} {G : Wd} (h : f_X7_product_38 T a0 k6 k n l1 l2 s0 G Q X) : wp m_X7_product (e + 1) k n 38 [some (vR (some a0)), some (vI l1), some (vI l2), none, none] [vB s0] G (qI Q) X := by
  unfold f_X7_product_38 at h
  refine r_istore_n (L' := [some (vR (some a0)), some (vI l1), some (vI l2), some (vB s0), none]) dX7_product_38 rfl rfl iB cI (by decide) ?_
  refine r_aload_n dX7_product_39 rfl rfl iR ?_
  refine r_dup dX7_product_40 c1R ?_
  refine r_getI dX7_product_41 (fg1s (f := 3) fX7 (by decide) q803 q804) h (fun x17 h => ?_)
  refine r_iconst dX7_product_44 ?_
  refine r_iaddW dX7_product_45 ?_
  refine r_put dX7_product_46 (fp1s (f := 3) fX7 (by decide) q803 q804 rfl rfl) fvI h (fun G18 h => ?_)
  refine r_aload_n dX7_product_49 rfl rfl iR ?_
  refine r_iload_n dX7_product_50 rfl rfl iI ?_
  obtain ⟨k20, n21, ⟨hk1, hn1⟩, h⟩ := h
  obtain ⟨hC, h⟩ := h
  refine r_callV dX7_product_51 hC (hT h) q980 q982 qs6 q121 q983 rfl yo_X7_thing rfl (by omega) (by decide) rfl rc0 (by decide) hk1 hn1 (ofI fun x22 G19 h => ?_) (fun E q G h => wpX.out (by decide) h)
  refine r_istore (L' := [some (vR (some a0)), some (vI l1), some (vI l2), some (vB s0), some (vI x22)]) dX7_product_54 rfl iI cB (by decide) ?_
  refine r_iload_n dX7_product_56 rfl rfl iB ?_
  refine r_ifZ_eq (tgt := 67) dX7_product_57 (by decide) h (fun h => ?_) (fun h => ?_)
  · refine r_iload dX7_product_67 rfl iI ?_
    refine r_if_ne (tgt := 76) dX7_product_69 (by decide) h (fun h => ?_) (fun h => ?_)
    · refine r_iload_n dX7_product_76 rfl rfl iI ?_
      refine r_iload dX7_product_77 rfl iI ?_
      refine r_idivW dX7_product_79 h (fun h => ?_)
      refine wp.locals (L' := [some (vR (some a0)), some (vI l1), none, none, none]) (ls_s (ls_s (ls_n (ls_n (ls_n ls_0))))) ?_
      exact w_X7_product_80 he hT hk6 h
    · refine r_iconst dX7_product_72 ?_
      refine r_goto (tgt := 80) dX7_product_73 (by decide) ?_
      refine wp.locals (L' := [some (vR (some a0)), some (vI l1), none, none, none]) (ls_s (ls_s (ls_n (ls_n (ls_n ls_0))))) ?_
      exact w_X7_product_80 he hT hk6 h
  · refine r_iload_n dX7_product_60 rfl rfl iI ?_
    refine r_iload dX7_product_61 rfl iI ?_
    refine r_imulW dX7_product_63 ?_
    refine r_goto (tgt := 80) dX7_product_64 (by decide) ?_
    refine wp.locals (L' := [some (vR (some a0)), some (vI l1), none, none, none]) (ls_s (ls_s (ls_n (ls_n (ls_n ls_0))))) ?_
    exact w_X7_product_80 he hT hk6 h
def f_X7_product_24 (T : Nat → Nat → Nat → Int → Wd → (Int → Wd → Prop) → Xt → Prop) (a0 : Nat) (k6 : Nat → Nat → Int → Int → Wd → Prop) (k n : Nat) (l1 : Int) (l2 : Int) (G : Wd) (Q : Int → Wd → Prop) (X : Xt) : Prop :=
  (isC G a0 6 ∧ f_X5_here a0  G (fun x24 G23 => br x24 42 (¬ x24 = (42 : Int)) (f_X7_product_38 T a0 k6 k n l1 l2 false G23 Q X) (f_X7_product_38 T a0 k6 k n l1 l2 true G23 Q X)))
theorem w_X7_product_24 {T : Nat → Nat → Nat → Int → Wd → (Int → Wd → Prop) → Xt → Prop} {e : Nat} (he : 16 ≤ e) (hT : ∀ {k n a0 : Nat} {a1 : Int} {G : Wd} {Q : Int → Wd → Prop} {X : Xt}, T k n a0 a1 G Q X → call yX7_thing (Cond.code yX7_thing cX7_thing 3 (some .int)) e k n [vR (some a0), vI a1] G (qI Q) X) {a0 : Nat} {Q : Int → Wd → Prop} {X : Xt} {k6 : Nat → Nat → Int → Int → Wd → Prop} (hk6 : ∀ {k n : Nat} {l1 : Int} {l2 : Int} {G : Wd}, k6 k n l1 l2 G → wp m_X7_product (e + 1) k n 6 [some (vR (some a0)), some (vI l1), some (vI l2), none, none] [] G (qI Q) X) {k n : Nat} {l1 : Int} {l2 : Int} {G : Wd} (h : f_X7_product_24 T a0 k6 k n l1 l2 G Q X) : wp m_X7_product (e + 1) k n 24 [some (vR (some a0)), some (vI l1), some (vI l2), none, none] [] G (qI Q) X := by
  unfold f_X7_product_24 at h
  refine r_aload_n dX7_product_24 rfl rfl iR ?_
  obtain ⟨hC, h⟩ := h
  refine r_callU dX7_product_25 hC (c_X5_here h) q988 q989 q991 q823 q118 q828 rfl rfl yo_X5_here rfl (by omega) (by decide) rfl rc0 (by decide) (Nat.zero_le _) (Nat.zero_le _) (ofI fun x24 G23 h => ?_) nox
  refine r_bipush dX7_product_28 (by decide) ?_
  refine r_icmp_ne (tgt := 37) dX7_product_30 (by decide) h (fun h => ?_) (fun h => ?_)
  · refine r_iconst dX7_product_37 ?_
    refine wp.cast (st' := [vB false]) rfl (congrArg (fun q => [q]) vI0) ?_
    exact w_X7_product_38 he hT hk6 h
  · refine r_iconst dX7_product_33 ?_
    refine r_goto (tgt := 38) dX7_product_34 (by decide) ?_
    refine wp.cast (st' := [vB true]) rfl (congrArg (fun q => [q]) vI1) ?_
    exact w_X7_product_38 he hT hk6 h
def f_X7_product_6_b (T : Nat → Nat → Nat → Int → Wd → (Int → Wd → Prop) → Xt → Prop) (a0 : Nat) (k6 : Nat → Nat → Int → Int → Wd → Prop) (k n : Nat) (l1 : Int) (l2 : Int) (G : Wd) (Q : Int → Wd → Prop) (X : Xt) : Prop :=
  (isC G a0 6 ∧ f_X5_here a0  G (fun x26 G25 => br x26 42 (x26 = (42 : Int)) (f_X7_product_24 T a0 k6 k n l1 l2 G25 Q X) ((isC G25 a0 6 ∧ f_X5_here a0  G25 (fun x28 G27 => br x28 47 (¬ x28 = (47 : Int)) (Q l2 G27) (f_X7_product_24 T a0 k6 k n l1 l2 G27 Q X))))))
theorem w_X7_product_6_b {T : Nat → Nat → Nat → Int → Wd → (Int → Wd → Prop) → Xt → Prop} {e : Nat} (he : 16 ≤ e) (hT : ∀ {k n a0 : Nat} {a1 : Int} {G : Wd} {Q : Int → Wd → Prop} {X : Xt}, T k n a0 a1 G Q X → call yX7_thing (Cond.code yX7_thing cX7_thing 3 (some .int)) e k n [vR (some a0), vI a1] G (qI Q) X) {a0 : Nat} {Q : Int → Wd → Prop} {X : Xt} {k6 : Nat → Nat → Int → Int → Wd → Prop} (hk6 : ∀ {k n : Nat} {l1 : Int} {l2 : Int} {G : Wd}, k6 k n l1 l2 G → wp m_X7_product (e + 1) k n 6 [some (vR (some a0)), some (vI l1), some (vI l2), none, none] [] G (qI Q) X) {k n : Nat} {l1 : Int} {l2 : Int} {G : Wd} (h : f_X7_product_6_b T a0 k6 k n l1 l2 G Q X) : wp m_X7_product (e + 1) k n 6 [some (vR (some a0)), some (vI l1), some (vI l2), none, none] [] G (qI Q) X := by
  unfold f_X7_product_6_b at h
  refine r_aload_n dX7_product_6 rfl rfl iR ?_
  obtain ⟨hC, h⟩ := h
  refine r_callU dX7_product_7 hC (c_X5_here h) q988 q989 q991 q823 q118 q828 rfl rfl yo_X5_here rfl (by omega) (by decide) rfl rc0 (by decide) (Nat.zero_le _) (Nat.zero_le _) (ofI fun x26 G25 h => ?_) nox
  refine r_bipush dX7_product_10 (by decide) ?_
  refine r_icmp_eq (tgt := 24) dX7_product_12 (by decide) h (fun h => ?_) (fun h => ?_)
  · exact w_X7_product_24 he hT hk6 h
  · refine r_aload_n dX7_product_15 rfl rfl iR ?_
    obtain ⟨hC, h⟩ := h
    refine r_callU dX7_product_16 hC (c_X5_here h) q988 q989 q991 q823 q118 q828 rfl rfl yo_X5_here rfl (by omega) (by decide) rfl rc0 (by decide) (Nat.zero_le _) (Nat.zero_le _) (ofI fun x28 G27 h => ?_) nox
    refine r_bipush dX7_product_19 (by decide) ?_
    refine r_icmp_ne (tgt := 84) dX7_product_21 (by decide) h (fun h => ?_) (fun h => ?_)
    · refine r_iload_n dX7_product_84 rfl rfl iI ?_
      exact r_iret rfl dX7_product_85 ⟨_, rfl, h⟩
    · exact w_X7_product_24 he hT hk6 h
def f_X7_product_6 (T : Nat → Nat → Nat → Int → Wd → (Int → Wd → Prop) → Xt → Prop) (a0 : Nat) (Q : Int → Wd → Prop) (X : Xt) : Nat → Nat → Nat → Int → Int → Wd → Prop
  | 0, _, _, _, _, _ => False
  | fl + 1, k, n, l1, l2, G => f_X7_product_6_b T a0  (fun k n l1 l2 G => f_X7_product_6 T a0  Q X fl k n l1 l2 G) k n l1 l2 G Q X
theorem w_X7_product_6 {T : Nat → Nat → Nat → Int → Wd → (Int → Wd → Prop) → Xt → Prop} {e : Nat} (he : 16 ≤ e) (hT : ∀ {k n a0 : Nat} {a1 : Int} {G : Wd} {Q : Int → Wd → Prop} {X : Xt}, T k n a0 a1 G Q X → call yX7_thing (Cond.code yX7_thing cX7_thing 3 (some .int)) e k n [vR (some a0), vI a1] G (qI Q) X) {a0 : Nat} {Q : Int → Wd → Prop} {X : Xt} : ∀ (fl : Nat) {k n : Nat} {l1 : Int} {l2 : Int} {G : Wd}, f_X7_product_6 T a0 Q X fl k n l1 l2 G → wp m_X7_product (e + 1) k n 6 [some (vR (some a0)), some (vI l1), some (vI l2), none, none] [] G (qI Q) X := by
  intro fl
  induction fl with
  | zero => intro k n l1 l2 G h; exact (show False from h).elim
  | succ fl ih => intro k n l1 l2 G h; exact w_X7_product_6_b he hT  (fun h => ih h) h
def f_X7_product (T : Nat → Nat → Nat → Int → Wd → (Int → Wd → Prop) → Xt → Prop) (k n : Nat) (a0 : Nat) (a1 : Int) (G : Wd) (Q : Int → Wd → Prop) (X : Xt) : Prop :=
  (∃ k30 n31, (k30 ≤ k ∧ n31 ≤ n) ∧ (isC G a0 6 ∧ T k30 n31 a0 a1 G (fun x32 G29 => ∃ fl33, f_X7_product_6 T a0 Q X fl33 (k - k30) (n - n31) a1 x32 G29) X))
theorem w_X7_product {T : Nat → Nat → Nat → Int → Wd → (Int → Wd → Prop) → Xt → Prop} {e : Nat} (he : 16 ≤ e) (hT : ∀ {k n a0 : Nat} {a1 : Int} {G : Wd} {Q : Int → Wd → Prop} {X : Xt}, T k n a0 a1 G Q X → call yX7_thing (Cond.code yX7_thing cX7_thing 3 (some .int)) e k n [vR (some a0), vI a1] G (qI Q) X) {a0 : Nat} {Q : Int → Wd → Prop} {X : Xt} {k n : Nat} {a1 : Int} {G : Wd} (h : f_X7_product T k n a0 a1 G Q X) : wp m_X7_product (e + 1) k n 0 [some (vR (some a0)), some (vI a1), none, none, none] [] G (qI Q) X := by
  unfold f_X7_product at h
  refine r_aload_n dX7_product_0 rfl rfl iR ?_
  refine r_iload_n dX7_product_1 rfl rfl iI ?_
  obtain ⟨k30, n31, ⟨hk1, hn1⟩, h⟩ := h
  obtain ⟨hC, h⟩ := h
  refine r_callV dX7_product_2 hC (hT h) q980 q982 qs6 q121 q983 rfl yo_X7_thing rfl (by omega) (by decide) rfl rc0 (by decide) hk1 hn1 (ofI fun x32 G29 h => ?_) (fun E q G h => wpX.out (by decide) h)
  refine r_istore_n (L' := [some (vR (some a0)), some (vI a1), some (vI x32), none, none]) dX7_product_5 rfl rfl iI cI (by decide) ?_
  obtain ⟨fl33, h⟩ := h
  exact w_X7_product_6 he hT fl33 h
theorem c_X7_product {T : Nat → Nat → Nat → Int → Wd → (Int → Wd → Prop) → Xt → Prop} {e : Nat} (he : 16 ≤ e) (hT : ∀ {k n a0 : Nat} {a1 : Int} {G : Wd} {Q : Int → Wd → Prop} {X : Xt}, T k n a0 a1 G Q X → call yX7_thing (Cond.code yX7_thing cX7_thing 3 (some .int)) e k n [vR (some a0), vI a1] G (qI Q) X) {a0 : Nat} {a1 : Int} {k n : Nat} {Q : Int → Wd → Prop} {X : Xt} {G : Wd} (h : f_X7_product T k n a0 a1 G Q X) : call yX7_product (Cond.code yX7_product cX7_product 5 (some .int)) (e + 1) k n [vR (some a0), vI a1] G (qI Q) X :=
  call.enter (by decide +kernel) (la_1 c1R (la_1 c1I (la_nil rfl))) rfl (w_X7_product he hT h)
abbrev m_X7_value : Mt := (yX7_value.cls, cX7_value, 2, some .int, [], yX7_value.name)
theorem yo_X7_value : yOK yX7_value 1 := ⟨by decide +kernel, by decide +kernel, by decide +kernel⟩
def f_X7_value (a0 : Nat) (a1 : Int) (G : Wd) (Q : Int → Wd → Prop) : Prop :=
  ok32 a1 (swc a1 98 (gR G a0 [6] 5 (fun x25 => nn x25 (fun a26 => gI G a26 [7] 3 (fun x27 => Q x27 G)))) (swc a1 99 (gR G a0 [6] 6 (fun x28 => nn x28 (fun a29 => gI G a29 [2] 6 (fun x30 => Q x30 G)))) (swc a1 100 (gR G a0 [6] 4 (fun x31 => nn x31 (fun a32 => gR G a32 [1] 1 (fun x33 => nn x33 (fun a34 => (isC G a34 12 ∧ f_J3_size a34  G (fun x36 G35 => Q x36 G35))))))) (swc a1 111 (gR G a0 [6] 5 (fun x37 => nn x37 (fun a38 => gI G a38 [7] 2 (fun x39 => Q x39 G)))) (swc a1 113 (gR G a0 [6] 6 (fun x40 => nn x40 (fun a41 => gI G a41 [2] 0 (fun x42 => Q x42 G)))) (swc a1 118 (gR G a0 [6] 5 (fun x43 => nn x43 (fun a44 => gI G a44 [7] 4 (fun x45 => Q x45 G)))) (gR G a0 [6] 4 (fun x46 => nn x46 (fun a47 => gI G a47 [1] 10 (fun x48 => okm x48 7 (Q (x48 % 7) G)))))))))))
theorem w_X7_value {a0 : Nat} {Q : Int → Wd → Prop} {a1 : Int} {G : Wd} (h : f_X7_value a0 a1 G Q) : wp m_X7_value 2 0 0 0 [some (vR (some a0)), some (vI a1)] [] G (qI Q) noX := by
  unfold f_X7_value at h
  refine r_iload_n dX7_value_0 rfl rfl iI ?_
  obtain ⟨hr, h⟩ := h
  refine r_swc h (fun e98 h => ?_) (fun e98 h => ?_)
  · refine r_ls (off := 67) (tgt := 68) dX7_value_1 (by decide) hr (by rw [e98]; rfl) (by decide) ?_
    refine r_aload_n dX7_value_68 rfl rfl iR ?_
    refine r_getR dX7_value_69 (fg1 (f := 5) fX7 (by decide) q951 rfl) h (fun x25 h => ?_)
    obtain ⟨a26, e, h⟩ := h
    refine wp.cast (L' := [some (vR (some a0)), some (vI a1)]) (st' := [vR (some a26)]) rfl (by rw [e]) ?_
    refine r_getI dX7_value_72 (fg1 (f := 3) fX8 (by decide) q1471 rfl) h (fun x27 h => ?_)
    exact r_iret rfl dX7_value_75 ⟨_, rfl, h⟩
  · refine r_swc h (fun e99 h => ?_) (fun e99 h => ?_)
    · refine r_ls (off := 91) (tgt := 92) dX7_value_1 (by decide) hr (by rw [e99]; rfl) (by decide) ?_
      refine r_aload_n dX7_value_92 rfl rfl iR ?_
      refine r_getR dX7_value_93 (fg1 (f := 6) fX7 (by decide) q952 rfl) h (fun x28 h => ?_)
      obtain ⟨a29, e, h⟩ := h
      refine wp.cast (L' := [some (vR (some a0)), some (vI a1)]) (st' := [vR (some a29)]) rfl (by rw [e]) ?_
      refine r_getI dX7_value_96 (fg1 (f := 6) fX3 (by decide) q569 rfl) h (fun x30 h => ?_)
      exact r_iret rfl dX7_value_99 ⟨_, rfl, h⟩
    · refine r_swc h (fun e100 h => ?_) (fun e100 h => ?_)
      · refine r_ls (off := 99) (tgt := 100) dX7_value_1 (by decide) hr (by rw [e100]; rfl) (by decide) ?_
        refine r_aload_n dX7_value_100 rfl rfl iR ?_
        refine r_getR dX7_value_101 (fg1 (f := 4) fX7 (by decide) q950 rfl) h (fun x31 h => ?_)
        obtain ⟨a32, e, h⟩ := h
        refine wp.cast (L' := [some (vR (some a0)), some (vI a1)]) (st' := [vR (some a32)]) rfl (by rw [e]) ?_
        refine r_getR dX7_value_104 (fg1 (f := 1) fX2 (by decide) q638 rfl) h (fun x33 h => ?_)
        obtain ⟨a34, e, h⟩ := h
        refine wp.cast (L' := [some (vR (some a0)), some (vI a1)]) (st' := [vR (some a34)]) rfl (by rw [e]) ?_
        obtain ⟨hC, h⟩ := h
        refine r_callV dX7_value_107 hC (c_J3_size h) q1014 q1015 q1016 q97 q1017 rfl yo_J3_size rfl (by decide) (by decide) rfl rc0 (by decide) (Nat.zero_le _) (Nat.zero_le _) (ofI fun x36 G35 h => ?_) nox
        exact r_iret rfl dX7_value_110 ⟨_, rfl, h⟩
      · refine r_swc h (fun e111 h => ?_) (fun e111 h => ?_)
        · refine r_ls (off := 59) (tgt := 60) dX7_value_1 (by decide) hr (by rw [e111]; rfl) (by decide) ?_
          refine r_aload_n dX7_value_60 rfl rfl iR ?_
          refine r_getR dX7_value_61 (fg1 (f := 5) fX7 (by decide) q951 rfl) h (fun x37 h => ?_)
          obtain ⟨a38, e, h⟩ := h
          refine wp.cast (L' := [some (vR (some a0)), some (vI a1)]) (st' := [vR (some a38)]) rfl (by rw [e]) ?_
          refine r_getI dX7_value_64 (fg1 (f := 2) fX8 (by decide) q1467 rfl) h (fun x39 h => ?_)
          exact r_iret rfl dX7_value_67 ⟨_, rfl, h⟩
        · refine r_swc h (fun e113 h => ?_) (fun e113 h => ?_)
          · refine r_ls (off := 83) (tgt := 84) dX7_value_1 (by decide) hr (by rw [e113]; rfl) (by decide) ?_
            refine r_aload_n dX7_value_84 rfl rfl iR ?_
            refine r_getR dX7_value_85 (fg1 (f := 6) fX7 (by decide) q952 rfl) h (fun x40 h => ?_)
            obtain ⟨a41, e, h⟩ := h
            refine wp.cast (L' := [some (vR (some a0)), some (vI a1)]) (st' := [vR (some a41)]) rfl (by rw [e]) ?_
            refine r_getI dX7_value_88 (fg1 (f := 0) fX3 (by decide) q554 rfl) h (fun x42 h => ?_)
            exact r_iret rfl dX7_value_91 ⟨_, rfl, h⟩
          · refine r_swc h (fun e118 h => ?_) (fun e118 h => ?_)
            · refine r_ls (off := 75) (tgt := 76) dX7_value_1 (by decide) hr (by rw [e118]; rfl) (by decide) ?_
              refine r_aload_n dX7_value_76 rfl rfl iR ?_
              refine r_getR dX7_value_77 (fg1 (f := 5) fX7 (by decide) q951 rfl) h (fun x43 h => ?_)
              obtain ⟨a44, e, h⟩ := h
              refine wp.cast (L' := [some (vR (some a0)), some (vI a1)]) (st' := [vR (some a44)]) rfl (by rw [e]) ?_
              refine r_getI dX7_value_80 (fg1 (f := 4) fX8 (by decide) q1475 rfl) h (fun x45 h => ?_)
              exact r_iret rfl dX7_value_83 ⟨_, rfl, h⟩
            · refine r_ls (off := 110) (tgt := 111) dX7_value_1 (by decide) hr (by simp [Op.lookupswitch.offset]; rw [if_neg (fun q => e98 q.symm), if_neg (fun q => e99 q.symm), if_neg (fun q => e100 q.symm), if_neg (fun q => e111 q.symm), if_neg (fun q => e113 q.symm), if_neg (fun q => e118 q.symm)]) (by decide) ?_
              refine r_aload_n dX7_value_111 rfl rfl iR ?_
              refine r_getR dX7_value_112 (fg1 (f := 4) fX7 (by decide) q950 rfl) h (fun x46 h => ?_)
              obtain ⟨a47, e, h⟩ := h
              refine wp.cast (L' := [some (vR (some a0)), some (vI a1)]) (st' := [vR (some a47)]) rfl (by rw [e]) ?_
              refine r_getI dX7_value_115 (fg1 (f := 10) fX2 (by decide) q656 rfl) h (fun x48 h => ?_)
              refine r_bipush dX7_value_118 (by decide) ?_
              refine r_irem dX7_value_120 h (fun h => ?_)
              exact r_iret rfl dX7_value_121 ⟨_, rfl, h⟩
theorem c_X7_value {a0 : Nat} {a1 : Int} {Q : Int → Wd → Prop} {G : Wd} (h : f_X7_value a0 a1 G Q) : call yX7_value (Cond.code yX7_value cX7_value 2 (some .int)) 2 0 0 [vR (some a0), vI a1] G (qI Q) noX :=
  call.enter (by decide +kernel) (la_1 c1R (la_1 c1I (la_nil rfl))) rfl (w_X7_value h)
abbrev m_X12_init : Mt := (yX12_init.cls, cX12_init, 3, none, [], yX12_init.name)
theorem yo_X12_init : yOK yX12_init 2 := ⟨by decide +kernel, by decide +kernel, by decide +kernel⟩
def f_X12_init (k n : Nat) (a0 : Nat) (a1 : Option Nat) (a2 : Int) (G : Wd) (Q : Wd → Prop) : Prop :=
  f_X5_init a0 a1 a2 80 G (fun G17 => nA G17 k n 80 (fun l => aI 3 l (fun _ => 0)) (fun a18 G19 => pF G19 a0 [11] 4 (vR (some a18)) (fun G20 => nA G20 (k - 1) (n - (80 : Int).toNat) 80 (fun l => aI 0 l (fun _ => 0)) (fun a21 G22 => pF G22 a0 [11] 5 (vR (some a21)) (fun G23 => nA G23 ((k - 1) - 1) ((n - (80 : Int).toNat) - (80 : Int).toNat) 80 (fun l => aI 0 l (fun _ => 0)) (fun a24 G25 => pF G25 a0 [11] 6 (vR (some a24)) (fun G26 => nA G26 (((k - 1) - 1) - 1) (((n - (80 : Int).toNat) - (80 : Int).toNat) - (80 : Int).toNat) 80 (fun l => aI 0 l (fun _ => 0)) (fun a27 G28 => pF G28 a0 [11] 7 (vR (some a27)) (fun G29 => nA G29 ((((k - 1) - 1) - 1) - 1) ((((n - (80 : Int).toNat) - (80 : Int).toNat) - (80 : Int).toNat) - (80 : Int).toNat) 80 (fun l => aI 0 l (fun _ => 0)) (fun a30 G31 => pF G31 a0 [11] 8 (vR (some a30)) (fun G32 => Q G32)))))))))))
theorem w_X12_init {a0 : Nat} {Q : Wd → Prop} {k n : Nat} {a1 : Option Nat} {a2 : Int} {G : Wd} (h : f_X12_init k n a0 a1 a2 G Q) : wp m_X12_init 2 k n 0 [some (vR (some a0)), some (vR a1), some (vI a2)] [] G (qV Q) noX := by
  unfold f_X12_init at h
  refine r_aload_n dX12_init_0 rfl rfl iR ?_
  refine r_aload_n dX12_init_1 rfl rfl iR ?_
  refine r_iload_n dX12_init_2 rfl rfl iI ?_
  refine r_bipush dX12_init_3 (by decide) ?_
  refine r_callI dX12_init_5 (c_X5_init h) rfl q1871 q791 q118 q792 yo_X5_init rfl (by decide) (by decide) rfl rc0 (by decide) (Nat.zero_le _) (Nat.zero_le _) (ofV fun G17 h => ?_) nox
  refine r_aload_n dX12_init_8 rfl rfl iR ?_
  refine r_bipush dX12_init_9 (by decide) ?_
  refine r_newC dX12_init_11 h (fun a18 G19 h => ?_)
  refine r_put dX12_init_13 (fp1F (f := 4) fX12 (by decide) q1872 rfl rfl rfl rfl) fvA h (fun G20 h => ?_)
  refine r_aload_n dX12_init_16 rfl rfl iR ?_
  refine r_bipush dX12_init_17 (by decide) ?_
  refine r_newI dX12_init_19 h (fun a21 G22 h => ?_)
  refine r_put dX12_init_21 (fp1F (f := 5) fX12 (by decide) q1874 rfl rfl rfl rfl) fvA h (fun G23 h => ?_)
  refine r_aload_n dX12_init_24 rfl rfl iR ?_
  refine r_bipush dX12_init_25 (by decide) ?_
  refine r_newI dX12_init_27 h (fun a24 G25 h => ?_)
  refine r_put dX12_init_29 (fp1F (f := 6) fX12 (by decide) q1876 rfl rfl rfl rfl) fvA h (fun G26 h => ?_)
  refine r_aload_n dX12_init_32 rfl rfl iR ?_
  refine r_bipush dX12_init_33 (by decide) ?_
  refine r_newI dX12_init_35 h (fun a27 G28 h => ?_)
  refine r_put dX12_init_37 (fp1F (f := 7) fX12 (by decide) q1878 rfl rfl rfl rfl) fvA h (fun G29 h => ?_)
  refine r_aload_n dX12_init_40 rfl rfl iR ?_
  refine r_bipush dX12_init_41 (by decide) ?_
  refine r_newI dX12_init_43 h (fun a30 G31 h => ?_)
  refine r_put dX12_init_45 (fp1F (f := 8) fX12 (by decide) q1880 rfl rfl rfl rfl) fvA h (fun G32 h => ?_)
  exact r_vret rfl dX12_init_48 ⟨rfl, h⟩
theorem c_X12_init {a0 : Nat} {a1 : Option Nat} {a2 : Int} {k n : Nat} {Q : Wd → Prop} {G : Wd} (h : f_X12_init k n a0 a1 a2 G Q) : call yX12_init (Cond.code yX12_init cX12_init 3 (none)) 2 k n [vR (some a0), vR a1, vI a2] G (qV Q) noX :=
  call.enter (by decide +kernel) (la_1 c1R (la_1 c1R (la_1 c1I (la_nil rfl)))) rfl (w_X12_init h)
abbrev m_X12_two : Mt := (yX12_two.cls, cX12_two, 1, some .int, [], yX12_two.name)
theorem yo_X12_two : yOK yX12_two 0 := ⟨by decide +kernel, by decide +kernel, by decide +kernel⟩
def f_X12_two (k n : Nat) (a0 : Nat) (G : Wd) (Q : Int → Wd → Prop) (X : Xt) : Prop :=
  (∃ k10 n11, (k10 ≤ k ∧ n11 ≤ n) ∧ (isC G a0 11 ∧ f_X5_digit k10 n11 a0 48 10 G (fun x12 G9 => (∃ k14 n15, (k14 ≤ (k - k10) ∧ n15 ≤ (n - n11)) ∧ (isC G9 a0 11 ∧ f_X5_digit k14 n15 a0 48 10 G9 (fun x16 G13 => Q ((10 * x12) + x16) G13) X))) X))
theorem w_X12_two {a0 : Nat} {Q : Int → Wd → Prop} {X : Xt} {k n : Nat} {G : Wd} (h : f_X12_two k n a0 G Q X) : wp m_X12_two 11 k n 0 [some (vR (some a0))] [] G (qI Q) X := by
  unfold f_X12_two at h
  refine r_bipush dX12_two_0 (by decide) ?_
  refine r_aload_n dX12_two_2 rfl rfl iR ?_
  refine r_bipush dX12_two_3 (by decide) ?_
  refine r_bipush dX12_two_5 (by decide) ?_
  obtain ⟨k10, n11, ⟨hk1, hn1⟩, h⟩ := h
  obtain ⟨hC, h⟩ := h
  refine r_callU dX12_two_7 hC (c_X5_digit h) q1918 q1919 q1921 q816 q118 q821 rfl rfl yo_X5_digit rfl (by decide) (by decide) rfl (rc1 c1I rc0) (by decide) hk1 hn1 (ofI fun x12 G9 h => ?_) (fun E q G h => wpX.out (by decide) h)
  refine r_imul dX12_two_10 ?_
  refine r_aload_n dX12_two_11 rfl rfl iR ?_
  refine r_bipush dX12_two_12 (by decide) ?_
  refine r_bipush dX12_two_14 (by decide) ?_
  obtain ⟨k14, n15, ⟨hk1, hn1⟩, h⟩ := h
  obtain ⟨hC, h⟩ := h
  refine r_callU dX12_two_16 hC (c_X5_digit h) q1918 q1919 q1921 q816 q118 q821 rfl rfl yo_X5_digit rfl (by decide) (by decide) rfl (rc1 c1I rc0) (by decide) hk1 hn1 (ofI fun x16 G13 h => ?_) (fun E q G h => wpX.out (by decide) h)
  refine r_iadd dX12_two_19 ?_
  exact r_iret rfl dX12_two_20 ⟨_, rfl, h⟩
theorem c_X12_two {a0 : Nat} {k n : Nat} {Q : Int → Wd → Prop} {X : Xt} {G : Wd} (h : f_X12_two k n a0 G Q X) : call yX12_two (Cond.code yX12_two cX12_two 1 (some .int)) 11 k n [vR (some a0)] G (qI Q) X :=
  call.enter (by decide +kernel) (la_1 c1R (la_nil rfl)) rfl (w_X12_two h)
abbrev m_X12_act : Mt := (yX12_act.cls, cX12_act, 2, none, [], yX12_act.name)
theorem yo_X12_act : yOK yX12_act 0 := ⟨by decide +kernel, by decide +kernel, by decide +kernel⟩
def f_X12_act_25 (a0 : Nat) (k n : Nat) (l1 : Int) (s1 : Bool) (G : Wd) (Q : Wd → Prop) (X : Xt) : Prop :=
  (∃ k56 n57, (k56 ≤ k ∧ n57 ≤ n) ∧ (isC G a0 11 ∧ f_X5_need k56 n57 a0 s1 G (fun G55 => gI G55 a0 [11] 3 (fun x58 => pF G55 a0 [11] 3 (vI (x58 + 1)) (fun G59 => gR G59 a0 [11] 4 (fun x60 => gI G59 a0 [11] 9 (fun x61 => okc l1 (nn x60 (fun a62 => ((0 ≤ l1 ∧ l1 < 65536) ∧ stI G59 a62 3 x61 l1 (fun G63 => br l1 120 (¬ l1 = (120 : Int)) (gR G63 a0 [11] 5 (fun x64 => gI G63 a0 [11] 9 (fun x65 => (∃ k67 n68, (k67 ≤ (k - k56) ∧ n68 ≤ (n - n57)) ∧ (isC G63 a0 11 ∧ f_X5_digit k67 n68 a0 48 10 G63 (fun x69 G66 => nn x64 (fun a70 => (stI G66 a70 0 x65 x69 (fun G71 => ok32 l1 (swc l1 99 (gR G71 a0 [11] 8 (fun x72 => gI G71 a0 [11] 9 (fun x73 => (∃ k75 n76, (k75 ≤ ((k - k56) - k67) ∧ n76 ≤ ((n - n57) - n68)) ∧ (isC G71 a0 11 ∧ f_X12_two k75 n76 a0  G71 (fun x77 G74 => nn x72 (fun a78 => (stI G74 a78 0 x73 x77 (fun G79 => Q G79)))) X))))) (swc l1 112 (gR G71 a0 [11] 6 (fun x80 => gI G71 a0 [11] 9 (fun x81 => (∃ k83 n84, (k83 ≤ ((k - k56) - k67) ∧ n84 ≤ ((n - n57) - n68)) ∧ (isC G71 a0 11 ∧ f_X5_digit k83 n84 a0 48 5 G71 (fun x85 G82 => nn x80 (fun a86 => (stI G82 a86 0 x81 x85 (fun G87 => gR G87 a0 [11] 7 (fun x88 => gI G87 a0 [11] 9 (fun x89 => (∃ k91 n92, (k91 ≤ (((k - k56) - k67) - k83) ∧ n92 ≤ (((n - n57) - n68) - n84)) ∧ (isC G87 a0 11 ∧ f_X5_digit k91 n92 a0 48 10 G87 (fun x93 G90 => nn x88 (fun a94 => (stI G90 a94 0 x89 x93 (fun G95 => gR G95 a0 [11] 8 (fun x96 => gI G95 a0 [11] 9 (fun x97 => (∃ k99 n100, (k99 ≤ ((((k - k56) - k67) - k83) - k91) ∧ n100 ≤ ((((n - n57) - n68) - n84) - n92)) ∧ (isC G95 a0 11 ∧ f_X12_two k99 n100 a0  G95 (fun x101 G98 => nn x96 (fun a102 => (stI G98 a102 0 x97 x101 (fun G103 => Q G103)))) X)))))))) X)))))))) X))))) (Q G71))))))) X))))) (Q G63)))))))))) X))
theorem w_X12_act_25 {a0 : Nat} {Q : Wd → Prop} {X : Xt} {k n : Nat} {l1 : Int} {s1 : Bool} {G : Wd} (h : f_X12_act_25 a0 k n l1 s1 G Q X) : wp m_X12_act 12 k n 25 [some (vR (some a0)), some (vI l1)] [vB s1, vR (some a0)] G (qV Q) X := by
  unfold f_X12_act_25 at h
  obtain ⟨k56, n57, ⟨hk1, hn1⟩, h⟩ := h
  obtain ⟨hC, h⟩ := h
  refine r_callU dX12_act_25 hC (c_X5_need h) q1915 q1916 q1917 q831 q118 q836 rfl rfl yo_X5_need rfl (by decide) (by decide) rfl rc0 (by decide) hk1 hn1 (ofV fun G55 h => ?_) (fun E q G h => wpX.out (by decide) h)
  refine r_aload_n dX12_act_28 rfl rfl iR ?_
  refine r_dup dX12_act_29 c1R ?_
  refine r_getI dX12_act_30 (fg1s (f := 3) fX12 (by decide) q801 q802) h (fun x58 h => ?_)
  refine r_iconst dX12_act_33 ?_
  refine r_iadd dX12_act_34 ?_
  refine r_put dX12_act_35 (fp1s (f := 3) fX12 (by decide) q801 q802 rfl rfl) fvI h (fun G59 h => ?_)
  refine r_aload_n dX12_act_38 rfl rfl iR ?_
  refine r_getR dX12_act_39 (fg1 (f := 4) fX12 (by decide) q1872 rfl) h (fun x60 h => ?_)
  refine r_aload_n dX12_act_42 rfl rfl iR ?_
  refine r_getI dX12_act_43 (fg1 (f := 9) fX12 (by decide) q1882 rfl) h (fun x61 h => ?_)
  refine r_iload_n dX12_act_46 rfl rfl iI ?_
  refine r_i2c dX12_act_47 h (fun h => ?_)
  obtain ⟨a62, e, h⟩ := h
  refine wp.cast (L' := [some (vR (some a0)), some (vI l1)]) (st' := [vI l1, vI x61, vR (some a62)]) rfl (by rw [e]) ?_
  refine r_cast dX12_act_48 h (fun G63 h => ?_)
  refine r_iload_n dX12_act_49 rfl rfl iI ?_
  refine r_bipush dX12_act_50 (by decide) ?_
  refine r_icmp_ne (tgt := 56) dX12_act_52 (by decide) h (fun h => ?_) (fun h => ?_)
  · refine r_aload_n dX12_act_56 rfl rfl iR ?_
    refine r_getR dX12_act_57 (fg1 (f := 5) fX12 (by decide) q1874 rfl) h (fun x64 h => ?_)
    refine r_aload_n dX12_act_60 rfl rfl iR ?_
    refine r_getI dX12_act_61 (fg1 (f := 9) fX12 (by decide) q1882 rfl) h (fun x65 h => ?_)
    refine r_aload_n dX12_act_64 rfl rfl iR ?_
    refine r_bipush dX12_act_65 (by decide) ?_
    refine r_bipush dX12_act_67 (by decide) ?_
    obtain ⟨k67, n68, ⟨hk1, hn1⟩, h⟩ := h
    obtain ⟨hC, h⟩ := h
    refine r_callU dX12_act_69 hC (c_X5_digit h) q1918 q1919 q1921 q816 q118 q821 rfl rfl yo_X5_digit rfl (by decide) (by decide) rfl (rc1 c1I (rc1 c1R rc0)) (by decide) hk1 hn1 (ofI fun x69 G66 h => ?_) (fun E q G h => wpX.out (by decide) h)
    obtain ⟨a70, e, h⟩ := h
    refine wp.cast (L' := [some (vR (some a0)), some (vI l1)]) (st' := [vI x69, vI x65, vR (some a70)]) rfl (by rw [e]) ?_
    refine r_iast dX12_act_72 h (fun G71 h => ?_)
    refine r_iload_n dX12_act_73 rfl rfl iI ?_
    obtain ⟨hr, h⟩ := h
    refine r_swc h (fun e99 h => ?_) (fun e99 h => ?_)
    · refine r_ls (off := 73) (tgt := 147) dX12_act_74 (by decide) hr (by rw [e99]; rfl) (by decide) ?_
      refine r_aload_n dX12_act_147 rfl rfl iR ?_
      refine r_getR dX12_act_148 (fg1 (f := 8) fX12 (by decide) q1880 rfl) h (fun x72 h => ?_)
      refine r_aload_n dX12_act_151 rfl rfl iR ?_
      refine r_getI dX12_act_152 (fg1 (f := 9) fX12 (by decide) q1882 rfl) h (fun x73 h => ?_)
      refine r_aload_n dX12_act_155 rfl rfl iR ?_
      obtain ⟨k75, n76, ⟨hk1, hn1⟩, h⟩ := h
      obtain ⟨hC, h⟩ := h
      refine r_callV dX12_act_156 hC (c_X12_two h) q1922 q1924 qs31 q135 q1925 rfl yo_X12_two rfl (by decide) (by decide) rfl (rc1 c1I (rc1 c1R rc0)) (by decide) hk1 hn1 (ofI fun x77 G74 h => ?_) (fun E q G h => wpX.out (by decide) h)
      obtain ⟨a78, e, h⟩ := h
      refine wp.cast (L' := [some (vR (some a0)), some (vI l1)]) (st' := [vI x77, vI x73, vR (some a78)]) rfl (by rw [e]) ?_
      refine r_iast dX12_act_159 h (fun G79 h => ?_)
      exact r_vret rfl dX12_act_160 ⟨rfl, h⟩
    · refine r_swc h (fun e112 h => ?_) (fun e112 h => ?_)
      · refine r_ls (off := 26) (tgt := 100) dX12_act_74 (by decide) hr (by rw [e112]; rfl) (by decide) ?_
        refine r_aload_n dX12_act_100 rfl rfl iR ?_
        refine r_getR dX12_act_101 (fg1 (f := 6) fX12 (by decide) q1876 rfl) h (fun x80 h => ?_)
        refine r_aload_n dX12_act_104 rfl rfl iR ?_
        refine r_getI dX12_act_105 (fg1 (f := 9) fX12 (by decide) q1882 rfl) h (fun x81 h => ?_)
        refine r_aload_n dX12_act_108 rfl rfl iR ?_
        refine r_bipush dX12_act_109 (by decide) ?_
        refine r_iconst dX12_act_111 ?_
        obtain ⟨k83, n84, ⟨hk1, hn1⟩, h⟩ := h
        obtain ⟨hC, h⟩ := h
        refine r_callU dX12_act_112 hC (c_X5_digit h) q1918 q1919 q1921 q816 q118 q821 rfl rfl yo_X5_digit rfl (by decide) (by decide) rfl (rc1 c1I (rc1 c1R rc0)) (by decide) hk1 hn1 (ofI fun x85 G82 h => ?_) (fun E q G h => wpX.out (by decide) h)
        obtain ⟨a86, e, h⟩ := h
        refine wp.cast (L' := [some (vR (some a0)), some (vI l1)]) (st' := [vI x85, vI x81, vR (some a86)]) rfl (by rw [e]) ?_
        refine r_iast dX12_act_115 h (fun G87 h => ?_)
        refine r_aload_n dX12_act_116 rfl rfl iR ?_
        refine r_getR dX12_act_117 (fg1 (f := 7) fX12 (by decide) q1878 rfl) h (fun x88 h => ?_)
        refine r_aload_n dX12_act_120 rfl rfl iR ?_
        refine r_getI dX12_act_121 (fg1 (f := 9) fX12 (by decide) q1882 rfl) h (fun x89 h => ?_)
        refine r_aload_n dX12_act_124 rfl rfl iR ?_
        refine r_bipush dX12_act_125 (by decide) ?_
        refine r_bipush dX12_act_127 (by decide) ?_
        obtain ⟨k91, n92, ⟨hk1, hn1⟩, h⟩ := h
        obtain ⟨hC, h⟩ := h
        refine r_callU dX12_act_129 hC (c_X5_digit h) q1918 q1919 q1921 q816 q118 q821 rfl rfl yo_X5_digit rfl (by decide) (by decide) rfl (rc1 c1I (rc1 c1R rc0)) (by decide) hk1 hn1 (ofI fun x93 G90 h => ?_) (fun E q G h => wpX.out (by decide) h)
        obtain ⟨a94, e, h⟩ := h
        refine wp.cast (L' := [some (vR (some a0)), some (vI l1)]) (st' := [vI x93, vI x89, vR (some a94)]) rfl (by rw [e]) ?_
        refine r_iast dX12_act_132 h (fun G95 h => ?_)
        refine r_aload_n dX12_act_133 rfl rfl iR ?_
        refine r_getR dX12_act_134 (fg1 (f := 8) fX12 (by decide) q1880 rfl) h (fun x96 h => ?_)
        refine r_aload_n dX12_act_137 rfl rfl iR ?_
        refine r_getI dX12_act_138 (fg1 (f := 9) fX12 (by decide) q1882 rfl) h (fun x97 h => ?_)
        refine r_aload_n dX12_act_141 rfl rfl iR ?_
        obtain ⟨k99, n100, ⟨hk1, hn1⟩, h⟩ := h
        obtain ⟨hC, h⟩ := h
        refine r_callV dX12_act_142 hC (c_X12_two h) q1922 q1924 qs31 q135 q1925 rfl yo_X12_two rfl (by decide) (by decide) rfl (rc1 c1I (rc1 c1R rc0)) (by decide) hk1 hn1 (ofI fun x101 G98 h => ?_) (fun E q G h => wpX.out (by decide) h)
        obtain ⟨a102, e, h⟩ := h
        refine wp.cast (L' := [some (vR (some a0)), some (vI l1)]) (st' := [vI x101, vI x97, vR (some a102)]) rfl (by rw [e]) ?_
        refine r_iast dX12_act_145 h (fun G103 h => ?_)
        exact r_vret rfl dX12_act_146 ⟨rfl, h⟩
      · refine r_ls (off := 87) (tgt := 161) dX12_act_74 (by decide) hr (by simp [Op.lookupswitch.offset]; rw [if_neg (fun q => e99 q.symm), if_neg (fun q => e112 q.symm)]) (by decide) ?_
        exact r_vret rfl dX12_act_161 ⟨rfl, h⟩
  · exact r_vret rfl dX12_act_55 ⟨rfl, h⟩
def f_X12_act_24 (a0 : Nat) (k n : Nat) (l1 : Int) (G : Wd) (Q : Wd → Prop) (X : Xt) : Prop :=
  f_X12_act_25 a0 k n l1 false G Q X
theorem w_X12_act_24 {a0 : Nat} {Q : Wd → Prop} {X : Xt} {k n : Nat} {l1 : Int} {G : Wd} (h : f_X12_act_24 a0 k n l1 G Q X) : wp m_X12_act 12 k n 24 [some (vR (some a0)), some (vI l1)] [vR (some a0)] G (qV Q) X := by
  unfold f_X12_act_24 at h
  refine r_iconst dX12_act_24 ?_
  refine wp.cast (st' := [vB false, vR (some a0)]) rfl (congrArg (fun q => [q, vR (some a0)]) vI0) ?_
  exact w_X12_act_25 h
def f_X12_act (k n : Nat) (a0 : Nat) (G : Wd) (Q : Wd → Prop) (X : Xt) : Prop :=
  (isC G a0 11 ∧ f_X5_here a0  G (fun x105 G104 => br x105 (-1) (x105 = ((-1) : Int)) (f_X12_act_24 a0 k n x105 G104 Q X) (ldS G104 [112, 114, 116, 107, 99, 120] (fun a106 => (isS G104 a106 ∧ f_J12_indexOf a106 x105 G104 (fun x108 G107 => br0 x108 (x108 < 0) (f_X12_act_24 a0 k n x105 G107 Q X) (f_X12_act_25 a0 k n x105 true G107 Q X)))))))
theorem w_X12_act {a0 : Nat} {Q : Wd → Prop} {X : Xt} {k n : Nat} {G : Wd} (h : f_X12_act k n a0 G Q X) : wp m_X12_act 12 k n 0 [some (vR (some a0)), none] [] G (qV Q) X := by
  unfold f_X12_act at h
  refine r_aload_n dX12_act_0 rfl rfl iR ?_
  obtain ⟨hC, h⟩ := h
  refine r_callU dX12_act_1 hC (c_X5_here h) q1910 q1911 q1912 q823 q118 q828 rfl rfl yo_X5_here rfl (by decide) (by decide) rfl rc0 (by decide) (Nat.zero_le _) (Nat.zero_le _) (ofI fun x105 G104 h => ?_) nox
  refine r_istore_n (L' := [some (vR (some a0)), some (vI x105)]) dX12_act_4 rfl rfl iI cR (by decide) ?_
  refine r_aload_n dX12_act_5 rfl rfl iR ?_
  refine r_iload_n dX12_act_6 rfl rfl iI ?_
  refine r_iconst dX12_act_7 ?_
  refine r_icmp_eq (tgt := 24) dX12_act_8 (by decide) h (fun h => ?_) (fun h => ?_)
  · exact w_X12_act_24 h
  · refine r_ldcS dX12_act_11 (List.mem_of_getElem? (i := 1) rfl) h (fun a106 h => ?_)
    refine r_iload_n dX12_act_13 rfl rfl iI ?_
    obtain ⟨hC, h⟩ := h
    refine r_callVS dX12_act_14 hC (c_J12_indexOf h) q1914 q859 q860 q107 q861 rfl yo_J12_indexOf rfl (by decide) (by decide) rfl (rc1 c1R rc0) (by decide) (Nat.zero_le _) (Nat.zero_le _) (ofI fun x108 G107 h => ?_) nox
    refine r_if_lt (tgt := 24) dX12_act_17 (by decide) h (fun h => ?_) (fun h => ?_)
    · exact w_X12_act_24 h
    · refine r_iconst dX12_act_20 ?_
      refine r_goto (tgt := 25) dX12_act_21 (by decide) ?_
      refine wp.cast (st' := [vB true, vR (some a0)]) rfl (congrArg (fun q => [q, vR (some a0)]) vI1) ?_
      exact w_X12_act_25 h
theorem c_X12_act {a0 : Nat} {k n : Nat} {Q : Wd → Prop} {X : Xt} {G : Wd} (h : f_X12_act k n a0 G Q X) : call yX12_act (Cond.code yX12_act cX12_act 2 (none)) 12 k n [vR (some a0)] G (qV Q) X :=
  call.enter (by decide +kernel) (la_1 c1R (la_nil rfl)) rfl (w_X12_act h)
abbrev m_X7_sum : Mt := (yX7_sum.cls, cX7_sum, 5, some .int, [], yX7_sum.name)
theorem yo_X7_sum : yOK yX7_sum 1 := ⟨by decide +kernel, by decide +kernel, by decide +kernel⟩
def f_X7_sum_71 (T : Nat → Nat → Nat → Int → Wd → (Int → Wd → Prop) → Xt → Prop) (a0 : Nat) (k6 : Nat → Nat → Int → Int → Wd → Prop) (k n : Nat) (l1 : Int) (s0 : Int) (G : Wd) (Q : Int → Wd → Prop) (X : Xt) : Prop :=
  k6 k n l1 s0 G
theorem w_X7_sum_71 {T : Nat → Nat → Nat → Int → Wd → (Int → Wd → Prop) → Xt → Prop} {e : Nat} (he : 16 ≤ e) (hT : ∀ {k n a0 : Nat} {a1 : Int} {G : Wd} {Q : Int → Wd → Prop} {X : Xt}, T k n a0 a1 G Q X → call yX7_thing (Cond.code yX7_thing cX7_thing 3 (some .int)) e k n [vR (some a0), vI a1] G (qI Q) X) {a0 : Nat} {Q : Int → Wd → Prop} {X : Xt} {k6 : Nat → Nat → Int → Int → Wd → Prop} (hk6 : ∀ {k n : Nat} {l1 : Int} {l2 : Int} {G : Wd}, k6 k n l1 l2 G → wp m_X7_sum (e + 2) k n 6 [some (vR (some a0)), some (vI l1), some (vI l2), none, none] [] G (qI Q) X) {k n : Nat} {l1 : Int} {s0 : Int} {G : Wd} (h : f_X7_sum_71 T a0 k6 k n l1 s0 G Q X) : wp m_X7_sum (e + 2) k n 71 [some (vR (some a0)), some (vI l1), none, none, none] [vI s0] G (qI Q) X := by
  unfold f_X7_sum_71 at h
  refine r_istore_n (L' := [some (vR (some a0)), some (vI l1), some (vI s0), none, none]) dX7_sum_71 rfl rfl iI cI (by decide) ?_
  refine r_goto (tgt := 6) dX7_sum_72 (by decide) ?_
  exact hk6 h
def f_X7_sum_38 (T : Nat → Nat → Nat → Int → Wd → (Int → Wd → Prop) → Xt → Prop) (a0 : Nat) (k6 : Nat → Nat → Int → Int → Wd → Prop) (k n : Nat) (l1 : Int) (l2 : Int) (s0 : Bool) (G : Wd) (Q : Int → Wd → Prop) (X : Xt) : Prop :=
  gI G a0 [6] 3 (fun x17 => pF G a0 [6] 3 (vI (wr (x17 + 1))) (fun G18 => (∃ k20 n21, (k20 ≤ k ∧ n21 ≤ n) ∧ (isC G18 a0 6 ∧ f_X7_product T k20 n21 a0 l1 G18 (fun x22 G19 => brB s0 (f_X7_sum_71 T a0 k6 (k - k20) (n - n21) l1 (wr (l2 + x22)) G19 Q X) (f_X7_sum_71 T a0 k6 (k - k20) (n - n21) l1 (wr (l2 - x22)) G19 Q X)) X))))
theorem w_X7_sum_38 {T : Nat → Nat → Nat → Int → Wd → (Int → Wd → Prop) → Xt → Prop} {e : Nat} (he : 16 ≤ e) (hT : ∀ {k n a0 : Nat} {a1 : Int} {G : Wd} {Q : Int → Wd → Prop} {X : Xt}, T k n a0 a1 G Q X → call yX7_thing (Cond.code yX7_thing cX7_thing 3 (some .int)) e k n [vR (some a0), vI a1] G (qI Q) X) {a0 : Nat} {Q : Int → Wd → Prop} {X : Xt} {k6 : Nat → Nat → Int → Int → Wd → Prop} (hk6 : ∀ {k n : Nat} {l1 : Int} {l2 : Int} {G : Wd}, k6 k n l1 l2 G → wp m_X7_sum (e + 2) k n 6 [some (vR (some a0)), some (vI l1), some (vI l2), none, none] [] G (qI Q) X) {k n : Nat} {l1 : Int} {l2 : Int} {s0 : Bool} {G : Wd} (h : f_X7_sum_38 T a0 k6 k n l1 l2 s0 G Q X) : wp m_X7_sum (e + 2) k n 38 [some (vR (some a0)), some (vI l1), some (vI l2), none, none] [vB s0] G (qI Q) X := by
  unfold f_X7_sum_38 at h
  refine r_istore_n (L' := [some (vR (some a0)), some (vI l1), some (vI l2), some (vB s0), none]) dX7_sum_38 rfl rfl iB cI (by decide) ?_
  refine r_aload_n dX7_sum_39 rfl rfl iR ?_
  refine r_dup dX7_sum_40 c1R ?_
  refine r_getI dX7_sum_41 (fg1s (f := 3) fX7 (by decide) q803 q804) h (fun x17 h => ?_)
  refine r_iconst dX7_sum_44 ?_
  refine r_iaddW dX7_sum_45 ?_
  refine r_put dX7_sum_46 (fp1s (f := 3) fX7 (by decide) q803 q804 rfl rfl) fvI h (fun G18 h => ?_)
  refine r_aload_n dX7_sum_49 rfl rfl iR ?_
  refine r_iload_n dX7_sum_50 rfl rfl iI ?_
  obtain ⟨k20, n21, ⟨hk1, hn1⟩, h⟩ := h
  obtain ⟨hC, h⟩ := h
  refine r_callV dX7_sum_51 hC (c_X7_product he hT h) q976 q978 qs5 q121 q979 rfl yo_X7_product rfl (by omega) (by decide) rfl rc0 (by decide) hk1 hn1 (ofI fun x22 G19 h => ?_) (fun E q G h => wpX.out (by decide) h)
  refine r_istore (L' := [some (vR (some a0)), some (vI l1), some (vI l2), some (vB s0), some (vI x22)]) dX7_sum_54 rfl iI cB (by decide) ?_
  refine r_iload_n dX7_sum_56 rfl rfl iB ?_
  refine r_ifZ_eq (tgt := 67) dX7_sum_57 (by decide) h (fun h => ?_) (fun h => ?_)
  · refine r_iload_n dX7_sum_67 rfl rfl iI ?_
    refine r_iload dX7_sum_68 rfl iI ?_
    refine r_isubW dX7_sum_70 ?_
    refine wp.locals (L' := [some (vR (some a0)), some (vI l1), none, none, none]) (ls_s (ls_s (ls_n (ls_n (ls_n ls_0))))) ?_
    exact w_X7_sum_71 he hT hk6 h
  · refine r_iload_n dX7_sum_60 rfl rfl iI ?_
    refine r_iload dX7_sum_61 rfl iI ?_
    refine r_iaddW dX7_sum_63 ?_
    refine r_goto (tgt := 71) dX7_sum_64 (by decide) ?_
    refine wp.locals (L' := [some (vR (some a0)), some (vI l1), none, none, none]) (ls_s (ls_s (ls_n (ls_n (ls_n ls_0))))) ?_
    exact w_X7_sum_71 he hT hk6 h
def f_X7_sum_24 (T : Nat → Nat → Nat → Int → Wd → (Int → Wd → Prop) → Xt → Prop) (a0 : Nat) (k6 : Nat → Nat → Int → Int → Wd → Prop) (k n : Nat) (l1 : Int) (l2 : Int) (G : Wd) (Q : Int → Wd → Prop) (X : Xt) : Prop :=
  (isC G a0 6 ∧ f_X5_here a0  G (fun x24 G23 => br x24 43 (¬ x24 = (43 : Int)) (f_X7_sum_38 T a0 k6 k n l1 l2 false G23 Q X) (f_X7_sum_38 T a0 k6 k n l1 l2 true G23 Q X)))
theorem w_X7_sum_24 {T : Nat → Nat → Nat → Int → Wd → (Int → Wd → Prop) → Xt → Prop} {e : Nat} (he : 16 ≤ e) (hT : ∀ {k n a0 : Nat} {a1 : Int} {G : Wd} {Q : Int → Wd → Prop} {X : Xt}, T k n a0 a1 G Q X → call yX7_thing (Cond.code yX7_thing cX7_thing 3 (some .int)) e k n [vR (some a0), vI a1] G (qI Q) X) {a0 : Nat} {Q : Int → Wd → Prop} {X : Xt} {k6 : Nat → Nat → Int → Int → Wd → Prop} (hk6 : ∀ {k n : Nat} {l1 : Int} {l2 : Int} {G : Wd}, k6 k n l1 l2 G → wp m_X7_sum (e + 2) k n 6 [some (vR (some a0)), some (vI l1), some (vI l2), none, none] [] G (qI Q) X) {k n : Nat} {l1 : Int} {l2 : Int} {G : Wd} (h : f_X7_sum_24 T a0 k6 k n l1 l2 G Q X) : wp m_X7_sum (e + 2) k n 24 [some (vR (some a0)), some (vI l1), some (vI l2), none, none] [] G (qI Q) X := by
  unfold f_X7_sum_24 at h
  refine r_aload_n dX7_sum_24 rfl rfl iR ?_
  obtain ⟨hC, h⟩ := h
  refine r_callU dX7_sum_25 hC (c_X5_here h) q988 q989 q991 q823 q118 q828 rfl rfl yo_X5_here rfl (by omega) (by decide) rfl rc0 (by decide) (Nat.zero_le _) (Nat.zero_le _) (ofI fun x24 G23 h => ?_) nox
  refine r_bipush dX7_sum_28 (by decide) ?_
  refine r_icmp_ne (tgt := 37) dX7_sum_30 (by decide) h (fun h => ?_) (fun h => ?_)
  · refine r_iconst dX7_sum_37 ?_
    refine wp.cast (st' := [vB false]) rfl (congrArg (fun q => [q]) vI0) ?_
    exact w_X7_sum_38 he hT hk6 h
  · refine r_iconst dX7_sum_33 ?_
    refine r_goto (tgt := 38) dX7_sum_34 (by decide) ?_
    refine wp.cast (st' := [vB true]) rfl (congrArg (fun q => [q]) vI1) ?_
    exact w_X7_sum_38 he hT hk6 h
def f_X7_sum_6_b (T : Nat → Nat → Nat → Int → Wd → (Int → Wd → Prop) → Xt → Prop) (a0 : Nat) (k6 : Nat → Nat → Int → Int → Wd → Prop) (k n : Nat) (l1 : Int) (l2 : Int) (G : Wd) (Q : Int → Wd → Prop) (X : Xt) : Prop :=
  (isC G a0 6 ∧ f_X5_here a0  G (fun x26 G25 => br x26 43 (x26 = (43 : Int)) (f_X7_sum_24 T a0 k6 k n l1 l2 G25 Q X) ((isC G25 a0 6 ∧ f_X5_here a0  G25 (fun x28 G27 => br x28 45 (¬ x28 = (45 : Int)) (Q l2 G27) (f_X7_sum_24 T a0 k6 k n l1 l2 G27 Q X))))))
theorem w_X7_sum_6_b {T : Nat → Nat → Nat → Int → Wd → (Int → Wd → Prop) → Xt → Prop} {e : Nat} (he : 16 ≤ e) (hT : ∀ {k n a0 : Nat} {a1 : Int} {G : Wd} {Q : Int → Wd → Prop} {X : Xt}, T k n a0 a1 G Q X → call yX7_thing (Cond.code yX7_thing cX7_thing 3 (some .int)) e k n [vR (some a0), vI a1] G (qI Q) X) {a0 : Nat} {Q : Int → Wd → Prop} {X : Xt} {k6 : Nat → Nat → Int → Int → Wd → Prop} (hk6 : ∀ {k n : Nat} {l1 : Int} {l2 : Int} {G : Wd}, k6 k n l1 l2 G → wp m_X7_sum (e + 2) k n 6 [some (vR (some a0)), some (vI l1), some (vI l2), none, none] [] G (qI Q) X) {k n : Nat} {l1 : Int} {l2 : Int} {G : Wd} (h : f_X7_sum_6_b T a0 k6 k n l1 l2 G Q X) : wp m_X7_sum (e + 2) k n 6 [some (vR (some a0)), some (vI l1), some (vI l2), none, none] [] G (qI Q) X := by
  unfold f_X7_sum_6_b at h
  refine r_aload_n dX7_sum_6 rfl rfl iR ?_
  obtain ⟨hC, h⟩ := h
  refine r_callU dX7_sum_7 hC (c_X5_here h) q988 q989 q991 q823 q118 q828 rfl rfl yo_X5_here rfl (by omega) (by decide) rfl rc0 (by decide) (Nat.zero_le _) (Nat.zero_le _) (ofI fun x26 G25 h => ?_) nox
  refine r_bipush dX7_sum_10 (by decide) ?_
  refine r_icmp_eq (tgt := 24) dX7_sum_12 (by decide) h (fun h => ?_) (fun h => ?_)
  · exact w_X7_sum_24 he hT hk6 h
  · refine r_aload_n dX7_sum_15 rfl rfl iR ?_
    obtain ⟨hC, h⟩ := h
    refine r_callU dX7_sum_16 hC (c_X5_here h) q988 q989 q991 q823 q118 q828 rfl rfl yo_X5_here rfl (by omega) (by decide) rfl rc0 (by decide) (Nat.zero_le _) (Nat.zero_le _) (ofI fun x28 G27 h => ?_) nox
    refine r_bipush dX7_sum_19 (by decide) ?_
    refine r_icmp_ne (tgt := 75) dX7_sum_21 (by decide) h (fun h => ?_) (fun h => ?_)
    · refine r_iload_n dX7_sum_75 rfl rfl iI ?_
      exact r_iret rfl dX7_sum_76 ⟨_, rfl, h⟩
    · exact w_X7_sum_24 he hT hk6 h
def f_X7_sum_6 (T : Nat → Nat → Nat → Int → Wd → (Int → Wd → Prop) → Xt → Prop) (a0 : Nat) (Q : Int → Wd → Prop) (X : Xt) : Nat → Nat → Nat → Int → Int → Wd → Prop
  | 0, _, _, _, _, _ => False
  | fl + 1, k, n, l1, l2, G => f_X7_sum_6_b T a0  (fun k n l1 l2 G => f_X7_sum_6 T a0  Q X fl k n l1 l2 G) k n l1 l2 G Q X
theorem w_X7_sum_6 {T : Nat → Nat → Nat → Int → Wd → (Int → Wd → Prop) → Xt → Prop} {e : Nat} (he : 16 ≤ e) (hT : ∀ {k n a0 : Nat} {a1 : Int} {G : Wd} {Q : Int → Wd → Prop} {X : Xt}, T k n a0 a1 G Q X → call yX7_thing (Cond.code yX7_thing cX7_thing 3 (some .int)) e k n [vR (some a0), vI a1] G (qI Q) X) {a0 : Nat} {Q : Int → Wd → Prop} {X : Xt} : ∀ (fl : Nat) {k n : Nat} {l1 : Int} {l2 : Int} {G : Wd}, f_X7_sum_6 T a0 Q X fl k n l1 l2 G → wp m_X7_sum (e + 2) k n 6 [some (vR (some a0)), some (vI l1), some (vI l2), none, none] [] G (qI Q) X := by
  intro fl
  induction fl with
  | zero => intro k n l1 l2 G h; exact (show False from h).elim
  | succ fl ih => intro k n l1 l2 G h; exact w_X7_sum_6_b he hT  (fun h => ih h) h
def f_X7_sum (T : Nat → Nat → Nat → Int → Wd → (Int → Wd → Prop) → Xt → Prop) (k n : Nat) (a0 : Nat) (a1 : Int) (G : Wd) (Q : Int → Wd → Prop) (X : Xt) : Prop :=
  (∃ k30 n31, (k30 ≤ k ∧ n31 ≤ n) ∧ (isC G a0 6 ∧ f_X7_product T k30 n31 a0 a1 G (fun x32 G29 => ∃ fl33, f_X7_sum_6 T a0 Q X fl33 (k - k30) (n - n31) a1 x32 G29) X))
theorem w_X7_sum {T : Nat → Nat → Nat → Int → Wd → (Int → Wd → Prop) → Xt → Prop} {e : Nat} (he : 16 ≤ e) (hT : ∀ {k n a0 : Nat} {a1 : Int} {G : Wd} {Q : Int → Wd → Prop} {X : Xt}, T k n a0 a1 G Q X → call yX7_thing (Cond.code yX7_thing cX7_thing 3 (some .int)) e k n [vR (some a0), vI a1] G (qI Q) X) {a0 : Nat} {Q : Int → Wd → Prop} {X : Xt} {k n : Nat} {a1 : Int} {G : Wd} (h : f_X7_sum T k n a0 a1 G Q X) : wp m_X7_sum (e + 2) k n 0 [some (vR (some a0)), some (vI a1), none, none, none] [] G (qI Q) X := by
  unfold f_X7_sum at h
  refine r_aload_n dX7_sum_0 rfl rfl iR ?_
  refine r_iload_n dX7_sum_1 rfl rfl iI ?_
  obtain ⟨k30, n31, ⟨hk1, hn1⟩, h⟩ := h
  obtain ⟨hC, h⟩ := h
  refine r_callV dX7_sum_2 hC (c_X7_product he hT h) q976 q978 qs5 q121 q979 rfl yo_X7_product rfl (by omega) (by decide) rfl rc0 (by decide) hk1 hn1 (ofI fun x32 G29 h => ?_) (fun E q G h => wpX.out (by decide) h)
  refine r_istore_n (L' := [some (vR (some a0)), some (vI a1), some (vI x32), none, none]) dX7_sum_5 rfl rfl iI cI (by decide) ?_
  obtain ⟨fl33, h⟩ := h
  exact w_X7_sum_6 he hT fl33 h
theorem c_X7_sum {T : Nat → Nat → Nat → Int → Wd → (Int → Wd → Prop) → Xt → Prop} {e : Nat} (he : 16 ≤ e) (hT : ∀ {k n a0 : Nat} {a1 : Int} {G : Wd} {Q : Int → Wd → Prop} {X : Xt}, T k n a0 a1 G Q X → call yX7_thing (Cond.code yX7_thing cX7_thing 3 (some .int)) e k n [vR (some a0), vI a1] G (qI Q) X) {a0 : Nat} {a1 : Int} {k n : Nat} {Q : Int → Wd → Prop} {X : Xt} {G : Wd} (h : f_X7_sum T k n a0 a1 G Q X) : call yX7_sum (Cond.code yX7_sum cX7_sum 5 (some .int)) (e + 2) k n [vR (some a0), vI a1] G (qI Q) X :=
  call.enter (by decide +kernel) (la_1 c1R (la_1 c1I (la_nil rfl))) rfl (w_X7_sum he hT h)
abbrev m_X12_read : Mt := (yX12_read.cls, cX12_read, 1, none, [], yX12_read.name)
theorem yo_X12_read : yOK yX12_read 0 := ⟨by decide +kernel, by decide +kernel, by decide +kernel⟩
def f_X12_read_0_b (a0 : Nat) (k0 : Nat → Nat → Wd → Prop) (k n : Nat) (G : Wd) (Q : Wd → Prop) (X : Xt) : Prop :=
  gI G a0 [11] 3 (fun x11 => gI G a0 [11] 2 (fun x12 => br x11 x12 (x12 ≤ x11) ((∃ k14 n15, (k14 ≤ k ∧ n15 ≤ n) ∧ (isC G a0 11 ∧ f_X5_needEnd k14 n15 a0  G (fun G13 => Q G13) X))) ((∃ k17 n18, (k17 ≤ k ∧ n18 ≤ n) ∧ (isC G a0 11 ∧ f_X12_act k17 n18 a0  G (fun G16 => gI G16 a0 [11] 9 (fun x19 => pF G16 a0 [11] 9 (vI (x19 + 1)) (fun G20 => k0 (k - k17) (n - n18) G20))) X)))))
theorem w_X12_read_0_b {a0 : Nat} {Q : Wd → Prop} {X : Xt} {k0 : Nat → Nat → Wd → Prop} (hk0 : ∀ {k n : Nat} {G : Wd}, k0 k n G → wp m_X12_read 13 k n 0 [some (vR (some a0))] [] G (qV Q) X) {k n : Nat} {G : Wd} (h : f_X12_read_0_b a0 k0 k n G Q X) : wp m_X12_read 13 k n 0 [some (vR (some a0))] [] G (qV Q) X := by
  unfold f_X12_read_0_b at h
  refine r_aload_n dX12_read_0 rfl rfl iR ?_
  refine r_getI dX12_read_1 (fg1s (f := 3) fX12 (by decide) q801 q802) h (fun x11 h => ?_)
  refine r_aload_n dX12_read_4 rfl rfl iR ?_
  refine r_getI dX12_read_5 (fg1s (f := 2) fX12 (by decide) q798 q799) h (fun x12 h => ?_)
  refine r_icmp_ge (tgt := 28) dX12_read_8 (by decide) h (fun h => ?_) (fun h => ?_)
  · refine r_aload_n dX12_read_28 rfl rfl iR ?_
    obtain ⟨k14, n15, ⟨hk1, hn1⟩, h⟩ := h
    obtain ⟨hC, h⟩ := h
    refine r_callU dX12_read_29 hC (c_X5_needEnd h) q1926 q1927 q1928 q917 q118 q922 rfl rfl yo_X5_needEnd rfl (by decide) (by decide) rfl rc0 (by decide) hk1 hn1 (ofV fun G13 h => ?_) (fun E q G h => wpX.out (by decide) h)
    exact r_vret rfl dX12_read_32 ⟨rfl, h⟩
  · refine r_aload_n dX12_read_11 rfl rfl iR ?_
    obtain ⟨k17, n18, ⟨hk1, hn1⟩, h⟩ := h
    obtain ⟨hC, h⟩ := h
    refine r_callV dX12_read_12 hC (c_X12_act h) q1906 q1908 qs30 q135 q1909 rfl yo_X12_act rfl (by decide) (by decide) rfl rc0 (by decide) hk1 hn1 (ofV fun G16 h => ?_) (fun E q G h => wpX.out (by decide) h)
    refine r_aload_n dX12_read_15 rfl rfl iR ?_
    refine r_dup dX12_read_16 c1R ?_
    refine r_getI dX12_read_17 (fg1 (f := 9) fX12 (by decide) q1882 rfl) h (fun x19 h => ?_)
    refine r_iconst dX12_read_20 ?_
    refine r_iadd dX12_read_21 ?_
    refine r_put dX12_read_22 (fp1 (f := 9) fX12 (by decide) q1882 rfl rfl rfl) fvI h (fun G20 h => ?_)
    refine r_goto (tgt := 0) dX12_read_25 (by decide) ?_
    exact hk0 h
def f_X12_read_0 (a0 : Nat) (Q : Wd → Prop) (X : Xt) : Nat → Nat → Nat → Wd → Prop
  | 0, _, _, _ => False
  | fl + 1, k, n, G => f_X12_read_0_b a0  (fun k n  G => f_X12_read_0 a0  Q X fl k n  G) k n  G Q X
theorem w_X12_read_0 {a0 : Nat} {Q : Wd → Prop} {X : Xt} : ∀ (fl : Nat) {k n : Nat} {G : Wd}, f_X12_read_0 a0 Q X fl k n G → wp m_X12_read 13 k n 0 [some (vR (some a0))] [] G (qV Q) X := by
  intro fl
  induction fl with
  | zero => intro k n  G h; exact (show False from h).elim
  | succ fl ih => intro k n  G h; exact w_X12_read_0_b  (fun h => ih h) h
def f_X12_read (k n : Nat) (a0 : Nat) (G : Wd) (Q : Wd → Prop) (X : Xt) : Prop := ∃ fl, f_X12_read_0 a0 Q X fl k n G
theorem c_X12_read {a0 : Nat} {k n : Nat} {Q : Wd → Prop} {X : Xt} {G : Wd} (h : f_X12_read k n a0 G Q X) : call yX12_read (Cond.code yX12_read cX12_read 1 (none)) 13 k n [vR (some a0)] G (qV Q) X :=
  call.enter (by decide +kernel) (la_1 c1R (la_nil rfl)) rfl (h.elim fun fl h => w_X12_read_0 fl h)
abbrev m_X7_whole : Mt := (yX7_whole.cls, cX7_whole, 3, some .int, [], yX7_whole.name)
theorem yo_X7_whole : yOK yX7_whole 1 := ⟨by decide +kernel, by decide +kernel, by decide +kernel⟩
def f_X7_whole (T : Nat → Nat → Nat → Int → Wd → (Int → Wd → Prop) → Xt → Prop) (k n : Nat) (a0 : Nat) (a1 : Int) (G : Wd) (Q : Int → Wd → Prop) (X : Xt) : Prop :=
  (∃ k24 n25, (k24 ≤ k ∧ n25 ≤ n) ∧ (isC G a0 6 ∧ f_X7_sum T k24 n25 a0 a1 G (fun x26 G23 => (isC G23 a0 6 ∧ f_X5_passes a0 60 G23 (fun x28 G27 => brB x28 ((∃ k42 n43, (k42 ≤ (k - k24) ∧ n43 ≤ (n - n25)) ∧ (isC G27 a0 6 ∧ f_X7_sum T k42 n43 a0 a1 G27 (fun x44 G41 => br x26 x44 (x44 ≤ x26) (Q 0 G41) (Q 1 G41)) X))) ((isC G27 a0 6 ∧ f_X5_passes a0 62 G27 (fun x30 G29 => brB x30 ((∃ k38 n39, (k38 ≤ (k - k24) ∧ n39 ≤ (n - n25)) ∧ (isC G29 a0 6 ∧ f_X7_sum T k38 n39 a0 a1 G29 (fun x40 G37 => br x26 x40 (x26 ≤ x40) (Q 0 G37) (Q 1 G37)) X))) ((isC G29 a0 6 ∧ f_X5_passes a0 61 G29 (fun x32 G31 => brB x32 ((∃ k34 n35, (k34 ≤ (k - k24) ∧ n35 ≤ (n - n25)) ∧ (isC G31 a0 6 ∧ f_X7_sum T k34 n35 a0 a1 G31 (fun x36 G33 => br x26 x36 (¬ x26 = x36) (Q 0 G33) (Q 1 G33)) X))) (Q x26 G31)))))))))) X))
theorem w_X7_whole {T : Nat → Nat → Nat → Int → Wd → (Int → Wd → Prop) → Xt → Prop} {e : Nat} (he : 16 ≤ e) (hT : ∀ {k n a0 : Nat} {a1 : Int} {G : Wd} {Q : Int → Wd → Prop} {X : Xt}, T k n a0 a1 G Q X → call yX7_thing (Cond.code yX7_thing cX7_thing 3 (some .int)) e k n [vR (some a0), vI a1] G (qI Q) X) {a0 : Nat} {Q : Int → Wd → Prop} {X : Xt} {k n : Nat} {a1 : Int} {G : Wd} (h : f_X7_whole T k n a0 a1 G Q X) : wp m_X7_whole (e + 3) k n 0 [some (vR (some a0)), some (vI a1), none] [] G (qI Q) X := by
  unfold f_X7_whole at h
  refine r_aload_n dX7_whole_0 rfl rfl iR ?_
  refine r_iload_n dX7_whole_1 rfl rfl iI ?_
  obtain ⟨k24, n25, ⟨hk1, hn1⟩, h⟩ := h
  obtain ⟨hC, h⟩ := h
  refine r_callV dX7_whole_2 hC (c_X7_sum he hT h) q972 q974 qs4 q121 q975 rfl yo_X7_sum rfl (by omega) (by decide) rfl rc0 (by decide) hk1 hn1 (ofI fun x26 G23 h => ?_) (fun E q G h => wpX.out (by decide) h)
  refine r_istore_n (L' := [some (vR (some a0)), some (vI a1), some (vI x26)]) dX7_whole_5 rfl rfl iI cI (by decide) ?_
  refine r_aload_n dX7_whole_6 rfl rfl iR ?_
  refine r_bipush dX7_whole_7 (by decide) ?_
  obtain ⟨hC, h⟩ := h
  refine r_callU dX7_whole_9 hC (c_X5_passes h) q984 q985 q987 q910 q118 q915 rfl rfl yo_X5_passes rfl (by omega) (by decide) rfl rc0 (by decide) (Nat.zero_le _) (Nat.zero_le _) (ofB fun x28 G27 h => ?_) nox
  refine r_ifZ_eq (tgt := 30) dX7_whole_12 (by decide) h (fun h => ?_) (fun h => ?_)
  · refine r_aload_n dX7_whole_30 rfl rfl iR ?_
    refine r_bipush dX7_whole_31 (by decide) ?_
    obtain ⟨hC, h⟩ := h
    refine r_callU dX7_whole_33 hC (c_X5_passes h) q984 q985 q987 q910 q118 q915 rfl rfl yo_X5_passes rfl (by omega) (by decide) rfl rc0 (by decide) (Nat.zero_le _) (Nat.zero_le _) (ofB fun x30 G29 h => ?_) nox
    refine r_ifZ_eq (tgt := 54) dX7_whole_36 (by decide) h (fun h => ?_) (fun h => ?_)
    · refine r_aload_n dX7_whole_54 rfl rfl iR ?_
      refine r_bipush dX7_whole_55 (by decide) ?_
      obtain ⟨hC, h⟩ := h
      refine r_callU dX7_whole_57 hC (c_X5_passes h) q984 q985 q987 q910 q118 q915 rfl rfl yo_X5_passes rfl (by omega) (by decide) rfl rc0 (by decide) (Nat.zero_le _) (Nat.zero_le _) (ofB fun x32 G31 h => ?_) nox
      refine r_ifZ_eq (tgt := 78) dX7_whole_60 (by decide) h (fun h => ?_) (fun h => ?_)
      · refine r_iload_n dX7_whole_78 rfl rfl iI ?_
        exact r_iret rfl dX7_whole_79 ⟨_, rfl, h⟩
      · refine r_iload_n dX7_whole_63 rfl rfl iI ?_
        refine r_aload_n dX7_whole_64 rfl rfl iR ?_
        refine r_iload_n dX7_whole_65 rfl rfl iI ?_
        obtain ⟨k34, n35, ⟨hk1, hn1⟩, h⟩ := h
        obtain ⟨hC, h⟩ := h
        refine r_callV dX7_whole_66 hC (c_X7_sum he hT h) q972 q974 qs4 q121 q975 rfl yo_X7_sum rfl (by omega) (by decide) rfl (rc1 c1I rc0) (by decide) hk1 hn1 (ofI fun x36 G33 h => ?_) (fun E q G h => wpX.out (by decide) h)
        refine r_icmp_ne (tgt := 76) dX7_whole_69 (by decide) h (fun h => ?_) (fun h => ?_)
        · refine r_iconst dX7_whole_76 ?_
          exact r_iret rfl dX7_whole_77 ⟨_, rfl, h⟩
        · refine r_iconst dX7_whole_72 ?_
          refine r_goto (tgt := 77) dX7_whole_73 (by decide) ?_
          exact r_iret rfl dX7_whole_77 ⟨_, rfl, h⟩
    · refine r_iload_n dX7_whole_39 rfl rfl iI ?_
      refine r_aload_n dX7_whole_40 rfl rfl iR ?_
      refine r_iload_n dX7_whole_41 rfl rfl iI ?_
      obtain ⟨k38, n39, ⟨hk1, hn1⟩, h⟩ := h
      obtain ⟨hC, h⟩ := h
      refine r_callV dX7_whole_42 hC (c_X7_sum he hT h) q972 q974 qs4 q121 q975 rfl yo_X7_sum rfl (by omega) (by decide) rfl (rc1 c1I rc0) (by decide) hk1 hn1 (ofI fun x40 G37 h => ?_) (fun E q G h => wpX.out (by decide) h)
      refine r_icmp_le (tgt := 52) dX7_whole_45 (by decide) h (fun h => ?_) (fun h => ?_)
      · refine r_iconst dX7_whole_52 ?_
        exact r_iret rfl dX7_whole_53 ⟨_, rfl, h⟩
      · refine r_iconst dX7_whole_48 ?_
        refine r_goto (tgt := 53) dX7_whole_49 (by decide) ?_
        exact r_iret rfl dX7_whole_53 ⟨_, rfl, h⟩
  · refine r_iload_n dX7_whole_15 rfl rfl iI ?_
    refine r_aload_n dX7_whole_16 rfl rfl iR ?_
    refine r_iload_n dX7_whole_17 rfl rfl iI ?_
    obtain ⟨k42, n43, ⟨hk1, hn1⟩, h⟩ := h
    obtain ⟨hC, h⟩ := h
    refine r_callV dX7_whole_18 hC (c_X7_sum he hT h) q972 q974 qs4 q121 q975 rfl yo_X7_sum rfl (by omega) (by decide) rfl (rc1 c1I rc0) (by decide) hk1 hn1 (ofI fun x44 G41 h => ?_) (fun E q G h => wpX.out (by decide) h)
    refine r_icmp_ge (tgt := 28) dX7_whole_21 (by decide) h (fun h => ?_) (fun h => ?_)
    · refine r_iconst dX7_whole_28 ?_
      exact r_iret rfl dX7_whole_29 ⟨_, rfl, h⟩
    · refine r_iconst dX7_whole_24 ?_
      refine r_goto (tgt := 29) dX7_whole_25 (by decide) ?_
      exact r_iret rfl dX7_whole_29 ⟨_, rfl, h⟩
theorem c_X7_whole {T : Nat → Nat → Nat → Int → Wd → (Int → Wd → Prop) → Xt → Prop} {e : Nat} (he : 16 ≤ e) (hT : ∀ {k n a0 : Nat} {a1 : Int} {G : Wd} {Q : Int → Wd → Prop} {X : Xt}, T k n a0 a1 G Q X → call yX7_thing (Cond.code yX7_thing cX7_thing 3 (some .int)) e k n [vR (some a0), vI a1] G (qI Q) X) {a0 : Nat} {a1 : Int} {k n : Nat} {Q : Int → Wd → Prop} {X : Xt} {G : Wd} (h : f_X7_whole T k n a0 a1 G Q X) : call yX7_whole (Cond.code yX7_whole cX7_whole 3 (some .int)) (e + 3) k n [vR (some a0), vI a1] G (qI Q) X :=
  call.enter (by decide +kernel) (la_1 c1R (la_1 c1I (la_nil rfl))) rfl (w_X7_whole he hT h)
abbrev m_X7_thing : Mt := (yX7_thing.cls, cX7_thing, 3, some .int, [], yX7_thing.name)
def f_X7_thing_36 (T : Nat → Nat → Nat → Int → Wd → (Int → Wd → Prop) → Xt → Prop) (a0 : Nat) (k n : Nat) (l1 : Int) (s1 : Bool) (G : Wd) (Q : Int → Wd → Prop) (X : Xt) : Prop :=
  (∃ k46 n47, (k46 ≤ k ∧ n47 ≤ n) ∧ (isC G a0 6 ∧ f_X5_need k46 n47 a0 s1 G (fun G45 => gI G45 a0 [6] 3 (fun x48 => pF G45 a0 [6] 3 (vI (wr (x48 + 1))) (fun G49 => (∃ k51 n52, (k51 ≤ (k - k46) ∧ n52 ≤ (n - n47)) ∧ (isC G49 a0 6 ∧ f_X7_whole T k51 n52 a0 (wr (l1 + 1)) G49 (fun x53 G50 => (isC G50 a0 6 ∧ f_X5_passes a0 41 G50 (fun x55 G54 => (∃ k57 n58, (k57 ≤ ((k - k46) - k51) ∧ n58 ≤ ((n - n47) - n52)) ∧ (isC G54 a0 6 ∧ f_X5_need k57 n58 a0 x55 G54 (fun G56 => Q x53 G56) X))))) X))))) X))
theorem w_X7_thing_36 {T : Nat → Nat → Nat → Int → Wd → (Int → Wd → Prop) → Xt → Prop} {e : Nat} (he : 16 ≤ e) (hT : ∀ {k n a0 : Nat} {a1 : Int} {G : Wd} {Q : Int → Wd → Prop} {X : Xt}, T k n a0 a1 G Q X → call yX7_thing (Cond.code yX7_thing cX7_thing 3 (some .int)) e k n [vR (some a0), vI a1] G (qI Q) X) {a0 : Nat} {Q : Int → Wd → Prop} {X : Xt} {k n : Nat} {l1 : Int} {s1 : Bool} {G : Wd} (h : f_X7_thing_36 T a0 k n l1 s1 G Q X) : wp m_X7_thing (e + 4) k n 36 [some (vR (some a0)), some (vI l1), none] [vB s1, vR (some a0)] G (qI Q) X := by
  unfold f_X7_thing_36 at h
  obtain ⟨k46, n47, ⟨hk1, hn1⟩, h⟩ := h
  obtain ⟨hC, h⟩ := h
  refine r_callU dX7_thing_36 hC (c_X5_need h) q992 q993 q995 q831 q118 q836 rfl rfl yo_X5_need rfl (by omega) (by decide) rfl rc0 (by decide) hk1 hn1 (ofV fun G45 h => ?_) (fun E q G h => wpX.out (by decide) h)
  refine r_aload_n dX7_thing_39 rfl rfl iR ?_
  refine r_dup dX7_thing_40 c1R ?_
  refine r_getI dX7_thing_41 (fg1s (f := 3) fX7 (by decide) q803 q804) h (fun x48 h => ?_)
  refine r_iconst dX7_thing_44 ?_
  refine r_iaddW dX7_thing_45 ?_
  refine r_put dX7_thing_46 (fp1s (f := 3) fX7 (by decide) q803 q804 rfl rfl) fvI h (fun G49 h => ?_)
  refine r_aload_n dX7_thing_49 rfl rfl iR ?_
  refine r_iload_n dX7_thing_50 rfl rfl iI ?_
  refine r_iconst dX7_thing_51 ?_
  refine r_iaddW dX7_thing_52 ?_
  obtain ⟨k51, n52, ⟨hk1, hn1⟩, h⟩ := h
  obtain ⟨hC, h⟩ := h
  refine r_callV dX7_thing_53 hC (c_X7_whole he hT h) q968 q970 qs3 q121 q971 rfl yo_X7_whole rfl (by omega) (by decide) rfl rc0 (by decide) hk1 hn1 (ofI fun x53 G50 h => ?_) (fun E q G h => wpX.out (by decide) h)
  refine r_istore_n (L' := [some (vR (some a0)), some (vI l1), some (vI x53)]) dX7_thing_56 rfl rfl iI cI (by decide) ?_
  refine r_aload_n dX7_thing_57 rfl rfl iR ?_
  refine r_aload_n dX7_thing_58 rfl rfl iR ?_
  refine r_bipush dX7_thing_59 (by decide) ?_
  obtain ⟨hC, h⟩ := h
  refine r_callU dX7_thing_61 hC (c_X5_passes h) q984 q985 q987 q910 q118 q915 rfl rfl yo_X5_passes rfl (by omega) (by decide) rfl (rc1 c1R rc0) (by decide) (Nat.zero_le _) (Nat.zero_le _) (ofB fun x55 G54 h => ?_) nox
  obtain ⟨k57, n58, ⟨hk1, hn1⟩, h⟩ := h
  obtain ⟨hC, h⟩ := h
  refine r_callU dX7_thing_64 hC (c_X5_need h) q992 q993 q995 q831 q118 q836 rfl rfl yo_X5_need rfl (by omega) (by decide) rfl rc0 (by decide) hk1 hn1 (ofV fun G56 h => ?_) (fun E q G h => wpX.out (by decide) h)
  refine r_iload_n dX7_thing_67 rfl rfl iI ?_
  exact r_iret rfl dX7_thing_68 ⟨_, rfl, h⟩
def f_X7_thing_117 (T : Nat → Nat → Nat → Int → Wd → (Int → Wd → Prop) → Xt → Prop) (a0 : Nat) (k n : Nat) (l2 : Int) (s1 : Bool) (G : Wd) (Q : Int → Wd → Prop) (X : Xt) : Prop :=
  (∃ k60 n61, (k60 ≤ k ∧ n61 ≤ n) ∧ (isC G a0 6 ∧ f_X5_need k60 n61 a0 s1 G (fun G59 => gI G59 a0 [6] 3 (fun x62 => pF G59 a0 [6] 3 (vI (wr (x62 + 1))) (fun G63 => gR G63 a0 [6] 4 (fun x64 => brN x64 (Q 0 G63) (fun a65 => (isC G63 a0 6 ∧ f_X7_value a0 l2 G63 (fun x67 G66 => Q x67 G66))))))) X))
theorem w_X7_thing_117 {T : Nat → Nat → Nat → Int → Wd → (Int → Wd → Prop) → Xt → Prop} {e : Nat} (he : 16 ≤ e) (hT : ∀ {k n a0 : Nat} {a1 : Int} {G : Wd} {Q : Int → Wd → Prop} {X : Xt}, T k n a0 a1 G Q X → call yX7_thing (Cond.code yX7_thing cX7_thing 3 (some .int)) e k n [vR (some a0), vI a1] G (qI Q) X) {a0 : Nat} {Q : Int → Wd → Prop} {X : Xt} {k n : Nat} {l2 : Int} {s1 : Bool} {G : Wd} (h : f_X7_thing_117 T a0 k n l2 s1 G Q X) : wp m_X7_thing (e + 4) k n 117 [some (vR (some a0)), none, some (vI l2)] [vB s1, vR (some a0)] G (qI Q) X := by
  unfold f_X7_thing_117 at h
  obtain ⟨k60, n61, ⟨hk1, hn1⟩, h⟩ := h
  obtain ⟨hC, h⟩ := h
  refine r_callU dX7_thing_117 hC (c_X5_need h) q992 q993 q995 q831 q118 q836 rfl rfl yo_X5_need rfl (by omega) (by decide) rfl rc0 (by decide) hk1 hn1 (ofV fun G59 h => ?_) (fun E q G h => wpX.out (by decide) h)
  refine r_aload_n dX7_thing_120 rfl rfl iR ?_
  refine r_dup dX7_thing_121 c1R ?_
  refine r_getI dX7_thing_122 (fg1s (f := 3) fX7 (by decide) q803 q804) h (fun x62 h => ?_)
  refine r_iconst dX7_thing_125 ?_
  refine r_iaddW dX7_thing_126 ?_
  refine r_put dX7_thing_127 (fp1s (f := 3) fX7 (by decide) q803 q804 rfl rfl) fvI h (fun G63 h => ?_)
  refine r_aload_n dX7_thing_130 rfl rfl iR ?_
  refine r_getR dX7_thing_131 (fg1 (f := 4) fX7 (by decide) q950 rfl) h (fun x64 h => ?_)
  refine r_ifnonnullV (tgt := 141) dX7_thing_134 (by decide) h (fun a65 e h => ?_) (fun e h => ?_)
  · refine r_aload_n dX7_thing_141 rfl rfl iR ?_
    refine r_iload_n dX7_thing_142 rfl rfl iI ?_
    obtain ⟨hC, h⟩ := h
    refine r_callV dX7_thing_143 hC (c_X7_value h) q1010 q1012 qs7 q121 q1013 rfl yo_X7_value rfl (by omega) (by decide) rfl rc0 (by decide) (Nat.zero_le _) (Nat.zero_le _) (ofI fun x67 G66 h => ?_) nox
    exact r_iret rfl dX7_thing_146 ⟨_, rfl, h⟩
  · refine r_iconst dX7_thing_137 ?_
    refine r_goto (tgt := 146) dX7_thing_138 (by decide) ?_
    exact r_iret rfl dX7_thing_146 ⟨_, rfl, h⟩
def f_X7_thing_116 (T : Nat → Nat → Nat → Int → Wd → (Int → Wd → Prop) → Xt → Prop) (a0 : Nat) (k n : Nat) (l2 : Int) (G : Wd) (Q : Int → Wd → Prop) (X : Xt) : Prop :=
  f_X7_thing_117 T a0 k n l2 false G Q X
theorem w_X7_thing_116 {T : Nat → Nat → Nat → Int → Wd → (Int → Wd → Prop) → Xt → Prop} {e : Nat} (he : 16 ≤ e) (hT : ∀ {k n a0 : Nat} {a1 : Int} {G : Wd} {Q : Int → Wd → Prop} {X : Xt}, T k n a0 a1 G Q X → call yX7_thing (Cond.code yX7_thing cX7_thing 3 (some .int)) e k n [vR (some a0), vI a1] G (qI Q) X) {a0 : Nat} {Q : Int → Wd → Prop} {X : Xt} {k n : Nat} {l2 : Int} {G : Wd} (h : f_X7_thing_116 T a0 k n l2 G Q X) : wp m_X7_thing (e + 4) k n 116 [some (vR (some a0)), none, some (vI l2)] [vR (some a0)] G (qI Q) X := by
  unfold f_X7_thing_116 at h
  refine r_iconst dX7_thing_116 ?_
  refine wp.cast (st' := [vB false, vR (some a0)]) rfl (congrArg (fun q => [q, vR (some a0)]) vI0) ?_
  exact w_X7_thing_117 he hT h
def f_X7_thing_b (T : Nat → Nat → Nat → Int → Wd → (Int → Wd → Prop) → Xt → Prop) (k n : Nat) (a0 : Nat) (a1 : Int) (G : Wd) (Q : Int → Wd → Prop) (X : Xt) : Prop :=
  (isC G a0 6 ∧ f_X5_passes a0 45 G (fun x69 G68 => brB x69 ((∃ k86 n87, (k86 ≤ k ∧ n87 ≤ n) ∧ (isC G68 a0 6 ∧ T k86 n87 a0 a1 G68 (fun x88 G85 => Q (wr (-x88)) G85) X))) ((isC G68 a0 6 ∧ f_X5_here a0  G68 (fun x71 G70 => br x71 40 (¬ x71 = (40 : Int)) ((isC G70 a0 6 ∧ f_X5_here a0  G70 (fun x73 G72 => ok32 x73 (f_X1_in x73 48 57 G72 (fun x75 G74 => brB x75 ((∃ k82 n83, (k82 ≤ k ∧ n83 ≤ n) ∧ (isC G74 a0 6 ∧ f_X5_number k82 n83 a0 3 G74 (fun x84 G81 => Q x84 G81) X))) ((isC G74 a0 6 ∧ f_X5_here a0  G74 (fun x77 G76 => br x77 (-1) (x77 = ((-1) : Int)) (f_X7_thing_116 T a0 k n x77 G76 Q X) (ldS G76 [111, 98, 118, 113, 99, 100, 110] (fun a78 => (isS G76 a78 ∧ f_J12_indexOf a78 x77 G76 (fun x80 G79 => br0 x80 (x80 < 0) (f_X7_thing_116 T a0 k n x77 G79 Q X) (f_X7_thing_117 T a0 k n x77 true G79 Q X))))))))))))) (br a1 4 ((4 : Int) ≤ a1) (f_X7_thing_36 T a0 k n a1 false G70 Q X) (f_X7_thing_36 T a0 k n a1 true G70 Q X)))))))
theorem w_X7_thing_b {T : Nat → Nat → Nat → Int → Wd → (Int → Wd → Prop) → Xt → Prop} {e : Nat} (he : 16 ≤ e) (hT : ∀ {k n a0 : Nat} {a1 : Int} {G : Wd} {Q : Int → Wd → Prop} {X : Xt}, T k n a0 a1 G Q X → call yX7_thing (Cond.code yX7_thing cX7_thing 3 (some .int)) e k n [vR (some a0), vI a1] G (qI Q) X) {a0 : Nat} {Q : Int → Wd → Prop} {X : Xt} {k n : Nat} {a1 : Int} {G : Wd} (h : f_X7_thing_b T k n a0 a1 G Q X) : wp m_X7_thing (e + 4) k n 0 [some (vR (some a0)), some (vI a1), none] [] G (qI Q) X := by
  unfold f_X7_thing_b at h
  refine r_aload_n dX7_thing_0 rfl rfl iR ?_
  refine r_bipush dX7_thing_1 (by decide) ?_
  obtain ⟨hC, h⟩ := h
  refine r_callU dX7_thing_3 hC (c_X5_passes h) q984 q985 q987 q910 q118 q915 rfl rfl yo_X5_passes rfl (by omega) (by decide) rfl rc0 (by decide) (Nat.zero_le _) (Nat.zero_le _) (ofB fun x69 G68 h => ?_) nox
  refine r_ifZ_eq (tgt := 16) dX7_thing_6 (by decide) h (fun h => ?_) (fun h => ?_)
  · refine r_aload_n dX7_thing_16 rfl rfl iR ?_
    obtain ⟨hC, h⟩ := h
    refine r_callU dX7_thing_17 hC (c_X5_here h) q988 q989 q991 q823 q118 q828 rfl rfl yo_X5_here rfl (by omega) (by decide) rfl rc0 (by decide) (Nat.zero_le _) (Nat.zero_le _) (ofI fun x71 G70 h => ?_) nox
    refine r_bipush dX7_thing_20 (by decide) ?_
    refine r_icmp_ne (tgt := 69) dX7_thing_22 (by decide) h (fun h => ?_) (fun h => ?_)
    · refine r_aload_n dX7_thing_69 rfl rfl iR ?_
      obtain ⟨hC, h⟩ := h
      refine r_callU dX7_thing_70 hC (c_X5_here h) q988 q989 q991 q823 q118 q828 rfl rfl yo_X5_here rfl (by omega) (by decide) rfl rc0 (by decide) (Nat.zero_le _) (Nat.zero_le _) (ofI fun x73 G72 h => ?_) nox
      refine r_i2l dX7_thing_73 h (fun h => ?_)
      refine r_ldc2 (x := 48) dX7_thing_74 q996 (by decide) ?_
      refine r_ldc2 (x := 57) dX7_thing_77 q997 (by decide) ?_
      refine r_callSN dX7_thing_80 (c_X1_in h) q998 q777 q92 q778 yo_X1_in rfl (by omega) (by decide) rfl rc0 (by decide) (Nat.zero_le _) (Nat.zero_le _) (ofB fun x75 G74 h => ?_) nox
      refine r_ifZ_eq (tgt := 92) dX7_thing_83 (by decide) h (fun h => ?_) (fun h => ?_)
      · refine r_aload_n dX7_thing_92 rfl rfl iR ?_
        obtain ⟨hC, h⟩ := h
        refine r_callU dX7_thing_93 hC (c_X5_here h) q988 q989 q991 q823 q118 q828 rfl rfl yo_X5_here rfl (by omega) (by decide) rfl rc0 (by decide) (Nat.zero_le _) (Nat.zero_le _) (ofI fun x77 G76 h => ?_) nox
        refine r_istore_n (L' := [some (vR (some a0)), some (vI a1), some (vI x77)]) dX7_thing_96 rfl rfl iI cI (by decide) ?_
        refine r_aload_n dX7_thing_97 rfl rfl iR ?_
        refine r_iload_n dX7_thing_98 rfl rfl iI ?_
        refine r_iconst dX7_thing_99 ?_
        refine r_icmp_eq (tgt := 116) dX7_thing_100 (by decide) h (fun h => ?_) (fun h => ?_)
        · refine wp.locals (L' := [some (vR (some a0)), none, some (vI x77)]) (ls_s (ls_n (ls_s ls_0))) ?_
          exact w_X7_thing_116 he hT h
        · refine r_ldcS dX7_thing_103 (List.mem_of_getElem? (i := 8) rfl) h (fun a78 h => ?_)
          refine r_iload_n dX7_thing_105 rfl rfl iI ?_
          obtain ⟨hC, h⟩ := h
          refine r_callVS dX7_thing_106 hC (c_J12_indexOf h) q1009 q859 q860 q107 q861 rfl yo_J12_indexOf rfl (by omega) (by decide) rfl (rc1 c1R rc0) (by decide) (Nat.zero_le _) (Nat.zero_le _) (ofI fun x80 G79 h => ?_) nox
          refine r_if_lt (tgt := 116) dX7_thing_109 (by decide) h (fun h => ?_) (fun h => ?_)
          · refine wp.locals (L' := [some (vR (some a0)), none, some (vI x77)]) (ls_s (ls_n (ls_s ls_0))) ?_
            exact w_X7_thing_116 he hT h
          · refine r_iconst dX7_thing_112 ?_
            refine r_goto (tgt := 117) dX7_thing_113 (by decide) ?_
            refine wp.cast (st' := [vB true, vR (some a0)]) rfl (congrArg (fun q => [q, vR (some a0)]) vI1) ?_
            refine wp.locals (L' := [some (vR (some a0)), none, some (vI x77)]) (ls_s (ls_n (ls_s ls_0))) ?_
            exact w_X7_thing_117 he hT h
      · refine r_aload_n dX7_thing_86 rfl rfl iR ?_
        refine r_iconst dX7_thing_87 ?_
        obtain ⟨k82, n83, ⟨hk1, hn1⟩, h⟩ := h
        obtain ⟨hC, h⟩ := h
        refine r_callU dX7_thing_88 hC (c_X5_number h) q999 q1000 q1002 q1003 q118 q1004 rfl rfl yo_X5_number rfl (by omega) (by decide) rfl rc0 (by decide) hk1 hn1 (ofI fun x84 G81 h => ?_) (fun E q G h => wpX.out (by decide) h)
        exact r_iret rfl dX7_thing_91 ⟨_, rfl, h⟩
    · refine r_aload_n dX7_thing_25 rfl rfl iR ?_
      refine r_iload_n dX7_thing_26 rfl rfl iI ?_
      refine r_iconst dX7_thing_27 ?_
      refine r_icmp_ge (tgt := 35) dX7_thing_28 (by decide) h (fun h => ?_) (fun h => ?_)
      · refine r_iconst dX7_thing_35 ?_
        refine wp.cast (st' := [vB false, vR (some a0)]) rfl (congrArg (fun q => [q, vR (some a0)]) vI0) ?_
        exact w_X7_thing_36 he hT h
      · refine r_iconst dX7_thing_31 ?_
        refine r_goto (tgt := 36) dX7_thing_32 (by decide) ?_
        refine wp.cast (st' := [vB true, vR (some a0)]) rfl (congrArg (fun q => [q, vR (some a0)]) vI1) ?_
        exact w_X7_thing_36 he hT h
  · refine r_aload_n dX7_thing_9 rfl rfl iR ?_
    refine r_iload_n dX7_thing_10 rfl rfl iI ?_
    obtain ⟨k86, n87, ⟨hk1, hn1⟩, h⟩ := h
    obtain ⟨hC, h⟩ := h
    refine r_callV dX7_thing_11 hC (hT h) q980 q982 qs6 q121 q983 rfl yo_X7_thing rfl (by omega) (by decide) rfl rc0 (by decide) hk1 hn1 (ofI fun x88 G85 h => ?_) (fun E q G h => wpX.out (by decide) h)
    refine r_inegW dX7_thing_14 ?_
    exact r_iret rfl dX7_thing_15 ⟨_, rfl, h⟩
theorem c_X7_thing_b {T : Nat → Nat → Nat → Int → Wd → (Int → Wd → Prop) → Xt → Prop} {e : Nat} (he : 16 ≤ e) (hT : ∀ {k n a0 : Nat} {a1 : Int} {G : Wd} {Q : Int → Wd → Prop} {X : Xt}, T k n a0 a1 G Q X → call yX7_thing (Cond.code yX7_thing cX7_thing 3 (some .int)) e k n [vR (some a0), vI a1] G (qI Q) X) {a0 : Nat} {a1 : Int} {k n : Nat} {Q : Int → Wd → Prop} {X : Xt} {G : Wd} (h : f_X7_thing_b T k n a0 a1 G Q X) : call yX7_thing (Cond.code yX7_thing cX7_thing 3 (some .int)) (e + 4) k n [vR (some a0), vI a1] G (qI Q) X :=
  call.enter (by decide +kernel) (la_1 c1R (la_1 c1I (la_nil rfl))) rfl (w_X7_thing_b he hT h)
def f_X7_thing : Nat → Nat → Nat → Nat → Int → Wd → (Int → Wd → Prop) → Xt → Prop
  | 0, _, _, _, _, _, _, _ => False
  | e + 1, k, n, a0, a1, G, Q, X => f_X7_thing_b (f_X7_thing e) k n a0 a1 G Q X
theorem c_X7_thing : ∀ (e : Nat) {k n a0 : Nat} {a1 : Int} {G : Wd} {Q : Int → Wd → Prop} {X : Xt}, f_X7_thing e k n a0 a1 G Q X → call yX7_thing (Cond.code yX7_thing cX7_thing 3 (some .int)) (4 * e + 16) k n [vR (some a0), vI a1] G (qI Q) X := by
  intro e
  induction e with
  | zero => intro k n a0 a1 G Q X h; exact (show False from h).elim
  | succ e ih => intro k n a0 a1 G Q X h; exact c_X7_thing_b (e := 4 * e + 16) (by omega) (fun h => ih h) h
abbrev m_X7_read : Mt := (yX7_read.cls, cX7_read, 1, some (.object "QueueDrive$Rule"), [], yX7_read.name)
theorem yo_X7_read : yOK yX7_read 0 := ⟨by decide +kernel, by decide +kernel, by decide +kernel⟩
def f_X7_read (k n : Nat) (a0 : Nat) (G : Wd) (Q : Option Nat → Wd → Prop) (X : Xt) : Prop :=
  (∃ k9 n10, (k9 ≤ k ∧ n10 ≤ n) ∧ (isC G a0 6 ∧ f_X7_whole (f_X7_thing 50) k9 n10 a0 0 G (fun x11 G8 => (∃ k13 n14, (k13 ≤ (k - k9) ∧ n14 ≤ (n - n10)) ∧ (isC G8 a0 6 ∧ f_X5_needEnd k13 n14 a0  G8 (fun G12 => Q a0 G12) X))) X))
theorem w_X7_read {a0 : Nat} {Q : Option Nat → Wd → Prop} {X : Xt} {k n : Nat} {G : Wd} (h : f_X7_read k n a0 G Q X) : wp m_X7_read 220 k n 0 [some (vR (some a0))] [] G (qR Q) X := by
  unfold f_X7_read at h
  refine r_aload_n dX7_read_0 rfl rfl iR ?_
  refine r_iconst dX7_read_1 ?_
  obtain ⟨k9, n10, ⟨hk1, hn1⟩, h⟩ := h
  obtain ⟨hC, h⟩ := h
  refine r_callV dX7_read_2 hC (c_X7_whole (by decide) (fun h => c_X7_thing 50 h) h) q968 q970 qs3 q121 q971 rfl yo_X7_whole rfl (by decide) (by decide) rfl rc0 (by decide) hk1 hn1 (ofI fun x11 G8 h => ?_) (fun E q G h => wpX.out (by decide) h)
  refine r_pop dX7_read_5 c1I ?_
  refine r_aload_n dX7_read_6 rfl rfl iR ?_
  obtain ⟨k13, n14, ⟨hk1, hn1⟩, h⟩ := h
  obtain ⟨hC, h⟩ := h
  refine r_callU dX7_read_7 hC (c_X5_needEnd h) q1018 q1019 q1021 q917 q118 q922 rfl rfl yo_X5_needEnd rfl (by decide) (by decide) rfl rc0 (by decide) hk1 hn1 (ofV fun G12 h => ?_) (fun E q G h => wpX.out (by decide) h)
  refine r_aload_n dX7_read_10 rfl rfl iR ?_
  exact r_aret rtO dX7_read_11 ⟨_, rfl, h⟩
theorem c_X7_read {a0 : Nat} {k n : Nat} {Q : Option Nat → Wd → Prop} {X : Xt} {G : Wd} (h : f_X7_read k n a0 G Q X) : call yX7_read (Cond.code yX7_read cX7_read 1 (some (.object "QueueDrive$Rule"))) 220 k n [vR (some a0)] G (qR Q) X :=
  call.enter (by decide +kernel) (la_1 c1R (la_nil rfl)) rfl (w_X7_read h)
abbrev m_X7_of : Mt := (yX7_of.cls, cX7_of, 7, some .int, [(20, 27, 35, 35), (20, 27, 48, 0), (35, 40, 48, 0), (48, 50, 48, 0)], yX7_of.name)
theorem yo_X7_of : yOK yX7_of 3 := ⟨by decide +kernel, by decide +kernel, by decide +kernel⟩
def f_X7_of_35 (a0 : Nat) (k n : Nat) (s0 : Option Nat) (G : Wd) (Q : Int → Wd → Prop) : Prop :=
  pF G a0 [6] 4 (vR none) (fun G13 => Q 0 G13)
theorem w_X7_of_35 {a0 : Nat} {Q : Int → Wd → Prop} {k n : Nat} {s0 : Option Nat} {G : Wd} (h : f_X7_of_35 a0 k n s0 G Q) : wp m_X7_of 220 k n 35 [some (vR (some a0)), none, none, none, none, none, none] [vR s0] G (qI Q) noX := by
  unfold f_X7_of_35 at h
  refine r_astore (L' := [some (vR (some a0)), none, none, none, some (vR s0), none, none]) dX7_of_35 rfl iR cN (by decide) ?_
  refine r_iconst dX7_of_37 ?_
  refine r_istore (L' := [some (vR (some a0)), none, none, none, some (vR s0), some (vI 0), none]) dX7_of_38 rfl iI cR (by decide) ?_
  refine r_aload_n dX7_of_40 rfl rfl iR ?_
  refine r_null dX7_of_41 ?_
  refine r_put dX7_of_42 (fp1 (f := 4) fX7 (by decide) q950 rfl rfl rfl) fvO h (fun G13 h => ?_)
  refine r_iload dX7_of_45 rfl iI ?_
  exact r_iret rfl dX7_of_47 ⟨_, rfl, h⟩
def f_X7_of (k n : Nat) (a0 : Nat) (a1 : Option Nat) (a2 : Option Nat) (a3 : Option Nat) (G : Wd) (Q : Int → Wd → Prop) : Prop :=
  pF G a0 [6] 4 (vR a1) (fun G14 => pF G14 a0 [6] 5 (vR a2) (fun G15 => pF G15 a0 [6] 6 (vR a3) (fun G16 => pF G16 a0 [6] 3 (vI 0) (fun G17 => (∃ k19 n20, (k19 ≤ k ∧ n20 ≤ n) ∧ (isC G17 a0 6 ∧ f_X7_whole (f_X7_thing 50) k19 n20 a0 0 G17 (fun x21 G18 => pF G18 a0 [6] 4 (vR none) (fun G24 => Q x21 G24)) (fun E q23 G22 => E = "QueueDrive$Fault" ∧ f_X7_of_35 a0 (k - k19) (n - n20) (some q23) G22 Q)))))))
theorem w_X7_of {a0 : Nat} {Q : Int → Wd → Prop} {k n : Nat} {a1 : Option Nat} {a2 : Option Nat} {a3 : Option Nat} {G : Wd} (h : f_X7_of k n a0 a1 a2 a3 G Q) : wp m_X7_of 220 k n 0 [some (vR (some a0)), some (vR a1), some (vR a2), some (vR a3), none, none, none] [] G (qI Q) noX := by
  unfold f_X7_of at h
  refine r_aload_n dX7_of_0 rfl rfl iR ?_
  refine r_aload_n dX7_of_1 rfl rfl iR ?_
  refine r_put dX7_of_2 (fp1 (f := 4) fX7 (by decide) q950 rfl rfl rfl) fvO h (fun G14 h => ?_)
  refine r_aload_n dX7_of_5 rfl rfl iR ?_
  refine r_aload_n dX7_of_6 rfl rfl iR ?_
  refine r_put dX7_of_7 (fp1 (f := 5) fX7 (by decide) q951 rfl rfl rfl) fvO h (fun G15 h => ?_)
  refine r_aload_n dX7_of_10 rfl rfl iR ?_
  refine r_aload_n dX7_of_11 rfl rfl iR ?_
  refine r_put dX7_of_12 (fp1 (f := 6) fX7 (by decide) q952 rfl rfl rfl) fvO h (fun G16 h => ?_)
  refine r_aload_n dX7_of_15 rfl rfl iR ?_
  refine r_iconst dX7_of_16 ?_
  refine r_put dX7_of_17 (fp1s (f := 3) fX7 (by decide) q803 q804 rfl rfl) fvI h (fun G17 h => ?_)
  refine r_aload_n dX7_of_20 rfl rfl iR ?_
  refine r_iconst dX7_of_21 ?_
  obtain ⟨k19, n20, ⟨hk1, hn1⟩, h⟩ := h
  obtain ⟨hC, h⟩ := h
  refine r_callV dX7_of_22 hC (c_X7_whole (by decide) (fun h => c_X7_thing 50 h) h) q968 q970 qs3 q121 q971 rfl yo_X7_whole rfl (by decide) (by decide) rfl rc0 (by decide) hk1 hn1 (ofI fun x21 G18 h => ?_) (fun E q23 G22 h => ?_)
  · refine r_istore (L' := [some (vR (some a0)), some (vR a1), some (vR a2), some (vR a3), some (vI x21), none, none]) dX7_of_25 rfl iI cR (by decide) ?_
    refine r_aload_n dX7_of_27 rfl rfl iR ?_
    refine r_null dX7_of_28 ?_
    refine r_put dX7_of_29 (fp1 (f := 4) fX7 (by decide) q950 rfl rfl rfl) fvO h (fun G24 h => ?_)
    refine r_iload dX7_of_32 rfl iI ?_
    exact r_iret rfl dX7_of_34 ⟨_, rfl, h⟩
  · obtain ⟨rfl, h⟩ := h
    refine wpX.catch [] ⟨20, 27, 35, 35⟩ [⟨20, 27, 48, 0⟩, ⟨35, 40, 48, 0⟩, ⟨48, 50, 48, 0⟩] rfl (by decide) (by decide) (by decide) q1750 q839 ?_
    refine wp.locals (L' := [some (vR (some a0)), none, none, none, none, none, none]) (ls_s (ls_n (ls_n (ls_n (ls_n (ls_n (ls_n ls_0))))))) ?_
    exact w_X7_of_35 h
theorem c_X7_of {a0 : Nat} {a1 : Option Nat} {a2 : Option Nat} {a3 : Option Nat} {k n : Nat} {Q : Int → Wd → Prop} {G : Wd} (h : f_X7_of k n a0 a1 a2 a3 G Q) : call yX7_of (Cond.codeWith yX7_of cX7_of 7 (some .int) [(20, 27, 35, 35), (20, 27, 48, 0), (35, 40, 48, 0), (48, 50, 48, 0)]) 220 k n [vR (some a0), vR a1, vR a2, vR a3] G (qI Q) noX :=
  call.enterW (by decide +kernel) (la_1 c1R (la_1 c1R (la_1 c1R (la_1 c1R (la_nil rfl))))) rfl (w_X7_of h)
