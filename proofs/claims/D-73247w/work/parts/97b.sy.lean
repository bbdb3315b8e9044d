/-! PURE PROOFS: a QueueDrive, its twin, and one plain state: the drive d, what can be undone un, pages pg, text tx, row rw, heard hw ha, codes of the rule cs -/
set_option maxRecDepth 100000
def AbD (rf : Nat → Nat → Nat → Nat) (E : Nat → Bool) (dr : Nat → DS) (ah : Nat → Nat) (r3 r20 : Int → Option Nat) (a21 : Int → Int) (u4 u5 : Int) (d : DS) (un : List DS) (pg : Nat → Option DS) (B : Int) : Prop :=
  (∀ i, i < 11 → E i = true) ∧ dr 0 = d ∧ (∀ i j q, i < 13 → j < 13 → E i = true → E j = true → i ≠ j → q < 5 → rf i q 3 ≠ rf j q 3) ∧ (∀ i, i < 13 → E i = true → ∀ q : Nat, q < 5 → d.s 900 ≤ q → Lz (dr i) q) ∧
  (WF d B ∧ 99 ≤ B ∧ B ≤ 70000000) ∧ ((∀ k, k < 8 → r3 (k : Nat) = some (rf (ah k) 8 0) ∧ 3 ≤ ah k ∧ ah k < 11) ∧ ∀ i : Int, (i < 0 ∨ 8 ≤ i) → r3 i = none) ∧ (∀ j k, j < 8 → k < 8 → ah j = ah k → j = k) ∧ (u4 = (un.length : Nat) ∧ un.length ≤ 8) ∧
  (∀ (k : Nat) (e : DS), un[k]? = some e → dr (ah k) = e ∧ WF e B ∧ e.s 900 = d.s 900) ∧ u5 = d.s 900 ∧
  ∀ i, i < 2 → (pg i = none ∧ r20 (i : Nat) = none ∧ E (11 + i) = false) ∨ ∃ e, pg i = some e ∧ r20 (i : Nat) = some (rf (11 + i) 8 0) ∧ E (11 + i) = true ∧ dr (11 + i) = e ∧ a21 (i : Nat) = e.s 900 ∧ WF e B ∧ e.s 900 ≤ d.s 900
def AbT (u7 : Int) (a6 : Int → Int) (tx : List Int) : Prop := (u7 = (tx.length : Nat) ∧ tx.length ≤ 80) ∧ (∀ i, 0 ≤ i → i < 80 → -128 ≤ a6 i ∧ a6 i < 128) ∧ ∀ (i : Nat) (c : Int), tx[i]? = some c → a6 i % 256 = c
def AbR (u9 : Int) (a8 : Int → Int) (rw' : List Int) : Prop := (u9 = (rw'.length : Nat) ∧ rw'.length ≤ 16) ∧ ∀ (i : Nat) (c : Int), rw'[i]? = some c → a8 i = c
def AbH (u16 : Int) (a14 a15 : Int → Int) (hw ha : List Int) : Prop := (u16 = (hw.length : Nat) ∧ hw.length ≤ 12 ∧ ha.length = hw.length) ∧ (∀ (i : Nat) (c : Int), hw[i]? = some c → a14 i = c ∧ 0 ≤ c ∧ c ≤ 3) ∧ ∀ (i : Nat) (c : Int), ha[i]? = some c → a15 i = c ∧ 0 ≤ c ∧ c ≤ 9
def Sy (G : Wd) (x : Nat) (d : DS) (un : List DS) (pg : Nat → Option DS) (tx rw' hw ha cs : List Int) (B : Int) : Prop :=
  ∃ A rf E dr u ru ai ar ah, Wo G x A rf E dr u ru ai ar ∧ AbD rf E dr ah (ar 3) (ar 20) (ai 21) (u 4) (u 5) d un pg B ∧ AbT (u 7) (ai 6) tx ∧ AbR (u 9) (ai 8) rw' ∧ AbH (u 16) (ai 14) (ai 15) hw ha ∧ RuleT G ru (tmC cs)
theorem RuleT.x {G G1 : Wd} {o : Option Nat} {t : Tmf} {lo hi : Nat} (h : RuleT G o t) (f : FrX lo hi G G1) : RuleT G1 o t := h.on f.2.1 f.2.2
/-- a row of the twin's at o -/
def RowAt (f : Int → Int) (o : Int) (e : DS) : Prop := RowR (fun i => f (o + i)) e
theorem RowR.congr {ρ ρ' : Rec} {d : DS} (h : RowR ρ d) (hl : Lens d) (e : ∀ i : Int, 0 ≤ i → i < 844 → ρ' i = ρ i) : RowR ρ' d := by
  obtain ⟨h1, h2, h4, h5, h6, h7, h8⟩ := h
  refine ⟨fun j hj => ?_, by rw [e _ (by omega) (by omega)]; exact h2, by rw [e _ (by omega) (by omega)]; exact h4, fun q hq => (h5 q hq).congr (fun j j0 j1 => e j (by omega) (by omega)), fun q hq => (h6 q hq).congr (fun j j0 j1 => e j (by omega) (by omega)), h7.congr hl.1 (fun j j0 j1 => e j (by omega) (by omega)), h8.congr hl.2 (fun j j0 j1 => e j (by omega) (by omega))⟩
  have hj' := hj
  unfold isSc at hj'
  rw [e _ (by omega) (by omega)]; exact h1 j hj
def TnT (w3 : Int → Int) (w4 : Int) (tx : List Int) : Prop := w4 = (tx.length : Nat) ∧ ∀ (i : Nat) (c : Int), tx[i]? = some c → w3 i = c ∧ 0 ≤ c ∧ c < 256
def TnR (w1 : Int) (w2 : Int → Int) (rw' : List Int) : Prop := w1 = (rw'.length : Nat) ∧ ∀ (i : Nat) (c : Int), rw'[i]? = some c → w2 i = c
def TnH (w36 : Int) (w37 w38 : Int → Int) (hw ha : List Int) : Prop := w36 = (hw.length : Nat) ∧ (∀ (i : Nat) (c : Int), hw[i]? = some c → w37 i = c) ∧ ∀ (i : Nat) (c : Int), ha[i]? = some c → w38 i = c
def TnU (w22 : Int) (w23 : Int → Int) (un : List DS) : Prop := w22 = (un.length : Nat) ∧ ∀ (k : Nat) (e : DS), un[k]? = some e → RowAt w23 (844 * k) e
def TnP (w42 w43 w44 : Int → Int) (pg : Nat → Option DS) : Prop := ∀ i : Nat, i < 2 → (pg i = none ∧ w42 i = 0) ∨ ∃ e, pg i = some e ∧ w42 i = 1 ∧ w43 i = e.s 900 ∧ RowAt w44 (844 * i) e
def LnQ (a16 a17 a18 a19 : Int → Int) (e : DS) : Prop := ∀ q : Nat, (q : Int) < e.s 900 → a16 q = e.s (89 * q + 20) ∧ a17 q = e.s (89 * q + 21) ∧ a18 q = e.s (89 * q + 22) ∧ a19 q = e.s (89 * q + 23)
def TnQ (a16 a17 a18 a19 : Int → Int) (un : List DS) (pg : Nat → Option DS) : Prop := (∀ (k : Nat) (e : DS), un[k]? = some e → LnQ a16 a17 a18 a19 e) ∧ ∀ i e, i < 2 → pg i = some e → LnQ a16 a17 a18 a19 e
def Tn (w : Tw) (d : DS) (un : List DS) (pg : Nat → Option DS) (tx rw' hw ha cs : List Int) : Prop :=
  TwA w 20 d ∧ w 15 0 = d.s 900 ∧ TnU (w 22 0) (w 23) un ∧ TnP (w 42) (w 43) (w 44) pg ∧ TnT (w 3) (w 4 0) tx ∧ TnR (w 1 0) (w 2) rw' ∧ TnH (w 36 0) (w 37) (w 38) hw ha ∧ CodeW w cs ∧ (cs.length ≤ 60 ∧ (cs = [] ∨ Gd cs)) ∧ TnQ (w 16) (w 17) (w 18) (w 19) un pg
theorem Tn.rule {w : Tw} {d : DS} {un : List DS} {pg : Nat → Option DS} {tx rw' hw ha cs : List Int} (h : Tn w d un pg tx rw' hw ha cs) : RuleW w (tmC cs) := by
  obtain ⟨-, -, -, -, -, -, -, h1, ⟨h2, h3⟩, -⟩ := h
  exact RuleW.mk h1 h2 h3
/-- a number is told -/
theorem AbR.tell {u9 : Int} {a8 : Int → Int} {l : List Int} {v : Int} (h : AbR u9 a8 l) (hl : l.length < 16) : AbR (u9 + 1) (iup a8 u9 v) (l ++ [v]) := by
  obtain ⟨⟨h1, h2⟩, h3⟩ := h
  refine ⟨⟨by rw [h1, List.length_append, List.length_singleton]; omega, by rw [List.length_append, List.length_singleton]; omega⟩, fun i c hc => ?_⟩
  have hi := get_lt hc
  rw [List.length_append, List.length_singleton] at hi
  by_cases e : i = l.length
  · subst e
    rw [List.getElem?_append_right (Nat.le_refl _), Nat.sub_self] at hc
    simp only [List.getElem?_cons_zero, Option.some.injEq] at hc
    rw [h1, iup_at]; exact hc
  · rw [List.getElem?_append_left (by omega)] at hc
    rw [iup_ne (by omega)]; exact h3 i c hc
theorem TnR.tell {w1 : Int} {w2 : Int → Int} {l : List Int} {v : Int} (h : TnR w1 w2 l) : TnR (w1 + 1) (iup w2 w1 v) (l ++ [v]) := by
  obtain ⟨h1, h3⟩ := h
  refine ⟨by rw [h1, List.length_append, List.length_singleton]; omega, fun i c hc => ?_⟩
  have hi := get_lt hc
  rw [List.length_append, List.length_singleton] at hi
  by_cases e : i = l.length
  · subst e
    rw [List.getElem?_append_right (Nat.le_refl _), Nat.sub_self] at hc
    simp only [List.getElem?_cons_zero, Option.some.injEq] at hc
    rw [h1, iup_at]; exact hc
  · rw [List.getElem?_append_left (by omega)] at hc
    rw [iup_ne (by omega)]; exact h3 i c hc
section
variable {G : Wd} {x : Nat} {d : DS} {un : List DS} {pg : Nat → Option DS} {tx rw' hw ha cs : List Int} {B : Int}
theorem Sy.fr {G' : Wd} {lo hi : Nat} (h : Sy G x d un pg tx rw' hw ha cs B) (f : FrX lo hi G G') (hl : hi ≤ 10 ∨ 2100 ≤ lo) : Sy G' x d un pg tx rw' hw ha cs B := by
  obtain ⟨A, rf, E, dr, u, ru, ai, ar, ah, h1, h2, h3, h4, h5, h6⟩ := h
  exact ⟨A, rf, E, dr, u, ru, ai, ar, ah, h1.fr f hl, h2, h3, h4, h5, h6.x f⟩
theorem Sy.wf (h : Sy G x d un pg tx rw' hw ha cs B) : WF d B ∧ 99 ≤ B ∧ B ≤ 70000000 := by
  obtain ⟨A, rf, E, dr, u, ru, ai, ar, ah, h1, ⟨-, -, -, -, h2, -⟩, h3, h4, h5, h6⟩ := h
  exact h2
/-- rowMany = 0 -/
theorem q_row0 {K : Wd → Prop} (h : Sy G x d un pg tx rw' hw ha cs B) (hk : ∀ G', Sy G' x d un pg tx [] hw ha cs B → FQ G G' → K G') : pF G x [0] 9 (vI 0) K := by
  obtain ⟨A, rf, E, dr, u, ru, ai, ar, ah, h1, h2, h3, h4, h5, h6⟩ := h
  refine pQ_9 h1 (fun G' g f => hk G' ⟨A, rf, E, dr, _, ru, ai, ar, ah, g, h2, h3, ⟨⟨rfl, by simp⟩, fun i c hc => by simp at hc⟩, h5, h6.x f⟩ (f.wide (by omega) (by omega)))
theorem q_tell {K : Wd → Prop} {v : Int} (h : Sy G x d un pg tx rw' hw ha cs B) (hl : rw'.length < 16) (hk : ∀ G', Sy G' x d un pg tx (rw' ++ [v]) hw ha cs B → FQ G G' → K G') : f_X1_tell x v G K := by
  obtain ⟨A, rf, E, dr, u, ru, ai, ar, ah, h1, h2, h3, h4, h5, h6⟩ := h
  have hu := h4.1
  unfold f_X1_tell
  refine gQ_8 h1 (gQ_9 h1 (nn_of (stQ_8 h1 (by omega) (by omega) (fun G1 g1 f1 => gQ_9 g1 (pQ_9 g1 (fun G2 g2 f2 => hk G2 ⟨A, rf, E, dr, _, ru, _, ar, ah, g2, h2, h3, h4.tell hl, h5, (h6.x f1).x f2⟩ ((f1.wide (by omega) (by omega)).trans (f2.wide (by omega) (by omega)))))))))
theorem q_isQueue {Q : Bool → Wd → Prop} {q : Int} (h : Sy G x d un pg tx rw' hw ha cs B) (hq : R32 q) (hQ : Q (decide (0 ≤ q ∧ q < d.s 900)) G) : f_X1_isQueue x q G Q := by
  obtain ⟨A, rf, E, dr, u, ru, ai, ar, ah, h1, h2, h3, h4, h5, h6⟩ := h
  have hd := h1.drv (i := 0) (by omega) (h2.1 0 (by omega))
  rw [h2.2.1] at hd
  have hm := h2.2.2.2.2.1.1.many
  unfold f_X1_isQueue
  exact ⟨hq, gQ_0 h1 (nn_of (gD_8 hd ⟨⟨by omega, by omega⟩, p_inq hq hm hQ⟩))⟩
end
