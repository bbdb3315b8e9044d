/-! PURE PROOFS: what is always so of a drive -/
set_option maxRecDepth 100000
def CmdOK (c : Rec) : Prop := (0 ≤ c 0 ∧ c 0 < 16) ∧ (0 ≤ c 1 ∧ c 1 ≤ 4) ∧ (0 ≤ c 2 ∧ c 2 ≤ 9) ∧ (0 ≤ c 3 ∧ c 3 ≤ 99) ∧ (c 4 = 0 ∨ c 4 = 1)
def WkOK (n : Int) (w : Rec) : Prop := (0 ≤ w 0 ∧ w 0 < n) ∧ (0 ≤ w 1 ∧ w 1 < 16) ∧ (0 ≤ w 3 ∧ w 3 ≤ 9) ∧ (0 ≤ w 4 ∧ w 4 ≤ 99) ∧ w 5 = 0 ∧ (1 ≤ w 11 ∧ w 11 ≤ 9) ∧
  ((w 7 = -1 ∧ (w 2 = 0 ∨ w 2 = 1 ∨ w 2 = 4)) ∨ (w 7 = 3 ∧ w 2 = 2 ∧ (0 ≤ w 6 ∧ w 6 < 16) ∧ (0 ≤ w 8 ∧ w 8 ≤ 9) ∧ (0 ≤ w 9 ∧ w 9 ≤ 99) ∧ w 10 = 0))
def WdOK (n : Int) (w : Rec) : Prop := (0 ≤ w 0 ∧ w 0 < n) ∧ (0 ≤ w 1 ∧ w 1 < 16) ∧ (0 ≤ w 2 ∧ w 2 ≤ 4) ∧ (0 ≤ w 3 ∧ w 3 ≤ 99)
def PsOK (lo hi : Int) (p : Rec) : Prop := (0 ≤ p 0 ∧ p 0 < 16) ∧ (0 ≤ p 1 ∧ p 1 ≤ 4) ∧ (0 ≤ p 2 ∧ p 2 ≤ 99) ∧ (lo ≤ p 3 ∧ p 3 ≤ hi) ∧ (p 4 = 0 ∨ p 4 = 1)
/-- heads do not go back -/
def Hds : List Rec → Prop
  | [] => True
  | p :: l => (∀ x ∈ l, p 3 ≤ x 3) ∧ Hds l
def All (P : Rec → Prop) (l : List Rec) : Prop := ∀ x ∈ l, P x
def WS (s : Rec) (B : Int) : Prop := (∀ i, -B ≤ s i ∧ s i ≤ B) ∧ (0 ≤ s 900 ∧ s 900 ≤ 5) ∧ (1 ≤ s 826 ∧ s 826 ≤ 4) ∧ 0 ≤ s 827 ∧ (∀ i, 828 ≤ i → i < 838 → 0 ≤ s i ∧ s i ≤ 99) ∧ s 814 = 0 ∧ (∀ i, 815 ≤ i → i < 818 → 1 ≤ s i ∧ s i ≤ 9) ∧
  (∀ i, 818 ≤ i → i < 822 → 0 ≤ s i ∧ s i ≤ 9) ∧ (∀ i, 822 ≤ i → i < 826 → 0 ≤ s i ∧ s i ≤ 4) ∧ s 840 + s 841 + s 842 + s 843 = s (89 * 0 + 3) + s (89 * 1 + 3) + s (89 * 2 + 3) + s (89 * 3 + 3) + s (89 * 4 + 3)
def WLs (s : Rec) (q : Nat) : Prop := (0 ≤ s (89 * q + 4) ∧ s (89 * q + 4) ≤ s (89 * q + 3) ∧ s (89 * q + 3) ≤ s (89 * q + 2) ∧ s (89 * q + 2) ≤ s (89 * q + 1) ∧ s (89 * q + 1) ≤ s (89 * q + 0)) ∧ (0 ≤ s (89 * q + 6) ∧ s (89 * q + 6) ≤ s (89 * q + 5)) ∧
  (s (89 * q + 8) = 0 ∨ s (89 * q + 8) = 1) ∧ (s (89 * q + 23) = 0 ∨ s (89 * q + 23) = 1) ∧
  ((q : Int) < s 900 → (2 ≤ s (89 * q + 20) ∧ s (89 * q + 20) ≤ 8) ∧ (2 ≤ s (89 * q + 21) ∧ s (89 * q + 21) ≤ 8) ∧ (0 ≤ s (89 * q + 22) ∧ s (89 * q + 22) ≤ 3) ∧ s (89 * q + 0) - s (89 * q + 4) ≤ s (89 * q + 20) - 1 ∧ s (89 * q + 5) - s (89 * q + 6) ≤ s (89 * q + 21) - 1) ∧
  (s 900 ≤ (q : Int) → s (89 * q + 0) = 0 ∧ s (89 * q + 5) = 0 ∧ s (89 * q + 7) = 0 ∧ s (89 * q + 8) = 0 ∧ s (89 * q + 20) = 0 ∧ s (89 * q + 21) = 0 ∧ s (89 * q + 22) = 0 ∧ s (89 * q + 23) = 0)
def WL (s : Rec) (q : Nat) (ring posts : List Rec) : Prop := WLs s q ∧ (ring.length : Int) = s (89 * q + 0) - s (89 * q + 3) ∧ (posts.length : Int) = s (89 * q + 5) - s (89 * q + 6) ∧ All CmdOK ring ∧ All (PsOK (s (89 * q + 4)) (s (89 * q + 3))) posts ∧ Hds posts
def WC (d : DS) : Prop := ∀ q : Nat, q < 5 → d.us q < 65536 ∧ ∀ a : Int, kR a (d.ring q) + kW q a d.run + kO q a d.out + kR a (d.posts q) = if 0 ≤ a ∧ (d.us q).testBit a.toNat = true then 1 else 0
def WF (d : DS) (B : Int) : Prop := WS d.s B ∧ (∀ q : Nat, q < 5 → WL d.s q (d.ring q) (d.posts q)) ∧ (d.run.length ≤ 4 ∧ All (WkOK (d.s 900)) d.run) ∧ All (WdOK (d.s 900)) d.out ∧ WC d
section
variable {d : DS} {B : Int} {q : Nat}
theorem WF.r (h : WF d B) (hB : B ≤ 1000000000) (i : Int) : R32 (d.s i) := by
  have := h.1.1 i
  exact ⟨by omega, by omega⟩
theorem WF.ws (h : WF d B) : WS d.s B := h.1
theorem WF.wl (h : WF d B) (hq : q < 5) : WL d.s q (d.ring q) (d.posts q) := h.2.1 q hq
theorem WF.many (h : WF d B) : 0 ≤ d.s 900 ∧ d.s 900 ≤ 5 := h.1.2.1
/-- lines that are there -/
theorem WF.l8 (h : WF d B) (hq : (q : Int) < d.s 900) : (2 ≤ d.s (89 * q + 20) ∧ d.s (89 * q + 20) ≤ 8) ∧ (2 ≤ d.s (89 * q + 21) ∧ d.s (89 * q + 21) ≤ 8) ∧ (0 ≤ d.s (89 * q + 22) ∧ d.s (89 * q + 22) ≤ 3) ∧ d.s (89 * q + 0) - d.s (89 * q + 4) ≤ d.s (89 * q + 20) - 1 ∧ d.s (89 * q + 5) - d.s (89 * q + 6) ≤ d.s (89 * q + 21) - 1 := by
  have := h.many
  exact (h.wl (q := q) (by omega)).1.2.2.2.2.1 hq
theorem WF.ringlen (h : WF d B) (hq : q < 5) : (d.ring q).length ≤ 7 := by
  obtain ⟨⟨h1, h2, h3, h4, h5, h6⟩, h7, h8, h9⟩ := h.wl hq
  by_cases hc : (q : Int) < d.s 900
  · have := h5 hc; omega
  · have := h6 (by omega); omega
theorem WF.postslen (h : WF d B) (hq : q < 5) : (d.posts q).length ≤ 7 := by
  obtain ⟨⟨h1, h2, h3, h4, h5, h6⟩, h7, h8, h9⟩ := h.wl hq
  by_cases hc : (q : Int) < d.s 900
  · have := h5 hc; omega
  · have := h6 (by omega); omega
theorem WF.work (h : WF d B) (hq : q < 5) (hw : hasW d.s q = true) : (q : Int) < d.s 900 := by
  obtain ⟨⟨h1, h2, h3, h4, h5, h6⟩, h7, h8, h9⟩ := h.wl hq
  unfold hasW at hw
  have hw := of_decide_eq_true hw
  by_cases hc : (q : Int) < d.s 900
  · exact hc
  · have := h6 (by omega); omega
theorem WF.nn (h : WF d B) (hq : q < 5) : 0 ≤ d.s (89 * q + 3) ∧ 0 ≤ d.s (89 * q + 6) ∧ 0 ≤ d.s (89 * q + 0) ∧ 0 ≤ d.s (89 * q + 5) := by
  obtain ⟨⟨h1, h2, h3⟩, h7⟩ := h.wl hq
  omega
end
/-- how many at most: n queues, 16 ids -/
def sumN (f : Nat → Nat) : Nat → Nat
  | 0 => 0
  | n + 1 => sumN f n + f n
theorem sumN_le {f : Nat → Nat} {b : Nat} : ∀ n, (∀ i, i < n → f i ≤ b) → sumN f n ≤ n * b
  | 0, _ => by simp [sumN]
  | n + 1, h => by
    have h1 := sumN_le n (fun i hi => h i (by omega))
    have h2 := h n (by omega)
    simp only [sumN, Nat.succ_mul]
    omega
theorem sumN_add {f g : Nat → Nat} : ∀ n, sumN (fun i => f i + g i) n = sumN f n + sumN g n
  | 0 => rfl
  | n + 1 => by simp only [sumN, sumN_add n]; omega
theorem sumN_one {f : Nat → Nat} : ∀ {n k : Nat}, k < n → 1 ≤ f k → 1 ≤ sumN f n
  | n + 1, k, h, h1 => by
    simp only [sumN]
    by_cases e : k = n
    · subst e; omega
    · have := sumN_one (f := f) (n := n) (k := k) (by omega) h1; omega
theorem out_sum {n : Int} (hn : n ≤ 5) : ∀ {l : List Rec}, All (WdOK n) l → l.length ≤ sumN (fun q => sumN (fun a => kO q a l) 16) 5
  | [], _ => by simp
  | w :: l, h => by
    have ih := out_sum hn (l := l) (fun x hx => h x (List.mem_cons_of_mem _ hx))
    obtain ⟨⟨h0, h1⟩, ⟨h2, h3⟩, -⟩ := h w List.mem_cons_self
    have e : (fun q : Nat => sumN (fun a : Nat => kO q a (w :: l)) 16) = fun q : Nat => sumN (fun a : Nat => if w 0 = q ∧ w 1 = a then 1 else 0) 16 + sumN (fun a : Nat => kO q a l) 16 := by
      funext q
      rw [← sumN_add]; rfl
    rw [e, sumN_add]
    have : 1 ≤ sumN (fun q : Nat => sumN (fun a : Nat => if w 0 = q ∧ w 1 = a then 1 else 0) 16) 5 :=
      sumN_one (k := (w 0).toNat) (by omega) (sumN_one (k := (w 1).toNat) (by omega) (by rw [if_pos ⟨by omega, by omega⟩]; exact Nat.le_refl 1))
    simp only [List.length_cons]
    omega
theorem WF.outlen {d : DS} {B : Int} (h : WF d B) : d.out.length ≤ 80 := by
  have h1 := out_sum h.many.2 h.2.2.2.1
  have h2 : sumN (fun q => sumN (fun a => kO q a d.out) 16) 5 ≤ 5 * 16 := sumN_le 5 (fun q hq => by
    have h3 := sumN_le (f := fun a => kO q a d.out) (b := 1) 16 (fun a ha => by
      have h4 := (h.2.2.2.2 q hq).2 a
      split at h4 <;> omega)
    simpa using h3)
  omega
