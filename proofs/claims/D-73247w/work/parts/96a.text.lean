/-! PURE PROOFS: a rule's text: how it is read, its codes, what they tell -/
set_option maxRecDepth 100000
abbrev PR : Type := Bool × Int × List Int
def hr (x : Int → Int) (E p : Int) : Int := if p < E then x p else -1
def dg (x : Int → Int) (E p : Int) : Bool := decide (48 ≤ hr x E p ∧ hr x E p ≤ 57)
def ix (l : List Int) (c : Int) : Option Nat := l.findIdx? (fun y => decide (y = c))
def numF (x : Int → Int) (E : Int) : Nat → Int → Int → Int × Int
  | 0, p, v => (p, v)
  | n + 1, p, v => if dg x E p = true then numF x E n (p + 1) (10 * v + (hr x E p - 48)) else (p, v)
def pLoop (x : Int → Int) (E : Int) (ops : List Int) (base : Int) (T : Int → PR) : Nat → Int → List Int → PR
  | 0, p, cs => (true, p, cs)
  | f + 1, p, cs => match ix ops (hr x E p) with
    | none => (true, p, cs)
    | some k => if (T (p + 1)).1 = true then pLoop x E ops base T f (T (p + 1)).2.1 (cs ++ (T (p + 1)).2.2 ++ [base + k]) else (false, (T (p + 1)).2.1, [])
def pRank (x : Int → Int) (E : Int) (ops : List Int) (base : Int) (T : Int → PR) (p : Int) : PR := if (T p).1 = true then pLoop x E ops base T 50 (T p).2.1 (T p).2.2 else (false, (T p).2.1, [])
def pProd (x : Int → Int) (E : Int) (T : Int → PR) : Int → PR := pRank x E [42, 47] 2005 T
def pSum (x : Int → Int) (E : Int) (T : Int → PR) : Int → PR := pRank x E [43, 45] 2003 (pProd x E T)
def pWhole (x : Int → Int) (E : Int) (T : Int → PR) (p : Int) : PR :=
  if (pSum x E T p).1 = true then
    match ix [60, 62, 61] (hr x E (pSum x E T p).2.1) with
    | none => pSum x E T p
    | some k => if (pSum x E T ((pSum x E T p).2.1 + 1)).1 = true then (true, (pSum x E T ((pSum x E T p).2.1 + 1)).2.1, (pSum x E T p).2.2 ++ (pSum x E T ((pSum x E T p).2.1 + 1)).2.2 ++ [2000 + (k : Int)]) else (false, (pSum x E T ((pSum x E T p).2.1 + 1)).2.1, [])
  else pSum x E T p
def letters : List Int := [111, 98, 118, 113, 99, 100, 110]
def pThing (x : Int → Int) (E : Int) (T : Int → Int → PR) (deep p : Int) : PR :=
  if hr x E p = 45 then (if (T deep (p + 1)).1 = true then (true, (T deep (p + 1)).2.1, (T deep (p + 1)).2.2 ++ [3000]) else (false, (T deep (p + 1)).2.1, []))
  else if hr x E p = 40 then
    if deep < 4 then
      if (pWhole x E (T (deep + 1)) (p + 1)).1 = true then
        if hr x E (pWhole x E (T (deep + 1)) (p + 1)).2.1 = 41 then (true, (pWhole x E (T (deep + 1)) (p + 1)).2.1 + 1, (pWhole x E (T (deep + 1)) (p + 1)).2.2) else (false, (pWhole x E (T (deep + 1)) (p + 1)).2.1, [])
      else (false, (pWhole x E (T (deep + 1)) (p + 1)).2.1, [])
    else (false, p, [])
  else if dg x E p = true then (true, (numF x E 3 p 0).1, [(numF x E 3 p 0).2])
  else match ix letters (hr x E p) with
    | none => (false, p, [])
    | some k => (true, p + 1, [1000 + (k : Int)])
def pT (x : Int → Int) (E : Int) : Nat → Int → Int → PR
  | 0, _, p => (false, p, [])
  | f + 1, deep, p => pThing x E (pT x E f) deep p
/-- the whole rule -/
def pRule (x : Int → Int) (E : Int) : PR := pWhole x E (pT x E 50 0) 0
/-! what codes tell -/
def bo1 (c : Prop) [Decidable c] : Int := if c then 1 else 0
def work (k a b : Int) : Int := if k = 0 then bo1 (a < b) else if k = 1 then bo1 (b < a) else if k = 2 then bo1 (a = b) else if k = 3 then wr (a + b) else if k = 4 then wr (a - b) else if k = 5 then wr (a * b) else if b = 0 then 0 else wr (a.tdiv b)
def ev1 (a : Int → Int) (c : Int) (st : List Int) : List Int :=
  if c = 3000 then (match st with | x :: s => wr (-x) :: s | [] => [])
  else if 2000 ≤ c then (match st with | y :: z :: s => work (c - 2000) z y :: s | _ => [])
  else (if 1000 ≤ c then a (c - 1000) else c) :: st
def evs (a : Int → Int) : List Int → List Int → List Int
  | [], st => st
  | c :: cs, st => evs a cs (ev1 a c st)
def val (a : Int → Int) (cs : List Int) : Int := (evs a cs []).headD 0
theorem evs_app {a : Int → Int} : ∀ {l m st : List Int}, evs a (l ++ m) st = evs a m (evs a l st)
  | [], _, _ => rfl
  | c :: l, m, st => by simp only [List.cons_append, evs, evs_app (l := l)]
/-- there is enough on the stack -/
def stk : Nat → List Int → Prop
  | _, [] => True
  | d, c :: cs => if c = 3000 then 1 ≤ d ∧ stk d cs else if 2000 ≤ c then 2 ≤ d ∧ stk (d - 1) cs else stk (d + 1) cs
/-- codes of one value -/
def Gd (cs : List Int) : Prop := (∀ a st, evs a cs st = val a cs :: st) ∧ (∀ c ∈ cs, (0 ≤ c ∧ c < 1000) ∨ (1000 ≤ c ∧ c < 1007) ∨ (2000 ≤ c ∧ c < 2007) ∨ c = 3000) ∧ ∀ d rest, stk (d + 1) rest → stk d (cs ++ rest)
theorem Gd.of {cs : List Int} {v : (Int → Int) → Int} (h : ∀ a st, evs a cs st = v a :: st) (h2 : ∀ c ∈ cs, (0 ≤ c ∧ c < 1000) ∨ (1000 ≤ c ∧ c < 1007) ∨ (2000 ≤ c ∧ c < 2007) ∨ c = 3000) (h3 : ∀ d rest, stk (d + 1) rest → stk d (cs ++ rest)) : Gd cs ∧ ∀ a, val a cs = v a := by
  have e : ∀ a, val a cs = v a := fun a => by unfold val; rw [h a []]; rfl
  exact ⟨⟨fun a st => by rw [h a st, e a], h2, h3⟩, e⟩
theorem Gd.neg {cs : List Int} (h : Gd cs) : Gd (cs ++ [3000]) ∧ ∀ a, val a (cs ++ [3000]) = wr (-(val a cs)) :=
  Gd.of (v := fun a => wr (-(val a cs))) (fun a st => by rw [evs_app, h.1 a st]; rfl) (fun c hc => by
    rcases List.mem_append.mp hc with hc | hc
    · exact h.2.1 c hc
    · rw [List.mem_singleton.mp hc]; omega) (fun d rest hr => by
    rw [List.append_assoc]
    refine h.2.2 d _ ?_
    show stk (d + 1) (3000 :: rest)
    unfold stk
    rw [if_pos rfl]
    exact ⟨by omega, hr⟩)
theorem Gd.op {c1 c2 : List Int} {k : Int} (h1 : Gd c1) (h2 : Gd c2) (hk : 0 ≤ k ∧ k < 7) : Gd (c1 ++ c2 ++ [2000 + k]) ∧ ∀ a, val a (c1 ++ c2 ++ [2000 + k]) = work k (val a c1) (val a c2) :=
  Gd.of (v := fun a => work k (val a c1) (val a c2)) (fun a st => by
    rw [evs_app, evs_app, h1.1 a st, h2.1 a]
    show ev1 a (2000 + k) _ = _
    unfold ev1
    rw [if_neg (by omega), if_pos (by omega), show 2000 + k - 2000 = k by omega]) (fun c hc => by
    rcases List.mem_append.mp hc with hc | hc
    · rcases List.mem_append.mp hc with hc | hc
      · exact h1.2.1 c hc
      · exact h2.2.1 c hc
    · rw [List.mem_singleton.mp hc]; omega) (fun d rest hr => by
    rw [List.append_assoc, List.append_assoc]
    refine h1.2.2 d _ (h2.2.2 (d + 1) _ ?_)
    show stk (d + 1 + 1) ((2000 + k) :: rest)
    unfold stk
    rw [if_neg (by omega), if_pos (by omega)]
    exact ⟨by omega, hr⟩)
theorem Gd.num {v : Int} (h : 0 ≤ v ∧ v < 1000) : Gd [v] ∧ ∀ a, val a [v] = v :=
  Gd.of (v := fun _ => v) (fun a st => by
    show ev1 a v st = _
    unfold ev1
    rw [if_neg (by omega), if_neg (by omega), if_neg (by omega)]) (fun c hc => by rw [List.mem_singleton.mp hc]; omega) (fun d rest hr => by
    show stk d (v :: rest)
    unfold stk
    rw [if_neg (by omega), if_neg (by omega)]
    exact hr)
theorem Gd.let {k : Int} (h : 0 ≤ k ∧ k < 7) : Gd [1000 + k] ∧ ∀ a, val a [1000 + k] = a k :=
  Gd.of (v := fun a => a k) (fun a st => by
    show ev1 a (1000 + k) st = _
    unfold ev1
    rw [if_neg (by omega), if_neg (by omega), if_pos (by omega), show 1000 + k - 1000 = k by omega]) (fun c hc => by rw [List.mem_singleton.mp hc]; omega) (fun d rest hr => by
    show stk d ((1000 + k) :: rest)
    unfold stk
    rw [if_neg (by omega), if_neg (by omega)]
    exact hr)
/-- a reading that goes on from p -/
def POK (E p : Int) (r : PR) : Prop := (r.1 = true → p < r.2.1 ∧ r.2.1 ≤ E ∧ Gd r.2.2 ∧ (r.2.2.length : Int) ≤ r.2.1 - p) ∧ (r.1 = false → p ≤ r.2.1 ∧ r.2.1 ≤ E)
section
variable {x : Int → Int} {E p : Int}
theorem ix_some {l : List Int} {c : Int} {k : Nat} (h : ix l c = some k) : k < l.length ∧ l[k]? = some c := by
  unfold ix at h
  rw [List.findIdx?_eq_some_iff_getElem] at h
  obtain ⟨h1, h2, h3⟩ := h
  exact ⟨h1, by rw [List.getElem?_eq_getElem h1]; exact congrArg some (of_decide_eq_true h2)⟩
theorem ix_lt {l : List Int} {k : Nat} (h : ix l (hr x E p) = some k) (hl : ∀ c ∈ l, 0 ≤ c) : p < E := by
  obtain ⟨h1, h2⟩ := ix_some h
  have := hl _ (List.mem_of_getElem? h2)
  unfold hr at this
  by_cases c : p < E
  · exact c
  · rw [if_neg c] at this; omega
theorem pLoop_ok {ops : List Int} {base : Int} {T : Int → PR} (hT : ∀ q, p ≤ q → q ≤ E → POK E q (T q)) (ho : ∀ c ∈ ops, 0 ≤ c) (hb : 2000 ≤ base ∧ base + (ops.length : Nat) ≤ 2007) : ∀ (f : Nat) (q : Int) (cs : List Int), p < q → q ≤ E → Gd cs → (cs.length : Int) ≤ q - p → POK E p (pLoop x E ops base T f q cs)
  | 0, q, cs, h1, h2, h3, h4 => ⟨fun _ => ⟨h1, h2, h3, h4⟩, fun z => (by cases z)⟩
  | f + 1, q, cs, h1, h2, h3, h4 => by
    unfold pLoop
    cases hk : ix ops (hr x E q) with
    | none => exact ⟨fun _ => ⟨h1, h2, h3, h4⟩, fun z => (by cases z)⟩
    | some k =>
      have hq := ix_lt hk ho
      have hkl := (ix_some hk).1
      obtain ⟨t1, t2⟩ := hT (q + 1) (by omega) (by omega)
      simp only
      by_cases c : (T (q + 1)).1 = true
      · rw [if_pos c]
        obtain ⟨m1, m2, m3, m4⟩ := t1 c
        have g := (h3.op (c2 := (T (q + 1)).2.2) (k := base - 2000 + k) m3 (by omega)).1
        rw [show 2000 + (base - 2000 + (k : Int)) = base + k by omega] at g
        refine pLoop_ok hT ho hb f _ _ (by omega) m2 g ?_
        rw [List.length_append, List.length_append, List.length_singleton]
        omega
      · rw [if_neg c]
        have := t2 (by simpa using c)
        exact ⟨fun z => (by cases z), fun _ => ⟨by show p ≤ (T (q + 1)).2.1; omega, this.2⟩⟩
theorem pRank_ok {ops : List Int} {base : Int} {T : Int → PR} (hT : ∀ q, p ≤ q → q ≤ E → POK E q (T q)) (ho : ∀ c ∈ ops, 0 ≤ c) (hb : 2000 ≤ base ∧ base + (ops.length : Nat) ≤ 2007) (hp : p ≤ E) : POK E p (pRank x E ops base T p) := by
  unfold pRank
  obtain ⟨t1, t2⟩ := hT p (by omega) hp
  by_cases c : (T p).1 = true
  · rw [if_pos c]
    obtain ⟨m1, m2, m3, m4⟩ := t1 c
    exact pLoop_ok hT ho hb 50 _ _ m1 m2 m3 m4
  · rw [if_neg c]
    exact ⟨fun z => (by cases z), fun _ => t2 (by simpa using c)⟩
theorem pProd_ok {T : Int → PR} (hT : ∀ q, p ≤ q → q ≤ E → POK E q (T q)) (hp : p ≤ E) : POK E p (pProd x E T p) := pRank_ok hT (by decide) (by decide) hp
theorem pSum_ok {T : Int → PR} (hT : ∀ q, p ≤ q → q ≤ E → POK E q (T q)) (hp : p ≤ E) : POK E p (pSum x E T p) := pRank_ok (fun q h1 h2 => pProd_ok (fun q' h1' h2' => hT q' (by omega) h2') h2) (by decide) (by decide) hp
theorem pWhole_ok {T : Int → PR} (hT : ∀ q, p ≤ q → q ≤ E → POK E q (T q)) (hp : p ≤ E) : POK E p (pWhole x E T p) := by
  have hs := pSum_ok (x := x) hT hp
  unfold pWhole
  by_cases c : (pSum x E T p).1 = true
  · rw [if_pos c]
    obtain ⟨m1, m2, m3, m4⟩ := hs.1 c
    cases hk : ix [60, 62, 61] (hr x E (pSum x E T p).2.1) with
    | none => exact hs
    | some k =>
      have hq := ix_lt hk (by decide)
      have hkl : k < 3 := (ix_some hk).1
      have hs2 := pSum_ok (x := x) (p := (pSum x E T p).2.1 + 1) (fun q h1 h2 => hT q (by omega) h2) (by omega)
      simp only
      by_cases c2 : (pSum x E T ((pSum x E T p).2.1 + 1)).1 = true
      · rw [if_pos c2]
        obtain ⟨n1, n2, n3, n4⟩ := hs2.1 c2
        refine ⟨fun _ => ⟨by show p < (pSum x E T ((pSum x E T p).2.1 + 1)).2.1; omega, n2, (m3.op (k := k) n3 (by omega)).1, ?_⟩, fun z => (by cases z)⟩
        show (((pSum x E T p).2.2 ++ (pSum x E T ((pSum x E T p).2.1 + 1)).2.2 ++ [2000 + (k : Int)]).length : Int) ≤ (pSum x E T ((pSum x E T p).2.1 + 1)).2.1 - p
        rw [List.length_append, List.length_append, List.length_singleton]
        omega
      · rw [if_neg c2]
        have := hs2.2 (by simpa using c2)
        exact ⟨fun z => (by cases z), fun _ => ⟨by show p ≤ (pSum x E T ((pSum x E T p).2.1 + 1)).2.1; omega, this.2⟩⟩
  · rw [if_neg c]; exact hs
theorem dg_lt (h : dg x E p = true) : p < E ∧ 48 ≤ hr x E p ∧ hr x E p ≤ 57 := by
  have h1 := of_decide_eq_true h
  refine ⟨?_, h1⟩
  unfold hr at h1
  by_cases c : p < E
  · exact c
  · rw [if_neg c] at h1; omega
theorem numF_ok : ∀ (n : Nat) (p v : Int) (m : Nat), 0 ≤ v → v < 10 ^ m → p ≤ E → p ≤ (numF x E n p v).1 ∧ (numF x E n p v).1 ≤ E ∧ 0 ≤ (numF x E n p v).2 ∧ (numF x E n p v).2 < 10 ^ (m + n)
  | 0, p, v, m, h0, h1, h2 => ⟨Int.le_refl _, h2, h0, by show v < _; simpa using h1⟩
  | n + 1, p, v, m, h0, h1, h2 => by
    unfold numF
    by_cases c : dg x E p = true
    · rw [if_pos c]
      obtain ⟨d1, d2, d3⟩ := dg_lt c
      have hp : (10 : Int) ^ (m + 1) = 10 * 10 ^ m := by rw [Int.pow_succ]; omega
      have k := numF_ok n (p + 1) (10 * v + (hr x E p - 48)) (m + 1) (by omega) (by rw [hp]; omega) (by omega)
      rw [show m + 1 + n = m + (n + 1) by omega] at k
      exact ⟨by omega, k.2⟩
    · rw [if_neg c]
      refine ⟨Int.le_refl _, h2, h0, Int.lt_of_lt_of_le h1 ?_⟩
      have : (10 : Int) ^ m ≤ 10 ^ (m + (n + 1)) := by
        have := Nat.pow_le_pow_right (n := 10) (by decide) (show m ≤ m + (n + 1) by omega)
        exact_mod_cast this
      exact this
theorem num3_ok (h : dg x E p = true) : p < (numF x E 3 p 0).1 ∧ (numF x E 3 p 0).1 ≤ E ∧ 0 ≤ (numF x E 3 p 0).2 ∧ (numF x E 3 p 0).2 < 1000 := by
  obtain ⟨d1, d2, d3⟩ := dg_lt h
  have e : numF x E 3 p 0 = numF x E 2 (p + 1) (10 * 0 + (hr x E p - 48)) := by
    show (if dg x E p = true then _ else _) = _
    rw [if_pos h]
  rw [e]
  have k := numF_ok (x := x) (E := E) 2 (p + 1) (10 * 0 + (hr x E p - 48)) 1 (by omega) (by omega) (by omega)
  exact ⟨by omega, k.2.1, k.2.2.1, by have := k.2.2.2; simpa using this⟩
theorem pT_ok : ∀ (f : Nat) (deep p : Int), p ≤ E → POK E p (pT x E f deep p)
  | 0, deep, p, hp => ⟨fun z => (by cases z), fun _ => ⟨Int.le_refl _, hp⟩⟩
  | f + 1, deep, p, hp => by
    show POK E p (pThing x E (pT x E f) deep p)
    unfold pThing
    have lt : ∀ c : Int, 0 ≤ c → hr x E p = c → p < E := by
      intro c c0 h
      unfold hr at h
      by_cases z : p < E
      · exact z
      · rw [if_neg z] at h; omega
    by_cases c1 : hr x E p = 45
    · rw [if_pos c1]
      have hpE := lt _ (by omega) c1
      obtain ⟨t1, t2⟩ := pT_ok f deep (p + 1) (by omega)
      by_cases c : (pT x E f deep (p + 1)).1 = true
      · rw [if_pos c]
        obtain ⟨m1, m2, m3, m4⟩ := t1 c
        refine ⟨fun _ => ⟨by show p < (pT x E f deep (p + 1)).2.1; omega, m2, m3.neg.1, ?_⟩, fun z => (by cases z)⟩
        show (((pT x E f deep (p + 1)).2.2 ++ [3000]).length : Int) ≤ (pT x E f deep (p + 1)).2.1 - p
        rw [List.length_append, List.length_singleton]
        omega
      · rw [if_neg c]
        have := t2 (by simpa using c)
        exact ⟨fun z => (by cases z), fun _ => ⟨by show p ≤ (pT x E f deep (p + 1)).2.1; omega, this.2⟩⟩
    · rw [if_neg c1]
      by_cases c2 : hr x E p = 40
      · rw [if_pos c2]
        have hpE := lt _ (by omega) c2
        by_cases c3 : deep < 4
        · rw [if_pos c3]
          obtain ⟨t1, t2⟩ := pWhole_ok (x := x) (T := pT x E f (deep + 1)) (p := p + 1) (fun q _ h2 => pT_ok f (deep + 1) q h2) (by omega)
          by_cases c : (pWhole x E (pT x E f (deep + 1)) (p + 1)).1 = true
          · rw [if_pos c]
            obtain ⟨m1, m2, m3, m4⟩ := t1 c
            by_cases c4 : hr x E (pWhole x E (pT x E f (deep + 1)) (p + 1)).2.1 = 41
            · rw [if_pos c4]
              have : (pWhole x E (pT x E f (deep + 1)) (p + 1)).2.1 < E := by
                unfold hr at c4
                by_cases z : (pWhole x E (pT x E f (deep + 1)) (p + 1)).2.1 < E
                · exact z
                · rw [if_neg z] at c4; omega
              exact ⟨fun _ => ⟨by show p < (pWhole x E (pT x E f (deep + 1)) (p + 1)).2.1 + 1; omega, by show (pWhole x E (pT x E f (deep + 1)) (p + 1)).2.1 + 1 ≤ E; omega, m3, by show (((pWhole x E (pT x E f (deep + 1)) (p + 1)).2.2).length : Int) ≤ (pWhole x E (pT x E f (deep + 1)) (p + 1)).2.1 + 1 - p; omega⟩, fun z => (by cases z)⟩
            · rw [if_neg c4]
              exact ⟨fun z => (by cases z), fun _ => ⟨by show p ≤ (pWhole x E (pT x E f (deep + 1)) (p + 1)).2.1; omega, m2⟩⟩
          · rw [if_neg c]
            have := t2 (by simpa using c)
            exact ⟨fun z => (by cases z), fun _ => ⟨by show p ≤ (pWhole x E (pT x E f (deep + 1)) (p + 1)).2.1; omega, this.2⟩⟩
        · rw [if_neg c3]
          exact ⟨fun z => (by cases z), fun _ => ⟨Int.le_refl _, hp⟩⟩
      · rw [if_neg c2]
        by_cases c3 : dg x E p = true
        · rw [if_pos c3]
          obtain ⟨n1, n2, n3, n4⟩ := num3_ok c3
          exact ⟨fun _ => ⟨n1, n2, (Gd.num ⟨n3, n4⟩).1, by show (([(numF x E 3 p 0).2] : List Int).length : Int) ≤ (numF x E 3 p 0).1 - p; rw [List.length_singleton]; omega⟩, fun z => (by cases z)⟩
        · rw [if_neg c3]
          cases hk : ix letters (hr x E p) with
          | none => exact ⟨fun z => (by cases z), fun _ => ⟨Int.le_refl _, hp⟩⟩
          | some k =>
            have hpE := ix_lt hk (by decide)
            have hkl : k < 7 := (ix_some hk).1
            exact ⟨fun _ => ⟨by show p < p + 1; omega, by show p + 1 ≤ E; omega, (Gd.let (k := k) (by omega)).1, by show (([1000 + (k : Int)] : List Int).length : Int) ≤ p + 1 - p; rw [List.length_singleton]; omega⟩, fun z => (by cases z)⟩
end
