/-! PURE PROOFS: the plain drive. A record is Int → Int. Command: id op at value called; word: queue id status result; post: id status result head phase;
work: queue, first 1..5, second 6..10 (op at 7, below 0: none), left 11. Scalars s lie as in the twin's row: of queue q written rung seen fetched told posted
taken mark awake at 89 q + 0..8, slots places kind shadowed at 89 q + 20..23; 814 weight 818 credit 822 last 826 depth 827 tick 828 blocks 838 bells 839 spared
840 served; 900 many 901 fetches 902 posts -/
set_option maxRecDepth 100000
abbrev Rec : Type := Int → Int
abbrev DS : Type := Rec × (Nat → List Rec) × (Nat → List Rec) × (Nat → Nat) × List Rec × List Rec
def DS.s (d : DS) : Rec := d.1
def DS.ring (d : DS) : Nat → List Rec := d.2.1
def DS.posts (d : DS) : Nat → List Rec := d.2.2.1
def DS.us (d : DS) : Nat → Nat := d.2.2.2.1
def DS.run (d : DS) : List Rec := d.2.2.2.2.1
def DS.out (d : DS) : List Rec := d.2.2.2.2.2
theorem s_mk {s : Rec} {r : (Nat → List Rec) × (Nat → List Rec) × (Nat → Nat) × List Rec × List Rec} : DS.s (s, r) = s := rfl
theorem ring_mk {s : Rec} {x : Nat → List Rec} {r : (Nat → List Rec) × (Nat → Nat) × List Rec × List Rec} : DS.ring (s, x, r) = x := rfl
theorem posts_mk {s : Rec} {x y : Nat → List Rec} {r : (Nat → Nat) × List Rec × List Rec} : DS.posts (s, x, y, r) = y := rfl
theorem us_mk {s : Rec} {x y : Nat → List Rec} {u : Nat → Nat} {r : List Rec × List Rec} : DS.us (s, x, y, u, r) = u := rfl
theorem run_mk {s : Rec} {x y : Nat → List Rec} {u : Nat → Nat} {l m : List Rec} : DS.run (s, x, y, u, l, m) = l := rfl
theorem out_mk {s : Rec} {x y : Nat → List Rec} {u : Nat → Nat} {l m : List Rec} : DS.out (s, x, y, u, l, m) = m := rfl
theorem ring_2 {s : Rec} {d : DS} : DS.ring (s, d.2) = d.ring := rfl
theorem posts_2 {s : Rec} {d : DS} : DS.posts (s, d.2) = d.posts := rfl
theorem us_2 {s : Rec} {d : DS} : DS.us (s, d.2) = d.us := rfl
theorem run_2 {s : Rec} {d : DS} : DS.run (s, d.2) = d.run := rfl
theorem out_2 {s : Rec} {d : DS} : DS.out (s, d.2) = d.out := rfl
def nup {α : Type} (f : Nat → α) (q : Nat) (x : α) : Nat → α := fun j => if j = q then x else f j
theorem nup_at {α : Type} {f : Nat → α} {q : Nat} {x : α} : nup f q x q = x := by unfold nup; rw [if_pos rfl]
theorem nup_ne {α : Type} {f : Nat → α} {q j : Nat} {x : α} (h : j ≠ q) : nup f q x j = f j := by unfold nup; rw [if_neg h]
theorem iup_at {f : Int → Int} {i x : Int} : iup f i x i = x := by unfold iup; rw [if_pos rfl]
theorem iup_ne {f : Int → Int} {i j x : Int} (h : j ≠ i) : iup f i x j = f j := by unfold iup; rw [if_neg h]
def rec4 (a b c d : Int) : Rec := fun i => if i = 0 then a else if i = 1 then b else if i = 2 then c else d
def rec5 (a b c d e : Int) : Rec := fun i => if i = 0 then a else if i = 1 then b else if i = 2 then c else if i = 3 then d else e
def wk1 (q : Int) (c : Rec) (t : Int) : Rec := fun i => if i = 0 then q else if i = 11 then t else if i = 7 then -1 else if i ≤ 5 then c (i - 1) else 0
def wk2 (q : Int) (c o : Rec) (t : Int) : Rec := fun i => if i = 0 then q else if i = 11 then t else if i ≤ 5 then c (i - 1) else o (i - 6)
/-- how often an id is there -/
def kR (a : Int) : List Rec → Nat
  | [] => 0
  | c :: l => (if c 0 = a then 1 else 0) + kR a l
def kW (q a : Int) : List Rec → Nat
  | [] => 0
  | w :: l => (if w 0 = q ∧ w 1 = a then 1 else 0) + (if w 0 = q ∧ 0 ≤ w 7 ∧ w 6 = a then 1 else 0) + kW q a l
def kO (q a : Int) : List Rec → Nat
  | [] => 0
  | w :: l => (if w 0 = q ∧ w 1 = a then 1 else 0) + kO q a l
theorem kR_app {a : Int} {l m : List Rec} : kR a (l ++ m) = kR a l + kR a m := by
  induction l with
  | nil => simp [kR]
  | cons c l ih => simp only [List.cons_append, kR, ih]; omega
theorem kW_app {q a : Int} {l m : List Rec} : kW q a (l ++ m) = kW q a l + kW q a m := by
  induction l with
  | nil => simp [kW]
  | cons c l ih => simp only [List.cons_append, kW, ih]; omega
theorem kO_app {q a : Int} {l m : List Rec} : kO q a (l ++ m) = kO q a l + kO q a m := by
  induction l with
  | nil => simp [kO]
  | cons c l ih => simp only [List.cons_append, kO, ih]; omega
/-- what is done -/
def hasW (s : Rec) (q : Nat) : Bool := decide (s (89 * q + 3) < s (89 * q + 2))
def bellOf (s : Rec) (q : Nat) : Int := if s (89 * q + 1) = s (89 * q + 0) then -2 else if s (89 * q + 23) ≠ 1 ∨ (s (89 * q + 1) ≤ s (89 * q + 7) ∧ s (89 * q + 7) < s (89 * q + 0)) then 1 else 0
def ringS (s : Rec) (q : Nat) : Rec :=
  if bellOf s q = -2 then s else if bellOf s q = 0 then iup (iup s (89 * q + 1) (s (89 * q + 0))) 839 (s 839 + 1)
  else iup (iup (iup (iup s (89 * q + 1) (s (89 * q + 0))) 838 (s 838 + 1)) (89 * q + 2) (s (89 * q + 0))) (89 * q + 8) (s (89 * q + 23))
def ringD (d : DS) (q : Nat) : DS := (ringS d.s q, d.2)
def putD (d : DS) (q : Nat) (op b v : Int) : DS :=
  (iup d.s (89 * q + 0) (d.s (89 * q + 0) + 1), nup d.ring q (d.ring q ++ [rec5 (ones 32 (d.us q) : Nat) op b v 0]), d.posts, nup d.us q (d.us q ||| 2 ^ (ones 32 (d.us q))), d.run, d.out)
def takeD (d : DS) (q : Nat) (p : Rec) : DS :=
  (iup (iup d.s (89 * q + 6) (d.s (89 * q + 6) + 1)) (89 * q + 4) (p 3), d.ring, nup d.posts q (d.posts q).tail, nup d.us q (bclr (d.us q) (p 0).toNat), d.run, d.out)
abbrev outD (d : DS) (w : Rec) : DS := (d.s, d.ring, d.posts, d.us, d.run, d.out ++ [w])
def fin1 (d : DS) (w : Rec) : DS := outD ((if w 2 = 1 then iup d.s (828 + w 3) (w 4) else d.s), d.2) (rec4 (w 0) (w 1) 0 (if w 2 = 0 then d.s (828 + w 3) else if w 2 = 1 then w 4 else 0))
def fin2 (d : DS) (w : Rec) : DS :=
  outD (outD ((if d.s (828 + w 3) = w 4 then iup d.s (828 + w 8) (w 9) else d.s), d.2) (rec4 (w 0) (w 1) (if d.s (828 + w 3) = w 4 then 0 else 2) (d.s (828 + w 3))))
    (rec4 (w 0) (w 6) (if d.s (828 + w 3) = w 4 then 0 else 3) (if d.s (828 + w 3) = w 4 then w 9 else 0))
def finD (d : DS) (w : Rec) : DS := if w 7 < 0 then fin1 d w else fin2 d w
abbrev setRun (d : DS) (l : List Rec) : DS := (d.s, d.ring, d.posts, d.us, l, d.out)
abbrev setOut (d : DS) (l : List Rec) : DS := (d.s, d.ring, d.posts, d.us, d.run, l)
abbrev setS (d : DS) (s : Rec) : DS := (s, d.2)
def dec (w : Rec) : Rec := iup w 11 (w 11 - 1)
def runStep (d : DS) (w : Rec) : DS := if 0 < dec w 11 then setRun d (d.run ++ [dec w]) else finD d (dec w)
def runAll (d : DS) : DS := d.run.foldl runStep (setRun d [])
def phs (n p : Int) : Int := if n / p % 2 = 0 then 1 else 0
def hasP (s : Rec) (q : Nat) : Bool := decide (s (89 * q + 5) - s (89 * q + 6) < s (89 * q + 21) - 1)
def postD (d : DS) (w : Rec) : DS :=
  (iup (iup d.s (89 * (w 0).toNat + 5) (d.s (89 * (w 0).toNat + 5) + 1)) 902 (d.s 902 + 1), d.ring,
   nup d.posts (w 0).toNat (d.posts (w 0).toNat ++ [rec5 (w 1) (w 2) (w 3) (d.s (89 * (w 0).toNat + 3)) (phs (d.s (89 * (w 0).toNat + 5)) (d.s (89 * (w 0).toNat + 21)))]), d.us, d.run, d.out)
def postStep (d : DS) (w : Rec) : DS := if hasP d.s (w 0).toNat then postD d w else setOut d (d.out ++ [w])
def postAll (d : DS) : DS := d.out.foldl postStep (setOut d [])
def look1 (s : Rec) (q : Nat) : Rec :=
  if s (89 * q + 23) = 1 ∧ s (89 * q + 8) = 1 then
    if s (89 * q + 3) < s (89 * q + 1) then iup s (89 * q + 2) (s (89 * q + 1)) else iup (iup (iup s (89 * q + 2) (s (89 * q + 1))) (89 * q + 7) (s (89 * q + 1))) (89 * q + 8) 0
  else s
def lookTo (s : Rec) : Nat → Rec
  | 0 => s
  | q + 1 => look1 (lookTo s q) q
def lookD (d : DS) : DS := (lookTo d.s (d.s 900).toNat, d.2)
def turnQ (s : Rec) (c : Int) (m : Nat) : Nat := ((s (822 + c) + (5 - (m : Int))) % 5).toNat
def isT (s : Rec) (c : Int) (q : Nat) : Bool := decide ((q : Int) < s 900) && decide (s (89 * q + 22) = c) && hasW s q
def turnN (s : Rec) (c : Int) : Nat → Option Nat
  | 0 => none
  | m + 1 => if isT s c (turnQ s c m) = true then some (turnQ s c m) else turnN s c m
def turn (s : Rec) (c : Int) : Option Nat := turnN s c 5
/-- the first class with credit and work, of the last m -/
def crN (s : Rec) : Nat → Option Nat
  | 0 => none
  | m + 1 => if 0 < s (818 + (3 - (m : Int))) ∧ (turn s (3 - (m : Int))).isSome = true then some (3 - m) else crN s m
def refill (s : Rec) : Rec := fun i => if 818 ≤ i ∧ i < 822 then s (i - 4) else s i
def refl1 (s : Rec) : Rec := if (crN s 3).isSome = true then s else refill s
def choose1 (s : Rec) (c q : Nat) : Rec := iup (iup s (818 + (c : Int)) (s (818 + (c : Int)) - 1)) (822 + (c : Int)) q
/-- the next queue, and how it stands behind -/
def chosen (s : Rec) : Option Nat × Rec :=
  match turn s 0 with
  | some q => (some q, iup s 822 q)
  | none => match crN (refl1 s) 3 with
    | none => (none, refl1 s)
    | some c => match turn (refl1 s) c with
      | none => (none, refl1 s)
      | some q => (some q, choose1 (refl1 s) c q)
def nextS (s : Rec) (q : Nat) : Rec := iup (iup (iup s (89 * q + 3) (s (89 * q + 3) + 1)) 901 (s 901 + 1)) (840 + s (89 * q + 22)) (s (840 + s (89 * q + 22)) + 1)
def nextD (d : DS) (q : Nat) : DS := (nextS d.s q, nup d.ring q (d.ring q).tail, d.2.2)
abbrev Tmf : Type := Int → Int → Int → Int → Int → Int → Int → Int
def timeD (t : Tmf) (d : DS) (q : Nat) (c : Rec) : Int := max 1 (min 9 (t (c 1) (c 2) (c 3) q (d.s (89 * q + 22)) d.run.length (d.s 827 % 7)))
def pairs (d : DS) (q : Nat) (c : Rec) : Option Rec := if c 1 = 2 ∧ hasW d.s q = true then (d.ring q).head? else none
def isPair (o : Option Rec) : Option Rec := match o with | none => none | some o => if o 1 = 3 ∧ ¬ o 4 = 1 then some o else none
def fetchQ (t : Tmf) (d : DS) (q : Nat) (c : Rec) : DS :=
  if c 4 = 1 then outD d (rec4 q (c 0) 1 0)
  else if c 1 = 2 ∨ c 1 = 3 then
    match isPair (pairs d q c) with
    | none => outD d (rec4 q (c 0) 4 0)
    | some o => setRun (nextD d q) (d.run ++ [wk2 q c o (timeD t d q c)])
  else setRun d (d.run ++ [wk1 q c (timeD t d q c)])
def fetchD (t : Tmf) (d : DS) : DS :=
  match chosen d.s with
  | (none, s) => setS d s
  | (some q, s) => match d.ring q with
    | [] => setS d s
    | c :: _ => fetchQ t (nextD (setS d s) q) q c
def anyW (s : Rec) : Nat → Bool
  | 0 => false
  | q + 1 => anyW s q || hasW s q
def fetchL (t : Tmf) : Nat → DS → DS
  | 0, d => d
  | f + 1, d => if (d.run.length : Int) < d.s 826 ∧ anyW d.s (d.s 900).toNat = true then fetchL t f (fetchD t d) else d
def tickD (t : Tmf) (d : DS) : DS := setS (fetchL t 40 (lookD (postAll (runAll d)))) (iup (fetchL t 40 (lookD (postAll (runAll d)))).s 827 ((fetchL t 40 (lookD (postAll (runAll d)))).s 827 + 1))
def emptS (s : Rec) (n : Nat) : Rec := fun i => if 0 ≤ i ∧ i < 89 * n ∧ i % 89 < 9 then 0 else s i
def emptR {α : Type} (f : Nat → α) (n : Nat) (x : α) : Nat → α := fun q => if q < n then x else f q
def turnsS (s : Rec) : Rec := fun i => if 818 ≤ i ∧ i < 822 then s (i - 4) else if 822 ≤ i ∧ i < 826 then 4 else if 840 ≤ i ∧ i < 844 then 0 else s i
def emptyD (d : DS) : DS := (turnsS (emptS d.s (d.s 900).toNat), emptR d.ring (d.s 900).toNat [], emptR d.posts (d.s 900).toNat [], emptR d.us (d.s 900).toNat 0, [], [])
def hasId (w : Rec) (q id : Int) : Bool := decide (w 0 = q) && (decide (w 1 = id) || (decide (0 ≤ w 7) && decide (w 6 = id)))
def callC (id : Int) (c : Rec) : Rec := if c 0 = id then iup c 4 1 else c
def backW (w : Rec) : List Rec := if w 7 < 0 then [rec4 (w 0) (w 1) 1 0] else [rec4 (w 0) (w 1) 1 0, rec4 (w 0) (w 6) 1 0]
def callStep (q id : Int) (d : DS) (w : Rec) : DS := if hasId w q id = true then setOut d (d.out ++ backW w) else setRun d (d.run ++ [w])
def callRing (d : DS) (q : Nat) (id : Int) : DS := (d.s, nup d.ring q ((d.ring q).map (callC id)), d.2.2)
def callD (d : DS) (q : Nat) (id : Int) : DS := (callRing d q id).run.foldl (callStep q id) (setRun (callRing d q id) [])
