/-! PURE PROOFS: tools -/
set_option maxRecDepth 100000
theorem wset_skip {G : Wd} {r1 a1 : Nat} {e1 : QE} {r b : Nat} {e : QE} (h : G r b = some e) (hn : r ≠ r1 ∨ b ≠ a1) : wset G r1 a1 e1 r b = some e := by
  unfold wset va_up
  by_cases h1 : r = r1
  · subst h1
    rcases hn with hn | hn
    · exact absurd rfl hn
    · rw [if_pos rfl, if_neg hn]; exact h
  · rw [if_neg h1]; exact h
theorem wset_wset {G : Wd} {r a : Nat} {e e' : QE} : wset (wset G r a e) r a e' = wset G r a e' := by
  funext r' a'
  unfold wset va_up
  by_cases h : r' = r
  · subst h
    by_cases h2 : a' = a
    · simp [h2]
    · simp [h2]
  · simp [h]
theorem fr_ne {G : Wd} {a r b : Nat} {e : QE} (h : fr G a) (hb : G r b = some e) : b ≠ a := by
  rintro rfl
  rw [h r] at hb
  cases hb
theorem gI_of {G : Wd} {a : Nat} {cs : List Nat} {f : Nat} {K : Int → Prop} {r ci : Nat} {fs : List Value} {x : Int} (h : G r a = some (oB ci fs)) (hc : ci ∈ cs) (hf : fs[f]? = some (vI x)) (hk : K x) : gI G a cs f K := ⟨r, ci, fs, x, h, hc, hf, hk⟩
theorem gZ_of {G : Wd} {a : Nat} {cs : List Nat} {f : Nat} {K : Bool → Prop} {r ci : Nat} {fs : List Value} {x : Bool} (h : G r a = some (oB ci fs)) (hc : ci ∈ cs) (hf : fs[f]? = some (vB x)) (hk : K x) : gZ G a cs f K := ⟨r, ci, fs, x, h, hc, hf, hk⟩
theorem gR_of {G : Wd} {a : Nat} {cs : List Nat} {f : Nat} {K : Option Nat → Prop} {r ci : Nat} {fs : List Value} {x : Option Nat} (h : G r a = some (oB ci fs)) (hc : ci ∈ cs) (hf : fs[f]? = some (vR x)) (hk : K x) : gR G a cs f K := ⟨r, ci, fs, x, h, hc, hf, hk⟩
theorem pF_of {G : Wd} {a : Nat} {cs : List Nat} {f : Nat} {v : Value} {K : Wd → Prop} {r ci : Nat} {fs : List Value} (h : G r a = some (oB ci fs)) (hr : r ≠ 0) (hc : ci ∈ cs) (hf : f < fs.length) (hk : K (wset G r a (oB ci (fs.set f v)))) : pF G a cs f v K := ⟨r, ci, fs, hr, h, hc, hf, hk⟩
theorem isC_of {G : Wd} {a ci r : Nat} {fs : List Value} (h : G r a = some (oB ci fs)) : isC G a ci := ⟨r, fs, h⟩
theorem isC_and {G : Wd} {a ci r : Nat} {fs : List Value} {K : Prop} (h : G r a = some (oB ci fs)) (hk : K) : isC G a ci ∧ K := ⟨⟨r, fs, h⟩, hk⟩
theorem nn_of {a : Nat} {K : Nat → Prop} (h : K a) : nn (some a) K := ⟨a, rfl, h⟩
theorem br_T {x y : Int} {c A B : Prop} (hx : R32 x) (hy : R32 y) (hc : c) (ha : A) : br x y c A B := ⟨⟨hx, hy⟩, fun _ => ha, fun h => absurd hc h⟩
theorem br_F {x y : Int} {c A B : Prop} (hx : R32 x) (hy : R32 y) (hc : ¬ c) (hb : B) : br x y c A B := ⟨⟨hx, hy⟩, fun h => absurd h hc, fun _ => hb⟩
theorem br0_T {x : Int} {c A B : Prop} (hx : R32 x) (hc : c) (ha : A) : br0 x c A B := ⟨hx, fun _ => ha, fun h => absurd hc h⟩
theorem br0_F {x : Int} {c A B : Prop} (hx : R32 x) (hc : ¬ c) (hb : B) : br0 x c A B := ⟨hx, fun h => absurd h hc, fun _ => hb⟩
theorem brB_T {A B : Prop} (h : A) : brB true A B := ⟨fun _ => h, fun h => (by cases h)⟩
theorem brB_F {A B : Prop} (h : B) : brB false A B := ⟨fun h => (by cases h), fun _ => h⟩
theorem brN_N {A : Prop} {B : Nat → Prop} (h : A) : brN none A B := ⟨fun _ => h, fun a e => (by cases e)⟩
theorem brN_S {A : Prop} {B : Nat → Prop} {a : Nat} (h : B a) : brN (some a) A B := ⟨fun e => (by cases e), fun b e => by cases e; exact h⟩
theorem ldR_of {G : Wd} {a kd : Nat} {i : Int} {K : Option Nat → Prop} {r n : Nat} {f : Int → Option Nat} (h : G r a = some (aR kd n f)) (hi : inb i n) (hk : K (f i)) : ldR G a kd i K := ⟨r, n, f, h, hi, hk⟩
theorem ldI_of {G : Wd} {a kd : Nat} {i : Int} {K : Int → Prop} {r n : Nat} {f : Int → Int} (h : G r a = some (aI kd n f)) (hi : inb i n) (hk : K (f i)) : ldI G a kd i K := ⟨r, n, f, h, hi, hk⟩
theorem ldJ_of {G : Wd} {a : Nat} {i : Int} {K : Int → Prop} {r n : Nat} {f : Int → Int} (h : G r a = some (aJ n f)) (hi : inb i n) (hk : K (f i)) : ldJ G a i K := ⟨r, n, f, h, hi, hk⟩
theorem lnR_of {G : Wd} {a kd : Nat} {K : Int → Prop} {r n : Nat} {f : Int → Option Nat} (h : G r a = some (aR kd n f)) (hk : K n) : lnR G a kd K := ⟨r, n, f, h, hk⟩
theorem lnI_of {G : Wd} {a kd : Nat} {K : Int → Prop} {r n : Nat} {f : Int → Int} (h : G r a = some (aI kd n f)) (hk : K n) : lnI G a kd K := ⟨r, n, f, h, hk⟩
theorem stR_of {G : Wd} {a kd : Nat} {i : Int} {x : Option Nat} {cs : List Nat} {K : Wd → Prop} {r n : Nat} {f : Int → Option Nat} (h : G r a = some (aR kd n f)) (hr : r ≠ 0) (hi : inb i n) (hx : ∀ y, x = some y → ∃ r' ci fs, r' ≠ 0 ∧ G r' y = some (oB ci fs) ∧ ci ∈ cs) (hk : K (wset G r a (aR kd n (rup f i x)))) : stR G a kd i x cs K := ⟨r, n, f, hr, h, hi, hx, hk⟩
theorem stI_of {G : Wd} {a kd : Nat} {i x : Int} {K : Wd → Prop} {r n : Nat} {f : Int → Int} (h : G r a = some (aI kd n f)) (hr : r ≠ 0) (hi : inb i n) (hk : K (wset G r a (aI kd n (iup f i x)))) : stI G a kd i x K := ⟨r, n, f, hr, h, hi, hk⟩
theorem stJ_of {G : Wd} {a : Nat} {i x : Int} {K : Wd → Prop} {r n : Nat} {f : Int → Int} (h : G r a = some (aJ n f)) (hr : r ≠ 0) (hi : inb i n) (hk : K (wset G r a (aJ n (iup f i x)))) : stJ G a i x K := ⟨r, n, f, hr, h, hi, hk⟩
theorem nO_of {G : Wd} {k n ci N : Nat} {fs : List Value} {K : Nat → Wd → Prop} (r : Nat) (hk : 1 ≤ k) (hn : N ≤ n) (hr : r ≠ 0) (h : ∀ a, fr G a → K a (wset G r a (oB ci fs))) : nO G k n ci N fs K := ⟨⟨hk, hn⟩, fun a ha => ⟨r, hr, h a ha⟩⟩
theorem lnJ_of {G : Wd} {a : Nat} {K : Int → Prop} {r n : Nat} {f : Int → Int} (h : G r a = some (aJ n f)) (hk : K n) : lnJ G a K := ⟨r, n, f, h, hk⟩
