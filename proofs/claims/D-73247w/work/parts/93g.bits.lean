/-! PURE PROOFS: a set of bits (the object in region r, its one word in r + 1): the number u < 2^16 -/
set_option maxRecDepth 100000
theorem bvn {u : Nat} (h : u < 2 ^ 63) : (BitVec.ofNat 64 u).toInt = u := by
  have e : (BitVec.ofNat 64 u).toNat = u := by rw [BitVec.toNat_ofNat]; exact Nat.mod_eq_of_lt (by omega)
  rw [BitVec.toInt_eq_toNat_of_lt (by rw [e]; omega), e]
theorem oj_nat {u : Nat} (h : u < 2 ^ 63) : (Int64.ofInt (u : Int)).toBitVec = BitVec.ofNat 64 u := by
  apply BitVec.eq_of_toInt_eq
  rw [Int64.toInt_toBitVec, tj ⟨by omega, by omega⟩, bvn h]
theorem toJ {x : Int64} {u : Nat} (h : x.toBitVec = BitVec.ofNat 64 u) (hu : u < 2 ^ 63) : x.toInt = u := by
  rw [← Int64.toInt_toBitVec, h, bvn hu]
theorem jor_n {u v : Nat} (hu : u < 2 ^ 63) (hv : v < 2 ^ 63) : jor u v = ((u ||| v : Nat) : Int) := by
  unfold jor
  refine toJ ?_ (Nat.or_lt_two_pow hu hv)
  rw [Int64.toBitVec_or, oj_nat hu, oj_nat hv, BitVec.ofNat_or]
theorem jand_n {u v : Nat} (hu : u < 2 ^ 63) (hv : v < 2 ^ 63) : jand u v = ((u &&& v : Nat) : Int) := by
  unfold jand
  refine toJ ?_ (Nat.and_lt_two_pow _ hv)
  rw [Int64.toBitVec_and, oj_nat hu, oj_nat hv, BitVec.ofNat_and]
theorem jshl_n : ∀ i : Fin 16, jshl 1 ((i.val : Nat) : Int) = ((2 ^ i.val : Nat) : Int) := by decide +kernel
theorem jxor_n : ∀ i : Fin 16, (Int64.ofInt (jxor ((2 ^ i.val : Nat) : Int) (-1))).toBitVec = BitVec.ofNat 64 (2 ^ 64 - 1 - 2 ^ i.val) := by decide +kernel
def bclr (u i : Nat) : Nat := u &&& (2 ^ 64 - 1 - 2 ^ i)
theorem bclr_lt {u i : Nat} (h : u < 65536) : bclr u i < 65536 := Nat.lt_of_le_of_lt Nat.and_le_left h
theorem jclr_n {u i : Nat} (hu : u < 65536) (hi : i < 16) : jand u (jxor (jshl 1 (i : Nat)) (-1)) = ((bclr u i : Nat) : Int) := by
  have e1 := jshl_n ⟨i, hi⟩
  have e2 := jxor_n ⟨i, hi⟩
  simp only at e1 e2
  rw [e1]
  unfold jand
  refine toJ ?_ (Nat.lt_trans (bclr_lt hu) (by decide))
  rw [Int64.toBitVec_and, oj_nat (by omega), e2, bclr, BitVec.ofNat_and]
theorem bit_clr {u i j : Nat} (hi : i < 16) (hj : j < 16) : (bclr u i).testBit j = (u.testBit j && !(decide (i = j))) := by
  have key : ∀ i j : Fin 16, (2 ^ 64 - 1 - 2 ^ i.val).testBit j.val = !(decide (i.val = j.val)) := by decide +kernel
  unfold bclr
  rw [Nat.testBit_and, key ⟨i, hi⟩ ⟨j, hj⟩]
theorem bit_set {u i j : Nat} : (u ||| 2 ^ i).testBit j = (u.testBit j || decide (i = j)) := by
  rw [Nat.testBit_or, Nat.testBit_two_pow]
theorem set_lt {u i : Nat} (hu : u < 65536) (hi : i < 16) : u ||| 2 ^ i < 65536 := Nat.or_lt_two_pow (n := 16) hu (Nat.pow_lt_pow_right (by decide) hi)
theorem and_pow (u i : Nat) : u &&& 2 ^ i = if u.testBit i then 2 ^ i else 0 := by
  refine Nat.eq_of_testBit_eq (fun j => ?_)
  rw [Nat.testBit_and, Nat.testBit_two_pow]
  by_cases e : i = j
  · subst e
    cases h : u.testBit i
    · simp
    · simp
  · cases h : u.testBit i
    · simp [e]
    · simp [e, Nat.testBit_two_pow]
theorem jget_n {u i : Nat} (hu : u < 65536) (hi : i < 16) : jand u (jshl 1 (i : Nat)) = if u.testBit i then ((2 ^ i : Nat) : Int) else 0 := by
  have e1 := jshl_n ⟨i, hi⟩
  simp only at e1
  have hp : 2 ^ i < 2 ^ 16 := Nat.pow_lt_pow_right (by decide) hi
  rw [e1, jand_n (by omega) (by omega), and_pow]
  cases u.testBit i <;> simp
