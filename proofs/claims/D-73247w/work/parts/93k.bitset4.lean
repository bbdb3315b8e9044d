/-! PURE PROOFS: BitSet, its first clear bit, its count -/
set_option maxRecDepth 100000
theorem jushr_n {u k : Nat} {c : UInt64} (hu : u < 2 ^ 63) (hc : (Int32.ofInt (k : Int)).toInt64.toUInt64 &&& Int64.toUInt64 63 = c) (hk : c.toNat = k) (h6 : k < 64) : jushr u k = ((u / 2 ^ k : Nat) : Int) := by
  unfold jushr
  rw [hc]
  refine toJ (u := u / 2 ^ k) ?_ (Nat.lt_of_le_of_lt (Nat.div_le_self _ _) hu)
  show ((Int64.ofInt (u : Int)).toUInt64 >>> c).toBitVec = _
  rw [UInt64.toBitVec_shiftRight]
  have e : (Int64.ofInt (u : Int)).toUInt64.toBitVec = BitVec.ofNat 64 u := oj_nat hu
  rw [e]
  apply BitVec.eq_of_toNat_eq
  have hc2 : (c.toBitVec % 64).toNat = k := by
    rw [BitVec.toNat_umod]
    show c.toNat % 64 = k
    omega
  simp only [BitVec.toNat_ushiftRight, BitVec.toNat_ofNat, BitVec.ushiftRight_eq', hc2, Nat.shiftRight_eq_div_pow]
  rw [Nat.mod_eq_of_lt (a := u) (by omega), Nat.mod_eq_of_lt]
  exact Nat.lt_of_le_of_lt (Nat.div_le_self _ _) (by omega)
def pcA (u : Nat) : Nat := u - (u / 2 &&& 6148914691236517205)
def pcB (a : Nat) : Nat := (a &&& 3689348814741910323) + (a / 4 &&& 3689348814741910323)
def pcC (b : Nat) : Nat := (b + b / 16) &&& 1085102592571150095
theorem land_split {x y m : Nat} (hx : x < 256) (hm : m / 256 % 256 = m % 256) (hy : y < 256) (hm2 : m % 256 < 256) : (x + 256 * y) &&& m = (x &&& m) + 256 * (y &&& m) := by
  have e1 : ((x + 256 * y) &&& m) % 2 ^ 8 = (x &&& m) % 2 ^ 8 := by
    rw [Nat.and_mod_two_pow, Nat.and_mod_two_pow]
    congr 1
    omega
  have e2 : ((x + 256 * y) &&& m) / 2 ^ 8 = (y &&& (m / 2 ^ 8)) := by
    rw [Nat.and_div_two_pow]
    congr 1
    omega
  have e3 : (y &&& (m / 2 ^ 8)) = (y &&& m) := by
    have a1 : (y &&& (m / 2 ^ 8)) = (y &&& (m / 2 ^ 8)) % 2 ^ 8 := (Nat.mod_eq_of_lt (Nat.lt_of_le_of_lt Nat.and_le_left (by omega))).symm
    have a2 : (y &&& m) = (y &&& m) % 2 ^ 8 := (Nat.mod_eq_of_lt (Nat.lt_of_le_of_lt Nat.and_le_left (by omega))).symm
    rw [a1, a2, Nat.and_mod_two_pow, Nat.and_mod_two_pow]
    congr 1
  have e4 : (x &&& m) < 256 := Nat.lt_of_le_of_lt Nat.and_le_left hx
  rw [e3] at e2
  omega
theorem pc_byte : ∀ l : Fin 256, (l.val / 2 &&& 6148914691236517205) ≤ l.val ∧ pcA l.val < 256 ∧ (pcB (pcA l.val) ≤ 68 ∧ pcB (pcA l.val) % 16 ≤ 4) ∧ pcC (pcB (pcA l.val)) = bcnt 8 l.val ∧ bcnt 8 l.val ≤ 8 := by decide +kernel
theorem pc_m5 : ∀ z : Fin 256, (z.val &&& 6148914691236517205) = (z.val % 128 &&& 6148914691236517205) := by decide +kernel
theorem pc_m3 : ∀ z : Fin 256, (z.val &&& 3689348814741910323) = (z.val % 64 &&& 3689348814741910323) := by decide +kernel
theorem pc_mf : ∀ z : Fin 256, (z.val &&& 1085102592571150095) = z.val % 16 := by decide +kernel
theorem pcA_split {l h : Nat} (hl : l < 256) (hh : h < 256) : pcA (l + 256 * h) = pcA l + 256 * pcA h := by
  have e1 : (l + 256 * h) / 2 = (l / 2 + 128 * (h % 2)) + 256 * (h / 2) := by omega
  have e2 := pc_m5 ⟨l / 2 + 128 * (h % 2), by omega⟩
  simp only at e2
  rw [show (l / 2 + 128 * (h % 2)) % 128 = l / 2 by omega] at e2
  have e3 := (pc_byte ⟨l, hl⟩).1
  have e4 := (pc_byte ⟨h, hh⟩).1
  unfold pcA
  rw [e1, land_split (by omega) (by decide) (by omega) (by decide), e2]
  simp only at e3 e4
  omega
theorem pcB_split {x y : Nat} (hx : x < 256) (hy : y < 256) : pcB (x + 256 * y) = pcB x + 256 * pcB y := by
  have e1 : (x + 256 * y) / 4 = (x / 4 + 64 * (y % 4)) + 256 * (y / 4) := by omega
  have e2 := pc_m3 ⟨x / 4 + 64 * (y % 4), by omega⟩
  simp only at e2
  rw [show (x / 4 + 64 * (y % 4)) % 64 = x / 4 by omega] at e2
  unfold pcB
  rw [e1, land_split (by omega) (by decide) (by omega) (by decide), land_split (by omega) (by decide) (by omega) (by decide), e2]
  omega
theorem pcC_split {x y : Nat} (hx : x ≤ 68 ∧ x % 16 ≤ 4) (hy : y ≤ 68 ∧ y % 16 ≤ 4) : pcC (x + 256 * y) = pcC x + 256 * pcC y := by
  have e1 : x + 256 * y + (x + 256 * y) / 16 = (x + x / 16 + 16 * (y % 16)) + 256 * (y + y / 16) := by omega
  have e2 := pc_mf ⟨x + x / 16 + 16 * (y % 16), by omega⟩
  have e3 := pc_mf ⟨x + x / 16, by omega⟩
  simp only at e2 e3
  unfold pcC
  rw [e1, land_split (by omega) (by decide) (by omega) (by decide), e2, e3]
  omega
theorem bcnt_app : ∀ (j k u : Nat), bcnt (j + k) u = bcnt j (u % 2 ^ j) + bcnt k (u / 2 ^ j) := by
  intro j
  induction j with
  | zero => intro k u; simp [bcnt]
  | succ j ih =>
    intro k u
    rw [show j + 1 + k = (j + k) + 1 by omega]
    show u % 2 + bcnt (j + k) (u / 2) = (u % 2 ^ (j + 1) % 2 + bcnt j (u % 2 ^ (j + 1) / 2)) + _
    rw [ih k (u / 2), Nat.pow_succ, Nat.mul_comm, Nat.div_div_eq_div_mul]
    have e1 : u % (2 * 2 ^ j) % 2 = u % 2 := Nat.mod_mul_right_mod _ _ _
    have e2 : u % (2 * 2 ^ j) / 2 = u / 2 % 2 ^ j := Nat.mod_mul_right_div_self _ _ _
    rw [e1, e2]
    omega
theorem bcnt_split (u : Nat) : bcnt 16 u = bcnt 8 (u % 256) + bcnt 8 (u / 256) := by
  exact bcnt_app 8 8 u
theorem iand_127 {f : Nat} (h : f < 2147483648) : iand f 127 = ((f % 128 : Nat) : Int) := by
  unfold iand
  have e : (Int32.ofInt (f : Int)).toBitVec = BitVec.ofNat 32 f := by
    apply BitVec.eq_of_toInt_eq
    rw [Int32.toInt_toBitVec, ti ⟨by omega, by omega⟩, BitVec.toInt_eq_toNat_of_lt (by rw [BitVec.toNat_ofNat]; omega), BitVec.toNat_ofNat]
    omega
  rw [← Int32.toInt_toBitVec, Int32.toBitVec_and, e, show (Int32.ofInt 127).toBitVec = BitVec.ofNat 32 127 from by decide +kernel, ← BitVec.ofNat_and]
  have e2 : f &&& 127 = f % 128 := Nat.and_two_pow_sub_one_eq_mod f 7
  rw [e2, BitVec.toInt_eq_toNat_of_lt (by rw [BitVec.toNat_ofNat]; omega), BitVec.toNat_ofNat]
  omega
theorem js1 {u : Nat} (hu : u < 2 ^ 63) : jushr u 1 = ((u / 2 : Nat) : Int) := jushr_n (k := 1) hu (c := 1) (by decide +kernel) (by decide) (by decide)
theorem js2 {u : Nat} (hu : u < 2 ^ 63) : jushr u 2 = ((u / 4 : Nat) : Int) := jushr_n (k := 2) hu (c := 2) (by decide +kernel) (by decide) (by decide)
theorem js4 {u : Nat} (hu : u < 2 ^ 63) : jushr u 4 = ((u / 16 : Nat) : Int) := jushr_n (k := 4) hu (c := 4) (by decide +kernel) (by decide) (by decide)
theorem js8 {u : Nat} (hu : u < 2 ^ 63) : jushr u 8 = ((u / 256 : Nat) : Int) := jushr_n (k := 8) hu (c := 8) (by decide +kernel) (by decide) (by decide)
theorem js16 {u : Nat} (hu : u < 2 ^ 63) : jushr u 16 = ((u / 65536 : Nat) : Int) := jushr_n (k := 16) hu (c := 16) (by decide +kernel) (by decide) (by decide)
theorem js32 {u : Nat} (hu : u < 2 ^ 63) : jushr u 32 = ((u / 4294967296 : Nat) : Int) := jushr_n (k := 32) hu (c := 32) (by decide +kernel) (by decide) (by decide)
theorem p_J22_bitCount {u : Nat} {G : Wd} {Q : Int → Wd → Prop} (hu : u < 65536) (hQ : Q (bcnt 16 u : Nat) G) : f_J22_bitCount u G Q := by
  have hl := pc_byte ⟨u % 256, by omega⟩
  have hh := pc_byte ⟨u / 256, by omega⟩
  simp only at hl hh
  obtain ⟨l1, l2, l3, l4, l5⟩ := hl
  obtain ⟨h1, h2, h3, h4, h5⟩ := hh
  have eu : u % 256 + 256 * (u / 256) = u := by omega
  have a1 : pcA u = pcA (u % 256) + 256 * pcA (u / 256) := by
    have := pcA_split (l := u % 256) (h := u / 256) (by omega) (by omega)
    rw [eu] at this; exact this
  have a2 : pcB (pcA u) = pcB (pcA (u % 256)) + 256 * pcB (pcA (u / 256)) := by rw [a1]; exact pcB_split l2 h2
  have a3 : pcC (pcB (pcA u)) = bcnt 8 (u % 256) + 256 * bcnt 8 (u / 256) := by rw [a2, pcC_split l3 h3, l4, h4]
  have b1 : (u : Int) - jand (jushr u 1) 6148914691236517205 = ((pcA u : Nat) : Int) := by
    rw [js1 (by omega), show (6148914691236517205 : Int) = ((6148914691236517205 : Nat) : Int) from rfl, jand_n (by omega) (by decide)]
    have : (u / 2 &&& 6148914691236517205) ≤ u / 2 := Nat.and_le_left
    unfold pcA
    omega
  have b2 : jand ((pcA u : Nat) : Int) 3689348814741910323 + jand (jushr ((pcA u : Nat) : Int) 2) 3689348814741910323 = ((pcB (pcA u) : Nat) : Int) := by
    rw [js2 (by omega), show (3689348814741910323 : Int) = ((3689348814741910323 : Nat) : Int) from rfl, jand_n (by omega) (by decide), jand_n (by omega) (by decide)]
    unfold pcB
    omega
  have b3 : jand (((pcB (pcA u) : Nat) : Int) + jushr ((pcB (pcA u) : Nat) : Int) 4) 1085102592571150095 = ((pcC (pcB (pcA u)) : Nat) : Int) := by
    rw [js4 (by omega), show (1085102592571150095 : Int) = ((1085102592571150095 : Nat) : Int) from rfl, show ((pcB (pcA u) : Nat) : Int) + ((pcB (pcA u) / 16 : Nat) : Int) = ((pcB (pcA u) + pcB (pcA u) / 16 : Nat) : Int) by omega, jand_n (by omega) (by decide)]
    rfl
  unfold f_J22_bitCount
  rw [b1, b2, b3, a3]
  have c1 : ((bcnt 8 (u % 256) + 256 * bcnt 8 (u / 256) : Nat) : Int) + jushr ((bcnt 8 (u % 256) + 256 * bcnt 8 (u / 256) : Nat) : Int) 8 = ((bcnt 8 (u % 256) + 257 * bcnt 8 (u / 256) : Nat) : Int) := by
    rw [js8 (by omega)]; omega
  rw [c1]
  have c2 : ((bcnt 8 (u % 256) + 257 * bcnt 8 (u / 256) : Nat) : Int) + jushr ((bcnt 8 (u % 256) + 257 * bcnt 8 (u / 256) : Nat) : Int) 16 = ((bcnt 8 (u % 256) + 257 * bcnt 8 (u / 256) : Nat) : Int) := by
    rw [js16 (by omega)]; omega
  rw [c2]
  have c3 : ((bcnt 8 (u % 256) + 257 * bcnt 8 (u / 256) : Nat) : Int) + jushr ((bcnt 8 (u % 256) + 257 * bcnt 8 (u / 256) : Nat) : Int) 32 = ((bcnt 8 (u % 256) + 257 * bcnt 8 (u / 256) : Nat) : Int) := by
    rw [js32 (by omega)]; omega
  rw [c3, iand_127 (by omega)]
  rw [bcnt_split u] at hQ
  rw [show (bcnt 8 (u % 256) + 257 * bcnt 8 (u / 256)) % 128 = bcnt 8 (u % 256) + bcnt 8 (u / 256) by omega]
  exact hQ
theorem p_J5_cardinality {G : Wd} {r a u : Nat} {Q : Int → Wd → Prop} (h : Bs G r a u) (hQ : Q (bcnt 16 u : Nat) G) : f_J5_cardinality a G Q := by
  obtain ⟨e, st, f, h1, h2, h3, h4⟩ := h
  refine ⟨2, ?_⟩
  unfold f_J5_cardinality_4 f_J5_cardinality_4_b
  (repeat first | ((with_reducible apply gI_of); (focus ((repeat first | exact wset_at | assumption | apply wset_skip | (left; decide) | (left; omega) | (right; assumption) | (right; apply Ne.symm; assumption) | (right; exact fr_ne (by assumption) (by assumption)) | (right; exact (fr_ne (by assumption) (by assumption)).symm)))); (focus (decide)); (focus (rfl))) | ((with_reducible apply gR_of); (focus ((repeat first | exact wset_at | assumption | apply wset_skip | (left; decide) | (left; omega) | (right; assumption) | (right; apply Ne.symm; assumption) | (right; exact fr_ne (by assumption) (by assumption)) | (right; exact (fr_ne (by assumption) (by assumption)).symm)))); (focus (decide)); (focus (rfl))) | ((with_reducible apply gZ_of); (focus ((repeat first | exact wset_at | assumption | apply wset_skip | (left; decide) | (left; omega) | (right; assumption) | (right; apply Ne.symm; assumption) | (right; exact fr_ne (by assumption) (by assumption)) | (right; exact (fr_ne (by assumption) (by assumption)).symm)))); (focus (decide)); (focus (rfl))) | ((with_reducible apply pF_of); (focus ((repeat first | exact wset_at | assumption | apply wset_skip | (left; decide) | (left; omega) | (right; assumption) | (right; apply Ne.symm; assumption) | (right; exact fr_ne (by assumption) (by assumption)) | (right; exact (fr_ne (by assumption) (by assumption)).symm)))); (focus (first | assumption | decide | omega)); (focus (decide)); (focus ((exact Nat.le_of_ble_eq_true rfl))); simp only [List.set_cons_zero, List.set_cons_succ, wset_wset]) | ((with_reducible apply nn_of)) | ((with_reducible apply isC_and); (focus ((repeat first | exact wset_at | assumption | apply wset_skip | (left; decide) | (left; omega) | (right; assumption) | (right; apply Ne.symm; assumption) | (right; exact fr_ne (by assumption) (by assumption)) | (right; exact (fr_ne (by assumption) (by assumption)).symm))))) | ((with_reducible apply brB_T)) | ((with_reducible apply brB_F)) | ((with_reducible apply brN_N)) | ((with_reducible apply brN_S)) | ((with_reducible apply lnR_of); (focus ((repeat first | exact wset_at | assumption | apply wset_skip | (left; decide) | (left; omega) | (right; assumption) | (right; apply Ne.symm; assumption) | (right; exact fr_ne (by assumption) (by assumption)) | (right; exact (fr_ne (by assumption) (by assumption)).symm))))) | ((with_reducible apply lnI_of); (focus ((repeat first | exact wset_at | assumption | apply wset_skip | (left; decide) | (left; omega) | (right; assumption) | (right; apply Ne.symm; assumption) | (right; exact fr_ne (by assumption) (by assumption)) | (right; exact (fr_ne (by assumption) (by assumption)).symm))))) | ((with_reducible apply lnJ_of); (focus ((repeat first | exact wset_at | assumption | apply wset_skip | (left; decide) | (left; omega) | (right; assumption) | (right; apply Ne.symm; assumption) | (right; exact fr_ne (by assumption) (by assumption)) | (right; exact (fr_ne (by assumption) (by assumption)).symm))))) | ((with_reducible apply ldR_of); (focus ((repeat first | exact wset_at | assumption | apply wset_skip | (left; decide) | (left; omega) | (right; assumption) | (right; apply Ne.symm; assumption) | (right; exact fr_ne (by assumption) (by assumption)) | (right; exact (fr_ne (by assumption) (by assumption)).symm)))); (focus ((first | assumption | (refine ⟨?_, ?_, ?_⟩ <;> omega))))) | ((with_reducible apply ldI_of); (focus ((repeat first | exact wset_at | assumption | apply wset_skip | (left; decide) | (left; omega) | (right; assumption) | (right; apply Ne.symm; assumption) | (right; exact fr_ne (by assumption) (by assumption)) | (right; exact (fr_ne (by assumption) (by assumption)).symm)))); (focus ((first | assumption | (refine ⟨?_, ?_, ?_⟩ <;> omega))))) | ((with_reducible apply ldJ_of); (focus ((repeat first | exact wset_at | assumption | apply wset_skip | (left; decide) | (left; omega) | (right; assumption) | (right; apply Ne.symm; assumption) | (right; exact fr_ne (by assumption) (by assumption)) | (right; exact (fr_ne (by assumption) (by assumption)).symm)))); (focus ((first | assumption | (refine ⟨?_, ?_, ?_⟩ <;> omega))))))
  by_cases hu : u = 0
  · subst hu
    rw [if_pos rfl]
    exact br_T r0 r0 (by decide) hQ
  · rw [if_neg hu]
    refine br_F r0 r1 (by decide) ?_
    (repeat first | ((with_reducible apply gI_of); (focus ((repeat first | exact wset_at | assumption | apply wset_skip | (left; decide) | (left; omega) | (right; assumption) | (right; apply Ne.symm; assumption) | (right; exact fr_ne (by assumption) (by assumption)) | (right; exact (fr_ne (by assumption) (by assumption)).symm)))); (focus (decide)); (focus (rfl))) | ((with_reducible apply gR_of); (focus ((repeat first | exact wset_at | assumption | apply wset_skip | (left; decide) | (left; omega) | (right; assumption) | (right; apply Ne.symm; assumption) | (right; exact fr_ne (by assumption) (by assumption)) | (right; exact (fr_ne (by assumption) (by assumption)).symm)))); (focus (decide)); (focus (rfl))) | ((with_reducible apply gZ_of); (focus ((repeat first | exact wset_at | assumption | apply wset_skip | (left; decide) | (left; omega) | (right; assumption) | (right; apply Ne.symm; assumption) | (right; exact fr_ne (by assumption) (by assumption)) | (right; exact (fr_ne (by assumption) (by assumption)).symm)))); (focus (decide)); (focus (rfl))) | ((with_reducible apply pF_of); (focus ((repeat first | exact wset_at | assumption | apply wset_skip | (left; decide) | (left; omega) | (right; assumption) | (right; apply Ne.symm; assumption) | (right; exact fr_ne (by assumption) (by assumption)) | (right; exact (fr_ne (by assumption) (by assumption)).symm)))); (focus (first | assumption | decide | omega)); (focus (decide)); (focus ((exact Nat.le_of_ble_eq_true rfl))); simp only [List.set_cons_zero, List.set_cons_succ, wset_wset]) | ((with_reducible apply nn_of)) | ((with_reducible apply isC_and); (focus ((repeat first | exact wset_at | assumption | apply wset_skip | (left; decide) | (left; omega) | (right; assumption) | (right; apply Ne.symm; assumption) | (right; exact fr_ne (by assumption) (by assumption)) | (right; exact (fr_ne (by assumption) (by assumption)).symm))))) | ((with_reducible apply brB_T)) | ((with_reducible apply brB_F)) | ((with_reducible apply brN_N)) | ((with_reducible apply brN_S)) | ((with_reducible apply lnR_of); (focus ((repeat first | exact wset_at | assumption | apply wset_skip | (left; decide) | (left; omega) | (right; assumption) | (right; apply Ne.symm; assumption) | (right; exact fr_ne (by assumption) (by assumption)) | (right; exact (fr_ne (by assumption) (by assumption)).symm))))) | ((with_reducible apply lnI_of); (focus ((repeat first | exact wset_at | assumption | apply wset_skip | (left; decide) | (left; omega) | (right; assumption) | (right; apply Ne.symm; assumption) | (right; exact fr_ne (by assumption) (by assumption)) | (right; exact (fr_ne (by assumption) (by assumption)).symm))))) | ((with_reducible apply lnJ_of); (focus ((repeat first | exact wset_at | assumption | apply wset_skip | (left; decide) | (left; omega) | (right; assumption) | (right; apply Ne.symm; assumption) | (right; exact fr_ne (by assumption) (by assumption)) | (right; exact (fr_ne (by assumption) (by assumption)).symm))))) | ((with_reducible apply ldR_of); (focus ((repeat first | exact wset_at | assumption | apply wset_skip | (left; decide) | (left; omega) | (right; assumption) | (right; apply Ne.symm; assumption) | (right; exact fr_ne (by assumption) (by assumption)) | (right; exact (fr_ne (by assumption) (by assumption)).symm)))); (focus ((first | assumption | (refine ⟨?_, ?_, ?_⟩ <;> omega))))) | ((with_reducible apply ldI_of); (focus ((repeat first | exact wset_at | assumption | apply wset_skip | (left; decide) | (left; omega) | (right; assumption) | (right; apply Ne.symm; assumption) | (right; exact fr_ne (by assumption) (by assumption)) | (right; exact (fr_ne (by assumption) (by assumption)).symm)))); (focus ((first | assumption | (refine ⟨?_, ?_, ?_⟩ <;> omega))))) | ((with_reducible apply ldJ_of); (focus ((repeat first | exact wset_at | assumption | apply wset_skip | (left; decide) | (left; omega) | (right; assumption) | (right; apply Ne.symm; assumption) | (right; exact fr_ne (by assumption) (by assumption)) | (right; exact (fr_ne (by assumption) (by assumption)).symm)))); (focus ((first | assumption | (refine ⟨?_, ?_, ?_⟩ <;> omega))))))
    rw [h3]
    refine p_J22_bitCount h4 ?_
    unfold f_J5_cardinality_4 f_J5_cardinality_4_b
    (repeat first | ((with_reducible apply gI_of); (focus ((repeat first | exact wset_at | assumption | apply wset_skip | (left; decide) | (left; omega) | (right; assumption) | (right; apply Ne.symm; assumption) | (right; exact fr_ne (by assumption) (by assumption)) | (right; exact (fr_ne (by assumption) (by assumption)).symm)))); (focus (decide)); (focus (rfl))) | ((with_reducible apply gR_of); (focus ((repeat first | exact wset_at | assumption | apply wset_skip | (left; decide) | (left; omega) | (right; assumption) | (right; apply Ne.symm; assumption) | (right; exact fr_ne (by assumption) (by assumption)) | (right; exact (fr_ne (by assumption) (by assumption)).symm)))); (focus (decide)); (focus (rfl))) | ((with_reducible apply gZ_of); (focus ((repeat first | exact wset_at | assumption | apply wset_skip | (left; decide) | (left; omega) | (right; assumption) | (right; apply Ne.symm; assumption) | (right; exact fr_ne (by assumption) (by assumption)) | (right; exact (fr_ne (by assumption) (by assumption)).symm)))); (focus (decide)); (focus (rfl))) | ((with_reducible apply pF_of); (focus ((repeat first | exact wset_at | assumption | apply wset_skip | (left; decide) | (left; omega) | (right; assumption) | (right; apply Ne.symm; assumption) | (right; exact fr_ne (by assumption) (by assumption)) | (right; exact (fr_ne (by assumption) (by assumption)).symm)))); (focus (first | assumption | decide | omega)); (focus (decide)); (focus ((exact Nat.le_of_ble_eq_true rfl))); simp only [List.set_cons_zero, List.set_cons_succ, wset_wset]) | ((with_reducible apply nn_of)) | ((with_reducible apply isC_and); (focus ((repeat first | exact wset_at | assumption | apply wset_skip | (left; decide) | (left; omega) | (right; assumption) | (right; apply Ne.symm; assumption) | (right; exact fr_ne (by assumption) (by assumption)) | (right; exact (fr_ne (by assumption) (by assumption)).symm))))) | ((with_reducible apply brB_T)) | ((with_reducible apply brB_F)) | ((with_reducible apply brN_N)) | ((with_reducible apply brN_S)) | ((with_reducible apply lnR_of); (focus ((repeat first | exact wset_at | assumption | apply wset_skip | (left; decide) | (left; omega) | (right; assumption) | (right; apply Ne.symm; assumption) | (right; exact fr_ne (by assumption) (by assumption)) | (right; exact (fr_ne (by assumption) (by assumption)).symm))))) | ((with_reducible apply lnI_of); (focus ((repeat first | exact wset_at | assumption | apply wset_skip | (left; decide) | (left; omega) | (right; assumption) | (right; apply Ne.symm; assumption) | (right; exact fr_ne (by assumption) (by assumption)) | (right; exact (fr_ne (by assumption) (by assumption)).symm))))) | ((with_reducible apply lnJ_of); (focus ((repeat first | exact wset_at | assumption | apply wset_skip | (left; decide) | (left; omega) | (right; assumption) | (right; apply Ne.symm; assumption) | (right; exact fr_ne (by assumption) (by assumption)) | (right; exact (fr_ne (by assumption) (by assumption)).symm))))) | ((with_reducible apply ldR_of); (focus ((repeat first | exact wset_at | assumption | apply wset_skip | (left; decide) | (left; omega) | (right; assumption) | (right; apply Ne.symm; assumption) | (right; exact fr_ne (by assumption) (by assumption)) | (right; exact (fr_ne (by assumption) (by assumption)).symm)))); (focus ((first | assumption | (refine ⟨?_, ?_, ?_⟩ <;> omega))))) | ((with_reducible apply ldI_of); (focus ((repeat first | exact wset_at | assumption | apply wset_skip | (left; decide) | (left; omega) | (right; assumption) | (right; apply Ne.symm; assumption) | (right; exact fr_ne (by assumption) (by assumption)) | (right; exact (fr_ne (by assumption) (by assumption)).symm)))); (focus ((first | assumption | (refine ⟨?_, ?_, ?_⟩ <;> omega))))) | ((with_reducible apply ldJ_of); (focus ((repeat first | exact wset_at | assumption | apply wset_skip | (left; decide) | (left; omega) | (right; assumption) | (right; apply Ne.symm; assumption) | (right; exact fr_ne (by assumption) (by assumption)) | (right; exact (fr_ne (by assumption) (by assumption)).symm)))); (focus ((first | assumption | (refine ⟨?_, ?_, ?_⟩ <;> omega))))))
    rw [if_neg hu]
    refine br_T r1 r1 (by decide) ?_
    rw [Int.zero_add]; exact hQ
/-- the lowest ones -/
def low (w u : Nat) : Nat := u &&& (2 ^ w - 1 - (u + 1))
theorem compl_and (w : Nat) : ∀ m, m < 2 ^ w → m &&& (2 ^ w - 1 - m) = 0 := by
  intro m hm
  apply Nat.eq_of_testBit_eq
  intro i
  rw [Nat.testBit_and, Nat.zero_testBit]
  rw [show 2 ^ w - 1 - m = 2 ^ w - (m + 1) by omega, Nat.testBit_two_pow_sub_succ hm]
  cases h : m.testBit i <;> simp
theorem land_2 {a b x y : Nat} (hx : x < 2) (hy : y < 2) : (2 * a + x) &&& (2 * b + y) = 2 * (a &&& b) + (x &&& y) := by
  have e1 : ((2 * a + x) &&& (2 * b + y)) / 2 ^ 1 = a &&& b := by
    rw [Nat.and_div_two_pow]
    congr 1 <;> omega
  have e2 : ((2 * a + x) &&& (2 * b + y)) % 2 ^ 1 = x &&& y := by
    rw [Nat.and_mod_two_pow]
    rw [show (2 * a + x) % 2 ^ 1 = x by omega, show (2 * b + y) % 2 ^ 1 = y by omega]
  omega
theorem low_ones : ∀ (w k u : Nat), w ≤ k → u + 1 < 2 ^ w → low w u = 2 ^ (ones k u) - 1 := by
  intro w
  induction w with
  | zero => intro k u _ h; omega
  | succ w ih =>
    intro k u hk h
    cases k with
    | zero => omega
    | succ k =>
      unfold low ones
      rw [Nat.pow_succ] at h ⊢
      by_cases e : u % 2 = 1
      · rw [if_pos e]
        by_cases h2 : u / 2 + 1 < 2 ^ w
        · have := ih k (u / 2) (by omega) h2
          unfold low at this
          have e1 : u = 2 * (u / 2) + 1 := by omega
          have e2 : 2 ^ w * 2 - 1 - (u + 1) = 2 * (2 ^ w - 1 - (u / 2 + 1)) + 1 := by omega
          rw [e2]
          rw (occs := .pos [1]) [e1]
          rw [land_2 (by omega) (by omega), this, Nat.add_comm 1, Nat.pow_succ]
          have : 0 < 2 ^ ones k (u / 2) := Nat.two_pow_pos _
          show 2 * _ + 1 = _
          omega
        · omega
      · rw [if_neg e]
        have e1 : u = 2 * (u / 2) + 0 := by omega
        have e2 : 2 ^ w * 2 - 1 - (u + 1) = 2 * (2 ^ w - 1 - u / 2) + 0 := by omega
        rw [e2]
        rw (occs := .pos [1]) [e1]
        rw [land_2 (by omega) (by omega), compl_and w _ (by omega)]
        rfl
theorem ones_le : ∀ (k u : Nat), u < 2 ^ k → ∀ m, ones m u ≤ k := by
  intro k
  induction k with
  | zero =>
    intro u h m
    have : u = 0 := by omega
    subst this; cases m <;> simp [ones]
  | succ k ih =>
    intro u h m
    cases m with
    | zero => simp [ones]
    | succ m =>
      unfold ones
      split
      · have := ih (u / 2) (by rw [Nat.pow_succ] at h; omega) m
        omega
      · omega
theorem ntz_val {u : Nat} (hu : u < 65536) : iand (ixor (-1 - (u : Int)) (-1)) ((-1 - (u : Int)) - 1) = ((2 ^ (ones 32 u) - 1 : Nat) : Int) := by
  have b1 : (Int32.ofInt (-1 - (u : Int))).toBitVec = ~~~ (BitVec.ofNat 32 u) := by
    apply BitVec.eq_of_toInt_eq
    rw [Int32.toInt_toBitVec, ti ⟨by omega, by omega⟩]
    rw [BitVec.toInt_not, BitVec.toNat_ofNat]
    rw [Nat.mod_eq_of_lt (by omega), Int.bmod_def]
    omega
  have b2 : (Int32.ofInt ((-1 - (u : Int)) - 1)).toBitVec = ~~~ (BitVec.ofNat 32 (u + 1)) := by
    apply BitVec.eq_of_toInt_eq
    rw [Int32.toInt_toBitVec, ti ⟨by omega, by omega⟩]
    rw [BitVec.toInt_not, BitVec.toNat_ofNat]
    rw [Nat.mod_eq_of_lt (by omega), Int.bmod_def]
    omega
  have b3 : (Int32.ofInt (ixor (-1 - (u : Int)) (-1))).toBitVec = BitVec.ofNat 32 u := by
    unfold ixor
    rw [Int32.ofInt_toInt, Int32.toBitVec_xor, b1, show (Int32.ofInt (-1)).toBitVec = BitVec.allOnes 32 from by decide +kernel, BitVec.xor_allOnes, BitVec.not_not]
  unfold iand
  rw [← Int32.toInt_toBitVec, Int32.toBitVec_and, b3, b2]
  have h1 : (BitVec.ofNat 32 u &&& ~~~ (BitVec.ofNat 32 (u + 1))).toNat = low 32 u := by
    rw [BitVec.toNat_and, BitVec.toNat_not, BitVec.toNat_ofNat, BitVec.toNat_ofNat, Nat.mod_eq_of_lt (by omega), Nat.mod_eq_of_lt (by omega)]
    rfl
  have h2 := low_ones 32 32 u (Nat.le_refl _) (by omega)
  have h3 := ones_le 16 u (by omega) 32
  have h4 : 2 ^ ones 32 u ≤ 2 ^ 16 := Nat.pow_le_pow_right (by decide) h3
  rw [BitVec.toInt_eq_toNat_of_lt (by rw [h1, h2]; omega), h1, h2]
theorem ntz_tail {G : Wd} {Q : Int → Wd → Prop} : ∀ t : Fin 17, t.val ≠ 0 → Q (t.val : Nat) G → f_J19_numberOfTrailingZeros_34 ((2 ^ t.val - 1 : Nat) : Int) 1 G Q := by
  intro ⟨t, ht⟩ h0 hQ
  simp only at h0 hQ ⊢
  unfold f_J19_numberOfTrailingZeros_34 f_J19_numberOfTrailingZeros_49 f_J19_numberOfTrailingZeros_62 f_J19_numberOfTrailingZeros_74
  have hc : t = 1 ∨ t = 2 ∨ t = 3 ∨ t = 4 ∨ t = 5 ∨ t = 6 ∨ t = 7 ∨ t = 8 ∨ t = 9 ∨ t = 10 ∨ t = 11 ∨ t = 12 ∨ t = 13 ∨ t = 14 ∨ t = 15 ∨ t = 16 := by omega
  rcases hc with h | h | h | h | h | h | h | h | h | h | h | h | h | h | h | h <;> subst h <;>
    (repeat first | refine br_T ⟨by decide +kernel, by decide +kernel⟩ ⟨by decide, by decide⟩ (by decide +kernel) ?_ | refine br_F ⟨by decide +kernel, by decide +kernel⟩ ⟨by decide, by decide⟩ (by decide +kernel) ?_) <;>
    exact hQ
theorem p_J19_ntz {u : Nat} {G : Wd} {Q : Int → Wd → Prop} (hu : u < 65536) (hQ : Q (ones 32 u : Nat) G) : f_J19_numberOfTrailingZeros (-1 - (u : Int)) G Q := by
  unfold f_J19_numberOfTrailingZeros
  rw [ntz_val hu]
  have h3 := ones_le 16 u (by omega) 32
  have h4 : 2 ^ ones 32 u ≤ 2 ^ 16 := Nat.pow_le_pow_right (by decide) h3
  have h5 : 0 < 2 ^ ones 32 u := Nat.two_pow_pos _
  by_cases h0 : ones 32 u = 0
  · rw [h0] at hQ ⊢
    exact br0_F ⟨by decide, by decide⟩ (by decide) hQ
  · have h6 : 2 ^ 1 ≤ 2 ^ ones 32 u := Nat.pow_le_pow_right (by decide) (by omega)
    refine br0_T ⟨by omega, by omega⟩ (by omega) (br_T ⟨by omega, by omega⟩ ⟨by decide, by decide⟩ (by omega) ?_)
    exact ntz_tail ⟨ones 32 u, by omega⟩ h0 hQ
theorem jnot_n {u : Nat} (hu : u < 65536) : jand (jxor u (-1)) (jshl (-1) 0) = -1 - (u : Int) := by
  have e1 : (Int64.ofInt (jshl (-1) 0)).toBitVec = BitVec.allOnes 64 := by decide +kernel
  unfold jand
  rw [← Int64.toInt_toBitVec, Int64.toBitVec_and, e1, BitVec.and_allOnes]
  unfold jxor
  rw [Int64.ofInt_toInt, Int64.toBitVec_xor, oj_nat (by omega), show (Int64.ofInt (-1)).toBitVec = BitVec.allOnes 64 from by decide +kernel, BitVec.xor_allOnes, BitVec.toInt_not, BitVec.toNat_ofNat, Nat.mod_eq_of_lt (by omega), Int.bmod_def]
  omega
theorem p_J5_nextClear {G : Wd} {r a u : Nat} {Q : Int → Wd → Prop} (h : Bs G r a u) (hQ : Q (ones 32 u : Nat) G) : f_J5_nextClearBit a 0 G Q := by
  have h0 := h
  obtain ⟨e, st, f, h1, h2, h3, h4⟩ := h
  unfold f_J5_nextClearBit
  refine br0_T r0 (by decide) ⟨isC_of h1, p_J5_check ?_⟩
  unfold f_J5_wordIndex
  rw [show (0 : Int) = ((0 : Nat) : Int) from rfl, ishr6 (by decide)]
  (repeat first | ((with_reducible apply gI_of); (focus ((repeat first | exact wset_at | assumption | apply wset_skip | (left; decide) | (left; omega) | (right; assumption) | (right; apply Ne.symm; assumption) | (right; exact fr_ne (by assumption) (by assumption)) | (right; exact (fr_ne (by assumption) (by assumption)).symm)))); (focus (decide)); (focus (rfl))) | ((with_reducible apply gR_of); (focus ((repeat first | exact wset_at | assumption | apply wset_skip | (left; decide) | (left; omega) | (right; assumption) | (right; apply Ne.symm; assumption) | (right; exact fr_ne (by assumption) (by assumption)) | (right; exact (fr_ne (by assumption) (by assumption)).symm)))); (focus (decide)); (focus (rfl))) | ((with_reducible apply gZ_of); (focus ((repeat first | exact wset_at | assumption | apply wset_skip | (left; decide) | (left; omega) | (right; assumption) | (right; apply Ne.symm; assumption) | (right; exact fr_ne (by assumption) (by assumption)) | (right; exact (fr_ne (by assumption) (by assumption)).symm)))); (focus (decide)); (focus (rfl))) | ((with_reducible apply pF_of); (focus ((repeat first | exact wset_at | assumption | apply wset_skip | (left; decide) | (left; omega) | (right; assumption) | (right; apply Ne.symm; assumption) | (right; exact fr_ne (by assumption) (by assumption)) | (right; exact (fr_ne (by assumption) (by assumption)).symm)))); (focus (first | assumption | decide | omega)); (focus (decide)); (focus ((exact Nat.le_of_ble_eq_true rfl))); simp only [List.set_cons_zero, List.set_cons_succ, wset_wset]) | ((with_reducible apply nn_of)) | ((with_reducible apply isC_and); (focus ((repeat first | exact wset_at | assumption | apply wset_skip | (left; decide) | (left; omega) | (right; assumption) | (right; apply Ne.symm; assumption) | (right; exact fr_ne (by assumption) (by assumption)) | (right; exact (fr_ne (by assumption) (by assumption)).symm))))) | ((with_reducible apply brB_T)) | ((with_reducible apply brB_F)) | ((with_reducible apply brN_N)) | ((with_reducible apply brN_S)) | ((with_reducible apply lnR_of); (focus ((repeat first | exact wset_at | assumption | apply wset_skip | (left; decide) | (left; omega) | (right; assumption) | (right; apply Ne.symm; assumption) | (right; exact fr_ne (by assumption) (by assumption)) | (right; exact (fr_ne (by assumption) (by assumption)).symm))))) | ((with_reducible apply lnI_of); (focus ((repeat first | exact wset_at | assumption | apply wset_skip | (left; decide) | (left; omega) | (right; assumption) | (right; apply Ne.symm; assumption) | (right; exact fr_ne (by assumption) (by assumption)) | (right; exact (fr_ne (by assumption) (by assumption)).symm))))) | ((with_reducible apply lnJ_of); (focus ((repeat first | exact wset_at | assumption | apply wset_skip | (left; decide) | (left; omega) | (right; assumption) | (right; apply Ne.symm; assumption) | (right; exact fr_ne (by assumption) (by assumption)) | (right; exact (fr_ne (by assumption) (by assumption)).symm))))) | ((with_reducible apply ldR_of); (focus ((repeat first | exact wset_at | assumption | apply wset_skip | (left; decide) | (left; omega) | (right; assumption) | (right; apply Ne.symm; assumption) | (right; exact fr_ne (by assumption) (by assumption)) | (right; exact (fr_ne (by assumption) (by assumption)).symm)))); (focus ((first | assumption | (refine ⟨?_, ?_, ?_⟩ <;> omega))))) | ((with_reducible apply ldI_of); (focus ((repeat first | exact wset_at | assumption | apply wset_skip | (left; decide) | (left; omega) | (right; assumption) | (right; apply Ne.symm; assumption) | (right; exact fr_ne (by assumption) (by assumption)) | (right; exact (fr_ne (by assumption) (by assumption)).symm)))); (focus ((first | assumption | (refine ⟨?_, ?_, ?_⟩ <;> omega))))) | ((with_reducible apply ldJ_of); (focus ((repeat first | exact wset_at | assumption | apply wset_skip | (left; decide) | (left; omega) | (right; assumption) | (right; apply Ne.symm; assumption) | (right; exact fr_ne (by assumption) (by assumption)) | (right; exact (fr_ne (by assumption) (by assumption)).symm)))); (focus ((first | assumption | (refine ⟨?_, ?_, ?_⟩ <;> omega))))))
  by_cases hu : u = 0
  · subst hu
    rw [if_pos rfl]
    exact br_F r0 r0 (by decide) hQ
  · rw [if_neg hu]
    refine br_T r0 r1 (by decide) ?_
    (repeat first | ((with_reducible apply gI_of); (focus ((repeat first | exact wset_at | assumption | apply wset_skip | (left; decide) | (left; omega) | (right; assumption) | (right; apply Ne.symm; assumption) | (right; exact fr_ne (by assumption) (by assumption)) | (right; exact (fr_ne (by assumption) (by assumption)).symm)))); (focus (decide)); (focus (rfl))) | ((with_reducible apply gR_of); (focus ((repeat first | exact wset_at | assumption | apply wset_skip | (left; decide) | (left; omega) | (right; assumption) | (right; apply Ne.symm; assumption) | (right; exact fr_ne (by assumption) (by assumption)) | (right; exact (fr_ne (by assumption) (by assumption)).symm)))); (focus (decide)); (focus (rfl))) | ((with_reducible apply gZ_of); (focus ((repeat first | exact wset_at | assumption | apply wset_skip | (left; decide) | (left; omega) | (right; assumption) | (right; apply Ne.symm; assumption) | (right; exact fr_ne (by assumption) (by assumption)) | (right; exact (fr_ne (by assumption) (by assumption)).symm)))); (focus (decide)); (focus (rfl))) | ((with_reducible apply pF_of); (focus ((repeat first | exact wset_at | assumption | apply wset_skip | (left; decide) | (left; omega) | (right; assumption) | (right; apply Ne.symm; assumption) | (right; exact fr_ne (by assumption) (by assumption)) | (right; exact (fr_ne (by assumption) (by assumption)).symm)))); (focus (first | assumption | decide | omega)); (focus (decide)); (focus ((exact Nat.le_of_ble_eq_true rfl))); simp only [List.set_cons_zero, List.set_cons_succ, wset_wset]) | ((with_reducible apply nn_of)) | ((with_reducible apply isC_and); (focus ((repeat first | exact wset_at | assumption | apply wset_skip | (left; decide) | (left; omega) | (right; assumption) | (right; apply Ne.symm; assumption) | (right; exact fr_ne (by assumption) (by assumption)) | (right; exact (fr_ne (by assumption) (by assumption)).symm))))) | ((with_reducible apply brB_T)) | ((with_reducible apply brB_F)) | ((with_reducible apply brN_N)) | ((with_reducible apply brN_S)) | ((with_reducible apply lnR_of); (focus ((repeat first | exact wset_at | assumption | apply wset_skip | (left; decide) | (left; omega) | (right; assumption) | (right; apply Ne.symm; assumption) | (right; exact fr_ne (by assumption) (by assumption)) | (right; exact (fr_ne (by assumption) (by assumption)).symm))))) | ((with_reducible apply lnI_of); (focus ((repeat first | exact wset_at | assumption | apply wset_skip | (left; decide) | (left; omega) | (right; assumption) | (right; apply Ne.symm; assumption) | (right; exact fr_ne (by assumption) (by assumption)) | (right; exact (fr_ne (by assumption) (by assumption)).symm))))) | ((with_reducible apply lnJ_of); (focus ((repeat first | exact wset_at | assumption | apply wset_skip | (left; decide) | (left; omega) | (right; assumption) | (right; apply Ne.symm; assumption) | (right; exact fr_ne (by assumption) (by assumption)) | (right; exact (fr_ne (by assumption) (by assumption)).symm))))) | ((with_reducible apply ldR_of); (focus ((repeat first | exact wset_at | assumption | apply wset_skip | (left; decide) | (left; omega) | (right; assumption) | (right; apply Ne.symm; assumption) | (right; exact fr_ne (by assumption) (by assumption)) | (right; exact (fr_ne (by assumption) (by assumption)).symm)))); (focus ((first | assumption | (refine ⟨?_, ?_, ?_⟩ <;> omega))))) | ((with_reducible apply ldI_of); (focus ((repeat first | exact wset_at | assumption | apply wset_skip | (left; decide) | (left; omega) | (right; assumption) | (right; apply Ne.symm; assumption) | (right; exact fr_ne (by assumption) (by assumption)) | (right; exact (fr_ne (by assumption) (by assumption)).symm)))); (focus ((first | assumption | (refine ⟨?_, ?_, ?_⟩ <;> omega))))) | ((with_reducible apply ldJ_of); (focus ((repeat first | exact wset_at | assumption | apply wset_skip | (left; decide) | (left; omega) | (right; assumption) | (right; apply Ne.symm; assumption) | (right; exact fr_ne (by assumption) (by assumption)) | (right; exact (fr_ne (by assumption) (by assumption)).symm)))); (focus ((first | assumption | (refine ⟨?_, ?_, ?_⟩ <;> omega))))))
    rw [h3]
    refine ⟨1, ?_⟩
    unfold f_J5_nextClearBit_67 f_J5_nextClearBit_67_b
    rw [show (((0 : Nat) : Int)) = 0 from rfl, jnot_n h4]
    refine ⟨⟨⟨by omega, by omega⟩, ⟨by omega, by omega⟩⟩, ?_⟩
    have e2 : sg (-1 - (u : Int)) 0 = -1 := by unfold sg; rw [if_pos (by omega)]
    rw [e2]
    refine br0_F ⟨by decide, by decide⟩ (by decide) ?_
    unfold f_J22_numberOfTrailingZeros
    refine br0_T ⟨by omega, by omega⟩ (by omega) (p_J19_ntz h4 ?_)
    show Q (0 * 64 + ((ones 32 u : Nat) : Int)) G
    rw [show (0 : Int) * 64 + ((ones 32 u : Nat) : Int) = ((ones 32 u : Nat) : Int) by omega]
    exact hQ
