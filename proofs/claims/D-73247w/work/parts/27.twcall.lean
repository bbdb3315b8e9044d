/-! THE TWIN, CALLED FROM OUTSIDE -/
set_option maxRecDepth 100000
/-- a call of the twin at t: what it does to its state, then K -/
def tcI (G : Wd) (t : Nat) (f : Tw → (Int → Tw → Prop) → Prop) (K : Int → Wd → Prop) : Prop := ∃ ad w, TwAt t ad w (G 2) ∧ f w (fun x w' => ∀ G', TwAt t ad w' (G' 2) → (∀ r, r ≠ 2 → G' r = G r) → K x G')
def tcB (G : Wd) (t : Nat) (f : Tw → (Bool → Tw → Prop) → Prop) (K : Bool → Wd → Prop) : Prop := ∃ ad w, TwAt t ad w (G 2) ∧ f w (fun x w' => ∀ G', TwAt t ad w' (G' 2) → (∀ r, r ≠ 2 → G' r = G r) → K x G')
def tcJ (G : Wd) (t : Nat) (f : Tw → (Int → Tw → Prop) → Prop) (K : Int → Wd → Prop) : Prop := ∃ ad w, TwAt t ad w (G 2) ∧ f w (fun x w' => ∀ G', TwAt t ad w' (G' 2) → (∀ r, r ≠ 2 → G' r = G r) → K x G')
section
variable {M : Mt} {d k n pc : Nat} {L : List (Option Value)} {st : List Value} {G : Wd} {Q : Qt} {X : Xt}
variable {y : MethodName} {cc : ByteArray} {maxL : Nat} {ret : Option FieldType} {d' index N mr t : Nat} {As rest : List Value}
theorem r_tcI {f : Tw → (Int → Tw → Prop) → Prop} {K : Int → Wd → Prop} (hd : decode M.2.1 pc = .ok (.invokevirtual index, 3)) (hM : ∀ {ad : Nat → Nat} {w : Tw} {K' : Int → Tw → Prop}, f w K' → TwAt t ad w (G 2) → (∀ r, r ≠ 2 → G r = G r) → call y (Cond.code y cc maxL ret) d' 0 0 (vR (some t) :: As) G (twQ t ad G (uI K')) noX) (ho : tcI G t f K) (h1 : Cond.methodLink M.1 index y ∈ lw_all) (h2 : Cond.instanceMethod y ∈ lw_all) (h3 : Cond.selects y.cls y y ∈ lw_all) (h4 : Cond.initialized y.cls ∈ lw_all) (h5 : Cond.code y cc maxL ret ∈ lw_all) (hy0 : y.cls = RX4)
    (hy : yOK y N) (hN : As.length = N) (hdd : d' + 1 ≤ d) (hm : maxL ≤ 45) (hst : st = As.reverse ++ vR (some t) :: rest) (hrc : RC rest mr) (hm8 : mr ≤ 8) (h : ∀ x G', K x G' → wp M d k n (pc + 3) L (vI x :: rest) G' Q X) : wp M d k n pc L st G Q X := by
  obtain ⟨ad, w, hT, hf⟩ := ho
  exact r_callV hd (tisC hT) (hM hf hT (fun _ _ => rfl)) h1 h2 h3 h4 h5 (T := TX4) (N0 := 45) (by rw [hy0]; rfl) hy hN hdd hm hst hrc hm8 (Nat.zero_le _) (Nat.zero_le _) (tofI fun x w' G' hk hT' hG' => h x G' (hk G' hT' hG')) nox
theorem r_tcB {f : Tw → (Bool → Tw → Prop) → Prop} {K : Bool → Wd → Prop} (hd : decode M.2.1 pc = .ok (.invokevirtual index, 3)) (hM : ∀ {ad : Nat → Nat} {w : Tw} {K' : Bool → Tw → Prop}, f w K' → TwAt t ad w (G 2) → (∀ r, r ≠ 2 → G r = G r) → call y (Cond.code y cc maxL ret) d' 0 0 (vR (some t) :: As) G (twQ t ad G (uB K')) noX) (ho : tcB G t f K) (h1 : Cond.methodLink M.1 index y ∈ lw_all) (h2 : Cond.instanceMethod y ∈ lw_all) (h3 : Cond.selects y.cls y y ∈ lw_all) (h4 : Cond.initialized y.cls ∈ lw_all) (h5 : Cond.code y cc maxL ret ∈ lw_all) (hy0 : y.cls = RX4)
    (hy : yOK y N) (hN : As.length = N) (hdd : d' + 1 ≤ d) (hm : maxL ≤ 45) (hst : st = As.reverse ++ vR (some t) :: rest) (hrc : RC rest mr) (hm8 : mr ≤ 8) (h : ∀ x G', K x G' → wp M d k n (pc + 3) L (vB x :: rest) G' Q X) : wp M d k n pc L st G Q X := by
  obtain ⟨ad, w, hT, hf⟩ := ho
  exact r_callV hd (tisC hT) (hM hf hT (fun _ _ => rfl)) h1 h2 h3 h4 h5 (T := TX4) (N0 := 45) (by rw [hy0]; rfl) hy hN hdd hm hst hrc hm8 (Nat.zero_le _) (Nat.zero_le _) (tofB fun x w' G' hk hT' hG' => h x G' (hk G' hT' hG')) nox
theorem r_tcJ {f : Tw → (Int → Tw → Prop) → Prop} {K : Int → Wd → Prop} (hd : decode M.2.1 pc = .ok (.invokevirtual index, 3)) (hM : ∀ {ad : Nat → Nat} {w : Tw} {K' : Int → Tw → Prop}, f w K' → TwAt t ad w (G 2) → (∀ r, r ≠ 2 → G r = G r) → call y (Cond.code y cc maxL ret) d' 0 0 (vR (some t) :: As) G (twQ t ad G (uJ K')) noX) (ho : tcJ G t f K) (h1 : Cond.methodLink M.1 index y ∈ lw_all) (h2 : Cond.instanceMethod y ∈ lw_all) (h3 : Cond.selects y.cls y y ∈ lw_all) (h4 : Cond.initialized y.cls ∈ lw_all) (h5 : Cond.code y cc maxL ret ∈ lw_all) (hy0 : y.cls = RX4)
    (hy : yOK y N) (hN : As.length = N) (hdd : d' + 1 ≤ d) (hm : maxL ≤ 45) (hst : st = As.reverse ++ vR (some t) :: rest) (hrc : RC rest mr) (hm8 : mr ≤ 8) (h : ∀ x G', K x G' → wp M d k n (pc + 3) L (vJ x :: rest) G' Q X) : wp M d k n pc L st G Q X := by
  obtain ⟨ad, w, hT, hf⟩ := ho
  exact r_callV hd (tisC hT) (hM hf hT (fun _ _ => rfl)) h1 h2 h3 h4 h5 (T := TX4) (N0 := 45) (by rw [hy0]; rfl) hy hN hdd hm hst hrc hm8 (Nat.zero_le _) (Nat.zero_le _) (tofJ fun x w' G' hk hT' hG' => h x G' (hk G' hT' hG')) nox
end
