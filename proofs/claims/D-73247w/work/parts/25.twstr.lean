/-! THE TWIN'S STRINGS -/
set_option maxRecDepth 100000
/-- the String cs lies at a -/
def stA (G0 : Wd) (a : Nat) (cs : List Int) : Prop := ∃ b, G0 0 a = some (oB 118 [vR (some b), vI 0]) ∧ G0 0 b = some (aI 11 cs.length (bytesOf cs)) ∧ (∀ c ∈ cs, 0 ≤ c ∧ c < 128) ∧ cs.length < 1000
def chA (cs : List Int) (i : Int) (K : Int → Prop) : Prop := (0 ≤ i ∧ i < (cs.length : Int)) ∧ K (cs.getD i.toNat 0)
theorem r1 : R32 1 := ⟨by decide, by decide⟩
theorem strs_small : ∀ q ∈ strs, (∀ c ∈ q.2.2.2, 0 ≤ c ∧ c < 128) ∧ q.2.2.2.length < 1000 := by decide +kernel
section
variable {M : Mt} {d k n pc : Nat} {L : List (Option Value)} {st : List Value} {G G0 : Wd} {Q : Qt} {X : Xt}
theorem t_ldcS {index : Nat} {tx : String} {bs : List Int} (hG : ∀ r, r ≠ 2 → G r = G0 r) (hd : decode M.2.1 pc = .ok (.ldc index, 2)) (hs : (M.1, index, tx, bs) ∈ strs) (h : ∀ a, stA G0 a bs → wp M d k n (pc + 2) L (vR (some a) :: st) G Q X) : wp M d k n pc L st G Q X := by
  have hb := strs_small _ hs
  refine r_ldcS (K := fun a => stA G0 a bs) hd hs (fun a b h1 h2 => ?_) h
  rw [hG 0 (by decide)] at h1 h2
  exact ⟨b, h1, h2, hb.1, hb.2⟩
theorem iand255 {x : Int} (h : 0 ≤ x ∧ x < 128) : iand x 255 = x := by
  obtain ⟨n, rfl⟩ : ∃ n : Nat, x = n := ⟨x.toNat, by omega⟩
  have hn : n < 128 := by omega
  have key : ∀ m, m < 128 → iand (m : Nat) 255 = (m : Nat) := by decide +kernel
  exact key n hn
theorem ishr0 {x : Int} (h : 0 ≤ x ∧ x < 1000) : ishr x 0 = x := by
  obtain ⟨n, rfl⟩ : ∃ n : Nat, x = n := ⟨x.toNat, by omega⟩
  have hn : n < 1000 := by omega
  have key : ∀ m, m < 1000 → ishr (m : Nat) 0 = (m : Nat) := by decide +kernel
  exact key n hn
theorem slen_ok {a : Nat} {cs : List Int} {Q : Int → Wd → Prop} (hs : stA G a cs) (h : Q (cs.length : Int) G) : f_J12_length a G Q := by
  obtain ⟨b, h1, h2, h3, h4⟩ := hs
  refine ⟨b, h1, cs.length, _, h2, ⟨b, h1⟩, r1, fun q => absurd q (by decide), fun _ => ⟨⟨b, h1⟩, ⟨by decide, by decide⟩, ?_⟩⟩
  show Q (ishr _ 0) G
  rw [ishr0 ⟨by omega, by omega⟩]
  exact h
theorem schar_ok {a : Nat} {cs : List Int} {i : Int} {Q : Int → Wd → Prop} (hs : stA G a cs) (hi : 0 ≤ i ∧ i < (cs.length : Int)) (h : Q (cs.getD i.toNat 0) G) : f_J12_charAt a i G Q := by
  obtain ⟨b, h1, h2, h3, h4⟩ := hs
  have hc : 0 ≤ bytesOf cs i ∧ bytesOf cs i < 128 := by
    unfold bytesOf
    have hl : i.toNat < cs.length := by omega
    rw [List.getD_eq_getElem?_getD, List.getElem?_eq_getElem hl]
    exact h3 _ (List.getElem_mem hl)
  refine ⟨⟨b, h1⟩, r1, fun q => absurd q (by decide), fun _ => ⟨⟨b, h1⟩, r0, fun q => absurd rfl q, fun _ => ⟨fun _ => ⟨b, h1, b, rfl, cs.length, _, h2, fun r => ⟨⟨by omega, by omega⟩, fun q => absurd q (by omega), fun _ => ⟨⟨⟨by omega, by omega⟩, by omega, by omega⟩, fun _ => ⟨cs.length, _, h2, hi, ?_⟩, fun q => absurd hi.2 q⟩⟩⟩, fun q => absurd q (by decide)⟩⟩⟩
  show okc (iand (bytesOf cs i) 255) _
  rw [iand255 hc]
  exact ⟨⟨hc.1, by omega⟩, ⟨hc.1, by omega⟩, ⟨hc.1, by omega⟩, h⟩
theorem t_slen {a index mr : Nat} {cs : List Int} (hG : ∀ r, r ≠ 2 → G r = G0 r) (hs : stA G0 a cs) (hd : decode M.2.1 pc = .ok (.invokevirtual index, 3)) (h1 : Cond.methodLink M.1 index yJ12_length ∈ lw_all) (hrc : RC st mr) (hm : mr ≤ 8) (hd1 : 7 ≤ d) (h : wp M d k n (pc + 3) L (vI (cs.length : Int) :: st) G Q X) : wp M d k n pc L (vR (some a) :: st) G Q X := by
  have hs' : stA G a cs := by obtain ⟨b, g1, g2, g3⟩ := hs; exact ⟨b, by rw [hG 0 (by decide)]; exact g1, by rw [hG 0 (by decide)]; exact g2, g3⟩
  refine r_callVS hd (by obtain ⟨b, g1, -⟩ := hs'; exact ⟨b, g1⟩) (c_J12_length (slen_ok (Q := fun x G' => x = (cs.length : Int) ∧ G' = G) hs' ⟨rfl, rfl⟩)) h1 q395 q396 q107 q397 rfl yo_J12_length rfl (by omega) (by decide) rfl hrc hm (Nat.zero_le _) (Nat.zero_le _) (ofI fun x G' hx => ?_) nox
  obtain ⟨rfl, rfl⟩ := hx
  exact h
theorem t_schar {a index mr : Nat} {cs : List Int} {i : Int} {K : Int → Prop} (hG : ∀ r, r ≠ 2 → G r = G0 r) (hs : stA G0 a cs) (hd : decode M.2.1 pc = .ok (.invokevirtual index, 3)) (h1 : Cond.methodLink M.1 index yJ12_charAt ∈ lw_all) (hrc : RC st mr) (hm : mr ≤ 8) (hd1 : 7 ≤ d) (ho : chA cs i K) (h : ∀ x, K x → wp M d k n (pc + 3) L (vI x :: st) G Q X) : wp M d k n pc L (vI i :: vR (some a) :: st) G Q X := by
  have hs' : stA G a cs := by obtain ⟨b, g1, g2, g3⟩ := hs; exact ⟨b, by rw [hG 0 (by decide)]; exact g1, by rw [hG 0 (by decide)]; exact g2, g3⟩
  refine r_callVS (As := [vI i]) hd (by obtain ⟨b, g1, -⟩ := hs'; exact ⟨b, g1⟩) (c_J12_charAt (schar_ok (Q := fun x G' => x = cs.getD i.toNat 0 ∧ G' = G) hs' ho.1 ⟨rfl, rfl⟩)) h1 q2186 q2187 q107 q2188 rfl yo_J12_charAt rfl (by omega) (by decide) rfl hrc hm (Nat.zero_le _) (Nat.zero_le _) (ofI fun x G' hx => ?_) nox
  obtain ⟨rfl, rfl⟩ := hx
  exact h _ ho.2
end
theorem ldcStringW {p : Program} {l : Launch} {e : Env} {R : Room} {s : State} {m : MethodId} {args : Array Value} {below : List Frame} {meth : Method} {c : Code} {T : State} {locs : List Loc} {cells slots : Nat}
    (X : Stand p l e R s m args below meth c T locs cells slots) (hexec : p.tables.exec = Jvm.exec) {own text : String} {index : Nat} {a : Addr} (hown : s.vm.findClass own = some m.cls)
    (hconst : (Cond.stringRef own index text).before args s = true) (hev : (Term.string own index).eval args s none [] s = some (.ref a)) {g : JFrame} (hg : g.method = m) (hdg : decode c.code g.pc = .ok (.ldc_w index, 3)) :
    ∀ target, Steps p.tables e below (T.setTop { g with pc := g.pc + 3, stack := .ref a :: g.stack }) target → Steps p.tables e below (T.setTop g) target := by
  obtain ⟨k, cf, i, a', hk, hcf, hcp, -, hr, hev'⟩ := Cond.stringRef_spec hown hconst
  cases hev.symm.trans hev'
  obtain ⟨k', hk', he⟩ := X.warmed.alike.2.2 _ _ hk
  have hr' : k'.resolved[index]? = some (some (.string a)) := by
    rcases X.warmed.entry hk hk' index with h | ⟨h, -⟩
    · rw [h]; exact hr
    · rw [hr] at h; cases h
  intro target hrest
  subst hg
  jvm_step X.here [hexec, hdg, ldc_w.wp_string (e := e) (s := T) (f := g) X.here.top hk' (by rw [he]; exact hcf) hcp hr']
  exact hrest
section
variable {M : Mt} {d k n pc : Nat} {L : List (Option Value)} {st : List Value} {G G0 : Wd} {Q : Qt} {X : Xt}
theorem t_ldcSw {index : Nat} {tx : String} {bs : List Int} (hG : ∀ r, r ≠ 2 → G r = G0 r) (hd : decode M.2.1 pc = .ok (.ldc_w index, 3)) (hs : (M.1, index, tx, bs) ∈ strs) (h : ∀ a, stA G0 a bs → wp M d k n (pc + 3) L (vR (some a) :: st) G Q X) : wp M d k n pc L st G Q X := by
  have hb := strs_small _ hs
  intro z hz p e R s m args below meth c H locs cells slots ls cx hR hP hS hl
  have hW := cx.2.2.2.2.2.2.2.2.1
  obtain ⟨a, b, h1, h2, h3⟩ := hz.2.2.2.2.2 _ hs
  have h0 := hP.1.2.2
  have h1' := vk_R.warm hW h1
  have hst : stA G0 a bs := ⟨b, by rw [← hG 0 (by decide), h0]; exact h2, by rw [← hG 0 (by decide), h0]; exact h3, hb.1, hb.2⟩
  intro T hT X0
  obtain ⟨t, a1, b1⟩ := h a hst z hz p e R s m args below meth c H locs cells slots ls cx hR hP hS hl T hT X0
  exact ⟨t, ldcStringW X0 cx.1 (own := M.1) (text := tx) cx.2.2.2.2.2.1 h1'.1 h1'.2 (g := F0 m pc ls st) rfl (by rw [cx.2.1]; exact hd) t a1, b1⟩
end
