/-! pure: stood, of, seat, count, seed -/
set_option maxRecDepth 100000
def updN (f : Nat → Nat) (k v : Nat) : Nat → Nat := fun j => if j = k then v else f j
theorem updN_s {f : Nat → Nat} {k v : Nat} : updN f k v k = v := if_pos rfl
theorem updN_n {f : Nat → Nat} {k v j : Nat} (h : j ≠ k) : updN f k v j = f j := if_neg h
def setP (B : AB) (f : Nat → Nat) : AB := (bM B, bS B, bY B, bD B, bL B, bK B, f)
theorem pc_isHour {x : Int32} {Q : Int32 → Prop} (hQ : Q (b2i (inR x 0 2))) : wp_X0_isHour x Q := by
  unfold wp_X0_isHour
  exact pc_isIn (a := 0) (c := 2) rfl rfl ⟨b2i_z _, hQ⟩
def stoodOk (B : AB) (p1 p2 p3 : Int32) : Bool := inR p1 0 ((bM B : Int) - 1) && inR p2 0 2 && inR p3 0 9
def stoodR (B : AB) (p1 p2 p3 : Int32) : Int32 := if stoodOk B p1 p2 p3 = true then (if takenB B p2.toNatClampNeg p3.toNatClampNeg = true then (-2) else nI (bP B (3 * p1.toNatClampNeg + p2.toNatClampNeg))) else (-1)
def stoodB (B : AB) (p1 p2 p3 : Int32) : AB := if (stoodOk B p1 p2 p3 && !takenB B p2.toNatClampNeg p3.toNatClampNeg) = true then setP B (updN (bP B) (3 * p1.toNatClampNeg + p2.toNatClampNeg) p3.toNatClampNeg) else B
theorem inRn {x : Int32} {n : Nat} (hn : n < 1000) (h : inR x 0 (n : Int) = true) : ∃ j, j ≤ n ∧ x = nI j := by
  obtain ⟨j, hj, e⟩ := inR_nI (x := x) (n := n + 1) (by omega) (by rw [show ((n + 1 : Nat) : Int) - 1 = (n : Int) by omega]; exact h)
  exact ⟨j, by omega, e⟩
theorem lt0_iff {r : Int32} : r < 0 ↔ ¬ (0 ≤ r) := by
  simp only [Int32.lt_iff_toInt_lt, Int32.le_iff_toInt_le]; omega
theorem CR_setP {b : BT} {B : AB} (h : CR b B) {f : Nat → Int32} {g : Nat → Nat} (hf : ∀ i, i < 3 * bM B → f i = nI (g i)) : CR (kd b, f, lf b, se b, mn b, ma b, yr b, dw b) (setP B g) := ⟨h.1, h.2.1, h.2.2.1, h.2.2.2.1, h.2.2.2.2.1, h.2.2.2.2.2.1, h.2.2.2.2.2.2.1, hf⟩
theorem pc_stood {b : BT} {B : AB} (h : CR b B) (hI : Inv B) {p1 p2 p3 : Int32} {Q : Int32 → BT → Prop} (hQ : ∀ b', CR b' (stoodB B p1 p2 p3) → Q (stoodR B p1 p2 p3) b') : wp_X0_stood b p1 p2 p3 Q := by
  have h6 := hI.1
  have bad : stoodOk B p1 p2 p3 = false → Q (-1) b := by
    intro hb
    have e1 : stoodR B p1 p2 p3 = -1 := by simp [stoodR, hb]
    have e2 : stoodB B p1 p2 p3 = B := by simp [stoodB, hb]
    rw [e1, e2] at hQ
    exact hQ b h
  unfold wp_X0_stood
  refine pc_isMan h hI ⟨fun c => bad ?_, fun c => pc_isHour ⟨fun c2 => bad ?_, fun c2 => pc_isIn (a := 0) (c := 9) rfl rfl ⟨fun c3 => ?_, fun c3 => bad ?_⟩⟩⟩
  · rw [b2i_0] at c; simp [stoodOk, c]
  · rw [b2i_0] at c2; simp [stoodOk, c2]
  · rw [b2i_n0] at c c2 c3
    have hok : stoodOk B p1 p2 p3 = true := by simp [stoodOk, c, c2, c3]
    obtain ⟨m, hm, rfl⟩ := inR_nI (by omega) c
    obtain ⟨t, ht, rfl⟩ := inRn (n := 2) (by omega) c2
    obtain ⟨p, hp, rfl⟩ := inRn (n := 9) (by omega) c3
    simp only [stoodR, stoodB, hok, nI_clamp (show m < 2 ^ 31 by omega), nI_clamp (show t < 2 ^ 31 by omega), nI_clamp (show p < 2 ^ 31 by omega)] at hQ
    refine pc_manAt h hI (by omega) (by omega) (fun r hr => ?_)
    rw [lt0_iff, hr]
    refine ⟨fun c4 => pc_placeOf h hI hm (by omega) ?_, fun c4 => ?_⟩
    · have c4 : takenB B t p = false := by simpa using c4
      simp (disch := omega) only [il0, il1, il2, il3, il4, il5, il6, il7, il8, il9, il10, il15, il16, il22, il24, il30, il31, il40, il41, il60, il70, il146, il161, il9999, pk_mul, nI_add, pk_sub, nI_clamp, nI_leI, nI_ltI, nI_eq]
      refine ⟨vp_in_nI (by omega) (by omega), fun f hf => ?_⟩
      rw [c4] at hQ
      refine hQ _ (CR_setP h (fun i hi => ?_))
      rw [hf]
      by_cases e : i = 3 * m + t
      · rw [e, pk_us, updN_s]
      · rw [pk_un e, updN_n e]; exact h.2.2.2.2.2.2.2 i hi
    · have c4 : takenB B t p = true := by simpa using c4
      rw [c4] at hQ
      exact hQ b h
  · rw [b2i_0] at c3; simp [stoodOk, c3]
theorem MR_setP {s s' : Nat → Int32} {B : AB} (h : MR s B) (h6 : bM B ≤ 6) (hl : (bS B).length ≤ bM B) {g : Nat → Nat} (hs : ∀ i, i < 22 → s' i = s i) (hf : ∀ i, i < 3 * bM B → s' (22 + i) = nI (g i)) : MR s' (setP B g) :=
  ⟨(hs 0 (by omega)).trans h.1, (hs 1 (by omega)).trans h.2.1, (hs 2 (by omega)).trans h.2.2.1, (hs 3 (by omega)).trans h.2.2.2.1, fun k hk => (hs _ (by have : k < (bS B).length := hk; omega)).trans (h.2.2.2.2.1 k hk), fun m hm => (hs _ (by have : m < bM B := hm; omega)).trans (h.2.2.2.2.2.1 m hm), fun m hm => (hs _ (by have : m < bM B := hm; omega)).trans (h.2.2.2.2.2.2.1 m hm), hf⟩
theorem pm_stood {s : Nat → Int32} {B : AB} (h : MR s B) (hI : Inv B) {p1 p2 p3 : Int32} {Q : Int32 → (Nat → Int32) → Prop} (hQ : ∀ s', MR s' (stoodB B p1 p2 p3) → (∀ i, 40 ≤ i → s' i = s i) → Q (stoodR B p1 p2 p3) s') : wp_X9_stood s p1 p2 p3 Q := by
  have h6 := hI.1
  have hl := hI.len
  have bad : stoodOk B p1 p2 p3 = false → Q (-1) s := by
    intro hb
    have e1 : stoodR B p1 p2 p3 = -1 := by simp [stoodR, hb]
    have e2 : stoodB B p1 p2 p3 = B := by simp [stoodB, hb]
    rw [e1, e2] at hQ
    exact hQ s h (fun _ _ => rfl)
  unfold wp_X9_stood
  refine pm_isMan h hI ⟨fun c => bad ?_, fun c => pm_in ⟨fun c2 => bad ?_, fun c2 => pm_in ⟨fun c3 => ?_, fun c3 => bad ?_⟩⟩⟩
  · rw [b2i_0] at c; simp [stoodOk, c]
  · rw [b2i_0] at c2; have c2 : inR p2 0 2 = false := c2; simp [stoodOk, c2]
  · rw [b2i_n0] at c c2 c3
    have c2 : inR p2 0 2 = true := c2
    have c3 : inR p3 0 9 = true := c3
    have hok : stoodOk B p1 p2 p3 = true := by simp [stoodOk, c, c2, c3]
    obtain ⟨m, hm, rfl⟩ := inR_nI (by omega) c
    obtain ⟨t, ht, rfl⟩ := inRn (n := 2) (by omega) c2
    obtain ⟨p, hp, rfl⟩ := inRn (n := 9) (by omega) c3
    simp only [stoodR, stoodB, hok, nI_clamp (show m < 2 ^ 31 by omega), nI_clamp (show t < 2 ^ 31 by omega), nI_clamp (show p < 2 ^ 31 by omega)] at hQ
    refine pm_isTaken h hI (by omega) (by omega) ⟨fun c4 => ?_, fun c4 => ?_⟩
    · rw [b2i_0] at c4
      simp (disch := omega) only [il0, il1, il2, il3, il4, il5, il6, il7, il8, il9, il10, il15, il16, il22, il24, il30, il31, il40, il41, il60, il70, il146, il161, il9999, pk_mul, nI_add, pk_sub, nI_clamp, nI_leI, nI_ltI, nI_eq]
      refine ⟨vp_in_nI (by omega) (by omega), fun v hv => ⟨vp_in_nI (by omega) (by omega), fun f hf => ?_⟩⟩
      rw [c4] at hQ
      rw [Nat.add_assoc, h.2.2.2.2.2.2.2 _ (by omega)] at hv
      rw [hv]
      refine hQ f (MR_setP h h6 hl (fun i hi => ?_) (fun i hi => ?_)) (fun i hi => ?_)
      · rw [hf, pk_un (by omega)]
      · rw [hf]
        by_cases e : i = 3 * m + t
        · rw [e, ← Nat.add_assoc, pk_us, updN_s]
        · rw [pk_un (by omega), updN_n e]; exact h.2.2.2.2.2.2.2 i hi
      · rw [hf, pk_un (by omega)]
    · rw [b2i_n0] at c4
      rw [c4] at hQ
      exact hQ s h (fun _ _ => rfl)
  · rw [b2i_0] at c3; have c3 : inR p3 0 9 = false := c3; simp [stoodOk, c3]
theorem Inv_setP {B : AB} (hI : Inv B) {g : Nat → Nat} (hg : ∀ i, i < 3 * bM B → g i ≤ 9) : Inv (setP B g) := by
  obtain ⟨h1, h2, h3, h4, h5, h6, h7, h8, h9⟩ := hI
  exact ⟨h1, h2, h3, h4, h5, h6, hg, h8, h9⟩
theorem Inv_stood {B : AB} (hI : Inv B) (p1 p2 p3 : Int32) : Inv (stoodB B p1 p2 p3) ∧ bY (stoodB B p1 p2 p3) = bY B ∧ bM (stoodB B p1 p2 p3) = bM B := by
  unfold stoodB
  split
  case isFalse => exact ⟨hI, rfl, rfl⟩
  case isTrue hc =>
    simp only [Bool.and_eq_true, stoodOk] at hc
    obtain ⟨p, hp, rfl⟩ := inRn (x := p3) (n := 9) (by omega) hc.1.2
    refine ⟨Inv_setP hI (fun i hi => ?_), rfl, rfl⟩
    unfold updN
    split
    · rw [nI_clamp (by omega)]; exact hp
    · exact hI.2.2.2.2.2.2.1 i hi
def ofI (B : AB) (p1 p2 : Int32) : Int32 := if inR p1 0 ((bM B : Int) - 1) = true then
    (if p2 = 0 then nI (bK B p1.toNatClampNeg) else if p2 = 1 then nI (bL B p1.toNatClampNeg) else if p2 = 2 then seatI B p1.toNatClampNeg
     else if p2 = 3 then nI (bP B (3 * p1.toNatClampNeg + 0)) else if p2 = 4 then nI (bP B (3 * p1.toNatClampNeg + 1)) else if p2 = 5 then nI (bP B (3 * p1.toNatClampNeg + 2))
     else if p2 = 6 then stoodI B p1.toNatClampNeg else if p2 = 7 then sitI B p1.toNatClampNeg else if p2 = 8 then (if p1.toNatClampNeg ∈ bS B then nI (failN B p1.toNatClampNeg) else 0) else (-1)) else (-1)
theorem pc_of {b : BT} {B : AB} (h : CR b B) (hI : Inv B) {p1 p2 : Int32} {Q : Int32 → Prop} (hQ : Q (ofI B p1 p2)) : wp_X0_of b p1 p2 Q := by
  have h6 := hI.1
  unfold wp_X0_of
  refine pc_isMan h hI ⟨fun c => ?_, fun c => ?_⟩
  · rw [b2i_n0] at c
    obtain ⟨m, hm, rfl⟩ := inR_nI (by omega) c
    simp only [ofI, c, if_true, nI_clamp (show m < 2 ^ 31 by omega)] at hQ
    simp only [nI_clamp (show m < 2 ^ 31 by omega)]
    refine ⟨fun e => ?_, fun e => ?_, fun e => ?_, fun e => ?_, fun e => ?_, fun e => ?_, fun e => ?_, fun e => ?_, fun e => ?_, fun e => ?_⟩
    · subst e; exact ⟨vp_in_nI (by omega) (by omega), by rw [h.2.2.2.2.2.2.1 m hm]; exact hQ⟩
    · subst e; exact ⟨vp_in_nI (by omega) (by omega), by rw [h.2.2.2.2.2.1 m hm]; exact hQ⟩
    · subst e; exact ps_X6_seatOf h hI (by omega) hQ
    · subst e; exact pc_placeOf (t := 0) h hI hm (by omega) hQ
    · subst e; exact pc_placeOf (t := 1) h hI hm (by omega) hQ
    · subst e; exact pc_placeOf (t := 2) h hI hm (by omega) hQ
    · subst e; exact pc_stoodSet h hI hm hQ
    · subst e; exact pc_sitSet h hI (by omega) hQ
    · subst e; exact pc_failsOf h hI hm hQ
    · obtain ⟨e0, e1, e2, e3, e4, e5, e6, e7, e8⟩ := e
      simp only [e0, e1, e2, e3, e4, e5, e6, e7, e8, if_false] at hQ
      exact hQ
  · rw [b2i_0] at c
    simp only [ofI, c] at hQ
    exact hQ
theorem pm_of {s : Nat → Int32} {B : AB} (h : MR s B) (hI : Inv B) {p1 p2 : Int32} {Q : Int32 → Prop} (hQ : Q (ofI B p1 p2)) : wp_X9_of s p1 p2 Q := by
  have h6 := hI.1
  have hl := hI.len
  unfold wp_X9_of
  refine pm_isMan h hI ⟨fun c => ?_, fun c => pm_in ⟨fun c2 => ?_, fun c2 => ?_⟩⟩
  · rw [b2i_0] at c
    simp only [ofI, c] at hQ
    exact hQ
  · rw [b2i_n0] at c c2
    obtain ⟨m, hm, rfl⟩ := inR_nI (by omega) c
    simp only [ofI, c, if_true, nI_clamp (show m < 2 ^ 31 by omega)] at hQ
    have pl3 : ∀ t, t < 3 → Q (nI (bP B (3 * m + t))) → (vp_in ((((22 : Int32) + ((3 : Int32) * nI m)) + nI (t + 3)) - (3 : Int32)) 161 ∧ Q (s (((((22 : Int32) + ((3 : Int32) * nI m)) + nI (t + 3)) - (3 : Int32))).toNatClampNeg)) := by
      intro t ht hq
      simp (disch := omega) only [il0, il1, il2, il3, il4, il5, il6, il7, il8, il9, il10, il15, il16, il22, il24, il30, il31, il40, il41, il60, il70, il146, il161, il9999, pk_mul, nI_add, pk_sub, nI_clamp, nI_leI, nI_ltI, nI_eq]
      refine ⟨vp_in_nI (by omega) (by omega), ?_⟩
      rw [show 22 + 3 * m + (t + 3) - 3 = 22 + (3 * m + t) by omega, h.2.2.2.2.2.2.2 _ (by omega)]
      exact hq
    refine ⟨fun e => ?_, fun e => ?_, fun e => ?_, fun e => ?_, fun e => ?_, fun e => ?_, fun e => ?_, fun e => ?_, fun e => ?_, fun e => ?_⟩
    · subst e
      simp (disch := omega) only [il0, il1, il2, il3, il4, il5, il6, il7, il8, il9, il10, il15, il16, il22, il24, il30, il31, il40, il41, il60, il70, il146, il161, il9999, pk_mul, nI_add, pk_sub, nI_clamp, nI_leI, nI_ltI, nI_eq]
      exact ⟨vp_in_nI (by omega) (by omega), by rw [h.2.2.2.2.2.2.1 m hm]; exact hQ⟩
    · subst e
      simp (disch := omega) only [il0, il1, il2, il3, il4, il5, il6, il7, il8, il9, il10, il15, il16, il22, il24, il30, il31, il40, il41, il60, il70, il146, il161, il9999, pk_mul, nI_add, pk_sub, nI_clamp, nI_leI, nI_ltI, nI_eq]
      exact ⟨vp_in_nI (by omega) (by omega), by rw [h.2.2.2.2.2.1 m hm]; exact hQ⟩
    · subst e; exact pm_seatOf h hI (by omega) hQ
    · subst e; exact pl3 0 (by omega) hQ
    · subst e; exact pl3 1 (by omega) hQ
    · subst e; exact pl3 2 (by omega) hQ
    · subst e; exact pm_allStoodBy h hI hm hQ
    · subst e; exact pm_allSitBy h hI (by omega) hQ
    · subst e
      refine pm_seatOf h hI (by omega) ?_
      by_cases hmem : m ∈ bS B
      · have := idx_lt hmem
        simp only [seatI, if_pos hmem]
        refine ⟨fun _ => pm_fails h hI hmem ?_, fun c => absurd c (nI_ne4 (by omega))⟩
        simpa [hmem] using hQ
      · simp only [seatI, if_neg hmem]
        refine ⟨fun c => absurd trivial c, fun _ => ?_⟩
        simpa [hmem] using hQ
    · exfalso
      have c2 : inR p2 0 8 = true := c2
      obtain ⟨j, hj, rfl⟩ := inRn (n := 8) (by omega) c2
      simp (disch := omega) only [il0, il1, il2, il3, il4, il5, il6, il7, il8, il9, il10, il15, il16, il22, il24, il30, il31, il40, il41, il60, il70, il146, il161, il9999, pk_mul, nI_add, pk_sub, nI_clamp, nI_leI, nI_ltI, nI_eq] at e
      omega
  · rw [b2i_n0] at c
    rw [b2i_0] at c2
    have c2 : inR p2 0 8 = false := c2
    have ne : ∀ k : Int32, inR k 0 8 = true → ¬ p2 = k := fun k hk e => by rw [e, hk] at c2; cases c2
    simp only [ofI, c, if_true, ne 0 (by decide), ne 1 (by decide), ne 2 (by decide), ne 3 (by decide), ne 4 (by decide), ne 5 (by decide), ne 6 (by decide), ne 7 (by decide), ne 8 (by decide), if_false] at hQ
    exact hQ
def seatAt (B : AB) (p1 : Int32) : Int32 := if 0 ≤ p1 then onSeatI (bS B) p1.toInt else (-1)
theorem pc_seat {b : BT} {B : AB} (h : CR b B) (hI : Inv B) {p1 : Int32} {Q : Int32 → Prop} (hQ : Q (seatAt B p1)) : wp_X0_seat b p1 Q := by
  have h6 := hI.1
  have hl := hI.len
  unfold wp_X0_seat
  rw [h.2.1]
  refine ⟨fun c => ?_, fun c => ?_⟩
  · rw [seatAt, if_pos c] at hQ
    have h0 : (0 : Int32).toInt = 0 := by decide
    rw [Int32.le_iff_toInt_le, h0] at c
    obtain ⟨j, hj, rfl⟩ := nI_of (x := p1) (by rw [Int32.lt_iff_toInt_lt, h0]; omega)
    rw [nI_toInt hj, onSeatI] at hQ
    refine ⟨fun c2 => ?_, fun c2 => ?_⟩
    · simp (disch := omega) only [il0, il1, il2, il3, il4, il5, il6, il7, il8, il9, il10, il15, il16, il22, il24, il30, il31, il40, il41, il60, il70, il146, il161, il9999, pk_mul, nI_add, pk_sub, nI_clamp, nI_leI, nI_ltI, nI_eq] at c2
      rw [if_neg (by omega)] at hQ
      exact hQ
    · simp (disch := omega) only [il0, il1, il2, il3, il4, il5, il6, il7, il8, il9, il10, il15, il16, il22, il24, il30, il31, il40, il41, il60, il70, il146, il161, il9999, pk_mul, nI_add, pk_sub, nI_clamp, nI_leI, nI_ltI, nI_eq] at c2
      rw [if_pos (by omega), Int.toNat_natCast] at hQ
      rw [nI_clamp hj]
      exact ⟨vp_in_nI (by omega) (by omega), by rw [h.2.2.2.2.1 j (by omega)]; exact hQ⟩
  · rw [seatAt, if_neg c] at hQ
    exact hQ
theorem pm_seat {s : Nat → Int32} {B : AB} (h : MR s B) (hI : Inv B) {p1 : Int32} {Q : Int32 → Prop} (hQ : Q (seatAt B p1)) : wp_X9_seat s p1 Q := by
  unfold wp_X9_seat
  refine ⟨fun c => pm_onSeat h hI ?_, fun c => ?_⟩
  · rw [seatAt, if_pos c] at hQ; exact hQ
  · rw [seatAt, if_neg c] at hQ; exact hQ
def countI (B : AB) (u : Int32) (p1 : Int32) : Int32 := if p1 = 0 then nI (bM B) else if p1 = 1 then nI (bS B).length else if p1 = 2 then nI (bY B) else if p1 = 3 then benchI (bS B) else if p1 = 4 then nI (lifeAll B) else if p1 = 5 then nI (wrongN B) else if p1 = 6 then u else (-1)
theorem pc_count {b : BT} {B : AB} (h : CR b B) (hI : Inv B) {u p1 : Int32} {Q : Int32 → Prop} (hQ : Q (countI B u p1)) : wp_X0_count u b p1 Q := by
  unfold wp_X0_count
  rw [h.1, h.2.1, h.2.2.1]
  refine ⟨fun e => ?_, fun e => ?_, fun e => ?_, fun e => ?_, fun e => ?_, fun e => ?_, fun e => ?_, fun e => ?_⟩
  · subst e; exact hQ
  · subst e; exact hQ
  · subst e; exact hQ
  · subst e; exact pc_onBench h hI hQ
  · subst e; exact pc_allLife h hI hQ
  · subst e; exact pc_wrongMany h hI hQ
  · subst e; exact hQ
  · obtain ⟨e0, e1, e2, e3, e4, e5, e6⟩ := e
    simp only [countI, e0, e1, e2, e3, e4, e5, e6, if_false] at hQ
    exact hQ
theorem pm_count {s : Nat → Int32} {B : AB} (h : MR s B) (hI : Inv B) {p1 : Int32} {Q : Int32 → Prop} (hQ : Q (countI B (s 40) p1)) : wp_X9_count s p1 Q := by
  unfold wp_X9_count
  rw [h.1, h.2.1, h.2.2.1]
  refine ⟨fun e => ?_, fun e => ?_, fun e => ?_, fun e => ?_, fun e => ?_, fun e => ?_, fun e => ?_, fun e => ?_⟩
  · subst e; exact hQ
  · subst e; exact hQ
  · subst e; exact hQ
  · subst e; exact pm_bench h hI hQ
  · subst e; exact pm_lives h hI hQ
  · subst e; exact pm_wrong h hI hQ
  · subst e; exact hQ
  · obtain ⟨e0, e1, e2, e3, e4, e5, e6⟩ := e
    simp only [countI, e0, e1, e2, e3, e4, e5, e6, if_false] at hQ
    exact hQ
def setD (B : AB) (d : Int32) : AB := (bM B, bS B, bY B, d, bL B, bK B, bP B)
def seedI (B : AB) (p1 : Int32) : Int32 := if 0 ≤ p1 then bD B else (-1)
def seedB (B : AB) (p1 : Int32) : AB := if 0 ≤ p1 then setD B p1 else B
theorem pc_seed {b : BT} {B : AB} (h : CR b B) {p1 : Int32} {Q : Int32 → BT → Prop} (hQ : ∀ b', CR b' (seedB B p1) → Q (seedI B p1) b') : wp_X0_seed b p1 Q := by
  unfold wp_X0_seed
  refine ⟨fun c => ?_, fun c => ?_⟩
  · simp only [seedI, seedB, if_pos c] at hQ
    rw [h.2.2.2.1]
    exact hQ _ ⟨h.1, h.2.1, h.2.2.1, rfl, h.2.2.2.2.1, h.2.2.2.2.2.1, h.2.2.2.2.2.2.1, h.2.2.2.2.2.2.2⟩
  · simp only [seedI, seedB, if_neg c] at hQ
    exact hQ b h
theorem pm_seed {s : Nat → Int32} {B : AB} (h : MR s B) {p1 : Int32} {Q : Int32 → (Nat → Int32) → Prop} (hQ : ∀ s', MR s' (seedB B p1) → (∀ i, 40 ≤ i → s' i = s i) → Q (seedI B p1) s') : wp_X9_seed s p1 Q := by
  unfold wp_X9_seed
  refine ⟨fun c v hv f hf => ?_, fun c => ?_⟩
  · simp only [seedI, seedB, if_pos c] at hQ
    rw [hv, h.2.2.2.1]
    have g : ∀ i, i ≠ 3 → f i = s i := fun i hi => by rw [hf, pk_un hi]
    exact hQ f ⟨(g 0 (by omega)).trans h.1, (g 1 (by omega)).trans h.2.1, (g 2 (by omega)).trans h.2.2.1, by rw [hf, pk_us]; rfl, fun k hk => (g _ (by omega)).trans (h.2.2.2.2.1 k hk), fun m hm => (g _ (by omega)).trans (h.2.2.2.2.2.1 m hm), fun m hm => (g _ (by omega)).trans (h.2.2.2.2.2.2.1 m hm), fun i hi => (g _ (by omega)).trans (h.2.2.2.2.2.2.2 i hi)⟩ (fun i hi => g i (by omega))
  · simp only [seedI, seedB, if_neg c] at hQ
    exact hQ s h (fun _ _ => rfl)
theorem Inv_seed {B : AB} (hI : Inv B) (p1 : Int32) : Inv (seedB B p1) ∧ bY (seedB B p1) = bY B ∧ bM (seedB B p1) = bM B := by
  unfold seedB
  split
  case isFalse => exact ⟨hI, rfl, rfl⟩
  case isTrue hc =>
    obtain ⟨h1, h2, h3, h4, h5, h6, h7, h8, h9⟩ := hI
    exact ⟨⟨h1, h2, h3, h4, h5, h6, h7, h8, fun h => (lt0_iff.mp h) hc⟩, rfl, rfl⟩
