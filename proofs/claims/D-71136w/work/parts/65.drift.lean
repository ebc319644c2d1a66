/-! pure: nurse, drift -/
set_option maxRecDepth 100000
def nurseOk (B : AB) (p1 p2 : Int32) : Bool := inR p1 0 ((bM B : Int) - 1) && inR p2 1 60
def nurseL (B : AB) (p1 p2 : Int32) : Nat := min 60 (bL B p1.toNatClampNeg + p2.toNatClampNeg)
def nurseI (B : AB) (p1 p2 : Int32) : Int32 := if nurseOk B p1 p2 = true then (if p1.toNatClampNeg ∈ bS B then nI (nurseL B p1 p2) else (-2)) else (-1)
def nurseS (B : AB) (Ps : List AB) (p1 p2 : Int32) : AB × List AB := if (nurseOk B p1 p2 && decide (p1.toNatClampNeg ∈ bS B)) = true then (setL B (updN (bL B) p1.toNatClampNeg (nurseL B p1 p2)), noteP Ps B) else (B, Ps)
theorem pc_nurse {b : BT} {B : AB} {Ps : List AB} {p : Nat → BT} (h : CR b B) (hI : InvP B Ps) (hp : PC p Ps) {p1 p2 : Int32} {Q : Int32 → Int32 × BT × (Nat → BT) → Prop} (hQ : ∀ b' p', CR b' (nurseS B Ps p1 p2).1 → PC p' (nurseS B Ps p1 p2).2 → Q (nurseI B p1 p2) (nI (nurseS B Ps p1 p2).2.length, b', p')) : wp_X0_nurse (nI Ps.length) b p p1 p2 Q := by
  have h6 := hI.1.1
  have hl := hI.1.len
  have bad : nurseOk B p1 p2 = false → Q (-1) (nI Ps.length, b, p) := by
    intro hb
    have e : (nurseOk B p1 p2 && decide (p1.toNatClampNeg ∈ bS B)) = false := by simp [hb]
    simp only [nurseI, nurseS, hb, e] at hQ
    exact hQ b p h hp
  unfold wp_X0_nurse
  refine pc_isMan h hI.1 ⟨fun c => bad ?_, fun c => pc_isIn (a := 1) (c := 60) rfl rfl ⟨fun c2 => ?_, fun c2 => bad ?_⟩⟩
  · rw [b2i_0] at c; simp [nurseOk, c]
  · rw [b2i_n0] at c c2
    have hok : nurseOk B p1 p2 = true := by simp [nurseOk, c, c2]
    obtain ⟨m, hm, rfl⟩ := inR_nI (by omega) c
    obtain ⟨n, hn1, hn2, rfl⟩ := inR_1 c2
    have hlm := hI.1.2.2.2.2.1 m hm
    refine ps_X6_seatOf h hI.1 (by omega) ?_
    by_cases hmem : m ∈ bS B
    · have hk := idx_lt hmem
      have hd : decide (m ∈ bS B) = true := decide_eq_true hmem
      simp only [nurseI, nurseS, nurseL, hd, hok, Bool.and_self, if_true, nI_clamp (show m < 2 ^ 31 by omega), nI_clamp (show n < 2 ^ 31 by omega), if_pos hmem] at hQ
      simp only [seatI, if_pos hmem]
      refine ⟨fun _ => pc_note h hI.1 hp (fun p' hp' => ⟨vp_in_nI (by omega) (by omega), fun v hv => ⟨vp_in_nI (by omega) (by omega), fun f hf => ⟨vp_in_nI (by omega) (by omega), ?_⟩⟩⟩), fun c => absurd (nI_pos' (by omega)) c⟩
      rw [nI_clamp (by omega)] at hv hf ⊢
      have hv : v = nI (min 60 (bL B m + n)) := by rw [hv, h.2.2.2.2.2.1 m hm, nI_add, il60, jmin_nI (by omega) (by omega)]
      have ef : f m = nI (min 60 (bL B m + n)) := by rw [hf, pk_us, hv]
      rw [ef]
      refine hQ _ p' (CR_setL h (fun j hj => ?_)) hp'
      rw [hf]
      by_cases ej : j = m
      · rw [ej, pk_us, updN_s, hv]
      · rw [pk_un ej, updN_n ej]; exact h.2.2.2.2.2.1 j hj
    · have hd : decide (m ∈ bS B) = false := decide_eq_false hmem
      simp only [nurseI, nurseS, hd, hok, Bool.and_false, Bool.false_eq_true, if_false, if_true, nI_clamp (show m < 2 ^ 31 by omega), if_neg hmem] at hQ
      simp only [seatI, if_neg hmem]
      exact ⟨fun c => absurd c neg4.2, fun _ => hQ b p h hp⟩
  · rw [b2i_0] at c2; simp [nurseOk, c2]
theorem MR_setL {s s' : Nat → Int32} {B : AB} (h : MR s B) (h6 : bM B ≤ 6) (hl : (bS B).length ≤ bM B) {g : Nat → Nat} (hs : ∀ i, i < 40 → (i < 4 ∨ 10 ≤ i) → s' i = s i) (hf : ∀ m, m < bM B → s' (4 + m) = nI (g m)) : MR s' (setL B g) :=
  ⟨(hs 0 (by omega) (by omega)).trans h.1, (hs 1 (by omega) (by omega)).trans h.2.1, (hs 2 (by omega) (by omega)).trans h.2.2.1, (hs 3 (by omega) (by omega)).trans h.2.2.2.1, fun k hk => (hs _ (by have : k < (bS B).length := hk; omega) (by omega)).trans (h.2.2.2.2.1 k hk), hf, fun m hm => (hs _ (by have : m < bM B := hm; omega) (by omega)).trans (h.2.2.2.2.2.2.1 m hm), fun i hi => (hs _ (by have : i < 3 * bM B := hi; omega) (by omega)).trans (h.2.2.2.2.2.2.2 i hi)⟩
theorem pm_nurse {s : Nat → Int32} {B : AB} {Ps : List AB} (h : MR s B) (hI : InvP B Ps) (hp : PM s Ps) {p1 p2 : Int32} {Q : Int32 → (Nat → Int32) → Prop} (hQ : ∀ s', MR s' (nurseS B Ps p1 p2).1 → PM s' (nurseS B Ps p1 p2).2 → Q (nurseI B p1 p2) s') : wp_X9_nurse s p1 p2 Q := by
  have h6 := hI.1.1
  have hl := hI.1.len
  have bad : nurseOk B p1 p2 = false → Q (-1) s := by
    intro hb
    have e : (nurseOk B p1 p2 && decide (p1.toNatClampNeg ∈ bS B)) = false := by simp [hb]
    simp only [nurseI, nurseS, hb, e] at hQ
    exact hQ s h hp
  unfold wp_X9_nurse
  refine pm_isMan h hI.1 ⟨fun c => bad ?_, fun c => pm_in ⟨fun c2 => ?_, fun c2 => bad ?_⟩⟩
  · rw [b2i_0] at c; simp [nurseOk, c]
  · rw [b2i_n0] at c c2
    have c2 : inR p2 1 60 = true := c2
    have hok : nurseOk B p1 p2 = true := by simp [nurseOk, c, c2]
    obtain ⟨m, hm, rfl⟩ := inR_nI (by omega) c
    obtain ⟨n, hn1, hn2, rfl⟩ := inR_1 c2
    have hlm := hI.1.2.2.2.2.1 m hm
    refine pm_seatOf h hI.1 (by omega) ?_
    by_cases hmem : m ∈ bS B
    · have hk := idx_lt hmem
      have hd : decide (m ∈ bS B) = true := decide_eq_true hmem
      simp only [nurseI, nurseS, nurseL, hd, hok, Bool.and_self, if_true, nI_clamp (show m < 2 ^ 31 by omega), nI_clamp (show n < 2 ^ 31 by omega), if_pos hmem] at hQ
      simp only [seatI, if_pos hmem]
      refine ⟨fun _ => pm_keeps h hI.1 hp hI.sz (fun s2 g1 g2 => ?_), fun c => absurd c (nI_ne4 (by omega))⟩
      have h2 := MRx h h6 hl g1
      have fin : ∀ f : Nat → Int32, f = upd s2 (4 + m) (nI (min 60 (bL B m + n))) → Q (f (4 + m)) f := by
        intro f hf
        have ef : f (4 + m) = nI (min 60 (bL B m + n)) := by rw [hf, pk_us]
        rw [ef]
        refine hQ f (MR_setL h2 h6 hl (fun i _ hi => by rw [hf, pk_un (by omega)]) (fun j hj => ?_)) (PM_keep (B := B) g2 (noteP_sz hI) (fun i hi => by rw [hf, pk_un (by omega)]))
        rw [hf]
        by_cases ej : j = m
        · rw [ej, pk_us, updN_s]
        · rw [pk_un (by omega), updN_n ej]; exact h2.2.2.2.2.2.1 j hj
      rw [il4, nI_add, nI_clamp (by omega)]
      refine ⟨vp_in_nI (by omega) (by omega), fun v hv => ?_⟩
      rw [h2.2.2.2.2.2.1 m hm, nI_add] at hv
      subst hv
      refine ⟨fun c3 => ⟨vp_in_nI (by omega) (by omega), fun f hf => ⟨vp_in_nI (by omega) (by omega), fin f ?_⟩⟩, fun c3 => ⟨vp_in_nI (by omega) (by omega), fun f hf => ⟨vp_in_nI (by omega) (by omega), fin f ?_⟩⟩⟩
      · simp (disch := omega) only [il0, il1, il2, il3, il4, il5, il6, il7, il8, il9, il10, il15, il16, il22, il24, il30, il31, il40, il41, il60, il70, il146, il161, il9999, pk_mul, nI_add, pk_sub, nI_clamp, nI_leI, nI_ltI, nI_eq] at c3
        rw [hf, Nat.min_eq_right c3]
      · simp (disch := omega) only [il0, il1, il2, il3, il4, il5, il6, il7, il8, il9, il10, il15, il16, il22, il24, il30, il31, il40, il41, il60, il70, il146, il161, il9999, pk_mul, nI_add, pk_sub, nI_clamp, nI_leI, nI_ltI, nI_eq] at c3
        rw [hf, Nat.min_eq_left (by omega)]; rfl
    · have hd : decide (m ∈ bS B) = false := decide_eq_false hmem
      simp only [nurseI, nurseS, hd, hok, Bool.and_false, Bool.false_eq_true, if_false, if_true, nI_clamp (show m < 2 ^ 31 by omega), if_neg hmem] at hQ
      simp only [seatI, if_neg hmem]
      exact ⟨fun c => absurd trivial c, fun _ => hQ s h hp⟩
  · rw [b2i_0] at c2; have c2 : inR p2 1 60 = false := c2; simp [nurseOk, c2]
theorem Inv_nurse {B : AB} {Ps : List AB} (hI : InvP B Ps) (p1 p2 : Int32) : InvP (nurseS B Ps p1 p2).1 (nurseS B Ps p1 p2).2 := by
  unfold nurseS
  split
  case isFalse => exact hI
  case isTrue c =>
    simp only [Bool.and_eq_true, nurseOk, decide_eq_true_eq] at c
    obtain ⟨n, hn1, hn2, rfl⟩ := inR_1 c.1.2
    refine InvP_note hI ?_ rfl hI.2.1
    obtain ⟨h1, h2, h3, h4, h5, h6, h7, h8, h9⟩ := hI.1
    refine ⟨h1, h2, h3, fun x hx => ?_, fun m hm => ?_, h6, h7, h8, h9⟩
    · show 0 < updN (bL B) p1.toNatClampNeg (nurseL B p1 (nI n)) x
      have := h4 x hx
      unfold updN nurseL
      rw [nI_clamp (by omega)]
      split <;> omega
    · show updN (bL B) p1.toNatClampNeg (nurseL B p1 (nI n)) m ≤ 60
      have := h5 m hm
      unfold updN nurseL
      split <;> omega
