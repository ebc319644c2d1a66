/-! pure: the component's copy -/
set_option maxRecDepth 100000
theorem cp_iff {l n1 n2 : Nat} {f1 f2 : Nat → Int64} (h1 : n1 ≤ 24) (h2 : n2 ≤ 24) (hl : l ≤ 3) {i j n : Int32} : cpOk i j n n1 n2 ↔ (barI (some (l, n1, f1)) (nI l) i n = 0 ∧ barI (some (l, n2, f2)) (nI l) j n = 0) := by
  constructor
  · rintro ⟨a1, a2, a3, a4, a5⟩
    obtain ⟨i', hi, rfl⟩ := nI_of a1
    obtain ⟨j', hj, rfl⟩ := nI_of a2
    obtain ⟨n', hn, rfl⟩ := nI_of a3
    rw [nI_clamp hi, nI_clamp hn] at a4
    rw [nI_clamp hj, nI_clamp hn] at a5
    exact ⟨barI_ok a4 h1, barI_ok a5 h2⟩
  · rintro ⟨a, b⟩
    have bz : ∀ (m : Nat) (f : Nat → Int64) (x : Int32), m ≤ 24 → barI (some (l, m, f)) (nI l) x n = 0 → ∃ x' n', x = nI x' ∧ n = nI n' ∧ x' + n' ≤ m := by
      intro m f x hm h
      have h : (if nI l = nI l then (if 0 ≤ x ∧ 0 ≤ n ∧ n ≤ nI m ∧ x ≤ nI m - n then (0 : Int32) else -13) else -12) = 0 := h
      rw [if_pos rfl] at h
      split at h
      case isFalse => exact absurd h (by decide)
      case isTrue hb =>
        obtain ⟨x', hx, rfl⟩ := nI_of (Int32.not_lt.mpr hb.1)
        obtain ⟨n', hn, rfl⟩ := nI_of (Int32.not_lt.mpr hb.2.1)
        have g1 := (nI_leI hn (by omega)).mp hb.2.2.1
        have g2 := hb.2.2.2
        rw [pk_sub g1, nI_leI hx (by omega)] at g2
        exact ⟨x', n', rfl, rfl, by omega⟩
    obtain ⟨i', n', rfl, rfl, g1⟩ := bz n1 f1 i h1 a
    obtain ⟨j', n'', rfl, g3, g4⟩ := bz n2 f2 j h2 b
    have hn : n' = n'' := (nI_eq (by omega) (by omega)).mp g3
    subst hn
    refine ⟨nI_pos (by omega), nI_pos (by omega), nI_pos (by omega), ?_, ?_⟩
    · rw [nI_clamp (by omega), nI_clamp (by omega)]; exact g1
    · rw [nI_clamp (by omega), nI_clamp (by omega)]; exact g4
theorem cp_13 {l n1 n2 : Nat} {f1 f2 : Nat → Int64} {i j n : Int32} (h : ¬ (barI (some (l, n1, f1)) (nI l) i n = 0 ∧ barI (some (l, n2, f2)) (nI l) j n = 0)) : cpI (some (l, n1, f1)) (some (l, n2, f2)) l i j n = -13 := by
  have bz : ∀ (m : Nat) (f : Nat → Int64) (x : Int32), ¬ barI (some (l, m, f)) (nI l) x n = 0 → barI (some (l, m, f)) (nI l) x n = -13 := by
    intro m f x h
    have e : barI (some (l, m, f)) (nI l) x n = (if nI l = nI l then (if 0 ≤ x ∧ 0 ≤ n ∧ n ≤ nI m ∧ x ≤ nI m - n then (0 : Int32) else -13) else -12) := rfl
    rw [e, if_pos rfl] at h ⊢
    split at h
    case isTrue => exact absurd rfl h
    case isFalse hb => rw [if_neg hb]
  unfold cpI
  by_cases a : barI (some (l, n1, f1)) (nI l) i n = 0
  · rw [if_pos a]
    by_cases b : barI (some (l, n2, f2)) (nI l) j n = 0
    · exact absurd ⟨a, b⟩ h
    · rw [if_neg b]; exact bz _ _ _ b
  · rw [if_neg a]; exact bz _ _ _ a
/-- what a copy leaves -/
def cpF (f1 f2 : Nat → Int64) (i j n q : Nat) : Int64 := if j ≤ q ∧ q < j + n then f1 (i + (q - j)) else f2 q
theorem fit_b {v : Int32} {f : Int64} (h : Int32.toInt64 v = f) (hr : -128 ≤ f.toInt ∧ f.toInt ≤ 127) : fits .byte (.int v) = true := by
  have e : f.toInt = v.toInt := by rw [← h]; exact Int32.toInt_toInt64 v
  rw [e] at hr
  simp only [fits, Bool.and_eq_true, decide_eq_true_eq, Int32.le_iff_toInt_le]
  exact ⟨hr.1, hr.2⟩
theorem fit_s {v : Int32} {f : Int64} (h : Int32.toInt64 v = f) (hr : -32768 ≤ f.toInt ∧ f.toInt ≤ 32767) : fits .short (.int v) = true := by
  have e : f.toInt = v.toInt := by rw [← h]; exact Int32.toInt_toInt64 v
  rw [e] at hr
  simp only [fits, Bool.and_eq_true, decide_eq_true_eq, Int32.le_iff_toInt_le]
  exact ⟨hr.1, hr.2⟩
theorem pc_copyBad_BB {rn : Nat} {rw : Nat → Int32} {rn2 : Nat} {rw2 : Nat → Int32} {p q i j n : Int32} (hp : (inR p 0 3 && inR q 0 3) = false) {Q : Int32 → (Nat → Int32) → Prop} (hQ : Q (-1) rw2) : wp_X0_copy_BB rn rw rn2 rw2 p i q j n Q := by
  unfold wp_X0_copy_BB
  have z : inR 0 0 3 = true := by decide
  refine pc_isSheet ⟨fun _ => hQ, fun c => pc_isSheet ⟨fun c2 => ?_, fun _ => hQ⟩⟩
  rw [b2i_n0, z, Bool.and_true] at c c2
  rw [c, c2] at hp
  exact absurd hp (by decide)
theorem pc_copy_BB {n1 n2 : Nat} {rw : Nat → Int32} {rw2 : Nat → Int32} {f1 f2 : Nat → Int64} (hr1 : ∀ q, q < n1 → Int32.toInt64 (rw q) = f1 q) (hn1 : n1 ≤ 24) (hr2 : ∀ q, q < n2 → Int32.toInt64 (rw2 q) = f2 q) (hn2 : n2 ≤ 24) (hg : ∀ q, q < n1 → -128 ≤ (f1 q).toInt ∧ (f1 q).toInt ≤ 127) {k1 k2 : Nat} (hk1 : k1 < 4) (hk2 : k2 < 4) {i j n : Int32} {Q : Int32 → (Nat → Int32) → Prop}
    (hbad : ¬ (barI (some (0, n1, f1)) (nI 0) i n = 0 ∧ barI (some (0, n2, f2)) (nI 0) j n = 0) → Q (cpI (some (0, n1, f1)) (some (0, n2, f2)) 0 i j n) rw2)
    (hok : ∀ (i' j' n' : Nat) (g : Nat → Int32), i = nI i' → j = nI j' → n = nI n' → i' + n' ≤ n1 → j' + n' ≤ n2 → (∀ q, q < n2 → Int32.toInt64 (g q) = cpF f1 f2 i' j' n' q) → Q (nI n') g) : wp_X0_copy_BB n1 rw n2 rw2 (nI k1) i (nI k2) j n Q := by
  unfold wp_X0_copy_BB
  have z : inR 0 0 3 = true := by decide
  have y1 : inR (nI k1) 0 3 = true := inR_t.mpr (by rw [nI_toInt (by omega)]; omega)
  have y2 : inR (nI k2) 0 3 = true := inR_t.mpr (by rw [nI_toInt (by omega)]; omega)
  refine pc_isSheet ?_
  rw [y1, z]
  refine ⟨fun c => absurd c (by decide), fun _ => pc_isSheet ?_⟩
  rw [y2, z]
  refine ⟨fun _ => ⟨vp_in_nI hk1 (by omega), vp_in_nI hk2 (by omega), ?_⟩, fun c => absurd c (by decide)⟩
  refine ⟨fun ok => ?_, fun no => ⟨by omega, by omega, ?_⟩⟩
  · obtain ⟨a1, a2, a3, a4, a5⟩ := ok
    obtain ⟨i', hi, rfl⟩ := nI_of a1
    obtain ⟨j', hj, rfl⟩ := nI_of a2
    obtain ⟨n', hn, rfl⟩ := nI_of a3
    rw [nI_clamp hi, nI_clamp hn] at a4
    rw [nI_clamp hj, nI_clamp hn] at a5
    rw [nI_clamp hi, nI_clamp hj, nI_clamp hn]
    refine ⟨fun q hq => fit_b (hr1 _ (by omega)) (hg _ (by omega)), fun g hgg => ?_⟩
    refine hok i' j' n' g rfl rfl rfl a4 a5 (fun q hq => ?_)
    rw [hgg]
    unfold va_cpy cpF
    by_cases c : j' ≤ q ∧ q < j' + n'
    · rw [if_pos c, if_pos c]; exact hr1 _ (by omega)
    · rw [if_neg c, if_neg c]; exact hr2 q hq
  · have h13 := mt (cp_iff (l := 0) (f1 := f1) (f2 := f2) hn1 hn2 (by omega)).mpr no
    have := hbad h13
    rw [cp_13 h13] at this
    exact this
theorem pc_copyBad_BS {rn : Nat} {rw : Nat → Int32} {rn2 : Nat} {rw2 : Nat → Int32} {p q i j n : Int32} (hp : (inR p 0 3 && inR q 0 3) = false) {Q : Int32 → Prop} (hQ : Q (-1)) : wp_X0_copy_BS rn rw rn2 rw2 p i q j n Q := by
  unfold wp_X0_copy_BS
  have z : inR 0 0 3 = true := by decide
  refine pc_isSheet ⟨fun _ => hQ, fun c => pc_isSheet ⟨fun c2 => ?_, fun _ => hQ⟩⟩
  rw [b2i_n0, z, Bool.and_true] at c c2
  rw [c, c2] at hp
  exact absurd hp (by decide)
theorem pc_copy_BS {rn : Nat} {rw : Nat → Int32} {rn2 : Nat} {rw2 : Nat → Int32} {k1 k2 : Nat} (hk1 : k1 < 4) (hk2 : k2 < 4) {i j n : Int32} {Q : Int32 → Prop} (hQ : Q (-12)) : wp_X0_copy_BS rn rw rn2 rw2 (nI k1) i (nI k2) j n Q := by
  unfold wp_X0_copy_BS
  have z : inR 0 0 3 = true := by decide
  have y1 : inR (nI k1) 0 3 = true := inR_t.mpr (by rw [nI_toInt (by omega)]; omega)
  have y2 : inR (nI k2) 0 3 = true := inR_t.mpr (by rw [nI_toInt (by omega)]; omega)
  refine pc_isSheet ?_
  rw [y1, z]
  refine ⟨fun c => absurd c (by decide), fun _ => pc_isSheet ?_⟩
  rw [y2, z]
  refine ⟨fun _ => ⟨vp_in_nI hk1 (by omega), vp_in_nI hk2 (by omega), ?_⟩, fun c => absurd c (by decide)⟩
  exact hQ
theorem pc_copyBad_BI {rn : Nat} {rw : Nat → Int32} {rn2 : Nat} {rw2 : Nat → Int32} {p q i j n : Int32} (hp : (inR p 0 3 && inR q 0 3) = false) {Q : Int32 → Prop} (hQ : Q (-1)) : wp_X0_copy_BI rn rw rn2 rw2 p i q j n Q := by
  unfold wp_X0_copy_BI
  have z : inR 0 0 3 = true := by decide
  refine pc_isSheet ⟨fun _ => hQ, fun c => pc_isSheet ⟨fun c2 => ?_, fun _ => hQ⟩⟩
  rw [b2i_n0, z, Bool.and_true] at c c2
  rw [c, c2] at hp
  exact absurd hp (by decide)
theorem pc_copy_BI {rn : Nat} {rw : Nat → Int32} {rn2 : Nat} {rw2 : Nat → Int32} {k1 k2 : Nat} (hk1 : k1 < 4) (hk2 : k2 < 4) {i j n : Int32} {Q : Int32 → Prop} (hQ : Q (-12)) : wp_X0_copy_BI rn rw rn2 rw2 (nI k1) i (nI k2) j n Q := by
  unfold wp_X0_copy_BI
  have z : inR 0 0 3 = true := by decide
  have y1 : inR (nI k1) 0 3 = true := inR_t.mpr (by rw [nI_toInt (by omega)]; omega)
  have y2 : inR (nI k2) 0 3 = true := inR_t.mpr (by rw [nI_toInt (by omega)]; omega)
  refine pc_isSheet ?_
  rw [y1, z]
  refine ⟨fun c => absurd c (by decide), fun _ => pc_isSheet ?_⟩
  rw [y2, z]
  refine ⟨fun _ => ⟨vp_in_nI hk1 (by omega), vp_in_nI hk2 (by omega), ?_⟩, fun c => absurd c (by decide)⟩
  exact hQ
theorem pc_copyBad_BJ {rn : Nat} {rw : Nat → Int32} {rn2 : Nat} {rw2 : Nat → Int64} {p q i j n : Int32} (hp : (inR p 0 3 && inR q 0 3) = false) {Q : Int32 → Prop} (hQ : Q (-1)) : wp_X0_copy_BJ rn rw rn2 rw2 p i q j n Q := by
  unfold wp_X0_copy_BJ
  have z : inR 0 0 3 = true := by decide
  refine pc_isSheet ⟨fun _ => hQ, fun c => pc_isSheet ⟨fun c2 => ?_, fun _ => hQ⟩⟩
  rw [b2i_n0, z, Bool.and_true] at c c2
  rw [c, c2] at hp
  exact absurd hp (by decide)
theorem pc_copy_BJ {rn : Nat} {rw : Nat → Int32} {rn2 : Nat} {rw2 : Nat → Int64} {k1 k2 : Nat} (hk1 : k1 < 4) (hk2 : k2 < 4) {i j n : Int32} {Q : Int32 → Prop} (hQ : Q (-12)) : wp_X0_copy_BJ rn rw rn2 rw2 (nI k1) i (nI k2) j n Q := by
  unfold wp_X0_copy_BJ
  have z : inR 0 0 3 = true := by decide
  have y1 : inR (nI k1) 0 3 = true := inR_t.mpr (by rw [nI_toInt (by omega)]; omega)
  have y2 : inR (nI k2) 0 3 = true := inR_t.mpr (by rw [nI_toInt (by omega)]; omega)
  refine pc_isSheet ?_
  rw [y1, z]
  refine ⟨fun c => absurd c (by decide), fun _ => pc_isSheet ?_⟩
  rw [y2, z]
  refine ⟨fun _ => ⟨vp_in_nI hk1 (by omega), vp_in_nI hk2 (by omega), ?_⟩, fun c => absurd c (by decide)⟩
  exact hQ
theorem pc_copyBad_BN {rn : Nat} {rw : Nat → Int32} {p q i j n : Int32} (hp : (inR p 0 3 && inR q 0 3) = false) {Q : Int32 → Prop} (hQ : Q (-1)) : wp_X0_copy_BN rn rw p i q j n Q := by
  unfold wp_X0_copy_BN
  have z : inR 0 0 3 = true := by decide
  refine pc_isSheet ⟨fun _ => hQ, fun c => pc_isSheet ⟨fun c2 => ?_, fun _ => hQ⟩⟩
  rw [b2i_n0, z, Bool.and_true] at c c2
  rw [c, c2] at hp
  exact absurd hp (by decide)
theorem pc_copy_BN {rn : Nat} {rw : Nat → Int32} {k1 k2 : Nat} (hk1 : k1 < 4) (hk2 : k2 < 4) {i j n : Int32} {Q : Int32 → Prop} (hQ : Q (-11)) : wp_X0_copy_BN rn rw (nI k1) i (nI k2) j n Q := by
  unfold wp_X0_copy_BN
  have z : inR 0 0 3 = true := by decide
  have y1 : inR (nI k1) 0 3 = true := inR_t.mpr (by rw [nI_toInt (by omega)]; omega)
  have y2 : inR (nI k2) 0 3 = true := inR_t.mpr (by rw [nI_toInt (by omega)]; omega)
  refine pc_isSheet ?_
  rw [y1, z]
  refine ⟨fun c => absurd c (by decide), fun _ => pc_isSheet ?_⟩
  rw [y2, z]
  refine ⟨fun _ => ⟨vp_in_nI hk1 (by omega), vp_in_nI hk2 (by omega), ?_⟩, fun c => absurd c (by decide)⟩
  exact hQ
theorem pc_copyBad_Be {rn : Nat} {rw : Nat → Int32} {p q i j n : Int32} (hp : (inR p 0 3 && inR q 0 3) = false) {Q : Int32 → (Nat → Int32) → Prop} (hQ : Q (-1) rw) : wp_X0_copy_Be rn rw p i q j n Q := by
  unfold wp_X0_copy_Be
  have z : inR 0 0 3 = true := by decide
  refine pc_isSheet ⟨fun _ => hQ, fun c => pc_isSheet ⟨fun c2 => ?_, fun _ => hQ⟩⟩
  rw [b2i_n0, z, Bool.and_true] at c c2
  rw [c, c2] at hp
  exact absurd hp (by decide)
theorem pc_copy_Be {n1 : Nat} {rw : Nat → Int32} {f1 : Nat → Int64} (hr1 : ∀ q, q < n1 → Int32.toInt64 (rw q) = f1 q) (hn1 : n1 ≤ 24) (hg : ∀ q, q < n1 → -128 ≤ (f1 q).toInt ∧ (f1 q).toInt ≤ 127) {k1 k2 : Nat} (hk1 : k1 < 4) (hk2 : k2 < 4) {i j n : Int32} {Q : Int32 → (Nat → Int32) → Prop}
    (hbad : ¬ (barI (some (0, n1, f1)) (nI 0) i n = 0 ∧ barI (some (0, n1, f1)) (nI 0) j n = 0) → Q (cpI (some (0, n1, f1)) (some (0, n1, f1)) 0 i j n) rw)
    (hok : ∀ (i' j' n' : Nat) (g : Nat → Int32), i = nI i' → j = nI j' → n = nI n' → i' + n' ≤ n1 → j' + n' ≤ n1 → (∀ q, q < n1 → Int32.toInt64 (g q) = cpF f1 f1 i' j' n' q) → Q (nI n') g) : wp_X0_copy_Be n1 rw (nI k1) i (nI k2) j n Q := by
  unfold wp_X0_copy_Be
  have z : inR 0 0 3 = true := by decide
  have y1 : inR (nI k1) 0 3 = true := inR_t.mpr (by rw [nI_toInt (by omega)]; omega)
  have y2 : inR (nI k2) 0 3 = true := inR_t.mpr (by rw [nI_toInt (by omega)]; omega)
  refine pc_isSheet ?_
  rw [y1, z]
  refine ⟨fun c => absurd c (by decide), fun _ => pc_isSheet ?_⟩
  rw [y2, z]
  refine ⟨fun _ => ⟨vp_in_nI hk1 (by omega), vp_in_nI hk2 (by omega), ?_⟩, fun c => absurd c (by decide)⟩
  refine ⟨fun ok => ?_, fun no => ⟨by omega, by omega, ?_⟩⟩
  · obtain ⟨a1, a2, a3, a4, a5⟩ := ok
    obtain ⟨i', hi, rfl⟩ := nI_of a1
    obtain ⟨j', hj, rfl⟩ := nI_of a2
    obtain ⟨n', hn, rfl⟩ := nI_of a3
    rw [nI_clamp hi, nI_clamp hn] at a4
    rw [nI_clamp hj, nI_clamp hn] at a5
    rw [nI_clamp hi, nI_clamp hj, nI_clamp hn]
    refine ⟨fun q hq => fit_b (hr1 _ (by omega)) (hg _ (by omega)), fun g hgg => ?_⟩
    refine hok i' j' n' g rfl rfl rfl a4 a5 (fun q hq => ?_)
    rw [hgg]
    unfold va_cpy cpF
    by_cases c : j' ≤ q ∧ q < j' + n'
    · rw [if_pos c, if_pos c]; exact hr1 _ (by omega)
    · rw [if_neg c, if_neg c]; exact hr1 q hq
  · have h13 := mt (cp_iff (l := 0) (f1 := f1) (f2 := f1) hn1 hn1 (by omega)).mpr no
    have := hbad h13
    rw [cp_13 h13] at this
    exact this
theorem pc_copyBad_SB {rn : Nat} {rw : Nat → Int32} {rn2 : Nat} {rw2 : Nat → Int32} {p q i j n : Int32} (hp : (inR p 0 3 && inR q 0 3) = false) {Q : Int32 → Prop} (hQ : Q (-1)) : wp_X0_copy_SB rn rw rn2 rw2 p i q j n Q := by
  unfold wp_X0_copy_SB
  have z : inR 0 0 3 = true := by decide
  refine pc_isSheet ⟨fun _ => hQ, fun c => pc_isSheet ⟨fun c2 => ?_, fun _ => hQ⟩⟩
  rw [b2i_n0, z, Bool.and_true] at c c2
  rw [c, c2] at hp
  exact absurd hp (by decide)
theorem pc_copy_SB {rn : Nat} {rw : Nat → Int32} {rn2 : Nat} {rw2 : Nat → Int32} {k1 k2 : Nat} (hk1 : k1 < 4) (hk2 : k2 < 4) {i j n : Int32} {Q : Int32 → Prop} (hQ : Q (-12)) : wp_X0_copy_SB rn rw rn2 rw2 (nI k1) i (nI k2) j n Q := by
  unfold wp_X0_copy_SB
  have z : inR 0 0 3 = true := by decide
  have y1 : inR (nI k1) 0 3 = true := inR_t.mpr (by rw [nI_toInt (by omega)]; omega)
  have y2 : inR (nI k2) 0 3 = true := inR_t.mpr (by rw [nI_toInt (by omega)]; omega)
  refine pc_isSheet ?_
  rw [y1, z]
  refine ⟨fun c => absurd c (by decide), fun _ => pc_isSheet ?_⟩
  rw [y2, z]
  refine ⟨fun _ => ⟨vp_in_nI hk1 (by omega), vp_in_nI hk2 (by omega), ?_⟩, fun c => absurd c (by decide)⟩
  exact hQ
theorem pc_copyBad_SS {rn : Nat} {rw : Nat → Int32} {rn2 : Nat} {rw2 : Nat → Int32} {p q i j n : Int32} (hp : (inR p 0 3 && inR q 0 3) = false) {Q : Int32 → (Nat → Int32) → Prop} (hQ : Q (-1) rw2) : wp_X0_copy_SS rn rw rn2 rw2 p i q j n Q := by
  unfold wp_X0_copy_SS
  have z : inR 0 0 3 = true := by decide
  refine pc_isSheet ⟨fun _ => hQ, fun c => pc_isSheet ⟨fun c2 => ?_, fun _ => hQ⟩⟩
  rw [b2i_n0, z, Bool.and_true] at c c2
  rw [c, c2] at hp
  exact absurd hp (by decide)
theorem pc_copy_SS {n1 n2 : Nat} {rw : Nat → Int32} {rw2 : Nat → Int32} {f1 f2 : Nat → Int64} (hr1 : ∀ q, q < n1 → Int32.toInt64 (rw q) = f1 q) (hn1 : n1 ≤ 24) (hr2 : ∀ q, q < n2 → Int32.toInt64 (rw2 q) = f2 q) (hn2 : n2 ≤ 24) (hg : ∀ q, q < n1 → -32768 ≤ (f1 q).toInt ∧ (f1 q).toInt ≤ 32767) {k1 k2 : Nat} (hk1 : k1 < 4) (hk2 : k2 < 4) {i j n : Int32} {Q : Int32 → (Nat → Int32) → Prop}
    (hbad : ¬ (barI (some (1, n1, f1)) (nI 1) i n = 0 ∧ barI (some (1, n2, f2)) (nI 1) j n = 0) → Q (cpI (some (1, n1, f1)) (some (1, n2, f2)) 1 i j n) rw2)
    (hok : ∀ (i' j' n' : Nat) (g : Nat → Int32), i = nI i' → j = nI j' → n = nI n' → i' + n' ≤ n1 → j' + n' ≤ n2 → (∀ q, q < n2 → Int32.toInt64 (g q) = cpF f1 f2 i' j' n' q) → Q (nI n') g) : wp_X0_copy_SS n1 rw n2 rw2 (nI k1) i (nI k2) j n Q := by
  unfold wp_X0_copy_SS
  have z : inR 0 0 3 = true := by decide
  have y1 : inR (nI k1) 0 3 = true := inR_t.mpr (by rw [nI_toInt (by omega)]; omega)
  have y2 : inR (nI k2) 0 3 = true := inR_t.mpr (by rw [nI_toInt (by omega)]; omega)
  refine pc_isSheet ?_
  rw [y1, z]
  refine ⟨fun c => absurd c (by decide), fun _ => pc_isSheet ?_⟩
  rw [y2, z]
  refine ⟨fun _ => ⟨vp_in_nI hk1 (by omega), vp_in_nI hk2 (by omega), ?_⟩, fun c => absurd c (by decide)⟩
  refine ⟨fun ok => ?_, fun no => ⟨by omega, by omega, ?_⟩⟩
  · obtain ⟨a1, a2, a3, a4, a5⟩ := ok
    obtain ⟨i', hi, rfl⟩ := nI_of a1
    obtain ⟨j', hj, rfl⟩ := nI_of a2
    obtain ⟨n', hn, rfl⟩ := nI_of a3
    rw [nI_clamp hi, nI_clamp hn] at a4
    rw [nI_clamp hj, nI_clamp hn] at a5
    rw [nI_clamp hi, nI_clamp hj, nI_clamp hn]
    refine ⟨fun q hq => fit_s (hr1 _ (by omega)) (hg _ (by omega)), fun g hgg => ?_⟩
    refine hok i' j' n' g rfl rfl rfl a4 a5 (fun q hq => ?_)
    rw [hgg]
    unfold va_cpy cpF
    by_cases c : j' ≤ q ∧ q < j' + n'
    · rw [if_pos c, if_pos c]; exact hr1 _ (by omega)
    · rw [if_neg c, if_neg c]; exact hr2 q hq
  · have h13 := mt (cp_iff (l := 1) (f1 := f1) (f2 := f2) hn1 hn2 (by omega)).mpr no
    have := hbad h13
    rw [cp_13 h13] at this
    exact this
theorem pc_copyBad_SI {rn : Nat} {rw : Nat → Int32} {rn2 : Nat} {rw2 : Nat → Int32} {p q i j n : Int32} (hp : (inR p 0 3 && inR q 0 3) = false) {Q : Int32 → Prop} (hQ : Q (-1)) : wp_X0_copy_SI rn rw rn2 rw2 p i q j n Q := by
  unfold wp_X0_copy_SI
  have z : inR 0 0 3 = true := by decide
  refine pc_isSheet ⟨fun _ => hQ, fun c => pc_isSheet ⟨fun c2 => ?_, fun _ => hQ⟩⟩
  rw [b2i_n0, z, Bool.and_true] at c c2
  rw [c, c2] at hp
  exact absurd hp (by decide)
theorem pc_copy_SI {rn : Nat} {rw : Nat → Int32} {rn2 : Nat} {rw2 : Nat → Int32} {k1 k2 : Nat} (hk1 : k1 < 4) (hk2 : k2 < 4) {i j n : Int32} {Q : Int32 → Prop} (hQ : Q (-12)) : wp_X0_copy_SI rn rw rn2 rw2 (nI k1) i (nI k2) j n Q := by
  unfold wp_X0_copy_SI
  have z : inR 0 0 3 = true := by decide
  have y1 : inR (nI k1) 0 3 = true := inR_t.mpr (by rw [nI_toInt (by omega)]; omega)
  have y2 : inR (nI k2) 0 3 = true := inR_t.mpr (by rw [nI_toInt (by omega)]; omega)
  refine pc_isSheet ?_
  rw [y1, z]
  refine ⟨fun c => absurd c (by decide), fun _ => pc_isSheet ?_⟩
  rw [y2, z]
  refine ⟨fun _ => ⟨vp_in_nI hk1 (by omega), vp_in_nI hk2 (by omega), ?_⟩, fun c => absurd c (by decide)⟩
  exact hQ
theorem pc_copyBad_SJ {rn : Nat} {rw : Nat → Int32} {rn2 : Nat} {rw2 : Nat → Int64} {p q i j n : Int32} (hp : (inR p 0 3 && inR q 0 3) = false) {Q : Int32 → Prop} (hQ : Q (-1)) : wp_X0_copy_SJ rn rw rn2 rw2 p i q j n Q := by
  unfold wp_X0_copy_SJ
  have z : inR 0 0 3 = true := by decide
  refine pc_isSheet ⟨fun _ => hQ, fun c => pc_isSheet ⟨fun c2 => ?_, fun _ => hQ⟩⟩
  rw [b2i_n0, z, Bool.and_true] at c c2
  rw [c, c2] at hp
  exact absurd hp (by decide)
theorem pc_copy_SJ {rn : Nat} {rw : Nat → Int32} {rn2 : Nat} {rw2 : Nat → Int64} {k1 k2 : Nat} (hk1 : k1 < 4) (hk2 : k2 < 4) {i j n : Int32} {Q : Int32 → Prop} (hQ : Q (-12)) : wp_X0_copy_SJ rn rw rn2 rw2 (nI k1) i (nI k2) j n Q := by
  unfold wp_X0_copy_SJ
  have z : inR 0 0 3 = true := by decide
  have y1 : inR (nI k1) 0 3 = true := inR_t.mpr (by rw [nI_toInt (by omega)]; omega)
  have y2 : inR (nI k2) 0 3 = true := inR_t.mpr (by rw [nI_toInt (by omega)]; omega)
  refine pc_isSheet ?_
  rw [y1, z]
  refine ⟨fun c => absurd c (by decide), fun _ => pc_isSheet ?_⟩
  rw [y2, z]
  refine ⟨fun _ => ⟨vp_in_nI hk1 (by omega), vp_in_nI hk2 (by omega), ?_⟩, fun c => absurd c (by decide)⟩
  exact hQ
theorem pc_copyBad_SN {rn : Nat} {rw : Nat → Int32} {p q i j n : Int32} (hp : (inR p 0 3 && inR q 0 3) = false) {Q : Int32 → Prop} (hQ : Q (-1)) : wp_X0_copy_SN rn rw p i q j n Q := by
  unfold wp_X0_copy_SN
  have z : inR 0 0 3 = true := by decide
  refine pc_isSheet ⟨fun _ => hQ, fun c => pc_isSheet ⟨fun c2 => ?_, fun _ => hQ⟩⟩
  rw [b2i_n0, z, Bool.and_true] at c c2
  rw [c, c2] at hp
  exact absurd hp (by decide)
theorem pc_copy_SN {rn : Nat} {rw : Nat → Int32} {k1 k2 : Nat} (hk1 : k1 < 4) (hk2 : k2 < 4) {i j n : Int32} {Q : Int32 → Prop} (hQ : Q (-11)) : wp_X0_copy_SN rn rw (nI k1) i (nI k2) j n Q := by
  unfold wp_X0_copy_SN
  have z : inR 0 0 3 = true := by decide
  have y1 : inR (nI k1) 0 3 = true := inR_t.mpr (by rw [nI_toInt (by omega)]; omega)
  have y2 : inR (nI k2) 0 3 = true := inR_t.mpr (by rw [nI_toInt (by omega)]; omega)
  refine pc_isSheet ?_
  rw [y1, z]
  refine ⟨fun c => absurd c (by decide), fun _ => pc_isSheet ?_⟩
  rw [y2, z]
  refine ⟨fun _ => ⟨vp_in_nI hk1 (by omega), vp_in_nI hk2 (by omega), ?_⟩, fun c => absurd c (by decide)⟩
  exact hQ
theorem pc_copyBad_Se {rn : Nat} {rw : Nat → Int32} {p q i j n : Int32} (hp : (inR p 0 3 && inR q 0 3) = false) {Q : Int32 → (Nat → Int32) → Prop} (hQ : Q (-1) rw) : wp_X0_copy_Se rn rw p i q j n Q := by
  unfold wp_X0_copy_Se
  have z : inR 0 0 3 = true := by decide
  refine pc_isSheet ⟨fun _ => hQ, fun c => pc_isSheet ⟨fun c2 => ?_, fun _ => hQ⟩⟩
  rw [b2i_n0, z, Bool.and_true] at c c2
  rw [c, c2] at hp
  exact absurd hp (by decide)
theorem pc_copy_Se {n1 : Nat} {rw : Nat → Int32} {f1 : Nat → Int64} (hr1 : ∀ q, q < n1 → Int32.toInt64 (rw q) = f1 q) (hn1 : n1 ≤ 24) (hg : ∀ q, q < n1 → -32768 ≤ (f1 q).toInt ∧ (f1 q).toInt ≤ 32767) {k1 k2 : Nat} (hk1 : k1 < 4) (hk2 : k2 < 4) {i j n : Int32} {Q : Int32 → (Nat → Int32) → Prop}
    (hbad : ¬ (barI (some (1, n1, f1)) (nI 1) i n = 0 ∧ barI (some (1, n1, f1)) (nI 1) j n = 0) → Q (cpI (some (1, n1, f1)) (some (1, n1, f1)) 1 i j n) rw)
    (hok : ∀ (i' j' n' : Nat) (g : Nat → Int32), i = nI i' → j = nI j' → n = nI n' → i' + n' ≤ n1 → j' + n' ≤ n1 → (∀ q, q < n1 → Int32.toInt64 (g q) = cpF f1 f1 i' j' n' q) → Q (nI n') g) : wp_X0_copy_Se n1 rw (nI k1) i (nI k2) j n Q := by
  unfold wp_X0_copy_Se
  have z : inR 0 0 3 = true := by decide
  have y1 : inR (nI k1) 0 3 = true := inR_t.mpr (by rw [nI_toInt (by omega)]; omega)
  have y2 : inR (nI k2) 0 3 = true := inR_t.mpr (by rw [nI_toInt (by omega)]; omega)
  refine pc_isSheet ?_
  rw [y1, z]
  refine ⟨fun c => absurd c (by decide), fun _ => pc_isSheet ?_⟩
  rw [y2, z]
  refine ⟨fun _ => ⟨vp_in_nI hk1 (by omega), vp_in_nI hk2 (by omega), ?_⟩, fun c => absurd c (by decide)⟩
  refine ⟨fun ok => ?_, fun no => ⟨by omega, by omega, ?_⟩⟩
  · obtain ⟨a1, a2, a3, a4, a5⟩ := ok
    obtain ⟨i', hi, rfl⟩ := nI_of a1
    obtain ⟨j', hj, rfl⟩ := nI_of a2
    obtain ⟨n', hn, rfl⟩ := nI_of a3
    rw [nI_clamp hi, nI_clamp hn] at a4
    rw [nI_clamp hj, nI_clamp hn] at a5
    rw [nI_clamp hi, nI_clamp hj, nI_clamp hn]
    refine ⟨fun q hq => fit_s (hr1 _ (by omega)) (hg _ (by omega)), fun g hgg => ?_⟩
    refine hok i' j' n' g rfl rfl rfl a4 a5 (fun q hq => ?_)
    rw [hgg]
    unfold va_cpy cpF
    by_cases c : j' ≤ q ∧ q < j' + n'
    · rw [if_pos c, if_pos c]; exact hr1 _ (by omega)
    · rw [if_neg c, if_neg c]; exact hr1 q hq
  · have h13 := mt (cp_iff (l := 1) (f1 := f1) (f2 := f1) hn1 hn1 (by omega)).mpr no
    have := hbad h13
    rw [cp_13 h13] at this
    exact this
theorem pc_copyBad_IB {rn : Nat} {rw : Nat → Int32} {rn2 : Nat} {rw2 : Nat → Int32} {p q i j n : Int32} (hp : (inR p 0 3 && inR q 0 3) = false) {Q : Int32 → Prop} (hQ : Q (-1)) : wp_X0_copy_IB rn rw rn2 rw2 p i q j n Q := by
  unfold wp_X0_copy_IB
  have z : inR 0 0 3 = true := by decide
  refine pc_isSheet ⟨fun _ => hQ, fun c => pc_isSheet ⟨fun c2 => ?_, fun _ => hQ⟩⟩
  rw [b2i_n0, z, Bool.and_true] at c c2
  rw [c, c2] at hp
  exact absurd hp (by decide)
theorem pc_copy_IB {rn : Nat} {rw : Nat → Int32} {rn2 : Nat} {rw2 : Nat → Int32} {k1 k2 : Nat} (hk1 : k1 < 4) (hk2 : k2 < 4) {i j n : Int32} {Q : Int32 → Prop} (hQ : Q (-12)) : wp_X0_copy_IB rn rw rn2 rw2 (nI k1) i (nI k2) j n Q := by
  unfold wp_X0_copy_IB
  have z : inR 0 0 3 = true := by decide
  have y1 : inR (nI k1) 0 3 = true := inR_t.mpr (by rw [nI_toInt (by omega)]; omega)
  have y2 : inR (nI k2) 0 3 = true := inR_t.mpr (by rw [nI_toInt (by omega)]; omega)
  refine pc_isSheet ?_
  rw [y1, z]
  refine ⟨fun c => absurd c (by decide), fun _ => pc_isSheet ?_⟩
  rw [y2, z]
  refine ⟨fun _ => ⟨vp_in_nI hk1 (by omega), vp_in_nI hk2 (by omega), ?_⟩, fun c => absurd c (by decide)⟩
  exact hQ
theorem pc_copyBad_IS {rn : Nat} {rw : Nat → Int32} {rn2 : Nat} {rw2 : Nat → Int32} {p q i j n : Int32} (hp : (inR p 0 3 && inR q 0 3) = false) {Q : Int32 → Prop} (hQ : Q (-1)) : wp_X0_copy_IS rn rw rn2 rw2 p i q j n Q := by
  unfold wp_X0_copy_IS
  have z : inR 0 0 3 = true := by decide
  refine pc_isSheet ⟨fun _ => hQ, fun c => pc_isSheet ⟨fun c2 => ?_, fun _ => hQ⟩⟩
  rw [b2i_n0, z, Bool.and_true] at c c2
  rw [c, c2] at hp
  exact absurd hp (by decide)
theorem pc_copy_IS {rn : Nat} {rw : Nat → Int32} {rn2 : Nat} {rw2 : Nat → Int32} {k1 k2 : Nat} (hk1 : k1 < 4) (hk2 : k2 < 4) {i j n : Int32} {Q : Int32 → Prop} (hQ : Q (-12)) : wp_X0_copy_IS rn rw rn2 rw2 (nI k1) i (nI k2) j n Q := by
  unfold wp_X0_copy_IS
  have z : inR 0 0 3 = true := by decide
  have y1 : inR (nI k1) 0 3 = true := inR_t.mpr (by rw [nI_toInt (by omega)]; omega)
  have y2 : inR (nI k2) 0 3 = true := inR_t.mpr (by rw [nI_toInt (by omega)]; omega)
  refine pc_isSheet ?_
  rw [y1, z]
  refine ⟨fun c => absurd c (by decide), fun _ => pc_isSheet ?_⟩
  rw [y2, z]
  refine ⟨fun _ => ⟨vp_in_nI hk1 (by omega), vp_in_nI hk2 (by omega), ?_⟩, fun c => absurd c (by decide)⟩
  exact hQ
theorem pc_copyBad_II {rn : Nat} {rw : Nat → Int32} {rn2 : Nat} {rw2 : Nat → Int32} {p q i j n : Int32} (hp : (inR p 0 3 && inR q 0 3) = false) {Q : Int32 → (Nat → Int32) → Prop} (hQ : Q (-1) rw2) : wp_X0_copy_II rn rw rn2 rw2 p i q j n Q := by
  unfold wp_X0_copy_II
  have z : inR 0 0 3 = true := by decide
  refine pc_isSheet ⟨fun _ => hQ, fun c => pc_isSheet ⟨fun c2 => ?_, fun _ => hQ⟩⟩
  rw [b2i_n0, z, Bool.and_true] at c c2
  rw [c, c2] at hp
  exact absurd hp (by decide)
theorem pc_copy_II {n1 n2 : Nat} {rw : Nat → Int32} {rw2 : Nat → Int32} {f1 f2 : Nat → Int64} (hr1 : ∀ q, q < n1 → Int32.toInt64 (rw q) = f1 q) (hn1 : n1 ≤ 24) (hr2 : ∀ q, q < n2 → Int32.toInt64 (rw2 q) = f2 q) (hn2 : n2 ≤ 24) {k1 k2 : Nat} (hk1 : k1 < 4) (hk2 : k2 < 4) {i j n : Int32} {Q : Int32 → (Nat → Int32) → Prop}
    (hbad : ¬ (barI (some (2, n1, f1)) (nI 2) i n = 0 ∧ barI (some (2, n2, f2)) (nI 2) j n = 0) → Q (cpI (some (2, n1, f1)) (some (2, n2, f2)) 2 i j n) rw2)
    (hok : ∀ (i' j' n' : Nat) (g : Nat → Int32), i = nI i' → j = nI j' → n = nI n' → i' + n' ≤ n1 → j' + n' ≤ n2 → (∀ q, q < n2 → Int32.toInt64 (g q) = cpF f1 f2 i' j' n' q) → Q (nI n') g) : wp_X0_copy_II n1 rw n2 rw2 (nI k1) i (nI k2) j n Q := by
  unfold wp_X0_copy_II
  have z : inR 0 0 3 = true := by decide
  have y1 : inR (nI k1) 0 3 = true := inR_t.mpr (by rw [nI_toInt (by omega)]; omega)
  have y2 : inR (nI k2) 0 3 = true := inR_t.mpr (by rw [nI_toInt (by omega)]; omega)
  refine pc_isSheet ?_
  rw [y1, z]
  refine ⟨fun c => absurd c (by decide), fun _ => pc_isSheet ?_⟩
  rw [y2, z]
  refine ⟨fun _ => ⟨vp_in_nI hk1 (by omega), vp_in_nI hk2 (by omega), ?_⟩, fun c => absurd c (by decide)⟩
  refine ⟨fun ok => ?_, fun no => ⟨by omega, by omega, ?_⟩⟩
  · obtain ⟨a1, a2, a3, a4, a5⟩ := ok
    obtain ⟨i', hi, rfl⟩ := nI_of a1
    obtain ⟨j', hj, rfl⟩ := nI_of a2
    obtain ⟨n', hn, rfl⟩ := nI_of a3
    rw [nI_clamp hi, nI_clamp hn] at a4
    rw [nI_clamp hj, nI_clamp hn] at a5
    rw [nI_clamp hi, nI_clamp hj, nI_clamp hn]
    refine fun g hgg => ?_
    refine hok i' j' n' g rfl rfl rfl a4 a5 (fun q hq => ?_)
    rw [hgg]
    unfold va_cpy cpF
    by_cases c : j' ≤ q ∧ q < j' + n'
    · rw [if_pos c, if_pos c]; exact hr1 _ (by omega)
    · rw [if_neg c, if_neg c]; exact hr2 q hq
  · have h13 := mt (cp_iff (l := 2) (f1 := f1) (f2 := f2) hn1 hn2 (by omega)).mpr no
    have := hbad h13
    rw [cp_13 h13] at this
    exact this
theorem pc_copyBad_IJ {rn : Nat} {rw : Nat → Int32} {rn2 : Nat} {rw2 : Nat → Int64} {p q i j n : Int32} (hp : (inR p 0 3 && inR q 0 3) = false) {Q : Int32 → Prop} (hQ : Q (-1)) : wp_X0_copy_IJ rn rw rn2 rw2 p i q j n Q := by
  unfold wp_X0_copy_IJ
  have z : inR 0 0 3 = true := by decide
  refine pc_isSheet ⟨fun _ => hQ, fun c => pc_isSheet ⟨fun c2 => ?_, fun _ => hQ⟩⟩
  rw [b2i_n0, z, Bool.and_true] at c c2
  rw [c, c2] at hp
  exact absurd hp (by decide)
theorem pc_copy_IJ {rn : Nat} {rw : Nat → Int32} {rn2 : Nat} {rw2 : Nat → Int64} {k1 k2 : Nat} (hk1 : k1 < 4) (hk2 : k2 < 4) {i j n : Int32} {Q : Int32 → Prop} (hQ : Q (-12)) : wp_X0_copy_IJ rn rw rn2 rw2 (nI k1) i (nI k2) j n Q := by
  unfold wp_X0_copy_IJ
  have z : inR 0 0 3 = true := by decide
  have y1 : inR (nI k1) 0 3 = true := inR_t.mpr (by rw [nI_toInt (by omega)]; omega)
  have y2 : inR (nI k2) 0 3 = true := inR_t.mpr (by rw [nI_toInt (by omega)]; omega)
  refine pc_isSheet ?_
  rw [y1, z]
  refine ⟨fun c => absurd c (by decide), fun _ => pc_isSheet ?_⟩
  rw [y2, z]
  refine ⟨fun _ => ⟨vp_in_nI hk1 (by omega), vp_in_nI hk2 (by omega), ?_⟩, fun c => absurd c (by decide)⟩
  exact hQ
theorem pc_copyBad_IN {rn : Nat} {rw : Nat → Int32} {p q i j n : Int32} (hp : (inR p 0 3 && inR q 0 3) = false) {Q : Int32 → Prop} (hQ : Q (-1)) : wp_X0_copy_IN rn rw p i q j n Q := by
  unfold wp_X0_copy_IN
  have z : inR 0 0 3 = true := by decide
  refine pc_isSheet ⟨fun _ => hQ, fun c => pc_isSheet ⟨fun c2 => ?_, fun _ => hQ⟩⟩
  rw [b2i_n0, z, Bool.and_true] at c c2
  rw [c, c2] at hp
  exact absurd hp (by decide)
theorem pc_copy_IN {rn : Nat} {rw : Nat → Int32} {k1 k2 : Nat} (hk1 : k1 < 4) (hk2 : k2 < 4) {i j n : Int32} {Q : Int32 → Prop} (hQ : Q (-11)) : wp_X0_copy_IN rn rw (nI k1) i (nI k2) j n Q := by
  unfold wp_X0_copy_IN
  have z : inR 0 0 3 = true := by decide
  have y1 : inR (nI k1) 0 3 = true := inR_t.mpr (by rw [nI_toInt (by omega)]; omega)
  have y2 : inR (nI k2) 0 3 = true := inR_t.mpr (by rw [nI_toInt (by omega)]; omega)
  refine pc_isSheet ?_
  rw [y1, z]
  refine ⟨fun c => absurd c (by decide), fun _ => pc_isSheet ?_⟩
  rw [y2, z]
  refine ⟨fun _ => ⟨vp_in_nI hk1 (by omega), vp_in_nI hk2 (by omega), ?_⟩, fun c => absurd c (by decide)⟩
  exact hQ
theorem pc_copyBad_Ie {rn : Nat} {rw : Nat → Int32} {p q i j n : Int32} (hp : (inR p 0 3 && inR q 0 3) = false) {Q : Int32 → (Nat → Int32) → Prop} (hQ : Q (-1) rw) : wp_X0_copy_Ie rn rw p i q j n Q := by
  unfold wp_X0_copy_Ie
  have z : inR 0 0 3 = true := by decide
  refine pc_isSheet ⟨fun _ => hQ, fun c => pc_isSheet ⟨fun c2 => ?_, fun _ => hQ⟩⟩
  rw [b2i_n0, z, Bool.and_true] at c c2
  rw [c, c2] at hp
  exact absurd hp (by decide)
theorem pc_copy_Ie {n1 : Nat} {rw : Nat → Int32} {f1 : Nat → Int64} (hr1 : ∀ q, q < n1 → Int32.toInt64 (rw q) = f1 q) (hn1 : n1 ≤ 24) {k1 k2 : Nat} (hk1 : k1 < 4) (hk2 : k2 < 4) {i j n : Int32} {Q : Int32 → (Nat → Int32) → Prop}
    (hbad : ¬ (barI (some (2, n1, f1)) (nI 2) i n = 0 ∧ barI (some (2, n1, f1)) (nI 2) j n = 0) → Q (cpI (some (2, n1, f1)) (some (2, n1, f1)) 2 i j n) rw)
    (hok : ∀ (i' j' n' : Nat) (g : Nat → Int32), i = nI i' → j = nI j' → n = nI n' → i' + n' ≤ n1 → j' + n' ≤ n1 → (∀ q, q < n1 → Int32.toInt64 (g q) = cpF f1 f1 i' j' n' q) → Q (nI n') g) : wp_X0_copy_Ie n1 rw (nI k1) i (nI k2) j n Q := by
  unfold wp_X0_copy_Ie
  have z : inR 0 0 3 = true := by decide
  have y1 : inR (nI k1) 0 3 = true := inR_t.mpr (by rw [nI_toInt (by omega)]; omega)
  have y2 : inR (nI k2) 0 3 = true := inR_t.mpr (by rw [nI_toInt (by omega)]; omega)
  refine pc_isSheet ?_
  rw [y1, z]
  refine ⟨fun c => absurd c (by decide), fun _ => pc_isSheet ?_⟩
  rw [y2, z]
  refine ⟨fun _ => ⟨vp_in_nI hk1 (by omega), vp_in_nI hk2 (by omega), ?_⟩, fun c => absurd c (by decide)⟩
  refine ⟨fun ok => ?_, fun no => ⟨by omega, by omega, ?_⟩⟩
  · obtain ⟨a1, a2, a3, a4, a5⟩ := ok
    obtain ⟨i', hi, rfl⟩ := nI_of a1
    obtain ⟨j', hj, rfl⟩ := nI_of a2
    obtain ⟨n', hn, rfl⟩ := nI_of a3
    rw [nI_clamp hi, nI_clamp hn] at a4
    rw [nI_clamp hj, nI_clamp hn] at a5
    rw [nI_clamp hi, nI_clamp hj, nI_clamp hn]
    refine fun g hgg => ?_
    refine hok i' j' n' g rfl rfl rfl a4 a5 (fun q hq => ?_)
    rw [hgg]
    unfold va_cpy cpF
    by_cases c : j' ≤ q ∧ q < j' + n'
    · rw [if_pos c, if_pos c]; exact hr1 _ (by omega)
    · rw [if_neg c, if_neg c]; exact hr1 q hq
  · have h13 := mt (cp_iff (l := 2) (f1 := f1) (f2 := f1) hn1 hn1 (by omega)).mpr no
    have := hbad h13
    rw [cp_13 h13] at this
    exact this
theorem pc_copyBad_JB {rn : Nat} {rw : Nat → Int64} {rn2 : Nat} {rw2 : Nat → Int32} {p q i j n : Int32} (hp : (inR p 0 3 && inR q 0 3) = false) {Q : Int32 → Prop} (hQ : Q (-1)) : wp_X0_copy_JB rn rw rn2 rw2 p i q j n Q := by
  unfold wp_X0_copy_JB
  have z : inR 0 0 3 = true := by decide
  refine pc_isSheet ⟨fun _ => hQ, fun c => pc_isSheet ⟨fun c2 => ?_, fun _ => hQ⟩⟩
  rw [b2i_n0, z, Bool.and_true] at c c2
  rw [c, c2] at hp
  exact absurd hp (by decide)
theorem pc_copy_JB {rn : Nat} {rw : Nat → Int64} {rn2 : Nat} {rw2 : Nat → Int32} {k1 k2 : Nat} (hk1 : k1 < 4) (hk2 : k2 < 4) {i j n : Int32} {Q : Int32 → Prop} (hQ : Q (-12)) : wp_X0_copy_JB rn rw rn2 rw2 (nI k1) i (nI k2) j n Q := by
  unfold wp_X0_copy_JB
  have z : inR 0 0 3 = true := by decide
  have y1 : inR (nI k1) 0 3 = true := inR_t.mpr (by rw [nI_toInt (by omega)]; omega)
  have y2 : inR (nI k2) 0 3 = true := inR_t.mpr (by rw [nI_toInt (by omega)]; omega)
  refine pc_isSheet ?_
  rw [y1, z]
  refine ⟨fun c => absurd c (by decide), fun _ => pc_isSheet ?_⟩
  rw [y2, z]
  refine ⟨fun _ => ⟨vp_in_nI hk1 (by omega), vp_in_nI hk2 (by omega), ?_⟩, fun c => absurd c (by decide)⟩
  exact hQ
theorem pc_copyBad_JS {rn : Nat} {rw : Nat → Int64} {rn2 : Nat} {rw2 : Nat → Int32} {p q i j n : Int32} (hp : (inR p 0 3 && inR q 0 3) = false) {Q : Int32 → Prop} (hQ : Q (-1)) : wp_X0_copy_JS rn rw rn2 rw2 p i q j n Q := by
  unfold wp_X0_copy_JS
  have z : inR 0 0 3 = true := by decide
  refine pc_isSheet ⟨fun _ => hQ, fun c => pc_isSheet ⟨fun c2 => ?_, fun _ => hQ⟩⟩
  rw [b2i_n0, z, Bool.and_true] at c c2
  rw [c, c2] at hp
  exact absurd hp (by decide)
theorem pc_copy_JS {rn : Nat} {rw : Nat → Int64} {rn2 : Nat} {rw2 : Nat → Int32} {k1 k2 : Nat} (hk1 : k1 < 4) (hk2 : k2 < 4) {i j n : Int32} {Q : Int32 → Prop} (hQ : Q (-12)) : wp_X0_copy_JS rn rw rn2 rw2 (nI k1) i (nI k2) j n Q := by
  unfold wp_X0_copy_JS
  have z : inR 0 0 3 = true := by decide
  have y1 : inR (nI k1) 0 3 = true := inR_t.mpr (by rw [nI_toInt (by omega)]; omega)
  have y2 : inR (nI k2) 0 3 = true := inR_t.mpr (by rw [nI_toInt (by omega)]; omega)
  refine pc_isSheet ?_
  rw [y1, z]
  refine ⟨fun c => absurd c (by decide), fun _ => pc_isSheet ?_⟩
  rw [y2, z]
  refine ⟨fun _ => ⟨vp_in_nI hk1 (by omega), vp_in_nI hk2 (by omega), ?_⟩, fun c => absurd c (by decide)⟩
  exact hQ
theorem pc_copyBad_JI {rn : Nat} {rw : Nat → Int64} {rn2 : Nat} {rw2 : Nat → Int32} {p q i j n : Int32} (hp : (inR p 0 3 && inR q 0 3) = false) {Q : Int32 → Prop} (hQ : Q (-1)) : wp_X0_copy_JI rn rw rn2 rw2 p i q j n Q := by
  unfold wp_X0_copy_JI
  have z : inR 0 0 3 = true := by decide
  refine pc_isSheet ⟨fun _ => hQ, fun c => pc_isSheet ⟨fun c2 => ?_, fun _ => hQ⟩⟩
  rw [b2i_n0, z, Bool.and_true] at c c2
  rw [c, c2] at hp
  exact absurd hp (by decide)
theorem pc_copy_JI {rn : Nat} {rw : Nat → Int64} {rn2 : Nat} {rw2 : Nat → Int32} {k1 k2 : Nat} (hk1 : k1 < 4) (hk2 : k2 < 4) {i j n : Int32} {Q : Int32 → Prop} (hQ : Q (-12)) : wp_X0_copy_JI rn rw rn2 rw2 (nI k1) i (nI k2) j n Q := by
  unfold wp_X0_copy_JI
  have z : inR 0 0 3 = true := by decide
  have y1 : inR (nI k1) 0 3 = true := inR_t.mpr (by rw [nI_toInt (by omega)]; omega)
  have y2 : inR (nI k2) 0 3 = true := inR_t.mpr (by rw [nI_toInt (by omega)]; omega)
  refine pc_isSheet ?_
  rw [y1, z]
  refine ⟨fun c => absurd c (by decide), fun _ => pc_isSheet ?_⟩
  rw [y2, z]
  refine ⟨fun _ => ⟨vp_in_nI hk1 (by omega), vp_in_nI hk2 (by omega), ?_⟩, fun c => absurd c (by decide)⟩
  exact hQ
theorem pc_copyBad_JJ {rn : Nat} {rw : Nat → Int64} {rn2 : Nat} {rw2 : Nat → Int64} {p q i j n : Int32} (hp : (inR p 0 3 && inR q 0 3) = false) {Q : Int32 → (Nat → Int64) → Prop} (hQ : Q (-1) rw2) : wp_X0_copy_JJ rn rw rn2 rw2 p i q j n Q := by
  unfold wp_X0_copy_JJ
  have z : inR 0 0 3 = true := by decide
  refine pc_isSheet ⟨fun _ => hQ, fun c => pc_isSheet ⟨fun c2 => ?_, fun _ => hQ⟩⟩
  rw [b2i_n0, z, Bool.and_true] at c c2
  rw [c, c2] at hp
  exact absurd hp (by decide)
theorem pc_copy_JJ {n1 n2 : Nat} {rw : Nat → Int64} {rw2 : Nat → Int64} {f1 f2 : Nat → Int64} (hr1 : ∀ q, q < n1 → rw q = f1 q) (hn1 : n1 ≤ 24) (hr2 : ∀ q, q < n2 → rw2 q = f2 q) (hn2 : n2 ≤ 24) {k1 k2 : Nat} (hk1 : k1 < 4) (hk2 : k2 < 4) {i j n : Int32} {Q : Int32 → (Nat → Int64) → Prop}
    (hbad : ¬ (barI (some (3, n1, f1)) (nI 3) i n = 0 ∧ barI (some (3, n2, f2)) (nI 3) j n = 0) → Q (cpI (some (3, n1, f1)) (some (3, n2, f2)) 3 i j n) rw2)
    (hok : ∀ (i' j' n' : Nat) (g : Nat → Int64), i = nI i' → j = nI j' → n = nI n' → i' + n' ≤ n1 → j' + n' ≤ n2 → (∀ q, q < n2 → g q = cpF f1 f2 i' j' n' q) → Q (nI n') g) : wp_X0_copy_JJ n1 rw n2 rw2 (nI k1) i (nI k2) j n Q := by
  unfold wp_X0_copy_JJ
  have z : inR 0 0 3 = true := by decide
  have y1 : inR (nI k1) 0 3 = true := inR_t.mpr (by rw [nI_toInt (by omega)]; omega)
  have y2 : inR (nI k2) 0 3 = true := inR_t.mpr (by rw [nI_toInt (by omega)]; omega)
  refine pc_isSheet ?_
  rw [y1, z]
  refine ⟨fun c => absurd c (by decide), fun _ => pc_isSheet ?_⟩
  rw [y2, z]
  refine ⟨fun _ => ⟨vp_in_nI hk1 (by omega), vp_in_nI hk2 (by omega), ?_⟩, fun c => absurd c (by decide)⟩
  refine ⟨fun ok => ?_, fun no => ⟨by omega, by omega, ?_⟩⟩
  · obtain ⟨a1, a2, a3, a4, a5⟩ := ok
    obtain ⟨i', hi, rfl⟩ := nI_of a1
    obtain ⟨j', hj, rfl⟩ := nI_of a2
    obtain ⟨n', hn, rfl⟩ := nI_of a3
    rw [nI_clamp hi, nI_clamp hn] at a4
    rw [nI_clamp hj, nI_clamp hn] at a5
    rw [nI_clamp hi, nI_clamp hj, nI_clamp hn]
    refine fun g hgg => ?_
    refine hok i' j' n' g rfl rfl rfl a4 a5 (fun q hq => ?_)
    rw [hgg]
    unfold va_cpy cpF
    by_cases c : j' ≤ q ∧ q < j' + n'
    · rw [if_pos c, if_pos c]; exact hr1 _ (by omega)
    · rw [if_neg c, if_neg c]; exact hr2 q hq
  · have h13 := mt (cp_iff (l := 3) (f1 := f1) (f2 := f2) hn1 hn2 (by omega)).mpr no
    have := hbad h13
    rw [cp_13 h13] at this
    exact this
theorem pc_copyBad_JN {rn : Nat} {rw : Nat → Int64} {p q i j n : Int32} (hp : (inR p 0 3 && inR q 0 3) = false) {Q : Int32 → Prop} (hQ : Q (-1)) : wp_X0_copy_JN rn rw p i q j n Q := by
  unfold wp_X0_copy_JN
  have z : inR 0 0 3 = true := by decide
  refine pc_isSheet ⟨fun _ => hQ, fun c => pc_isSheet ⟨fun c2 => ?_, fun _ => hQ⟩⟩
  rw [b2i_n0, z, Bool.and_true] at c c2
  rw [c, c2] at hp
  exact absurd hp (by decide)
theorem pc_copy_JN {rn : Nat} {rw : Nat → Int64} {k1 k2 : Nat} (hk1 : k1 < 4) (hk2 : k2 < 4) {i j n : Int32} {Q : Int32 → Prop} (hQ : Q (-11)) : wp_X0_copy_JN rn rw (nI k1) i (nI k2) j n Q := by
  unfold wp_X0_copy_JN
  have z : inR 0 0 3 = true := by decide
  have y1 : inR (nI k1) 0 3 = true := inR_t.mpr (by rw [nI_toInt (by omega)]; omega)
  have y2 : inR (nI k2) 0 3 = true := inR_t.mpr (by rw [nI_toInt (by omega)]; omega)
  refine pc_isSheet ?_
  rw [y1, z]
  refine ⟨fun c => absurd c (by decide), fun _ => pc_isSheet ?_⟩
  rw [y2, z]
  refine ⟨fun _ => ⟨vp_in_nI hk1 (by omega), vp_in_nI hk2 (by omega), ?_⟩, fun c => absurd c (by decide)⟩
  exact hQ
theorem pc_copyBad_Je {rn : Nat} {rw : Nat → Int64} {p q i j n : Int32} (hp : (inR p 0 3 && inR q 0 3) = false) {Q : Int32 → (Nat → Int64) → Prop} (hQ : Q (-1) rw) : wp_X0_copy_Je rn rw p i q j n Q := by
  unfold wp_X0_copy_Je
  have z : inR 0 0 3 = true := by decide
  refine pc_isSheet ⟨fun _ => hQ, fun c => pc_isSheet ⟨fun c2 => ?_, fun _ => hQ⟩⟩
  rw [b2i_n0, z, Bool.and_true] at c c2
  rw [c, c2] at hp
  exact absurd hp (by decide)
theorem pc_copy_Je {n1 : Nat} {rw : Nat → Int64} {f1 : Nat → Int64} (hr1 : ∀ q, q < n1 → rw q = f1 q) (hn1 : n1 ≤ 24) {k1 k2 : Nat} (hk1 : k1 < 4) (hk2 : k2 < 4) {i j n : Int32} {Q : Int32 → (Nat → Int64) → Prop}
    (hbad : ¬ (barI (some (3, n1, f1)) (nI 3) i n = 0 ∧ barI (some (3, n1, f1)) (nI 3) j n = 0) → Q (cpI (some (3, n1, f1)) (some (3, n1, f1)) 3 i j n) rw)
    (hok : ∀ (i' j' n' : Nat) (g : Nat → Int64), i = nI i' → j = nI j' → n = nI n' → i' + n' ≤ n1 → j' + n' ≤ n1 → (∀ q, q < n1 → g q = cpF f1 f1 i' j' n' q) → Q (nI n') g) : wp_X0_copy_Je n1 rw (nI k1) i (nI k2) j n Q := by
  unfold wp_X0_copy_Je
  have z : inR 0 0 3 = true := by decide
  have y1 : inR (nI k1) 0 3 = true := inR_t.mpr (by rw [nI_toInt (by omega)]; omega)
  have y2 : inR (nI k2) 0 3 = true := inR_t.mpr (by rw [nI_toInt (by omega)]; omega)
  refine pc_isSheet ?_
  rw [y1, z]
  refine ⟨fun c => absurd c (by decide), fun _ => pc_isSheet ?_⟩
  rw [y2, z]
  refine ⟨fun _ => ⟨vp_in_nI hk1 (by omega), vp_in_nI hk2 (by omega), ?_⟩, fun c => absurd c (by decide)⟩
  refine ⟨fun ok => ?_, fun no => ⟨by omega, by omega, ?_⟩⟩
  · obtain ⟨a1, a2, a3, a4, a5⟩ := ok
    obtain ⟨i', hi, rfl⟩ := nI_of a1
    obtain ⟨j', hj, rfl⟩ := nI_of a2
    obtain ⟨n', hn, rfl⟩ := nI_of a3
    rw [nI_clamp hi, nI_clamp hn] at a4
    rw [nI_clamp hj, nI_clamp hn] at a5
    rw [nI_clamp hi, nI_clamp hj, nI_clamp hn]
    refine fun g hgg => ?_
    refine hok i' j' n' g rfl rfl rfl a4 a5 (fun q hq => ?_)
    rw [hgg]
    unfold va_cpy cpF
    by_cases c : j' ≤ q ∧ q < j' + n'
    · rw [if_pos c, if_pos c]; exact hr1 _ (by omega)
    · rw [if_neg c, if_neg c]; exact hr1 q hq
  · have h13 := mt (cp_iff (l := 3) (f1 := f1) (f2 := f1) hn1 hn1 (by omega)).mpr no
    have := hbad h13
    rw [cp_13 h13] at this
    exact this
theorem pc_copyBad_NB {rn2 : Nat} {rw2 : Nat → Int32} {p q i j n : Int32} (hp : (inR p 0 3 && inR q 0 3) = false) {Q : Int32 → Prop} (hQ : Q (-1)) : wp_X0_copy_NB rn2 rw2 p i q j n Q := by
  unfold wp_X0_copy_NB
  have z : inR 0 0 3 = true := by decide
  refine pc_isSheet ⟨fun _ => hQ, fun c => pc_isSheet ⟨fun c2 => ?_, fun _ => hQ⟩⟩
  rw [b2i_n0, z, Bool.and_true] at c c2
  rw [c, c2] at hp
  exact absurd hp (by decide)
theorem pc_copy_NB {rn2 : Nat} {rw2 : Nat → Int32} {k1 k2 : Nat} (hk1 : k1 < 4) (hk2 : k2 < 4) {i j n : Int32} {Q : Int32 → Prop} (hQ : Q (-11)) : wp_X0_copy_NB rn2 rw2 (nI k1) i (nI k2) j n Q := by
  unfold wp_X0_copy_NB
  have z : inR 0 0 3 = true := by decide
  have y1 : inR (nI k1) 0 3 = true := inR_t.mpr (by rw [nI_toInt (by omega)]; omega)
  have y2 : inR (nI k2) 0 3 = true := inR_t.mpr (by rw [nI_toInt (by omega)]; omega)
  refine pc_isSheet ?_
  rw [y1, z]
  refine ⟨fun c => absurd c (by decide), fun _ => pc_isSheet ?_⟩
  rw [y2, z]
  refine ⟨fun _ => ⟨vp_in_nI hk1 (by omega), vp_in_nI hk2 (by omega), ?_⟩, fun c => absurd c (by decide)⟩
  exact hQ
theorem pc_copyBad_NS {rn2 : Nat} {rw2 : Nat → Int32} {p q i j n : Int32} (hp : (inR p 0 3 && inR q 0 3) = false) {Q : Int32 → Prop} (hQ : Q (-1)) : wp_X0_copy_NS rn2 rw2 p i q j n Q := by
  unfold wp_X0_copy_NS
  have z : inR 0 0 3 = true := by decide
  refine pc_isSheet ⟨fun _ => hQ, fun c => pc_isSheet ⟨fun c2 => ?_, fun _ => hQ⟩⟩
  rw [b2i_n0, z, Bool.and_true] at c c2
  rw [c, c2] at hp
  exact absurd hp (by decide)
theorem pc_copy_NS {rn2 : Nat} {rw2 : Nat → Int32} {k1 k2 : Nat} (hk1 : k1 < 4) (hk2 : k2 < 4) {i j n : Int32} {Q : Int32 → Prop} (hQ : Q (-11)) : wp_X0_copy_NS rn2 rw2 (nI k1) i (nI k2) j n Q := by
  unfold wp_X0_copy_NS
  have z : inR 0 0 3 = true := by decide
  have y1 : inR (nI k1) 0 3 = true := inR_t.mpr (by rw [nI_toInt (by omega)]; omega)
  have y2 : inR (nI k2) 0 3 = true := inR_t.mpr (by rw [nI_toInt (by omega)]; omega)
  refine pc_isSheet ?_
  rw [y1, z]
  refine ⟨fun c => absurd c (by decide), fun _ => pc_isSheet ?_⟩
  rw [y2, z]
  refine ⟨fun _ => ⟨vp_in_nI hk1 (by omega), vp_in_nI hk2 (by omega), ?_⟩, fun c => absurd c (by decide)⟩
  exact hQ
theorem pc_copyBad_NI {rn2 : Nat} {rw2 : Nat → Int32} {p q i j n : Int32} (hp : (inR p 0 3 && inR q 0 3) = false) {Q : Int32 → Prop} (hQ : Q (-1)) : wp_X0_copy_NI rn2 rw2 p i q j n Q := by
  unfold wp_X0_copy_NI
  have z : inR 0 0 3 = true := by decide
  refine pc_isSheet ⟨fun _ => hQ, fun c => pc_isSheet ⟨fun c2 => ?_, fun _ => hQ⟩⟩
  rw [b2i_n0, z, Bool.and_true] at c c2
  rw [c, c2] at hp
  exact absurd hp (by decide)
theorem pc_copy_NI {rn2 : Nat} {rw2 : Nat → Int32} {k1 k2 : Nat} (hk1 : k1 < 4) (hk2 : k2 < 4) {i j n : Int32} {Q : Int32 → Prop} (hQ : Q (-11)) : wp_X0_copy_NI rn2 rw2 (nI k1) i (nI k2) j n Q := by
  unfold wp_X0_copy_NI
  have z : inR 0 0 3 = true := by decide
  have y1 : inR (nI k1) 0 3 = true := inR_t.mpr (by rw [nI_toInt (by omega)]; omega)
  have y2 : inR (nI k2) 0 3 = true := inR_t.mpr (by rw [nI_toInt (by omega)]; omega)
  refine pc_isSheet ?_
  rw [y1, z]
  refine ⟨fun c => absurd c (by decide), fun _ => pc_isSheet ?_⟩
  rw [y2, z]
  refine ⟨fun _ => ⟨vp_in_nI hk1 (by omega), vp_in_nI hk2 (by omega), ?_⟩, fun c => absurd c (by decide)⟩
  exact hQ
theorem pc_copyBad_NJ {rn2 : Nat} {rw2 : Nat → Int64} {p q i j n : Int32} (hp : (inR p 0 3 && inR q 0 3) = false) {Q : Int32 → Prop} (hQ : Q (-1)) : wp_X0_copy_NJ rn2 rw2 p i q j n Q := by
  unfold wp_X0_copy_NJ
  have z : inR 0 0 3 = true := by decide
  refine pc_isSheet ⟨fun _ => hQ, fun c => pc_isSheet ⟨fun c2 => ?_, fun _ => hQ⟩⟩
  rw [b2i_n0, z, Bool.and_true] at c c2
  rw [c, c2] at hp
  exact absurd hp (by decide)
theorem pc_copy_NJ {rn2 : Nat} {rw2 : Nat → Int64} {k1 k2 : Nat} (hk1 : k1 < 4) (hk2 : k2 < 4) {i j n : Int32} {Q : Int32 → Prop} (hQ : Q (-11)) : wp_X0_copy_NJ rn2 rw2 (nI k1) i (nI k2) j n Q := by
  unfold wp_X0_copy_NJ
  have z : inR 0 0 3 = true := by decide
  have y1 : inR (nI k1) 0 3 = true := inR_t.mpr (by rw [nI_toInt (by omega)]; omega)
  have y2 : inR (nI k2) 0 3 = true := inR_t.mpr (by rw [nI_toInt (by omega)]; omega)
  refine pc_isSheet ?_
  rw [y1, z]
  refine ⟨fun c => absurd c (by decide), fun _ => pc_isSheet ?_⟩
  rw [y2, z]
  refine ⟨fun _ => ⟨vp_in_nI hk1 (by omega), vp_in_nI hk2 (by omega), ?_⟩, fun c => absurd c (by decide)⟩
  exact hQ
theorem pc_copyBad_NN {p q i j n : Int32} (hp : (inR p 0 3 && inR q 0 3) = false) {Q : Int32 → Prop} (hQ : Q (-1)) : wp_X0_copy_NN p i q j n Q := by
  unfold wp_X0_copy_NN
  have z : inR 0 0 3 = true := by decide
  refine pc_isSheet ⟨fun _ => hQ, fun c => pc_isSheet ⟨fun c2 => ?_, fun _ => hQ⟩⟩
  rw [b2i_n0, z, Bool.and_true] at c c2
  rw [c, c2] at hp
  exact absurd hp (by decide)
theorem pc_copy_NN {k1 k2 : Nat} (hk1 : k1 < 4) (hk2 : k2 < 4) {i j n : Int32} {Q : Int32 → Prop} (hQ : Q (-11)) : wp_X0_copy_NN (nI k1) i (nI k2) j n Q := by
  unfold wp_X0_copy_NN
  have z : inR 0 0 3 = true := by decide
  have y1 : inR (nI k1) 0 3 = true := inR_t.mpr (by rw [nI_toInt (by omega)]; omega)
  have y2 : inR (nI k2) 0 3 = true := inR_t.mpr (by rw [nI_toInt (by omega)]; omega)
  refine pc_isSheet ?_
  rw [y1, z]
  refine ⟨fun c => absurd c (by decide), fun _ => pc_isSheet ?_⟩
  rw [y2, z]
  refine ⟨fun _ => ⟨vp_in_nI hk1 (by omega), vp_in_nI hk2 (by omega), ?_⟩, fun c => absurd c (by decide)⟩
  exact hQ
theorem pc_copyBad_Ne {p q i j n : Int32} (hp : (inR p 0 3 && inR q 0 3) = false) {Q : Int32 → Prop} (hQ : Q (-1)) : wp_X0_copy_Ne p i q j n Q := by
  unfold wp_X0_copy_Ne
  have z : inR 0 0 3 = true := by decide
  refine pc_isSheet ⟨fun _ => hQ, fun c => pc_isSheet ⟨fun c2 => ?_, fun _ => hQ⟩⟩
  rw [b2i_n0, z, Bool.and_true] at c c2
  rw [c, c2] at hp
  exact absurd hp (by decide)
theorem pc_copy_Ne {k1 k2 : Nat} (hk1 : k1 < 4) (hk2 : k2 < 4) {i j n : Int32} {Q : Int32 → Prop} (hQ : Q (-11)) : wp_X0_copy_Ne (nI k1) i (nI k2) j n Q := by
  unfold wp_X0_copy_Ne
  have z : inR 0 0 3 = true := by decide
  have y1 : inR (nI k1) 0 3 = true := inR_t.mpr (by rw [nI_toInt (by omega)]; omega)
  have y2 : inR (nI k2) 0 3 = true := inR_t.mpr (by rw [nI_toInt (by omega)]; omega)
  refine pc_isSheet ?_
  rw [y1, z]
  refine ⟨fun c => absurd c (by decide), fun _ => pc_isSheet ?_⟩
  rw [y2, z]
  refine ⟨fun _ => ⟨vp_in_nI hk1 (by omega), vp_in_nI hk2 (by omega), ?_⟩, fun c => absurd c (by decide)⟩
  exact hQ
