/-! pure: by how much one fails; a year -/
set_option maxRecDepth 100000
def haleN (B : AB) : Nat := if bY B % 2 = 0 then 2 else 0
def endB (B : AB) (m : Nat) : Bool := decide ((bS B).idxOf m = 0) || decide ((bS B).idxOf m + 1 = (bS B).length)
def failN (B : AB) (m : Nat) : Nat := match bK B m with
  | 0 => 2
  | 1 => haleN B
  | 2 => 4
  | 3 => if endB B m then haleN B + 1 else haleN B
  | _ => 4 - onesN (sitI B m &&& stoodI B m).toNatClampNeg
theorem rem2 {y : Nat} (h : y < 2 ^ 31) : (nI y - nI y / 2 * 2 = 0) ↔ y % 2 = 0 := by
  rw [il2, pk_rem h (by omega) (by omega), il0, nI_eq (by omega) (by omega)]
theorem isSet_stood {B : AB} (hI : Inv B) (m : Nat) : isSet (stoodI B m) := by
  have key : ∀ k, k ≤ 6 → isSet (stoodK B m k) := by
    intro k
    induction k with
    | zero => intro _; exact isSet_0
    | succ k ih =>
      intro hk
      rw [stoodK_succ]
      refine isSet_or (ih (by omega)) ?_
      split
      · exact isSet_bit (by omega)
      · exact isSet_0
  exact key (bM B) hI.1
theorem two6 : ∀ i, i < 7 → ∀ j, j < 7 → ∀ c, c < 64 → onesN (((if i < 6 then 2 ^ i else 0) ||| (if j < 6 then 2 ^ j else 0)) &&& c) ≤ 2 := by decide +kernel
theorem sitX {B : AB} (hI : Inv B) (m : Nat) : ∃ i, i < 7 ∧ ∃ j, j < 7 ∧ sitI B m = nI ((if i < 6 then 2 ^ i else 0) ||| (if j < 6 then 2 ^ j else 0)) := by
  have h6 := hI.1
  have hl := hI.len
  unfold sitI
  split
  case isFalse => exact ⟨6, by omega, 6, by omega, rfl⟩
  case isTrue hmem =>
    have hk := idx_lt hmem
    obtain ⟨k, hke⟩ : ∃ k, k = (bS B).idxOf m := ⟨_, rfl⟩
    rw [← hke] at hk ⊢
    have bd : ∀ i, (if i < 6 then 2 ^ i else 0) < 64 := by
      intro i
      split
      · exact Nat.lt_of_le_of_lt (Nat.pow_le_pow_right (by omega) (show i ≤ 5 by omega)) (by decide)
      · omega
    have hL : ∃ i, i < 7 ∧ sitL (bS B) k = nI (if i < 6 then 2 ^ i else 0) := by
      unfold sitL
      by_cases c : 0 < k
      · have hx : (bS B).getD (k - 1) 0 < bM B := hI.2.2.1 _ (getD_mem (by omega))
        exact ⟨(bS B).getD (k - 1) 0, by omega, by rw [if_pos c, if_pos (by omega), bit6 _ (by omega)]⟩
      · exact ⟨6, by omega, by rw [if_neg c]; rfl⟩
    have hR : ∃ i, i < 7 ∧ sitR (bS B) k = nI (if i < 6 then 2 ^ i else 0) := by
      unfold sitR
      by_cases c : k + 1 < (bS B).length
      · have hx : (bS B).getD (k + 1) 0 < bM B := hI.2.2.1 _ (getD_mem (by omega))
        exact ⟨(bS B).getD (k + 1) 0, by omega, by rw [if_pos c, if_pos (by omega), bit6 _ (by omega)]⟩
      · exact ⟨6, by omega, by rw [if_neg c]; rfl⟩
    obtain ⟨i, hi, e1⟩ := hL
    obtain ⟨j, hj, e2⟩ := hR
    exact ⟨i, hi, j, hj, by rw [e1, e2, or64 _ (bd i) _ (bd j)]⟩
theorem sitAnd {B : AB} (hI : Inv B) (m : Nat) : ∃ w, w < 64 ∧ sitI B m &&& stoodI B m = nI w ∧ onesN w ≤ 2 := by
  obtain ⟨i, hi, j, hj, e⟩ := sitX hI m
  obtain ⟨c, hc, e2⟩ := isSet_stood hI m
  have bd : ∀ i, (if i < 6 then 2 ^ i else 0) < 64 := by
    intro i
    split
    · exact Nat.lt_of_le_of_lt (Nat.pow_le_pow_right (by omega) (show i ≤ 5 by omega)) (by decide)
    · omega
  have b2 : ((if i < 6 then 2 ^ i else 0) ||| (if j < 6 then 2 ^ j else 0)) < 64 := Nat.or_lt_two_pow (n := 6) (bd i) (bd j)
  refine ⟨_, ?_, by rw [e, e2, and64 _ b2 _ hc], two6 i hi j hj c hc⟩
  exact Nat.and_lt_two_pow (n := 6) _ hc
theorem failN_4 {B : AB} (m : Nat) (h : bK B m = 4) : failN B m = 4 - onesN (sitI B m &&& stoodI B m).toNatClampNeg := by
  unfold failN; rw [h]; rfl
theorem pc_isAtEnd {b : BT} {B : AB} (h : CR b B) (hI : Inv B) {m : Nat} (hmem : m ∈ bS B) {Q : Int32 → Prop} (hQ : Q (b2i (endB B m))) : wp_X6_isAtEnd b (nI m) Q := by
  have h6 := hI.1
  have hl := hI.len
  have hm := hI.2.2.1 m hmem
  have hk := idx_lt hmem
  unfold wp_X6_isAtEnd
  refine ps_X6_seatOf h hI (by omega) ?_
  simp only [seatI, if_pos hmem]
  rw [h.2.1]
  obtain ⟨k, hke⟩ : ∃ k, k = (bS B).idxOf m := ⟨_, rfl⟩
  unfold endB at hQ
  rw [← hke] at hk hQ ⊢
  refine ⟨fun c => ?_, fun c => ⟨fun c2 => ?_, fun c2 => ?_⟩⟩
  · simp (disch := omega) only [il0, il1, il2, il3, il4, il5, il6, il7, il8, il9, il10, il15, il16, il22, il24, il30, il31, il40, il41, il60, il70, il146, il161, il9999, pk_mul, nI_add, pk_sub, nI_clamp, nI_leI, nI_ltI, nI_eq] at c
    rw [show (decide (k = 0) || decide (k + 1 = (bS B).length)) = true by simp [c]] at hQ
    exact hQ
  · simp (disch := omega) only [il0, il1, il2, il3, il4, il5, il6, il7, il8, il9, il10, il15, il16, il22, il24, il30, il31, il40, il41, il60, il70, il146, il161, il9999, pk_mul, nI_add, pk_sub, nI_clamp, nI_leI, nI_ltI, nI_eq] at c c2
    rw [show (decide (k = 0) || decide (k + 1 = (bS B).length)) = false by simp; omega] at hQ
    exact hQ
  · simp (disch := omega) only [il0, il1, il2, il3, il4, il5, il6, il7, il8, il9, il10, il15, il16, il22, il24, il30, il31, il40, il41, il60, il70, il146, il161, il9999, pk_mul, nI_add, pk_sub, nI_clamp, nI_leI, nI_ltI, nI_eq] at c2
    rw [show (decide (k = 0) || decide (k + 1 = (bS B).length)) = true by simp; omega] at hQ
    exact hQ
theorem pc_hale {b : BT} {B : AB} (h : CR b B) (hI : Inv B) {p : Int32} {Q : Int32 → Prop} (hQ : Q (nI (haleN B))) : wp_X2_fails b p Q := by
  have hy := hI.2.2.2.2.2.2.2.1
  unfold wp_X2_fails wp_X1_fails
  rw [h.2.2.1, rem2 (by omega)]
  unfold haleN at hQ
  refine ⟨fun c => ?_, fun c => ?_⟩
  · rw [if_neg c] at hQ; exact hQ
  · rw [if_pos c] at hQ; exact hQ
theorem pc_hale4 {b : BT} {B : AB} (h : CR b B) (hI : Inv B) {p : Int32} {Q : Int32 → Prop} (hQ : Q (nI (haleN B))) : wp_X2_fails_4 b p Q := pc_hale (p := p) h hI hQ
theorem haleN_le (B : AB) : haleN B ≤ 2 := by unfold haleN; split <;> omega
theorem pc_failsOf {b : BT} {B : AB} (h : CR b B) (hI : Inv B) {m : Nat} (hm : m < bM B) {Q : Int32 → Prop} (hQ : Q (if m ∈ bS B then nI (failN B m) else 0)) : wp_X0_failsOf b (nI m) Q := by
  have h6 := hI.1
  have hl := hI.len
  unfold wp_X0_failsOf
  refine ps_X6_seatOf h hI (by omega) ?_
  by_cases hmem : m ∈ bS B
  · have hk := idx_lt hmem
    simp only [seatI, if_pos hmem]
    rw [if_pos hmem] at hQ
    refine ⟨fun _ => ⟨vp_in_nI (by omega) (by omega), ?_⟩, fun c => absurd (nI_pos' (by omega)) c⟩
    rw [nI_clamp (by omega), h.2.2.2.2.2.2.1 m hm]
    have hkd := hI.2.2.2.2.2.1 m hm
    refine ⟨vp_in_nI (by omega) (by omega), fun c => ?_, fun c => ?_, fun c => ?_, fun c => ?_, fun c => ?_⟩ <;> simp (disch := omega) only [il0, il1, il2, il3, il4, il5, il6, il7, il8, il9, il10, il15, il16, il22, il24, il30, il31, il40, il41, il60, il70, il146, il161, il9999, pk_mul, nI_add, pk_sub, nI_clamp, nI_leI, nI_ltI, nI_eq] at c
    · unfold failN at hQ; rw [c] at hQ; exact hQ
    · unfold failN at hQ; rw [c] at hQ; exact pc_hale h hI hQ
    · unfold failN at hQ; rw [c] at hQ; exact hQ
    · unfold failN at hQ; rw [c] at hQ
      unfold wp_X4_fails
      refine pc_hale4 h hI (pc_isAtEnd h hI hmem ⟨fun c2 => ?_, fun c2 => ?_⟩)
      · rw [b2i_0] at c2
        simp only [c2] at hQ; exact hQ
      · rw [b2i_n0] at c2
        simp only [c2] at hQ
        rw [nI_1]; exact hQ
    · rw [failN_4 m c] at hQ
      obtain ⟨w, hw, e, hw2⟩ := sitAnd hI m
      rw [e, nI_clamp (by omega)] at hQ
      unfold wp_X5_fails wp_X3_fails_5 wp_X1_fails
      refine pc_sitSet h hI (by omega) (pc_stoodSet h hI hm ?_)
      rw [e]
      refine pj_bitCount hw ?_
      have e2 : (2 : Int32) * 2 - nI (onesN w) = nI (4 - onesN w) := by
        rw [show (2 : Int32) * 2 = nI 4 from rfl, pk_sub (by omega)]
      rw [e2, il0, jmax_nI (by omega) (by omega), Nat.max_eq_right (by omega)]
      exact hQ
  · simp only [seatI, if_neg hmem]
    rw [if_neg hmem] at hQ
    exact ⟨fun c => absurd c (by decide), fun _ => hQ⟩
theorem pm_fails {s : Nat → Int32} {B : AB} (h : MR s B) (hI : Inv B) {m : Nat} (hmem : m ∈ bS B) {Q : Int32 → Prop} (hQ : Q (nI (failN B m))) : wp_X9_fails s (nI m) Q := by
  have h6 := hI.1
  have hl := hI.len
  have hm := hI.2.2.1 m hmem
  have hk := idx_lt hmem
  have hy := hI.2.2.2.2.2.2.2.1
  have hkd := hI.2.2.2.2.2.1 m hm
  have fin : ∀ y : Int32, y = nI (haleN B) → wp_X9_fails_16 s (nI m) Q y := by
    intro y hy
    unfold wp_X9_fails_16
    refine pm_seatOf h hI (by omega) ?_
    simp only [seatI, if_pos hmem]
    simp (disch := omega) only [il0, il1, il2, il3, il4, il5, il6, il7, il8, il9, il10, il15, il16, il22, il24, il30, il31, il40, il41, il60, il70, il146, il161, il9999, pk_mul, nI_add, pk_sub, nI_clamp, nI_leI, nI_ltI, nI_eq]
    refine ⟨vp_in_nI (by omega) (by omega), ?_⟩
    intro k hke
    rw [h.2.2.2.2.2.2.1 m hm] at hke
    subst hke
    rw [h.2.1]
    refine ⟨fun c => ?_, fun c => ?_, fun c => ?_, fun c => ?_, fun c => ?_⟩
    · simp (disch := omega) only [il0, il1, il2, il3, il4, il5, il6, il7, il8, il9, il10, il15, il16, il22, il24, il30, il31, il40, il41, il60, il70, il146, il161, il9999, pk_mul, nI_add, pk_sub, nI_clamp, nI_leI, nI_ltI, nI_eq] at c
      unfold failN at hQ; rw [c] at hQ; exact hQ
    · simp (disch := omega) only [il0, il1, il2, il3, il4, il5, il6, il7, il8, il9, il10, il15, il16, il22, il24, il30, il31, il40, il41, il60, il70, il146, il161, il9999, pk_mul, nI_add, pk_sub, nI_clamp, nI_leI, nI_ltI, nI_eq] at c
      unfold failN at hQ; rw [c] at hQ; rw [hy]; exact hQ
    · simp (disch := omega) only [il0, il1, il2, il3, il4, il5, il6, il7, il8, il9, il10, il15, il16, il22, il24, il30, il31, il40, il41, il60, il70, il146, il161, il9999, pk_mul, nI_add, pk_sub, nI_clamp, nI_leI, nI_ltI, nI_eq] at c
      unfold failN at hQ; rw [c] at hQ; exact hQ
    · simp (disch := omega) only [il0, il1, il2, il3, il4, il5, il6, il7, il8, il9, il10, il15, il16, il22, il24, il30, il31, il40, il41, il60, il70, il146, il161, il9999, pk_mul, nI_add, pk_sub, nI_clamp, nI_leI, nI_ltI, nI_eq] at c
      unfold failN at hQ; rw [c] at hQ
      unfold endB at hQ
      obtain ⟨k, hke⟩ : ∃ k, k = (bS B).idxOf m := ⟨_, rfl⟩
      rw [← hke] at hk hQ ⊢
      rw [hy, ← il1, nI_1]
      refine ⟨fun c => ?_, fun c => ⟨fun c2 => ?_, fun c2 => ?_⟩⟩
      · try simp (disch := omega) only [il0, il1, il2, il3, il4, il5, il6, il7, il8, il9, il10, il15, il16, il22, il24, il30, il31, il40, il41, il60, il70, il146, il161, il9999, pk_mul, nI_add, pk_sub, nI_clamp, nI_leI, nI_ltI, nI_eq] at c
        rw [show (decide (k = 0) || decide (k + 1 = (bS B).length)) = true by simp [c]] at hQ
        exact hQ
      · try simp (disch := omega) only [il0, il1, il2, il3, il4, il5, il6, il7, il8, il9, il10, il15, il16, il22, il24, il30, il31, il40, il41, il60, il70, il146, il161, il9999, pk_mul, nI_add, pk_sub, nI_clamp, nI_leI, nI_ltI, nI_eq] at c
        try simp (disch := omega) only [il0, il1, il2, il3, il4, il5, il6, il7, il8, il9, il10, il15, il16, il22, il24, il30, il31, il40, il41, il60, il70, il146, il161, il9999, pk_mul, nI_add, pk_sub, nI_clamp, nI_leI, nI_ltI, nI_eq] at c2
        rw [show (decide (k = 0) || decide (k + 1 = (bS B).length)) = false by simp; omega] at hQ
        exact hQ
      · try simp (disch := omega) only [il0, il1, il2, il3, il4, il5, il6, il7, il8, il9, il10, il15, il16, il22, il24, il30, il31, il40, il41, il60, il70, il146, il161, il9999, pk_mul, nI_add, pk_sub, nI_clamp, nI_leI, nI_ltI, nI_eq] at c2
        rw [show (decide (k = 0) || decide (k + 1 = (bS B).length)) = true by simp; omega] at hQ
        exact hQ
    · simp (disch := omega) only [il0, il1, il2, il3, il4, il5, il6, il7, il8, il9, il10, il15, il16, il22, il24, il30, il31, il40, il41, il60, il70, il146, il161, il9999, pk_mul, nI_add, pk_sub, nI_clamp, nI_leI, nI_ltI, nI_eq] at c
      have c4 : bK B m = 4 := by omega
      rw [failN_4 m c4] at hQ
      obtain ⟨w, hw, e, hw2⟩ := sitAnd hI m
      rw [e, nI_clamp (by omega)] at hQ
      refine pm_allSitBy h hI (by omega) (pm_allStoodBy h hI hm ?_)
      rw [e]
      refine pm_ones hw ?_
      rw [pk_sub (by omega)]
      exact hQ
  unfold wp_X9_fails
  rw [h.2.2.1, rem2 (by omega)]
  refine ⟨fun c => fin 0 ?_, fun c => fin 2 ?_⟩
  · unfold haleN; rw [if_neg c]; rfl
  · unfold haleN; rw [if_pos c]; rfl
theorem failN_le {B : AB} (hI : Inv B) {m : Nat} (hm : m < bM B) : failN B m ≤ 4 := by
  have := haleN_le B
  unfold failN
  split
  · omega
  · omega
  · omega
  · split <;> omega
  · omega
