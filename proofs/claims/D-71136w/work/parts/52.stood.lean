/-! pure: who stood by whom -/
set_option maxRecDepth 100000
def btw (x a c : Nat) : Bool := (decide (a < x) && decide (x < c)) || (decide (c < x) && decide (x < a))
def satB (B : AB) (m o t : Nat) : Bool := (List.range (bM B)).all (fun q => !(btw (bP B (3 * q + t)) (bP B (3 * m + t)) (bP B (3 * o + t))))
def sbB (B : AB) (m o : Nat) : Bool := (List.range 3).any (fun t => satB B m o t)
def ntk (B : AB) (t lo k : Nat) : Bool := (List.range k).all (fun p => decide (p ≤ lo) || !takenB B t p)
theorem ntk_succ {B : AB} {t lo k : Nat} (h : lo < k) : ntk B t lo (k + 1) = (ntk B t lo k && !takenB B t k) := by
  unfold ntk
  rw [List.range_succ, List.all_append]
  have : ¬ k ≤ lo := by omega
  simp [this]
theorem ntk_0 {B : AB} {t lo : Nat} : ntk B t lo (lo + 1) = true := by
  unfold ntk
  rw [List.all_eq_true]
  intro p hp
  have := List.mem_range.mp hp
  simp
  omega
theorem ntk_sat {B : AB} {m o t k lo hi : Nat} (hlo : lo = min (bP B (3 * m + t)) (bP B (3 * o + t))) (hhi : hi = max (bP B (3 * m + t)) (bP B (3 * o + t))) (h1 : hi ≤ k) (h2 : k ≤ max hi (lo + 1)) : ntk B t lo k = satB B m o t := by
  rw [Bool.eq_iff_iff]
  unfold ntk satB
  simp only [List.all_eq_true, List.mem_range, Bool.or_eq_true, decide_eq_true_eq, Bool.not_eq_true', btw, Bool.or_eq_false_iff, Bool.and_eq_false_iff, decide_eq_false_iff_not]
  constructor
  · intro h q hq
    have h3 := h (bP B (3 * q + t))
    have ht : takenB B t (bP B (3 * q + t)) = true := takenB_iff.mpr ⟨q, hq, rfl⟩
    rw [ht] at h3
    simp only [Bool.true_eq_false, or_false] at h3
    by_cases hc : bP B (3 * q + t) < k
    · have := h3 hc
      omega
    · omega
  · intro h p hp
    by_cases hc : p ≤ lo
    · exact Or.inl hc
    · refine Or.inr ?_
      cases hb : takenB B t p with
      | false => rfl
      | true =>
        obtain ⟨q, hq, e⟩ := takenB_iff.mp hb
        have := h q hq
        omega
theorem jmin_nI {a c : Nat} (ha : a < 2 ^ 31) (hc : c < 2 ^ 31) : jmin (nI a) (nI c) = nI (min a c) := by
  unfold jmin
  simp only [nI_ltI hc ha]
  split
  · rw [Nat.min_eq_right (by omega)]
  · rw [Nat.min_eq_left (by omega)]
theorem jmax_nI {a c : Nat} (ha : a < 2 ^ 31) (hc : c < 2 ^ 31) : jmax (nI a) (nI c) = nI (max a c) := by
  unfold jmax
  simp only [nI_ltI ha hc]
  split
  · rw [Nat.max_eq_right (by omega)]
  · rw [Nat.max_eq_left (by omega)]
theorem pc_stoodAt {b : BT} {B : AB} (h : CR b B) (hI : Inv B) {m o t : Nat} (hm : m < bM B) (ho : o < bM B) (ht : t < 3) {Q : Int32 → Prop} (hQ : Q (b2i (satB B m o t))) : wp_X6_stoodAt b (nI m) (nI o) (nI t) Q := by
  have h6 := hI.1
  have hpm := pl_lt hI hm ht
  have hpo := pl_lt hI ho ht
  unfold wp_X6_stoodAt
  refine pc_placeOf h hI hm ht (pc_placeOf h hI ho ht ?_)
  intro v3 e3
  refine pc_placeOf h hI hm ht (pc_placeOf h hI ho ht ?_)
  intro v6 e6 v7 e7
  rw [jmin_nI (by omega) (by omega)] at e3
  rw [jmax_nI (by omega) (by omega)] at e6
  rw [e3, nI_1] at e7
  obtain ⟨lo, hlo⟩ : ∃ x, x = min (bP B (3 * m + t)) (bP B (3 * o + t)) := ⟨_, rfl⟩
  obtain ⟨hi, hhi⟩ : ∃ x, x = max (bP B (3 * m + t)) (bP B (3 * o + t)) := ⟨_, rfl⟩
  rw [← hlo] at e7
  rw [← hhi] at e6
  subst e6 e7
  refine ⟨hi + 2, ?_⟩
  have key : ∀ n k (a : Int32), lo < k → k ≤ max hi (lo + 1) → max hi (lo + 1) - k < n → a = b2i (ntk B t lo k) → wp_X6_stoodAt_43 b (nI m) (nI o) (nI t) Q n (nI hi) a (nI k) := by
    intro n
    induction n with
    | zero => intro k a _ _ h2; omega
    | succ n ih =>
      intro k a hk hk2 hn ha
      unfold wp_X6_stoodAt_43
      refine ⟨fun c => ?_, fun c => ?_⟩
      · simp (disch := omega) only [il0, il1, il2, il3, il4, il5, il6, il7, il8, il9, il10, il15, il16, il22, il24, il30, il31, il40, il41, il60, il70, il146, il161, il9999, pk_mul, nI_add, pk_sub, nI_clamp, nI_leI, nI_ltI, nI_eq] at c
        rw [ha, ntk_sat hlo hhi c hk2]
        exact ⟨b2i_z _, hQ⟩
      · simp (disch := omega) only [il0, il1, il2, il3, il4, il5, il6, il7, il8, il9, il10, il15, il16, il22, il24, il30, il31, il40, il41, il60, il70, il146, il161, il9999, pk_mul, nI_add, pk_sub, nI_clamp, nI_leI, nI_ltI, nI_eq] at c
        have ih' := fun a ha => ih (k + 1) a (by omega) (by omega) (by omega) ha
        rw [ntk_succ hk] at ih'
        rw [nI_1]
        refine ⟨fun c2 => ?_, fun c2 => ?_⟩
        · rw [ha, b2i_0] at c2
          rw [c2] at ih'
          exact ih' _ rfl
        · rw [ha, b2i_n0] at c2
          rw [c2] at ih'
          refine pc_manAt h hI ht (by omega) (fun r hr => ⟨fun c3 => ?_, fun c3 => ?_⟩)
          · rw [hr.mp c3] at ih'
            exact ih' _ rfl
          · have : takenB B t k = false := by
              cases hb : takenB B t k with
              | false => rfl
              | true => exact absurd (hr.mpr hb) c3
            rw [this] at ih'
            exact ih' _ rfl
  exact key _ _ _ (by omega) (by omega) (by omega) (by rw [ntk_0]; rfl)
theorem any_succ (f : Nat → Bool) (k : Nat) : (List.range (k + 1)).any f = ((List.range k).any f || f k) := by
  rw [List.range_succ, List.any_append]; simp
theorem all_succ (f : Nat → Bool) (k : Nat) : (List.range (k + 1)).all f = ((List.range k).all f && f k) := by
  rw [List.range_succ, List.all_append]; simp
theorem pc_stoodBy {b : BT} {B : AB} (h : CR b B) (hI : Inv B) {m o : Nat} (hm : m < bM B) (ho : o < bM B) {Q : Int32 → Prop} (hQ : Q (b2i (decide (m ≠ o) && sbB B m o))) : wp_X6_stoodBy b (nI m) (nI o) Q := by
  have h6 := hI.1
  unfold wp_X6_stoodBy
  refine loopF (fun n a k => wp_X6_stoodBy_5 b (nI m) (nI o) Q n a k) 3 (by omega) (fun a k => b2i ((List.range (k + 1)).any (fun t => satB B m o t))) (fun k a => a = b2i ((List.range k).any (fun t => satB B m o t))) ?_ ?_ ?_ _ rfl
  · intro n a ha
    unfold wp_X6_stoodBy_5
    refine ⟨fun _ => ⟨fun c => ?_, fun c => ?_⟩, fun c => absurd (by decide) c⟩
    · simp (disch := omega) only [il0, il1, il2, il3, il4, il5, il6, il7, il8, il9, il10, il15, il16, il22, il24, il30, il31, il40, il41, il60, il70, il146, il161, il9999, pk_mul, nI_add, pk_sub, nI_clamp, nI_leI, nI_ltI, nI_eq] at c
      subst c
      simpa [b2i] using hQ
    · simp (disch := omega) only [il0, il1, il2, il3, il4, il5, il6, il7, il8, il9, il10, il15, il16, il22, il24, il30, il31, il40, il41, il60, il70, il146, il161, il9999, pk_mul, nI_add, pk_sub, nI_clamp, nI_leI, nI_ltI, nI_eq] at c
      have e : (decide (m ≠ o) && sbB B m o) = (List.range 3).any (fun t => satB B m o t) := by simp [c, sbB]
      rw [e, ← ha] at hQ
      refine ⟨fun c2 => by rw [← c2]; exact hQ, fun c2 => ?_⟩
      rw [ha, b2i_n0] at c2
      rw [ha, c2] at hQ
      exact hQ
  · intro n a k hk ha hn
    have hn := hn rfl
    rw [any_succ] at hn
    unfold wp_X6_stoodBy_5
    rw [nI_1]
    refine ⟨fun c => ?_, fun _ => ⟨fun c2 => ?_, fun c2 => ?_⟩⟩
    · simp (disch := omega) only [il0, il1, il2, il3, il4, il5, il6, il7, il8, il9, il10, il15, il16, il22, il24, il30, il31, il40, il41, il60, il70, il146, il161, il9999, pk_mul, nI_add, pk_sub, nI_clamp, nI_leI, nI_ltI, nI_eq] at c
      omega
    · rw [ha, b2i_n0] at c2
      rw [c2] at hn
      exact hn
    · rw [ha, b2i_0] at c2
      rw [c2] at hn
      refine pc_stoodAt h hI hm ho hk ⟨fun c3 => ?_, fun c3 => ?_⟩
      · rw [b2i_0] at c3
        rw [c3] at hn
        exact hn
      · rw [b2i_n0] at c3
        rw [c3] at hn
        exact hn
  · intro k a _ _
    rfl
theorem pm_stoodBy49 {s : Nat → Int32} {B : AB} (h : MR s B) (hI : Inv B) {m o t : Nat} (hm : m < bM B) (ho : o < bM B) (ht : t < 3) {p1 p2 : Int32} {Q : Int32 → Prop} {K : Int32 → Int32 → Prop} {f : Bool} (hK : K (b2i (f || satB B m o t)) (nI t + 1)) :
    ∃ n, wp_X9_stoodBy_49 s p1 p2 Q K n (b2i f) (nI t) (nI (bP B (3 * m + t))) (nI (bP B (3 * o + t))) 1 0 := by
  have h6 := hI.1
  have hpm := pl_lt hI hm ht
  have hpo := pl_lt hI ho ht
  refine loopF (fun n a k => wp_X9_stoodBy_49 s p1 p2 Q K n (b2i f) (nI t) (nI (bP B (3 * m + t))) (nI (bP B (3 * o + t))) a k) (bM B) (by omega) (fun a k => b2i ((List.range (k + 1)).all (fun q => !(btw (bP B (3 * q + t)) (bP B (3 * m + t)) (bP B (3 * o + t)))))) (fun k a => a = b2i ((List.range k).all (fun q => !(btw (bP B (3 * q + t)) (bP B (3 * m + t)) (bP B (3 * o + t)))))) ?_ ?_ ?_ _ rfl
  · intro n a ha
    unfold wp_X9_stoodBy_49
    rw [h.1]
    have ha : a = b2i (satB B m o t) := ha
    refine ⟨fun _ => ⟨fun c => ?_, fun c => ⟨fun c2 => ?_, fun c2 => ?_⟩⟩, fun c => by simp (disch := omega) only [il0, il1, il2, il3, il4, il5, il6, il7, il8, il9, il10, il15, il16, il22, il24, il30, il31, il40, il41, il60, il70, il146, il161, il9999, pk_mul, nI_add, pk_sub, nI_clamp, nI_leI, nI_ltI, nI_eq] at c; omega⟩
    · rw [b2i_n0] at c
      rw [c] at hK
      exact hK
    · rw [b2i_0] at c
      rw [ha, b2i_0] at c2
      rw [c, c2] at hK
      exact hK
    · rw [b2i_0] at c
      rw [ha, b2i_n0] at c2
      rw [c, c2] at hK
      exact hK
  · intro n a k hk ha hn
    have hn := hn rfl
    rw [all_succ] at hn
    unfold wp_X9_stoodBy_49
    rw [h.1, nI_1]
    have hpk := pl_lt hI hk ht
    refine ⟨fun c => by simp (disch := omega) only [il0, il1, il2, il3, il4, il5, il6, il7, il8, il9, il10, il15, il16, il22, il24, il30, il31, il40, il41, il60, il70, il146, il161, il9999, pk_mul, nI_add, pk_sub, nI_clamp, nI_leI, nI_ltI, nI_eq] at c; omega, fun _ => ?_⟩
    simp (disch := omega) only [il0, il1, il2, il3, il4, il5, il6, il7, il8, il9, il10, il15, il16, il22, il24, il30, il31, il40, il41, il60, il70, il146, il161, il9999, pk_mul, nI_add, pk_sub, nI_clamp, nI_leI, nI_ltI, nI_eq]
    refine ⟨vp_in_nI (by omega) (by omega), ?_⟩
    intro v hv
    rw [Nat.add_assoc, h.2.2.2.2.2.2.2 _ (by omega)] at hv
    subst hv
    rw [← il0]
    have fin : ∀ c : Bool, c = !(btw (bP B (3 * k + t)) (bP B (3 * m + t)) (bP B (3 * o + t))) → ¬ a = 0 → wp_X9_stoodBy_49 s p1 p2 Q K n (b2i f) (nI t) (nI (bP B (3 * m + t))) (nI (bP B (3 * o + t))) (b2i c) (nI (k + 1)) := by
      intro c hc h2
      rw [ha, b2i_n0] at h2
      rw [h2, ← hc] at hn
      simpa using hn
    have fin1 := fin true
    have fin0 := fin false
    have e1 : nI 1 = b2i true := rfl
    have e0 : (0 : Int32) = b2i false := rfl
    refine ⟨fun c2 => ?_, fun c2 => ?_⟩
    · rw [ha, b2i_0] at c2
      rw [c2] at hn
      exact hn
    · have fin1 := fun hc => fin1 hc c2
      have fin0 := fun hc => fin0 hc c2
      simp only [btw] at fin1 fin0
      simp (disch := omega) only [nI_leI, nI_ltI]
      rw [e1, e0]
      refine ⟨fun c3 => ⟨fun c4 => fin1 ?_, fun c4 => ⟨fun c5 => fin0 ?_, fun c5 => fin1 ?_⟩⟩, fun c3 => ⟨fun c4 => fin0 ?_, fun c4 => ⟨fun c5 => fin1 ?_, fun c5 => ⟨fun c6 => fin0 ?_, fun c6 => fin1 ?_⟩⟩⟩⟩ <;>
        simp only [Bool.true_eq, Bool.false_eq, Bool.not_eq_true', Bool.not_eq_false', Bool.or_eq_false_iff, Bool.and_eq_false_iff, Bool.or_eq_true, Bool.and_eq_true, decide_eq_false_iff_not, decide_eq_true_eq] <;> omega
  · intro k a _ _
    rfl
theorem pm_stoodBy {s : Nat → Int32} {B : AB} (h : MR s B) (hI : Inv B) {m o : Nat} (hm : m < bM B) (ho : o < bM B) {Q : Int32 → Prop} (hQ : Q (b2i (sbB B m o))) : wp_X9_stoodBy s (nI m) (nI o) Q := by
  have h6 := hI.1
  unfold wp_X9_stoodBy
  refine loopF (fun n a k => wp_X9_stoodBy_5 s (nI m) (nI o) Q n a k) 3 (by omega) (fun a k => b2i ((List.range (k + 1)).any (fun t => satB B m o t))) (fun k a => a = b2i ((List.range k).any (fun t => satB B m o t))) ?_ ?_ ?_ _ rfl
  · intro n a ha
    unfold wp_X9_stoodBy_5
    refine ⟨fun _ => ⟨by rw [ha]; exact b2i_z _, by rw [ha]; exact hQ⟩, fun c => absurd (by decide) c⟩
  · intro n a k hk ha hn
    have hn := hn rfl
    rw [any_succ] at hn
    unfold wp_X9_stoodBy_5
    refine ⟨fun c => by simp (disch := omega) only [il0, il1, il2, il3, il4, il5, il6, il7, il8, il9, il10, il15, il16, il22, il24, il30, il31, il40, il41, il60, il70, il146, il161, il9999, pk_mul, nI_add, pk_sub, nI_clamp, nI_leI, nI_ltI, nI_eq] at c; omega, fun _ => ?_⟩
    simp (disch := omega) only [il0, il1, il2, il3, il4, il5, il6, il7, il8, il9, il10, il15, il16, il22, il24, il30, il31, il40, il41, il60, il70, il146, il161, il9999, pk_mul, nI_add, pk_sub, nI_clamp, nI_leI, nI_ltI, nI_eq]
    refine ⟨vp_in_nI (by omega) (by omega), ?_⟩
    intro v hv
    refine ⟨vp_in_nI (by omega) (by omega), ?_⟩
    intro v2 hv2
    rw [Nat.add_assoc, h.2.2.2.2.2.2.2 _ (by omega)] at hv hv2
    subst hv hv2 ha
    exact pm_stoodBy49 h hI hm ho hk (by rw [nI_1]; exact hn)
  · intro k a _ _
    rfl
/-- all that stood by him, as a set -/
def stoodI (B : AB) (m : Nat) : Int32 := (List.range (bM B)).foldl (fun a o => a ||| (if (decide (m ≠ o) && sbB B m o) = true then ((1 : Int32) <<< (nI o &&& 31)) else 0)) 0
def stoodK (B : AB) (m k : Nat) : Int32 := (List.range k).foldl (fun a o => a ||| (if (decide (m ≠ o) && sbB B m o) = true then ((1 : Int32) <<< (nI o &&& 31)) else 0)) 0
theorem stoodK_succ (B : AB) (m k : Nat) : stoodK B m (k + 1) = stoodK B m k ||| (if (decide (m ≠ k) && sbB B m k) = true then ((1 : Int32) <<< (nI k &&& 31)) else 0) := by
  unfold stoodK
  rw [List.range_succ, List.foldl_append]; rfl
theorem pc_stoodSet {b : BT} {B : AB} (h : CR b B) (hI : Inv B) {m : Nat} (hm : m < bM B) {Q : Int32 → Prop} (hQ : Q (stoodI B m)) : wp_X6_stoodSet b (nI m) Q := by
  have h6 := hI.1
  unfold wp_X6_stoodSet
  refine loopF (fun n a k => wp_X6_stoodSet_4 b (nI m) Q n a k) (bM B) (by omega) (fun a k => stoodK B m (k + 1)) (fun k a => a = stoodK B m k) ?_ ?_ ?_ _ rfl
  · intro n a ha
    unfold wp_X6_stoodSet_4
    rw [h.1, ha]
    exact ⟨fun _ => hQ, fun c => by simp (disch := omega) only [il0, il1, il2, il3, il4, il5, il6, il7, il8, il9, il10, il15, il16, il22, il24, il30, il31, il40, il41, il60, il70, il146, il161, il9999, pk_mul, nI_add, pk_sub, nI_clamp, nI_leI, nI_ltI, nI_eq] at c; omega⟩
  · intro n a k hk ha hn
    have hn := hn rfl
    rw [stoodK_succ] at hn
    unfold wp_X6_stoodSet_4
    rw [h.1, nI_1]
    refine ⟨fun c => by simp (disch := omega) only [il0, il1, il2, il3, il4, il5, il6, il7, il8, il9, il10, il15, il16, il22, il24, il30, il31, il40, il41, il60, il70, il146, il161, il9999, pk_mul, nI_add, pk_sub, nI_clamp, nI_leI, nI_ltI, nI_eq] at c; omega, fun _ => pc_stoodBy h hI hm hk ⟨fun c v hv => ?_, fun c v hv => ?_⟩⟩
    · rw [b2i_0] at c
      rw [hv, ha]
      rw [c] at hn
      exact hn
    · rw [b2i_n0] at c
      rw [hv, ha]
      rw [c] at hn
      exact hn
  · intro k a _ _
    rfl
theorem pm_allStoodBy {s : Nat → Int32} {B : AB} (h : MR s B) (hI : Inv B) {m : Nat} (hm : m < bM B) {Q : Int32 → Prop} (hQ : Q (stoodI B m)) : wp_X9_allStoodBy s (nI m) Q := by
  have h6 := hI.1
  unfold wp_X9_allStoodBy
  refine loopF (fun n a k => wp_X9_allStoodBy_4 s (nI m) Q n a k) (bM B) (by omega) (fun a k => stoodK B m (k + 1)) (fun k a => a = stoodK B m k) ?_ ?_ ?_ _ rfl
  · intro n a ha
    unfold wp_X9_allStoodBy_4
    rw [h.1, ha]
    exact ⟨fun _ => hQ, fun c => by simp (disch := omega) only [il0, il1, il2, il3, il4, il5, il6, il7, il8, il9, il10, il15, il16, il22, il24, il30, il31, il40, il41, il60, il70, il146, il161, il9999, pk_mul, nI_add, pk_sub, nI_clamp, nI_leI, nI_ltI, nI_eq] at c; omega⟩
  · intro n a k hk ha hn
    have hn := hn rfl
    rw [stoodK_succ] at hn
    unfold wp_X9_allStoodBy_4
    rw [h.1, nI_1]
    refine ⟨fun c => by simp (disch := omega) only [il0, il1, il2, il3, il4, il5, il6, il7, il8, il9, il10, il15, il16, il22, il24, il30, il31, il40, il41, il60, il70, il146, il161, il9999, pk_mul, nI_add, pk_sub, nI_clamp, nI_leI, nI_ltI, nI_eq] at c; omega, fun _ => ⟨fun c v hv => ?_, fun c => pm_stoodBy h hI hm hk ⟨fun c2 v hv => ?_, fun c2 v hv => ?_⟩⟩⟩
    · rw [nI_eq (by omega) (by omega)] at c
      have e : (decide (m ≠ k) && sbB B m k) = false := by simp [c]
      rw [hv, ha]
      rw [e] at hn
      exact hn
    · rw [b2i_0] at c2
      have e : (decide (m ≠ k) && sbB B m k) = false := by simp [c2]
      rw [hv, ha]
      rw [e] at hn
      exact hn
    · rw [nI_eq (by omega) (by omega)] at c
      rw [b2i_n0] at c2
      have e : (decide (m ≠ k) && sbB B m k) = true := by simp [c2]; omega
      rw [hv, ha]
      rw [e] at hn
      exact hn
  · intro k a _ _
    rfl
