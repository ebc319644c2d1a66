/-! pure: a year passes, the model -/
set_option maxRecDepth 100000
def benchW (l : List Nat) : Nat := l.foldl (fun a x => a ||| 2 ^ x) 0
theorem pow6 {x : Nat} (h : x < 6) : 2 ^ x < 64 := Nat.lt_of_le_of_lt (Nat.pow_le_pow_right (by omega) (show x ≤ 5 by omega)) (by decide)
theorem bench_fold : ∀ (l : List Nat) (a : Nat), a < 64 → (∀ x ∈ l, x < 6) → l.foldl (fun a x => a ||| ((1 : Int32) <<< (nI x &&& 31))) (nI a) = nI (l.foldl (fun a x => a ||| 2 ^ x) a) ∧ l.foldl (fun a x => a ||| 2 ^ x) a < 64 ∧ ∀ k, (l.foldl (fun a x => a ||| 2 ^ x) a).testBit k = (a.testBit k || decide (k ∈ l))
  | [], a, ha, _ => ⟨rfl, ha, fun k => by simp⟩
  | x :: l, a, ha, hx => by
    have hx6 : x < 6 := hx x List.mem_cons_self
    have hb := Nat.or_lt_two_pow (n := 6) ha (pow6 hx6)
    have ih := bench_fold l (a ||| 2 ^ x) hb (fun y hy => hx y (List.mem_cons_of_mem _ hy))
    refine ⟨?_, ih.2.1, fun k => ?_⟩
    · rw [List.foldl_cons, List.foldl_cons, bit6 x hx6, or64 a ha _ (pow6 hx6)]
      exact ih.1
    · rw [List.foldl_cons, ih.2.2 k, Nat.testBit_or, Nat.testBit_two_pow]
      simp only [List.mem_cons]
      by_cases h1 : x = k
      · subst h1; simp
      · have : ¬ k = x := fun e => h1 e.symm
        simp [h1, this]
theorem has64 : ∀ w, w < 64 → ∀ k, k < 6 → hasB (nI w) k = w.testBit k := by decide +kernel
theorem hasBench {l : List Nat} (hx : ∀ x ∈ l, x < 6) {k : Nat} (hk : k < 6) : hasB (benchI l) k = decide (k ∈ l) := by
  have h := bench_fold l 0 (by omega) hx
  have e : benchI l = nI (l.foldl (fun a x => a ||| 2 ^ x) 0) := h.1
  rw [e, has64 _ h.2.1 k hk, h.2.2 k]
  simp
theorem pm_passes110 {s0 s : Nat → Int32} {B : AB} (h6 : bM B ≤ 6) (h : MR s (setL B (lifeY B))) (hI : Inv B) (hs : ∀ i, 40 ≤ i → s i = s0 i) {less : Nat → Int32} {Q : (Nat → Int32) × (Nat → Int32) → Prop} (hQ : ∀ s' f', MR s' (yearB B) → (∀ i, 40 ≤ i → s' i = s0 i) → Q (s', f')) : ∃ n, wp_X9_passes_110 Q n s less 0 0 := by
  have hl := hI.len
  let p : Nat → Bool := fun x => decide (0 < lifeY B x)
  refine loop_0 (σ := (Nat → Int32) × Int32) (fun n i t => wp_X9_passes_110 Q n t.1 less t.2 (nI i)) (fun k t => (∀ i, (i < 10 ∨ 16 ≤ i) → t.1 i = s i) ∧ t.2 = nI (((bS B).take k).filter p).length ∧ (∀ j, j < (((bS B).take k).filter p).length → t.1 (10 + j) = nI ((((bS B).take k).filter p).getD j 0)) ∧ ∀ j, k ≤ j → j < (bS B).length → t.1 (10 + j) = nI ((bS B).getD j 0)) (bS B).length (s, 0) ?_ ?_ ?_
  · exact ⟨fun _ _ => rfl, rfl, fun j hj => by simp at hj, fun j _ hj => h.2.2.2.2.1 j hj⟩
  · rintro n ⟨t, x⟩ ⟨e1, e2, e3, -⟩
    dsimp only at e1 e2 e3
    dsimp only
    unfold wp_X9_passes_110
    rw [List.take_length] at e2 e3
    refine ⟨fun _ => ?_, fun c => ?_⟩
    · intro f2 hf2 v3 hv3 f4 hf4
      have hfl : ((bS B).filter p).length ≤ (bS B).length := List.length_filter_le _ _
      have g1 : ∀ i, i ≠ 1 → i ≠ 2 → f4 i = t i := by
        intro i h1 h2
        rw [hf4, pk_un h2, hf2, pk_un h1]
      refine hQ _ _ ⟨?_, ?_, ?_, ?_, ?_, ?_, ?_, ?_⟩ ?_
      · rw [g1 0 (by omega) (by omega), e1 0 (by omega)]; exact h.1
      · rw [hf4, pk_un (by omega), hf2, pk_us, e2]; rfl
      · rw [hf4, pk_us, hv3, hf2, pk_un (by omega), e1 2 (by omega), h.2.2.1, nI_1]; rfl
      · rw [g1 3 (by omega) (by omega), e1 3 (by omega)]; exact h.2.2.2.1
      · intro k hk
        rw [g1 _ (by omega) (by omega)]; exact e3 k hk
      · intro m hm
        have hm : m < bM B := hm
        rw [g1 _ (by omega) (by omega), e1 _ (by omega)]; exact h.2.2.2.2.2.1 m hm
      · intro m hm
        have hm : m < bM B := hm
        rw [g1 _ (by omega) (by omega), e1 _ (by omega)]; exact h.2.2.2.2.2.2.1 m hm
      · intro m hm
        have hm : m < 3 * bM B := hm
        rw [g1 _ (by omega) (by omega), e1 _ (by omega)]; exact h.2.2.2.2.2.2.2 m hm
      · intro i hi
        rw [g1 _ (by omega) (by omega), e1 _ (by omega), hs i hi]
    · rw [e1 1 (by omega), h.2.1] at c
      have c : ¬ nI (bS B).length ≤ nI (bS B).length := c
      simp (disch := omega) only [il0, il1, il2, il3, il4, il5, il6, il7, il8, il9, il10, il15, il16, il22, il24, il30, il31, il40, il41, il60, il70, il146, il161, il9999, pk_mul, nI_add, pk_sub, nI_clamp, nI_leI, nI_ltI, nI_eq] at c
      omega
  · rintro n k ⟨t, x⟩ hk ⟨e1, e2, e3, e4⟩ ih
    dsimp only at e1 e2 e3 e4
    dsimp only at ih ⊢
    have hfl := filter_take_len p (bS B) k (by omega)
    have hxk : (bS B).getD k 0 < bM B := hI.2.2.1 _ (getD_mem hk)
    have hlk := lifeY_le hI hxk
    have hts := take_succ' hk
    unfold wp_X9_passes_110
    rw [nI_1]
    refine ⟨fun c => ?_, fun _ => ?_⟩
    · rw [e1 1 (by omega), h.2.1] at c
      have c : nI (bS B).length ≤ nI k := c
      simp (disch := omega) only [il0, il1, il2, il3, il4, il5, il6, il7, il8, il9, il10, il15, il16, il22, il24, il30, il31, il40, il41, il60, il70, il146, il161, il9999, pk_mul, nI_add, pk_sub, nI_clamp, nI_leI, nI_ltI, nI_eq] at c
      omega
    · rw [il10, nI_add, nI_clamp (by omega)]
      refine ⟨vp_in_nI (by omega) (by omega), ?_⟩
      intro v hv
      rw [e4 k (Nat.le_refl _) hk] at hv
      rw [e2, nI_add, nI_clamp (by omega)]
      refine ⟨vp_in_nI (by omega) (by omega), ?_⟩
      intro f8 hf8
      rw [hv, il4, nI_add, nI_clamp (by omega)]
      refine ⟨vp_in_nI (by omega) (by omega), ?_⟩
      have g4 : f8 (4 + (bS B).getD k 0) = nI (lifeY B ((bS B).getD k 0)) := by
        rw [hf8, pk_un (by omega), e1 _ (by omega)]
        exact h.2.2.2.2.2.1 _ hxk
      have g1 : ∀ i, (i < 10 ∨ 16 ≤ i) → f8 i = s i := by
        intro i hi
        rw [hf8, pk_un (by omega), e1 i hi]
      rw [g4]
      refine ⟨fun c v2 hv2 => ?_, fun c v2 hv2 => ?_⟩
      · simp (disch := omega) only [il0, il1, il2, il3, il4, il5, il6, il7, il8, il9, il10, il15, il16, il22, il24, il30, il31, il40, il41, il60, il70, il146, il161, il9999, pk_mul, nI_add, pk_sub, nI_clamp, nI_leI, nI_ltI, nI_eq] at c
        have hp : p ((bS B).getD k 0) = false := decide_eq_false (by omega)
        have hf : ((bS B).take (k + 1)).filter p = ((bS B).take k).filter p := by rw [hts, filt_f hp]
        refine ih (f8, v2) ⟨g1, ?_, ?_, ?_⟩
        · rw [hf]; dsimp only; rw [hv2, il0, nI_add]; rfl
        · rw [hf]
          intro j hj
          show f8 (10 + j) = _
          rw [hf8, pk_un (by omega)]; exact e3 j hj
        · intro j h1 h2
          show f8 (10 + j) = _
          rw [hf8, pk_un (by omega)]; exact e4 j (by omega) h2
      · simp (disch := omega) only [il0, il1, il2, il3, il4, il5, il6, il7, il8, il9, il10, il15, il16, il22, il24, il30, il31, il40, il41, il60, il70, il146, il161, il9999, pk_mul, nI_add, pk_sub, nI_clamp, nI_leI, nI_ltI, nI_eq] at c
        have hp : p ((bS B).getD k 0) = true := decide_eq_true (by omega)
        have hf : ((bS B).take (k + 1)).filter p = ((bS B).take k).filter p ++ [(bS B).getD k 0] := by rw [hts, filt_t hp]
        refine ih (f8, v2) ⟨g1, ?_, ?_, ?_⟩
        · rw [hf, List.length_append]; dsimp only; rw [hv2, nI_1]; rfl
        · rw [hf, List.length_append]
          intro j hj
          show f8 (10 + j) = _
          rw [hf8]
          by_cases hj2 : j = (((bS B).take k).filter p).length
          · rw [hj2, pk_us, hv, getD_append_len]
          · rw [pk_un (by omega), getD_append_left' (by simp at hj; omega)]
            exact e3 j (by simp at hj; omega)
        · intro j h1 h2
          show f8 (10 + j) = _
          rw [hf8, pk_un (by omega)]; exact e4 j (by omega) h2
theorem pm_passes {s : Nat → Int32} {B : AB} (h : MR s B) (hI : Inv B) {f : Nat → Int32} {Q : (Nat → Int32) × (Nat → Int32) → Prop} (hQ : ∀ s' f', MR s' (yearB B) → (∀ i, 40 ≤ i → s' i = s i) → Q (s', f')) : wp_X9_passes s f Q := by
  have h6 := hI.1
  have hl := hI.len
  unfold wp_X9_passes
  refine loop_0 (σ := Nat → Int32) (fun n i t => wp_X9_passes_2 Q n s t (nI i)) (fun k t => ∀ j, j < k → t j = nI (if j ∈ bS B then failN B j else 0)) (bM B) f ?_ ?_ ?_
  · intro j hj; omega
  · intro n g hg
    unfold wp_X9_passes_2
    rw [h.1]
    refine ⟨fun _ => ?_, fun c => by simp (disch := omega) only [il0, il1, il2, il3, il4, il5, il6, il7, il8, il9, il10, il15, il16, il22, il24, il30, il31, il40, il41, il60, il70, il146, il161, il9999, pk_mul, nI_add, pk_sub, nI_clamp, nI_leI, nI_ltI, nI_eq] at c; omega⟩
    refine loop_0 (σ := Nat → Int32) (fun n i t => wp_X9_passes_46 Q n t g (nI i)) (fun k t => (∀ i, (i < 4 ∨ 10 ≤ i) → t i = s i) ∧ (∀ j, j < k → t (4 + j) = nI (lifeY B j)) ∧ ∀ j, k ≤ j → j < 6 → t (4 + j) = s (4 + j)) (bM B) s ?_ ?_ ?_
    · exact ⟨fun _ _ => rfl, fun j hj => by omega, fun _ _ _ => rfl⟩
    · rintro n t ⟨e1, e2, e3⟩
      unfold wp_X9_passes_46
      rw [e1 0 (by omega), h.1]
      refine ⟨fun _ => ?_, fun c => by simp (disch := omega) only [il0, il1, il2, il3, il4, il5, il6, il7, il8, il9, il10, il15, il16, il22, il24, il30, il31, il40, il41, il60, il70, il146, il161, il9999, pk_mul, nI_add, pk_sub, nI_clamp, nI_leI, nI_ltI, nI_eq] at c; omega⟩
      refine pm_passes110 (s0 := s) h6 ⟨?_, ?_, ?_, ?_, ?_, ?_, ?_, ?_⟩ hI (fun i hi => e1 i (by omega)) hQ
      · rw [e1 0 (by omega)]; exact h.1
      · rw [e1 1 (by omega)]; exact h.2.1
      · rw [e1 2 (by omega)]; exact h.2.2.1
      · rw [e1 3 (by omega)]; exact h.2.2.2.1
      · intro k hk; rw [e1 _ (by omega)]; exact h.2.2.2.2.1 k hk
      · intro m hm; exact e2 m hm
      · intro m hm; rw [e1 _ (by omega)]; exact h.2.2.2.2.2.2.1 m hm
      · intro m hm; rw [e1 _ (by omega)]; exact h.2.2.2.2.2.2.2 m hm
    · rintro n k t hk ⟨e1, e2, e3⟩ ih
      have hlk := hI.2.2.2.2.1 k hk
      have hfk : (if k ∈ bS B then failN B k else 0) ≤ 4 := by
        split
        · exact failN_le hI hk
        · omega
      have hlY : lifeY B k = bL B k - (if k ∈ bS B then failN B k else 0) := rfl
      unfold wp_X9_passes_46
      rw [e1 0 (by omega), h.1, nI_1, il4, nI_add, nI_clamp (by omega), nI_clamp (by omega), e3 k (Nat.le_refl _) (by omega), h.2.2.2.2.2.1 k hk, hg k hk]
      have stp : ∀ f6 : Nat → Int32, f6 = upd t (4 + k) (nI (lifeY B k)) → wp_X9_passes_46 Q n f6 g (nI (k + 1)) := by
        intro f6 hf6
        refine ih f6 ⟨?_, ?_, ?_⟩
        · intro i hi; rw [hf6, pk_un (by omega)]; exact e1 i hi
        · intro j hj
          rw [hf6]
          by_cases hjk : j = k
          · rw [hjk, pk_us]
          · rw [pk_un (by omega)]; exact e2 j (by omega)
        · intro j h1 h2; rw [hf6, pk_un (by omega)]; exact e3 j (by omega) h2
      refine ⟨fun c => by simp (disch := omega) only [il0, il1, il2, il3, il4, il5, il6, il7, il8, il9, il10, il15, il16, il22, il24, il30, il31, il40, il41, il60, il70, il146, il161, il9999, pk_mul, nI_add, pk_sub, nI_clamp, nI_leI, nI_ltI, nI_eq] at c; omega, fun _ => ⟨vp_in_nI (by omega) (by omega), vp_in_nI (by omega) (by omega), fun c => ?_, fun c => ?_⟩⟩
      · simp (disch := omega) only [il0, il1, il2, il3, il4, il5, il6, il7, il8, il9, il10, il15, il16, il22, il24, il30, il31, il40, il41, il60, il70, il146, il161, il9999, pk_mul, nI_add, pk_sub, nI_clamp, nI_leI, nI_ltI, nI_eq] at c
        refine ⟨vp_in_nI (by omega) (by omega), fun f6 hf6 => stp f6 ?_⟩
        rw [hf6, hlY, show bL B k - (if k ∈ bS B then failN B k else 0) = 0 by omega]; rfl
      · simp (disch := omega) only [il0, il1, il2, il3, il4, il5, il6, il7, il8, il9, il10, il15, il16, il22, il24, il30, il31, il40, il41, il60, il70, il146, il161, il9999, pk_mul, nI_add, pk_sub, nI_clamp, nI_leI, nI_ltI, nI_eq] at c
        refine ⟨vp_in_nI (by omega) (by omega), vp_in_nI (by omega) (by omega), fun v hv => ⟨vp_in_nI (by omega) (by omega), fun f6 hf6 => stp f6 ?_⟩⟩
        rw [hf6, hv, pk_sub (by omega), hlY]
  · intro n k t hk ht ih
    unfold wp_X9_passes_2
    rw [h.1, nI_1]
    refine ⟨fun c => by simp (disch := omega) only [il0, il1, il2, il3, il4, il5, il6, il7, il8, il9, il10, il15, il16, il22, il24, il30, il31, il40, il41, il60, il70, il146, il161, il9999, pk_mul, nI_add, pk_sub, nI_clamp, nI_leI, nI_ltI, nI_eq] at c; omega, fun _ => pm_bench h hI (pm_has ?_)⟩
    rw [hasBench (fun x hx => by have := hI.2.2.1 x hx; omega) (by omega)]
    have stp : ∀ f4 : Nat → Int32, f4 = upd t k (nI (if k ∈ bS B then failN B k else 0)) → wp_X9_passes_2 Q n s f4 (nI (k + 1)) := by
      intro f4 hf4
      refine ih f4 ?_
      intro j hj
      rw [hf4]
      by_cases hjk : j = k
      · rw [hjk, pk_us]
      · rw [pk_un hjk]; exact ht j (by omega)
    refine ⟨fun c => ?_, fun c => ?_⟩
    · rw [b2i_0, decide_eq_false_iff_not] at c
      refine ⟨vp_in_nI (by omega) (by omega), fun f4 hf4 => stp f4 ?_⟩
      rw [hf4, nI_clamp (by omega), if_neg c]; rfl
    · rw [b2i_n0, decide_eq_true_eq] at c
      refine pm_fails h hI c ⟨vp_in_nI (by omega) (by omega), fun f4 hf4 => stp f4 ?_⟩
      rw [hf4, nI_clamp (by omega), if_pos c]
theorem Inv_year {B : AB} (hI : Inv B) (hy : bY B < 10100) : Inv (yearB B) := by
  obtain ⟨h1, h2, h3, h4, h5, h6, h7, h8, h9⟩ := hI
  refine ⟨h1, h2.filter _, fun x hx => h3 x (List.mem_filter.mp hx).1, fun x hx => of_decide_eq_true (List.mem_filter.mp hx).2, fun m hm => ?_, h6, h7, ?_, h9⟩
  · have := h5 m hm
    show lifeY B m ≤ 60
    unfold lifeY
    omega
  · show bY B + 1 ≤ 10100
    omega
