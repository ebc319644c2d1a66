/-! pure: the leaves, of both sides -/
set_option maxRecDepth 100000
def b2i (c : Bool) : Int32 := if c then 1 else 0
theorem b2i_z (c : Bool) : z01 (b2i c) := by cases c <;> simp [b2i, z01]
theorem b2i_0 {c : Bool} : b2i c = 0 ↔ c = false := by cases c <;> decide
theorem b2i_n0 {c : Bool} : ¬ b2i c = 0 ↔ c = true := by cases c <;> decide
/-- a loop over numbers that folds -/
theorem loopF {α : Type} (Wp : Nat → α → Int32 → Prop) (e : Nat) (he : e < 1000) (st : α → Nat → α) (I : Nat → α → Prop)
    (hx : ∀ n a, I e a → Wp (n + 1) a (nI e))
    (hs : ∀ n a k, k < e → I k a → (I (k + 1) (st a k) → Wp n (st a k) (nI (k + 1))) → Wp (n + 1) a (nI k))
    (hI : ∀ k a, k < e → I k a → I (k + 1) (st a k)) (a : α) (h0 : I 0 a) : ∃ n, Wp n a (nI 0) := by
  refine ⟨e + 1, ?_⟩
  have key : ∀ n k a, k ≤ e → e - k < n → I k a → Wp n a (nI k) := by
    intro n
    induction n with
    | zero => intro k a _ h2; omega
    | succ n ih =>
      intro k a hk hn hi
      rcases Nat.lt_or_ge k e with h1 | h1
      · exact hs n a k h1 hi (fun h => ih (k + 1) _ h1 (by omega) h)
      · have : k = e := by omega
        subst this
        exact hx n a hi
  exact key _ 0 a (Nat.zero_le _) (by omega) h0
theorem pc_placeOf {b : BT} {B : AB} (h : CR b B) (hI : Inv B) {m t : Nat} (hm : m < bM B) (ht : t < 3) {Q : Int32 → Prop} (hQ : Q (nI (bP B (3 * m + t)))) : wp_X6_placeOf b (nI m) (nI t) Q := by
  have h6 := hI.1
  unfold wp_X6_placeOf
  simp (disch := omega) only [il0, il1, il2, il3, il4, il5, il6, il7, il8, il9, il10, il15, il16, il22, il24, il30, il31, il40, il41, il60, il70, il146, il161, il9999, pk_mul, nI_add, pk_sub, nI_clamp, nI_leI, nI_ltI, nI_eq]
  exact ⟨vp_in_nI (by omega) (by omega), by rw [h.2.2.2.2.2.2.2 _ (by omega)]; exact hQ⟩
/-- whether some man stood at a place at an hour -/
def takenB (B : AB) (t p : Nat) : Bool := (List.range (bM B)).any (fun m => bP B (3 * m + t) == p)
theorem takenB_iff {B : AB} {t p : Nat} : takenB B t p = true ↔ ∃ m, m < bM B ∧ bP B (3 * m + t) = p := by
  simp [takenB, List.any_eq_true, List.mem_range]
theorem pl_lt {B : AB} (hI : Inv B) {m t : Nat} (hm : m < bM B) (ht : t < 3) : bP B (3 * m + t) ≤ 9 := hI.2.2.2.2.2.2.1 _ (by omega)
theorem pc_manAt {b : BT} {B : AB} (h : CR b B) (hI : Inv B) {t p : Nat} (ht : t < 3) (hp : p < 1000) {Q : Int32 → Prop} (hQ : ∀ r : Int32, (0 ≤ r ↔ takenB B t p = true) → Q r) : wp_X6_manAt b (nI t) (nI p) Q := by
  have h6 := hI.1
  unfold wp_X6_manAt
  refine ⟨bM B + 1, ?_⟩
  have key : ∀ n k, k ≤ bM B → bM B - k < n → (∀ j, j < k → bP B (3 * j + t) ≠ p) → wp_X6_manAt_2 b (nI t) (nI p) Q n (nI k) := by
    intro n
    induction n with
    | zero => intro k _ h2; omega
    | succ n ih =>
      intro k hk hn hno
      unfold wp_X6_manAt_2
      rw [h.1]
      refine ⟨fun c => ?_, fun c => ?_⟩
      · simp (disch := omega) only [il0, il1, il2, il3, il4, il5, il6, il7, il8, il9, il10, il15, il16, il22, il24, il30, il31, il40, il41, il60, il70, il146, il161, il9999, pk_mul, nI_add, pk_sub, nI_clamp, nI_leI, nI_ltI, nI_eq] at c
        refine hQ _ ⟨fun h1 => absurd h1 (by decide), fun h1 => ?_⟩
        obtain ⟨m, hm, e⟩ := takenB_iff.mp h1
        exact absurd e (hno m (by omega))
      · simp (disch := omega) only [il0, il1, il2, il3, il4, il5, il6, il7, il8, il9, il10, il15, il16, il22, il24, il30, il31, il40, il41, il60, il70, il146, il161, il9999, pk_mul, nI_add, pk_sub, nI_clamp, nI_leI, nI_ltI, nI_eq] at c
        refine pc_placeOf h hI (by omega) ht ?_
        have := pl_lt hI (m := k) (t := t) (by omega) ht
        refine ⟨fun c2 => ?_, fun c2 => ?_⟩
        · simp (disch := omega) only [il0, il1, il2, il3, il4, il5, il6, il7, il8, il9, il10, il15, il16, il22, il24, il30, il31, il40, il41, il60, il70, il146, il161, il9999, pk_mul, nI_add, pk_sub, nI_clamp, nI_leI, nI_ltI, nI_eq] at c2
          rw [nI_1]
          refine ih (k + 1) (by omega) (by omega) (fun j hj => ?_)
          rcases Nat.lt_or_ge j k with h1 | h1
          · exact hno j h1
          · have : j = k := by omega
            subst this
            exact c2
        · simp (disch := omega) only [il0, il1, il2, il3, il4, il5, il6, il7, il8, il9, il10, il15, il16, il22, il24, il30, il31, il40, il41, il60, il70, il146, il161, il9999, pk_mul, nI_add, pk_sub, nI_clamp, nI_leI, nI_ltI, nI_eq] at c2
          exact hQ _ ⟨fun _ => takenB_iff.mpr ⟨k, by omega, c2⟩, fun _ => nI_pos' (by omega)⟩
  exact key _ 0 (Nat.zero_le _) (by omega) (fun j hj => by omega)
theorem pm_isTaken {s : Nat → Int32} {B : AB} (h : MR s B) (hI : Inv B) {t p : Nat} (ht : t < 3) (hp : p < 1000) {Q : Int32 → Prop} (hQ : Q (b2i (takenB B t p))) : wp_X9_isTaken s (nI t) (nI p) Q := by
  have h6 := hI.1
  unfold wp_X9_isTaken
  refine loopF (fun n a k => wp_X9_isTaken_5 s (nI t) (nI p) Q n a k) (bM B) (by omega) (fun a k => b2i ((List.range (k + 1)).any (fun m => bP B (3 * m + t) == p))) (fun k a => a = b2i ((List.range k).any (fun m => bP B (3 * m + t) == p))) ?_ ?_ ?_ _ rfl
  · intro n a ha
    unfold wp_X9_isTaken_5
    rw [h.1]
    refine ⟨fun c => ⟨by rw [ha]; exact b2i_z _, by rw [ha]; exact hQ⟩, fun c => ?_⟩
    simp (disch := omega) only [il0, il1, il2, il3, il4, il5, il6, il7, il8, il9, il10, il15, il16, il22, il24, il30, il31, il40, il41, il60, il70, il146, il161, il9999, pk_mul, nI_add, pk_sub, nI_clamp, nI_leI, nI_ltI, nI_eq] at c
    omega
  · intro n a k hk ha hn
    have hn := hn rfl
    unfold wp_X9_isTaken_5
    rw [h.1]
    have e : (List.range (k + 1)).any (fun m => bP B (3 * m + t) == p) = ((List.range k).any (fun m => bP B (3 * m + t) == p) || (bP B (3 * k + t) == p)) := by
      rw [List.range_succ, List.any_append]; simp
    have hpl := pl_lt hI hk ht
    rw [e] at hn
    rw [nI_1]
    refine ⟨fun c => ?_, fun c => ⟨fun c2 => ?_, fun c2 => ?_⟩⟩
    · simp (disch := omega) only [il0, il1, il2, il3, il4, il5, il6, il7, il8, il9, il10, il15, il16, il22, il24, il30, il31, il40, il41, il60, il70, il146, il161, il9999, pk_mul, nI_add, pk_sub, nI_clamp, nI_leI, nI_ltI, nI_eq] at c
      omega
    · rw [ha, b2i_n0] at c2
      rw [c2] at hn
      exact hn
    · rw [ha, b2i_0] at c2
      rw [c2] at hn
      simp (disch := omega) only [il0, il1, il2, il3, il4, il5, il6, il7, il8, il9, il10, il15, il16, il22, il24, il30, il31, il40, il41, il60, il70, il146, il161, il9999, pk_mul, nI_add, pk_sub, nI_clamp, nI_leI, nI_ltI, nI_eq]
      refine ⟨vp_in_nI (by omega) (by omega), ?_⟩
      rw [Nat.add_assoc, h.2.2.2.2.2.2.2 _ (by omega)]
      refine ⟨fun c3 => ?_, fun c3 => ?_⟩
      · simp (disch := omega) only [il0, il1, il2, il3, il4, il5, il6, il7, il8, il9, il10, il15, il16, il22, il24, il30, il31, il40, il41, il60, il70, il146, il161, il9999, pk_mul, nI_add, pk_sub, nI_clamp, nI_leI, nI_ltI, nI_eq] at c3
        have : (bP B (3 * k + t) == p) = false := by simpa using c3
        rw [this] at hn
        exact hn
      · simp (disch := omega) only [il0, il1, il2, il3, il4, il5, il6, il7, il8, il9, il10, il15, il16, il22, il24, il30, il31, il40, il41, il60, il70, il146, il161, il9999, pk_mul, nI_add, pk_sub, nI_clamp, nI_leI, nI_ltI, nI_eq] at c3
        have : (bP B (3 * k + t) == p) = true := by simpa using c3
        rw [this] at hn
        exact hn
  · intro k a _ _
    rfl
/-- those on the bench, as a set -/
def benchI (l : List Nat) : Int32 := l.foldl (fun a x => a ||| ((1 : Int32) <<< (nI x &&& 31))) 0
theorem take_succ' {l : List Nat} {k : Nat} (hk : k < l.length) : l.take (k + 1) = l.take k ++ [l.getD k 0] := by
  rw [List.take_add_one, List.getElem?_eq_getElem hk, List.getD_eq_getElem?_getD, List.getElem?_eq_getElem hk]; rfl
theorem benchI_succ {l : List Nat} {k : Nat} (hk : k < l.length) : benchI (l.take (k + 1)) = benchI (l.take k) ||| ((1 : Int32) <<< (nI (l.getD k 0) &&& 31)) := by
  rw [take_succ' hk, benchI, List.foldl_append]; rfl
theorem pc_onBench {b : BT} {B : AB} (h : CR b B) (hI : Inv B) {Q : Int32 → Prop} (hQ : Q (benchI (bS B))) : wp_X6_onBench b Q := by
  have h6 := hI.1
  have hl := hI.len
  unfold wp_X6_onBench
  refine loopF (fun n a k => wp_X6_onBench_4 b Q n a k) (bS B).length (by omega) (fun a k => benchI ((bS B).take (k + 1))) (fun k a => a = benchI ((bS B).take k)) ?_ ?_ ?_ _ rfl
  · intro n a ha
    unfold wp_X6_onBench_4
    rw [h.2.1, ha, List.take_length]
    exact ⟨fun _ => hQ, fun c => by simp (disch := omega) only [il0, il1, il2, il3, il4, il5, il6, il7, il8, il9, il10, il15, il16, il22, il24, il30, il31, il40, il41, il60, il70, il146, il161, il9999, pk_mul, nI_add, pk_sub, nI_clamp, nI_leI, nI_ltI, nI_eq] at c; omega⟩
  · intro n a k hk ha hn
    have hn := hn rfl
    unfold wp_X6_onBench_4
    rw [h.2.1, nI_1]
    refine ⟨fun c => by simp (disch := omega) only [il0, il1, il2, il3, il4, il5, il6, il7, il8, il9, il10, il15, il16, il22, il24, il30, il31, il40, il41, il60, il70, il146, il161, il9999, pk_mul, nI_add, pk_sub, nI_clamp, nI_leI, nI_ltI, nI_eq] at c; omega, fun _ => ⟨vp_in_nI (by omega) (by omega), ?_⟩⟩
    intro v hv
    rw [nI_clamp (by omega), h.2.2.2.2.1 k hk, ha, ← benchI_succ hk] at hv
    rw [hv]
    exact hn
  · intro k a _ _
    rfl
theorem pm_bench {s : Nat → Int32} {B : AB} (h : MR s B) (hI : Inv B) {Q : Int32 → Prop} (hQ : Q (benchI (bS B))) : wp_X9_bench s Q := by
  have h6 := hI.1
  have hl := hI.len
  unfold wp_X9_bench
  refine loopF (fun n a k => wp_X9_bench_4 s Q n a k) (bS B).length (by omega) (fun a k => benchI ((bS B).take (k + 1))) (fun k a => a = benchI ((bS B).take k)) ?_ ?_ ?_ _ rfl
  · intro n a ha
    unfold wp_X9_bench_4
    rw [h.2.1, ha, List.take_length]
    exact ⟨fun _ => hQ, fun c => by simp (disch := omega) only [il0, il1, il2, il3, il4, il5, il6, il7, il8, il9, il10, il15, il16, il22, il24, il30, il31, il40, il41, il60, il70, il146, il161, il9999, pk_mul, nI_add, pk_sub, nI_clamp, nI_leI, nI_ltI, nI_eq] at c; omega⟩
  · intro n a k hk ha hn
    have hn := hn rfl
    unfold wp_X9_bench_4
    rw [h.2.1, nI_1]
    refine ⟨fun c => by simp (disch := omega) only [il0, il1, il2, il3, il4, il5, il6, il7, il8, il9, il10, il15, il16, il22, il24, il30, il31, il40, il41, il60, il70, il146, il161, il9999, pk_mul, nI_add, pk_sub, nI_clamp, nI_leI, nI_ltI, nI_eq] at c; omega, fun _ => ?_⟩
    simp (disch := omega) only [il0, il1, il2, il3, il4, il5, il6, il7, il8, il9, il10, il15, il16, il22, il24, il30, il31, il40, il41, il60, il70, il146, il161, il9999, pk_mul, nI_add, pk_sub, nI_clamp, nI_leI, nI_ltI, nI_eq]
    refine ⟨vp_in_nI (by omega) (by omega), ?_⟩
    intro v hv
    rw [h.2.2.2.2.1 k hk, ha, ← il1, ← il31, ← benchI_succ hk] at hv
    rw [hv]
    exact hn
  · intro k a _ _
    rfl
