/-! pure: what is foretold -/
set_option maxRecDepth 100000
theorem cpy0 {f g : Nat → Int32} {n j : Nat} (h : j < n) : va_cpy f g 0 0 n j = f j := by
  rw [pk_cpy_in (Nat.zero_le _) (by omega)]; congr 1; omega
theorem pc_takeFrom {b a : BT} {B : AB} (h : CR a B) (h6 : bM B ≤ 6) (hl : (bS B).length ≤ 6) {Q : BT → Prop} (hQ : ∀ b', CR b' B → Q b') : wp_X6_takeFrom b a Q := by
  unfold wp_X6_takeFrom wp_X6_takeYear
  intro f1 h1 f2 h2 f3 h3 f4 h4
  refine hQ _ ⟨h.1, h.2.1, h.2.2.1, h.2.2.2.1, fun k hk => ?_, fun m hm => ?_, fun m hm => ?_, fun i hi => ?_⟩
  · show f4 k = _
    rw [h4, cpy0 (by omega)]; exact h.2.2.2.2.1 k hk
  · show f3 m = _
    rw [h3, cpy0 (by omega)]; exact h.2.2.2.2.2.1 m hm
  · show f1 m = _
    rw [h1, cpy0 (by omega)]; exact h.2.2.2.2.2.2.1 m hm
  · show f2 i = _
    rw [h2, cpy0 (by omega)]; exact h.2.2.2.2.2.2.2 i hi
theorem pc_takeFromI {b a : BT} {B : AB} (h : CR a B) (hI : Inv B) {Q : BT → Prop} (hQ : ∀ b', CR b' B → Q b') : wp_X6_takeFrom b a Q :=
  pc_takeFrom h hI.1 (Nat.le_trans hI.len hI.1) hQ
theorem pm_holds {s a : Nat → Int32} {Q : (Nat → Int32) → Prop} (hQ : ∀ a', (∀ i, i < 40 → a' i = s i) → Q a') : wp_X9_holds s a Q := by
  unfold wp_X9_holds
  refine loop_0 (σ := Nat → Int32) (fun n i t => wp_X9_holds_2 s Q n t (nI i)) (fun k t => ∀ i, i < k → t i = s i) 40 a (fun i hi => by omega) ?_ ?_
  · intro n t ht
    unfold wp_X9_holds_2
    exact ⟨fun _ => hQ t ht, fun c => absurd (by decide) c⟩
  · intro n k t hk ht ih
    unfold wp_X9_holds_2
    rw [nI_1]
    refine ⟨fun c => by simp (disch := omega) only [il0, il1, il2, il3, il4, il5, il6, il7, il8, il9, il10, il15, il16, il22, il24, il30, il31, il40, il41, il60, il70, il146, il161, il9999, pk_mul, nI_add, pk_sub, nI_clamp, nI_leI, nI_ltI, nI_eq] at c; omega, fun _ => ⟨vp_in_nI (by omega) (by omega), fun v hv => ⟨vp_in_nI (by omega) (by omega), fun f hf => ih f ?_⟩⟩⟩
    rw [nI_clamp (by omega)] at hv hf
    intro i hi
    rw [hf]
    by_cases hik : i = k
    · rw [hik, pk_us, hv]
    · rw [pk_un hik]; exact ht i (by omega)
theorem pm_lets {s a : Nat → Int32} {Q : (Nat → Int32) → Prop} (hQ : ∀ s', (∀ i, i < 40 → s' i = a i) → (∀ i, 40 ≤ i → s' i = s i) → Q s') : wp_X9_lets s a Q := by
  unfold wp_X9_lets
  refine loop_0 (σ := Nat → Int32) (fun n i t => wp_X9_lets_2 a Q n t (nI i)) (fun k t => (∀ i, i < k → t i = a i) ∧ ∀ i, 40 ≤ i → t i = s i) 40 s ⟨fun i hi => by omega, fun _ _ => rfl⟩ ?_ ?_
  · intro n t ht
    unfold wp_X9_lets_2
    exact ⟨fun _ => hQ t ht.1 ht.2, fun c => absurd (by decide) c⟩
  · intro n k t hk ht ih
    unfold wp_X9_lets_2
    rw [nI_1]
    refine ⟨fun c => by simp (disch := omega) only [il0, il1, il2, il3, il4, il5, il6, il7, il8, il9, il10, il15, il16, il22, il24, il30, il31, il40, il41, il60, il70, il146, il161, il9999, pk_mul, nI_add, pk_sub, nI_clamp, nI_leI, nI_ltI, nI_eq] at c; omega, fun _ => ⟨vp_in_nI (by omega) (by omega), fun v hv => ⟨vp_in_nI (by omega) (by omega), fun f hf => ih f ⟨?_, ?_⟩⟩⟩⟩
    · rw [nI_clamp (by omega)] at hv hf
      intro i hi
      rw [hf]
      by_cases hik : i = k
      · rw [hik, pk_us, hv]
      · rw [pk_un hik]; exact ht.1 i (by omega)
    · rw [nI_clamp (by omega)] at hf
      intro i hi
      rw [hf, pk_un (by omega)]; exact ht.2 i hi
def yrs : Nat → AB → AB
  | 0, B => B
  | n + 1, B => yrs n (yearB B)
theorem yrs_succ (n : Nat) (B : AB) : yrs (n + 1) B = yearB (yrs n B) := by
  induction n generalizing B with
  | zero => rfl
  | succ n ih => exact ih (yearB B)
theorem yrs_facts (n : Nat) (B : AB) : bM (yrs n B) = bM B ∧ bY (yrs n B) = bY B + n := by
  induction n generalizing B with
  | zero => exact ⟨rfl, rfl⟩
  | succ n ih =>
    have := ih (yearB B)
    exact ⟨this.1, by show bY (yrs n (yearB B)) = _; rw [this.2]; show bY B + 1 + n = _; omega⟩
theorem Inv_yrs {B : AB} (hI : Inv B) : ∀ n, bY B + n ≤ 10100 → Inv (yrs n B)
  | 0, _ => hI
  | n + 1, h => by
    rw [yrs_succ]
    exact Inv_year (Inv_yrs hI n (by omega)) (by rw [(yrs_facts n B).2]; omega)
theorem pc_goOn {b : BT} {B : AB} (h : CR b B) (hI : Inv B) {n : Nat} (hn : bY B + n ≤ 10100) {f : Nat → Int32} {Q : BT × (Nat → Int32) → Prop} (hQ : ∀ b' f', CR b' (yrs n B) → Q (b', f')) : wp_X0_goOn b f (nI n) Q := by
  unfold wp_X0_goOn
  refine loop_0 (σ := BT × (Nat → Int32)) (fun j i t => wp_X0_goOn_2 (nI n) Q j t.1 t.2 (nI i)) (fun k t => CR t.1 (yrs k B)) n (b, f) h ?_ ?_
  · intro j t ht
    unfold wp_X0_goOn_2
    exact ⟨fun _ => hQ _ _ ht, fun c => by simp (disch := omega) only [il0, il1, il2, il3, il4, il5, il6, il7, il8, il9, il10, il15, il16, il22, il24, il30, il31, il40, il41, il60, il70, il146, il161, il9999, pk_mul, nI_add, pk_sub, nI_clamp, nI_leI, nI_ltI, nI_eq] at c; omega⟩
  · intro j k t hk ht ih
    unfold wp_X0_goOn_2
    rw [nI_1]
    refine ⟨fun c => by simp (disch := omega) only [il0, il1, il2, il3, il4, il5, il6, il7, il8, il9, il10, il15, il16, il22, il24, il30, il31, il40, il41, il60, il70, il146, il161, il9999, pk_mul, nI_add, pk_sub, nI_clamp, nI_leI, nI_ltI, nI_eq] at c; omega, fun _ => pc_oneYear ht (Inv_yrs hI k (by omega)) (fun b' f' hb' => ih (b', f') ?_)⟩
    rw [yrs_succ]; exact hb'
theorem pc_isFar {x : Int32} {Q : Int32 → Prop} (hQ : Q (b2i (inR x 0 60))) : wp_X0_isFar x Q := by
  unfold wp_X0_isFar
  exact pc_isIn (a := 0) (c := 60) rfl rfl ⟨b2i_z _, hQ⟩
theorem inR60 {x : Int32} (h : inR x 0 60 = true) : ∃ j, j ≤ 60 ∧ x = nI j := by
  obtain ⟨j, hj, e⟩ := inR_nI (n := 61) (by omega) h
  exact ⟨j, by omega, e⟩
def aheadI (B : AB) (p1 p2 : Int32) : Int32 := if (inR p1 0 ((bM B : Int) - 1) && inR p2 0 60) = true then nI (bL (yrs p2.toNatClampNeg B) p1.toNatClampNeg) else (-1)
theorem pc_ahead {b a : BT} {B : AB} (h : CR b B) (hI : Inv B) (hy : bY B ≤ 9999) {f : Nat → Int32} {p1 p2 : Int32} {Q : Int32 → BT × (Nat → Int32) × BT → Prop} (hQ : ∀ b' f' a', CR b' B → Q (aheadI B p1 p2) (b', f', a')) : wp_X0_ahead b f a p1 p2 Q := by
  have h6 := hI.1
  unfold wp_X0_ahead
  refine pc_isMan h hI ⟨fun c => ?_, fun c => pc_isFar ⟨fun c2 => ?_, fun c2 => ?_⟩⟩
  · rw [b2i_0] at c
    have e : aheadI B p1 p2 = -1 := by simp [aheadI, c]
    exact e ▸ hQ b f a h
  · rw [b2i_n0] at c c2
    obtain ⟨m, hm, rfl⟩ := inR_nI (by omega) c
    obtain ⟨n, hn, rfl⟩ := inR60 c2
    refine pc_takeFromI h hI (fun a' ha' => pc_goOn h hI (by omega) (fun b' f' hb' => ⟨vp_in_nI (by omega) (by omega), fun v hv => pc_takeFromI ha' hI (fun b2 hb2 => ?_)⟩))
    have e : aheadI B (nI m) (nI n) = v := by
      rw [hv, aheadI, c, c2, nI_clamp (by omega), nI_clamp (by omega)]
      exact (hb'.2.2.2.2.2.1 m (by rw [(yrs_facts n B).1]; exact hm)).symm
    exact e ▸ hQ b2 f' a' hb2
  · rw [b2i_0] at c2
    have e : aheadI B p1 p2 = -1 := by simp [aheadI, c2]
    exact e ▸ hQ b f a h
theorem MRlet {s a s' : Nat → Int32} {B : AB} (h : MR s B) (hI : Inv B) (ha : ∀ i, i < 40 → a i = s i) (hs : ∀ i, i < 40 → s' i = a i) : MR s' B :=
  MRx h hI.1 hI.len (fun i hi => (hs i hi).trans (ha i hi))
theorem pm_ahead {s : Nat → Int32} {B : AB} (h : MR s B) (hI : Inv B) (hy : bY B ≤ 9999) {f a : Nat → Int32} {p1 p2 : Int32} {Q : Int32 → (Nat → Int32) × (Nat → Int32) × (Nat → Int32) → Prop} (hQ : ∀ s' f' a', MR s' B → (∀ i, 40 ≤ i → s' i = s i) → Q (aheadI B p1 p2) (s', f', a')) : wp_X9_ahead s f a p1 p2 Q := by
  have h6 := hI.1
  unfold wp_X9_ahead
  refine pm_isMan h hI ⟨fun c => ?_, fun c => pm_in ⟨fun c2 => ?_, fun c2 => ?_⟩⟩
  · rw [b2i_0] at c
    have e : aheadI B p1 p2 = -1 := by simp [aheadI, c]
    exact e ▸ hQ s f a h (fun _ _ => rfl)
  · rw [b2i_n0] at c c2
    obtain ⟨m, hm, rfl⟩ := inR_nI (by omega) c
    obtain ⟨n, hn, rfl⟩ := inR60 c2
    refine pm_holds (fun a' ha' => ?_)
    refine loop_0 (σ := (Nat → Int32) × (Nat → Int32)) (fun j i t => wp_X9_ahead_26 (nI m) (nI n) Q j t.1 t.2 a' (nI i)) (fun k t => MR t.1 (yrs k B) ∧ ∀ i, 40 ≤ i → t.1 i = s i) n (s, f) ⟨h, fun _ _ => rfl⟩ ?_ ?_
    · intro j t ht
      unfold wp_X9_ahead_26
      refine ⟨fun _ => ?_, fun c => by simp (disch := omega) only [il0, il1, il2, il3, il4, il5, il6, il7, il8, il9, il10, il15, il16, il22, il24, il30, il31, il40, il41, il60, il70, il146, il161, il9999, pk_mul, nI_add, pk_sub, nI_clamp, nI_leI, nI_ltI, nI_eq] at c; omega⟩
      rw [il4, nI_add, nI_clamp (by omega)]
      refine ⟨vp_in_nI (by omega) (by omega), fun v hv => pm_lets (fun s' h1 h2 => ?_)⟩
      have e : aheadI B (nI m) (nI n) = v := by
        rw [hv, aheadI, c]
        have c2 : inR (nI n) 0 60 = true := c2
        rw [c2, nI_clamp (by omega), nI_clamp (by omega)]
        exact (ht.1.2.2.2.2.2.1 m (by rw [(yrs_facts n B).1]; exact hm)).symm
      exact e ▸ hQ s' _ a' (MRlet h hI ha' h1) (fun i hi => (h2 i hi).trans (ht.2 i hi))
    · intro j k t hk ht ih
      unfold wp_X9_ahead_26
      rw [nI_1]
      refine ⟨fun c => by simp (disch := omega) only [il0, il1, il2, il3, il4, il5, il6, il7, il8, il9, il10, il15, il16, il22, il24, il30, il31, il40, il41, il60, il70, il146, il161, il9999, pk_mul, nI_add, pk_sub, nI_clamp, nI_leI, nI_ltI, nI_eq] at c; omega, fun _ => pm_passes ht.1 (Inv_yrs hI k (by omega)) (fun s' f' h1 h2 => ih (s', f') ⟨?_, fun i hi => (h2 i hi).trans (ht.2 i hi)⟩)⟩
      rw [yrs_succ]; exact h1
  · rw [b2i_0] at c2
    have c2 : inR p2 0 60 = false := c2
    have e : aheadI B p1 p2 = -1 := by simp [aheadI, c2]
    exact e ▸ hQ s f a h (fun _ _ => rfl)
def thenI (B : AB) (p1 : Int32) : Int32 := if inR p1 0 60 = true then benchI (bS (yrs p1.toNatClampNeg B)) else (-1)
theorem pc_then {b a : BT} {B : AB} (h : CR b B) (hI : Inv B) (hy : bY B ≤ 9999) {f : Nat → Int32} {p1 : Int32} {Q : Int32 → BT × (Nat → Int32) × BT → Prop} (hQ : ∀ b' f' a', CR b' B → Q (thenI B p1) (b', f', a')) : wp_X0_then b f a p1 Q := by
  unfold wp_X0_then
  refine pc_isFar ⟨fun c => ?_, fun c => ?_⟩
  · rw [b2i_n0] at c
    obtain ⟨n, hn, rfl⟩ := inR60 c
    refine pc_takeFromI h hI (fun a' ha' => pc_goOn h hI (by omega) (fun b' f' hb' => pc_onBench hb' (Inv_yrs hI n (by omega)) (pc_takeFromI ha' hI (fun b2 hb2 => ?_))))
    have e : thenI B (nI n) = benchI (bS (yrs n B)) := by rw [thenI, if_pos c, nI_clamp (by omega)]
    exact e ▸ hQ b2 f' a' hb2
  · rw [b2i_0] at c
    have e : thenI B p1 = -1 := by simp [thenI, c]
    exact e ▸ hQ b f a h
theorem pm_then {s : Nat → Int32} {B : AB} (h : MR s B) (hI : Inv B) (hy : bY B ≤ 9999) {f a : Nat → Int32} {p1 : Int32} {Q : Int32 → (Nat → Int32) × (Nat → Int32) × (Nat → Int32) → Prop} (hQ : ∀ s' f' a', MR s' B → (∀ i, 40 ≤ i → s' i = s i) → Q (thenI B p1) (s', f', a')) : wp_X9_then s f a p1 Q := by
  unfold wp_X9_then
  refine pm_in ⟨fun c => ?_, fun c => ?_⟩
  · rw [b2i_n0] at c
    have c : inR p1 0 60 = true := c
    obtain ⟨n, hn, rfl⟩ := inR60 c
    refine pm_holds (fun a' ha' => ?_)
    refine loop_0 (σ := (Nat → Int32) × (Nat → Int32)) (fun j i t => wp_X9_then_18 (nI n) Q j t.1 t.2 a' (nI i)) (fun k t => MR t.1 (yrs k B) ∧ ∀ i, 40 ≤ i → t.1 i = s i) n (s, f) ⟨h, fun _ _ => rfl⟩ ?_ ?_
    · intro j t ht
      unfold wp_X9_then_18
      refine ⟨fun _ => pm_bench ht.1 (Inv_yrs hI n (by omega)) (pm_lets (fun s' h1 h2 => ?_)), fun c => by simp (disch := omega) only [il0, il1, il2, il3, il4, il5, il6, il7, il8, il9, il10, il15, il16, il22, il24, il30, il31, il40, il41, il60, il70, il146, il161, il9999, pk_mul, nI_add, pk_sub, nI_clamp, nI_leI, nI_ltI, nI_eq] at c; omega⟩
      have e : thenI B (nI n) = benchI (bS (yrs n B)) := by rw [thenI, if_pos c, nI_clamp (by omega)]
      exact e ▸ hQ s' _ a' (MRlet h hI ha' h1) (fun i hi => (h2 i hi).trans (ht.2 i hi))
    · intro j k t hk ht ih
      unfold wp_X9_then_18
      rw [nI_1]
      refine ⟨fun c => by simp (disch := omega) only [il0, il1, il2, il3, il4, il5, il6, il7, il8, il9, il10, il15, il16, il22, il24, il30, il31, il40, il41, il60, il70, il146, il161, il9999, pk_mul, nI_add, pk_sub, nI_clamp, nI_leI, nI_ltI, nI_eq] at c; omega, fun _ => pm_passes ht.1 (Inv_yrs hI k (by omega)) (fun s' f' h1 h2 => ih (s', f') ⟨?_, fun i hi => (h2 i hi).trans (ht.2 i hi)⟩)⟩
      rw [yrs_succ]; exact h1
  · rw [b2i_0] at c
    have c : inR p1 0 60 = false := c
    have e : thenI B p1 = -1 := by simp [thenI, c]
    exact e ▸ hQ s f a h (fun _ _ => rfl)
/-- the first year, of at most so many, that has it -/
def fstI (stop : AB → Bool) : Nat → Nat → AB → Int32
  | 0, k, B => if stop B then nI k else (-4)
  | f + 1, k, B => if stop B then nI k else fstI stop f (k + 1) (yearB B)
