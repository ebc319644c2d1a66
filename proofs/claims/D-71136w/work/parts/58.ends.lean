/-! pure: the first year that .. -/
set_option maxRecDepth 100000
theorem fstI_t {stop : AB → Bool} {d k : Nat} {B : AB} (h : stop B = true) : fstI stop d k B = nI k := by
  cases d <;> simp [fstI, h]
theorem fstI_f0 {stop : AB → Bool} {k : Nat} {B : AB} (h : stop B = false) : fstI stop 0 k B = -4 := by
  simp [fstI, h]
theorem fstI_fs {stop : AB → Bool} {d k : Nat} {B : AB} (h : stop B = false) : fstI stop (d + 1) k B = fstI stop d (k + 1) (yearB B) := by
  simp [fstI, h]
theorem neg4 : ((-4 : Int32) < 0) ∧ ¬ ((0 : Int32) ≤ -4) := by decide
def offB (m : Nat) (B : AB) : Bool := decide (m ∉ bS B)
theorem pc_endsL {a : BT} {B : AB} (ha : CR a B) (hI : Inv B) {m : Nat} (hm : m < 6) {Q : Int32 → BT × (Nat → Int32) × BT → Prop} : ∀ (d k : Nat) (B1 : AB) (b1 : BT) (f1 : Nat → Int32), k + d = 60 → CR b1 B1 → Inv B1 → bY B1 + d ≤ 10100 → (∀ b' f', CR b' B → Q (fstI (offB m) d k B1) (b', f', a)) → wp_X0_ends_23 (nI m) Q (d + 1) b1 f1 a (nI k) := by
  intro d
  induction d with
  | zero =>
    intro k B1 b1 f1 hk h1 hI1 hy hQ
    unfold wp_X0_ends_23
    refine ps_X6_seatOf h1 hI1 hm ⟨fun c => ?_, fun c => ⟨fun c2 => ?_, fun c2 => by simp (disch := omega) only [il0, il1, il2, il3, il4, il5, il6, il7, il8, il9, il10, il15, il16, il22, il24, il30, il31, il40, il41, il60, il70, il146, il161, il9999, pk_mul, nI_add, pk_sub, nI_clamp, nI_leI, nI_ltI, nI_eq] at c2; omega⟩⟩
    · have hmem : m ∉ bS B1 := fun hmem => by simp only [seatI, if_pos hmem] at c; exact nI_pos (by have := idx_lt hmem; have := hI1.len; have := hI1.1; omega) c
      unfold wp_X0_ends_50
      refine ps_X6_seatOf h1 hI1 hm ?_
      simp only [seatI, if_neg hmem]
      refine ⟨fun c => absurd c neg4.2, fun _ => pc_takeFromI ha hI (fun b' hb' => ?_)⟩
      exact fstI_t (d := 0) (show offB m B1 = true by simp [offB, hmem]) ▸ hQ b' f1 hb'
    · have hmem : m ∈ bS B1 := by
        apply Classical.byContradiction
        intro hn
        simp only [seatI, if_neg hn] at c
        exact c neg4.1
      unfold wp_X0_ends_50
      refine ps_X6_seatOf h1 hI1 hm ?_
      simp only [seatI, if_pos hmem]
      refine ⟨fun _ => pc_takeFromI ha hI (fun b' hb' => ?_), fun c => absurd (nI_pos' (by have := idx_lt hmem; have := hI1.len; have := hI1.1; omega)) c⟩
      exact fstI_f0 (k := k) (show offB m B1 = false by simp [offB, hmem]) ▸ hQ b' f1 hb'
  | succ d ih =>
    intro k B1 b1 f1 hk h1 hI1 hy hQ
    unfold wp_X0_ends_23
    refine ps_X6_seatOf h1 hI1 hm ⟨fun c => ?_, fun c => ⟨fun c2 => by simp (disch := omega) only [il0, il1, il2, il3, il4, il5, il6, il7, il8, il9, il10, il15, il16, il22, il24, il30, il31, il40, il41, il60, il70, il146, il161, il9999, pk_mul, nI_add, pk_sub, nI_clamp, nI_leI, nI_ltI, nI_eq] at c2; omega, fun c2 => ?_⟩⟩
    · have hmem : m ∉ bS B1 := fun hmem => by simp only [seatI, if_pos hmem] at c; exact nI_pos (by have := idx_lt hmem; have := hI1.len; have := hI1.1; omega) c
      unfold wp_X0_ends_50
      refine ps_X6_seatOf h1 hI1 hm ?_
      simp only [seatI, if_neg hmem]
      refine ⟨fun c => absurd c neg4.2, fun _ => pc_takeFromI ha hI (fun b' hb' => ?_)⟩
      exact fstI_t (d := d + 1) (show offB m B1 = true by simp [offB, hmem]) ▸ hQ b' f1 hb'
    · have hmem : m ∈ bS B1 := by
        apply Classical.byContradiction
        intro hn
        simp only [seatI, if_neg hn] at c
        exact c neg4.1
      rw [fstI_fs (show offB m B1 = false by simp [offB, hmem])] at hQ
      refine pc_oneYear h1 hI1 (fun b' f' hb' => ?_)
      rw [nI_1]
      exact ih (k + 1) (yearB B1) b' f' (by omega) hb' (Inv_year hI1 (by omega)) (by show bY B1 + 1 + d ≤ 10100; omega) hQ
def endsI (B : AB) (p1 : Int32) : Int32 := if inR p1 0 ((bM B : Int) - 1) = true then fstI (offB p1.toNatClampNeg) 60 0 B else (-1)
theorem pc_ends {b a : BT} {B : AB} (h : CR b B) (hI : Inv B) (hy : bY B ≤ 9999) {f : Nat → Int32} {p1 : Int32} {Q : Int32 → BT × (Nat → Int32) × BT → Prop} (hQ : ∀ b' f' a', CR b' B → Q (endsI B p1) (b', f', a')) : wp_X0_ends b f a p1 Q := by
  have h6 := hI.1
  unfold wp_X0_ends
  refine pc_isMan h hI ⟨fun c => ?_, fun c => ?_⟩
  · rw [b2i_n0] at c
    obtain ⟨m, hm, rfl⟩ := inR_nI (by omega) c
    have e : endsI B (nI m) = fstI (offB m) 60 0 B := by rw [endsI, if_pos c, nI_clamp (by omega)]
    rw [e] at hQ
    exact pc_takeFromI h hI (fun a' ha' => ⟨61, pc_endsL ha' hI (by omega) 60 0 B b f rfl h hI (by omega) (fun b' f' hb' => hQ b' f' a' hb')⟩)
  · rw [b2i_0] at c
    have e : endsI B p1 = -1 := by simp [endsI, c]
    exact e ▸ hQ b f a h
theorem pm_endsL {s a : Nat → Int32} {B : AB} (h : MR s B) (ha : ∀ i, i < 40 → a i = s i) (hI : Inv B) {m : Nat} (hm : m < 6) {Q : Int32 → (Nat → Int32) × (Nat → Int32) × (Nat → Int32) → Prop} : ∀ (d k : Nat) (B1 : AB) (s1 f1 : Nat → Int32), k + d = 60 → MR s1 B1 → Inv B1 → (∀ i, 40 ≤ i → s1 i = s i) → bY B1 + d + 1 ≤ 10100 → (∀ s' f', MR s' B → (∀ i, 40 ≤ i → s' i = s i) → Q (fstI (offB m) d k B1) (s', f', a)) → wp_X9_ends_16 (nI m) Q (d + 2) s1 f1 a (nI k) := by
  intro d
  induction d with
  | zero =>
    intro k B1 s1 f1 hk h1 hI1 hs hy hQ
    unfold wp_X9_ends_16
    refine ⟨fun c => by simp (disch := omega) only [il0, il1, il2, il3, il4, il5, il6, il7, il8, il9, il10, il15, il16, il22, il24, il30, il31, il40, il41, il60, il70, il146, il161, il9999, pk_mul, nI_add, pk_sub, nI_clamp, nI_leI, nI_ltI, nI_eq] at c; omega, fun _ => pm_seatOf h1 hI1 hm ⟨fun c => ?_, fun c => ?_⟩⟩
    · have hmem : m ∉ bS B1 := fun hmem => by simp only [seatI, if_pos hmem] at c; exact nI_ne4 (by have := idx_lt hmem; have := hI1.len; have := hI1.1; omega) c
      refine pm_lets (fun s' g1 g2 => ⟨fun _ => ?_, fun c => by simp (disch := omega) only [il0, il1, il2, il3, il4, il5, il6, il7, il8, il9, il10, il15, il16, il22, il24, il30, il31, il40, il41, il60, il70, il146, il161, il9999, pk_mul, nI_add, pk_sub, nI_clamp, nI_leI, nI_ltI, nI_eq] at c; omega⟩)
      exact fstI_t (d := 0) (show offB m B1 = true by simp [offB, hmem]) ▸ hQ s' f1 (MRlet h hI ha g1) (fun i hi => (g2 i hi).trans (hs i hi))
    · have hmem : m ∈ bS B1 := by
        apply Classical.byContradiction
        intro hn
        simp only [seatI, if_neg hn] at c
        exact c trivial
      refine pm_passes h1 hI1 (fun s2 f2 g1 g2 => ?_)
      rw [nI_1]
      unfold wp_X9_ends_16
      refine ⟨fun _ => pm_lets (fun s' g3 g4 => ⟨fun c => by simp (disch := omega) only [il0, il1, il2, il3, il4, il5, il6, il7, il8, il9, il10, il15, il16, il22, il24, il30, il31, il40, il41, il60, il70, il146, il161, il9999, pk_mul, nI_add, pk_sub, nI_clamp, nI_leI, nI_ltI, nI_eq] at c; omega, fun _ => ?_⟩), fun c => by simp (disch := omega) only [il0, il1, il2, il3, il4, il5, il6, il7, il8, il9, il10, il15, il16, il22, il24, il30, il31, il40, il41, il60, il70, il146, il161, il9999, pk_mul, nI_add, pk_sub, nI_clamp, nI_leI, nI_ltI, nI_eq] at c; omega⟩
      exact fstI_f0 (k := k) (show offB m B1 = false by simp [offB, hmem]) ▸ hQ s' f2 (MRlet h hI ha g3) (fun i hi => (g4 i hi).trans ((g2 i hi).trans (hs i hi)))
  | succ d ih =>
    intro k B1 s1 f1 hk h1 hI1 hs hy hQ
    unfold wp_X9_ends_16
    refine ⟨fun c => by simp (disch := omega) only [il0, il1, il2, il3, il4, il5, il6, il7, il8, il9, il10, il15, il16, il22, il24, il30, il31, il40, il41, il60, il70, il146, il161, il9999, pk_mul, nI_add, pk_sub, nI_clamp, nI_leI, nI_ltI, nI_eq] at c; omega, fun _ => pm_seatOf h1 hI1 hm ⟨fun c => ?_, fun c => ?_⟩⟩
    · have hmem : m ∉ bS B1 := fun hmem => by simp only [seatI, if_pos hmem] at c; exact nI_ne4 (by have := idx_lt hmem; have := hI1.len; have := hI1.1; omega) c
      refine pm_lets (fun s' g1 g2 => ⟨fun _ => ?_, fun c => by simp (disch := omega) only [il0, il1, il2, il3, il4, il5, il6, il7, il8, il9, il10, il15, il16, il22, il24, il30, il31, il40, il41, il60, il70, il146, il161, il9999, pk_mul, nI_add, pk_sub, nI_clamp, nI_leI, nI_ltI, nI_eq] at c; omega⟩)
      exact fstI_t (d := d + 1) (show offB m B1 = true by simp [offB, hmem]) ▸ hQ s' f1 (MRlet h hI ha g1) (fun i hi => (g2 i hi).trans (hs i hi))
    · have hmem : m ∈ bS B1 := by
        apply Classical.byContradiction
        intro hn
        simp only [seatI, if_neg hn] at c
        exact c trivial
      rw [fstI_fs (show offB m B1 = false by simp [offB, hmem])] at hQ
      refine pm_passes h1 hI1 (fun s2 f2 g1 g2 => ?_)
      rw [nI_1]
      exact ih (k + 1) (yearB B1) s2 f2 (by omega) g1 (Inv_year hI1 (by omega)) (fun i hi => (g2 i hi).trans (hs i hi)) (by show bY B1 + 1 + d + 1 ≤ 10100; omega) hQ
theorem pm_ends {s : Nat → Int32} {B : AB} (h : MR s B) (hI : Inv B) (hy : bY B ≤ 9999) {f a : Nat → Int32} {p1 : Int32} {Q : Int32 → (Nat → Int32) × (Nat → Int32) × (Nat → Int32) → Prop} (hQ : ∀ s' f' a', MR s' B → (∀ i, 40 ≤ i → s' i = s i) → Q (endsI B p1) (s', f', a')) : wp_X9_ends s f a p1 Q := by
  have h6 := hI.1
  unfold wp_X9_ends
  refine pm_isMan h hI ⟨fun c => ?_, fun c => ?_⟩
  · rw [b2i_n0] at c
    obtain ⟨m, hm, rfl⟩ := inR_nI (by omega) c
    have e : endsI B (nI m) = fstI (offB m) 60 0 B := by rw [endsI, if_pos c, nI_clamp (by omega)]
    rw [e] at hQ
    exact pm_holds (fun a' ha' => ⟨62, pm_endsL h ha' hI (by omega) 60 0 B s f rfl h hI (fun _ _ => rfl) (by omega) (fun s' f' h1 h2 => hQ s' f' a' h1 h2)⟩)
  · rw [b2i_0] at c
    have e : endsI B p1 = -1 := by simp [endsI, c]
    exact e ▸ hQ s f a h (fun _ _ => rfl)
def loneB (B : AB) : Bool := decide ((bS B).length ≤ 1)
def lonelyI (B : AB) : Int32 := fstI loneB 60 0 B
theorem pc_lonelyL {a : BT} {B : AB} (ha : CR a B) (hI : Inv B) {Q : Int32 → BT × (Nat → Int32) × BT → Prop} : ∀ (d k : Nat) (B1 : AB) (b1 : BT) (f1 : Nat → Int32), k + d = 60 → CR b1 B1 → Inv B1 → bY B1 + d ≤ 10100 → (∀ b' f', CR b' B → Q (fstI loneB d k B1) (b', f', a)) → wp_X0_lonely_13 Q (d + 1) b1 f1 a (nI k) := by
  intro d
  induction d with
  | zero =>
    intro k B1 b1 f1 hk h1 hI1 hy hQ
    have hl := hI1.len
    have h6 := hI1.1
    unfold wp_X0_lonely_13 wp_X0_lonely_40
    rw [h1.2.1]
    refine ⟨fun c => ⟨fun c2 => ?_, fun _ => ?_⟩, fun c => ⟨fun _ => ⟨fun _ => ?_, fun c2 => ?_⟩, fun c2 => by simp (disch := omega) only [il0, il1, il2, il3, il4, il5, il6, il7, il8, il9, il10, il15, il16, il22, il24, il30, il31, il40, il41, il60, il70, il146, il161, il9999, pk_mul, nI_add, pk_sub, nI_clamp, nI_leI, nI_ltI, nI_eq] at c2; omega⟩⟩
    · simp (disch := omega) only [il0, il1, il2, il3, il4, il5, il6, il7, il8, il9, il10, il15, il16, il22, il24, il30, il31, il40, il41, il60, il70, il146, il161, il9999, pk_mul, nI_add, pk_sub, nI_clamp, nI_leI, nI_ltI, nI_eq] at c c2
      omega
    · simp (disch := omega) only [il0, il1, il2, il3, il4, il5, il6, il7, il8, il9, il10, il15, il16, il22, il24, il30, il31, il40, il41, il60, il70, il146, il161, il9999, pk_mul, nI_add, pk_sub, nI_clamp, nI_leI, nI_ltI, nI_eq] at c
      exact pc_takeFromI ha hI (fun b' hb' => fstI_t (d := 0) (show loneB B1 = true from decide_eq_true c) ▸ hQ b' f1 hb')
    · simp (disch := omega) only [il0, il1, il2, il3, il4, il5, il6, il7, il8, il9, il10, il15, il16, il22, il24, il30, il31, il40, il41, il60, il70, il146, il161, il9999, pk_mul, nI_add, pk_sub, nI_clamp, nI_leI, nI_ltI, nI_eq] at c
      exact pc_takeFromI ha hI (fun b' hb' => fstI_f0 (k := k) (show loneB B1 = false from decide_eq_false c) ▸ hQ b' f1 hb')
    · simp (disch := omega) only [il0, il1, il2, il3, il4, il5, il6, il7, il8, il9, il10, il15, il16, il22, il24, il30, il31, il40, il41, il60, il70, il146, il161, il9999, pk_mul, nI_add, pk_sub, nI_clamp, nI_leI, nI_ltI, nI_eq] at c c2
      omega
  | succ d ih =>
    intro k B1 b1 f1 hk h1 hI1 hy hQ
    have hl := hI1.len
    have h6 := hI1.1
    unfold wp_X0_lonely_13 wp_X0_lonely_40
    rw [h1.2.1]
    refine ⟨fun c => ⟨fun c2 => ?_, fun _ => ?_⟩, fun c => ⟨fun c2 => by simp (disch := omega) only [il0, il1, il2, il3, il4, il5, il6, il7, il8, il9, il10, il15, il16, il22, il24, il30, il31, il40, il41, il60, il70, il146, il161, il9999, pk_mul, nI_add, pk_sub, nI_clamp, nI_leI, nI_ltI, nI_eq] at c2; omega, fun c2 => ?_⟩⟩
    · simp (disch := omega) only [il0, il1, il2, il3, il4, il5, il6, il7, il8, il9, il10, il15, il16, il22, il24, il30, il31, il40, il41, il60, il70, il146, il161, il9999, pk_mul, nI_add, pk_sub, nI_clamp, nI_leI, nI_ltI, nI_eq] at c c2
      omega
    · simp (disch := omega) only [il0, il1, il2, il3, il4, il5, il6, il7, il8, il9, il10, il15, il16, il22, il24, il30, il31, il40, il41, il60, il70, il146, il161, il9999, pk_mul, nI_add, pk_sub, nI_clamp, nI_leI, nI_ltI, nI_eq] at c
      exact pc_takeFromI ha hI (fun b' hb' => fstI_t (d := d + 1) (show loneB B1 = true from decide_eq_true c) ▸ hQ b' f1 hb')
    · simp (disch := omega) only [il0, il1, il2, il3, il4, il5, il6, il7, il8, il9, il10, il15, il16, il22, il24, il30, il31, il40, il41, il60, il70, il146, il161, il9999, pk_mul, nI_add, pk_sub, nI_clamp, nI_leI, nI_ltI, nI_eq] at c
      rw [fstI_fs (show loneB B1 = false from decide_eq_false c)] at hQ
      refine pc_oneYear h1 hI1 (fun b' f' hb' => ?_)
      rw [nI_1]
      exact ih (k + 1) (yearB B1) b' f' (by omega) hb' (Inv_year hI1 (by omega)) (by show bY B1 + 1 + d ≤ 10100; omega) hQ
theorem pc_lonely {b a : BT} {B : AB} (h : CR b B) (hI : Inv B) (hy : bY B ≤ 9999) {f : Nat → Int32} {Q : Int32 → BT × (Nat → Int32) × BT → Prop} (hQ : ∀ b' f' a', CR b' B → Q (lonelyI B) (b', f', a')) : wp_X0_lonely b f a Q := by
  unfold wp_X0_lonely
  exact pc_takeFromI h hI (fun a' ha' => ⟨61, pc_lonelyL ha' hI 60 0 B b f rfl h hI (by omega) (fun b' f' hb' => hQ b' f' a' hb')⟩)
theorem pm_lonelyL {s a : Nat → Int32} {B : AB} (h : MR s B) (ha : ∀ i, i < 40 → a i = s i) (hI : Inv B) {Q : Int32 → (Nat → Int32) × (Nat → Int32) × (Nat → Int32) → Prop} : ∀ (d k : Nat) (B1 : AB) (s1 f1 : Nat → Int32), k + d = 60 → MR s1 B1 → Inv B1 → (∀ i, 40 ≤ i → s1 i = s i) → bY B1 + d + 1 ≤ 10100 → (∀ s' f', MR s' B → (∀ i, 40 ≤ i → s' i = s i) → Q (fstI loneB d k B1) (s', f', a)) → wp_X9_lonely_6 Q (d + 2) s1 f1 a (nI k) := by
  intro d
  induction d with
  | zero =>
    intro k B1 s1 f1 hk h1 hI1 hs hy hQ
    have hl := hI1.len
    have h6 := hI1.1
    unfold wp_X9_lonely_6
    rw [h1.2.1]
    refine ⟨fun c => by simp (disch := omega) only [il0, il1, il2, il3, il4, il5, il6, il7, il8, il9, il10, il15, il16, il22, il24, il30, il31, il40, il41, il60, il70, il146, il161, il9999, pk_mul, nI_add, pk_sub, nI_clamp, nI_leI, nI_ltI, nI_eq] at c; omega, fun _ => ⟨fun c => ?_, fun c => ?_⟩⟩
    · simp (disch := omega) only [il0, il1, il2, il3, il4, il5, il6, il7, il8, il9, il10, il15, il16, il22, il24, il30, il31, il40, il41, il60, il70, il146, il161, il9999, pk_mul, nI_add, pk_sub, nI_clamp, nI_leI, nI_ltI, nI_eq] at c
      refine pm_lets (fun s' g1 g2 => ⟨fun _ => ?_, fun c => by simp (disch := omega) only [il0, il1, il2, il3, il4, il5, il6, il7, il8, il9, il10, il15, il16, il22, il24, il30, il31, il40, il41, il60, il70, il146, il161, il9999, pk_mul, nI_add, pk_sub, nI_clamp, nI_leI, nI_ltI, nI_eq] at c; omega⟩)
      exact fstI_t (d := 0) (show loneB B1 = true from decide_eq_true c) ▸ hQ s' f1 (MRlet h hI ha g1) (fun i hi => (g2 i hi).trans (hs i hi))
    · simp (disch := omega) only [il0, il1, il2, il3, il4, il5, il6, il7, il8, il9, il10, il15, il16, il22, il24, il30, il31, il40, il41, il60, il70, il146, il161, il9999, pk_mul, nI_add, pk_sub, nI_clamp, nI_leI, nI_ltI, nI_eq] at c
      refine pm_passes h1 hI1 (fun s2 f2 g1 g2 => ?_)
      rw [nI_1]
      unfold wp_X9_lonely_6
      refine ⟨fun _ => pm_lets (fun s' g3 g4 => ⟨fun c => by simp (disch := omega) only [il0, il1, il2, il3, il4, il5, il6, il7, il8, il9, il10, il15, il16, il22, il24, il30, il31, il40, il41, il60, il70, il146, il161, il9999, pk_mul, nI_add, pk_sub, nI_clamp, nI_leI, nI_ltI, nI_eq] at c; omega, fun _ => ?_⟩), fun c => by simp (disch := omega) only [il0, il1, il2, il3, il4, il5, il6, il7, il8, il9, il10, il15, il16, il22, il24, il30, il31, il40, il41, il60, il70, il146, il161, il9999, pk_mul, nI_add, pk_sub, nI_clamp, nI_leI, nI_ltI, nI_eq] at c; omega⟩
      exact fstI_f0 (k := k) (show loneB B1 = false from decide_eq_false c) ▸ hQ s' f2 (MRlet h hI ha g3) (fun i hi => (g4 i hi).trans ((g2 i hi).trans (hs i hi)))
  | succ d ih =>
    intro k B1 s1 f1 hk h1 hI1 hs hy hQ
    have hl := hI1.len
    have h6 := hI1.1
    unfold wp_X9_lonely_6
    rw [h1.2.1]
    refine ⟨fun c => by simp (disch := omega) only [il0, il1, il2, il3, il4, il5, il6, il7, il8, il9, il10, il15, il16, il22, il24, il30, il31, il40, il41, il60, il70, il146, il161, il9999, pk_mul, nI_add, pk_sub, nI_clamp, nI_leI, nI_ltI, nI_eq] at c; omega, fun _ => ⟨fun c => ?_, fun c => ?_⟩⟩
    · simp (disch := omega) only [il0, il1, il2, il3, il4, il5, il6, il7, il8, il9, il10, il15, il16, il22, il24, il30, il31, il40, il41, il60, il70, il146, il161, il9999, pk_mul, nI_add, pk_sub, nI_clamp, nI_leI, nI_ltI, nI_eq] at c
      refine pm_lets (fun s' g1 g2 => ⟨fun _ => ?_, fun c => by simp (disch := omega) only [il0, il1, il2, il3, il4, il5, il6, il7, il8, il9, il10, il15, il16, il22, il24, il30, il31, il40, il41, il60, il70, il146, il161, il9999, pk_mul, nI_add, pk_sub, nI_clamp, nI_leI, nI_ltI, nI_eq] at c; omega⟩)
      exact fstI_t (d := d + 1) (show loneB B1 = true from decide_eq_true c) ▸ hQ s' f1 (MRlet h hI ha g1) (fun i hi => (g2 i hi).trans (hs i hi))
    · simp (disch := omega) only [il0, il1, il2, il3, il4, il5, il6, il7, il8, il9, il10, il15, il16, il22, il24, il30, il31, il40, il41, il60, il70, il146, il161, il9999, pk_mul, nI_add, pk_sub, nI_clamp, nI_leI, nI_ltI, nI_eq] at c
      rw [fstI_fs (show loneB B1 = false from decide_eq_false c)] at hQ
      refine pm_passes h1 hI1 (fun s2 f2 g1 g2 => ?_)
      rw [nI_1]
      exact ih (k + 1) (yearB B1) s2 f2 (by omega) g1 (Inv_year hI1 (by omega)) (fun i hi => (g2 i hi).trans (hs i hi)) (by show bY B1 + 1 + d + 1 ≤ 10100; omega) hQ
theorem pm_lonely {s : Nat → Int32} {B : AB} (h : MR s B) (hI : Inv B) (hy : bY B ≤ 9999) {f a : Nat → Int32} {Q : Int32 → (Nat → Int32) × (Nat → Int32) × (Nat → Int32) → Prop} (hQ : ∀ s' f' a', MR s' B → (∀ i, 40 ≤ i → s' i = s i) → Q (lonelyI B) (s', f', a')) : wp_X9_lonely s f a Q := by
  unfold wp_X9_lonely
  exact pm_holds (fun a' ha' => ⟨62, pm_lonelyL h ha' hI 60 0 B s f rfl h hI (fun _ _ => rfl) (by omega) (fun s' f' h1 h2 => hQ s' f' a' h1 h2)⟩)
