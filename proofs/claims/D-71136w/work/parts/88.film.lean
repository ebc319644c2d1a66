/-! pure: film -/
set_option maxRecDepth 100000
theorem pm_film64 {s a : Nat → Int32} {less sizes lanes : Nat → Int32} {items : Nat → Int64} {B : AB} (hs : MR s B) (ha : ∀ i, i < 40 → a i = s i) (hI : Inv B) (hy : bY B ≤ 9999) {m k i n : Nat} {lane : Int32} (hm : m < bM B) (hk : k < 4) (hin : i + n ≤ 24) {Q : Int32 → (Nat → Int32) × (Nat → Int64) × (Nat → Int32) × (Nat → Int32) → Prop}
    (hQ : ∀ s' items' less', MR s' B → (∀ i, 40 ≤ i → s' i = s i) → (∀ q, q < 24 → items' (24 * k + q) = filmF (fun q => items (24 * k + q)) B m i n q) → (∀ q, (q < 24 * k ∨ 24 * k + 24 ≤ q) → items' q = items q) → Q (nI n) (s', items', less', a)) : ∃ j_, wp_X9_film_64 sizes lanes (nI m) (nI n) (nI k) lane (nI i) Q j_ s items less a 0 := by
  have h6 := hI.1
  refine loop_0 (σ := (Nat → Int32) × (Nat → Int64) × (Nat → Int32)) (fun j q t => wp_X9_film_64 sizes lanes (nI m) (nI n) (nI k) lane (nI i) Q j t.1 t.2.1 t.2.2 a (nI q)) (fun z t => (MR t.1 (yrs z B) ∧ ∀ i, 40 ≤ i → t.1 i = s i) ∧ (∀ q, q < 24 → t.2.1 (24 * k + q) = filmF (fun q => items (24 * k + q)) B m i z q) ∧ ∀ q, (q < 24 * k ∨ 24 * k + 24 ≤ q) → t.2.1 q = items q) n (s, items, less) ⟨⟨hs, fun _ _ => rfl⟩, fun q hq => (filmF_0 (f := fun q => items (24 * k + q))).symm, fun _ _ => rfl⟩ ?_ ?_
  · rintro j ⟨ts, tt, tl⟩ ht
    dsimp only at ht ⊢
    unfold wp_X9_film_64
    exact ⟨fun _ => pm_lets (fun s' g1 g2 => hQ s' tt tl (MRlet hs hI ha g1) (fun i hi => (g2 i hi).trans (ht.1.2 i hi)) ht.2.1 ht.2.2), fun c => by simp (disch := omega) only [il0, il1, il2, il3, il4, il5, il6, il7, il8, il9, il10, il15, il16, il22, il24, il30, il31, il40, il41, il60, il70, il146, il161, il9999, pk_mul, nI_add, pk_sub, nI_clamp, nI_leI, nI_ltI, nI_eq] at c; omega⟩
  · rintro j z ⟨ts, tt, tl⟩ hz ht ih
    dsimp only at ht ih ⊢
    unfold wp_X9_film_64
    have hIz := Inv_yrs hI z (by omega)
    have hMz : bM (yrs (z + 1) B) = bM B := (yrs_facts (z + 1) B).1
    refine ⟨fun c => by simp (disch := omega) only [il0, il1, il2, il3, il4, il5, il6, il7, il8, il9, il10, il15, il16, il22, il24, il30, il31, il40, il41, il60, il70, il146, il161, il9999, pk_mul, nI_add, pk_sub, nI_clamp, nI_leI, nI_ltI, nI_eq] at c; omega, fun _ => pm_passes ht.1.1 hIz (fun s' f' g1 g2 => ?_)⟩
    have hs1 : MR s' (yrs (z + 1) B) := by rw [yrs_succ]; exact g1
    have hlf : s' (4 + m) = nI (bL (yrs (z + 1) B) m) := hs1.2.2.2.2.2.1 m (by rw [hMz]; exact hm)
    rw [il4, il24, pk_mul, nI_add, nI_add, nI_add, nI_clamp (by omega), nI_clamp (by omega), nI_1]
    refine ⟨vp_in_nI (by omega) (by omega), fun v5 e5 => ⟨vp_in_nI (by omega) (by omega), fun f7 e7 => ih (s', f7, f') ⟨⟨hs1, fun i hi => (g2 i hi).trans (ht.1.2 i hi)⟩, fun q hq => ?_, fun q hq => ?_⟩⟩⟩
    · dsimp only
      rw [e7, filmF_s]
      by_cases e : q = i + z
      · rw [if_pos e, e, ← Nat.add_assoc, e5]
        dsimp only
        rw [hlf]
        exact if_pos rfl
      · rw [if_neg e]
        exact (if_neg (by omega)).trans (ht.2.1 q hq)
    · dsimp only
      rw [e7]
      exact (if_neg (by omega)).trans (ht.2.2 q hq)
/-- whether a film is asked for rightly -/
def filmG (B : AB) (p1 p2 p3 p4 : Int32) : Bool := inR p1 0 ((bM B : Int) - 1) && inR p2 1 24 && (inR p3 0 3 && inR p4 0 3)
theorem inR24 {x : Int32} (h : inR x 1 24 = true) : ∃ j, 1 ≤ j ∧ j ≤ 24 ∧ x = nI j := by
  rw [inR_t] at h
  refine ⟨x.toInt.toNat, by omega, by omega, Int32.toInt_inj.mp ?_⟩
  rw [nI_toInt (by omega)]; omega
theorem bar_nn {st : SH} {lane i n : Int32} : 0 ≤ barI st lane i n ↔ barI st lane i n = 0 := by
  have h : barI st lane i n = 0 ∨ barI st lane i n = -11 ∨ barI st lane i n = -12 ∨ barI st lane i n = -13 := by
    cases st with
    | none => exact Or.inr (Or.inl rfl)
    | some q =>
      obtain ⟨l, n0, f⟩ := q
      have e : barI (some (l, n0, f)) lane i n = (if nI l = lane then (if 0 ≤ i ∧ 0 ≤ n ∧ n ≤ nI n0 ∧ i ≤ nI n0 - n then (0 : Int32) else -13) else -12) := rfl
      rw [e]
      split
      · split
        · exact Or.inl rfl
        · exact Or.inr (Or.inr (Or.inr rfl))
      · exact Or.inr (Or.inr (Or.inl rfl))
  rcases h with h | h | h | h <;> rw [h] <;> decide
theorem pm_film {s a : Nat → Int32} {less sizes lanes : Nat → Int32} {items : Nat → Int64} {B : AB} (hs : MR s B) (hI : Inv B) (hy : bY B ≤ 9999) {p1 p2 p3 p4 p5 : Int32} {Q : Int32 → (Nat → Int32) × (Nat → Int64) × (Nat → Int32) × (Nat → Int32) → Prop}
    (hbad : filmG B p1 p2 p3 p4 = false → Q (-1) (s, items, less, a))
    {S : Nat → SH} (hS : ∀ k, k < 4 → shOk (S k) ∧ SMd sizes lanes items k (S k))
    (hbar : filmG B p1 p2 p3 p4 = true → ¬ barI (S p3.toNatClampNeg) p4 p5 p2 = 0 → Q (barI (S p3.toNatClampNeg) p4 p5 p2) (s, items, less, a))
    (hok : ∀ m k l i n n0 f, p1 = nI m → m < bM B → p3 = nI k → k < 4 → p4 = nI l → p5 = nI i → p2 = nI n → 1 ≤ n → S k = some (l, n0, f) → i + n ≤ n0 → ∀ s' items' less' a', MR s' B → (∀ i, 40 ≤ i → s' i = s i) → (∀ q, q < 24 → items' (24 * k + q) = filmF (fun q => items (24 * k + q)) B m i n q) → (∀ q, (q < 24 * k ∨ 24 * k + 24 ≤ q) → items' q = items q) → Q (nI n) (s', items', less', a')) : wp_X9_film s items sizes lanes less a p1 p2 p3 p4 p5 Q := by
  have h6 := hI.1
  unfold wp_X9_film
  unfold filmG at hbad hbar
  refine pm_isMan hs hI ⟨fun c => ?_, fun c => pm_in ⟨fun c2 => ?_, fun c2 => pm_isSheet ⟨fun c3 => ?_, fun c3 => pm_in ⟨fun c4 => ?_, fun c4 => ?_⟩⟩⟩⟩
  · rw [b2i_0] at c; rw [c] at hbad; exact hbad rfl
  · have c2 : inR p2 1 24 = false := b2i_0.mp c2
    rw [c2] at hbad; exact hbad (by simp)
  · rw [b2i_0] at c3; rw [c3] at hbad; exact hbad (by simp)
  · rw [b2i_n0] at c c3
    have c2 : inR p2 1 24 = true := b2i_n0.mp c2
    have c4 : inR p4 0 3 = true := b2i_n0.mp c4
    replace hbar := hbar (by rw [c, c2, c3, c4]; rfl)
    obtain ⟨m, hm, rfl⟩ := inR_nI (by omega) c
    obtain ⟨n, hn1, hn2, rfl⟩ := inR24 c2
    obtain ⟨k, hk, rfl⟩ := inR3 c3
    obtain ⟨l, hl, rfl⟩ := inR3 c4
    rw [nI_clamp (by omega)] at hbar
    obtain ⟨o, hd⟩ := hS k (by omega)
    refine pm_barred (by omega) o hd ⟨fun e => ?_, fun e => hbar e⟩
    obtain ⟨l0, n0, f, i', n', e1, e2, rfl, e4, e5, e6, e7⟩ := barI_0 o e
    have hnn : n = n' := (nI_eq (by omega) (by omega)).mp e4
    subst hnn
    have hll : l = l0 := (nI_eq (by omega) (by omega)).mp e2
    subst hll
    refine pm_holds (fun a' ha' => ?_)
    exact pm_film64 hs ha' hI hy hm (by omega) (by omega) (fun s' it' ls' g1 g2 g3 g4 => hok m k _ i' _ n0 f rfl hm rfl (by omega) rfl rfl rfl hn1 e1 e5 s' it' ls' a' g1 g2 g3 g4)
  · have c4 : inR p4 0 3 = false := b2i_0.mp c4
    rw [c4] at hbad; exact hbad (by simp)
theorem pc_film_B {b a : BT} {fl : Nat → Int32} {B : AB} (hb : CR b B) (hI : Inv B) (hy : bY B ≤ 9999) {n0 : Nat} {rw : Nat → Int32} {f : Nat → Int64} (hr : ∀ q, q < n0 → Int32.toInt64 (rw q) = f q) (hn0 : n0 ≤ 24) {p1 p2 p3 p4 p5 : Int32} {Q : Int32 → BT × (Nat → Int32) × BT × (Nat → Int32) → Prop}
    (hbad : filmG B p1 p2 p3 p4 = false → Q (-1) (b, fl, a, rw))
    (hbar : filmG B p1 p2 p3 p4 = true → ¬ barI (some (0, n0, f)) p4 p5 p2 = 0 → Q (barI (some (0, n0, f)) p4 p5 p2) (b, fl, a, rw))
    (hok : ∀ m i n, p1 = nI m → p5 = nI i → p2 = nI n → i + n ≤ n0 → ∀ b' fl' a' g, CR b' B → (∀ q, q < n0 → Int32.toInt64 (g q) = filmF f B m i n q) → Q (nI n) (b', fl', a', g)) : wp_X0_film_B b fl a n0 rw p1 p2 p3 p4 p5 Q := by
  have h6 := hI.1
  unfold wp_X0_film_B
  unfold filmG at hbad hbar
  refine pc_isMan hb hI ⟨fun c => ?_, fun c => pc_isIn (a := 1) (c := 24) rfl rfl ⟨fun c2 => ?_, fun c2 => pc_isSheet ⟨fun c3 => ?_, fun c3 => ?_⟩⟩⟩
  · rw [b2i_0] at c; rw [c] at hbad; exact hbad rfl
  · rw [b2i_0] at c2; rw [c2] at hbad; exact hbad (by simp)
  · rw [b2i_n0] at c c2 c3
    replace hbar := hbar (by rw [c, c2, c3]; rfl)
    rw [Bool.and_eq_true] at c3
    obtain ⟨m, hm, rfl⟩ := inR_nI (by omega) c
    obtain ⟨n, hn1, hn2, rfl⟩ := inR24 c2
    obtain ⟨k, hk, rfl⟩ := inR3 c3.1
    obtain ⟨l, hl, rfl⟩ := inR3 c3.2
    refine pc_lacks_B hn0 (by omega) hl hn1 hn2 (f := f) ⟨fun e => ?_, fun e => hbar (fun e2 => e (bar_nn.mpr e2))⟩
    have e := bar_nn.mp e
    have el : 0 = l := by
      rcases Nat.decEq 0 l with h | h
      · rw [bar_ne h (by omega) hl] at e
        exact absurd e (by decide)
      · exact h
    subst el
    have hc : cpOk p5 p5 (nI n) n0 n0 := (cp_iff (l := 0) (f1 := f) (f2 := f) hn0 hn0 (by omega)).mpr ⟨e, e⟩
    obtain ⟨a1, -, -, a4, -⟩ := hc
    obtain ⟨i, hi, rfl⟩ := nI_of a1
    rw [nI_clamp hi, nI_clamp (by omega)] at a4
    exact pc_takeFromI hb hI (fun a' ha' => pc_film65_B hb ha' hI hy hr hn0 hm (by omega) a4 (fun b' fl' g g1 g2 => hok m i n rfl rfl rfl a4 b' fl' a' g g1 g2))
  · rw [b2i_0] at c3; rw [c3] at hbad; exact hbad (by simp)
theorem pc_film_S {b a : BT} {fl : Nat → Int32} {B : AB} (hb : CR b B) (hI : Inv B) (hy : bY B ≤ 9999) {n0 : Nat} {rw : Nat → Int32} {f : Nat → Int64} (hr : ∀ q, q < n0 → Int32.toInt64 (rw q) = f q) (hn0 : n0 ≤ 24) {p1 p2 p3 p4 p5 : Int32} {Q : Int32 → BT × (Nat → Int32) × BT × (Nat → Int32) → Prop}
    (hbad : filmG B p1 p2 p3 p4 = false → Q (-1) (b, fl, a, rw))
    (hbar : filmG B p1 p2 p3 p4 = true → ¬ barI (some (1, n0, f)) p4 p5 p2 = 0 → Q (barI (some (1, n0, f)) p4 p5 p2) (b, fl, a, rw))
    (hok : ∀ m i n, p1 = nI m → p5 = nI i → p2 = nI n → i + n ≤ n0 → ∀ b' fl' a' g, CR b' B → (∀ q, q < n0 → Int32.toInt64 (g q) = filmF f B m i n q) → Q (nI n) (b', fl', a', g)) : wp_X0_film_S b fl a n0 rw p1 p2 p3 p4 p5 Q := by
  have h6 := hI.1
  unfold wp_X0_film_S
  unfold filmG at hbad hbar
  refine pc_isMan hb hI ⟨fun c => ?_, fun c => pc_isIn (a := 1) (c := 24) rfl rfl ⟨fun c2 => ?_, fun c2 => pc_isSheet ⟨fun c3 => ?_, fun c3 => ?_⟩⟩⟩
  · rw [b2i_0] at c; rw [c] at hbad; exact hbad rfl
  · rw [b2i_0] at c2; rw [c2] at hbad; exact hbad (by simp)
  · rw [b2i_n0] at c c2 c3
    replace hbar := hbar (by rw [c, c2, c3]; rfl)
    rw [Bool.and_eq_true] at c3
    obtain ⟨m, hm, rfl⟩ := inR_nI (by omega) c
    obtain ⟨n, hn1, hn2, rfl⟩ := inR24 c2
    obtain ⟨k, hk, rfl⟩ := inR3 c3.1
    obtain ⟨l, hl, rfl⟩ := inR3 c3.2
    refine pc_lacks_S hn0 (by omega) hl hn1 hn2 (f := f) ⟨fun e => ?_, fun e => hbar (fun e2 => e (bar_nn.mpr e2))⟩
    have e := bar_nn.mp e
    have el : 1 = l := by
      rcases Nat.decEq 1 l with h | h
      · rw [bar_ne h (by omega) hl] at e
        exact absurd e (by decide)
      · exact h
    subst el
    have hc : cpOk p5 p5 (nI n) n0 n0 := (cp_iff (l := 1) (f1 := f) (f2 := f) hn0 hn0 (by omega)).mpr ⟨e, e⟩
    obtain ⟨a1, -, -, a4, -⟩ := hc
    obtain ⟨i, hi, rfl⟩ := nI_of a1
    rw [nI_clamp hi, nI_clamp (by omega)] at a4
    exact pc_takeFromI hb hI (fun a' ha' => pc_film65_S hb ha' hI hy hr hn0 hm (by omega) a4 (fun b' fl' g g1 g2 => hok m i n rfl rfl rfl a4 b' fl' a' g g1 g2))
  · rw [b2i_0] at c3; rw [c3] at hbad; exact hbad (by simp)
theorem pc_film_I {b a : BT} {fl : Nat → Int32} {B : AB} (hb : CR b B) (hI : Inv B) (hy : bY B ≤ 9999) {n0 : Nat} {rw : Nat → Int32} {f : Nat → Int64} (hr : ∀ q, q < n0 → Int32.toInt64 (rw q) = f q) (hn0 : n0 ≤ 24) {p1 p2 p3 p4 p5 : Int32} {Q : Int32 → BT × (Nat → Int32) × BT × (Nat → Int32) → Prop}
    (hbad : filmG B p1 p2 p3 p4 = false → Q (-1) (b, fl, a, rw))
    (hbar : filmG B p1 p2 p3 p4 = true → ¬ barI (some (2, n0, f)) p4 p5 p2 = 0 → Q (barI (some (2, n0, f)) p4 p5 p2) (b, fl, a, rw))
    (hok : ∀ m i n, p1 = nI m → p5 = nI i → p2 = nI n → i + n ≤ n0 → ∀ b' fl' a' g, CR b' B → (∀ q, q < n0 → Int32.toInt64 (g q) = filmF f B m i n q) → Q (nI n) (b', fl', a', g)) : wp_X0_film_I b fl a n0 rw p1 p2 p3 p4 p5 Q := by
  have h6 := hI.1
  unfold wp_X0_film_I
  unfold filmG at hbad hbar
  refine pc_isMan hb hI ⟨fun c => ?_, fun c => pc_isIn (a := 1) (c := 24) rfl rfl ⟨fun c2 => ?_, fun c2 => pc_isSheet ⟨fun c3 => ?_, fun c3 => ?_⟩⟩⟩
  · rw [b2i_0] at c; rw [c] at hbad; exact hbad rfl
  · rw [b2i_0] at c2; rw [c2] at hbad; exact hbad (by simp)
  · rw [b2i_n0] at c c2 c3
    replace hbar := hbar (by rw [c, c2, c3]; rfl)
    rw [Bool.and_eq_true] at c3
    obtain ⟨m, hm, rfl⟩ := inR_nI (by omega) c
    obtain ⟨n, hn1, hn2, rfl⟩ := inR24 c2
    obtain ⟨k, hk, rfl⟩ := inR3 c3.1
    obtain ⟨l, hl, rfl⟩ := inR3 c3.2
    refine pc_lacks_I hn0 (by omega) hl hn1 hn2 (f := f) ⟨fun e => ?_, fun e => hbar (fun e2 => e (bar_nn.mpr e2))⟩
    have e := bar_nn.mp e
    have el : 2 = l := by
      rcases Nat.decEq 2 l with h | h
      · rw [bar_ne h (by omega) hl] at e
        exact absurd e (by decide)
      · exact h
    subst el
    have hc : cpOk p5 p5 (nI n) n0 n0 := (cp_iff (l := 2) (f1 := f) (f2 := f) hn0 hn0 (by omega)).mpr ⟨e, e⟩
    obtain ⟨a1, -, -, a4, -⟩ := hc
    obtain ⟨i, hi, rfl⟩ := nI_of a1
    rw [nI_clamp hi, nI_clamp (by omega)] at a4
    exact pc_takeFromI hb hI (fun a' ha' => pc_film65_I hb ha' hI hy hr hn0 hm (by omega) a4 (fun b' fl' g g1 g2 => hok m i n rfl rfl rfl a4 b' fl' a' g g1 g2))
  · rw [b2i_0] at c3; rw [c3] at hbad; exact hbad (by simp)
theorem pc_film_J {b a : BT} {fl : Nat → Int32} {B : AB} (hb : CR b B) (hI : Inv B) (hy : bY B ≤ 9999) {n0 : Nat} {rw : Nat → Int64} {f : Nat → Int64} (hr : ∀ q, q < n0 → rw q = f q) (hn0 : n0 ≤ 24) {p1 p2 p3 p4 p5 : Int32} {Q : Int32 → BT × (Nat → Int32) × BT × (Nat → Int64) → Prop}
    (hbad : filmG B p1 p2 p3 p4 = false → Q (-1) (b, fl, a, rw))
    (hbar : filmG B p1 p2 p3 p4 = true → ¬ barI (some (3, n0, f)) p4 p5 p2 = 0 → Q (barI (some (3, n0, f)) p4 p5 p2) (b, fl, a, rw))
    (hok : ∀ m i n, p1 = nI m → p5 = nI i → p2 = nI n → i + n ≤ n0 → ∀ b' fl' a' g, CR b' B → (∀ q, q < n0 → g q = filmF f B m i n q) → Q (nI n) (b', fl', a', g)) : wp_X0_film_J b fl a n0 rw p1 p2 p3 p4 p5 Q := by
  have h6 := hI.1
  unfold wp_X0_film_J
  unfold filmG at hbad hbar
  refine pc_isMan hb hI ⟨fun c => ?_, fun c => pc_isIn (a := 1) (c := 24) rfl rfl ⟨fun c2 => ?_, fun c2 => pc_isSheet ⟨fun c3 => ?_, fun c3 => ?_⟩⟩⟩
  · rw [b2i_0] at c; rw [c] at hbad; exact hbad rfl
  · rw [b2i_0] at c2; rw [c2] at hbad; exact hbad (by simp)
  · rw [b2i_n0] at c c2 c3
    replace hbar := hbar (by rw [c, c2, c3]; rfl)
    rw [Bool.and_eq_true] at c3
    obtain ⟨m, hm, rfl⟩ := inR_nI (by omega) c
    obtain ⟨n, hn1, hn2, rfl⟩ := inR24 c2
    obtain ⟨k, hk, rfl⟩ := inR3 c3.1
    obtain ⟨l, hl, rfl⟩ := inR3 c3.2
    refine pc_lacks_J hn0 (by omega) hl hn1 hn2 (f := f) ⟨fun e => ?_, fun e => hbar (fun e2 => e (bar_nn.mpr e2))⟩
    have e := bar_nn.mp e
    have el : 3 = l := by
      rcases Nat.decEq 3 l with h | h
      · rw [bar_ne h (by omega) hl] at e
        exact absurd e (by decide)
      · exact h
    subst el
    have hc : cpOk p5 p5 (nI n) n0 n0 := (cp_iff (l := 3) (f1 := f) (f2 := f) hn0 hn0 (by omega)).mpr ⟨e, e⟩
    obtain ⟨a1, -, -, a4, -⟩ := hc
    obtain ⟨i, hi, rfl⟩ := nI_of a1
    rw [nI_clamp hi, nI_clamp (by omega)] at a4
    exact pc_takeFromI hb hI (fun a' ha' => pc_film65_J hb ha' hI hy hr hn0 hm (by omega) a4 (fun b' fl' g g1 g2 => hok m i n rfl rfl rfl a4 b' fl' a' g g1 g2))
  · rw [b2i_0] at c3; rw [c3] at hbad; exact hbad (by simp)
theorem pc_film_N {b a : BT} {fl : Nat → Int32} {B : AB} (hb : CR b B) (hI : Inv B) {p1 p2 p3 p4 p5 : Int32} {Q : Int32 → BT × (Nat → Int32) × BT → Prop}
    (hbad : filmG B p1 p2 p3 p4 = false → Q (-1) (b, fl, a)) (hbar : filmG B p1 p2 p3 p4 = true → Q (-11) (b, fl, a)) : wp_X0_film_N b fl a p1 p2 p3 p4 p5 Q := by
  have h6 := hI.1
  unfold wp_X0_film_N
  unfold filmG at hbad hbar
  refine pc_isMan hb hI ⟨fun c => ?_, fun c => pc_isIn (a := 1) (c := 24) rfl rfl ⟨fun c2 => ?_, fun c2 => pc_isSheet ⟨fun c3 => ?_, fun c3 => ?_⟩⟩⟩
  · rw [b2i_0] at c; rw [c] at hbad; exact hbad rfl
  · rw [b2i_0] at c2; rw [c2] at hbad; exact hbad (by simp)
  · rw [b2i_n0] at c c2 c3
    replace hbar := hbar (by rw [c, c2, c3]; rfl)
    rw [Bool.and_eq_true] at c3
    obtain ⟨k, hk, rfl⟩ := inR3 c3.1
    unfold wp_X0_lacks_N
    exact ⟨vp_in_nI (by omega) (by omega), fun e => absurd e (by decide), fun _ => hbar⟩
  · rw [b2i_0] at c3; rw [c3] at hbad; exact hbad (by simp)
