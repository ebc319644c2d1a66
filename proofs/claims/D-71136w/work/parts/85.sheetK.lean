/-! pure: sheet (the component), copy (the model) -/
set_option maxRecDepth 100000
/-- a new row -/
def row0 (G : GT) (l q n : Nat) : Nat × va_E := match l with
  | 0 => ay G q n (fun _ => 0)
  | 1 => ah G q n (fun _ => 0)
  | 2 => ai G q n (fun _ => 0)
  | _ => al G q n (fun _ => 0)
theorem pc_sheetBad {G : GT} {rv : Option Nat} {p q p3 : Int32} (hp : (inR p 0 3 && inR q 0 3) = false) {Q : Int32 → Option Nat × va_W → Prop} (hQ : Q (-1) (rv, [])) : wp_X0_sheet_R G rv p q p3 Q := by
  unfold wp_X0_sheet_R
  refine pc_isSheet ?_
  rw [hp]
  exact ⟨fun _ => hQ, fun c => absurd rfl c⟩
theorem pc_sheet {G : GT} {rv : Option Nat} {k l : Nat} (hk : k < 4) (hl : l ≤ 3) {p3 : Int32} {Q : Int32 → Option Nat × va_W → Prop} (hbig : ¬ p3 ≤ 24 → Q (-1) (rv, [])) (hneg : p3 < 0 → Q (-14) (rv, [])) (hok : ∀ n : Nat, n ≤ 24 → p3 = nI n → ∀ q, Q (nI n) (some q, [row0 G l q n])) : wp_X0_sheet_R G rv (nI k) (nI l) p3 Q := by
  unfold wp_X0_sheet_R
  refine pc_isSheet ?_
  rw [show inR (nI k) 0 3 = true from inR_t.mpr (by rw [nI_toInt (by omega)]; omega), show inR (nI l) 0 3 = true from inR_t.mpr (by rw [nI_toInt (by omega)]; omega)]
  refine ⟨fun c => absurd c (by decide), fun _ => ⟨fun c => ⟨vp_in_nI hk (by omega), ?_⟩, hbig⟩⟩
  have key : ∀ F : Nat → Nat → Nat × va_E, F = row0 G l → ((p3 < 0 → Q (-14) (rv, [])) ∧ (¬ p3 < 0 → (p3.toNatClampNeg ≤ 24 ∧ ∀ q, Q p3 (some q, [F q p3.toNatClampNeg])))) := by
    intro F hF
    refine ⟨hneg, fun c2 => ?_⟩
    obtain ⟨n, hn31, rfl⟩ := nI_of c2
    rw [il24, nI_leI hn31 (by omega)] at c
    rw [nI_clamp (by omega)]
    exact ⟨c, fun q => by rw [hF]; exact hok n c rfl q⟩
  have h : l = 0 ∨ l = 1 ∨ l = 2 ∨ l = 3 := by omega
  rcases h with rfl | rfl | rfl | rfl
  · exact ⟨fun c => absurd rfl c, fun _ => key _ rfl⟩
  · exact ⟨fun _ => ⟨fun c => absurd rfl c, fun _ => key _ rfl⟩, fun c => absurd c (by decide)⟩
  · exact ⟨fun _ => ⟨fun _ => ⟨fun c => absurd rfl c, fun _ => key _ rfl⟩, fun c => absurd c (by decide)⟩, fun c => absurd c (by decide)⟩
  · exact ⟨fun _ => ⟨fun _ => ⟨fun _ => key _ rfl, fun c => absurd c (by decide)⟩, fun c => absurd c (by decide)⟩, fun c => absurd c (by decide)⟩
/-- what a copy answers where both sheets have rows -/
def cpI (s1 s2 : SH) (l2 : Nat) (i j n : Int32) : Int32 := if barI s1 (nI l2) i n = 0 then (if barI s2 (nI l2) j n = 0 then n else barI s2 (nI l2) j n) else barI s1 (nI l2) i n
theorem pm_copyBad {sizes lanes : Nat → Int32} {items moved : Nat → Int64} {p q i j n : Int32} (hp : (inR p 0 3 && inR q 0 3) = false) {Q : Int32 → (Nat → Int64) × (Nat → Int64) → Prop} (hQ : Q (-1) (items, moved)) : wp_X9_copy items moved sizes lanes p i q j n Q := by
  unfold wp_X9_copy
  refine pm_isSheet ⟨fun _ => hQ, fun c => pm_isSheet ⟨fun c2 => ?_, fun _ => hQ⟩⟩
  rw [b2i_n0] at c c2
  rw [c, c2] at hp
  exact absurd hp (by decide)
theorem m1_lt : (-1 : Int32) < 0 := by decide
theorem pm_copy {sizes lanes : Nat → Int32} {items moved : Nat → Int64} {k1 k2 : Nat} (hk1 : k1 < 4) (hk2 : k2 < 4) {s1 s2 : SH} (o1 : shOk s1) (o2 : shOk s2) (h1 : SMd sizes lanes items k1 s1) (h2 : SMd sizes lanes items k2 s2) {i j n : Int32} {Q : Int32 → (Nat → Int64) × (Nat → Int64) → Prop}
    (hnull : s1 = none ∨ s2 = none → Q (-11) (items, moved))
    (hbad : ∀ l2 n2 f2, s2 = some (l2, n2, f2) → s1 ≠ none → ¬ (barI s1 (nI l2) i n = 0 ∧ barI s2 (nI l2) j n = 0) → Q (cpI s1 s2 l2 i j n) (items, moved))
    (hok : ∀ l2 n1 n2 f1 f2 i' j' n', s1 = some (l2, n1, f1) → s2 = some (l2, n2, f2) → i = nI i' → j = nI j' → n = nI n' → i' + n' ≤ n1 → j' + n' ≤ n2 → ∀ items' moved', (∀ t, t < n' → items' (24 * k2 + j' + t) = items (24 * k1 + i' + t)) → (∀ q, (q < 24 * k2 + j' ∨ 24 * k2 + j' + n' ≤ q) → items' q = items q) → Q (nI n') (items', moved')) : wp_X9_copy items moved sizes lanes (nI k1) i (nI k2) j n Q := by
  unfold wp_X9_copy
  refine pm_isSheet ?_
  rw [show inR (nI k1) 0 3 = true from inR_t.mpr (by rw [nI_toInt (by omega)]; omega)]
  refine ⟨fun c => absurd c (by decide), fun _ => pm_isSheet ?_⟩
  rw [show inR (nI k2) 0 3 = true from inR_t.mpr (by rw [nI_toInt (by omega)]; omega)]
  refine ⟨fun _ => ⟨vp_in_nI hk1 (by omega), ?_⟩, fun c => absurd c (by decide)⟩
  rw [nI_clamp (by omega), nI_clamp (by omega)]
  cases s1 with
  | none =>
    have e : sizes k1 = -1 := h1
    rw [e]
    exact ⟨fun _ => hnull (Or.inl rfl), fun c => absurd m1_lt c⟩
  | some q1 =>
  obtain ⟨l1, n1, f1⟩ := q1
  have o1' := o1
  obtain ⟨a1, a2, -⟩ := o1'
  have h1' := h1
  obtain ⟨b1, b2, b3⟩ := h1'
  refine ⟨fun c => absurd c (by rw [b1]; exact nI_pos (by omega)), fun _ => ⟨vp_in_nI hk2 (by omega), ?_⟩⟩
  cases s2 with
  | none =>
    have e : sizes k2 = -1 := h2
    rw [e]
    exact ⟨fun c => absurd c m1_neg, fun _ => hnull (Or.inr rfl)⟩
  | some q2 =>
  obtain ⟨l2, n2, f2⟩ := q2
  have o2' := o2
  obtain ⟨c1, c2, -⟩ := o2'
  have h2' := h2
  obtain ⟨d1, d2, d3⟩ := h2'
  refine ⟨fun _ => ⟨vp_in_nI hk2 (by omega), ?_⟩, fun c => absurd (nI_pos' (n := n2) (by omega)) (by rw [d1] at c; exact c)⟩
  rw [d2]
  refine pm_barred hk1 o1 h1 ⟨vp_in_nI hk2 (by omega), pm_barred hk2 o2 h2 ?_⟩
  have hbad := hbad l2 n2 f2 rfl (by intro c; cases c)
  refine ⟨fun e1 => ⟨fun c => absurd c e1, fun _ => ?_⟩, fun e1 => ⟨fun e2 => ?_, fun e2 => ⟨fun _ => ?_, fun c => absurd e1 c⟩⟩⟩
  · have := hbad (fun hh => e1 hh.1)
    rw [cpI, if_neg e1] at this
    exact this
  · obtain ⟨l0, n0, f0, i', n', g1, g2, rfl, rfl, g5, g6, g7⟩ := barI_0 o1 e1
    obtain ⟨l0', n0', f0', j', n'', g1', g2', rfl, g4', g5', g6', g7'⟩ := barI_0 o2 e2
    cases g1
    cases g1'
    have hl : l2 = l1 := (nI_eq (by omega) (by omega)).mp g2
    subst hl
    have hn : n' = n'' := by
      have hb : n' < 2 ^ 31 := by omega
      exact (nI_eq hb (by omega)).mp g4'
    subst hn
    have hok := hok _ n1 n2 f1 f2 i' j' n' rfl rfl rfl rfl rfl g5 g5'
    refine loop_0 (σ := Nat → Int64) (fun m q t => wp_X9_copy_96 sizes lanes (nI k1) (nI i') (nI k2) (nI j') (nI n') Q m items t (nI q)) (fun q t => ∀ z, z < q → t z = items (24 * k1 + i' + z)) n' moved (fun z hz => by omega) ?_ ?_
    · intro m t ht
      unfold wp_X9_copy_96
      refine ⟨fun _ => ?_, fun c => by simp (disch := omega) only [il0, il1, il2, il3, il4, il5, il6, il7, il8, il9, il10, il15, il16, il22, il24, il30, il31, il40, il41, il60, il70, il146, il161, il9999, pk_mul, nI_add, pk_sub, nI_clamp, nI_leI, nI_ltI, nI_eq] at c; omega⟩
      refine loop_0 (σ := Nat → Int64) (fun m q u => wp_X9_copy_133 sizes lanes (nI k1) (nI i') (nI k2) (nI j') (nI n') Q m u t (nI q)) (fun q u => (∀ z, z < q → u (24 * k2 + j' + z) = items (24 * k1 + i' + z)) ∧ ∀ z, (z < 24 * k2 + j' ∨ 24 * k2 + j' + q ≤ z) → u z = items z) n' items ⟨fun z hz => by omega, fun _ _ => rfl⟩ ?_ ?_
      · intro m u hu
        unfold wp_X9_copy_133
        refine ⟨fun _ => ?_, fun c => by simp (disch := omega) only [il0, il1, il2, il3, il4, il5, il6, il7, il8, il9, il10, il15, il16, il22, il24, il30, il31, il40, il41, il60, il70, il146, il161, il9999, pk_mul, nI_add, pk_sub, nI_clamp, nI_leI, nI_ltI, nI_eq] at c; omega⟩
        exact hok u t hu.1 hu.2
      · intro m q u hq hu ih
        unfold wp_X9_copy_133
        rw [il24, pk_mul, nI_add, nI_add, nI_clamp (by omega), nI_clamp (by omega), nI_1]
        refine ⟨fun c => by simp (disch := omega) only [il0, il1, il2, il3, il4, il5, il6, il7, il8, il9, il10, il15, il16, il22, il24, il30, il31, il40, il41, il60, il70, il146, il161, il9999, pk_mul, nI_add, pk_sub, nI_clamp, nI_leI, nI_ltI, nI_eq] at c; omega, fun _ => ⟨vp_in_nI (by omega) (by omega), fun v3 e3 => ⟨vp_in_nI (by omega) (by omega), fun f5 e5 => ih f5 ⟨fun z hz => ?_, fun z hz => ?_⟩⟩⟩⟩
        · rw [e5]
          by_cases e : z = q
          · rw [e, pk_uLs, e3]; exact ht q hq
          · exact (if_neg (by omega)).trans (hu.1 z (by omega))
        · rw [e5]
          exact (if_neg (by omega)).trans (hu.2 z (by omega))
    · intro m q t hq ht ih
      unfold wp_X9_copy_96
      rw [il24, pk_mul, nI_add, nI_add, nI_clamp (by omega), nI_clamp (by omega), nI_1]
      refine ⟨fun c => by simp (disch := omega) only [il0, il1, il2, il3, il4, il5, il6, il7, il8, il9, il10, il15, il16, il22, il24, il30, il31, il40, il41, il60, il70, il146, il161, il9999, pk_mul, nI_add, pk_sub, nI_clamp, nI_leI, nI_ltI, nI_eq] at c; omega, fun _ => ⟨vp_in_nI (by omega) (by omega), fun v3 e3 => ⟨vp_in_nI (by omega) (by omega), fun f5 e5 => ih f5 (fun z hz => ?_)⟩⟩⟩
      rw [e5]
      by_cases e : z = q
      · rw [e, pk_uLs, e3]
      · exact (if_neg (by omega)).trans (ht z (by omega))
  · have := hbad (fun hh => e2 hh.2)
    rw [cpI, if_pos e1, if_neg e2] at this
    exact this
