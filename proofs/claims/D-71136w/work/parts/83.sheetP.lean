/-! pure: sheets: what is asked of them -/
set_option maxRecDepth 100000
/-- a sheet: none, or its lane, its size, its items -/
abbrev SH : Type := Option (Nat × Nat × (Nat → Int64))
def shOk (st : SH) : Prop := match st with
  | none => True
  | some (l, n, f) => l ≤ 3 ∧ n ≤ 24 ∧ (l = 0 → ∀ i, i < n → -128 ≤ (f i).toInt ∧ (f i).toInt ≤ 127) ∧ (l = 1 → ∀ i, i < n → -32768 ≤ (f i).toInt ∧ (f i).toInt ≤ 32767)
/-- the model's -/
def SMd (sizes lanes : Nat → Int32) (items : Nat → Int64) (k : Nat) (st : SH) : Prop := match st with
  | none => sizes k = -1
  | some (l, n, f) => sizes k = nI n ∧ lanes k = nI l ∧ ∀ i, i < n → items (24 * k + i) = f i
theorem pc_isSheet {p q : Int32} {Q : Int32 → Prop} (hQ : Q (b2i (inR p 0 3 && inR q 0 3))) : wp_X0_isSheet p q Q := by
  unfold wp_X0_isSheet
  refine pc_isIn (a := 0) (c := 3) rfl rfl ⟨fun c => ?_, fun c => pc_isIn (a := 0) (c := 3) rfl rfl ⟨fun c2 => ?_, fun c2 => ?_⟩⟩
  · rw [b2i_0] at c; rw [c] at hQ; exact hQ
  · rw [b2i_n0] at c; rw [b2i_0] at c2; rw [c, c2] at hQ; exact hQ
  · rw [b2i_n0] at c c2; rw [c, c2] at hQ; exact hQ
theorem pm_isSheet {p : Int32} {Q : Int32 → Prop} (hQ : Q (b2i (inR p 0 3))) : wp_X9_isSheet p Q := by
  unfold wp_X9_isSheet
  exact pm_in ⟨b2i_z _, hQ⟩
theorem inR3 {x : Int32} (h : inR x 0 3 = true) : ∃ j, j ≤ 3 ∧ x = nI j := inRn (n := 3) (by omega) h
/-- what bars -/
def barI (st : SH) (lane i n : Int32) : Int32 := match st with
  | none => -11
  | some (l, n0, _) => if nI l = lane then (if 0 ≤ i ∧ 0 ≤ n ∧ n ≤ nI n0 ∧ i ≤ nI n0 - n then 0 else -13) else -12
theorem m1_neg : ¬ (0 : Int32) ≤ -1 := by decide
theorem pm_barred {sizes lanes : Nat → Int32} {items : Nat → Int64} {k : Nat} (hk : k < 4) {st : SH} (ho : shOk st) (h : SMd sizes lanes items k st) {lane i n : Int32} {Q : Int32 → Prop} (hQ : Q (barI st lane i n)) : wp_X9_barred sizes lanes (nI k) lane i n Q := by
  unfold wp_X9_barred
  rw [nI_clamp (by omega)]
  refine ⟨vp_in_nI hk (by omega), ?_⟩
  cases st with
  | none =>
    have h : sizes k = -1 := h
    rw [h]
    exact ⟨fun c => absurd c m1_neg, fun _ => hQ⟩
  | some q =>
    obtain ⟨l, n0, f⟩ := q
    obtain ⟨o1, o2, -⟩ := ho
    obtain ⟨h1, h2, h3⟩ := h
    rw [h1, h2]
    have hQ : Q (if nI l = lane then (if 0 ≤ i ∧ 0 ≤ n ∧ n ≤ nI n0 ∧ i ≤ nI n0 - n then 0 else -13) else -12) := hQ
    refine ⟨fun _ => ⟨vp_in_nI hk (by omega), fun c => ?_, fun c => ?_⟩, fun c => absurd (nI_pos' (by omega)) c⟩
    · rw [if_pos c] at hQ
      have bad : (¬ (0 ≤ i ∧ 0 ≤ n ∧ n ≤ nI n0 ∧ i ≤ nI n0 - n)) → Q (-13) := fun hb => by rw [if_neg hb] at hQ; exact hQ
      refine ⟨fun c2 => bad (fun hb => absurd hb.1 (Int32.not_le.mpr c2)), fun c2 => ⟨fun c3 => bad (fun hb => absurd hb.2.1 (Int32.not_le.mpr c3)), fun c3 => ⟨vp_in_nI hk (by omega), fun c4 => bad (fun hb => absurd hb.2.2.1 (Int32.not_le.mpr c4)), fun c4 => ⟨vp_in_nI hk (by omega), fun c5 => ?_, fun c5 => bad (fun hb => c5 hb.2.2.2)⟩⟩⟩⟩
      rw [if_pos ⟨Int32.not_lt.mp c2, Int32.not_lt.mp c3, Int32.not_lt.mp c4, c5⟩] at hQ
      exact hQ
    · rw [if_neg c] at hQ; exact hQ
theorem pm_drop {sizes lanes : Nat → Int32} {items : Nat → Int64} {k : Nat} (hk : k < 4) {st : SH} (ho : shOk st) (h : SMd sizes lanes items k st) {Q : Int32 → (Nat → Int32) → Prop} (hQ : match (generalizing := false) st with | none => Q (-11) sizes | some (_, n, _) => Q (nI n) (upd sizes k (-1))) : wp_X9_drop sizes (nI k) Q := by
  unfold wp_X9_drop
  rw [nI_clamp (by omega)]
  refine pm_isSheet ?_
  rw [show inR (nI k) 0 3 = true from inR_t.mpr (by rw [nI_toInt (by omega)]; omega)]
  refine ⟨fun _ => ⟨vp_in_nI hk (by omega), ?_⟩, fun c => absurd c (by decide)⟩
  cases st with
  | none =>
    have h : sizes k = -1 := h
    rw [h]
    exact ⟨fun c => absurd c m1_neg, fun _ => hQ⟩
  | some q =>
    obtain ⟨l, n0, f⟩ := q
    obtain ⟨o1, o2, -⟩ := ho
    rw [h.1]
    refine ⟨fun _ => ⟨vp_in_nI hk (by omega), fun v6 e6 => ⟨vp_in_nI hk (by omega), fun f8 e8 => ?_⟩⟩, fun c => absurd (nI_pos' (by omega)) c⟩
    rw [e6, e8]
    exact hQ
theorem pm_dropBad {sizes : Nat → Int32} {p : Int32} (hp : inR p 0 3 = false) {Q : Int32 → (Nat → Int32) → Prop} (hQ : Q (-1) sizes) : wp_X9_drop sizes p Q := by
  unfold wp_X9_drop
  refine pm_isSheet ?_
  rw [hp]
  exact ⟨fun c => absurd rfl c, fun _ => hQ⟩
def cutL (l : Nat) (v : Int64) : Int64 := match l with
  | 0 => Int32.toInt64 (Int8.toInt32 (Int32.toInt8 (Int64.toInt32 v)))
  | 1 => Int32.toInt64 (Int16.toInt32 (Int32.toInt16 (Int64.toInt32 v)))
  | 2 => Int32.toInt64 (Int64.toInt32 v)
  | _ => v
theorem pm_cut {l : Nat} (hl : l ≤ 3) {v : Int64} {Q : Int64 → Prop} (hQ : Q (cutL l v)) : wp_X9_cut (nI l) v Q := by
  unfold wp_X9_cut
  have h : l = 0 ∨ l = 1 ∨ l = 2 ∨ l = 3 := by omega
  rcases h with rfl | rfl | rfl | rfl
  · exact ⟨fun c => absurd rfl c, fun _ => hQ⟩
  · exact ⟨fun _ => ⟨fun c => absurd rfl c, fun _ => hQ⟩, fun c => absurd c (by decide)⟩
  · exact ⟨fun _ => ⟨fun _ => ⟨fun c => absurd rfl c, fun _ => hQ⟩, fun c => absurd c (by decide)⟩, fun c => absurd c (by decide)⟩
  · exact ⟨fun _ => ⟨fun _ => ⟨fun _ => hQ, fun c => absurd c (by decide)⟩, fun c => absurd c (by decide)⟩, fun c => absurd c (by decide)⟩
/-- where nothing bars -/
theorem barI_0 {st : SH} (ho : shOk st) {lane i n : Int32} (h : barI st lane i n = 0) : ∃ l n0 f i' n', st = some (l, n0, f) ∧ lane = nI l ∧ i = nI i' ∧ n = nI n' ∧ i' + n' ≤ n0 ∧ l ≤ 3 ∧ n0 ≤ 24 := by
  cases st with
  | none => exact absurd (show (-11 : Int32) = 0 from h) (by decide)
  | some q =>
    obtain ⟨l, n0, f⟩ := q
    obtain ⟨o1, o2, -⟩ := ho
    have h : (if nI l = lane then (if 0 ≤ i ∧ 0 ≤ n ∧ n ≤ nI n0 ∧ i ≤ nI n0 - n then (0 : Int32) else -13) else -12) = 0 := h
    split at h
    case isFalse => exact absurd h (by decide)
    case isTrue hl =>
      split at h
      case isFalse => exact absurd h (by decide)
      case isTrue hb =>
        obtain ⟨i', hi31, rfl⟩ := nI_of (Int32.not_lt.mpr hb.1)
        obtain ⟨n', hn31, rfl⟩ := nI_of (Int32.not_lt.mpr hb.2.1)
        have h1 := (nI_leI hn31 (by omega)).mp hb.2.2.1
        have h2 := hb.2.2.2
        rw [pk_sub h1, nI_leI hi31 (by omega)] at h2
        exact ⟨l, n0, f, i', n', rfl, hl.symm, rfl, rfl, by omega, o1, o2⟩
theorem barI_ok {l n0 : Nat} {f : Nat → Int64} {i' n' : Nat} (h : i' + n' ≤ n0) (h0 : n0 ≤ 24) : barI (some (l, n0, f)) (nI l) (nI i') (nI n') = 0 := by
  show (if nI l = nI l then (if 0 ≤ nI i' ∧ 0 ≤ nI n' ∧ nI n' ≤ nI n0 ∧ nI i' ≤ nI n0 - nI n' then (0 : Int32) else -13) else -12) = 0
  rw [if_pos rfl, if_pos]
  rw [pk_sub (by omega), nI_leI (by omega) (by omega), nI_leI (by omega) (by omega)]
  exact ⟨nI_pos' (by omega), nI_pos' (by omega), by omega, by omega⟩
theorem pm_item {sizes lanes : Nat → Int32} {items : Nat → Int64} {k l : Nat} (hk : k < 4) (hl : l ≤ 3) {st : SH} (ho : shOk st) (h : SMd sizes lanes items k st) {i : Int32} {v : Int64} {Q : Int32 → (Nat → Int64) → Prop}
    (hbad : ¬ barI st (nI l) i 1 = 0 → Q (barI st (nI l) i 1) items) (hok : barI st (nI l) i 1 = 0 → Q 1 (vp_updL items (24 * k + i.toNatClampNeg) (cutL l v))) : wp_X9_item items sizes lanes (nI k) (nI l) i v Q := by
  unfold wp_X9_item
  refine pm_isSheet ?_
  rw [show inR (nI k) 0 3 = true from inR_t.mpr (by rw [nI_toInt (by omega)]; omega)]
  refine ⟨fun c => absurd c (by decide), fun _ => pm_in ?_⟩
  rw [show (0 : Int32).toInt = 0 by decide, show (3 : Int32).toInt = 3 by decide, show inR (nI l) 0 3 = true from inR_t.mpr (by rw [nI_toInt (by omega)]; omega)]
  refine ⟨fun _ => pm_barred hk ho h ⟨fun c => ?_, fun c => hbad c⟩, fun c => absurd c (by decide)⟩
  have hok := hok c
  obtain ⟨l0, n0, f, i', n', e1, e2, rfl, e4, e5, e6, e7⟩ := barI_0 ho c
  have hn1 : n' = 1 ∨ n' ≠ 1 := by omega
  rw [nI_clamp (by omega)] at hok
  refine pm_cut hl ?_
  rw [il24, pk_mul, nI_add, nI_clamp (by omega)]
  have : 1 ≤ n' := by
    rcases Nat.eq_zero_or_pos n' with e | e
    · rw [e] at e4; exact absurd e4 (by decide)
    · exact e
  exact ⟨vp_in_nI (by omega) (by omega), fun f9 e9 => by rw [e9]; exact hok⟩
theorem pm_itemBad {sizes lanes : Nat → Int32} {items : Nat → Int64} {p q : Int32} (hp : (inR p 0 3 && inR q 0 3) = false) {i : Int32} {v : Int64} {Q : Int32 → (Nat → Int64) → Prop} (hQ : Q (-1) items) : wp_X9_item items sizes lanes p q i v Q := by
  unfold wp_X9_item
  refine pm_isSheet ⟨fun _ => hQ, fun c => pm_in ⟨fun c2 => ?_, fun _ => hQ⟩⟩
  rw [b2i_n0] at c
  have c2 : inR q 0 3 = true := b2i_n0.mp c2
  rw [c, c2] at hp
  exact absurd hp (by decide)
theorem pm_sheet {sizes lanes : Nat → Int32} {items : Nat → Int64} {k l : Nat} (hk : k < 4) (hl : l ≤ 3) {p3 : Int32} {Q : Int32 → (Nat → Int64) × (Nat → Int32) × (Nat → Int32) → Prop}
    (hbig : ¬ p3 ≤ 24 → Q (-1) (items, sizes, lanes)) (hneg : p3 < 0 → Q (-14) (items, sizes, lanes)) (hok : ∀ n : Nat, n ≤ 24 → p3 = nI n → ∀ items', (∀ i, i < 24 → items' (24 * k + i) = 0) → (∀ q, (q < 24 * k ∨ 24 * k + 24 ≤ q) → items' q = items q) → Q (nI n) (items', upd sizes k (nI n), upd lanes k (nI l))) : wp_X9_sheet items sizes lanes (nI k) (nI l) p3 Q := by
  unfold wp_X9_sheet
  refine pm_isSheet ?_
  rw [show inR (nI k) 0 3 = true from inR_t.mpr (by rw [nI_toInt (by omega)]; omega)]
  refine ⟨fun c => absurd c (by decide), fun _ => pm_in ?_⟩
  rw [show (0 : Int32).toInt = 0 by decide, show (3 : Int32).toInt = 3 by decide, show inR (nI l) 0 3 = true from inR_t.mpr (by rw [nI_toInt (by omega)]; omega)]
  refine ⟨fun c => absurd c (by decide), fun _ => ⟨fun c => ⟨fun c2 => ?_, fun c2 => hneg (Int32.not_le.mp c2)⟩, hbig⟩⟩
  obtain ⟨n, hn31, rfl⟩ := nI_of (Int32.not_lt.mpr c2)
  rw [il24, nI_leI hn31 (by omega)] at c
  rw [nI_clamp (by omega)]
  refine ⟨vp_in_nI hk (by omega), fun f8 e8 => ⟨vp_in_nI hk (by omega), fun f10 e10 => ?_⟩⟩
  refine loop_0 (σ := Nat → Int64) (fun m i t => wp_X9_sheet_48 (nI k) (nI l) (nI n) Q m t f8 f10 (nI i)) (fun j t => (∀ i, i < j → t (24 * k + i) = 0) ∧ ∀ q, (q < 24 * k ∨ 24 * k + 24 ≤ q) → t q = items q) 24 items ⟨fun i hi => by omega, fun _ _ => rfl⟩ ?_ ?_
  · intro m t ht
    unfold wp_X9_sheet_48
    refine ⟨fun _ => ?_, fun c => by simp (disch := omega) only [il0, il1, il2, il3, il4, il5, il6, il7, il8, il9, il10, il15, il16, il22, il24, il30, il31, il40, il41, il60, il70, il146, il161, il9999, pk_mul, nI_add, pk_sub, nI_clamp, nI_leI, nI_ltI, nI_eq] at c; omega⟩
    rw [e8, e10]
    exact hok n c rfl t ht.1 ht.2
  · intro m j t hj ht ih
    unfold wp_X9_sheet_48
    rw [il24, pk_mul, nI_add, nI_clamp (by omega), nI_1]
    refine ⟨fun c => by simp (disch := omega) only [il0, il1, il2, il3, il4, il5, il6, il7, il8, il9, il10, il15, il16, il22, il24, il30, il31, il40, il41, il60, il70, il146, il161, il9999, pk_mul, nI_add, pk_sub, nI_clamp, nI_leI, nI_ltI, nI_eq] at c; omega, fun _ => ⟨vp_in_nI (by omega) (by omega), fun f3 e3 => ih f3 ⟨fun i hi => ?_, fun q hq => ?_⟩⟩⟩
    · rw [e3]
      by_cases e : i = j
      · rw [e]; exact pk_uLs
      · exact (if_neg (by omega)).trans (ht.1 i (by omega))
    · rw [e3]
      exact (if_neg (by omega)).trans (ht.2 q hq)
theorem pm_sheetBad {sizes lanes : Nat → Int32} {items : Nat → Int64} {p q p3 : Int32} (hp : (inR p 0 3 && inR q 0 3) = false) {Q : Int32 → (Nat → Int64) × (Nat → Int32) × (Nat → Int32) → Prop} (hQ : Q (-1) (items, sizes, lanes)) : wp_X9_sheet items sizes lanes p q p3 Q := by
  unfold wp_X9_sheet
  refine pm_isSheet ⟨fun _ => hQ, fun c => pm_in ⟨fun _ => hQ, fun c2 => ?_⟩⟩
  rw [b2i_n0] at c
  have c2 : inR q 0 3 = true := b2i_n0.mp c2
  rw [c, c2] at hp
  exact absurd hp (by decide)
