/-! pure: lacks, film (the component) -/
set_option maxRecDepth 100000
theorem bar_lack {l n0 : Nat} {f : Nat → Int64} {n' : Nat} (h1 : 1 ≤ n') (h24 : n' ≤ 24) (h0 : n0 ≤ 24) {i : Int32} {Q : Int32 → Prop} (hQ : Q (barI (some (l, n0, f)) (nI l) i (nI n'))) : ((i < 0) → Q (-13)) ∧ (¬ (i < 0) → ((i ≤ nI n0 - nI n' → Q 0) ∧ (¬ (i ≤ nI n0 - nI n') → Q (-13)))) := by
  have hQ : Q (if nI l = nI l then (if 0 ≤ i ∧ 0 ≤ nI n' ∧ nI n' ≤ nI n0 ∧ i ≤ nI n0 - nI n' then 0 else -13) else -12) := hQ
  rw [if_pos rfl] at hQ
  refine ⟨fun c => ?_, fun c => ⟨fun c2 => ?_, fun c2 => ?_⟩⟩
  · rw [if_neg (fun h => absurd h.1 (Int32.not_le.mpr c))] at hQ; exact hQ
  · have hle : n' ≤ n0 := by
      rcases Nat.lt_or_ge n0 n' with e | e
      · exfalso
        have e1 := Int32.le_iff_toInt_le.mp c2
        rw [pk_sub_toInt (by omega) (by omega)] at e1
        have e2 := Int32.le_iff_toInt_le.mp (Int32.not_lt.mp c)
        have z0 : (0 : Int32).toInt = 0 := by decide
        omega
      · exact e
    rw [if_pos ⟨Int32.not_lt.mp c, nI_pos' (by omega), (nI_leI (by omega) (by omega)).mpr hle, c2⟩] at hQ
    exact hQ
  · rw [if_neg (fun h => c2 h.2.2.2)] at hQ; exact hQ
theorem nI_l0 {l : Nat} (hl : l ≤ 3) {x : Int32} : (x = nI l) = (nI l = x) := propext ⟨Eq.symm, Eq.symm⟩
/-- what a film leaves -/
def filmF (f : Nat → Int64) (B : AB) (m i n q : Nat) : Int64 := if i ≤ q ∧ q < i + n then Int32.toInt64 (nI (bL (yrs (q - i + 1) B) m)) else f q
theorem filmF_0 {f : Nat → Int64} {B : AB} {m i q : Nat} : filmF f B m i 0 q = f q := if_neg (by omega)
theorem filmF_s {f : Nat → Int64} {B : AB} {m i k q : Nat} : filmF f B m i (k + 1) q = if q = i + k then Int32.toInt64 (nI (bL (yrs (k + 1) B) m)) else filmF f B m i k q := by
  unfold filmF
  by_cases e : q = i + k
  · rw [if_pos e, if_pos (by omega), show q - i + 1 = k + 1 by omega]
  · rw [if_neg e]
    by_cases c : i ≤ q ∧ q < i + k
    · rw [if_pos c, if_pos (by omega)]
    · rw [if_neg c, if_neg (by omega)]
theorem life8 : ∀ x, x ≤ 60 → vp_nar .byte (Int8.toInt32 (Int32.toInt8 (Int64.toInt32 (Int32.toInt64 (nI x))))) = nI x := by
  intro x hx
  have : ∀ x, x < 61 → vp_nar .byte (Int8.toInt32 (Int32.toInt8 (Int64.toInt32 (Int32.toInt64 (nI x))))) = nI x := by decide +kernel
  exact this x (by omega)
theorem life16 : ∀ x, x ≤ 60 → vp_nar .short (Int16.toInt32 (Int32.toInt16 (Int64.toInt32 (Int32.toInt64 (nI x))))) = nI x := by
  intro x hx
  have : ∀ x, x < 61 → vp_nar .short (Int16.toInt32 (Int32.toInt16 (Int64.toInt32 (Int32.toInt64 (nI x))))) = nI x := by decide +kernel
  exact this x (by omega)
theorem life32 : ∀ x, x ≤ 60 → Int64.toInt32 (Int32.toInt64 (nI x)) = nI x := by
  intro x hx
  have : ∀ x, x < 61 → Int64.toInt32 (Int32.toInt64 (nI x)) = nI x := by decide +kernel
  exact this x (by omega)
theorem pc_lacks_B {n0 k l n' : Nat} {rw : Nat → Int32} {f : Nat → Int64} (hn0 : n0 ≤ 24) (hk : k < 4) (hl : l ≤ 3) (h1 : 1 ≤ n') (h24 : n' ≤ 24) {i : Int32} {Q : Int32 → Prop} (hQ : Q (barI (some (0, n0, f)) (nI l) i (nI n'))) : wp_X0_lacks_B n0 rw (nI k) (nI l) i (nI n') Q := by
  unfold wp_X0_lacks_B
  refine ⟨vp_in_nI hk (by omega), ?_⟩
  show ((((0 : Int32) = nI l) → _) ∧ _)
  refine ⟨fun c => ?_, fun c => ?_⟩
  · have e : l = 0 := ((nI_eq (a := 0) (b := l) (by omega) (by omega)).mp c).symm
    subst e
    exact bar_lack h1 h24 hn0 hQ
  · have e : 0 ≠ l := fun e => c (by rw [← e]; rfl)
    rw [bar_ne e (by omega) hl] at hQ
    exact hQ
theorem pc_film65_B {b a : BT} {fl : Nat → Int32} {B : AB} (hb : CR b B) (ha : CR a B) (hI : Inv B) (hy : bY B ≤ 9999) {n0 m k i n : Nat} {rw : Nat → Int32} {f : Nat → Int64} (hr : ∀ q, q < n0 → Int32.toInt64 (rw q) = f q) (hn0 : n0 ≤ 24) (hm : m < bM B) (hk : k < 4) (hin : i + n ≤ n0) {Q : Int32 → BT × (Nat → Int32) × BT × (Nat → Int32) → Prop}
    (hQ : ∀ b' fl' g, CR b' B → (∀ q, q < n0 → Int32.toInt64 (g q) = filmF f B m i n q) → Q (nI n) (b', fl', a, g)) : ∃ j_, wp_X0_film_B_65 n0 (nI m) (nI n) (nI k) (nI 0) (nI i) Q j_ b fl a rw 0 := by
  have h6 := hI.1
  refine loop_0 (σ := BT × (Nat → Int32) × (Nat → Int32)) (fun j q t => wp_X0_film_B_65 n0 (nI m) (nI n) (nI k) (nI 0) (nI i) Q j t.1 t.2.1 a t.2.2 (nI q)) (fun z t => CR t.1 (yrs z B) ∧ ∀ q, q < n0 → Int32.toInt64 (t.2.2 q) = filmF f B m i z q) n (b, fl, rw) ⟨hb, fun q hq => by rw [filmF_0]; exact hr q hq⟩ ?_ ?_
  · rintro j ⟨tb, tf, tw⟩ ht
    dsimp only at ht ⊢
    unfold wp_X0_film_B_65
    exact ⟨fun _ => pc_takeFromI ha hI (fun b' hb' => hQ b' tf tw hb' ht.2), fun c => by simp (disch := omega) only [il0, il1, il2, il3, il4, il5, il6, il7, il8, il9, il10, il15, il16, il22, il24, il30, il31, il40, il41, il60, il70, il146, il161, il9999, pk_mul, nI_add, pk_sub, nI_clamp, nI_leI, nI_ltI, nI_eq] at c; omega⟩
  · rintro j z ⟨tb, tf, tw⟩ hz ht ih
    dsimp only at ht ih ⊢
    unfold wp_X0_film_B_65
    have hIz := Inv_yrs hI z (by omega)
    have hIz1 := Inv_yrs hI (z + 1) (by omega)
    have hMz : bM (yrs (z + 1) B) = bM B := (yrs_facts (z + 1) B).1
    refine ⟨fun c => by simp (disch := omega) only [il0, il1, il2, il3, il4, il5, il6, il7, il8, il9, il10, il15, il16, il22, il24, il30, il31, il40, il41, il60, il70, il146, il161, il9999, pk_mul, nI_add, pk_sub, nI_clamp, nI_leI, nI_ltI, nI_eq] at c; omega, fun _ => pc_oneYear ht.1 hIz (fun b' f' hb' => ⟨vp_in_nI hk (by omega), vp_in_nI (by omega) (by omega), ?_⟩)⟩
    have hb1 : CR b' (yrs (z + 1) B) := by rw [yrs_succ]; exact hb'
    have hlf : lf b' m = nI (bL (yrs (z + 1) B) m) := hb1.2.2.2.2.2.1 m (by rw [hMz]; exact hm)
    have hx : bL (yrs (z + 1) B) m ≤ 60 := hIz1.2.2.2.2.1 m (by rw [hMz]; exact hm)
    rw [nI_add, nI_clamp (by omega), nI_1]
    unfold wp_X8_lay_B
    refine ⟨fun _ v2 e2 => ⟨vp_in_nI (by omega) (by omega), fun f4 e4 => ?_⟩, fun c => absurd c (by decide), fun c => absurd c (by decide), fun c => absurd rfl c.1⟩
    refine ih (b', f', f4) ⟨hb1, fun q hq => ?_⟩
    rw [filmF_s]
    dsimp only
    rw [e4, e2, hlf, life8 _ hx]
    rw [nI_clamp (by omega)]
    by_cases e : q = i + z
    · rw [if_pos e, e]
      exact congrArg Int32.toInt64 pk_us
    · rw [if_neg e]
      exact (congrArg Int32.toInt64 (pk_un e)).trans (ht.2 q hq)
theorem pc_lacks_S {n0 k l n' : Nat} {rw : Nat → Int32} {f : Nat → Int64} (hn0 : n0 ≤ 24) (hk : k < 4) (hl : l ≤ 3) (h1 : 1 ≤ n') (h24 : n' ≤ 24) {i : Int32} {Q : Int32 → Prop} (hQ : Q (barI (some (1, n0, f)) (nI l) i (nI n'))) : wp_X0_lacks_S n0 rw (nI k) (nI l) i (nI n') Q := by
  unfold wp_X0_lacks_S
  refine ⟨vp_in_nI hk (by omega), ?_⟩
  show ((((1 : Int32) = nI l) → _) ∧ _)
  refine ⟨fun c => ?_, fun c => ?_⟩
  · have e : l = 1 := ((nI_eq (a := 1) (b := l) (by omega) (by omega)).mp c).symm
    subst e
    exact bar_lack h1 h24 hn0 hQ
  · have e : 1 ≠ l := fun e => c (by rw [← e]; rfl)
    rw [bar_ne e (by omega) hl] at hQ
    exact hQ
theorem pc_film65_S {b a : BT} {fl : Nat → Int32} {B : AB} (hb : CR b B) (ha : CR a B) (hI : Inv B) (hy : bY B ≤ 9999) {n0 m k i n : Nat} {rw : Nat → Int32} {f : Nat → Int64} (hr : ∀ q, q < n0 → Int32.toInt64 (rw q) = f q) (hn0 : n0 ≤ 24) (hm : m < bM B) (hk : k < 4) (hin : i + n ≤ n0) {Q : Int32 → BT × (Nat → Int32) × BT × (Nat → Int32) → Prop}
    (hQ : ∀ b' fl' g, CR b' B → (∀ q, q < n0 → Int32.toInt64 (g q) = filmF f B m i n q) → Q (nI n) (b', fl', a, g)) : ∃ j_, wp_X0_film_S_65 n0 (nI m) (nI n) (nI k) (nI 1) (nI i) Q j_ b fl a rw 0 := by
  have h6 := hI.1
  refine loop_0 (σ := BT × (Nat → Int32) × (Nat → Int32)) (fun j q t => wp_X0_film_S_65 n0 (nI m) (nI n) (nI k) (nI 1) (nI i) Q j t.1 t.2.1 a t.2.2 (nI q)) (fun z t => CR t.1 (yrs z B) ∧ ∀ q, q < n0 → Int32.toInt64 (t.2.2 q) = filmF f B m i z q) n (b, fl, rw) ⟨hb, fun q hq => by rw [filmF_0]; exact hr q hq⟩ ?_ ?_
  · rintro j ⟨tb, tf, tw⟩ ht
    dsimp only at ht ⊢
    unfold wp_X0_film_S_65
    exact ⟨fun _ => pc_takeFromI ha hI (fun b' hb' => hQ b' tf tw hb' ht.2), fun c => by simp (disch := omega) only [il0, il1, il2, il3, il4, il5, il6, il7, il8, il9, il10, il15, il16, il22, il24, il30, il31, il40, il41, il60, il70, il146, il161, il9999, pk_mul, nI_add, pk_sub, nI_clamp, nI_leI, nI_ltI, nI_eq] at c; omega⟩
  · rintro j z ⟨tb, tf, tw⟩ hz ht ih
    dsimp only at ht ih ⊢
    unfold wp_X0_film_S_65
    have hIz := Inv_yrs hI z (by omega)
    have hIz1 := Inv_yrs hI (z + 1) (by omega)
    have hMz : bM (yrs (z + 1) B) = bM B := (yrs_facts (z + 1) B).1
    refine ⟨fun c => by simp (disch := omega) only [il0, il1, il2, il3, il4, il5, il6, il7, il8, il9, il10, il15, il16, il22, il24, il30, il31, il40, il41, il60, il70, il146, il161, il9999, pk_mul, nI_add, pk_sub, nI_clamp, nI_leI, nI_ltI, nI_eq] at c; omega, fun _ => pc_oneYear ht.1 hIz (fun b' f' hb' => ⟨vp_in_nI hk (by omega), vp_in_nI (by omega) (by omega), ?_⟩)⟩
    have hb1 : CR b' (yrs (z + 1) B) := by rw [yrs_succ]; exact hb'
    have hlf : lf b' m = nI (bL (yrs (z + 1) B) m) := hb1.2.2.2.2.2.1 m (by rw [hMz]; exact hm)
    have hx : bL (yrs (z + 1) B) m ≤ 60 := hIz1.2.2.2.2.1 m (by rw [hMz]; exact hm)
    rw [nI_add, nI_clamp (by omega), nI_1]
    unfold wp_X8_lay_S
    refine ⟨fun c => absurd c (by decide), fun _ v2 e2 => ⟨vp_in_nI (by omega) (by omega), fun f4 e4 => ?_⟩, fun c => absurd c (by decide), fun c => absurd rfl c.2.1⟩
    refine ih (b', f', f4) ⟨hb1, fun q hq => ?_⟩
    rw [filmF_s]
    dsimp only
    rw [e4, e2, hlf, life16 _ hx]
    rw [nI_clamp (by omega)]
    by_cases e : q = i + z
    · rw [if_pos e, e]
      exact congrArg Int32.toInt64 pk_us
    · rw [if_neg e]
      exact (congrArg Int32.toInt64 (pk_un e)).trans (ht.2 q hq)
theorem pc_lacks_I {n0 k l n' : Nat} {rw : Nat → Int32} {f : Nat → Int64} (hn0 : n0 ≤ 24) (hk : k < 4) (hl : l ≤ 3) (h1 : 1 ≤ n') (h24 : n' ≤ 24) {i : Int32} {Q : Int32 → Prop} (hQ : Q (barI (some (2, n0, f)) (nI l) i (nI n'))) : wp_X0_lacks_I n0 rw (nI k) (nI l) i (nI n') Q := by
  unfold wp_X0_lacks_I
  refine ⟨vp_in_nI hk (by omega), ?_⟩
  show ((((2 : Int32) = nI l) → _) ∧ _)
  refine ⟨fun c => ?_, fun c => ?_⟩
  · have e : l = 2 := ((nI_eq (a := 2) (b := l) (by omega) (by omega)).mp c).symm
    subst e
    exact bar_lack h1 h24 hn0 hQ
  · have e : 2 ≠ l := fun e => c (by rw [← e]; rfl)
    rw [bar_ne e (by omega) hl] at hQ
    exact hQ
theorem pc_film65_I {b a : BT} {fl : Nat → Int32} {B : AB} (hb : CR b B) (ha : CR a B) (hI : Inv B) (hy : bY B ≤ 9999) {n0 m k i n : Nat} {rw : Nat → Int32} {f : Nat → Int64} (hr : ∀ q, q < n0 → Int32.toInt64 (rw q) = f q) (hn0 : n0 ≤ 24) (hm : m < bM B) (hk : k < 4) (hin : i + n ≤ n0) {Q : Int32 → BT × (Nat → Int32) × BT × (Nat → Int32) → Prop}
    (hQ : ∀ b' fl' g, CR b' B → (∀ q, q < n0 → Int32.toInt64 (g q) = filmF f B m i n q) → Q (nI n) (b', fl', a, g)) : ∃ j_, wp_X0_film_I_65 n0 (nI m) (nI n) (nI k) (nI 2) (nI i) Q j_ b fl a rw 0 := by
  have h6 := hI.1
  refine loop_0 (σ := BT × (Nat → Int32) × (Nat → Int32)) (fun j q t => wp_X0_film_I_65 n0 (nI m) (nI n) (nI k) (nI 2) (nI i) Q j t.1 t.2.1 a t.2.2 (nI q)) (fun z t => CR t.1 (yrs z B) ∧ ∀ q, q < n0 → Int32.toInt64 (t.2.2 q) = filmF f B m i z q) n (b, fl, rw) ⟨hb, fun q hq => by rw [filmF_0]; exact hr q hq⟩ ?_ ?_
  · rintro j ⟨tb, tf, tw⟩ ht
    dsimp only at ht ⊢
    unfold wp_X0_film_I_65
    exact ⟨fun _ => pc_takeFromI ha hI (fun b' hb' => hQ b' tf tw hb' ht.2), fun c => by simp (disch := omega) only [il0, il1, il2, il3, il4, il5, il6, il7, il8, il9, il10, il15, il16, il22, il24, il30, il31, il40, il41, il60, il70, il146, il161, il9999, pk_mul, nI_add, pk_sub, nI_clamp, nI_leI, nI_ltI, nI_eq] at c; omega⟩
  · rintro j z ⟨tb, tf, tw⟩ hz ht ih
    dsimp only at ht ih ⊢
    unfold wp_X0_film_I_65
    have hIz := Inv_yrs hI z (by omega)
    have hIz1 := Inv_yrs hI (z + 1) (by omega)
    have hMz : bM (yrs (z + 1) B) = bM B := (yrs_facts (z + 1) B).1
    refine ⟨fun c => by simp (disch := omega) only [il0, il1, il2, il3, il4, il5, il6, il7, il8, il9, il10, il15, il16, il22, il24, il30, il31, il40, il41, il60, il70, il146, il161, il9999, pk_mul, nI_add, pk_sub, nI_clamp, nI_leI, nI_ltI, nI_eq] at c; omega, fun _ => pc_oneYear ht.1 hIz (fun b' f' hb' => ⟨vp_in_nI hk (by omega), vp_in_nI (by omega) (by omega), ?_⟩)⟩
    have hb1 : CR b' (yrs (z + 1) B) := by rw [yrs_succ]; exact hb'
    have hlf : lf b' m = nI (bL (yrs (z + 1) B) m) := hb1.2.2.2.2.2.1 m (by rw [hMz]; exact hm)
    have hx : bL (yrs (z + 1) B) m ≤ 60 := hIz1.2.2.2.2.1 m (by rw [hMz]; exact hm)
    rw [nI_add, nI_clamp (by omega), nI_1]
    unfold wp_X8_lay_I
    refine ⟨fun c => absurd c (by decide), fun c => absurd c (by decide), fun _ v2 e2 => ⟨vp_in_nI (by omega) (by omega), fun f4 e4 => ?_⟩, fun c => absurd rfl c.2.2⟩
    refine ih (b', f', f4) ⟨hb1, fun q hq => ?_⟩
    rw [filmF_s]
    dsimp only
    rw [e4, e2, hlf, life32 _ hx]
    rw [nI_clamp (by omega)]
    by_cases e : q = i + z
    · rw [if_pos e, e]
      exact congrArg Int32.toInt64 pk_us
    · rw [if_neg e]
      exact (congrArg Int32.toInt64 (pk_un e)).trans (ht.2 q hq)
theorem pc_lacks_J {n0 k l n' : Nat} {rw : Nat → Int64} {f : Nat → Int64} (hn0 : n0 ≤ 24) (hk : k < 4) (hl : l ≤ 3) (h1 : 1 ≤ n') (h24 : n' ≤ 24) {i : Int32} {Q : Int32 → Prop} (hQ : Q (barI (some (3, n0, f)) (nI l) i (nI n'))) : wp_X0_lacks_J n0 rw (nI k) (nI l) i (nI n') Q := by
  unfold wp_X0_lacks_J
  refine ⟨vp_in_nI hk (by omega), ?_⟩
  show ((((3 : Int32) = nI l) → _) ∧ _)
  refine ⟨fun c => ?_, fun c => ?_⟩
  · have e : l = 3 := ((nI_eq (a := 3) (b := l) (by omega) (by omega)).mp c).symm
    subst e
    exact bar_lack h1 h24 hn0 hQ
  · have e : 3 ≠ l := fun e => c (by rw [← e]; rfl)
    rw [bar_ne e (by omega) hl] at hQ
    exact hQ
theorem pc_film65_J {b a : BT} {fl : Nat → Int32} {B : AB} (hb : CR b B) (ha : CR a B) (hI : Inv B) (hy : bY B ≤ 9999) {n0 m k i n : Nat} {rw : Nat → Int64} {f : Nat → Int64} (hr : ∀ q, q < n0 → rw q = f q) (hn0 : n0 ≤ 24) (hm : m < bM B) (hk : k < 4) (hin : i + n ≤ n0) {Q : Int32 → BT × (Nat → Int32) × BT × (Nat → Int64) → Prop}
    (hQ : ∀ b' fl' g, CR b' B → (∀ q, q < n0 → g q = filmF f B m i n q) → Q (nI n) (b', fl', a, g)) : ∃ j_, wp_X0_film_J_65 n0 (nI m) (nI n) (nI k) (nI 3) (nI i) Q j_ b fl a rw 0 := by
  have h6 := hI.1
  refine loop_0 (σ := BT × (Nat → Int32) × (Nat → Int64)) (fun j q t => wp_X0_film_J_65 n0 (nI m) (nI n) (nI k) (nI 3) (nI i) Q j t.1 t.2.1 a t.2.2 (nI q)) (fun z t => CR t.1 (yrs z B) ∧ ∀ q, q < n0 → t.2.2 q = filmF f B m i z q) n (b, fl, rw) ⟨hb, fun q hq => by rw [filmF_0]; exact hr q hq⟩ ?_ ?_
  · rintro j ⟨tb, tf, tw⟩ ht
    dsimp only at ht ⊢
    unfold wp_X0_film_J_65
    exact ⟨fun _ => pc_takeFromI ha hI (fun b' hb' => hQ b' tf tw hb' ht.2), fun c => by simp (disch := omega) only [il0, il1, il2, il3, il4, il5, il6, il7, il8, il9, il10, il15, il16, il22, il24, il30, il31, il40, il41, il60, il70, il146, il161, il9999, pk_mul, nI_add, pk_sub, nI_clamp, nI_leI, nI_ltI, nI_eq] at c; omega⟩
  · rintro j z ⟨tb, tf, tw⟩ hz ht ih
    dsimp only at ht ih ⊢
    unfold wp_X0_film_J_65
    have hIz := Inv_yrs hI z (by omega)
    have hIz1 := Inv_yrs hI (z + 1) (by omega)
    have hMz : bM (yrs (z + 1) B) = bM B := (yrs_facts (z + 1) B).1
    refine ⟨fun c => by simp (disch := omega) only [il0, il1, il2, il3, il4, il5, il6, il7, il8, il9, il10, il15, il16, il22, il24, il30, il31, il40, il41, il60, il70, il146, il161, il9999, pk_mul, nI_add, pk_sub, nI_clamp, nI_leI, nI_ltI, nI_eq] at c; omega, fun _ => pc_oneYear ht.1 hIz (fun b' f' hb' => ⟨vp_in_nI hk (by omega), vp_in_nI (by omega) (by omega), ?_⟩)⟩
    have hb1 : CR b' (yrs (z + 1) B) := by rw [yrs_succ]; exact hb'
    have hlf : lf b' m = nI (bL (yrs (z + 1) B) m) := hb1.2.2.2.2.2.1 m (by rw [hMz]; exact hm)
    have hx : bL (yrs (z + 1) B) m ≤ 60 := hIz1.2.2.2.2.1 m (by rw [hMz]; exact hm)
    rw [nI_add, nI_clamp (by omega), nI_1]
    unfold wp_X8_lay_J
    refine ⟨fun c => absurd c (by decide), fun c => absurd c (by decide), fun c => absurd c (by decide), fun _ => ⟨vp_in_nI (by omega) (by omega), fun f4 e4 => ?_⟩⟩
    refine ih (b', f', f4) ⟨hb1, fun q hq => ?_⟩
    rw [filmF_s]
    dsimp only
    rw [e4, hlf]
    rw [nI_clamp (by omega)]
    by_cases e : q = i + z
    · rw [if_pos e, e]
      exact if_pos rfl
    · rw [if_neg e]
      exact (if_neg e).trans (ht.2 q hq)
