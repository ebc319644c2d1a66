/-! pure: isSo -/
set_option maxRecDepth 100000
theorem lg_eq0 (x y : Int64) : lg_cmp x y = 0 ↔ x = y := by
  have h1 := lg_lt0 x y
  have h2 := lg_gt0 x y
  constructor
  · intro h
    rw [h] at h1 h2
    have a1 : ¬ x.toInt < y.toInt := fun c => absurd (h1.mpr c) (by decide)
    have a2 : ¬ y.toInt < x.toInt := fun c => absurd (h2.mpr c) (by decide)
    exact Int64.toInt_inj.mp (by omega)
  · rintro rfl
    have a1 : ¬ lg_cmp x x < 0 := fun c => absurd (h1.mp c) (by omega)
    have a2 : ¬ 0 < lg_cmp x x := fun c => absurd (h2.mp c) (by omega)
    have z0 : (0 : Int32).toInt = 0 := by decide
    apply Int32.toInt_inj.mp
    have b1 : ¬ (lg_cmp x x).toInt < 0 := fun c => a1 (Int32.lt_iff_toInt_lt.mpr (by omega))
    have b2 : ¬ 0 < (lg_cmp x x).toInt := fun c => a2 (Int32.lt_iff_toInt_lt.mpr (by omega))
    omega
/-- whether a row tells his life behind each of the next years -/
def soB (f : Nat → Int64) (m i : Nat) : Nat → Nat → AB → Bool
  | 0, _, _ => true
  | d + 1, k, B => decide (f (i + k) = Int32.toInt64 (nI (bL (yearB B) m))) && soB f m i d (k + 1) (yearB B)
theorem year_facts (B : AB) : bM (yearB B) = bM B ∧ bY (yearB B) = bY B + 1 := ⟨rfl, rfl⟩
theorem pm_isSo6 {items : Nat → Int64} {f : Nat → Int64} {k0 m i n : Nat} (hk0 : k0 < 4) {B0 : AB} {s0 a : Nat → Int32} (h0 : MR s0 B0) (hI0 : Inv B0) (ha : ∀ j, j < 40 → a j = s0 j) (hin : i + n ≤ 24) (hit : ∀ q, q < i + n → items (24 * k0 + q) = f q) {Q : Int32 → (Nat → Int32) × (Nat → Int32) → Prop} : ∀ (d k : Nat) (B : AB) (x : Bool) (s less : Nat → Int32), k + d = n → MR s B → (∀ j, 40 ≤ j → s j = s0 j) → Inv B → bY B + d ≤ 10100 → m < bM B →
    (∀ s' less', MR s' B0 → (∀ j, 40 ≤ j → s' j = s0 j) → Q (b2i (x && soB f m i d k B)) (s', less')) → wp_X9_isSo_6 items a (nI m) (nI (24 * k0 + i)) (nI n) Q (d + 1) s less (b2i x) (nI k) := by
  intro d
  induction d with
  | zero =>
    intro k B x s less hd hs hs0 hI hy hm hQ
    unfold wp_X9_isSo_6
    refine ⟨fun _ => pm_lets (fun s' g1 g2 => ⟨b2i_z _, ?_⟩), fun c => by simp (disch := omega) only [il0, il1, il2, il3, il4, il5, il6, il7, il8, il9, il10, il15, il16, il22, il24, il30, il31, il40, il41, il60, il70, il146, il161, il9999, pk_mul, nI_add, pk_sub, nI_clamp, nI_leI, nI_ltI, nI_eq] at c; omega⟩
    have := hQ s' less (MRlet h0 hI0 ha g1) (fun j hj => (g2 j hj).trans (hs0 j hj))
    rw [show soB f m i 0 k B = true from rfl, Bool.and_true] at this
    exact this
  | succ d ih =>
    intro k B x s less hd hs hs0 hI hy hm hQ
    have h6 := hI.1
    unfold wp_X9_isSo_6
    refine ⟨fun c => by simp (disch := omega) only [il0, il1, il2, il3, il4, il5, il6, il7, il8, il9, il10, il15, il16, il22, il24, il30, il31, il40, il41, il60, il70, il146, il161, il9999, pk_mul, nI_add, pk_sub, nI_clamp, nI_leI, nI_ltI, nI_eq] at c; omega, fun _ => ⟨fun c => ?_, fun c => ?_⟩⟩
    · rw [b2i_0] at c
      subst c
      refine pm_lets (fun s' g1 g2 => ⟨b2i_z _, ?_⟩)
      have := hQ s' less (MRlet h0 hI0 ha g1) (fun j hj => (g2 j hj).trans (hs0 j hj))
      rw [Bool.false_and] at this
      exact this
    · rw [b2i_n0] at c
      subst c
      refine pm_passes hs hI (fun s' f' g1 g2 => ?_)
      have hIy := Inv_year hI (by omega)
      have hlf : s' (4 + m) = nI (bL (yearB B) m) := g1.2.2.2.2.2.1 m hm
      dsimp only
      rw [il4, nI_add, nI_add, nI_clamp (by omega), nI_clamp (by omega), nI_1, hlf, Nat.add_assoc, hit (i + k) (by omega), lg_eq0]
      refine ⟨vp_in_nI (by omega) (by omega), vp_in_nI (by omega) (by omega), fun e => ?_, fun e => ?_⟩
      · refine ih (k + 1) (yearB B) false s' f' (by omega) g1 (fun j hj => (g2 j hj).trans (hs0 j hj)) hIy (by rw [(year_facts B).2]; omega) hm (fun s2 l2 k1 k2 => ?_)
        have := hQ s2 l2 k1 k2
        rw [show soB f m i (d + 1) k B = (decide (f (i + k) = Int32.toInt64 (nI (bL (yearB B) m))) && soB f m i d (k + 1) (yearB B)) from rfl, decide_eq_false e, Bool.false_and, Bool.and_false] at this
        rw [Bool.false_and]
        exact this
      · refine ih (k + 1) (yearB B) true s' f' (by omega) g1 (fun j hj => (g2 j hj).trans (hs0 j hj)) hIy (by rw [(year_facts B).2]; omega) hm (fun s2 l2 k1 k2 => ?_)
        have := hQ s2 l2 k1 k2
        rw [show soB f m i (d + 1) k B = (decide (f (i + k) = Int32.toInt64 (nI (bL (yearB B) m))) && soB f m i d (k + 1) (yearB B)) from rfl, decide_eq_true e, Bool.true_and] at this
        exact this
theorem pc_isSo6_B {n0 m i n : Nat} {rw : Nat → Int32} {f : Nat → Int64} (hr : ∀ q, q < n0 → Int32.toInt64 (rw q) = f q) (hn0 : n0 ≤ 24) (hin : i + n ≤ n0) {B0 : AB} {a : BT} (ha : CR a B0) (hI0 : Inv B0) {Q : Int32 → BT × (Nat → Int32) → Prop} : ∀ (d k : Nat) (B : AB) (x : Bool) (b : BT) (fl : Nat → Int32), k + d = n → CR b B → Inv B → bY B + d ≤ 10100 → m < bM B →
    (∀ b' fl', CR b' B0 → Q (b2i (x && soB f m i d k B)) (b', fl')) → wp_X0_isSo_B_6 a n0 rw (nI m) (nI i) (nI n) Q (d + 1) b fl (b2i x) (nI k) := by
  intro d
  induction d with
  | zero =>
    intro k B x b fl hd hb hI hy hm hQ
    unfold wp_X0_isSo_B_6
    refine ⟨fun _ => pc_takeFromI ha hI0 (fun b' hb' => ⟨b2i_z _, ?_⟩), fun c => by simp (disch := omega) only [il0, il1, il2, il3, il4, il5, il6, il7, il8, il9, il10, il15, il16, il22, il24, il30, il31, il40, il41, il60, il70, il146, il161, il9999, pk_mul, nI_add, pk_sub, nI_clamp, nI_leI, nI_ltI, nI_eq] at c; omega⟩
    have := hQ b' fl hb'
    rw [show soB f m i 0 k B = true from rfl, Bool.and_true] at this
    exact this
  | succ d ih =>
    intro k B x b fl hd hb hI hy hm hQ
    have h6 := hI.1
    unfold wp_X0_isSo_B_6
    refine ⟨fun c => by simp (disch := omega) only [il0, il1, il2, il3, il4, il5, il6, il7, il8, il9, il10, il15, il16, il22, il24, il30, il31, il40, il41, il60, il70, il146, il161, il9999, pk_mul, nI_add, pk_sub, nI_clamp, nI_leI, nI_ltI, nI_eq] at c; omega, fun _ => ⟨fun c => ?_, fun c => ?_⟩⟩
    · rw [b2i_0] at c
      subst c
      refine pc_takeFromI ha hI0 (fun b' hb' => ⟨b2i_z _, ?_⟩)
      have := hQ b' fl hb'
      rw [Bool.false_and] at this
      exact this
    · rw [b2i_n0] at c
      subst c
      refine pc_oneYear hb hI (fun b' f' hb' => ?_)
      have hIy := Inv_year hI (by omega)
      have hlf : lf b' m = nI (bL (yearB B) m) := hb'.2.2.2.2.2.1 m hm
      unfold wp_X8_get_B
      dsimp only
      rw [nI_add, nI_clamp (by omega), nI_clamp (by omega), nI_1, hlf, hr (i + k) (by omega), lg_eq0]
      refine ⟨vp_in_nI (by omega) (by omega), vp_in_nI (by omega) (by omega), fun e => ?_, fun e => ?_⟩
      · refine ih (k + 1) (yearB B) false b' f' (by omega) hb' hIy (by rw [(year_facts B).2]; omega) hm (fun b2 f2 k1 => ?_)
        have := hQ b2 f2 k1
        rw [show soB f m i (d + 1) k B = (decide (f (i + k) = Int32.toInt64 (nI (bL (yearB B) m))) && soB f m i d (k + 1) (yearB B)) from rfl, decide_eq_false e, Bool.false_and, Bool.and_false] at this
        rw [Bool.false_and]
        exact this
      · refine ih (k + 1) (yearB B) true b' f' (by omega) hb' hIy (by rw [(year_facts B).2]; omega) hm (fun b2 f2 k1 => ?_)
        have := hQ b2 f2 k1
        rw [show soB f m i (d + 1) k B = (decide (f (i + k) = Int32.toInt64 (nI (bL (yearB B) m))) && soB f m i d (k + 1) (yearB B)) from rfl, decide_eq_true e, Bool.true_and] at this
        exact this
theorem pc_isSo6_S {n0 m i n : Nat} {rw : Nat → Int32} {f : Nat → Int64} (hr : ∀ q, q < n0 → Int32.toInt64 (rw q) = f q) (hn0 : n0 ≤ 24) (hin : i + n ≤ n0) {B0 : AB} {a : BT} (ha : CR a B0) (hI0 : Inv B0) {Q : Int32 → BT × (Nat → Int32) → Prop} : ∀ (d k : Nat) (B : AB) (x : Bool) (b : BT) (fl : Nat → Int32), k + d = n → CR b B → Inv B → bY B + d ≤ 10100 → m < bM B →
    (∀ b' fl', CR b' B0 → Q (b2i (x && soB f m i d k B)) (b', fl')) → wp_X0_isSo_S_6 a n0 rw (nI m) (nI i) (nI n) Q (d + 1) b fl (b2i x) (nI k) := by
  intro d
  induction d with
  | zero =>
    intro k B x b fl hd hb hI hy hm hQ
    unfold wp_X0_isSo_S_6
    refine ⟨fun _ => pc_takeFromI ha hI0 (fun b' hb' => ⟨b2i_z _, ?_⟩), fun c => by simp (disch := omega) only [il0, il1, il2, il3, il4, il5, il6, il7, il8, il9, il10, il15, il16, il22, il24, il30, il31, il40, il41, il60, il70, il146, il161, il9999, pk_mul, nI_add, pk_sub, nI_clamp, nI_leI, nI_ltI, nI_eq] at c; omega⟩
    have := hQ b' fl hb'
    rw [show soB f m i 0 k B = true from rfl, Bool.and_true] at this
    exact this
  | succ d ih =>
    intro k B x b fl hd hb hI hy hm hQ
    have h6 := hI.1
    unfold wp_X0_isSo_S_6
    refine ⟨fun c => by simp (disch := omega) only [il0, il1, il2, il3, il4, il5, il6, il7, il8, il9, il10, il15, il16, il22, il24, il30, il31, il40, il41, il60, il70, il146, il161, il9999, pk_mul, nI_add, pk_sub, nI_clamp, nI_leI, nI_ltI, nI_eq] at c; omega, fun _ => ⟨fun c => ?_, fun c => ?_⟩⟩
    · rw [b2i_0] at c
      subst c
      refine pc_takeFromI ha hI0 (fun b' hb' => ⟨b2i_z _, ?_⟩)
      have := hQ b' fl hb'
      rw [Bool.false_and] at this
      exact this
    · rw [b2i_n0] at c
      subst c
      refine pc_oneYear hb hI (fun b' f' hb' => ?_)
      have hIy := Inv_year hI (by omega)
      have hlf : lf b' m = nI (bL (yearB B) m) := hb'.2.2.2.2.2.1 m hm
      unfold wp_X8_get_S
      dsimp only
      rw [nI_add, nI_clamp (by omega), nI_clamp (by omega), nI_1, hlf, hr (i + k) (by omega), lg_eq0]
      refine ⟨vp_in_nI (by omega) (by omega), vp_in_nI (by omega) (by omega), fun e => ?_, fun e => ?_⟩
      · refine ih (k + 1) (yearB B) false b' f' (by omega) hb' hIy (by rw [(year_facts B).2]; omega) hm (fun b2 f2 k1 => ?_)
        have := hQ b2 f2 k1
        rw [show soB f m i (d + 1) k B = (decide (f (i + k) = Int32.toInt64 (nI (bL (yearB B) m))) && soB f m i d (k + 1) (yearB B)) from rfl, decide_eq_false e, Bool.false_and, Bool.and_false] at this
        rw [Bool.false_and]
        exact this
      · refine ih (k + 1) (yearB B) true b' f' (by omega) hb' hIy (by rw [(year_facts B).2]; omega) hm (fun b2 f2 k1 => ?_)
        have := hQ b2 f2 k1
        rw [show soB f m i (d + 1) k B = (decide (f (i + k) = Int32.toInt64 (nI (bL (yearB B) m))) && soB f m i d (k + 1) (yearB B)) from rfl, decide_eq_true e, Bool.true_and] at this
        exact this
theorem pc_isSo6_I {n0 m i n : Nat} {rw : Nat → Int32} {f : Nat → Int64} (hr : ∀ q, q < n0 → Int32.toInt64 (rw q) = f q) (hn0 : n0 ≤ 24) (hin : i + n ≤ n0) {B0 : AB} {a : BT} (ha : CR a B0) (hI0 : Inv B0) {Q : Int32 → BT × (Nat → Int32) → Prop} : ∀ (d k : Nat) (B : AB) (x : Bool) (b : BT) (fl : Nat → Int32), k + d = n → CR b B → Inv B → bY B + d ≤ 10100 → m < bM B →
    (∀ b' fl', CR b' B0 → Q (b2i (x && soB f m i d k B)) (b', fl')) → wp_X0_isSo_I_6 a n0 rw (nI m) (nI i) (nI n) Q (d + 1) b fl (b2i x) (nI k) := by
  intro d
  induction d with
  | zero =>
    intro k B x b fl hd hb hI hy hm hQ
    unfold wp_X0_isSo_I_6
    refine ⟨fun _ => pc_takeFromI ha hI0 (fun b' hb' => ⟨b2i_z _, ?_⟩), fun c => by simp (disch := omega) only [il0, il1, il2, il3, il4, il5, il6, il7, il8, il9, il10, il15, il16, il22, il24, il30, il31, il40, il41, il60, il70, il146, il161, il9999, pk_mul, nI_add, pk_sub, nI_clamp, nI_leI, nI_ltI, nI_eq] at c; omega⟩
    have := hQ b' fl hb'
    rw [show soB f m i 0 k B = true from rfl, Bool.and_true] at this
    exact this
  | succ d ih =>
    intro k B x b fl hd hb hI hy hm hQ
    have h6 := hI.1
    unfold wp_X0_isSo_I_6
    refine ⟨fun c => by simp (disch := omega) only [il0, il1, il2, il3, il4, il5, il6, il7, il8, il9, il10, il15, il16, il22, il24, il30, il31, il40, il41, il60, il70, il146, il161, il9999, pk_mul, nI_add, pk_sub, nI_clamp, nI_leI, nI_ltI, nI_eq] at c; omega, fun _ => ⟨fun c => ?_, fun c => ?_⟩⟩
    · rw [b2i_0] at c
      subst c
      refine pc_takeFromI ha hI0 (fun b' hb' => ⟨b2i_z _, ?_⟩)
      have := hQ b' fl hb'
      rw [Bool.false_and] at this
      exact this
    · rw [b2i_n0] at c
      subst c
      refine pc_oneYear hb hI (fun b' f' hb' => ?_)
      have hIy := Inv_year hI (by omega)
      have hlf : lf b' m = nI (bL (yearB B) m) := hb'.2.2.2.2.2.1 m hm
      unfold wp_X8_get_I
      dsimp only
      rw [nI_add, nI_clamp (by omega), nI_clamp (by omega), nI_1, hlf, hr (i + k) (by omega), lg_eq0]
      refine ⟨vp_in_nI (by omega) (by omega), vp_in_nI (by omega) (by omega), fun e => ?_, fun e => ?_⟩
      · refine ih (k + 1) (yearB B) false b' f' (by omega) hb' hIy (by rw [(year_facts B).2]; omega) hm (fun b2 f2 k1 => ?_)
        have := hQ b2 f2 k1
        rw [show soB f m i (d + 1) k B = (decide (f (i + k) = Int32.toInt64 (nI (bL (yearB B) m))) && soB f m i d (k + 1) (yearB B)) from rfl, decide_eq_false e, Bool.false_and, Bool.and_false] at this
        rw [Bool.false_and]
        exact this
      · refine ih (k + 1) (yearB B) true b' f' (by omega) hb' hIy (by rw [(year_facts B).2]; omega) hm (fun b2 f2 k1 => ?_)
        have := hQ b2 f2 k1
        rw [show soB f m i (d + 1) k B = (decide (f (i + k) = Int32.toInt64 (nI (bL (yearB B) m))) && soB f m i d (k + 1) (yearB B)) from rfl, decide_eq_true e, Bool.true_and] at this
        exact this
theorem pc_isSo6_J {n0 m i n : Nat} {rw : Nat → Int64} {f : Nat → Int64} (hr : ∀ q, q < n0 → rw q = f q) (hn0 : n0 ≤ 24) (hin : i + n ≤ n0) {B0 : AB} {a : BT} (ha : CR a B0) (hI0 : Inv B0) {Q : Int32 → BT × (Nat → Int32) → Prop} : ∀ (d k : Nat) (B : AB) (x : Bool) (b : BT) (fl : Nat → Int32), k + d = n → CR b B → Inv B → bY B + d ≤ 10100 → m < bM B →
    (∀ b' fl', CR b' B0 → Q (b2i (x && soB f m i d k B)) (b', fl')) → wp_X0_isSo_J_6 a n0 rw (nI m) (nI i) (nI n) Q (d + 1) b fl (b2i x) (nI k) := by
  intro d
  induction d with
  | zero =>
    intro k B x b fl hd hb hI hy hm hQ
    unfold wp_X0_isSo_J_6
    refine ⟨fun _ => pc_takeFromI ha hI0 (fun b' hb' => ⟨b2i_z _, ?_⟩), fun c => by simp (disch := omega) only [il0, il1, il2, il3, il4, il5, il6, il7, il8, il9, il10, il15, il16, il22, il24, il30, il31, il40, il41, il60, il70, il146, il161, il9999, pk_mul, nI_add, pk_sub, nI_clamp, nI_leI, nI_ltI, nI_eq] at c; omega⟩
    have := hQ b' fl hb'
    rw [show soB f m i 0 k B = true from rfl, Bool.and_true] at this
    exact this
  | succ d ih =>
    intro k B x b fl hd hb hI hy hm hQ
    have h6 := hI.1
    unfold wp_X0_isSo_J_6
    refine ⟨fun c => by simp (disch := omega) only [il0, il1, il2, il3, il4, il5, il6, il7, il8, il9, il10, il15, il16, il22, il24, il30, il31, il40, il41, il60, il70, il146, il161, il9999, pk_mul, nI_add, pk_sub, nI_clamp, nI_leI, nI_ltI, nI_eq] at c; omega, fun _ => ⟨fun c => ?_, fun c => ?_⟩⟩
    · rw [b2i_0] at c
      subst c
      refine pc_takeFromI ha hI0 (fun b' hb' => ⟨b2i_z _, ?_⟩)
      have := hQ b' fl hb'
      rw [Bool.false_and] at this
      exact this
    · rw [b2i_n0] at c
      subst c
      refine pc_oneYear hb hI (fun b' f' hb' => ?_)
      have hIy := Inv_year hI (by omega)
      have hlf : lf b' m = nI (bL (yearB B) m) := hb'.2.2.2.2.2.1 m hm
      unfold wp_X8_get_J
      dsimp only
      rw [nI_add, nI_clamp (by omega), nI_clamp (by omega), nI_1, hlf, hr (i + k) (by omega), lg_eq0]
      refine ⟨vp_in_nI (by omega) (by omega), vp_in_nI (by omega) (by omega), fun e => ?_, fun e => ?_⟩
      · refine ih (k + 1) (yearB B) false b' f' (by omega) hb' hIy (by rw [(year_facts B).2]; omega) hm (fun b2 f2 k1 => ?_)
        have := hQ b2 f2 k1
        rw [show soB f m i (d + 1) k B = (decide (f (i + k) = Int32.toInt64 (nI (bL (yearB B) m))) && soB f m i d (k + 1) (yearB B)) from rfl, decide_eq_false e, Bool.false_and, Bool.and_false] at this
        rw [Bool.false_and]
        exact this
      · refine ih (k + 1) (yearB B) true b' f' (by omega) hb' hIy (by rw [(year_facts B).2]; omega) hm (fun b2 f2 k1 => ?_)
        have := hQ b2 f2 k1
        rw [show soB f m i (d + 1) k B = (decide (f (i + k) = Int32.toInt64 (nI (bL (yearB B) m))) && soB f m i d (k + 1) (yearB B)) from rfl, decide_eq_true e, Bool.true_and] at this
        exact this
