/-! pure: failed -/
set_option maxRecDepth 100000
def setK (B : AB) (m v : Nat) : AB := (bM B, bS B, bY B, bD B, bL B, updN (bK B) m v, bP B)
def setV (B : AB) (m v : Nat) : AB := setL B (updN (bL B) m v)
theorem CR_setK {b : BT} {B : AB} (h : CR b B) {m v : Nat} {f : Nat → Int32} (hf : f = upd (kd b) m (nI v)) : CR (f, pl b, lf b, se b, mn b, ma b, yr b, dw b) (setK B m v) := by
  obtain ⟨h1, h2, h3, h4, h5, h6, h7, h8⟩ := h
  refine ⟨h1, h2, h3, h4, h5, h6, fun j hj => ?_, h8⟩
  show f j = nI (updN (bK B) m v j)
  rw [hf]
  by_cases e : j = m
  · rw [e, pk_us, updN_s]
  · rw [pk_un e, updN_n e]; exact h7 j hj
theorem CR_setV {b : BT} {B : AB} (h : CR b B) {m v : Nat} {f : Nat → Int32} (hf : f = upd (lf b) m (nI v)) : CR (kd b, pl b, f, se b, mn b, ma b, yr b, dw b) (setV B m v) := by
  obtain ⟨h1, h2, h3, h4, h5, h6, h7, h8⟩ := h
  refine ⟨h1, h2, h3, h4, h5, fun j hj => ?_, h7, h8⟩
  show f j = nI (updN (bL B) m v j)
  rw [hf]
  by_cases e : j = m
  · rw [e, pk_us, updN_s]
  · rw [pk_un e, updN_n e]; exact h6 j hj
theorem MR_setK {s f : Nat → Int32} {B : AB} (h : MR s B) (hI : Inv B) {m v : Nat} (hm : m < bM B) (hf : f = upd s (16 + m) (nI v)) : MR f (setK B m v) ∧ ∀ j, 40 ≤ j → f j = s j := by
  have h6 := hI.1
  have hl := hI.len
  obtain ⟨h1, h2, h3, h4, h5, h7, h8, h9⟩ := h
  have g : ∀ i, i ≠ 16 + m → f i = s i := fun i hi => by rw [hf, pk_un hi]
  refine ⟨⟨(g 0 (by omega)).trans h1, (g 1 (by omega)).trans h2, (g 2 (by omega)).trans h3, (g 3 (by omega)).trans h4, fun k hk => (g _ (by have : k < (bS B).length := hk; omega)).trans (h5 k hk), fun k hk => (g _ (by have : k < bM B := hk; omega)).trans (h7 k hk), fun k hk => ?_, fun k hk => (g _ (by have : k < 3 * bM B := hk; omega)).trans (h9 k hk)⟩, fun j hj => g j (by omega)⟩
  show f (16 + k) = nI (updN (bK B) m v k)
  by_cases e : k = m
  · rw [e, updN_s, hf, pk_us]
  · rw [updN_n e, g _ (by omega)]; exact h8 k hk
theorem MR_setV {s f : Nat → Int32} {B : AB} (h : MR s B) (hI : Inv B) {m v : Nat} (hm : m < bM B) (hf : f = upd s (4 + m) (nI v)) : MR f (setV B m v) ∧ ∀ j, 40 ≤ j → f j = s j := by
  have h6 := hI.1
  have hl := hI.len
  obtain ⟨h1, h2, h3, h4, h5, h7, h8, h9⟩ := h
  have g : ∀ i, i ≠ 4 + m → f i = s i := fun i hi => by rw [hf, pk_un hi]
  refine ⟨⟨(g 0 (by omega)).trans h1, (g 1 (by omega)).trans h2, (g 2 (by omega)).trans h3, (g 3 (by omega)).trans h4, fun k hk => (g _ (by have : k < (bS B).length := hk; omega)).trans (h5 k hk), fun k hk => ?_, fun k hk => (g _ (by have : k < bM B := hk; omega)).trans (h8 k hk), fun k hk => (g _ (by have : k < 3 * bM B := hk; omega)).trans (h9 k hk)⟩, fun j hj => g j (by omega)⟩
  show f (4 + k) = nI (updN (bL B) m v k)
  by_cases e : k = m
  · rw [e, updN_s, hf, pk_us]
  · rw [updN_n e, g _ (by omega)]; exact h7 k hk
theorem Inv_setK {B : AB} (hI : Inv B) {m v : Nat} (hv : v ≤ 4) : Inv (setK B m v) := by
  obtain ⟨h1, h2, h3, h4, h5, h6, h7, h8, h9⟩ := hI
  refine ⟨h1, h2, h3, h4, h5, fun j hj => ?_, h7, h8, h9⟩
  show updN (bK B) m v j ≤ 4
  by_cases e : j = m
  · rw [e, updN_s]; exact hv
  · rw [updN_n e]; exact h6 j hj
theorem Inv_setV {B : AB} (hI : Inv B) {m v : Nat} (h1' : 1 ≤ v) (hv : v ≤ 60) : Inv (setV B m v) := by
  obtain ⟨h1, h2, h3, h4, h5, h6, h7, h8, h9⟩ := hI
  refine ⟨h1, h2, h3, fun j hj => ?_, fun j hj => ?_, h6, h7, h8, h9⟩
  · show 0 < updN (bL B) m v j
    by_cases e : j = m
    · rw [e, updN_s]; omega
    · rw [updN_n e]; exact h4 j hj
  · show updN (bL B) m v j ≤ 60
    by_cases e : j = m
    · rw [e, updN_s]; exact hv
    · rw [updN_n e]; exact h5 j hj
/-- the kinds by which it would be so, up to the z-th -/
def kdI (f : Nat → Int64) (m i n : Nat) (B : AB) : Nat → Int32
  | 0 => 0
  | z + 1 => kdI f m i n B z ||| (if soB f m i n 0 (setK B m z) = true then ((1 : Int32) <<< (nI z &&& 31)) else 0)
/-- how many lives, and the least one, by which it would be so, from 60 down -/
def lvI (f : Nat → Int64) (m i n : Nat) (B : AB) : Nat → Int32 × Int32
  | 0 => (0, -4)
  | z + 1 => ((lvI f m i n B z).1 + (if soB f m i n 0 (setV B m (60 - z)) = true then 1 else 0), if soB f m i n 0 (setV B m (60 - z)) = true then nI (60 - z) else (lvI f m i n B z).2)
theorem pm_kinds {items : Nat → Int64} {f : Nat → Int64} {sizes lanes less : Nat → Int32} {k0 m i n : Nat} (hk0 : k0 < 4) {B : AB} {s a : Nat → Int32} (hs : MR s B) (hI : Inv B) (hy : bY B ≤ 9999) (ha : ∀ j, j < 40 → a j = s j) (hm : m < bM B) (hin : i + n ≤ 24) (hit : ∀ q, q < i + n → items (24 * k0 + q) = f q) {p2 p3 p4 p6 : Int32} {Q : Int32 → (Nat → Int32) × (Nat → Int32) × (Nat → Int32) → Prop}
    (hQ : ∀ s' less', MR s' B → (∀ j, 40 ≤ j → s' j = s j) → Q (if p6 = 0 then kdI f m i n B 5 else if p6 = 1 then (lvI f m i n B 60).1 else (lvI f m i n B 60).2) (s', less', a)) : ∃ j_, wp_X9_failed_99 items sizes lanes (nI m) p2 p3 p4 (nI n) p6 Q j_ s less a (nI (24 * k0 + i)) 0 0 := by
  have h6 := hI.1
  refine loop_0 (σ := (Nat → Int32) × (Nat → Int32) × Int32) (fun j z t => wp_X9_failed_99 items sizes lanes (nI m) p2 p3 p4 (nI n) p6 Q j t.1 t.2.1 a (nI (24 * k0 + i)) t.2.2 (nI z)) (fun z t => MR t.1 B ∧ (∀ j, 40 ≤ j → t.1 j = s j) ∧ t.2.2 = kdI f m i n B z) 5 (s, less, 0) ⟨hs, fun _ _ => rfl, rfl⟩ ?_ ?_
  · rintro j ⟨ts, tl, tx⟩ ⟨e1, e2, e3⟩
    dsimp only at e1 e2 e3 ⊢
    unfold wp_X9_failed_99
    refine ⟨fun _ => ?_, fun c => absurd (by decide) c⟩
    refine loop_0 (σ := (Nat → Int32) × (Nat → Int32) × Int32 × Int32) (fun j z t => wp_X9_failed_158 items sizes lanes (nI m) p2 p3 p4 (nI n) p6 Q j t.1 t.2.1 a (nI (24 * k0 + i)) tx t.2.2.1 t.2.2.2 (nI (60 - z))) (fun z t => MR t.1 B ∧ (∀ j, 40 ≤ j → t.1 j = s j) ∧ t.2.2.1 = (lvI f m i n B z).1 ∧ t.2.2.2 = (lvI f m i n B z).2) 60 (ts, tl, 0, -4) ⟨e1, e2, rfl, rfl⟩ ?_ ?_
    · rintro j ⟨us, ul, u1, u2⟩ ⟨d1, d2, d3, d4⟩
      dsimp only at d1 d2 d3 d4 ⊢
      unfold wp_X9_failed_158
      have hQ := hQ us ul d1 d2
      refine ⟨fun _ => ⟨fun c => ⟨fun c2 => ?_, fun c2 => ?_⟩, fun c => ?_⟩, fun c => absurd (by decide) c⟩
      · rw [if_neg c, if_neg c2, ← d4] at hQ; exact hQ
      · rw [if_neg c, if_pos c2, ← d3] at hQ; exact hQ
      · rw [if_pos c, ← e3] at hQ; exact hQ
    · rintro j z ⟨us, ul, u1, u2⟩ hz ⟨d1, d2, d3, d4⟩ ih
      dsimp only at d1 d2 d3 d4 ih ⊢
      unfold wp_X9_failed_158
      rw [il4, nI_add, nI_clamp (by omega), nI_dec (by omega), show 60 - z - 1 = 60 - (z + 1) by omega]
      refine ⟨fun c => by simp (disch := omega) only [il0, il1, il2, il3, il4, il5, il6, il7, il8, il9, il10, il15, il16, il22, il24, il30, il31, il40, il41, il60, il70, il146, il161, il9999, pk_mul, nI_add, pk_sub, nI_clamp, nI_leI, nI_ltI, nI_eq] at c; omega, fun _ => ⟨vp_in_nI (by omega) (by omega), fun f5 e5 => ⟨n + 1, ?_⟩⟩⟩
      obtain ⟨r1, r2⟩ := MR_setV d1 hI hm e5
      refine pm_isSo6 hk0 (s0 := s) hs hI ha hin hit n 0 (setV B m (60 - z)) true f5 ul (by omega) r1 (fun j hj => (r2 j hj).trans (d2 j hj)) (Inv_setV hI (by omega) (by omega)) (by show bY B + n ≤ 10100; omega) hm (fun s' l' g1 g2 => ?_)
      rw [Bool.true_and]
      dsimp only
      by_cases so : soB f m i n 0 (setV B m (60 - z)) = true
      · rw [so]
        refine ⟨fun c => absurd c (by decide), fun _ v hv => ⟨fun c => absurd c (by decide), fun _ => ih (s', l', v, nI (60 - z)) ⟨g1, g2, ?_, ?_⟩⟩⟩
        · dsimp only
          rw [hv, d3, lvI, if_pos so]
        · dsimp only
          exact (if_pos so).symm
      · have so' : soB f m i n 0 (setV B m (60 - z)) = false := by cases e : soB f m i n 0 (setV B m (60 - z)) <;> simp_all
        rw [so']
        refine ⟨fun _ v hv => ⟨fun _ => ih (s', l', v, u2) ⟨g1, g2, ?_, ?_⟩, fun c => absurd rfl c⟩, fun c => absurd rfl c⟩
        · dsimp only
          rw [hv, d3, lvI, if_neg so]
        · dsimp only
          exact d4.trans (if_neg so).symm
  · rintro j z ⟨ts, tl, tx⟩ hz ⟨e1, e2, e3⟩ ih
    dsimp only at e1 e2 e3 ih ⊢
    unfold wp_X9_failed_99
    rw [il16, nI_add, nI_clamp (by omega), nI_1]
    refine ⟨fun c => by simp (disch := omega) only [il0, il1, il2, il3, il4, il5, il6, il7, il8, il9, il10, il15, il16, il22, il24, il30, il31, il40, il41, il60, il70, il146, il161, il9999, pk_mul, nI_add, pk_sub, nI_clamp, nI_leI, nI_ltI, nI_eq] at c; omega, fun _ => ⟨vp_in_nI (by omega) (by omega), fun f3 e3' => ⟨n + 1, ?_⟩⟩⟩
    obtain ⟨r1, r2⟩ := MR_setK e1 hI hm e3'
    refine pm_isSo6 hk0 (s0 := s) hs hI ha hin hit n 0 (setK B m z) true f3 tl (by omega) r1 (fun j hj => (r2 j hj).trans (e2 j hj)) (Inv_setK hI (by omega)) (by show bY B + n ≤ 10100; omega) hm (fun s' l' g1 g2 => ?_)
    rw [Bool.true_and]
    dsimp only
    by_cases so : soB f m i n 0 (setK B m z) = true
    · rw [so]
      refine ⟨fun c => absurd c (by decide), fun _ v hv => ih (s', l', v) ⟨g1, g2, ?_⟩⟩
      dsimp only
      rw [hv, e3, kdI, if_pos so]
    · have so' : soB f m i n 0 (setK B m z) = false := by cases e : soB f m i n 0 (setK B m z) <;> simp_all
      rw [so']
      refine ⟨fun _ v hv => ih (s', l', v) ⟨g1, g2, ?_⟩, fun c => absurd rfl c⟩
      dsimp only
      rw [hv, e3, kdI, if_neg so]
theorem pc_kindsBy_B {n0 m i n : Nat} {rw : Nat → Int32} {f : Nat → Int64} (hr : ∀ q, q < n0 → Int32.toInt64 (rw q) = f q) (hn0 : n0 ≤ 24) (hin : i + n ≤ n0) {B : AB} {b a : BT} {fl : Nat → Int32} (hb : CR b B) (ha : CR a B) (hI : Inv B) (hy : bY B ≤ 9999) (hm : m < bM B) {Q : Int32 → BT × (Nat → Int32) → Prop} (hQ : ∀ b' fl', CR b' B → Q (kdI f m i n B 5) (b', fl')) : wp_X0_kindsBy_B b fl a n0 rw (nI m) (nI i) (nI n) Q := by
  have h6 := hI.1
  unfold wp_X0_kindsBy_B
  refine loop_0 (σ := BT × (Nat → Int32) × Int32) (fun j z t => wp_X0_kindsBy_B_6 a n0 rw (nI m) (nI i) (nI n) Q j t.1 t.2.1 t.2.2 (nI z)) (fun z t => CR t.1 B ∧ t.2.2 = kdI f m i n B z) 5 (b, fl, 0) ⟨hb, rfl⟩ ?_ ?_
  · rintro j ⟨tb, tf, tx⟩ ⟨e1, e2⟩
    dsimp only at e1 e2 ⊢
    unfold wp_X0_kindsBy_B_6
    refine ⟨fun _ => ?_, fun c => absurd (by decide) c⟩
    rw [e2]
    exact hQ tb tf e1
  · rintro j z ⟨tb, tf, tx⟩ hz ⟨e1, e2⟩ ih
    dsimp only at e1 e2 ih ⊢
    unfold wp_X0_kindsBy_B_6
    rw [nI_clamp (by omega), nI_1]
    refine ⟨fun c => by simp (disch := omega) only [il0, il1, il2, il3, il4, il5, il6, il7, il8, il9, il10, il15, il16, il22, il24, il30, il31, il40, il41, il60, il70, il146, il161, il9999, pk_mul, nI_add, pk_sub, nI_clamp, nI_leI, nI_ltI, nI_eq] at c; omega, fun _ => ⟨vp_in_nI (by omega) (by omega), fun f3 e3 => ⟨n + 1, ?_⟩⟩⟩
    refine pc_isSo6_B hr hn0 hin ha hI n 0 (setK B m z) true _ tf (by omega) (CR_setK e1 e3) (Inv_setK hI (by omega)) (by show bY B + n ≤ 10100; omega) hm (fun b' f' g1 => ?_)
    rw [Bool.true_and]
    dsimp only
    by_cases so : soB f m i n 0 (setK B m z) = true
    · rw [so]
      refine ⟨fun c => absurd c (by decide), fun _ v hv => ih (b', f', v) ⟨g1, ?_⟩⟩
      dsimp only
      rw [hv, e2, kdI, if_pos so]
    · have so' : soB f m i n 0 (setK B m z) = false := by cases e : soB f m i n 0 (setK B m z) <;> simp_all
      rw [so']
      refine ⟨fun _ v hv => ih (b', f', v) ⟨g1, ?_⟩, fun c => absurd rfl c⟩
      dsimp only
      rw [hv, e2, kdI, if_neg so]
theorem pc_lives_B {n0 m i n k : Nat} {rw : Nat → Int32} {f : Nat → Int64} (hr : ∀ q, q < n0 → Int32.toInt64 (rw q) = f q) (hn0 : n0 ≤ 24) (hin : i + n ≤ n0) (hk : k < 4) {B : AB} {b a : BT} {fl : Nat → Int32} (hb : CR b B) (ha : CR a B) (hI : Inv B) (hy : bY B ≤ 9999) (hm : m < bM B) {p3 p6 : Int32} {Q : Int32 → BT × (Nat → Int32) × BT → Prop} (hQ : ∀ b' fl', CR b' B → Q (if p6 = 1 then (lvI f m i n B 60).1 else (lvI f m i n B 60).2) (b', fl', a)) : ∃ j_, wp_X0_failed_B_121 n0 rw (nI m) (nI k) p3 (nI i) (nI n) p6 Q j_ b fl a 0 (-4) 60 := by
  have h6 := hI.1
  refine loop_0 (σ := BT × (Nat → Int32) × Int32 × Int32) (fun j z t => wp_X0_failed_B_121 n0 rw (nI m) (nI k) p3 (nI i) (nI n) p6 Q j t.1 t.2.1 a t.2.2.1 t.2.2.2 (nI (60 - z))) (fun z t => CR t.1 B ∧ t.2.2.1 = (lvI f m i n B z).1 ∧ t.2.2.2 = (lvI f m i n B z).2) 60 (b, fl, 0, -4) ⟨hb, rfl, rfl⟩ ?_ ?_
  · rintro j ⟨tb, tf, u1, u2⟩ ⟨e1, e2, e3⟩
    dsimp only at e1 e2 e3 ⊢
    unfold wp_X0_failed_B_121
    have hQ := hQ tb tf e1
    refine ⟨fun _ => ⟨fun c => ?_, fun c => ?_⟩, fun c => absurd (by decide) c⟩
    · rw [if_neg c, ← e3] at hQ; exact hQ
    · rw [if_pos c, ← e2] at hQ; exact hQ
  · rintro j z ⟨tb, tf, u1, u2⟩ hz ⟨e1, e2, e3⟩ ih
    dsimp only at e1 e2 e3 ih ⊢
    unfold wp_X0_failed_B_121
    rw [nI_clamp (by omega), nI_dec (by omega), show 60 - z - 1 = 60 - (z + 1) by omega]
    refine ⟨fun c => by simp (disch := omega) only [il0, il1, il2, il3, il4, il5, il6, il7, il8, il9, il10, il15, il16, il22, il24, il30, il31, il40, il41, il60, il70, il146, il161, il9999, pk_mul, nI_add, pk_sub, nI_clamp, nI_leI, nI_ltI, nI_eq] at c; omega, fun _ => ⟨vp_in_nI (by omega) (by omega), fun f4 e4 => ⟨vp_in_nI hk (by omega), ⟨n + 1, ?_⟩⟩⟩⟩
    refine pc_isSo6_B hr hn0 hin ha hI n 0 (setV B m (60 - z)) true _ tf (by omega) (CR_setV e1 e4) (Inv_setV hI (by omega) (by omega)) (by show bY B + n ≤ 10100; omega) hm (fun b' f' g1 => ?_)
    rw [Bool.true_and]
    dsimp only
    by_cases so : soB f m i n 0 (setV B m (60 - z)) = true
    · rw [so]
      refine ⟨fun c => absurd c (by decide), fun _ v hv => ⟨fun c => absurd c (by decide), fun _ => ih (b', f', v, nI (60 - z)) ⟨g1, ?_, ?_⟩⟩⟩
      · dsimp only
        rw [hv, e2, lvI, if_pos so]
      · dsimp only
        exact (if_pos so).symm
    · have so' : soB f m i n 0 (setV B m (60 - z)) = false := by cases e : soB f m i n 0 (setV B m (60 - z)) <;> simp_all
      rw [so']
      refine ⟨fun _ v hv => ⟨fun _ => ih (b', f', v, u2) ⟨g1, ?_, ?_⟩, fun c => absurd rfl c⟩, fun c => absurd rfl c⟩
      · dsimp only
        rw [hv, e2, lvI, if_neg so]
      · dsimp only
        exact e3.trans (if_neg so).symm
theorem pc_kindsBy_S {n0 m i n : Nat} {rw : Nat → Int32} {f : Nat → Int64} (hr : ∀ q, q < n0 → Int32.toInt64 (rw q) = f q) (hn0 : n0 ≤ 24) (hin : i + n ≤ n0) {B : AB} {b a : BT} {fl : Nat → Int32} (hb : CR b B) (ha : CR a B) (hI : Inv B) (hy : bY B ≤ 9999) (hm : m < bM B) {Q : Int32 → BT × (Nat → Int32) → Prop} (hQ : ∀ b' fl', CR b' B → Q (kdI f m i n B 5) (b', fl')) : wp_X0_kindsBy_S b fl a n0 rw (nI m) (nI i) (nI n) Q := by
  have h6 := hI.1
  unfold wp_X0_kindsBy_S
  refine loop_0 (σ := BT × (Nat → Int32) × Int32) (fun j z t => wp_X0_kindsBy_S_6 a n0 rw (nI m) (nI i) (nI n) Q j t.1 t.2.1 t.2.2 (nI z)) (fun z t => CR t.1 B ∧ t.2.2 = kdI f m i n B z) 5 (b, fl, 0) ⟨hb, rfl⟩ ?_ ?_
  · rintro j ⟨tb, tf, tx⟩ ⟨e1, e2⟩
    dsimp only at e1 e2 ⊢
    unfold wp_X0_kindsBy_S_6
    refine ⟨fun _ => ?_, fun c => absurd (by decide) c⟩
    rw [e2]
    exact hQ tb tf e1
  · rintro j z ⟨tb, tf, tx⟩ hz ⟨e1, e2⟩ ih
    dsimp only at e1 e2 ih ⊢
    unfold wp_X0_kindsBy_S_6
    rw [nI_clamp (by omega), nI_1]
    refine ⟨fun c => by simp (disch := omega) only [il0, il1, il2, il3, il4, il5, il6, il7, il8, il9, il10, il15, il16, il22, il24, il30, il31, il40, il41, il60, il70, il146, il161, il9999, pk_mul, nI_add, pk_sub, nI_clamp, nI_leI, nI_ltI, nI_eq] at c; omega, fun _ => ⟨vp_in_nI (by omega) (by omega), fun f3 e3 => ⟨n + 1, ?_⟩⟩⟩
    refine pc_isSo6_S hr hn0 hin ha hI n 0 (setK B m z) true _ tf (by omega) (CR_setK e1 e3) (Inv_setK hI (by omega)) (by show bY B + n ≤ 10100; omega) hm (fun b' f' g1 => ?_)
    rw [Bool.true_and]
    dsimp only
    by_cases so : soB f m i n 0 (setK B m z) = true
    · rw [so]
      refine ⟨fun c => absurd c (by decide), fun _ v hv => ih (b', f', v) ⟨g1, ?_⟩⟩
      dsimp only
      rw [hv, e2, kdI, if_pos so]
    · have so' : soB f m i n 0 (setK B m z) = false := by cases e : soB f m i n 0 (setK B m z) <;> simp_all
      rw [so']
      refine ⟨fun _ v hv => ih (b', f', v) ⟨g1, ?_⟩, fun c => absurd rfl c⟩
      dsimp only
      rw [hv, e2, kdI, if_neg so]
theorem pc_lives_S {n0 m i n k : Nat} {rw : Nat → Int32} {f : Nat → Int64} (hr : ∀ q, q < n0 → Int32.toInt64 (rw q) = f q) (hn0 : n0 ≤ 24) (hin : i + n ≤ n0) (hk : k < 4) {B : AB} {b a : BT} {fl : Nat → Int32} (hb : CR b B) (ha : CR a B) (hI : Inv B) (hy : bY B ≤ 9999) (hm : m < bM B) {p3 p6 : Int32} {Q : Int32 → BT × (Nat → Int32) × BT → Prop} (hQ : ∀ b' fl', CR b' B → Q (if p6 = 1 then (lvI f m i n B 60).1 else (lvI f m i n B 60).2) (b', fl', a)) : ∃ j_, wp_X0_failed_S_121 n0 rw (nI m) (nI k) p3 (nI i) (nI n) p6 Q j_ b fl a 0 (-4) 60 := by
  have h6 := hI.1
  refine loop_0 (σ := BT × (Nat → Int32) × Int32 × Int32) (fun j z t => wp_X0_failed_S_121 n0 rw (nI m) (nI k) p3 (nI i) (nI n) p6 Q j t.1 t.2.1 a t.2.2.1 t.2.2.2 (nI (60 - z))) (fun z t => CR t.1 B ∧ t.2.2.1 = (lvI f m i n B z).1 ∧ t.2.2.2 = (lvI f m i n B z).2) 60 (b, fl, 0, -4) ⟨hb, rfl, rfl⟩ ?_ ?_
  · rintro j ⟨tb, tf, u1, u2⟩ ⟨e1, e2, e3⟩
    dsimp only at e1 e2 e3 ⊢
    unfold wp_X0_failed_S_121
    have hQ := hQ tb tf e1
    refine ⟨fun _ => ⟨fun c => ?_, fun c => ?_⟩, fun c => absurd (by decide) c⟩
    · rw [if_neg c, ← e3] at hQ; exact hQ
    · rw [if_pos c, ← e2] at hQ; exact hQ
  · rintro j z ⟨tb, tf, u1, u2⟩ hz ⟨e1, e2, e3⟩ ih
    dsimp only at e1 e2 e3 ih ⊢
    unfold wp_X0_failed_S_121
    rw [nI_clamp (by omega), nI_dec (by omega), show 60 - z - 1 = 60 - (z + 1) by omega]
    refine ⟨fun c => by simp (disch := omega) only [il0, il1, il2, il3, il4, il5, il6, il7, il8, il9, il10, il15, il16, il22, il24, il30, il31, il40, il41, il60, il70, il146, il161, il9999, pk_mul, nI_add, pk_sub, nI_clamp, nI_leI, nI_ltI, nI_eq] at c; omega, fun _ => ⟨vp_in_nI (by omega) (by omega), fun f4 e4 => ⟨vp_in_nI hk (by omega), ⟨n + 1, ?_⟩⟩⟩⟩
    refine pc_isSo6_S hr hn0 hin ha hI n 0 (setV B m (60 - z)) true _ tf (by omega) (CR_setV e1 e4) (Inv_setV hI (by omega) (by omega)) (by show bY B + n ≤ 10100; omega) hm (fun b' f' g1 => ?_)
    rw [Bool.true_and]
    dsimp only
    by_cases so : soB f m i n 0 (setV B m (60 - z)) = true
    · rw [so]
      refine ⟨fun c => absurd c (by decide), fun _ v hv => ⟨fun c => absurd c (by decide), fun _ => ih (b', f', v, nI (60 - z)) ⟨g1, ?_, ?_⟩⟩⟩
      · dsimp only
        rw [hv, e2, lvI, if_pos so]
      · dsimp only
        exact (if_pos so).symm
    · have so' : soB f m i n 0 (setV B m (60 - z)) = false := by cases e : soB f m i n 0 (setV B m (60 - z)) <;> simp_all
      rw [so']
      refine ⟨fun _ v hv => ⟨fun _ => ih (b', f', v, u2) ⟨g1, ?_, ?_⟩, fun c => absurd rfl c⟩, fun c => absurd rfl c⟩
      · dsimp only
        rw [hv, e2, lvI, if_neg so]
      · dsimp only
        exact e3.trans (if_neg so).symm
theorem pc_kindsBy_I {n0 m i n : Nat} {rw : Nat → Int32} {f : Nat → Int64} (hr : ∀ q, q < n0 → Int32.toInt64 (rw q) = f q) (hn0 : n0 ≤ 24) (hin : i + n ≤ n0) {B : AB} {b a : BT} {fl : Nat → Int32} (hb : CR b B) (ha : CR a B) (hI : Inv B) (hy : bY B ≤ 9999) (hm : m < bM B) {Q : Int32 → BT × (Nat → Int32) → Prop} (hQ : ∀ b' fl', CR b' B → Q (kdI f m i n B 5) (b', fl')) : wp_X0_kindsBy_I b fl a n0 rw (nI m) (nI i) (nI n) Q := by
  have h6 := hI.1
  unfold wp_X0_kindsBy_I
  refine loop_0 (σ := BT × (Nat → Int32) × Int32) (fun j z t => wp_X0_kindsBy_I_6 a n0 rw (nI m) (nI i) (nI n) Q j t.1 t.2.1 t.2.2 (nI z)) (fun z t => CR t.1 B ∧ t.2.2 = kdI f m i n B z) 5 (b, fl, 0) ⟨hb, rfl⟩ ?_ ?_
  · rintro j ⟨tb, tf, tx⟩ ⟨e1, e2⟩
    dsimp only at e1 e2 ⊢
    unfold wp_X0_kindsBy_I_6
    refine ⟨fun _ => ?_, fun c => absurd (by decide) c⟩
    rw [e2]
    exact hQ tb tf e1
  · rintro j z ⟨tb, tf, tx⟩ hz ⟨e1, e2⟩ ih
    dsimp only at e1 e2 ih ⊢
    unfold wp_X0_kindsBy_I_6
    rw [nI_clamp (by omega), nI_1]
    refine ⟨fun c => by simp (disch := omega) only [il0, il1, il2, il3, il4, il5, il6, il7, il8, il9, il10, il15, il16, il22, il24, il30, il31, il40, il41, il60, il70, il146, il161, il9999, pk_mul, nI_add, pk_sub, nI_clamp, nI_leI, nI_ltI, nI_eq] at c; omega, fun _ => ⟨vp_in_nI (by omega) (by omega), fun f3 e3 => ⟨n + 1, ?_⟩⟩⟩
    refine pc_isSo6_I hr hn0 hin ha hI n 0 (setK B m z) true _ tf (by omega) (CR_setK e1 e3) (Inv_setK hI (by omega)) (by show bY B + n ≤ 10100; omega) hm (fun b' f' g1 => ?_)
    rw [Bool.true_and]
    dsimp only
    by_cases so : soB f m i n 0 (setK B m z) = true
    · rw [so]
      refine ⟨fun c => absurd c (by decide), fun _ v hv => ih (b', f', v) ⟨g1, ?_⟩⟩
      dsimp only
      rw [hv, e2, kdI, if_pos so]
    · have so' : soB f m i n 0 (setK B m z) = false := by cases e : soB f m i n 0 (setK B m z) <;> simp_all
      rw [so']
      refine ⟨fun _ v hv => ih (b', f', v) ⟨g1, ?_⟩, fun c => absurd rfl c⟩
      dsimp only
      rw [hv, e2, kdI, if_neg so]
theorem pc_lives_I {n0 m i n k : Nat} {rw : Nat → Int32} {f : Nat → Int64} (hr : ∀ q, q < n0 → Int32.toInt64 (rw q) = f q) (hn0 : n0 ≤ 24) (hin : i + n ≤ n0) (hk : k < 4) {B : AB} {b a : BT} {fl : Nat → Int32} (hb : CR b B) (ha : CR a B) (hI : Inv B) (hy : bY B ≤ 9999) (hm : m < bM B) {p3 p6 : Int32} {Q : Int32 → BT × (Nat → Int32) × BT → Prop} (hQ : ∀ b' fl', CR b' B → Q (if p6 = 1 then (lvI f m i n B 60).1 else (lvI f m i n B 60).2) (b', fl', a)) : ∃ j_, wp_X0_failed_I_121 n0 rw (nI m) (nI k) p3 (nI i) (nI n) p6 Q j_ b fl a 0 (-4) 60 := by
  have h6 := hI.1
  refine loop_0 (σ := BT × (Nat → Int32) × Int32 × Int32) (fun j z t => wp_X0_failed_I_121 n0 rw (nI m) (nI k) p3 (nI i) (nI n) p6 Q j t.1 t.2.1 a t.2.2.1 t.2.2.2 (nI (60 - z))) (fun z t => CR t.1 B ∧ t.2.2.1 = (lvI f m i n B z).1 ∧ t.2.2.2 = (lvI f m i n B z).2) 60 (b, fl, 0, -4) ⟨hb, rfl, rfl⟩ ?_ ?_
  · rintro j ⟨tb, tf, u1, u2⟩ ⟨e1, e2, e3⟩
    dsimp only at e1 e2 e3 ⊢
    unfold wp_X0_failed_I_121
    have hQ := hQ tb tf e1
    refine ⟨fun _ => ⟨fun c => ?_, fun c => ?_⟩, fun c => absurd (by decide) c⟩
    · rw [if_neg c, ← e3] at hQ; exact hQ
    · rw [if_pos c, ← e2] at hQ; exact hQ
  · rintro j z ⟨tb, tf, u1, u2⟩ hz ⟨e1, e2, e3⟩ ih
    dsimp only at e1 e2 e3 ih ⊢
    unfold wp_X0_failed_I_121
    rw [nI_clamp (by omega), nI_dec (by omega), show 60 - z - 1 = 60 - (z + 1) by omega]
    refine ⟨fun c => by simp (disch := omega) only [il0, il1, il2, il3, il4, il5, il6, il7, il8, il9, il10, il15, il16, il22, il24, il30, il31, il40, il41, il60, il70, il146, il161, il9999, pk_mul, nI_add, pk_sub, nI_clamp, nI_leI, nI_ltI, nI_eq] at c; omega, fun _ => ⟨vp_in_nI (by omega) (by omega), fun f4 e4 => ⟨vp_in_nI hk (by omega), ⟨n + 1, ?_⟩⟩⟩⟩
    refine pc_isSo6_I hr hn0 hin ha hI n 0 (setV B m (60 - z)) true _ tf (by omega) (CR_setV e1 e4) (Inv_setV hI (by omega) (by omega)) (by show bY B + n ≤ 10100; omega) hm (fun b' f' g1 => ?_)
    rw [Bool.true_and]
    dsimp only
    by_cases so : soB f m i n 0 (setV B m (60 - z)) = true
    · rw [so]
      refine ⟨fun c => absurd c (by decide), fun _ v hv => ⟨fun c => absurd c (by decide), fun _ => ih (b', f', v, nI (60 - z)) ⟨g1, ?_, ?_⟩⟩⟩
      · dsimp only
        rw [hv, e2, lvI, if_pos so]
      · dsimp only
        exact (if_pos so).symm
    · have so' : soB f m i n 0 (setV B m (60 - z)) = false := by cases e : soB f m i n 0 (setV B m (60 - z)) <;> simp_all
      rw [so']
      refine ⟨fun _ v hv => ⟨fun _ => ih (b', f', v, u2) ⟨g1, ?_, ?_⟩, fun c => absurd rfl c⟩, fun c => absurd rfl c⟩
      · dsimp only
        rw [hv, e2, lvI, if_neg so]
      · dsimp only
        exact e3.trans (if_neg so).symm
theorem pc_kindsBy_J {n0 m i n : Nat} {rw : Nat → Int64} {f : Nat → Int64} (hr : ∀ q, q < n0 → rw q = f q) (hn0 : n0 ≤ 24) (hin : i + n ≤ n0) {B : AB} {b a : BT} {fl : Nat → Int32} (hb : CR b B) (ha : CR a B) (hI : Inv B) (hy : bY B ≤ 9999) (hm : m < bM B) {Q : Int32 → BT × (Nat → Int32) → Prop} (hQ : ∀ b' fl', CR b' B → Q (kdI f m i n B 5) (b', fl')) : wp_X0_kindsBy_J b fl a n0 rw (nI m) (nI i) (nI n) Q := by
  have h6 := hI.1
  unfold wp_X0_kindsBy_J
  refine loop_0 (σ := BT × (Nat → Int32) × Int32) (fun j z t => wp_X0_kindsBy_J_6 a n0 rw (nI m) (nI i) (nI n) Q j t.1 t.2.1 t.2.2 (nI z)) (fun z t => CR t.1 B ∧ t.2.2 = kdI f m i n B z) 5 (b, fl, 0) ⟨hb, rfl⟩ ?_ ?_
  · rintro j ⟨tb, tf, tx⟩ ⟨e1, e2⟩
    dsimp only at e1 e2 ⊢
    unfold wp_X0_kindsBy_J_6
    refine ⟨fun _ => ?_, fun c => absurd (by decide) c⟩
    rw [e2]
    exact hQ tb tf e1
  · rintro j z ⟨tb, tf, tx⟩ hz ⟨e1, e2⟩ ih
    dsimp only at e1 e2 ih ⊢
    unfold wp_X0_kindsBy_J_6
    rw [nI_clamp (by omega), nI_1]
    refine ⟨fun c => by simp (disch := omega) only [il0, il1, il2, il3, il4, il5, il6, il7, il8, il9, il10, il15, il16, il22, il24, il30, il31, il40, il41, il60, il70, il146, il161, il9999, pk_mul, nI_add, pk_sub, nI_clamp, nI_leI, nI_ltI, nI_eq] at c; omega, fun _ => ⟨vp_in_nI (by omega) (by omega), fun f3 e3 => ⟨n + 1, ?_⟩⟩⟩
    refine pc_isSo6_J hr hn0 hin ha hI n 0 (setK B m z) true _ tf (by omega) (CR_setK e1 e3) (Inv_setK hI (by omega)) (by show bY B + n ≤ 10100; omega) hm (fun b' f' g1 => ?_)
    rw [Bool.true_and]
    dsimp only
    by_cases so : soB f m i n 0 (setK B m z) = true
    · rw [so]
      refine ⟨fun c => absurd c (by decide), fun _ v hv => ih (b', f', v) ⟨g1, ?_⟩⟩
      dsimp only
      rw [hv, e2, kdI, if_pos so]
    · have so' : soB f m i n 0 (setK B m z) = false := by cases e : soB f m i n 0 (setK B m z) <;> simp_all
      rw [so']
      refine ⟨fun _ v hv => ih (b', f', v) ⟨g1, ?_⟩, fun c => absurd rfl c⟩
      dsimp only
      rw [hv, e2, kdI, if_neg so]
theorem pc_lives_J {n0 m i n k : Nat} {rw : Nat → Int64} {f : Nat → Int64} (hr : ∀ q, q < n0 → rw q = f q) (hn0 : n0 ≤ 24) (hin : i + n ≤ n0) (hk : k < 4) {B : AB} {b a : BT} {fl : Nat → Int32} (hb : CR b B) (ha : CR a B) (hI : Inv B) (hy : bY B ≤ 9999) (hm : m < bM B) {p3 p6 : Int32} {Q : Int32 → BT × (Nat → Int32) × BT → Prop} (hQ : ∀ b' fl', CR b' B → Q (if p6 = 1 then (lvI f m i n B 60).1 else (lvI f m i n B 60).2) (b', fl', a)) : ∃ j_, wp_X0_failed_J_121 n0 rw (nI m) (nI k) p3 (nI i) (nI n) p6 Q j_ b fl a 0 (-4) 60 := by
  have h6 := hI.1
  refine loop_0 (σ := BT × (Nat → Int32) × Int32 × Int32) (fun j z t => wp_X0_failed_J_121 n0 rw (nI m) (nI k) p3 (nI i) (nI n) p6 Q j t.1 t.2.1 a t.2.2.1 t.2.2.2 (nI (60 - z))) (fun z t => CR t.1 B ∧ t.2.2.1 = (lvI f m i n B z).1 ∧ t.2.2.2 = (lvI f m i n B z).2) 60 (b, fl, 0, -4) ⟨hb, rfl, rfl⟩ ?_ ?_
  · rintro j ⟨tb, tf, u1, u2⟩ ⟨e1, e2, e3⟩
    dsimp only at e1 e2 e3 ⊢
    unfold wp_X0_failed_J_121
    have hQ := hQ tb tf e1
    refine ⟨fun _ => ⟨fun c => ?_, fun c => ?_⟩, fun c => absurd (by decide) c⟩
    · rw [if_neg c, ← e3] at hQ; exact hQ
    · rw [if_pos c, ← e2] at hQ; exact hQ
  · rintro j z ⟨tb, tf, u1, u2⟩ hz ⟨e1, e2, e3⟩ ih
    dsimp only at e1 e2 e3 ih ⊢
    unfold wp_X0_failed_J_121
    rw [nI_clamp (by omega), nI_dec (by omega), show 60 - z - 1 = 60 - (z + 1) by omega]
    refine ⟨fun c => by simp (disch := omega) only [il0, il1, il2, il3, il4, il5, il6, il7, il8, il9, il10, il15, il16, il22, il24, il30, il31, il40, il41, il60, il70, il146, il161, il9999, pk_mul, nI_add, pk_sub, nI_clamp, nI_leI, nI_ltI, nI_eq] at c; omega, fun _ => ⟨vp_in_nI (by omega) (by omega), fun f4 e4 => ⟨vp_in_nI hk (by omega), ⟨n + 1, ?_⟩⟩⟩⟩
    refine pc_isSo6_J hr hn0 hin ha hI n 0 (setV B m (60 - z)) true _ tf (by omega) (CR_setV e1 e4) (Inv_setV hI (by omega) (by omega)) (by show bY B + n ≤ 10100; omega) hm (fun b' f' g1 => ?_)
    rw [Bool.true_and]
    dsimp only
    by_cases so : soB f m i n 0 (setV B m (60 - z)) = true
    · rw [so]
      refine ⟨fun c => absurd c (by decide), fun _ v hv => ⟨fun c => absurd c (by decide), fun _ => ih (b', f', v, nI (60 - z)) ⟨g1, ?_, ?_⟩⟩⟩
      · dsimp only
        rw [hv, e2, lvI, if_pos so]
      · dsimp only
        exact (if_pos so).symm
    · have so' : soB f m i n 0 (setV B m (60 - z)) = false := by cases e : soB f m i n 0 (setV B m (60 - z)) <;> simp_all
      rw [so']
      refine ⟨fun _ v hv => ⟨fun _ => ih (b', f', v, u2) ⟨g1, ?_, ?_⟩, fun c => absurd rfl c⟩, fun c => absurd rfl c⟩
      · dsimp only
        rw [hv, e2, lvI, if_neg so]
      · dsimp only
        exact e3.trans (if_neg so).symm
