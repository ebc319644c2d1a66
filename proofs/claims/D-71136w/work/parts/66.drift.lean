/-! pure: drift -/
set_option maxRecDepth 100000
theorem il65536 : (65536 : Int32) = nI 65536 := rfl
def drawI (d : Int32) : Int32 := (d * 1103515245 + 12345) &&& 2147483647
theorem drawL (d : Int32) : Int64.toInt32 (((Int32.toInt64 d) * (1103515245 : Int64) + (12345 : Int64)) &&& (2147483647 : Int64)) = drawI d := by
  unfold drawI
  rw [Int64.toInt32_and, Int64.toInt32_add, Int64.toInt32_mul, Int32.toInt32_toInt64]
  rfl
theorem drawN (d : Int32) : ∃ j, j < 2 ^ 31 ∧ drawI d = nI j := by
  refine ⟨_, ?_, pk_and _ 31 (by decide +kernel)⟩
  exact Nat.mod_lt _ (by decide)
/-- the hand of the draw, the draw being d (a word of its own, so that nobody reckons with the draw's number) -/
def driftD (B : AB) (d : Int32) : AB := if (bS B).length ≤ 1 then setD B d else setS (setD B d) (swapL (bS B) (d.toNatClampNeg / 65536 % ((bS B).length - 1)))
def driftB (B : AB) : AB := driftD B (drawI (bD B))
def stepD (x : AB × List AB) : AB × List AB := (yearB (driftB x.1), noteP x.2 x.1)
theorem drift_lt {B : AB} (h : ¬ (bS B).length ≤ 1) (j : Nat) : j % ((bS B).length - 1) + 1 < (bS B).length := by
  have := Nat.mod_lt j (show 0 < (bS B).length - 1 by omega)
  omega
theorem Inv_setD {B : AB} (hI : Inv B) {d : Int32} (hd : ¬ d < 0) : Inv (setD B d) := by
  obtain ⟨h1, h2, h3, h4, h5, h6, h7, h8, h9⟩ := hI
  exact ⟨h1, h2, h3, h4, h5, h6, h7, h8, hd⟩
theorem Inv_driftD {B : AB} (hI : Inv B) {d : Int32} (hd : ¬ d < 0) : Inv (driftD B d) := by
  have h1 : Inv (setD B d) := Inv_setD hI hd
  unfold driftD
  by_cases hc : (bS B).length ≤ 1
  · rw [if_pos hc]; exact h1
  · rw [if_neg hc]
    exact Inv_swap (B := setD B d) h1 (drift_lt hc _)
theorem driftD_Y (B : AB) (d : Int32) : bY (driftD B d) = bY B ∧ bM (driftD B d) = bM B := by
  unfold driftD
  by_cases hc : (bS B).length ≤ 1
  · rw [if_pos hc]; exact ⟨rfl, rfl⟩
  · rw [if_neg hc]; exact ⟨rfl, rfl⟩
theorem Inv_drift {B : AB} (hI : Inv B) : Inv (driftB B) := by
  obtain ⟨j, hj, e⟩ := drawN (bD B)
  exact Inv_driftD hI (by rw [e]; exact nI_pos hj)
theorem driftB_Y (B : AB) : bY (driftB B) = bY B ∧ bM (driftB B) = bM B := driftD_Y B (drawI (bD B))
theorem yearB_Y (B : AB) : bY (yearB B) = bY B + 1 := rfl
theorem yearB_M (B : AB) : bM (yearB B) = bM B := rfl
theorem InvP_drifts {B : AB} {Ps : List AB} (h : InvP B Ps) : ∀ n, bY B + n ≤ 9999 → InvP (itr stepD n (B, Ps)).1 (itr stepD n (B, Ps)).2 ∧ bY (itr stepD n (B, Ps)).1 = bY B + n ∧ bM (itr stepD n (B, Ps)).1 = bM B
  | 0, _ => ⟨h, rfl, rfl⟩
  | n + 1, hn => by
    obtain ⟨i1, i2, i3⟩ := InvP_drifts h n (by omega)
    rw [itr_succ]
    generalize itr stepD n (B, Ps) = x at i1 i2 i3
    obtain ⟨C, Cs⟩ := x
    unfold stepD
    dsimp only at i1 i2 i3 ⊢
    have ey := driftB_Y C
    have hi := Inv_drift i1.1
    generalize driftB C = D at ey hi
    have e : bY (yearB D) = bY B + (n + 1) := by
      rw [yearB_Y]; omega
    have em : bM (yearB D) = bM C := (yearB_M D).trans ey.2
    exact ⟨InvP_note i1 (Inv_year hi (by omega)) em (by omega), e, em.trans i3⟩
def driftI (B : AB) (Ps : List AB) (p1 : Int32) : Int32 := if timeI B p1 = 0 then benchI (bS (itr stepD p1.toNatClampNeg (B, Ps)).1) else timeI B p1
def driftS (B : AB) (Ps : List AB) (p1 : Int32) : AB × List AB := if timeI B p1 = 0 then itr stepD p1.toNatClampNeg (B, Ps) else (B, Ps)
theorem pc_driftStep {b1 : BT} {C : AB} (e2 : CR b1 C) (hi : Inv C) {d : Nat} (hd1 : d < 2 ^ 31) {v : Int32} (hv : v = nI d) {f1 : Nat → Int32} {K : BT × (Nat → Int32) → Prop} (hK : ∀ b3 f3, CR b3 (yearB (driftD C (nI d))) → K (b3, f3)) :
    ((((ma b1) ≤ (1 : Int32)) → wp_X0_oneYear (kd b1, pl b1, lf b1, se b1, mn b1, ma b1, yr b1, v) f1 K) ∧ (¬ ((ma b1) ≤ (1 : Int32)) → (¬ ((ma b1) - (1 : Int32)) = 0 ∧ wp_X6_change (kd b1, pl b1, lf b1, se b1, mn b1, ma b1, yr b1, v) ((v / (65536 : Int32)) - (v / (65536 : Int32)) / ((ma b1) - (1 : Int32)) * ((ma b1) - (1 : Int32))) (fun u => wp_X0_oneYear u f1 K)))) := by
  have hl := hi.len
  have h6 := hi.1
  have hn : ¬ nI d < 0 := nI_pos hd1
  have hI2 := Inv_driftD hi hn
  have fin : ∀ b2 : BT, CR b2 (driftD C (nI d)) → wp_X0_oneYear b2 f1 K := fun b2 hb2 => pc_oneYear hb2 hI2 hK
  have hd : CR (kd b1, pl b1, lf b1, se b1, mn b1, ma b1, yr b1, v) (setD C (nI d)) := ⟨e2.1, e2.2.1, e2.2.2.1, hv, e2.2.2.2.2.1, e2.2.2.2.2.2.1, e2.2.2.2.2.2.2.1, e2.2.2.2.2.2.2.2⟩
  have hm : ma b1 = nI (bS C).length := e2.2.1
  refine ⟨fun c => fin _ ?_, fun c => ⟨?_, ?_⟩⟩
  · rw [hm] at c
    simp (disch := omega) only [il0, il1, il2, il3, il4, il5, il6, il7, il8, il9, il10, il15, il16, il22, il24, il30, il31, il40, il41, il60, il70, il146, il161, il9999, pk_mul, nI_add, pk_sub, nI_clamp, nI_leI, nI_ltI, nI_eq] at c
    unfold driftD
    rw [if_pos c]; exact hd
  · rw [hm] at c ⊢
    simp (disch := omega) only [il0, il1, il2, il3, il4, il5, il6, il7, il8, il9, il10, il15, il16, il22, il24, il30, il31, il40, il41, il60, il70, il146, il161, il9999, pk_mul, nI_add, pk_sub, nI_clamp, nI_leI, nI_ltI, nI_eq] at c
    rw [il1, pk_sub (by omega), il0, nI_eq (by omega) (by omega)]; omega
  · have c' : ¬ (bS C).length ≤ 1 := by
      rw [hm] at c
      simp (disch := omega) only [il0, il1, il2, il3, il4, il5, il6, il7, il8, il9, il10, il15, il16, il22, il24, il30, il31, il40, il41, il60, il70, il146, il161, il9999, pk_mul, nI_add, pk_sub, nI_clamp, nI_leI, nI_ltI, nI_eq] at c
      exact c
    have ei : (v / (65536 : Int32)) - (v / (65536 : Int32)) / ((ma b1) - (1 : Int32)) * ((ma b1) - (1 : Int32)) = nI (d / 65536 % ((bS C).length - 1)) := by
      rw [hv, hm, il65536, il1, pk_div hd1 (by omega) (by omega), pk_sub (by omega), pk_rem (by omega) (by omega) (by omega)]
    rw [ei]
    refine pc_change hd (Inv_setD hi hn) (drift_lt c' _) (fun b2 hb2 => fin b2 ?_)
    unfold driftD
    rw [if_neg c', nI_clamp hd1]
    exact hb2
theorem pc_drift {b : BT} {B : AB} {Ps : List AB} {p : Nat → BT} (h : CR b B) (hI : InvP B Ps) (hp : PC p Ps) {f : Nat → Int32} {p1 : Int32} {Q : Int32 → Int32 × BT × (Nat → Int32) × (Nat → BT) → Prop} (hQ : ∀ b' f' p', CR b' (driftS B Ps p1).1 → PC p' (driftS B Ps p1).2 → Q (driftI B Ps p1) (nI (driftS B Ps p1).2.length, b', f', p')) : wp_X0_drift (nI Ps.length) b f p p1 Q := by
  unfold wp_X0_drift
  refine pc_lacksTime h hI.2.1 ⟨fun c => ?_, fun c => ?_⟩
  · rw [timeI_neg] at c
    obtain ⟨n, h1, h2, h3, rfl⟩ := timeI_0 c
    simp only [driftI, driftS, if_pos c, nI_clamp (show n < 2 ^ 31 by omega)] at hQ
    refine loop_0 (σ := Int32 × BT × (Nat → Int32) × (Nat → BT)) (fun j i t => wp_X0_drift_14 (nI n) Q j t.1 t.2.1 t.2.2.1 t.2.2.2 (nI i)) (fun k t => t.1 = nI (itr stepD k (B, Ps)).2.length ∧ CR t.2.1 (itr stepD k (B, Ps)).1 ∧ PC t.2.2.2 (itr stepD k (B, Ps)).2) n (nI Ps.length, b, f, p) ⟨rfl, h, hp⟩ ?_ ?_
    · rintro j ⟨u, b1, f1, q1⟩ ⟨e1, e2, e3⟩
      dsimp only at e1 e2 e3 ⊢
      unfold wp_X0_drift_14
      have hi := (InvP_drifts hI n (by omega)).1
      exact ⟨fun _ => pc_onBench e2 hi.1 (by rw [e1]; exact hQ b1 f1 q1 e2 e3), fun c => by simp (disch := omega) only [il0, il1, il2, il3, il4, il5, il6, il7, il8, il9, il10, il15, il16, il22, il24, il30, il31, il40, il41, il60, il70, il146, il161, il9999, pk_mul, nI_add, pk_sub, nI_clamp, nI_leI, nI_ltI, nI_eq] at c; omega⟩
    · rintro j k ⟨u, b1, f1, q1⟩ hk ⟨e1, e2, e3⟩ ih
      dsimp only at e1 e2 e3 ih ⊢
      have hi := (InvP_drifts hI k (by omega)).1
      rw [itr_succ] at ih
      generalize itr stepD k (B, Ps) = x at e1 e2 e3 ih hi
      obtain ⟨C, Cs⟩ := x
      dsimp only at e1 e2 e3 hi
      have hl := hi.1.len
      have h6 := hi.1.1
      unfold wp_X0_drift_14
      rw [e1, nI_1]
      refine ⟨fun c => by simp (disch := omega) only [il0, il1, il2, il3, il4, il5, il6, il7, il8, il9, il10, il15, il16, il22, il24, il30, il31, il40, il41, il60, il70, il146, il161, il9999, pk_mul, nI_add, pk_sub, nI_clamp, nI_leI, nI_ltI, nI_eq] at c; omega, fun _ => pc_note e2 hi.1 e3 (fun q2 hq2 v hv => ?_)⟩
      rw [drawL, e2.2.2.2.1] at hv
      obtain ⟨d, hd1, hd2⟩ := drawN (bD C)
      have eB : driftB C = driftD C (nI d) := by unfold driftB; rw [hd2]
      rw [hd2] at hv
      have ih : ∀ t : Int32 × BT × (Nat → Int32) × (Nat → BT), t.1 = nI (noteP Cs C).length ∧ CR t.2.1 (yearB (driftD C (nI d))) ∧ PC t.2.2.2 (noteP Cs C) → wp_X0_drift_14 (nI n) Q j t.1 t.2.1 t.2.2.1 t.2.2.2 (nI (k + 1)) := by
        intro t ht
        exact ih t (by rw [← eB] at ht; exact ht)
      clear eB hd2
      exact pc_driftStep e2 hi.1 hd1 hv (fun b3 f3 hb3 => ih (_, b3, f3, q2) ⟨rfl, hb3, hq2⟩)
  · have c : ¬ timeI B p1 = 0 := fun e => c (timeI_neg.mpr e)
    simp only [driftI, driftS, if_neg c] at hQ
    exact hQ b f p h hp
theorem pm_driftStep {s2 f5 : Nat → Int32} {C : AB} (e1' : MR s2 C) (hi : Inv C) {d : Nat} (hd1 : d < 2 ^ 31) (h3 : f5 3 = nI d) (gf : ∀ i, i ≠ 3 → f5 i = s2 i) {f1 : Nat → Int32} {K : (Nat → Int32) × (Nat → Int32) → Prop} (hK : ∀ s4 f4, MR s4 (yearB (driftD C (nI d))) → (∀ i, 40 ≤ i → s4 i = f5 i) → K (s4, f4)) :
    (((f5 1 ≤ (1 : Int32)) → wp_X9_passes f5 f1 K) ∧ (¬ (f5 1 ≤ (1 : Int32)) → (¬ (f5 1 - (1 : Int32)) = 0 ∧ wp_X9_changes f5 (((f5 3) / (65536 : Int32)) - ((f5 3) / (65536 : Int32)) / ((f5 1) - (1 : Int32)) * ((f5 1) - (1 : Int32))) (fun u => wp_X9_passes u f1 K)))) := by
  have hl := hi.len
  have h6 := hi.1
  have hn : ¬ nI d < 0 := nI_pos hd1
  have hI2 := Inv_driftD hi hn
  have hd : MR f5 (setD C (nI d)) := ⟨(gf 0 (by omega)).trans e1'.1, (gf 1 (by omega)).trans e1'.2.1, (gf 2 (by omega)).trans e1'.2.2.1, h3, fun k hk => (gf _ (by omega)).trans (e1'.2.2.2.2.1 k hk), fun m hm => (gf _ (by omega)).trans (e1'.2.2.2.2.2.1 m hm), fun m hm => (gf _ (by omega)).trans (e1'.2.2.2.2.2.2.1 m hm), fun i hi => (gf _ (by omega)).trans (e1'.2.2.2.2.2.2.2 i hi)⟩
  have fin : ∀ s3 : Nat → Int32, MR s3 (driftD C (nI d)) → (∀ i, 40 ≤ i → s3 i = f5 i) → wp_X9_passes s3 f1 K := by
    intro s3 g3 g4
    exact pm_passes g3 hI2 (fun s4 f4 k1 k2 => hK s4 f4 k1 (fun i hi => (k2 i hi).trans (g4 i hi)))
  have hm : f5 1 = nI (bS C).length := hd.2.1
  rw [hm, h3]
  refine ⟨fun c => fin _ ?_ (fun _ _ => rfl), fun c => ⟨?_, ?_⟩⟩
  · simp (disch := omega) only [il0, il1, il2, il3, il4, il5, il6, il7, il8, il9, il10, il15, il16, il22, il24, il30, il31, il40, il41, il60, il70, il146, il161, il9999, pk_mul, nI_add, pk_sub, nI_clamp, nI_leI, nI_ltI, nI_eq] at c
    unfold driftD
    rw [if_pos c]; exact hd
  · simp (disch := omega) only [il0, il1, il2, il3, il4, il5, il6, il7, il8, il9, il10, il15, il16, il22, il24, il30, il31, il40, il41, il60, il70, il146, il161, il9999, pk_mul, nI_add, pk_sub, nI_clamp, nI_leI, nI_ltI, nI_eq] at c
    rw [il1, pk_sub (by omega), il0, nI_eq (by omega) (by omega)]; omega
  · simp (disch := omega) only [il0, il1, il2, il3, il4, il5, il6, il7, il8, il9, il10, il15, il16, il22, il24, il30, il31, il40, il41, il60, il70, il146, il161, il9999, pk_mul, nI_add, pk_sub, nI_clamp, nI_leI, nI_ltI, nI_eq] at c
    rw [il65536, il1, pk_div hd1 (by omega) (by omega), pk_sub (by omega), pk_rem (by omega) (by omega) (by omega)]
    refine pm_changes hd (Inv_setD hi hn) (drift_lt c _) (fun s3 k1 k2 => fin s3 ?_ k2)
    unfold driftD
    rw [if_neg c, nI_clamp hd1]
    exact k1
theorem pm_drift {s : Nat → Int32} {B : AB} {Ps : List AB} (h : MR s B) (hI : InvP B Ps) (hp : PM s Ps) {f : Nat → Int32} {p1 : Int32} {Q : Int32 → (Nat → Int32) × (Nat → Int32) → Prop} (hQ : ∀ s' f', MR s' (driftS B Ps p1).1 → PM s' (driftS B Ps p1).2 → Q (driftI B Ps p1) (s', f')) : wp_X9_drift s f p1 Q := by
  have hy := hI.2.1
  unfold wp_X9_drift
  refine pm_in ⟨fun c => ?_, fun c => ?_⟩
  · rw [b2i_n0] at c
    have c : inR p1 1 40 = true := c
    obtain ⟨n, h1, h2, rfl⟩ := inR_40 c
    rw [h.2.2.1]
    refine ⟨fun c2 => ?_, fun c2 => ?_⟩
    · simp (disch := omega) only [il0, il1, il2, il3, il4, il5, il6, il7, il8, il9, il10, il15, il16, il22, il24, il30, il31, il40, il41, il60, il70, il146, il161, il9999, pk_mul, nI_add, pk_sub, nI_clamp, nI_leI, nI_ltI, nI_eq] at c2
      have ct : timeI B (nI n) = 0 := by rw [timeI, if_pos c, nI_clamp (by omega), if_pos c2]
      simp only [driftI, driftS, if_pos ct, nI_clamp (show n < 2 ^ 31 by omega)] at hQ
      refine loop_0 (σ := (Nat → Int32) × (Nat → Int32)) (fun j i t => wp_X9_drift_31 (nI n) Q j t.1 t.2 (nI i)) (fun k t => MR t.1 (itr stepD k (B, Ps)).1 ∧ PM t.1 (itr stepD k (B, Ps)).2) n (s, f) ⟨h, hp⟩ ?_ ?_
      · rintro j ⟨s1, f1⟩ ⟨e1, e2⟩
        dsimp only at e1 e2 ⊢
        unfold wp_X9_drift_31
        have hi := (InvP_drifts hI n (by omega)).1
        exact ⟨fun _ => pm_bench e1 hi.1 (hQ s1 f1 e1 e2), fun c => by simp (disch := omega) only [il0, il1, il2, il3, il4, il5, il6, il7, il8, il9, il10, il15, il16, il22, il24, il30, il31, il40, il41, il60, il70, il146, il161, il9999, pk_mul, nI_add, pk_sub, nI_clamp, nI_leI, nI_ltI, nI_eq] at c; omega⟩
      · rintro j k ⟨s1, f1⟩ hk ⟨e1, e2⟩ ih
        dsimp only at e1 e2 ih ⊢
        have hi := (InvP_drifts hI k (by omega)).1
        rw [itr_succ] at ih
        generalize itr stepD k (B, Ps) = x at e1 e2 ih hi
        obtain ⟨C, Cs⟩ := x
        dsimp only at e1 e2 hi
        have hl := hi.1.len
        have h6 := hi.1.1
        unfold wp_X9_drift_31
        rw [nI_1]
        refine ⟨fun c => by simp (disch := omega) only [il0, il1, il2, il3, il4, il5, il6, il7, il8, il9, il10, il15, il16, il22, il24, il30, il31, il40, il41, il60, il70, il146, il161, il9999, pk_mul, nI_add, pk_sub, nI_clamp, nI_leI, nI_ltI, nI_eq] at c; omega, fun _ => pm_keeps e1 hi.1 e2 hi.sz (fun s2 g1 g2 v hv f5 hf5 => ?_)⟩
        have e1' := MRx e1 h6 hl g1
        have hv : v = drawI (bD C) := by rw [hv, e1'.2.2.2.1]; rfl
        have gf : ∀ i, i ≠ 3 → f5 i = s2 i := fun i hi => by rw [hf5, pk_un hi]
        have h3 : f5 3 = v := by rw [hf5, pk_us]
        obtain ⟨d, hd1, hd2⟩ := drawN (bD C)
        have eB : driftB C = driftD C (nI d) := by unfold driftB; rw [hd2]
        rw [hd2] at hv
        have ih : ∀ t : (Nat → Int32) × (Nat → Int32), MR t.1 (yearB (driftD C (nI d))) ∧ PM t.1 (noteP Cs C) → wp_X9_drift_31 (nI n) Q j t.1 t.2 (nI (k + 1)) := by
          intro t ht
          exact ih t (by rw [← eB] at ht; exact ht)
        clear eB hd2
        have gn := noteP_sz hi
        exact pm_driftStep e1' hi.1 hd1 (h3.trans hv) gf (fun s4 f4 k1 k2 => ih (s4, f4) ⟨k1, PM_keep (B := C) g2 gn (fun i hi => (k2 i hi).trans (gf i (by omega)))⟩)
    · simp (disch := omega) only [il0, il1, il2, il3, il4, il5, il6, il7, il8, il9, il10, il15, il16, il22, il24, il30, il31, il40, il41, il60, il70, il146, il161, il9999, pk_mul, nI_add, pk_sub, nI_clamp, nI_leI, nI_ltI, nI_eq] at c2
      have ct : timeI B (nI n) = -3 := by rw [timeI, if_pos c, nI_clamp (by omega), if_neg c2]
      have cn : ¬ timeI B (nI n) = 0 := by rw [ct]; decide
      simp only [driftI, driftS, if_neg cn] at hQ
      rw [ct] at hQ
      exact hQ s f h hp
  · rw [b2i_0] at c
    have c : inR p1 1 40 = false := c
    have ct : timeI B p1 = -1 := by simp [timeI, c]
    have cn : ¬ timeI B p1 = 0 := by rw [ct]; decide
    simp only [driftI, driftS, if_neg cn] at hQ
    rw [ct] at hQ
    exact hQ s f h hp
theorem Inv_drifts {B : AB} {Ps : List AB} (hI : InvP B Ps) (p1 : Int32) : InvP (driftS B Ps p1).1 (driftS B Ps p1).2 := by
  unfold driftS
  split
  case isFalse => exact hI
  case isTrue c =>
    obtain ⟨n, h1, h2, h3, rfl⟩ := timeI_0 c
    rw [nI_clamp (by omega)]
    exact (InvP_drifts hI n h3).1
