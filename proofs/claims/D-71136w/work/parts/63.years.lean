/-! pure: years, move, undo -/
set_option maxRecDepth 100000
/-- a bench and what may be undone -/
def InvP (B : AB) (Ps : List AB) : Prop := Inv B ∧ bY B ≤ 9999 ∧ ∀ Y ∈ Ps, Inv Y ∧ bM Y = bM B ∧ bY Y ≤ 9999
theorem InvP.sz {B : AB} {Ps : List AB} (h : InvP B Ps) : ∀ Y ∈ Ps, bM Y ≤ 6 ∧ (bS Y).length ≤ 6 := fun Y hY => ⟨(h.2.2 Y hY).1.1, Nat.le_trans (h.2.2 Y hY).1.len (h.2.2 Y hY).1.1⟩
theorem noteP_mem {Ps : List AB} {B Y : AB} (h : Y ∈ noteP Ps B) : Y ∈ Ps ∨ Y = B := by
  unfold noteP at h
  rcases List.mem_append.mp h with h | h
  · left
    split at h
    · exact List.mem_of_mem_drop h
    · exact h
  · right
    simpa using h
theorem noteP_le {Ps : List AB} (B : AB) (h : Ps.length ≤ 8) : (noteP Ps B).length ≤ 8 := by
  unfold noteP
  rw [List.length_append]
  split
  · rw [List.length_drop]; simp; omega
  · simp; omega
theorem InvP_note {B B' : AB} {Ps : List AB} (h : InvP B Ps) (hI : Inv B') (hm : bM B' = bM B) (hy : bY B' ≤ 9999) : InvP B' (noteP Ps B) := by
  refine ⟨hI, hy, fun Y hY => ?_⟩
  rcases noteP_mem hY with h1 | h1
  · have := h.2.2 Y h1
    exact ⟨this.1, this.2.1.trans hm.symm, this.2.2⟩
  · subst h1
    exact ⟨h.1, hm.symm, h.2.1⟩
def stepY (x : AB × List AB) : AB × List AB := (yearB x.1, noteP x.2 x.1)
def itr {α : Type} (f : α → α) : Nat → α → α
  | 0, x => x
  | n + 1, x => itr f n (f x)
theorem itr_succ {α : Type} (f : α → α) (n : Nat) (x : α) : itr f (n + 1) x = f (itr f n x) := by
  induction n generalizing x with
  | zero => rfl
  | succ n ih => exact ih (f x)
theorem InvP_yrs {B : AB} {Ps : List AB} (h : InvP B Ps) : ∀ n, bY B + n ≤ 9999 → InvP (itr stepY n (B, Ps)).1 (itr stepY n (B, Ps)).2 ∧ bY (itr stepY n (B, Ps)).1 = bY B + n ∧ bM (itr stepY n (B, Ps)).1 = bM B
  | 0, _ => ⟨h, rfl, rfl⟩
  | n + 1, hn => by
    obtain ⟨i1, i2, i3⟩ := InvP_yrs h n (by omega)
    rw [itr_succ]
    have e : bY (yearB (itr stepY n (B, Ps)).1) = bY B + (n + 1) := by
      show bY (itr stepY n (B, Ps)).1 + 1 = _
      omega
    exact ⟨InvP_note i1 (Inv_year i1.1 (by omega)) rfl (by show bY (yearB (itr stepY n (B, Ps)).1) ≤ 9999; omega), e, i3⟩
def timeI (B : AB) (p1 : Int32) : Int32 := if inR p1 1 40 = true then (if bY B + p1.toNatClampNeg ≤ 9999 then 0 else (-3)) else (-1)
theorem inR_40 {x : Int32} (h : inR x 1 40 = true) : ∃ j, 1 ≤ j ∧ j ≤ 40 ∧ x = nI j := by
  rw [inR_t] at h
  refine ⟨x.toInt.toNat, by omega, by omega, Int32.toInt_inj.mp ?_⟩
  rw [nI_toInt (by omega)]; omega
theorem pc_lacksTime {b : BT} {B : AB} (h : CR b B) (hy : bY B ≤ 9999) {p1 : Int32} {Q : Int32 → Prop} (hQ : Q (timeI B p1)) : wp_X0_lacksTime b p1 Q := by
  unfold wp_X0_lacksTime
  refine pc_isIn (a := 1) (c := 40) rfl rfl ⟨fun c => ?_, fun c => ?_⟩
  · rw [b2i_n0] at c
    obtain ⟨n, h1, h2, rfl⟩ := inR_40 c
    rw [timeI, if_pos c, nI_clamp (by omega)] at hQ
    rw [h.2.2.1]
    refine ⟨fun c2 => ?_, fun c2 => ?_⟩
    · simp (disch := omega) only [il0, il1, il2, il3, il4, il5, il6, il7, il8, il9, il10, il15, il16, il22, il24, il30, il31, il40, il41, il60, il70, il146, il161, il9999, pk_mul, nI_add, pk_sub, nI_clamp, nI_leI, nI_ltI, nI_eq] at c2
      rw [if_pos c2] at hQ; exact hQ
    · simp (disch := omega) only [il0, il1, il2, il3, il4, il5, il6, il7, il8, il9, il10, il15, il16, il22, il24, il30, il31, il40, il41, il60, il70, il146, il161, il9999, pk_mul, nI_add, pk_sub, nI_clamp, nI_leI, nI_ltI, nI_eq] at c2
      rw [if_neg c2] at hQ; exact hQ
  · rw [b2i_0] at c
    simp only [timeI, c] at hQ
    exact hQ
def yearsI (B : AB) (Ps : List AB) (p1 : Int32) : Int32 := if timeI B p1 = 0 then benchI (bS (itr stepY p1.toNatClampNeg (B, Ps)).1) else timeI B p1
def yearsS (B : AB) (Ps : List AB) (p1 : Int32) : AB × List AB := if timeI B p1 = 0 then itr stepY p1.toNatClampNeg (B, Ps) else (B, Ps)
theorem timeI_0 {B : AB} {p1 : Int32} (h : timeI B p1 = 0) : ∃ n, 1 ≤ n ∧ n ≤ 40 ∧ bY B + n ≤ 9999 ∧ p1 = nI n := by
  unfold timeI at h
  split at h
  case isFalse => exact absurd h (by decide)
  case isTrue c =>
    obtain ⟨n, h1, h2, rfl⟩ := inR_40 c
    rw [nI_clamp (by omega)] at h
    split at h
    case isFalse => exact absurd h (by decide)
    case isTrue c2 => exact ⟨n, h1, h2, c2, rfl⟩
theorem timeI_neg {B : AB} {p1 : Int32} : (0 ≤ timeI B p1) ↔ timeI B p1 = 0 := by
  unfold timeI
  split
  · split <;> decide
  · decide
theorem pc_years {b : BT} {B : AB} {Ps : List AB} {p : Nat → BT} (h : CR b B) (hI : InvP B Ps) (hp : PC p Ps) {f : Nat → Int32} {p1 : Int32} {Q : Int32 → Int32 × BT × (Nat → Int32) × (Nat → BT) → Prop} (hQ : ∀ b' f' p', CR b' (yearsS B Ps p1).1 → PC p' (yearsS B Ps p1).2 → Q (yearsI B Ps p1) (nI (yearsS B Ps p1).2.length, b', f', p')) : wp_X0_years (nI Ps.length) b f p p1 Q := by
  unfold wp_X0_years
  refine pc_lacksTime h hI.2.1 ⟨fun c => ?_, fun c => ?_⟩
  · rw [timeI_neg] at c
    obtain ⟨n, h1, h2, h3, rfl⟩ := timeI_0 c
    simp only [yearsI, yearsS, if_pos c, nI_clamp (show n < 2 ^ 31 by omega)] at hQ
    refine loop_0 (σ := Int32 × BT × (Nat → Int32) × (Nat → BT)) (fun j i t => wp_X0_years_14 (nI n) Q j t.1 t.2.1 t.2.2.1 t.2.2.2 (nI i)) (fun k t => t.1 = nI (itr stepY k (B, Ps)).2.length ∧ CR t.2.1 (itr stepY k (B, Ps)).1 ∧ PC t.2.2.2 (itr stepY k (B, Ps)).2) n (nI Ps.length, b, f, p) ⟨rfl, h, hp⟩ ?_ ?_
    · rintro j ⟨u, b1, f1, q1⟩ ⟨e1, e2, e3⟩
      dsimp only at e1 e2 e3 ⊢
      unfold wp_X0_years_14
      have hi := (InvP_yrs hI n (by omega)).1
      exact ⟨fun _ => pc_onBench e2 hi.1 (by rw [e1]; exact hQ b1 f1 q1 e2 e3), fun c => by simp (disch := omega) only [il0, il1, il2, il3, il4, il5, il6, il7, il8, il9, il10, il15, il16, il22, il24, il30, il31, il40, il41, il60, il70, il146, il161, il9999, pk_mul, nI_add, pk_sub, nI_clamp, nI_leI, nI_ltI, nI_eq] at c; omega⟩
    · rintro j k ⟨u, b1, f1, q1⟩ hk ⟨e1, e2, e3⟩ ih
      dsimp only at e1 e2 e3 ih ⊢
      unfold wp_X0_years_14
      have hi := (InvP_yrs hI k (by omega)).1
      rw [e1, nI_1]
      refine ⟨fun c => by simp (disch := omega) only [il0, il1, il2, il3, il4, il5, il6, il7, il8, il9, il10, il15, il16, il22, il24, il30, il31, il40, il41, il60, il70, il146, il161, il9999, pk_mul, nI_add, pk_sub, nI_clamp, nI_leI, nI_ltI, nI_eq] at c; omega, fun _ => pc_note e2 hi.1 e3 (fun q2 hq2 => pc_oneYear e2 hi.1 (fun b2 f2 hb2 => ih (_, b2, f2, q2) ⟨?_, ?_, ?_⟩))⟩
      · rw [itr_succ]; rfl
      · rw [itr_succ]; exact hb2
      · rw [itr_succ]; exact hq2
  · have c : ¬ timeI B p1 = 0 := fun e => c (timeI_neg.mpr e)
    simp only [yearsI, yearsS, if_neg c] at hQ
    exact hQ b f p h hp
theorem pm_years {s : Nat → Int32} {B : AB} {Ps : List AB} (h : MR s B) (hI : InvP B Ps) (hp : PM s Ps) {f : Nat → Int32} {p1 : Int32} {Q : Int32 → (Nat → Int32) × (Nat → Int32) → Prop} (hQ : ∀ s' f', MR s' (yearsS B Ps p1).1 → PM s' (yearsS B Ps p1).2 → Q (yearsI B Ps p1) (s', f')) : wp_X9_years s f p1 Q := by
  have hy := hI.2.1
  unfold wp_X9_years
  refine pm_in ⟨fun c => ?_, fun c => ?_⟩
  · rw [b2i_n0] at c
    have c : inR p1 1 40 = true := c
    obtain ⟨n, h1, h2, rfl⟩ := inR_40 c
    rw [h.2.2.1]
    refine ⟨fun c2 => ?_, fun c2 => ?_⟩
    · simp (disch := omega) only [il0, il1, il2, il3, il4, il5, il6, il7, il8, il9, il10, il15, il16, il22, il24, il30, il31, il40, il41, il60, il70, il146, il161, il9999, pk_mul, nI_add, pk_sub, nI_clamp, nI_leI, nI_ltI, nI_eq] at c2
      have ct : timeI B (nI n) = 0 := by rw [timeI, if_pos c, nI_clamp (by omega), if_pos c2]
      simp only [yearsI, yearsS, if_pos ct, nI_clamp (show n < 2 ^ 31 by omega)] at hQ
      refine loop_0 (σ := (Nat → Int32) × (Nat → Int32)) (fun j i t => wp_X9_years_31 (nI n) Q j t.1 t.2 (nI i)) (fun k t => MR t.1 (itr stepY k (B, Ps)).1 ∧ PM t.1 (itr stepY k (B, Ps)).2) n (s, f) ⟨h, hp⟩ ?_ ?_
      · rintro j ⟨s1, f1⟩ ⟨e1, e2⟩
        dsimp only at e1 e2 ⊢
        unfold wp_X9_years_31
        have hi := (InvP_yrs hI n (by omega)).1
        exact ⟨fun _ => pm_bench e1 hi.1 (hQ s1 f1 e1 e2), fun c => by simp (disch := omega) only [il0, il1, il2, il3, il4, il5, il6, il7, il8, il9, il10, il15, il16, il22, il24, il30, il31, il40, il41, il60, il70, il146, il161, il9999, pk_mul, nI_add, pk_sub, nI_clamp, nI_leI, nI_ltI, nI_eq] at c; omega⟩
      · rintro j k ⟨s1, f1⟩ hk ⟨e1, e2⟩ ih
        dsimp only at e1 e2 ih ⊢
        unfold wp_X9_years_31
        have hi := (InvP_yrs hI k (by omega)).1
        rw [nI_1]
        refine ⟨fun c => by simp (disch := omega) only [il0, il1, il2, il3, il4, il5, il6, il7, il8, il9, il10, il15, il16, il22, il24, il30, il31, il40, il41, il60, il70, il146, il161, il9999, pk_mul, nI_add, pk_sub, nI_clamp, nI_leI, nI_ltI, nI_eq] at c; omega, fun _ => pm_keeps e1 hi.1 e2 hi.sz (fun s2 g1 g2 => pm_passes (MRx e1 hi.1.1 hi.1.len g1) hi.1 (fun s3 f3 k1 k2 => ih (s3, f3) ⟨?_, ?_⟩))⟩
        · rw [itr_succ]; exact k1
        · rw [itr_succ]
          have hn : InvP (stepY (itr stepY k (B, Ps))).1 (stepY (itr stepY k (B, Ps))).2 := by
            have := (InvP_yrs hI (k + 1) (by omega)).1
            rw [itr_succ] at this
            exact this
          refine ⟨g2.1, (k2 40 (by omega)).trans g2.2.1, fun j Y hj => ?_⟩
          have hY := hn.sz Y (List.mem_of_getElem? hj)
          exact YM_same (g2.2.2 j Y hj) hY.1 hY.2 (fun i hi => k2 _ (by omega))
    · simp (disch := omega) only [il0, il1, il2, il3, il4, il5, il6, il7, il8, il9, il10, il15, il16, il22, il24, il30, il31, il40, il41, il60, il70, il146, il161, il9999, pk_mul, nI_add, pk_sub, nI_clamp, nI_leI, nI_ltI, nI_eq] at c2
      have ct : timeI B (nI n) = -3 := by rw [timeI, if_pos c, nI_clamp (by omega), if_neg c2]
      have cn : ¬ timeI B (nI n) = 0 := by rw [ct]; decide
      simp only [yearsI, yearsS, if_neg cn] at hQ
      rw [ct] at hQ
      exact hQ s f h hp
  · rw [b2i_0] at c
    have c : inR p1 1 40 = false := c
    have ct : timeI B p1 = -1 := by simp [timeI, c]
    have cn : ¬ timeI B p1 = 0 := by rw [ct]; decide
    simp only [yearsI, yearsS, if_neg cn] at hQ
    rw [ct] at hQ
    exact hQ s f h hp
theorem Inv_years {B : AB} {Ps : List AB} (hI : InvP B Ps) (p1 : Int32) : InvP (yearsS B Ps p1).1 (yearsS B Ps p1).2 := by
  unfold yearsS
  split
  case isFalse => exact hI
  case isTrue c =>
    obtain ⟨n, h1, h2, h3, rfl⟩ := timeI_0 c
    rw [nI_clamp (by omega)]
    exact (InvP_yrs hI n h3).1
/-! undo -/
def undoB (B Y : AB) : AB := (bM B, bS Y, bY Y, bD Y, bL Y, bK B, bP B)
def undoS (B : AB) (Ps : List AB) : AB × List AB := match Ps.getLast? with
  | none => (B, Ps)
  | some Y => (undoB B Y, Ps.dropLast)
def undoI (Ps : List AB) : Int32 := if Ps.length = 0 then (-4) else nI (Ps.length - 1)
theorem Inv_undo {B : AB} {Ps : List AB} (hI : InvP B Ps) : InvP (undoS B Ps).1 (undoS B Ps).2 := by
  unfold undoS
  split
  · exact hI
  · rename_i Y hY
    have hm := List.mem_of_getLast? hY
    obtain ⟨g1, g2, g3⟩ := hI.2.2 Y hm
    obtain ⟨h1, h2, h3, h4, h5, h6, h7, h8, h9⟩ := hI.1
    obtain ⟨k1, k2, k3, k4, k5, k6, k7, k8, k9⟩ := g1
    refine ⟨⟨h1, k2, fun x hx => ?_, k4, fun m hm => ?_, h6, h7, k8, k9⟩, g3, fun Z hZ => ?_⟩
    · have := k3 x hx; rw [g2] at this; exact this
    · exact k5 m (by rw [g2]; exact hm)
    · exact hI.2.2 Z (List.dropLast_subset Ps hZ)
theorem last_get {Ps : List AB} {k : Nat} (h : Ps.length = k + 1) : ∃ Y, Ps[k]? = some Y ∧ Ps.getLast? = some Y := by
  have hk : k < Ps.length := by omega
  refine ⟨Ps[k], List.getElem?_eq_getElem hk, ?_⟩
  rw [List.getLast?_eq_getElem?, show Ps.length - 1 = k by omega]
  exact List.getElem?_eq_getElem hk
theorem CR_undo {b b' : BT} {B Y : AB} (h : CR b B) (hY : YC b' Y) (hm : bM Y = bM B) (e1 : kd b' = kd b) (e2 : pl b' = pl b) (e3 : mn b' = mn b) : CR b' (undoB B Y) :=
  ⟨e3.trans h.1, hY.1, hY.2.1, hY.2.2.1, hY.2.2.2.1, fun m hm2 => hY.2.2.2.2 m (by rw [hm]; exact hm2), fun m hm2 => (congrFun e1 m).trans (h.2.2.2.2.2.2.1 m hm2), fun i hi => (congrFun e2 i).trans (h.2.2.2.2.2.2.2 i hi)⟩
theorem PC_drop {p : Nat → BT} {Ps : List AB} (h : PC p Ps) : PC p Ps.dropLast := by
  refine ⟨by rw [List.length_dropLast]; have := h.1; omega, fun k Y hk => h.2 k Y ?_⟩
  rw [List.getElem?_dropLast] at hk
  split at hk
  · exact hk
  · cases hk
theorem pc_undo {b : BT} {B : AB} {Ps : List AB} {p : Nat → BT} (h : CR b B) (hI : InvP B Ps) (hp : PC p Ps) {Q : Int32 → Int32 × BT → Prop} (hQ : ∀ b', CR b' (undoS B Ps).1 → Q (undoI Ps) (nI (undoS B Ps).2.length, b')) : wp_X0_undo (nI Ps.length) b p Q := by
  have h8 := hp.1
  unfold wp_X0_undo
  refine ⟨fun c v hv => ?_, fun c => ?_⟩
  · simp (disch := omega) only [il0, il1, il2, il3, il4, il5, il6, il7, il8, il9, il10, il15, il16, il22, il24, il30, il31, il40, il41, il60, il70, il146, il161, il9999, pk_mul, nI_add, pk_sub, nI_clamp, nI_leI, nI_ltI, nI_eq] at c
    obtain ⟨k, hk⟩ : ∃ k, Ps.length = k + 1 := ⟨Ps.length - 1, by omega⟩
    obtain ⟨Y, hY1, hY2⟩ := last_get hk
    obtain ⟨g1, g2, g3⟩ := hI.2.2 Y (List.mem_of_getElem? hY1)
    have hs : undoS B Ps = (undoB B Y, Ps.dropLast) := by unfold undoS; rw [hY2]
    have hi : undoI Ps = nI k := by rw [undoI, if_neg (by omega), hk]; rfl
    rw [hs, hi, show (undoB B Y, Ps.dropLast).2.length = k by show Ps.dropLast.length = k; rw [List.length_dropLast]; omega] at hQ
    have hv : v = nI k := by rw [hv, hk, il1, pk_sub (by omega)]; rfl
    subst hv
    have fin : ∀ j, j = k → wp_X6_takeYear b (p j) (fun u => Q (nI j) (nI j, u)) := by
      intro j hj
      subst hj
      exact pc_takeYear (hp.2 _ Y hY1) g1.1 (Nat.le_trans g1.len g1.1) (fun b' y1 y2 y3 y4 => hQ b' (CR_undo h y1 g2 y2 y3 y4))
    refine ⟨vp_in_nI (by omega) (by omega), fun e => ?_, fun e => ?_, fun e => ?_, fun e => ?_, fun e => ?_, fun e => ?_, fun e => ?_, fun e => ?_⟩ <;> simp (disch := omega) only [il0, il1, il2, il3, il4, il5, il6, il7, il8, il9, il10, il15, il16, il22, il24, il30, il31, il40, il41, il60, il70, il146, il161, il9999, pk_mul, nI_add, pk_sub, nI_clamp, nI_leI, nI_ltI, nI_eq] at e
    · exact fin 0 e.symm
    · exact fin 1 e.symm
    · exact fin 2 e.symm
    · exact fin 3 e.symm
    · exact fin 4 e.symm
    · exact fin 5 e.symm
    · exact fin 6 e.symm
    · exact fin 7 e.symm
  · simp (disch := omega) only [il0, il1, il2, il3, il4, il5, il6, il7, il8, il9, il10, il15, il16, il22, il24, il30, il31, il40, il41, il60, il70, il146, il161, il9999, pk_mul, nI_add, pk_sub, nI_clamp, nI_leI, nI_ltI, nI_eq] at c
    have hn : Ps = [] := List.length_eq_zero_iff.mp c
    subst hn
    exact hQ b h
theorem pm_undo {s : Nat → Int32} {B : AB} {Ps : List AB} (h : MR s B) (hI : InvP B Ps) (hp : PM s Ps) {Q : Int32 → (Nat → Int32) → Prop} (hQ : ∀ s', MR s' (undoS B Ps).1 → PM s' (undoS B Ps).2 → Q (undoI Ps) s') : wp_X9_undo s Q := by
  have h8 := hp.1
  unfold wp_X9_undo
  rw [hp.2.1]
  refine ⟨fun c v hv f3 hf3 => ?_, fun c => ?_⟩
  · simp (disch := omega) only [il0, il1, il2, il3, il4, il5, il6, il7, il8, il9, il10, il15, il16, il22, il24, il30, il31, il40, il41, il60, il70, il146, il161, il9999, pk_mul, nI_add, pk_sub, nI_clamp, nI_leI, nI_ltI, nI_eq] at c
    obtain ⟨k, hk⟩ : ∃ k, Ps.length = k + 1 := ⟨Ps.length - 1, by omega⟩
    obtain ⟨Y, hY1, hY2⟩ := last_get hk
    obtain ⟨g1, g2, g3⟩ := hI.2.2 Y (List.mem_of_getElem? hY1)
    have hs : undoS B Ps = (undoB B Y, Ps.dropLast) := by unfold undoS; rw [hY2]
    have hi : undoI Ps = nI k := by rw [undoI, if_neg (by omega), hk]; rfl
    rw [hs, hi] at hQ
    have hv : v = nI k := by rw [hv, hk, il1, pk_sub (by omega)]; rfl
    subst hv
    have hYM := hp.2.2 k Y hY1
    have gl := g1.len
    have g6 := g1.1
    have h6 := hI.1.1
    refine loop_0 (σ := Nat → Int32) (fun n i t => wp_X9_undo_26 Q n t (nI i)) (fun j t => (∀ i, (i < 1 ∨ 16 ≤ i) → t i = f3 i) ∧ ∀ i, i < j → t (1 + i) = s (41 + 15 * k + i)) 15 f3 ⟨fun _ _ => rfl, fun i hi => by omega⟩ ?_ ?_
    · rintro n t ⟨e1, e2⟩
      unfold wp_X9_undo_26
      refine ⟨fun _ => ?_, fun c => absurd (by decide) c⟩
      have h40 : t 40 = nI k := by rw [e1 40 (by omega), hf3, pk_us]
      have ho : ∀ i, (i < 1 ∨ 16 ≤ i) → i ≠ 40 → t i = s i := fun i hi hn => by rw [e1 i hi, hf3, pk_un hn]
      rw [h40]
      refine hQ t ⟨?_, ?_, ?_, ?_, fun j hj => ?_, fun j hj => ?_, fun j hj => ?_, fun j hj => ?_⟩ ⟨by rw [List.length_dropLast]; omega, by rw [h40, List.length_dropLast, hk]; rfl, fun j Z hj => ?_⟩
      · rw [ho 0 (by omega) (by omega)]; exact h.1
      · have := e2 0 (by omega)
        rw [show t 1 = s (41 + 15 * k) from this]; exact hYM.1
      · have := e2 1 (by omega)
        rw [show t 2 = s (41 + 15 * k + 1) from this]; exact hYM.2.1
      · have := e2 2 (by omega)
        rw [show t 3 = s (41 + 15 * k + 2) from this]; exact hYM.2.2.1
      · have hj : j < (bS Y).length := hj
        rw [show 10 + j = 1 + (9 + j) by omega, e2 (9 + j) (by omega), ← Nat.add_assoc]; exact hYM.2.2.2.1 j hj
      · have hj : j < bM B := hj
        rw [show 4 + j = 1 + (3 + j) by omega, e2 (3 + j) (by omega), ← Nat.add_assoc]; exact hYM.2.2.2.2 j (by rw [g2]; exact hj)
      · have hj : j < bM B := hj
        rw [ho _ (by omega) (by omega)]; exact h.2.2.2.2.2.2.1 j hj
      · have hj : j < 3 * bM B := hj
        rw [ho _ (by omega) (by omega)]; exact h.2.2.2.2.2.2.2 j hj
      · rw [List.getElem?_dropLast] at hj
        split at hj
        · have hZ := hI.sz Z (List.mem_of_getElem? hj)
          exact YM_same (hp.2.2 j Z hj) hZ.1 hZ.2 (fun i hi => ho _ (by omega) (by omega))
        · cases hj
    · rintro n j t hj ⟨e1, e2⟩ ih
      unfold wp_X9_undo_26
      have h40 : t 40 = nI k := by rw [e1 40 (by omega), hf3, pk_us]
      rw [h40, nI_1]
      refine ⟨fun c => by simp (disch := omega) only [il0, il1, il2, il3, il4, il5, il6, il7, il8, il9, il10, il15, il16, il22, il24, il30, il31, il40, il41, il60, il70, il146, il161, il9999, pk_mul, nI_add, pk_sub, nI_clamp, nI_leI, nI_ltI, nI_eq] at c; omega, fun _ => ?_⟩
      simp (disch := omega) only [il0, il1, il2, il3, il4, il5, il6, il7, il8, il9, il10, il15, il16, il22, il24, il30, il31, il40, il41, il60, il70, il146, il161, il9999, pk_mul, nI_add, pk_sub, nI_clamp, nI_leI, nI_ltI, nI_eq]
      refine ⟨vp_in_nI (by omega) (by omega), fun v hv => ⟨vp_in_nI (by omega) (by omega), fun f hf => ih f ⟨fun i hi => ?_, fun i hi => ?_⟩⟩⟩
      · rw [hf, pk_un (by omega)]; exact e1 i hi
      · rw [hf]
        by_cases e : i = j
        · rw [e, pk_us, hv, e1 _ (by omega), hf3, pk_un (by omega)]
        · rw [pk_un (by omega)]; exact e2 i (by omega)
  · simp (disch := omega) only [il0, il1, il2, il3, il4, il5, il6, il7, il8, il9, il10, il15, il16, il22, il24, il30, il31, il40, il41, il60, il70, il146, il161, il9999, pk_mul, nI_add, pk_sub, nI_clamp, nI_leI, nI_ltI, nI_eq] at c
    have hn : Ps = [] := List.length_eq_zero_iff.mp c
    subst hn
    exact hQ s h hp
