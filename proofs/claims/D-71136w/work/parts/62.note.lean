/-! pure: what may be undone -/
set_option maxRecDepth 100000
/-- the part of a bench that years and hands change -/
def YC (b : BT) (Y : AB) : Prop := ma b = nI (bS Y).length ∧ yr b = nI (bY Y) ∧ dw b = bD Y ∧ (∀ k, k < (bS Y).length → se b k = nI ((bS Y).getD k 0)) ∧ ∀ m, m < bM Y → lf b m = nI (bL Y m)
def YM (s : Nat → Int32) (o : Nat) (Y : AB) : Prop := s o = nI (bS Y).length ∧ s (o + 1) = nI (bY Y) ∧ s (o + 2) = bD Y ∧ (∀ k, k < (bS Y).length → s (o + 9 + k) = nI ((bS Y).getD k 0)) ∧ ∀ m, m < bM Y → s (o + 3 + m) = nI (bL Y m)
theorem CR.y {b : BT} {B : AB} (h : CR b B) : YC b B := ⟨h.2.1, h.2.2.1, h.2.2.2.1, h.2.2.2.2.1, h.2.2.2.2.2.1⟩
def PC (p : Nat → BT) (Ps : List AB) : Prop := Ps.length ≤ 8 ∧ ∀ k Y, Ps[k]? = some Y → YC (p k) Y
def PM (s : Nat → Int32) (Ps : List AB) : Prop := Ps.length ≤ 8 ∧ s 40 = nI Ps.length ∧ ∀ k Y, Ps[k]? = some Y → YM s (41 + 15 * k) Y
def noteP (Ps : List AB) (B : AB) : List AB := (if Ps.length = 8 then Ps.drop 1 else Ps) ++ [B]
theorem pc_takeYear {b a : BT} {Y : AB} (h : YC a Y) (h6 : bM Y ≤ 6) (hl : (bS Y).length ≤ 6) {Q : BT → Prop} (hQ : ∀ b', YC b' Y → kd b' = kd b → pl b' = pl b → mn b' = mn b → Q b') : wp_X6_takeYear b a Q := by
  unfold wp_X6_takeYear
  intro f1 h1 f2 h2
  refine hQ _ ⟨h.1, h.2.1, h.2.2.1, fun k hk => ?_, fun m hm => ?_⟩ rfl rfl rfl
  · show f2 k = _
    rw [h2, cpy0 (by omega)]; exact h.2.2.2.1 k hk
  · show f1 m = _
    rw [h1, cpy0 (by omega)]; exact h.2.2.2.2 m hm
theorem pc_note49 {b : BT} {B : AB} (h : CR b B) (hI : Inv B) {p : Nat → BT} {j : Nat} (hj : j < 8) {Q : Int32 × (Nat → BT) → Prop} (hQ : ∀ u p', YC u B → p' j = u → (∀ i, i < 8 → i ≠ j → p' i = p i) → Q (nI (j + 1), p')) : wp_X0_note_49 b Q (nI j) p := by
  have h6 := hI.1
  have hl := hI.len
  unfold wp_X0_note_49
  refine ⟨vp_in_nI (by omega) (by omega), fun e => ?_, fun e => ?_, fun e => ?_, fun e => ?_, fun e => ?_, fun e => ?_, fun e => ?_, fun e => ?_⟩
  · simp (disch := omega) only [il0, il1, il2, il3, il4, il5, il6, il7, il8, il9, il10, il15, il16, il22, il24, il30, il31, il40, il41, il60, il70, il146, il161, il9999, pk_mul, nI_add, pk_sub, nI_clamp, nI_leI, nI_ltI, nI_eq] at e
    subst e
    refine pc_takeYear h.y h6 (by omega) (fun u hu _ _ _ v hv => ?_)
    rw [hv]
    refine hQ u _ hu rfl (fun i hi hne => ?_)
    have hc : i = 0 ∨ i = 1 ∨ i = 2 ∨ i = 3 ∨ i = 4 ∨ i = 5 ∨ i = 6 ∨ i = 7 := by omega
    rcases hc with rfl | rfl | rfl | rfl | rfl | rfl | rfl | rfl <;> first | rfl | exact absurd rfl hne
  · simp (disch := omega) only [il0, il1, il2, il3, il4, il5, il6, il7, il8, il9, il10, il15, il16, il22, il24, il30, il31, il40, il41, il60, il70, il146, il161, il9999, pk_mul, nI_add, pk_sub, nI_clamp, nI_leI, nI_ltI, nI_eq] at e
    subst e
    refine pc_takeYear h.y h6 (by omega) (fun u hu _ _ _ v hv => ?_)
    rw [hv]
    refine hQ u _ hu rfl (fun i hi hne => ?_)
    have hc : i = 0 ∨ i = 1 ∨ i = 2 ∨ i = 3 ∨ i = 4 ∨ i = 5 ∨ i = 6 ∨ i = 7 := by omega
    rcases hc with rfl | rfl | rfl | rfl | rfl | rfl | rfl | rfl <;> first | rfl | exact absurd rfl hne
  · simp (disch := omega) only [il0, il1, il2, il3, il4, il5, il6, il7, il8, il9, il10, il15, il16, il22, il24, il30, il31, il40, il41, il60, il70, il146, il161, il9999, pk_mul, nI_add, pk_sub, nI_clamp, nI_leI, nI_ltI, nI_eq] at e
    subst e
    refine pc_takeYear h.y h6 (by omega) (fun u hu _ _ _ v hv => ?_)
    rw [hv]
    refine hQ u _ hu rfl (fun i hi hne => ?_)
    have hc : i = 0 ∨ i = 1 ∨ i = 2 ∨ i = 3 ∨ i = 4 ∨ i = 5 ∨ i = 6 ∨ i = 7 := by omega
    rcases hc with rfl | rfl | rfl | rfl | rfl | rfl | rfl | rfl <;> first | rfl | exact absurd rfl hne
  · simp (disch := omega) only [il0, il1, il2, il3, il4, il5, il6, il7, il8, il9, il10, il15, il16, il22, il24, il30, il31, il40, il41, il60, il70, il146, il161, il9999, pk_mul, nI_add, pk_sub, nI_clamp, nI_leI, nI_ltI, nI_eq] at e
    subst e
    refine pc_takeYear h.y h6 (by omega) (fun u hu _ _ _ v hv => ?_)
    rw [hv]
    refine hQ u _ hu rfl (fun i hi hne => ?_)
    have hc : i = 0 ∨ i = 1 ∨ i = 2 ∨ i = 3 ∨ i = 4 ∨ i = 5 ∨ i = 6 ∨ i = 7 := by omega
    rcases hc with rfl | rfl | rfl | rfl | rfl | rfl | rfl | rfl <;> first | rfl | exact absurd rfl hne
  · simp (disch := omega) only [il0, il1, il2, il3, il4, il5, il6, il7, il8, il9, il10, il15, il16, il22, il24, il30, il31, il40, il41, il60, il70, il146, il161, il9999, pk_mul, nI_add, pk_sub, nI_clamp, nI_leI, nI_ltI, nI_eq] at e
    subst e
    refine pc_takeYear h.y h6 (by omega) (fun u hu _ _ _ v hv => ?_)
    rw [hv]
    refine hQ u _ hu rfl (fun i hi hne => ?_)
    have hc : i = 0 ∨ i = 1 ∨ i = 2 ∨ i = 3 ∨ i = 4 ∨ i = 5 ∨ i = 6 ∨ i = 7 := by omega
    rcases hc with rfl | rfl | rfl | rfl | rfl | rfl | rfl | rfl <;> first | rfl | exact absurd rfl hne
  · simp (disch := omega) only [il0, il1, il2, il3, il4, il5, il6, il7, il8, il9, il10, il15, il16, il22, il24, il30, il31, il40, il41, il60, il70, il146, il161, il9999, pk_mul, nI_add, pk_sub, nI_clamp, nI_leI, nI_ltI, nI_eq] at e
    subst e
    refine pc_takeYear h.y h6 (by omega) (fun u hu _ _ _ v hv => ?_)
    rw [hv]
    refine hQ u _ hu rfl (fun i hi hne => ?_)
    have hc : i = 0 ∨ i = 1 ∨ i = 2 ∨ i = 3 ∨ i = 4 ∨ i = 5 ∨ i = 6 ∨ i = 7 := by omega
    rcases hc with rfl | rfl | rfl | rfl | rfl | rfl | rfl | rfl <;> first | rfl | exact absurd rfl hne
  · simp (disch := omega) only [il0, il1, il2, il3, il4, il5, il6, il7, il8, il9, il10, il15, il16, il22, il24, il30, il31, il40, il41, il60, il70, il146, il161, il9999, pk_mul, nI_add, pk_sub, nI_clamp, nI_leI, nI_ltI, nI_eq] at e
    subst e
    refine pc_takeYear h.y h6 (by omega) (fun u hu _ _ _ v hv => ?_)
    rw [hv]
    refine hQ u _ hu rfl (fun i hi hne => ?_)
    have hc : i = 0 ∨ i = 1 ∨ i = 2 ∨ i = 3 ∨ i = 4 ∨ i = 5 ∨ i = 6 ∨ i = 7 := by omega
    rcases hc with rfl | rfl | rfl | rfl | rfl | rfl | rfl | rfl <;> first | rfl | exact absurd rfl hne
  · simp (disch := omega) only [il0, il1, il2, il3, il4, il5, il6, il7, il8, il9, il10, il15, il16, il22, il24, il30, il31, il40, il41, il60, il70, il146, il161, il9999, pk_mul, nI_add, pk_sub, nI_clamp, nI_leI, nI_ltI, nI_eq] at e
    subst e
    refine pc_takeYear h.y h6 (by omega) (fun u hu _ _ _ v hv => ?_)
    rw [hv]
    refine hQ u _ hu rfl (fun i hi hne => ?_)
    have hc : i = 0 ∨ i = 1 ∨ i = 2 ∨ i = 3 ∨ i = 4 ∨ i = 5 ∨ i = 6 ∨ i = 7 := by omega
    rcases hc with rfl | rfl | rfl | rfl | rfl | rfl | rfl | rfl <;> first | rfl | exact absurd rfl hne
theorem noteP_get {Ps : List AB} {B : AB} {k : Nat} {Y : AB} (h : (Ps ++ [B])[k]? = some Y) : (Ps[k]? = some Y ∧ k < Ps.length) ∨ (k = Ps.length ∧ Y = B) := by
  by_cases hk : k < Ps.length
  · rw [List.getElem?_append_left hk] at h
    exact Or.inl ⟨h, hk⟩
  · rw [List.getElem?_append_right (by omega)] at h
    have hz : k - Ps.length < 1 := (List.getElem?_eq_some_iff.mp h).1
    have e : k = Ps.length := by omega
    subst e
    rw [Nat.sub_self] at h
    exact Or.inr ⟨rfl, (Option.some.inj h).symm⟩
theorem pc_note {b : BT} {B : AB} (h : CR b B) (hI : Inv B) {p : Nat → BT} {Ps : List AB} (hp : PC p Ps) {Q : Int32 × (Nat → BT) → Prop} (hQ : ∀ p', PC p' (noteP Ps B) → Q (nI (noteP Ps B).length, p')) : wp_X0_note (nI Ps.length) b p Q := by
  have h8 := hp.1
  unfold wp_X0_note
  refine ⟨fun c => ?_, fun c v hv => ?_⟩
  · simp (disch := omega) only [il0, il1, il2, il3, il4, il5, il6, il7, il8, il9, il10, il15, il16, il22, il24, il30, il31, il40, il41, il60, il70, il146, il161, il9999, pk_mul, nI_add, pk_sub, nI_clamp, nI_leI, nI_ltI, nI_eq] at c
    have e : noteP Ps B = Ps ++ [B] := by simp [noteP, c]
    rw [e, List.length_append] at hQ
    refine pc_note49 h hI (by omega) (fun u p' hu e1 e2 => hQ p' ⟨by rw [List.length_append]; show Ps.length + 1 ≤ 8; omega, fun k Y hk => ?_⟩)
    rcases noteP_get hk with ⟨h1, h2⟩ | ⟨h1, h2⟩
    · rw [e2 k (by omega) (by omega)]; exact hp.2 k Y h1
    · rw [h1, e1, h2]; exact hu
  · simp (disch := omega) only [il0, il1, il2, il3, il4, il5, il6, il7, il8, il9, il10, il15, il16, il22, il24, il30, il31, il40, il41, il60, il70, il146, il161, il9999, pk_mul, nI_add, pk_sub, nI_clamp, nI_leI, nI_ltI, nI_eq] at c
    have hv : v = nI 7 := by rw [hv, c]; rfl
    rw [hv]
    have e : noteP Ps B = Ps.drop 1 ++ [B] := by simp [noteP, c]
    have el : (Ps.drop 1).length = 7 := by rw [List.length_drop]; omega
    rw [e, List.length_append, el] at hQ
    refine pc_note49 h hI (by omega) (fun u p' hu e1 e2 => hQ p' ⟨by rw [List.length_append, el]; exact Nat.le_refl 8, fun k Y hk => ?_⟩)
    rcases noteP_get hk with ⟨h1, h2⟩ | ⟨h1, h2⟩
    · rw [el] at h2
      rw [e2 k (by omega) (by omega)]
      rw [List.getElem?_drop] at h1
      have h3 := hp.2 _ Y h1
      have hc : k = 0 ∨ k = 1 ∨ k = 2 ∨ k = 3 ∨ k = 4 ∨ k = 5 ∨ k = 6 := by omega
      rcases hc with rfl | rfl | rfl | rfl | rfl | rfl | rfl <;> exact h3
    · rw [h1, el, e1, h2]; exact hu
theorem pm_keeps56 {s : Nat → Int32} {B : AB} (h : MR s B) (hI : Inv B) {j : Nat} (hj : j < 8) (h40 : s 40 = nI j) {Q : (Nat → Int32) → Prop} (hQ : ∀ s', (∀ i, i < 40 → s' i = s i) → s' 40 = nI (j + 1) → (∀ i, 41 ≤ i → (i < 41 + 15 * j ∨ 41 + 15 * j + 15 ≤ i) → s' i = s i) → YM s' (41 + 15 * j) B → Q s') : ∃ n, wp_X9_keeps_56 Q n s 0 := by
  have h6 := hI.1
  have hl := hI.len
  refine loop_0 (σ := Nat → Int32) (fun n i t => wp_X9_keeps_56 Q n t (nI i)) (fun k t => (∀ i, (i < 41 + 15 * j ∨ 41 + 15 * j + 15 ≤ i) → t i = s i) ∧ ∀ i, i < k → t (41 + 15 * j + i) = s (1 + i)) 15 s ⟨fun _ _ => rfl, fun i hi => by omega⟩ ?_ ?_
  · rintro n t ⟨g1, g2⟩
    unfold wp_X9_keeps_56
    refine ⟨fun _ v hv f hf => ?_, fun c => absurd (by decide) c⟩
    rw [g1 40 (by omega), h40, nI_1] at hv
    refine hQ f (fun i hi => ?_) ?_ (fun i hi hi2 => ?_) ⟨?_, ?_, ?_, fun k hk => ?_, fun m hm => ?_⟩
    · rw [hf, pk_un (by omega), g1 i (by omega)]
    · rw [hf, pk_us, hv]
    · rw [hf, pk_un (by omega), g1 i hi2]
    · rw [hf, pk_un (by omega)]
      have := g2 0 (by omega)
      rw [Nat.add_zero] at this
      rw [this]; exact h.2.1
    · rw [hf, pk_un (by omega), g2 1 (by omega)]; exact h.2.2.1
    · rw [hf, pk_un (by omega), g2 2 (by omega)]; exact h.2.2.2.1
    · rw [hf, pk_un (by omega), show 41 + 15 * j + 9 + k = 41 + 15 * j + (9 + k) by omega, g2 (9 + k) (by omega), show 1 + (9 + k) = 10 + k by omega]; exact h.2.2.2.2.1 k hk
    · rw [hf, pk_un (by omega), show 41 + 15 * j + 3 + m = 41 + 15 * j + (3 + m) by omega, g2 (3 + m) (by omega), show 1 + (3 + m) = 4 + m by omega]; exact h.2.2.2.2.2.1 m hm
  · rintro n k t hk ⟨g1, g2⟩ ih
    unfold wp_X9_keeps_56
    rw [g1 40 (by omega), h40, nI_1]
    refine ⟨fun c => by simp (disch := omega) only [il0, il1, il2, il3, il4, il5, il6, il7, il8, il9, il10, il15, il16, il22, il24, il30, il31, il40, il41, il60, il70, il146, il161, il9999, pk_mul, nI_add, pk_sub, nI_clamp, nI_leI, nI_ltI, nI_eq] at c; omega, fun _ => ?_⟩
    simp (disch := omega) only [il0, il1, il2, il3, il4, il5, il6, il7, il8, il9, il10, il15, il16, il22, il24, il30, il31, il40, il41, il60, il70, il146, il161, il9999, pk_mul, nI_add, pk_sub, nI_clamp, nI_leI, nI_ltI, nI_eq]
    refine ⟨vp_in_nI (by omega) (by omega), fun v hv => ⟨vp_in_nI (by omega) (by omega), fun f hf => ih f ⟨fun i hi => ?_, fun i hi => ?_⟩⟩⟩
    · rw [hf, pk_un (by omega)]; exact g1 i hi
    · rw [hf]
      by_cases e : i = k
      · rw [e, pk_us, hv, g1 _ (by omega)]
      · rw [pk_un (by omega)]; exact g2 i (by omega)
theorem YM_same {s s' : Nat → Int32} {o o' : Nat} {Y : AB} (h : YM s o Y) (h6 : bM Y ≤ 6) (hl : (bS Y).length ≤ 6) (he : ∀ i, i < 15 → s' (o' + i) = s (o + i)) : YM s' o' Y :=
  ⟨(he 0 (by omega)).trans h.1, (he 1 (by omega)).trans h.2.1, (he 2 (by omega)).trans h.2.2.1, fun k hk => by rw [Nat.add_assoc, he (9 + k) (by omega), ← Nat.add_assoc]; exact h.2.2.2.1 k hk, fun m hm => by rw [Nat.add_assoc, he (3 + m) (by omega), ← Nat.add_assoc]; exact h.2.2.2.2 m hm⟩
theorem pm_keeps {s : Nat → Int32} {B : AB} (h : MR s B) (hI : Inv B) {Ps : List AB} (hp : PM s Ps) (hPs : ∀ Y ∈ Ps, bM Y ≤ 6 ∧ (bS Y).length ≤ 6) {Q : (Nat → Int32) → Prop} (hQ : ∀ s', (∀ i, i < 40 → s' i = s i) → PM s' (noteP Ps B) → Q s') : wp_X9_keeps s Q := by
  have h8 := hp.1
  unfold wp_X9_keeps
  rw [hp.2.1]
  refine ⟨fun c => ?_, fun c => ?_⟩
  · simp (disch := omega) only [il0, il1, il2, il3, il4, il5, il6, il7, il8, il9, il10, il15, il16, il22, il24, il30, il31, il40, il41, il60, il70, il146, il161, il9999, pk_mul, nI_add, pk_sub, nI_clamp, nI_leI, nI_ltI, nI_eq] at c
    have e : noteP Ps B = Ps ++ [B] := by simp [noteP, c]
    rw [e] at hQ
    refine pm_keeps56 h hI (j := Ps.length) (by omega) hp.2.1 (fun s' g1 g2 g3 g4 => hQ s' g1 ⟨by rw [List.length_append]; show Ps.length + 1 ≤ 8; omega, by rw [g2, List.length_append]; rfl, fun k Y hk => ?_⟩)
    rcases noteP_get hk with ⟨h1, h2⟩ | ⟨h1, h2⟩
    · have hY := hPs Y (List.mem_of_getElem? h1)
      exact YM_same (hp.2.2 k Y h1) hY.1 hY.2 (fun i hi => g3 _ (by omega) (by omega))
    · rw [h1, h2]; exact g4
  · simp (disch := omega) only [il0, il1, il2, il3, il4, il5, il6, il7, il8, il9, il10, il15, il16, il22, il24, il30, il31, il40, il41, il60, il70, il146, il161, il9999, pk_mul, nI_add, pk_sub, nI_clamp, nI_leI, nI_ltI, nI_eq] at c
    have e : noteP Ps B = Ps.drop 1 ++ [B] := by simp [noteP, c]
    have el : (Ps.drop 1).length = 7 := by rw [List.length_drop]; omega
    rw [e] at hQ
    refine ⟨106, ?_⟩
    have key : ∀ n k (t : Nat → Int32), 41 ≤ k → k ≤ 146 → 146 - k < n → (∀ i, (i < 41 ∨ k ≤ i) → t i = s i) → (∀ i, 41 ≤ i → i < k → t i = s (i + 15)) → wp_X9_keeps_15 Q n t (nI k) := by
      intro n
      induction n with
      | zero => intro k t _ _ h2; omega
      | succ n ih =>
        intro k t hk1 hk2 hn g1 g2
        unfold wp_X9_keeps_15
        refine ⟨fun c2 v hv f hf => ?_, fun c2 => ?_⟩
        · simp (disch := omega) only [il0, il1, il2, il3, il4, il5, il6, il7, il8, il9, il10, il15, il16, il22, il24, il30, il31, il40, il41, il60, il70, il146, il161, il9999, pk_mul, nI_add, pk_sub, nI_clamp, nI_leI, nI_ltI, nI_eq] at c2
          have hk : k = 146 := by omega
          subst hk
          rw [g1 40 (by omega), hp.2.1, c] at hv
          have hv : v = nI 7 := by rw [hv]; rfl
          refine pm_keeps56 (j := 7) (s := f) (MRx h hI.1 hI.len (fun i hi => by rw [hf, pk_un (by omega), g1 i (by omega)])) hI (by omega) (by rw [hf, pk_us, hv]) (fun s' k1 k2 k3 k4 => hQ s' (fun i hi => ?_) ⟨by rw [List.length_append, el]; exact Nat.le_refl 8, by rw [k2, List.length_append, el]; rfl, fun k Y hk => ?_⟩)
          · rw [k1 i hi, hf, pk_un (by omega), g1 i (by omega)]
          · rcases noteP_get hk with ⟨h1, h2⟩ | ⟨h1, h2⟩
            · rw [el] at h2
              rw [List.getElem?_drop] at h1
              have hY := hPs Y (List.mem_of_getElem? h1)
              refine YM_same (hp.2.2 _ Y h1) hY.1 hY.2 (fun i hi => ?_)
              rw [k3 _ (by omega) (by omega), hf, pk_un (by omega), g2 _ (by omega) (by omega)]
              congr 1; omega
            · rw [h1, el, h2]; exact k4
        · simp (disch := omega) only [il0, il1, il2, il3, il4, il5, il6, il7, il8, il9, il10, il15, il16, il22, il24, il30, il31, il40, il41, il60, il70, il146, il161, il9999, pk_mul, nI_add, pk_sub, nI_clamp, nI_leI, nI_ltI, nI_eq] at c2
          simp (disch := omega) only [il0, il1, il2, il3, il4, il5, il6, il7, il8, il9, il10, il15, il16, il22, il24, il30, il31, il40, il41, il60, il70, il146, il161, il9999, pk_mul, nI_add, pk_sub, nI_clamp, nI_leI, nI_ltI, nI_eq]
          refine ⟨vp_in_nI (by omega) (by omega), fun v hv => ⟨vp_in_nI (by omega) (by omega), fun f hf => ih (k + 1) f (by omega) (by omega) (by omega) (fun i hi => ?_) (fun i hi1 hi2 => ?_)⟩⟩
          · rw [hf, pk_un (by omega)]; exact g1 i (by omega)
          · rw [hf]
            by_cases e : i = k
            · rw [e, pk_us, hv, g1 _ (by omega)]
            · rw [pk_un e]; exact g2 i hi1 (by omega)
    exact key _ 41 s (by omega) (by omega) (by omega) (fun _ _ => rfl) (fun i h1 h2 => by omega)
