/-! pure: numbers, the mathematical bench -/
set_option maxRecDepth 100000
theorem il0 : (0 : Int32) = nI 0 := rfl
theorem il1 : (1 : Int32) = nI 1 := rfl
theorem il2 : (2 : Int32) = nI 2 := rfl
theorem il3 : (3 : Int32) = nI 3 := rfl
theorem il4 : (4 : Int32) = nI 4 := rfl
theorem il5 : (5 : Int32) = nI 5 := rfl
theorem il6 : (6 : Int32) = nI 6 := rfl
theorem il7 : (7 : Int32) = nI 7 := rfl
theorem il8 : (8 : Int32) = nI 8 := rfl
theorem il9 : (9 : Int32) = nI 9 := rfl
theorem il10 : (10 : Int32) = nI 10 := rfl
theorem il15 : (15 : Int32) = nI 15 := rfl
theorem il16 : (16 : Int32) = nI 16 := rfl
theorem il22 : (22 : Int32) = nI 22 := rfl
theorem il24 : (24 : Int32) = nI 24 := rfl
theorem il30 : (30 : Int32) = nI 30 := rfl
theorem il31 : (31 : Int32) = nI 31 := rfl
theorem il40 : (40 : Int32) = nI 40 := rfl
theorem il41 : (41 : Int32) = nI 41 := rfl
theorem il60 : (60 : Int32) = nI 60 := rfl
theorem il70 : (70 : Int32) = nI 70 := rfl
theorem il146 : (146 : Int32) = nI 146 := rfl
theorem il161 : (161 : Int32) = nI 161 := rfl
theorem il9999 : (9999 : Int32) = nI 9999 := rfl
/-- a bench: men, who sits (in order), the year, the draw; of each man his life and kind; places (three each) -/
abbrev AB : Type := Nat × List Nat × Nat × Int32 × (Nat → Nat) × (Nat → Nat) × (Nat → Nat)
abbrev bM (B : AB) : Nat := B.1
abbrev bS (B : AB) : List Nat := B.2.1
abbrev bY (B : AB) : Nat := B.2.2.1
abbrev bD (B : AB) : Int32 := B.2.2.2.1
abbrev bL (B : AB) : Nat → Nat := B.2.2.2.2.1
abbrev bK (B : AB) : Nat → Nat := B.2.2.2.2.2.1
abbrev bP (B : AB) : Nat → Nat := B.2.2.2.2.2.2
/-- what always holds of a bench -/
def Inv (B : AB) : Prop := bM B ≤ 6 ∧ (bS B).Nodup ∧ (∀ x ∈ bS B, x < bM B) ∧ (∀ x ∈ bS B, 0 < bL B x) ∧ (∀ m, m < bM B → bL B m ≤ 60) ∧ (∀ m, m < bM B → bK B m ≤ 4) ∧ (∀ i, i < 3 * bM B → bP B i ≤ 9) ∧ bY B ≤ 10100 ∧ ¬ bD B < 0
/-- the component's bench -/
def CR (b : BT) (B : AB) : Prop := mn b = nI (bM B) ∧ ma b = nI (bS B).length ∧ yr b = nI (bY B) ∧ dw b = bD B ∧ (∀ k, k < (bS B).length → se b k = nI ((bS B).getD k 0)) ∧ (∀ m, m < bM B → lf b m = nI (bL B m)) ∧ (∀ m, m < bM B → kd b m = nI (bK B m)) ∧ (∀ i, i < 3 * bM B → pl b i = nI (bP B i))
/-- the model's row of numbers -/
def MR (s : Nat → Int32) (B : AB) : Prop := s 0 = nI (bM B) ∧ s 1 = nI (bS B).length ∧ s 2 = nI (bY B) ∧ s 3 = bD B ∧ (∀ k, k < (bS B).length → s (10 + k) = nI ((bS B).getD k 0)) ∧ (∀ m, m < bM B → s (4 + m) = nI (bL B m)) ∧ (∀ m, m < bM B → s (16 + m) = nI (bK B m)) ∧ (∀ i, i < 3 * bM B → s (22 + i) = nI (bP B i))
theorem Nodup_len {l : List Nat} {n : Nat} (h : l.Nodup) (hl : ∀ x ∈ l, x < n) : l.length ≤ n := by
  simpa using h.length_le_of_subset (l₂ := List.range n) (fun x hx => List.mem_range.mpr (hl x hx))
theorem Inv.len {B : AB} (h : Inv B) : (bS B).length ≤ bM B := Nodup_len h.2.1 h.2.2.1
theorem getD_mem {l : List Nat} {k : Nat} (h : k < l.length) : l.getD k 0 ∈ l := by
  rw [List.getD_eq_getElem?_getD, List.getElem?_eq_getElem h]
  exact List.getElem_mem h
/-- his seat; none -/
def seatI (B : AB) (m : Nat) : Int32 := if m ∈ bS B then nI ((bS B).idxOf m) else (-4)
theorem idxOf_of {l : List Nat} (hn : l.Nodup) {k : Nat} (hk : k < l.length) : l.idxOf (l.getD k 0) = k := by
  rw [List.getD_eq_getElem?_getD, List.getElem?_eq_getElem hk]
  exact hn.idxOf_getElem k hk
theorem ps_X6_seatOf {b : BT} {B : AB} (h : CR b B) (hI : Inv B) {m : Nat} (hm : m < 6) {Q : Int32 → Prop} (hQ : Q (seatI B m)) : wp_X6_seatOf b (nI m) Q := by
  have hl := hI.len
  have h6 := hI.1
  unfold wp_X6_seatOf
  refine ⟨(bS B).length + 1, ?_⟩
  have key : ∀ n k, k ≤ (bS B).length → (bS B).length - k < n → (∀ j, j < k → (bS B).getD j 0 ≠ m) → wp_X6_seatOf_2 b (nI m) Q n (nI k) := by
    intro n
    induction n with
    | zero => intro k _ h2; omega
    | succ n ih =>
      intro k hk hn hno
      unfold wp_X6_seatOf_2
      rw [h.2.1]
      refine ⟨fun c => ?_, fun c => ?_⟩
      · rw [nI_leI (by omega) (by omega)] at c
        have : m ∉ bS B := by
          intro hmem
          obtain ⟨j, hj, e⟩ := List.getElem_of_mem hmem
          exact hno j (by omega) (by rw [List.getD_eq_getElem?_getD, List.getElem?_eq_getElem hj]; exact e)
        simpa [seatI, this] using hQ
      · rw [nI_leI (by omega) (by omega)] at c
        refine ⟨vp_in_nI (by omega) (by omega), ?_⟩
        rw [nI_clamp (by omega), h.2.2.2.2.1 k (by omega)]
        have hx : (bS B).getD k 0 < bM B := hI.2.2.1 _ (getD_mem (by omega))
        refine ⟨fun c2 => ?_, fun c2 => ?_⟩
        · rw [nI_1]
          refine ih (k + 1) (by omega) (by omega) (fun j hj => ?_)
          rcases Nat.lt_or_ge j k with h1 | h1
          · exact hno j h1
          · have : j = k := by omega
            subst this
            exact fun e => c2 (by rw [e])
        · rw [nI_eq (by omega) (by omega)] at c2
          have hmem : m ∈ bS B := by rw [← c2]; exact getD_mem (by omega)
          have : (bS B).idxOf m = k := by rw [← c2]; exact idxOf_of hI.2.1 (by omega)
          simpa [seatI, hmem, this] using hQ
  exact key _ 0 (Nat.zero_le _) (by omega) (fun j hj => by omega)

theorem pm_seatOf {s : Nat → Int32} {B : AB} (h : MR s B) (hI : Inv B) {m : Nat} (hm : m < 6) {Q : Int32 → Prop} (hQ : Q (seatI B m)) : wp_X9_seatOf s (nI m) Q := by
  have hl := hI.len
  have h6 := hI.1
  unfold wp_X9_seatOf
  refine ⟨(bS B).length + 1, ?_⟩
  have key : ∀ n k r, k ≤ (bS B).length → (bS B).length - k < n → r = (if m ∈ (bS B).take k then nI ((bS B).idxOf m) else (-4)) → wp_X9_seatOf_5 s (nI m) Q n r (nI k) := by
    intro n
    induction n with
    | zero => intro k r _ h2; omega
    | succ n ih =>
      intro k r hk hn hr
      unfold wp_X9_seatOf_5
      simp only [h.2.1]
      refine ⟨fun c => ?_, fun c => ?_⟩
      · simp (disch := omega) only [il0, il1, il2, il3, il4, il5, il6, il7, il8, il9, il10, il15, il16, il22, il24, il30, il31, il40, il41, il60, il70, il146, il161, il9999, pk_mul, nI_add, pk_sub, nI_clamp, nI_leI, nI_ltI, nI_eq] at c
        have hk2 : k = (bS B).length := by omega
        rw [hr, hk2, List.take_length]
        exact hQ
      · simp (disch := omega) only [il0, il1, il2, il3, il4, il5, il6, il7, il8, il9, il10, il15, il16, il22, il24, il30, il31, il40, il41, il60, il70, il146, il161, il9999, pk_mul, nI_add, pk_sub, nI_clamp, nI_leI, nI_ltI, nI_eq] at c
        have hx : (bS B).getD k 0 < bM B := hI.2.2.1 _ (getD_mem (by omega))
        simp (disch := omega) only [il0, il1, il2, il3, il4, il5, il6, il7, il8, il9, il10, il15, il16, il22, il24, il30, il31, il40, il41, il60, il70, il146, il161, il9999, pk_mul, nI_add, pk_sub, nI_clamp, nI_leI, nI_ltI, nI_eq]
        refine ⟨vp_in_nI (by omega) (by omega), ?_⟩
        rw [h.2.2.2.2.1 k (by omega)]
        have ht : (bS B).take (k + 1) = (bS B).take k ++ [(bS B).getD k 0] := by
          rw [List.take_add_one, List.getElem?_eq_getElem (by omega), List.getD_eq_getElem?_getD, List.getElem?_eq_getElem (by omega)]; rfl
        refine ⟨fun c2 => ?_, fun c2 => ?_⟩
        · simp (disch := omega) only [il0, il1, il2, il3, il4, il5, il6, il7, il8, il9, il10, il15, il16, il22, il24, il30, il31, il40, il41, il60, il70, il146, il161, il9999, pk_mul, nI_add, pk_sub, nI_clamp, nI_leI, nI_ltI, nI_eq] at c2
          refine ih (k + 1) _ (by omega) (by omega) ?_
          rw [ht, hr]
          have : (m ∈ (bS B).take k ++ [(bS B).getD k 0]) ↔ m ∈ (bS B).take k := by
            simp only [List.mem_append, List.mem_singleton]
            constructor
            · rintro (h1 | h1)
              · exact h1
              · exact absurd h1.symm c2
            · exact Or.inl
          simp only [this]
        · simp (disch := omega) only [il0, il1, il2, il3, il4, il5, il6, il7, il8, il9, il10, il15, il16, il22, il24, il30, il31, il40, il41, il60, il70, il146, il161, il9999, pk_mul, nI_add, pk_sub, nI_clamp, nI_leI, nI_ltI, nI_eq] at c2
          refine ih (k + 1) _ (by omega) (by omega) ?_
          rw [ht, if_pos (by rw [← c2]; simp)]
          rw [← c2, idxOf_of hI.2.1 (by omega)]
  exact key _ 0 _ (Nat.zero_le _) (by omega) (by simp)
