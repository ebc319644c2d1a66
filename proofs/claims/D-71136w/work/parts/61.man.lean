/-! pure: man -/
set_option maxRecDepth 100000
def addB (B : AB) (k l : Nat) : AB := (bM B + 1, bS B ++ [bM B], bY B, bD B, updN (bL B) (bM B) l, updN (bK B) (bM B) k, fun i => if 3 * bM B ≤ i ∧ i < 3 * bM B + 3 then bM B else bP B i)
def manBad (p1 p2 : Int32) : Bool := !(inR p1 0 4 && inR p2 1 60)
def manTk (B : AB) : Bool := takenB B 0 (bM B) || takenB B 1 (bM B) || takenB B 2 (bM B)
def manOk (B : AB) (p1 p2 : Int32) : Bool := !manBad p1 p2 && decide (bM B ≠ 6) && !manTk B
def manI (B : AB) (p1 p2 : Int32) : Int32 := if manBad p1 p2 = true then (-1) else if bM B = 6 then (-3) else if manTk B = true then (-2) else nI (bM B)
def manB (B : AB) (p1 p2 : Int32) : AB := if manOk B p1 p2 = true then addB B p1.toNatClampNeg p2.toNatClampNeg else B
theorem inR_1 {x : Int32} (h : inR x 1 60 = true) : ∃ j, 1 ≤ j ∧ j ≤ 60 ∧ x = nI j := by
  rw [inR_t] at h
  refine ⟨x.toInt.toNat, by omega, by omega, Int32.toInt_inj.mp ?_⟩
  rw [nI_toInt (by omega)]; omega
theorem getD_snoc {l : List Nat} {x k : Nat} (hk : k < (l ++ [x]).length) : (l ++ [x]).getD k 0 = if k = l.length then x else l.getD k 0 := by
  rw [List.length_append] at hk
  split
  case isTrue e => rw [e, getD_append_len]
  case isFalse e => exact getD_append_left' (by simp at hk; omega)
theorem pc_add {b : BT} {B : AB} (h : CR b B) (h6 : bM B < 6) (hl : (bS B).length ≤ bM B) {k l : Nat} {f : Nat → Int32} (hp : ∀ i, i < 3 * bM B + 3 → f i = nI (if 3 * bM B ≤ i ∧ i < 3 * bM B + 3 then bM B else bP B i)) {Q : BT → Prop} (hQ : ∀ b', CR b' (addB B k l) → Q b') : wp_X6_add (kd b, f, lf b, se b, mn b, ma b, yr b, dw b) (nI k) (nI l) Q := by
  unfold wp_X6_add
  have e1 : mn (kd b, f, lf b, se b, mn b, ma b, yr b, dw b) = nI (bM B) := h.1
  have e2 : ma (kd b, f, lf b, se b, mn b, ma b, yr b, dw b) = nI (bS B).length := h.2.1
  rw [e1, e2, nI_clamp (by omega), nI_clamp (by omega), nI_1, nI_1]
  refine ⟨vp_in_nI (by omega) (by omega), fun f2 h2 => ⟨vp_in_nI (by omega) (by omega), fun f4 h4 => ⟨vp_in_nI (by omega) (by omega), fun f6 hf6 v7 h7 v8 h8 => ?_⟩⟩⟩
  refine hQ _ ⟨h8, ?_, h.2.2.1, h.2.2.2.1, fun j hj => ?_, fun j hj => ?_, fun j hj => ?_, fun i hi => ?_⟩
  · show v7 = _
    rw [h7]
    show _ = nI (bS B ++ [bM B]).length
    rw [List.length_append]; rfl
  · show f6 j = nI ((bS B ++ [bM B]).getD j 0)
    have hj : j < (bS B ++ [bM B]).length := hj
    rw [getD_snoc hj, hf6]
    rw [List.length_append] at hj
    split
    case isTrue e => rw [e, pk_us]
    case isFalse e => rw [pk_un e]; exact h.2.2.2.2.1 j (by simp at hj; omega)
  · have hj : j < bM B + 1 := hj
    show f4 j = nI (updN (bL B) (bM B) l j)
    rw [h4]
    by_cases e : j = bM B
    · rw [e, pk_us, updN_s]
    · rw [pk_un e, updN_n e]; exact h.2.2.2.2.2.1 j (by omega)
  · have hj : j < bM B + 1 := hj
    show f2 j = nI (updN (bK B) (bM B) k j)
    rw [h2]
    by_cases e : j = bM B
    · rw [e, pk_us, updN_s]
    · rw [pk_un e, updN_n e]; exact h.2.2.2.2.2.2.1 j (by omega)
  · have hi : i < 3 * (bM B + 1) := hi
    show f i = _
    exact hp i (by omega)
theorem pc_man {b : BT} {B : AB} (h : CR b B) (hI : Inv B) {u p1 p2 : Int32} {Q : Int32 → Int32 × BT → Prop} (hQ : ∀ b', CR b' (manB B p1 p2) → Q (manI B p1 p2) (if manOk B p1 p2 = true then 0 else u, b')) : wp_X0_man u b p1 p2 Q := by
  have h6 := hI.1
  have hl := hI.len
  have bad : manBad p1 p2 = true → Q (-1) (u, b) := by
    intro hb
    have e0 : manOk B p1 p2 = false := by simp [manOk, hb]
    simp only [manI, manB, e0, hb, if_true] at hQ
    exact hQ b h
  unfold wp_X0_man
  refine pc_isIn (a := 0) (c := 4) rfl rfl ⟨fun c => bad ?_, fun c => pc_isIn (a := 1) (c := 60) rfl rfl ⟨fun c2 => ?_, fun c2 => bad ?_⟩⟩
  · rw [b2i_0] at c; simp [manBad, c]
  · rw [b2i_n0] at c c2
    have hb : manBad p1 p2 = false := by simp [manBad, c, c2]
    obtain ⟨k, hk, rfl⟩ := inRn (n := 4) (by omega) c
    obtain ⟨l, hl1, hl2, rfl⟩ := inR_1 c2
    rw [h.1]
    refine ⟨fun c3 => ?_, fun c3 => ?_⟩
    · simp (disch := omega) only [il0, il1, il2, il3, il4, il5, il6, il7, il8, il9, il10, il15, il16, il22, il24, il30, il31, il40, il41, il60, il70, il146, il161, il9999, pk_mul, nI_add, pk_sub, nI_clamp, nI_leI, nI_ltI, nI_eq] at c3
      have tk : manTk B = true → Q (-2) (u, b) := by
        intro ht
        have e0 : manOk B (nI k) (nI l) = false := by simp [manOk, ht]
        simp only [manI, manB, e0, hb, ht, if_neg c3, if_true] at hQ
        exact hQ b h
      refine loop_0 (σ := Unit) (fun n i _ => wp_X0_man_43 (nI k) (nI l) Q n u b (nI i)) (fun i _ => ∀ t, t < i → takenB B t (bM B) = false) 3 () (fun t ht => by omega) ?_ ?_
      · intro n _ hno
        unfold wp_X0_man_43
        refine ⟨fun _ => ?_, fun c => absurd (by decide) c⟩
        have ht : manTk B = false := by simp [manTk, hno 0 (by omega), hno 1 (by omega), hno 2 (by omega)]
        have e0 : manOk B (nI k) (nI l) = true := by simp [manOk, ht, hb, c3]
        simp only [manI, manB, e0, hb, ht, if_neg c3, if_true, nI_clamp (show k < 2 ^ 31 by omega), nI_clamp (show l < 2 ^ 31 by omega)] at hQ
        refine loop_0 (σ := BT) (fun n i t => wp_X0_man_77 (nI k) (nI l) Q n u t (nI i)) (fun i t => ∃ f : Nat → Int32, t = (kd b, f, lf b, se b, mn b, ma b, yr b, dw b) ∧ ∀ j, j < 3 * bM B + i → f j = nI (if 3 * bM B ≤ j ∧ j < 3 * bM B + 3 then bM B else bP B j)) 3 b ?_ ?_ ?_
        · refine ⟨pl b, rfl, fun j hj => ?_⟩
          rw [if_neg (by omega)]; exact h.2.2.2.2.2.2.2 j (by omega)
        · rintro n t ⟨f, rfl, hf⟩
          unfold wp_X0_man_77
          refine ⟨fun _ => pc_add h (by omega) hl hf (fun b' hb' => ?_), fun c => absurd (by decide) c⟩
          have e : mn b' - 1 = nI (bM B) := by rw [hb'.1]; exact nI_pred (bM B)
          rw [e]
          exact hQ b' hb'
        · rintro n i t hi ⟨f, rfl, hf⟩ ih
          unfold wp_X0_man_77
          have e1 : mn (kd b, f, lf b, se b, mn b, ma b, yr b, dw b) = nI (bM B) := h.1
          rw [nI_1]
          refine ⟨fun c => by simp (disch := omega) only [il0, il1, il2, il3, il4, il5, il6, il7, il8, il9, il10, il15, il16, il22, il24, il30, il31, il40, il41, il60, il70, il146, il161, il9999, pk_mul, nI_add, pk_sub, nI_clamp, nI_leI, nI_ltI, nI_eq] at c; omega, fun _ => ?_⟩
          rw [e1]
          simp (disch := omega) only [il0, il1, il2, il3, il4, il5, il6, il7, il8, il9, il10, il15, il16, il22, il24, il30, il31, il40, il41, il60, il70, il146, il161, il9999, pk_mul, nI_add, pk_sub, nI_clamp, nI_leI, nI_ltI, nI_eq]
          refine ⟨vp_in_nI (by omega) (by omega), fun f4 hf4 => ?_⟩
          have := ih (kd b, f4, lf b, se b, mn b, ma b, yr b, dw b) ⟨f4, rfl, fun j hj => ?_⟩
          · rw [h.1] at this
            exact this
          · rw [hf4]
            by_cases e : j = 3 * bM B + i
            · rw [e, pk_us, if_pos (by omega)]
            · rw [pk_un e]; exact hf j (by omega)
      · intro n i _ hi hno ih
        unfold wp_X0_man_43
        rw [h.1, nI_1]
        refine ⟨fun c => by simp (disch := omega) only [il0, il1, il2, il3, il4, il5, il6, il7, il8, il9, il10, il15, il16, il22, il24, il30, il31, il40, il41, il60, il70, il146, il161, il9999, pk_mul, nI_add, pk_sub, nI_clamp, nI_leI, nI_ltI, nI_eq] at c; omega, fun _ => pc_manAt h hI hi (by omega) (fun r hr => ?_)⟩
        rw [lt0_iff, hr]
        refine ⟨fun c4 => ih () (fun t ht => ?_), fun c4 => tk ?_⟩
        · by_cases e : t = i
          · rw [e]; simpa using c4
          · exact hno t (by omega)
        · have c4 : takenB B i (bM B) = true := by simpa using c4
          have : i = 0 ∨ i = 1 ∨ i = 2 := by omega
          rcases this with rfl | rfl | rfl <;> simp [manTk, c4]
    · simp (disch := omega) only [il0, il1, il2, il3, il4, il5, il6, il7, il8, il9, il10, il15, il16, il22, il24, il30, il31, il40, il41, il60, il70, il146, il161, il9999, pk_mul, nI_add, pk_sub, nI_clamp, nI_leI, nI_ltI, nI_eq] at c3
      have e0 : manOk B (nI k) (nI l) = false := by simp [manOk, c3]
      simp only [manI, manB, e0, hb, if_pos c3] at hQ
      exact hQ b h
  · rw [b2i_0] at c2; simp [manBad, c2]
theorem pm_man {s : Nat → Int32} {B : AB} (h : MR s B) (hI : Inv B) {p1 p2 : Int32} {Q : Int32 → (Nat → Int32) → Prop} (hQ : ∀ s', MR s' (manB B p1 p2) → s' 40 = (if manOk B p1 p2 = true then 0 else s 40) → (∀ i, 41 ≤ i → s' i = s i) → Q (manI B p1 p2) s') : wp_X9_man s p1 p2 Q := by
  have h6 := hI.1
  have hl := hI.len
  have bad : manBad p1 p2 = true → Q (-1) s := by
    intro hb
    have e0 : manOk B p1 p2 = false := by simp [manOk, hb]
    simp only [manI, manB, e0, hb, if_true] at hQ
    exact hQ s h rfl (fun _ _ => rfl)
  unfold wp_X9_man
  refine pm_in ⟨fun c => bad ?_, fun c => pm_in ⟨fun c2 => ?_, fun c2 => bad ?_⟩⟩
  · rw [b2i_0] at c; have c : inR p1 0 4 = false := c; simp [manBad, c]
  · rw [b2i_n0] at c c2
    have c : inR p1 0 4 = true := c
    have c2 : inR p2 1 60 = true := c2
    have hb : manBad p1 p2 = false := by simp [manBad, c, c2]
    obtain ⟨k, hk, rfl⟩ := inRn (n := 4) (by omega) c
    obtain ⟨l, hl1, hl2, rfl⟩ := inR_1 c2
    intro v5 hv5
    rw [h.1] at hv5
    subst hv5
    refine ⟨fun c3 => ?_, fun c3 => ?_⟩
    · simp (disch := omega) only [il0, il1, il2, il3, il4, il5, il6, il7, il8, il9, il10, il15, il16, il22, il24, il30, il31, il40, il41, il60, il70, il146, il161, il9999, pk_mul, nI_add, pk_sub, nI_clamp, nI_leI, nI_ltI, nI_eq] at c3
      have tk : manTk B = true → Q (-2) s := by
        intro ht
        have e0 : manOk B (nI k) (nI l) = false := by simp [manOk, ht]
        simp only [manI, manB, e0, hb, ht, if_neg c3, if_true] at hQ
        exact hQ s h rfl (fun _ _ => rfl)
      refine pm_isTaken (t := 0) h hI (by omega) (by omega) ⟨fun c4 => tk (by rw [b2i_n0] at c4; simp [manTk, c4]), fun t0 => pm_isTaken (t := 1) h hI (by omega) (by omega) ⟨fun c4 => tk (by rw [b2i_n0] at c4; simp [manTk, c4]), fun t1 => pm_isTaken (t := 2) h hI (by omega) (by omega) ⟨fun t2 => ?_, fun c4 => tk (by rw [b2i_n0] at c4; simp [manTk, c4])⟩⟩⟩
      rw [b2i_0] at t0 t1 t2
      have ht : manTk B = false := by simp [manTk, t0, t1, t2]
      have e0 : manOk B (nI k) (nI l) = true := by simp [manOk, ht, hb, c3]
      simp only [manI, manB, e0, hb, ht, if_neg c3, if_true, nI_clamp (show k < 2 ^ 31 by omega), nI_clamp (show l < 2 ^ 31 by omega)] at hQ
      rw [il16, il4, nI_add, nI_add, nI_clamp (by omega), nI_clamp (by omega)]
      refine ⟨vp_in_nI (by omega) (by omega), fun f14 h14 => ⟨vp_in_nI (by omega) (by omega), fun f16 h16 => ?_⟩⟩
      refine loop_0 (σ := Nat → Int32) (fun n i t => wp_X9_man_89 (nI k) (nI l) Q n t (nI (bM B)) (nI i)) (fun i t => (∀ j, (j < 22 + 3 * bM B ∨ 22 + 3 * bM B + 3 ≤ j) → t j = f16 j) ∧ ∀ j, j < i → t (22 + (3 * bM B + j)) = nI (bM B)) 3 f16 ⟨fun _ _ => rfl, fun j hj => by omega⟩ ?_ ?_
      · rintro n t ⟨g1, g2⟩
        unfold wp_X9_man_89
        have gs : ∀ j, (j < 22 + 3 * bM B ∨ 22 + 3 * bM B + 3 ≤ j) → j ≠ 16 + bM B → j ≠ 4 + bM B → t j = s j := by
          intro j hj h1 h2
          rw [g1 j hj, h16, pk_un h2, h14, pk_un h1]
        refine ⟨fun _ => ?_, fun c => absurd (by decide) c⟩
        rw [gs 1 (by omega) (by omega) (by omega), h.2.1, il10, nI_add, nI_clamp (by omega)]
        refine ⟨vp_in_nI (by omega) (by omega), fun f3 h3 v4 h4 f5 h5 v6 hv6 f7 h7 f8 h8 => ?_⟩
        have g8 : ∀ j, j ≠ 0 → j ≠ 1 → j ≠ 40 → j ≠ 10 + (bS B).length → f8 j = t j := by
          intro j a1 a2 a3 a4
          rw [h8, pk_un a3, h7, pk_un a1, h5, pk_un a2, h3, pk_un a4]
        refine hQ f8 ⟨?_, ?_, ?_, ?_, fun j hj => ?_, fun j hj => ?_, fun j hj => ?_, fun j hj => ?_⟩ ?_ ?_
        · rw [h8, pk_un (by omega), h7, pk_us, hv6, h5, pk_un (by omega), h3, pk_un (by omega), gs 0 (by omega) (by omega) (by omega), h.1, nI_1]; rfl
        · rw [h8, pk_un (by omega), h7, pk_un (by omega), h5, pk_us, h4, h3, pk_un (by omega), gs 1 (by omega) (by omega) (by omega), h.2.1, nI_1]
          show _ = nI (bS B ++ [bM B]).length
          rw [List.length_append]; rfl
        · rw [g8 2 (by omega) (by omega) (by omega) (by omega), gs 2 (by omega) (by omega) (by omega)]; exact h.2.2.1
        · rw [g8 3 (by omega) (by omega) (by omega) (by omega), gs 3 (by omega) (by omega) (by omega)]; exact h.2.2.2.1
        · have hj : j < (bS B ++ [bM B]).length := hj
          show _ = nI ((bS B ++ [bM B]).getD j 0)
          rw [getD_snoc hj]
          rw [List.length_append] at hj
          have hj : j < (bS B).length + 1 := hj
          split
          case isTrue e => rw [e, h8, pk_un (by omega), h7, pk_un (by omega), h5, pk_un (by omega), h3, pk_us]
          case isFalse e => rw [g8 _ (by omega) (by omega) (by omega) (by omega), gs _ (by omega) (by omega) (by omega)]; exact h.2.2.2.2.1 j (by omega)
        · have hj : j < bM B + 1 := hj
          show _ = nI (updN (bL B) (bM B) l j)
          rw [g8 _ (by omega) (by omega) (by omega) (by omega)]
          by_cases e : j = bM B
          · rw [e, updN_s, g1 _ (by omega), h16, pk_us]
          · rw [updN_n e, gs _ (by omega) (by omega) (by omega)]; exact h.2.2.2.2.2.1 j (by omega)
        · have hj : j < bM B + 1 := hj
          show _ = nI (updN (bK B) (bM B) k j)
          rw [g8 _ (by omega) (by omega) (by omega) (by omega)]
          by_cases e : j = bM B
          · rw [e, updN_s, g1 _ (by omega), h16, pk_un (by omega), h14, pk_us]
          · rw [updN_n e, gs _ (by omega) (by omega) (by omega)]; exact h.2.2.2.2.2.2.1 j (by omega)
        · have hj : j < 3 * (bM B + 1) := hj
          show _ = nI (if 3 * bM B ≤ j ∧ j < 3 * bM B + 3 then bM B else bP B j)
          rw [g8 _ (by omega) (by omega) (by omega) (by omega)]
          by_cases e : 3 * bM B ≤ j
          · rw [if_pos (by omega)]
            have := g2 (j - 3 * bM B) (by omega)
            rw [show 22 + (3 * bM B + (j - 3 * bM B)) = 22 + j by omega] at this
            exact this
          · rw [if_neg (by omega), gs _ (by omega) (by omega) (by omega)]; exact h.2.2.2.2.2.2.2 j (by omega)
        · rw [h8, pk_us]
        · intro j hj
          rw [g8 _ (by omega) (by omega) (by omega) (by omega), gs _ (by omega) (by omega) (by omega)]
      · rintro n i t hi ⟨g1, g2⟩ ih
        unfold wp_X9_man_89
        rw [nI_1]
        refine ⟨fun c => by simp (disch := omega) only [il0, il1, il2, il3, il4, il5, il6, il7, il8, il9, il10, il15, il16, il22, il24, il30, il31, il40, il41, il60, il70, il146, il161, il9999, pk_mul, nI_add, pk_sub, nI_clamp, nI_leI, nI_ltI, nI_eq] at c; omega, fun _ => ?_⟩
        simp (disch := omega) only [il0, il1, il2, il3, il4, il5, il6, il7, il8, il9, il10, il15, il16, il22, il24, il30, il31, il40, il41, il60, il70, il146, il161, il9999, pk_mul, nI_add, pk_sub, nI_clamp, nI_leI, nI_ltI, nI_eq]
        refine ⟨vp_in_nI (by omega) (by omega), fun f10 h10 => ih f10 ⟨fun j hj => ?_, fun j hj => ?_⟩⟩
        · rw [h10, pk_un (by omega)]; exact g1 j hj
        · rw [h10]
          by_cases e : j = i
          · rw [e, ← Nat.add_assoc, pk_us]
          · rw [pk_un (by omega)]; exact g2 j (by omega)
    · simp (disch := omega) only [il0, il1, il2, il3, il4, il5, il6, il7, il8, il9, il10, il15, il16, il22, il24, il30, il31, il40, il41, il60, il70, il146, il161, il9999, pk_mul, nI_add, pk_sub, nI_clamp, nI_leI, nI_ltI, nI_eq] at c3
      have e0 : manOk B (nI k) (nI l) = false := by simp [manOk, c3]
      simp only [manI, manB, e0, hb, if_pos c3] at hQ
      exact hQ s h rfl (fun _ _ => rfl)
  · rw [b2i_0] at c2; have c2 : inR p2 1 60 = false := c2; simp [manBad, c2]
theorem Inv_man {B : AB} (hI : Inv B) (p1 p2 : Int32) : Inv (manB B p1 p2) ∧ bY (manB B p1 p2) = bY B := by
  unfold manB
  split
  case isFalse => exact ⟨hI, rfl⟩
  case isTrue hc =>
    simp only [manOk, manBad, Bool.and_eq_true, Bool.not_not, decide_eq_true_eq] at hc
    obtain ⟨k, hk, rfl⟩ := inRn (x := p1) (n := 4) (by omega) hc.1.1.1
    obtain ⟨l, hl1, hl2, rfl⟩ := inR_1 hc.1.1.2
    obtain ⟨h1, h2, h3, h4, h5, h6, h7, h8, h9⟩ := hI
    have hne := hc.1.2
    rw [nI_clamp (by omega), nI_clamp (by omega)]
    refine ⟨⟨by show bM B + 1 ≤ 6; omega, ?_, fun x hx => ?_, fun x hx => ?_, fun m hm => ?_, fun m hm => ?_, fun i hi => ?_, h8, h9⟩, rfl⟩
    · show (bS B ++ [bM B]).Nodup
      rw [List.nodup_append]
      refine ⟨h2, by simp, fun a ha c hc => ?_⟩
      have := h3 a ha
      simp at hc
      omega
    · show x < bM B + 1
      rcases List.mem_append.mp (show x ∈ bS B ++ [bM B] from hx) with h | h
      · have := h3 x h; omega
      · simp at h; omega
    · show 0 < updN (bL B) (bM B) l x
      rcases List.mem_append.mp (show x ∈ bS B ++ [bM B] from hx) with h | h
      · have := h3 x h
        rw [updN_n (by omega)]; exact h4 x h
      · simp at h
        rw [h, updN_s]; omega
    · show updN (bL B) (bM B) l m ≤ 60
      have hm : m < bM B + 1 := hm
      by_cases e : m = bM B
      · rw [e, updN_s]; exact hl2
      · rw [updN_n e]; exact h5 m (by omega)
    · show updN (bK B) (bM B) k m ≤ 4
      have hm : m < bM B + 1 := hm
      by_cases e : m = bM B
      · rw [e, updN_s]; exact hk
      · rw [updN_n e]; exact h6 m (by omega)
    · show (if 3 * bM B ≤ i ∧ i < 3 * bM B + 3 then bM B else bP B i) ≤ 9
      have hi : i < 3 * (bM B + 1) := hi
      split
      · omega
      · exact h7 i (by omega)
