/-! pure: move, nurse, drift -/
set_option maxRecDepth 100000
def swapL (l : List Nat) (k : Nat) : List Nat := l.take k ++ ([l.getD (k + 1) 0, l.getD k 0] ++ l.drop (k + 2))
theorem split2 {l : List Nat} {k : Nat} (h : k + 1 < l.length) : l = l.take k ++ ([l.getD k 0, l.getD (k + 1) 0] ++ l.drop (k + 2)) := by
  have e1 : l.drop k = l.getD k 0 :: l.drop (k + 1) := by
    rw [List.getD_eq_getElem?_getD, List.getElem?_eq_getElem (by omega)]
    exact List.drop_eq_getElem_cons (by omega)
  have e2 : l.drop (k + 1) = l.getD (k + 1) 0 :: l.drop (k + 2) := by
    rw [List.getD_eq_getElem?_getD, List.getElem?_eq_getElem (by omega)]
    exact List.drop_eq_getElem_cons (by omega)
  calc l = l.take k ++ l.drop k := (List.take_append_drop k l).symm
    _ = _ := by rw [e1, e2]; rfl
theorem swapL_perm {l : List Nat} {k : Nat} (h : k + 1 < l.length) : (swapL l k).Perm l := by
  have e := split2 h
  unfold swapL
  refine List.Perm.trans ?_ (List.Perm.of_eq e.symm)
  refine List.Perm.append_left _ ?_
  exact List.Perm.swap _ _ _
theorem swapL_len {l : List Nat} {k : Nat} (h : k + 1 < l.length) : (swapL l k).length = l.length := (swapL_perm h).length_eq
theorem swapL_get {l : List Nat} {k : Nat} (h : k + 1 < l.length) (j : Nat) : (swapL l k).getD j 0 = if j = k then l.getD (k + 1) 0 else if j = k + 1 then l.getD k 0 else l.getD j 0 := by
  have hk : (l.take k).length = k := by rw [List.length_take]; omega
  have key : ∀ x y : Nat, (l.take k ++ ([x, y] ++ l.drop (k + 2))).getD j 0 = if j = k then x else if j = k + 1 then y else l.getD j 0 := by
    intro x y
    simp only [List.getD_eq_getElem?_getD]
    by_cases h1 : j < k
    · rw [List.getElem?_append_left (by omega), List.getElem?_take, if_pos h1, if_neg (by omega), if_neg (by omega)]
    · rw [List.getElem?_append_right (by omega), hk]
      by_cases h2 : j = k
      · subst h2; rw [Nat.sub_self]; simp
      · by_cases h3 : j = k + 1
        · subst h3
          rw [show k + 1 - k = 1 by omega]; simp
        · rw [if_neg h2, if_neg h3, List.getElem?_append_right (by simp; omega)]
          rw [List.getElem?_drop]
          congr 2
          simp
          omega
  exact key _ _
theorem CR_swap {b : BT} {B : AB} (h : CR b B) {k : Nat} (hk : k + 1 < (bS B).length) {f : Nat → Int32} (hf : f = upd (upd (se b) k (se b (k + 1))) (k + 1) (se b k)) : CR (kd b, pl b, lf b, f, mn b, ma b, yr b, dw b) (setS B (swapL (bS B) k)) := by
  refine ⟨h.1, ?_, h.2.2.1, h.2.2.2.1, fun j hj => ?_, h.2.2.2.2.2.1, h.2.2.2.2.2.2.1, h.2.2.2.2.2.2.2⟩
  · show ma b = nI (swapL (bS B) k).length
    rw [swapL_len hk]; exact h.2.1
  · have hj : j < (swapL (bS B) k).length := hj
    rw [swapL_len hk] at hj
    show f j = nI ((swapL (bS B) k).getD j 0)
    rw [swapL_get hk, hf]
    by_cases h1 : j = k
    · rw [if_pos h1, h1, pk_un (by omega), pk_us]; exact h.2.2.2.2.1 _ hk
    · by_cases h2 : j = k + 1
      · rw [if_neg h1, if_pos h2, h2, pk_us]; exact h.2.2.2.2.1 _ (by omega)
      · rw [if_neg h1, if_neg h2, pk_un h2, pk_un h1]; exact h.2.2.2.2.1 j hj
theorem Inv_swap {B : AB} (hI : Inv B) {k : Nat} (hk : k + 1 < (bS B).length) : Inv (setS B (swapL (bS B) k)) := by
  have hp := swapL_perm hk
  obtain ⟨h1, h2, h3, h4, h5, h6, h7, h8, h9⟩ := hI
  exact ⟨h1, hp.nodup_iff.mpr h2, fun x hx => h3 x (hp.mem_iff.mp hx), fun x hx => h4 x (hp.mem_iff.mp hx), h5, h6, h7, h8, h9⟩
theorem pc_change {b : BT} {B : AB} (h : CR b B) (hI : Inv B) {k : Nat} (hk : k + 1 < (bS B).length) {Q : BT → Prop} (hQ : ∀ b', CR b' (setS B (swapL (bS B) k)) → Q b') : wp_X6_change b (nI k) Q := by
  have h6 := hI.1
  have hl := hI.len
  unfold wp_X6_change
  rw [nI_1, nI_clamp (by omega), nI_clamp (by omega)]
  refine ⟨vp_in_nI (by omega) (by omega), fun v2 h2 => ⟨vp_in_nI (by omega) (by omega), fun v4 h4 => ⟨vp_in_nI (by omega) (by omega), fun f6 e6 => ⟨vp_in_nI (by omega) (by omega), fun f8 e8 => ?_⟩⟩⟩⟩
  exact hQ _ (CR_swap h hk (by rw [e8, e6, h2, h4]))
theorem pm_changes {s : Nat → Int32} {B : AB} (h : MR s B) (hI : Inv B) {k : Nat} (hk : k + 1 < (bS B).length) {Q : (Nat → Int32) → Prop} (hQ : ∀ s', MR s' (setS B (swapL (bS B) k)) → (∀ i, 40 ≤ i → s' i = s i) → Q s') : wp_X9_changes s (nI k) Q := by
  have h6 := hI.1
  have hl := hI.len
  unfold wp_X9_changes
  rw [il10, nI_add, nI_1, nI_clamp (by omega), nI_clamp (by omega)]
  refine ⟨vp_in_nI (by omega) (by omega), fun v2 h2 => ⟨vp_in_nI (by omega) (by omega), fun v4 h4 => ⟨vp_in_nI (by omega) (by omega), fun f6 e6 => ⟨vp_in_nI (by omega) (by omega), fun f8 e8 => ?_⟩⟩⟩⟩
  have g : ∀ i, i ≠ 10 + k → i ≠ 10 + k + 1 → f8 i = s i := fun i h1 h2 => by rw [e8, pk_un h2, e6, pk_un h1]
  refine hQ f8 ⟨?_, ?_, ?_, ?_, fun j hj => ?_, fun m hm => ?_, fun m hm => ?_, fun i hi => ?_⟩ (fun i hi => g i (by omega) (by omega))
  · rw [g 0 (by omega) (by omega)]; exact h.1
  · rw [g 1 (by omega) (by omega)]
    show _ = nI (swapL (bS B) k).length
    rw [swapL_len hk]; exact h.2.1
  · rw [g 2 (by omega) (by omega)]; exact h.2.2.1
  · rw [g 3 (by omega) (by omega)]; exact h.2.2.2.1
  · have hj : j < (swapL (bS B) k).length := hj
    rw [swapL_len hk] at hj
    show _ = nI ((swapL (bS B) k).getD j 0)
    rw [swapL_get hk]
    by_cases h1 : j = k
    · rw [if_pos h1, h1, e8, pk_un (by omega), e6, pk_us, h4, Nat.add_assoc]; exact h.2.2.2.2.1 _ hk
    · by_cases h2' : j = k + 1
      · rw [if_neg h1, if_pos h2', h2', ← Nat.add_assoc, e8, pk_us, h2]; exact h.2.2.2.2.1 _ (by omega)
      · rw [if_neg h1, if_neg h2', g _ (by omega) (by omega)]; exact h.2.2.2.2.1 j hj
  · have hm : m < bM B := hm
    rw [g _ (by omega) (by omega)]; exact h.2.2.2.2.2.1 m hm
  · have hm : m < bM B := hm
    rw [g _ (by omega) (by omega)]; exact h.2.2.2.2.2.2.1 m hm
  · have hi : i < 3 * bM B := hi
    rw [g _ (by omega) (by omega)]; exact h.2.2.2.2.2.2.2 i hi
def moveOk (B : AB) (p1 : Int32) : Bool := inR p1 0 (((bS B).length : Int) - 2)
def moveI (B : AB) (p1 : Int32) : Int32 := if moveOk B p1 = true then nI ((bS B).getD (p1.toNatClampNeg + 1) 0) else (-1)
def moveS (B : AB) (Ps : List AB) (p1 : Int32) : AB × List AB := if moveOk B p1 = true then (setS B (swapL (bS B) p1.toNatClampNeg), noteP Ps B) else (B, Ps)
theorem moveOk_nI {B : AB} {p1 : Int32} (h : moveOk B p1 = true) (hl : (bS B).length ≤ 6) : ∃ k, k + 1 < (bS B).length ∧ p1 = nI k := by
  unfold moveOk at h
  have h2 := inR_t.mp h
  obtain ⟨k, hk, e⟩ := inR_nI (x := p1) (n := (bS B).length - 1) (by omega) (by rw [inR_t]; omega)
  exact ⟨k, by omega, e⟩
theorem pc_move {b : BT} {B : AB} {Ps : List AB} {p : Nat → BT} (h : CR b B) (hI : InvP B Ps) (hp : PC p Ps) {p1 : Int32} {Q : Int32 → Int32 × BT × (Nat → BT) → Prop} (hQ : ∀ b' p', CR b' (moveS B Ps p1).1 → PC p' (moveS B Ps p1).2 → Q (moveI B p1) (nI (moveS B Ps p1).2.length, b', p')) : wp_X0_move (nI Ps.length) b p p1 Q := by
  have h6 := hI.1.1
  have hl := hI.1.len
  unfold wp_X0_move
  refine pc_isIn (a := 0) (c := ((bS B).length : Int) - 2) rfl (by rw [h.2.1, Int32.toInt_toInt64, il2, pk_sub_toInt (by omega) (by omega)]; rfl) ⟨fun c => ?_, fun c => ?_⟩
  · rw [b2i_n0] at c
    have c : moveOk B p1 = true := c
    obtain ⟨k, hk, rfl⟩ := moveOk_nI c (by omega)
    simp only [moveI, moveS, c, if_true, nI_clamp (show k < 2 ^ 31 by omega)] at hQ
    refine pc_note h hI.1 hp (fun p' hp' => pc_change h hI.1 hk (fun b' hb' => ⟨vp_in_nI (by omega) (by omega), ?_⟩))
    have e : se b' (nI k).toNatClampNeg = nI ((bS B).getD (k + 1) 0) := by
      rw [nI_clamp (by omega)]
      have := hb'.2.2.2.2.1 k (by show k < (swapL (bS B) k).length; rw [swapL_len hk]; omega)
      rw [this]
      show nI ((swapL (bS B) k).getD k 0) = _
      rw [swapL_get hk, if_pos rfl]
    rw [e]
    exact hQ b' p' hb' hp'
  · rw [b2i_0] at c
    have c : moveOk B p1 = false := c
    simp only [moveI, moveS, c] at hQ
    exact hQ b p h hp
theorem PM_keep {s s' : Nat → Int32} {B : AB} {Ps : List AB} (h : PM s Ps) (hs : ∀ Y ∈ Ps, bM Y ≤ 6 ∧ (bS Y).length ≤ 6) (he : ∀ i, 40 ≤ i → s' i = s i) : PM s' Ps :=
  ⟨h.1, (he 40 (by omega)).trans h.2.1, fun k Y hk => by
    have hY := hs Y (List.mem_of_getElem? hk)
    exact YM_same (h.2.2 k Y hk) hY.1 hY.2 (fun i hi => he _ (by omega))⟩
theorem noteP_sz {B : AB} {Ps : List AB} (h : InvP B Ps) : ∀ Y ∈ noteP Ps B, bM Y ≤ 6 ∧ (bS Y).length ≤ 6 := by
  intro Y hY
  rcases noteP_mem hY with h1 | h1
  · exact h.sz Y h1
  · subst h1; exact ⟨h.1.1, Nat.le_trans h.1.len h.1.1⟩
theorem pm_move {s : Nat → Int32} {B : AB} {Ps : List AB} (h : MR s B) (hI : InvP B Ps) (hp : PM s Ps) {p1 : Int32} {Q : Int32 → (Nat → Int32) → Prop} (hQ : ∀ s', MR s' (moveS B Ps p1).1 → PM s' (moveS B Ps p1).2 → Q (moveI B p1) s') : wp_X9_move s p1 Q := by
  have h6 := hI.1.1
  have hl := hI.1.len
  unfold wp_X9_move
  refine pm_in ?_
  have e0 : inR p1 (0 : Int32).toInt ((s 1) - 2).toInt = moveOk B p1 := by
    rw [h.2.1, il2, pk_sub_toInt (by omega) (by omega)]; rfl
  rw [e0]
  refine ⟨fun c => ?_, fun c => ?_⟩
  · rw [b2i_n0] at c
    obtain ⟨k, hk, rfl⟩ := moveOk_nI c (by omega)
    simp only [moveI, moveS, c, if_true, nI_clamp (show k < 2 ^ 31 by omega)] at hQ
    refine pm_keeps h hI.1 hp hI.sz (fun s2 g1 g2 => pm_changes (MRx h h6 hl g1) hI.1 hk (fun s3 k1 k2 => ?_))
    rw [il10, nI_add, nI_clamp (by omega)]
    refine ⟨vp_in_nI (by omega) (by omega), ?_⟩
    have e : s3 (10 + k) = nI ((bS B).getD (k + 1) 0) := by
      have := k1.2.2.2.2.1 k (by show k < (swapL (bS B) k).length; rw [swapL_len hk]; omega)
      rw [this]
      show nI ((swapL (bS B) k).getD k 0) = _
      rw [swapL_get hk, if_pos rfl]
    rw [e]
    exact hQ s3 k1 (PM_keep (B := B) g2 (noteP_sz hI) k2)
  · rw [b2i_0] at c
    simp only [moveI, moveS, c] at hQ
    exact hQ s h hp
theorem Inv_move {B : AB} {Ps : List AB} (hI : InvP B Ps) (p1 : Int32) : InvP (moveS B Ps p1).1 (moveS B Ps p1).2 := by
  unfold moveS
  split
  case isFalse => exact hI
  case isTrue c =>
    obtain ⟨k, hk, rfl⟩ := moveOk_nI c (Nat.le_trans hI.1.len hI.1.1)
    have hl := hI.1.len
    have h6 := hI.1.1
    rw [nI_clamp (by omega)]
    exact InvP_note hI (Inv_swap hI.1 hk) rfl hI.2.1
