/-! pure: left: the order that leaves the most -/
set_option maxRecDepth 100000
theorem pm_left46 {p1 p2 : Int32} {Q : Int32 → (Nat → Int32) × (Nat → Int32) × (Nat → Int32) × (Nat → Int32) → Prop} {K : (Nat → Int32) → (Nat → Int32) → (Nat → Int32) → (Nat → Int32) → Int32 → Int32 → Int32 → Int32 → Prop} {s less a order : Nat → Int32} {x3 x4 x5 : Int32}
    (hK : ∀ order' : Nat → Int32, (∀ j, j < 40 → order' j = s j) → wp_X9_onSeat s p2 (fun r => ∃ j_ : Nat, wp_X9_left_83 p1 p2 Q K j_ s less a order' x3 x4 x5 r 0)) : ∃ j_ : Nat, wp_X9_left_46 p1 p2 Q K j_ s less a order x3 x4 x5 0 := by
  refine loop_0 (σ := Nat → Int32) (fun n i t => wp_X9_left_46 p1 p2 Q K n s less a t x3 x4 x5 (nI i)) (fun k t => ∀ j, j < k → t j = s j) 40 order (fun j hj => by omega) ?_ ?_
  · intro n t ht
    unfold wp_X9_left_46
    exact ⟨fun _ => hK t ht, fun c => absurd (by decide) c⟩
  · intro n k t hk ht ih
    unfold wp_X9_left_46
    rw [nI_1, nI_clamp (by omega)]
    refine ⟨fun c => by simp (disch := omega) only [il0, il1, il2, il3, il4, il5, il6, il7, il8, il9, il10, il15, il16, il22, il24, il30, il31, il40, il41, il60, il70, il146, il161, il9999, pk_mul, nI_add, pk_sub, nI_clamp, nI_leI, nI_ltI, nI_eq] at c; omega, fun _ => ⟨vp_in_nI (by omega) (by omega), fun v hv => ⟨vp_in_nI (by omega) (by omega), fun f hf => ih f (fun j hj => ?_)⟩⟩⟩
    rw [hf]
    by_cases e : j = k
    · rw [e, pk_us, hv]
    · rw [pk_un e]; exact ht j (by omega)
theorem pm_left148 {p1 p2 : Int32} {Q : Int32 → (Nat → Int32) × (Nat → Int32) × (Nat → Int32) × (Nat → Int32) → Prop} {K : (Nat → Int32) → (Nat → Int32) → (Nat → Int32) → (Nat → Int32) → Int32 → Int32 → Int32 → Int32 → Prop} {s less a order : Nat → Int32} {x3 x4 x5 : Int32}
    (hK : ∀ s' : Nat → Int32, (∀ j, j < 40 → s' j = order j) → (∀ j, 40 ≤ j → s' j = s j) → wp_X9_nextOrder s' (fun r u => K u less a order x3 x4 x5 r)) : ∃ j_ : Nat, wp_X9_left_148 p1 p2 Q K j_ s less a order x3 x4 x5 0 := by
  refine loop_0 (σ := Nat → Int32) (fun n i t => wp_X9_left_148 p1 p2 Q K n t less a order x3 x4 x5 (nI i)) (fun k t => (∀ j, j < k → t j = order j) ∧ ∀ j, 40 ≤ j → t j = s j) 40 s ⟨fun j hj => by omega, fun _ _ => rfl⟩ ?_ ?_
  · rintro n t ⟨h1, h2⟩
    unfold wp_X9_left_148
    exact ⟨fun _ => hK t h1 h2, fun c => absurd (by decide) c⟩
  · rintro n k t hk ⟨h1, h2⟩ ih
    unfold wp_X9_left_148
    rw [nI_1, nI_clamp (by omega)]
    refine ⟨fun c => by simp (disch := omega) only [il0, il1, il2, il3, il4, il5, il6, il7, il8, il9, il10, il15, il16, il22, il24, il30, il31, il40, il41, il60, il70, il146, il161, il9999, pk_mul, nI_add, pk_sub, nI_clamp, nI_leI, nI_ltI, nI_eq] at c; omega, fun _ => ⟨vp_in_nI (by omega) (by omega), fun v hv => ⟨vp_in_nI (by omega) (by omega), fun f hf => ih f ⟨fun j hj => ?_, fun j hj => ?_⟩⟩⟩⟩
    · rw [hf]
      by_cases e : j = k
      · rw [e, pk_us, hv]
      · rw [pk_un e]; exact h1 j (by omega)
    · rw [hf, pk_un (by omega)]; exact h2 j hj
theorem life_le (B : AB) (h : ∀ m, m < bM B → bL B m ≤ 60) : ∀ k, k ≤ bM B → sumN (bL B) k ≤ 60 * k
  | 0, _ => by simp [sumN]
  | k + 1, hk => by
    rw [sumN_succ]
    have := life_le B h k (by omega)
    have := h k (by omega)
    omega
theorem lifeAll_le {B : AB} (hI : Inv B) : lifeAll B ≤ 360 := by
  have h6 := hI.1
  have := life_le B hI.2.2.2.2.1 (bM B) (Nat.le_refl _)
  unfold lifeAll
  omega
def LfB (o : Option (Nat × Nat × List Nat)) (n : Nat) (p2 : Int32) (best : Nat → Int32) (c3 c4 m3 m4 who : Int32) : Prop := match o with
  | none => c3 = -4 ∧ c4 = 0 ∧ m3 = -1 ∧ m4 = -1 ∧ who = -4
  | some (v, f, bl) => v ≤ 6 ∧ f ≤ 360 ∧ c3 = nI v ∧ c4 = nI f ∧ m3 = nI v ∧ m4 = nI f ∧ bl.length = n ∧ (∀ j, j < n → best j = nI (bl.getD j 0)) ∧ who = onSeatI bl p2.toInt
def takeL (o : Option (Nat × Nat × List Nat)) (v f : Nat) (l : List Nat) : Option (Nat × Nat × List Nat) := match o with
  | none => some (v, f, l)
  | some (v0, f0, bl) => if v0 < v ∨ (v = v0 ∧ ¬ f ≤ f0) then some (v, f, l) else some (v0, f0, bl)
theorem lf_L {B : AB} (hI : Inv B) (hy : bY B ≤ 9999) {n : Nat} (hn30 : n ≤ 30) {p2 : Int32} (hp2 : (-2 : Int32) ≤ p2) : ∀ (N : Nat) (l : List Nat) (o : Option (Nat × Nat × List Nat)), 46656 - num l ≤ N → l.Perm (bS B) →
    ∃ r : Int32, ∀ (best : Nat → Int32) (c3 c4 m3 m4 who : Int32), LfB o (bS B).length p2 best c3 c4 m3 m4 who →
      (∀ (b a tr : BT) (fl : Nat → Int32) (Q : Int32 → BT × (Nat → Int32) × BT × (Nat → Int32) × BT → Prop), CR b (setS B l) → CR a B → (∀ b' fl' best' tr', CR b' B → Q r (b', fl', a, best', tr')) → wp_X0_left_33 (nI n) p2 Q (N + 1) b fl a best tr c3 c4 1) ∧
      (∀ (s s0 a less order : Nat → Int32) (Q : Int32 → (Nat → Int32) × (Nat → Int32) × (Nat → Int32) × (Nat → Int32) → Prop), MR s (setS B l) → MR s0 B → (∀ i, i < 40 → a i = s0 i) → (∀ i, 40 ≤ i → s i = s0 i) → (∀ s' less' order', MR s' B → (∀ i, 40 ≤ i → s' i = s0 i) → Q r (s', less', a, order')) → wp_X9_left_38 (nI n) p2 Q (N + 1) s less a order m3 m4 who 1) := by
  have z0 : (0 : Int32).toInt = 0 := by decide
  have zm1 : (-1 : Int32).toInt = -1 := by decide
  have zm2 : (-2 : Int32).toInt = -2 := by decide
  intro N
  induction N with
  | zero =>
    intro l o hN hp
    obtain ⟨h6, hn, hx⟩ := perm_small hI hp
    have := num_le h6 hx
    omega
  | succ N ih =>
    intro l o hN hp
    obtain ⟨h6, hnd, hx⟩ := perm_small hI hp
    have hI' := Inv_perm hI hp
    have hlen := hp.length_eq
    have hyl : bY (setS B l) + n ≤ 10100 := by show bY B + n ≤ 10100; omega
    have hIy := Inv_yrs hI' n hyl
    obtain ⟨D, hD⟩ : ∃ D, D = yrs n (setS B l) := ⟨_, rfl⟩
    rw [← hD] at hIy
    have hvl : (bS D).length ≤ 6 := Nat.le_trans hIy.len hIy.1
    have hfl := lifeAll_le hIy
    obtain ⟨v, hv⟩ : ∃ v, v = (bS D).length := ⟨_, rfl⟩
    obtain ⟨f, hf⟩ : ∃ f, f = lifeAll D := ⟨_, rfl⟩
    rw [← hv] at hvl
    rw [← hf] at hfl
    obtain ⟨o1, ho1⟩ : ∃ o1, o1 = takeL o v f l := ⟨_, rfl⟩
    have stC : ∀ (b a tr : BT) (fl : Nat → Int32) (Q : Int32 → BT × (Nat → Int32) × BT × (Nat → Int32) × BT → Prop) (best : Nat → Int32) (c3 c4 m3 m4 who : Int32), LfB o (bS B).length p2 best c3 c4 m3 m4 who → CR b (setS B l) →
        (∀ b2 fl2 best2 tr2 d3 d4, CR b2 (setS B l) → (∃ e3 e4 w1, LfB o1 (bS B).length p2 best2 d3 d4 e3 e4 w1) → wp_X0_isNextOrder b2 (fun r u => wp_X0_left_33 (nI n) p2 Q (N + 1) u fl2 a best2 tr2 d3 d4 r)) → wp_X0_left_33 (nI n) p2 Q (N + 1 + 1) b fl a best tr c3 c4 1 := by
      intro b a tr fl Q best c3 c4 m3 m4 who he hb hnx
      unfold wp_X0_left_33
      refine ⟨fun c => absurd c (by decide), fun _ => pc_takeFromI hb hI' (fun t1 ht1 => pc_goOn hb hI' hyl (fun b1 fl1 hb1 => ?_))⟩
      rw [← hD] at hb1
      refine pc_allLife hb1 hIy (pc_takeFromI ht1 hI' (fun b2 hb2 => ?_))
      rw [← hf]
      have hma : ma b1 = nI v := by rw [hv]; exact hb1.2.1
      rw [hma]
      have hse : ∀ k, k < l.length → se b2 k = nI (l.getD k 0) := hb2.2.2.2.2.1
      have take : o1 = some (v, f, l) → wp_X0_left_99 (nI n) p2 Q (fun a0_ a1_ a2_ a3_ a4_ a5_ a6_ a7_ => wp_X0_left_33 (nI n) p2 Q (N + 1) a0_ a1_ a2_ a3_ a4_ a5_ a6_ a7_) b2 fl1 a best t1 (nI v) (nI f) := by
        intro eo
        unfold wp_X0_left_99
        intro f1 e1
        refine hnx b2 fl1 f1 t1 (nI v) (nI f) hb2 ⟨nI v, nI f, onSeatI l p2.toInt, ?_⟩
        rw [eo]
        exact ⟨hvl, hfl, rfl, rfl, rfl, rfl, hlen, fun j hj => by rw [e1, cpy6 (by omega)]; exact hse j (by omega), rfl⟩
      cases o with
      | none =>
        obtain ⟨e1, e2, e3, e4, e5⟩ := he
        have hlt : c3 < nI v := by
          rw [e1, Int32.lt_iff_toInt_lt, nI_toInt (by omega)]
          have : (-4 : Int32).toInt = -4 := by decide
          omega
        exact ⟨fun _ => take ho1, fun c => absurd hlt c⟩
      | some q =>
        obtain ⟨v0, f0, bl⟩ := q
        obtain ⟨g1, g2, e1, e2, e3, e4, e5, e6, e7⟩ := he
        rw [e1, e2]
        have keep : ¬ (v0 < v ∨ (v = v0 ∧ ¬ f ≤ f0)) → wp_X0_isNextOrder b2 (fun r u => wp_X0_left_33 (nI n) p2 Q (N + 1) u fl1 a best t1 (nI v0) (nI f0) r) := by
          intro hk
          refine hnx b2 fl1 best t1 (nI v0) (nI f0) hb2 ⟨nI v0, nI f0, onSeatI bl p2.toInt, ?_⟩
          rw [ho1]
          unfold takeL
          dsimp only
          rw [if_neg hk]
          exact ⟨g1, g2, rfl, rfl, rfl, rfl, e5, e6, rfl⟩
        have tk : (v0 < v ∨ (v = v0 ∧ ¬ f ≤ f0)) → o1 = some (v, f, l) := by
          intro hk
          rw [ho1]
          unfold takeL
          dsimp only
          rw [if_pos hk]
        refine ⟨fun c => take (tk ?_), fun c => ⟨fun c2 => keep ?_, fun c2 => ⟨fun c3 => keep ?_, fun c3 => take (tk ?_)⟩⟩⟩
        · simp (disch := omega) only [il0, il1, il2, il3, il4, il5, il6, il7, il8, il9, il10, il15, il16, il22, il24, il30, il31, il40, il41, il60, il70, il146, il161, il9999, pk_mul, nI_add, pk_sub, nI_clamp, nI_leI, nI_ltI, nI_eq] at c
          exact Or.inl c
        · simp (disch := omega) only [il0, il1, il2, il3, il4, il5, il6, il7, il8, il9, il10, il15, il16, il22, il24, il30, il31, il40, il41, il60, il70, il146, il161, il9999, pk_mul, nI_add, pk_sub, nI_clamp, nI_leI, nI_ltI, nI_eq] at c c2
          omega
        · simp (disch := omega) only [il0, il1, il2, il3, il4, il5, il6, il7, il8, il9, il10, il15, il16, il22, il24, il30, il31, il40, il41, il60, il70, il146, il161, il9999, pk_mul, nI_add, pk_sub, nI_clamp, nI_leI, nI_ltI, nI_eq] at c c2 c3
          omega
        · simp (disch := omega) only [il0, il1, il2, il3, il4, il5, il6, il7, il8, il9, il10, il15, il16, il22, il24, il30, il31, il40, il41, il60, il70, il146, il161, il9999, pk_mul, nI_add, pk_sub, nI_clamp, nI_leI, nI_ltI, nI_eq] at c c2 c3
          exact Or.inr ⟨c2, c3⟩
    have stM : ∀ (s s0 a less order : Nat → Int32) (Q : Int32 → (Nat → Int32) × (Nat → Int32) × (Nat → Int32) × (Nat → Int32) → Prop) (best : Nat → Int32) (c3 c4 m3 m4 who : Int32), LfB o (bS B).length p2 best c3 c4 m3 m4 who → MR s (setS B l) → (∀ i, 40 ≤ i → s i = s0 i) →
        (∀ s2 less2 order2 e3 e4 w1, MR s2 (setS B l) → (∀ i, 40 ≤ i → s2 i = s0 i) → (∃ best2 d3 d4, LfB o1 (bS B).length p2 best2 d3 d4 e3 e4 w1) → wp_X9_nextOrder s2 (fun r u => wp_X9_left_38 (nI n) p2 Q (N + 1) u less2 a order2 e3 e4 w1 r)) → wp_X9_left_38 (nI n) p2 Q (N + 1 + 1) s less a order m3 m4 who 1 := by
      intro s s0 a less order Q best c3 c4 m3 m4 who he hs hk0 hnx
      unfold wp_X9_left_38
      refine ⟨fun c => absurd c (by decide), fun _ => pm_left46 (fun order' hor => pm_onSeat hs hI' ?_)⟩
      have hor' : ∀ s2 : Nat → Int32, (∀ j, j < 40 → s2 j = order' j) → MR s2 (setS B l) := fun s2 h2 => MRlet hs hI' hor h2
      refine loop_0 (σ := (Nat → Int32) × (Nat → Int32)) (fun j i t => wp_X9_left_83 (nI n) p2 Q (fun a0_ a1_ a2_ a3_ a4_ a5_ a6_ a7_ => wp_X9_left_38 (nI n) p2 Q (N + 1) a0_ a1_ a2_ a3_ a4_ a5_ a6_ a7_) j t.1 t.2 a order' m3 m4 who (onSeatI (bS (setS B l)) p2.toInt) (nI i)) (fun k t => MR t.1 (yrs k (setS B l)) ∧ ∀ i, 40 ≤ i → t.1 i = s0 i) n (s, less) ⟨hs, hk0⟩ ?_ ?_
      · rintro j ⟨t, ls⟩ ⟨ht, hk1⟩
        dsimp only at ht hk1 ⊢
        rw [← hD] at ht
        unfold wp_X9_left_83
        have hma : t 1 = nI v := by rw [hv]; exact ht.2.1
        rw [hma]
        have fin : ∀ (e3 e4 w1 : Int32), (∃ best2 d3 d4, LfB o1 (bS B).length p2 best2 d3 d4 e3 e4 w1) → ∃ j_ : Nat, wp_X9_left_148 (nI n) p2 Q (fun a0_ a1_ a2_ a3_ a4_ a5_ a6_ a7_ => wp_X9_left_38 (nI n) p2 Q (N + 1) a0_ a1_ a2_ a3_ a4_ a5_ a6_ a7_) j_ t ls a order' e3 e4 w1 0 := by
          intro e3 e4 w1 hE
          exact pm_left148 (fun s2 k1 k2 => hnx s2 ls order' e3 e4 w1 (hor' s2 k1) (fun i hi => (k2 i hi).trans (hk1 i hi)) hE)
        have take : o1 = some (v, f, l) → ∃ j_ : Nat, wp_X9_left_148 (nI n) p2 Q (fun a0_ a1_ a2_ a3_ a4_ a5_ a6_ a7_ => wp_X9_left_38 (nI n) p2 Q (N + 1) a0_ a1_ a2_ a3_ a4_ a5_ a6_ a7_) j_ t ls a order' (nI v) (nI f) (onSeatI (bS (setS B l)) p2.toInt) 0 := by
          intro eo
          refine fin _ _ _ ⟨fun j => nI (l.getD j 0), nI v, nI f, ?_⟩
          rw [eo]
          exact ⟨hvl, hfl, rfl, rfl, rfl, rfl, hlen, fun _ _ => rfl, rfl⟩
        refine ⟨fun _ => ?_, fun c => by simp (disch := omega) only [il0, il1, il2, il3, il4, il5, il6, il7, il8, il9, il10, il15, il16, il22, il24, il30, il31, il40, il41, il60, il70, il146, il161, il9999, pk_mul, nI_add, pk_sub, nI_clamp, nI_leI, nI_ltI, nI_eq] at c; omega⟩
        cases o with
        | none =>
          obtain ⟨e1, e2, e3, e4, e5⟩ := he
          have hlt : m3 < nI v := by
            rw [e3, Int32.lt_iff_toInt_lt, nI_toInt (by omega)]
            omega
          refine ⟨fun _ w hw => ?_, fun c => absurd hlt c⟩
          rw [hw]
          refine pm_lives ht hIy ?_
          rw [← hf]
          exact take ho1
        | some q =>
          obtain ⟨v0, f0, bl⟩ := q
          obtain ⟨g1, g2, e1, e2, e3, e4, e5, e6, e7⟩ := he
          rw [e3, e4]
          have keep : ¬ (v0 < v ∨ (v = v0 ∧ ¬ f ≤ f0)) → ∃ j_ : Nat, wp_X9_left_148 (nI n) p2 Q (fun a0_ a1_ a2_ a3_ a4_ a5_ a6_ a7_ => wp_X9_left_38 (nI n) p2 Q (N + 1) a0_ a1_ a2_ a3_ a4_ a5_ a6_ a7_) j_ t ls a order' (nI v0) (nI f0) who 0 := by
            intro hk
            refine fin _ _ _ ⟨best, nI v0, nI f0, ?_⟩
            rw [ho1]
            unfold takeL
            dsimp only
            rw [if_neg hk]
            exact ⟨g1, g2, rfl, rfl, rfl, rfl, e5, e6, e7⟩
          have tk : (v0 < v ∨ (v = v0 ∧ ¬ f ≤ f0)) → o1 = some (v, f, l) := by
            intro hk
            rw [ho1]
            unfold takeL
            dsimp only
            rw [if_pos hk]
          refine ⟨fun c w hw => ?_, fun c => ⟨fun c2 => keep ?_, fun c2 => pm_lives ht hIy ?_⟩⟩
          · simp (disch := omega) only [il0, il1, il2, il3, il4, il5, il6, il7, il8, il9, il10, il15, il16, il22, il24, il30, il31, il40, il41, il60, il70, il146, il161, il9999, pk_mul, nI_add, pk_sub, nI_clamp, nI_leI, nI_ltI, nI_eq] at c
            rw [hw]
            refine pm_lives ht hIy ?_
            rw [← hf]
            exact take (tk (Or.inl c))
          · simp (disch := omega) only [il0, il1, il2, il3, il4, il5, il6, il7, il8, il9, il10, il15, il16, il22, il24, il30, il31, il40, il41, il60, il70, il146, il161, il9999, pk_mul, nI_add, pk_sub, nI_clamp, nI_leI, nI_ltI, nI_eq] at c c2
            omega
          · rw [← hf]
            refine ⟨fun c3 => keep ?_, fun c3 w hw => ?_⟩
            · simp (disch := omega) only [il0, il1, il2, il3, il4, il5, il6, il7, il8, il9, il10, il15, il16, il22, il24, il30, il31, il40, il41, il60, il70, il146, il161, il9999, pk_mul, nI_add, pk_sub, nI_clamp, nI_leI, nI_ltI, nI_eq] at c c2 c3
              omega
            · simp (disch := omega) only [il0, il1, il2, il3, il4, il5, il6, il7, il8, il9, il10, il15, il16, il22, il24, il30, il31, il40, il41, il60, il70, il146, il161, il9999, pk_mul, nI_add, pk_sub, nI_clamp, nI_leI, nI_ltI, nI_eq] at c c2 c3
              rw [hw]
              refine pm_lives ht hIy ?_
              rw [← hf]
              exact take (tk (Or.inr ⟨c2, c3⟩))
      · rintro j k ⟨t, ls⟩ hk ⟨ht, hk1⟩ ih2
        dsimp only at ht hk1 ih2 ⊢
        unfold wp_X9_left_83
        rw [nI_1]
        have hyk : bY (setS B l) + k ≤ 10100 := by omega
        refine ⟨fun c => by simp (disch := omega) only [il0, il1, il2, il3, il4, il5, il6, il7, il8, il9, il10, il15, il16, il22, il24, il30, il31, il40, il41, il60, il70, il146, il161, il9999, pk_mul, nI_add, pk_sub, nI_clamp, nI_leI, nI_ltI, nI_eq] at c; omega, fun _ => pm_passes ht (Inv_yrs hI' k hyk) (fun s2 f2 g1 g2 => ih2 (s2, f2) ⟨?_, fun i hi => (g2 i hi).trans (hk1 i hi)⟩)⟩
        rw [yrs_succ]; exact g1
    obtain ⟨v1, f1, l1, hs1⟩ : ∃ v1 f1 l1, o1 = some (v1, f1, l1) := by
      rw [ho1]
      unfold takeL
      cases o with
      | none => exact ⟨_, _, _, rfl⟩
      | some q =>
        obtain ⟨v0, f0, bl⟩ := q
        dsimp only
        by_cases hk : v0 < v ∨ (v = v0 ∧ ¬ f ≤ f0)
        · exact ⟨v, f, l, by rw [if_pos hk]⟩
        · exact ⟨v0, f0, bl, by rw [if_neg hk]⟩
    obtain ⟨nx, hnx⟩ := next_L (B := B) hI.1 h6 hnd hx
    cases nx with
    | some l' =>
      obtain ⟨p1', p2', p3, p4⟩ := hnx
      have hp' := p1'.trans hp
      obtain ⟨h6', hn', hx'⟩ := perm_small hI hp'
      have hb' := num_le h6' hx'
      obtain ⟨r, hr⟩ := ih l' o1 (by omega) hp'
      refine ⟨r, fun best c3 c4 m3 m4 who he => ⟨fun b a tr fl Q hb ha hQ => ?_, fun s s0 a less order Q hs h0 ha hk hQ => ?_⟩⟩
      · refine stC b a tr fl Q best c3 c4 m3 m4 who he hb (fun b2 fl2 best2 tr2 d3 d4 hb2 hE => ?_)
        obtain ⟨e3, e4, w1, hE⟩ := hE
        exact p3 b2 _ hb2 (fun b3 hb3 => (hr best2 d3 d4 e3 e4 w1 hE).1 b3 a tr2 fl2 Q hb3 ha hQ)
      · refine stM s s0 a less order Q best c3 c4 m3 m4 who he hs hk (fun s2 less2 order2 e3 e4 w1 hs2 hk2 hE => ?_)
        obtain ⟨best2, d3, d4, hE⟩ := hE
        exact p4 s2 _ hs2 (fun s3 hs3 hk3 => (hr best2 d3 d4 e3 e4 w1 hE).2 s3 s0 a less2 order2 Q hs3 h0 ha (fun i hi => (hk3 i hi).trans (hk2 i hi)) hQ)
    | none =>
      obtain ⟨q1, q2⟩ := hnx
      refine ⟨if p2 = -1 then nI v1 else if p2 = -2 then nI f1 else onSeatI l1 p2.toInt, fun best c3 c4 m3 m4 who he => ⟨fun b a tr fl Q hb ha hQ => ?_, fun s s0 a less order Q hs h0 ha hk hQ => ?_⟩⟩
      · refine stC b a tr fl Q best c3 c4 m3 m4 who he hb (fun b2 fl2 best2 tr2 d3 d4 hb2 hE => q1 b2 _ hb2 ?_)
        obtain ⟨e3', e4', w1, hE⟩ := hE
        rw [hs1] at hE
        obtain ⟨-, -, e1, e2, e3, e4, e5, e6, e7⟩ := hE
        unfold wp_X0_left_33
        refine ⟨fun _ => pc_takeFromI ha hI (fun b' hb' => ⟨fun c => ⟨fun c2 => told_eq hb' hI e5 e6 ?_ ?_, fun c2 => ?_⟩, fun c => ?_⟩), fun c => absurd rfl c⟩
        · rw [Int32.le_iff_toInt_le, z0]
          have h1 := Int32.le_iff_toInt_le.mp hp2
          rw [zm2] at h1
          have h2 : p2.toInt ≠ -1 := fun h => c (Int32.toInt_inj.mp (h.trans zm1.symm))
          have h3 : p2.toInt ≠ -2 := fun h => c2 (Int32.toInt_inj.mp (h.trans zm2.symm))
          omega
        · rw [if_neg c, if_neg c2] at hQ
          exact hQ b' fl2 best2 tr2 hb'
        · rw [if_neg c, if_pos c2] at hQ
          rw [e2]
          exact hQ b' fl2 best2 tr2 hb'
        · rw [if_pos c] at hQ
          rw [e1]
          exact hQ b' fl2 best2 tr2 hb'
      · refine stM s s0 a less order Q best c3 c4 m3 m4 who he hs hk (fun s2 less2 order2 e3' e4' w1 hs2 hk2 hE => q2 s2 _ hs2 ?_)
        obtain ⟨best2, d3, d4, hE⟩ := hE
        rw [hs1] at hE
        obtain ⟨-, -, e1, e2, e3, e4, e5, e6, e7⟩ := hE
        unfold wp_X9_left_38
        refine ⟨fun _ => pm_lets (fun s' g1 g2 => ?_), fun c => absurd rfl c⟩
        have hfin := hQ s' less2 order2 (MRlet h0 hI ha g1) (fun i hi => (g2 i hi).trans (hk2 i hi))
        refine ⟨fun c => ⟨fun c2 => ?_, fun c2 => ?_⟩, fun c => ?_⟩
        · rw [if_neg c, if_neg c2] at hfin
          rw [e7]; exact hfin
        · rw [if_neg c, if_pos c2] at hfin
          rw [e4]; exact hfin
        · rw [if_pos c] at hfin
          rw [e3]; exact hfin
theorem inR30 {x : Int32} (h : inR x 0 30 = true) : ∃ j, j ≤ 30 ∧ x = nI j := by
  obtain ⟨j, hj, e⟩ := inRn (n := 30) (by omega) h
  exact ⟨j, hj, e⟩
theorem an_left {b : BT} {s : Nat → Int32} {B : AB} (hc : CR b B) (hm : MR s B) (hI : Inv B) (hy : bY B ≤ 9999) (p1 p2 : Int32) : ∃ r : Int32, (∀ (fl best : Nat → Int32) (a tr : BT) (Q : Int32 → BT × (Nat → Int32) × BT × (Nat → Int32) × BT → Prop), (∀ b' fl' a' best' tr', CR b' B → Q r (b', fl', a', best', tr')) → wp_X0_left b fl a best tr p1 p2 Q) ∧
    (∀ (less a order : Nat → Int32) (Q : Int32 → (Nat → Int32) × (Nat → Int32) × (Nat → Int32) × (Nat → Int32) → Prop), (∀ s' less' a' order', MR s' B → (∀ i, 40 ≤ i → s' i = s i) → Q r (s', less', a', order')) → wp_X9_left s less a order p1 p2 Q) := by
  by_cases c : inR p1 0 30 = true
  · by_cases hp2 : (-2 : Int32) ≤ p2
    · obtain ⟨n, hn, rfl⟩ := inR30 c
      obtain ⟨r, hr⟩ := lf_L hI hy hn hp2 (46656 - num (srt B)) (srt B) none (Nat.le_refl _) (srt_perm hI)
      refine ⟨r, fun fl best a tr Q hQ => ?_, fun less a order Q hQ => ?_⟩
      · unfold wp_X0_left
        refine pc_isIn (a := 0) (c := 30) rfl rfl ?_
        rw [c]
        exact ⟨fun c => absurd c (by decide), fun _ => ⟨fun _ => pc_beginOrders hc hI (fun b' a' hb' ha' => ⟨_, (hr best (-4) 0 (-1) (-1) (-4) ⟨rfl, rfl, rfl, rfl, rfl⟩).1 b' a' tr fl Q hb' ha' (fun b2 fl2 best2 tr2 hb2 => hQ b2 fl2 a' best2 tr2 hb2)⟩), fun c => absurd hp2 c⟩⟩
      · unfold wp_X9_left
        refine pm_in ?_
        have c : inR (nI n) (0 : Int32).toInt (30 : Int32).toInt = true := c
        rw [c]
        exact ⟨fun c => absurd c (by decide), fun _ => ⟨fun _ => pm_holds (fun a' ha' => pm_firstOrder hm hI (fun s' hs' hk => ⟨_, (hr (fun _ => 0) (-4) 0 (-1) (-1) (-4) ⟨rfl, rfl, rfl, rfl, rfl⟩).2 s' s a' less order Q hs' hm ha' hk (fun s2 l2 o2 h2 k2 => hQ s2 l2 a' o2 h2 k2)⟩)), fun c => absurd hp2 c⟩⟩
    · refine ⟨-1, fun fl best a tr Q hQ => ?_, fun less a order Q hQ => ?_⟩
      · unfold wp_X0_left
        refine pc_isIn (a := 0) (c := 30) rfl rfl ?_
        rw [c]
        exact ⟨fun c => absurd c (by decide), fun _ => ⟨fun c => absurd c hp2, fun _ => hQ b fl a best tr hc⟩⟩
      · unfold wp_X9_left
        refine pm_in ?_
        have c : inR p1 (0 : Int32).toInt (30 : Int32).toInt = true := c
        rw [c]
        exact ⟨fun c => absurd c (by decide), fun _ => ⟨fun c => absurd c hp2, fun _ => hQ s less a order hm (fun _ _ => rfl)⟩⟩
  · have c : inR p1 0 30 = false := by simpa using c
    refine ⟨-1, fun fl best a tr Q hQ => ?_, fun less a order Q hQ => ?_⟩
    · unfold wp_X0_left
      refine pc_isIn (a := 0) (c := 30) rfl rfl ?_
      rw [c]
      exact ⟨fun _ => hQ b fl a best tr hc, fun c => absurd rfl c⟩
    · unfold wp_X9_left
      refine pm_in ?_
      have c : inR p1 (0 : Int32).toInt (30 : Int32).toInt = false := c
      rw [c]
      exact ⟨fun _ => hQ s less a order hm (fun _ _ => rfl), fun c => absurd rfl c⟩
