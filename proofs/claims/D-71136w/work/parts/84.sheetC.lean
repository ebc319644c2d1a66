/-! pure: the component's sheets: drop, item -/
set_option maxRecDepth 100000
theorem bar_ne {l l2 n0 : Nat} {f : Nat → Int64} (h : l ≠ l2) (h1 : l ≤ 3) (h2 : l2 ≤ 3) {i n : Int32} : barI (some (l, n0, f)) (nI l2) i n = -12 := by
  show (if nI l = nI l2 then _ else (-12 : Int32)) = -12
  rw [if_neg]
  rw [nI_eq (by omega) (by omega)]
  exact h
theorem bar_in {l n0 : Nat} {f : Nat → Int64} (h0 : n0 ≤ 24) {i : Int32} (h : vp_in i n0) : barI (some (l, n0, f)) (nI l) i 1 = 0 := by
  have h' : ¬ (i < 0 ∨ n0 ≤ i.toNatClampNeg) := h
  obtain ⟨j, hj, rfl⟩ := nI_of (fun c => h' (Or.inl c))
  rw [nI_clamp hj] at h'
  exact barI_ok (n' := 1) (by omega) h0
theorem bar_out {l n0 : Nat} {f : Nat → Int64} (h0 : n0 ≤ 24) (hl : l ≤ 3) {i : Int32} (h : ¬ vp_in i n0) : barI (some (l, n0, f)) (nI l) i 1 = -13 := by
  show (if nI l = nI l then (if 0 ≤ i ∧ 0 ≤ (1 : Int32) ∧ (1 : Int32) ≤ nI n0 ∧ i ≤ nI n0 - 1 then (0 : Int32) else -13) else -12) = -13
  rw [if_pos rfl, if_neg]
  rintro ⟨a1, a2, a3, a4⟩
  refine h (fun c => ?_)
  obtain ⟨j, hj, rfl⟩ := nI_of (Int32.not_lt.mpr a1)
  rw [il1, nI_leI (by omega) (by omega)] at a3
  rw [il1, pk_sub a3, nI_leI hj (by omega)] at a4
  rw [nI_clamp hj] at c
  rcases c with c | c
  · exact nI_pos hj c
  · omega
theorem nar_b (b : Int8) : vp_nar .byte (Int8.toInt32 b) = Int8.toInt32 b := by
  simp [vp_nar, narrow]
theorem nar_s (b : Int16) : vp_nar .short (Int16.toInt32 b) = Int16.toInt32 b := by
  simp [vp_nar, narrow]
theorem pc_drop_N {k : Nat} (hk : k < 4) {Q : Int32 → Prop} (hQ : Q (-11)) : wp_X0_drop_N (nI k) Q := by
  unfold wp_X0_drop_N
  refine pc_isSheet ?_
  rw [show inR (nI k) 0 3 = true from inR_t.mpr (by rw [nI_toInt (by omega)]; omega), show inR 0 0 3 = true by decide]
  exact ⟨fun _ => ⟨vp_in_nI hk (by omega), hQ⟩, fun c => absurd c (by decide)⟩
theorem pc_dropBad_N {p : Int32} (hp : inR p 0 3 = false) {Q : Int32 → Prop} (hQ : Q (-1)) : wp_X0_drop_N p Q := by
  unfold wp_X0_drop_N
  refine pc_isSheet ?_
  rw [hp]
  exact ⟨fun c => absurd rfl c, fun _ => hQ⟩
theorem pc_itemBad_N {p q i : Int32} {v : Int64} (hp : (inR p 0 3 && inR q 0 3) = false) {Q : Int32 → Prop} (hQ : Q (-1)) : wp_X0_item_N p q i v Q := by
  unfold wp_X0_item_N
  refine pc_isSheet ?_
  rw [hp]
  exact ⟨fun c => absurd rfl c, fun _ => hQ⟩
theorem pc_item_N {k l : Nat} (hk : k < 4) (hl : l ≤ 3) {i : Int32} {v : Int64} {Q : Int32 → Prop} (hQ : Q (-11)) : wp_X0_item_N (nI k) (nI l) i v Q := by
  unfold wp_X0_item_N
  refine pc_isSheet ?_
  rw [show inR (nI k) 0 3 = true from inR_t.mpr (by rw [nI_toInt (by omega)]; omega), show inR (nI l) 0 3 = true from inR_t.mpr (by rw [nI_toInt (by omega)]; omega)]
  refine ⟨fun _ => ⟨vp_in_nI hk (by omega), ?_⟩, fun c => absurd c (by decide)⟩
  have q0 : (0 = 0 ∨ 0 = 1 ∨ 0 = 2) ∧ (0 = 0 → Q (-11)) ∧ (0 = 1 → Q (-12)) ∧ (0 = 2 → Q (-13)) := ⟨Or.inl rfl, fun _ => hQ, fun c => absurd c (by decide), fun c => absurd c (by decide)⟩
  unfold wp_X8_lay_N_x
  exact ⟨fun _ => q0, fun _ => q0, fun _ => q0, fun _ => q0⟩
theorem pc_drop_B {rn k : Nat} {rw : Nat → Int32} (hk : k < 4) {Q : Int32 → Bool → Prop} (hQ : Q (nI rn) true) : wp_X0_drop_B rn rw (nI k) Q := by
  unfold wp_X0_drop_B
  refine pc_isSheet ?_
  rw [show inR (nI k) 0 3 = true from inR_t.mpr (by rw [nI_toInt (by omega)]; omega), show inR 0 0 3 = true by decide]
  exact ⟨fun _ => ⟨vp_in_nI hk (by omega), vp_in_nI hk (by omega), vp_in_nI hk (by omega), hQ⟩, fun c => absurd c (by decide)⟩
theorem pc_dropBad_B {rn : Nat} {rw : Nat → Int32} {p : Int32} (hp : inR p 0 3 = false) {Q : Int32 → Bool → Prop} (hQ : Q (-1) false) : wp_X0_drop_B rn rw p Q := by
  unfold wp_X0_drop_B
  refine pc_isSheet ?_
  rw [hp]
  exact ⟨fun c => absurd rfl c, fun _ => hQ⟩
theorem pc_itemBad_B {rn : Nat} {rw : Nat → Int32} {p q i : Int32} {v : Int64} (hp : (inR p 0 3 && inR q 0 3) = false) {Q : Int32 → (Nat → Int32) → Prop} (hQ : Q (-1) rw) : wp_X0_item_B rn rw p q i v Q := by
  unfold wp_X0_item_B
  refine pc_isSheet ?_
  rw [hp]
  exact ⟨fun c => absurd rfl c, fun _ => hQ⟩
theorem pc_item_B {n k l : Nat} {rw : Nat → Int32} {f : Nat → Int64} (hr : ∀ i, i < n → Int32.toInt64 (rw i) = f i) (hn : n ≤ 24) (hk : k < 4) (hl : l ≤ 3) {i : Int32} {v : Int64} {Q : Int32 → (Nat → Int32) → Prop}
    (hbad : ¬ barI (some (0, n, f)) (nI l) i 1 = 0 → Q (barI (some (0, n, f)) (nI l) i 1) rw) (hok : barI (some (0, n, f)) (nI l) i 1 = 0 → ∀ (j : Nat) (g : Nat → Int32), i = nI j → j < n → (∀ i, i < n → Int32.toInt64 (g i) = vp_updL f j (cutL 0 v) i) → Q 1 g) : wp_X0_item_B n rw (nI k) (nI l) i v Q := by
  unfold wp_X0_item_B
  refine pc_isSheet ?_
  rw [show inR (nI k) 0 3 = true from inR_t.mpr (by rw [nI_toInt (by omega)]; omega), show inR (nI l) 0 3 = true from inR_t.mpr (by rw [nI_toInt (by omega)]; omega)]
  refine ⟨fun _ => ⟨vp_in_nI hk (by omega), ?_⟩, fun c => absurd c (by decide)⟩
  have q1 : l ≠ 0 → (1 = 0 ∨ 1 = 1 ∨ 1 = 2) ∧ (1 = 0 → Q (-11) rw) ∧ (1 = 1 → Q (-12) rw) ∧ (1 = 2 → Q (-13) rw) := by
    intro hne
    have hb := bar_ne (n0 := n) (f := f) (i := i) (n := 1) (l := 0) (l2 := l) (fun e => hne e.symm) (by omega) hl
    rw [hb] at hbad
    exact ⟨Or.inr (Or.inl rfl), fun c => absurd c (by decide), fun _ => hbad (by decide), fun c => absurd c (by decide)⟩
  have here : l = 0 → ((vp_in i n → ∀ g : Nat → Int32, g = upd rw i.toNatClampNeg (vp_nar .byte (Int8.toInt32 (Int32.toInt8 (Int64.toInt32 v)))) → Q 1 g) ∧ (¬ vp_in i n → (n < 2147483648 ∧ ((2 = 0 ∨ 2 = 1 ∨ 2 = 2) ∧ (2 = 0 → Q (-11) rw) ∧ (2 = 1 → Q (-12) rw) ∧ (2 = 2 → Q (-13) rw))))) := by
    intro e
    subst e
    refine ⟨fun hin g hg => ?_, fun hout => ⟨by omega, Or.inr (Or.inr rfl), fun c => absurd c (by decide), fun c => absurd c (by decide), fun _ => ?_⟩⟩
    · have h' : ¬ (i < 0 ∨ n ≤ i.toNatClampNeg) := hin
      obtain ⟨j, hj, rfl⟩ := nI_of (fun c => h' (Or.inl c))
      rw [nI_clamp hj] at h' hg
      refine hok (bar_in hn hin) j g rfl (by omega) (fun q hq => ?_)
      rw [hg]
      by_cases e : q = j
      · subst e
        rw [pk_us, pk_uLs, nar_b]; rfl
      · exact (congrArg Int32.toInt64 (pk_un e)).trans ((hr q hq).trans (if_neg e).symm)
    · have hb := bar_out (f := f) hn (by omega : 0 ≤ 3) hout
      rw [hb] at hbad
      exact hbad (by decide)
  unfold wp_X8_lay_B_x
  exact ⟨(fun c v2 e2 => by rw [e2]; exact here (by have := (nI_eq (a := l) (b := 0) (by omega) (by omega)).mp c; omega)), (fun c => q1 (by have := (nI_eq (a := l) (b := 1) (by omega) (by omega)).mp c; omega)), (fun c => q1 (by have := (nI_eq (a := l) (b := 2) (by omega) (by omega)).mp c; omega)), (fun c => q1 (fun e => c.1 (by rw [e]; rfl)))⟩
theorem pc_drop_S {rn k : Nat} {rw : Nat → Int32} (hk : k < 4) {Q : Int32 → Bool → Prop} (hQ : Q (nI rn) true) : wp_X0_drop_S rn rw (nI k) Q := by
  unfold wp_X0_drop_S
  refine pc_isSheet ?_
  rw [show inR (nI k) 0 3 = true from inR_t.mpr (by rw [nI_toInt (by omega)]; omega), show inR 0 0 3 = true by decide]
  exact ⟨fun _ => ⟨vp_in_nI hk (by omega), vp_in_nI hk (by omega), vp_in_nI hk (by omega), hQ⟩, fun c => absurd c (by decide)⟩
theorem pc_dropBad_S {rn : Nat} {rw : Nat → Int32} {p : Int32} (hp : inR p 0 3 = false) {Q : Int32 → Bool → Prop} (hQ : Q (-1) false) : wp_X0_drop_S rn rw p Q := by
  unfold wp_X0_drop_S
  refine pc_isSheet ?_
  rw [hp]
  exact ⟨fun c => absurd rfl c, fun _ => hQ⟩
theorem pc_itemBad_S {rn : Nat} {rw : Nat → Int32} {p q i : Int32} {v : Int64} (hp : (inR p 0 3 && inR q 0 3) = false) {Q : Int32 → (Nat → Int32) → Prop} (hQ : Q (-1) rw) : wp_X0_item_S rn rw p q i v Q := by
  unfold wp_X0_item_S
  refine pc_isSheet ?_
  rw [hp]
  exact ⟨fun c => absurd rfl c, fun _ => hQ⟩
theorem pc_item_S {n k l : Nat} {rw : Nat → Int32} {f : Nat → Int64} (hr : ∀ i, i < n → Int32.toInt64 (rw i) = f i) (hn : n ≤ 24) (hk : k < 4) (hl : l ≤ 3) {i : Int32} {v : Int64} {Q : Int32 → (Nat → Int32) → Prop}
    (hbad : ¬ barI (some (1, n, f)) (nI l) i 1 = 0 → Q (barI (some (1, n, f)) (nI l) i 1) rw) (hok : barI (some (1, n, f)) (nI l) i 1 = 0 → ∀ (j : Nat) (g : Nat → Int32), i = nI j → j < n → (∀ i, i < n → Int32.toInt64 (g i) = vp_updL f j (cutL 1 v) i) → Q 1 g) : wp_X0_item_S n rw (nI k) (nI l) i v Q := by
  unfold wp_X0_item_S
  refine pc_isSheet ?_
  rw [show inR (nI k) 0 3 = true from inR_t.mpr (by rw [nI_toInt (by omega)]; omega), show inR (nI l) 0 3 = true from inR_t.mpr (by rw [nI_toInt (by omega)]; omega)]
  refine ⟨fun _ => ⟨vp_in_nI hk (by omega), ?_⟩, fun c => absurd c (by decide)⟩
  have q1 : l ≠ 1 → (1 = 0 ∨ 1 = 1 ∨ 1 = 2) ∧ (1 = 0 → Q (-11) rw) ∧ (1 = 1 → Q (-12) rw) ∧ (1 = 2 → Q (-13) rw) := by
    intro hne
    have hb := bar_ne (n0 := n) (f := f) (i := i) (n := 1) (l := 1) (l2 := l) (fun e => hne e.symm) (by omega) hl
    rw [hb] at hbad
    exact ⟨Or.inr (Or.inl rfl), fun c => absurd c (by decide), fun _ => hbad (by decide), fun c => absurd c (by decide)⟩
  have here : l = 1 → ((vp_in i n → ∀ g : Nat → Int32, g = upd rw i.toNatClampNeg (vp_nar .short (Int16.toInt32 (Int32.toInt16 (Int64.toInt32 v)))) → Q 1 g) ∧ (¬ vp_in i n → (n < 2147483648 ∧ ((2 = 0 ∨ 2 = 1 ∨ 2 = 2) ∧ (2 = 0 → Q (-11) rw) ∧ (2 = 1 → Q (-12) rw) ∧ (2 = 2 → Q (-13) rw))))) := by
    intro e
    subst e
    refine ⟨fun hin g hg => ?_, fun hout => ⟨by omega, Or.inr (Or.inr rfl), fun c => absurd c (by decide), fun c => absurd c (by decide), fun _ => ?_⟩⟩
    · have h' : ¬ (i < 0 ∨ n ≤ i.toNatClampNeg) := hin
      obtain ⟨j, hj, rfl⟩ := nI_of (fun c => h' (Or.inl c))
      rw [nI_clamp hj] at h' hg
      refine hok (bar_in hn hin) j g rfl (by omega) (fun q hq => ?_)
      rw [hg]
      by_cases e : q = j
      · subst e
        rw [pk_us, pk_uLs, nar_s]; rfl
      · exact (congrArg Int32.toInt64 (pk_un e)).trans ((hr q hq).trans (if_neg e).symm)
    · have hb := bar_out (f := f) hn (by omega : 1 ≤ 3) hout
      rw [hb] at hbad
      exact hbad (by decide)
  unfold wp_X8_lay_S_x
  exact ⟨(fun c => q1 (by have := (nI_eq (a := l) (b := 0) (by omega) (by omega)).mp c; omega)), (fun c v2 e2 => by rw [e2]; exact here (by have := (nI_eq (a := l) (b := 1) (by omega) (by omega)).mp c; omega)), (fun c => q1 (by have := (nI_eq (a := l) (b := 2) (by omega) (by omega)).mp c; omega)), (fun c => q1 (fun e => c.2.1 (by rw [e]; rfl)))⟩
theorem pc_drop_I {rn k : Nat} {rw : Nat → Int32} (hk : k < 4) {Q : Int32 → Bool → Prop} (hQ : Q (nI rn) true) : wp_X0_drop_I rn rw (nI k) Q := by
  unfold wp_X0_drop_I
  refine pc_isSheet ?_
  rw [show inR (nI k) 0 3 = true from inR_t.mpr (by rw [nI_toInt (by omega)]; omega), show inR 0 0 3 = true by decide]
  exact ⟨fun _ => ⟨vp_in_nI hk (by omega), vp_in_nI hk (by omega), vp_in_nI hk (by omega), hQ⟩, fun c => absurd c (by decide)⟩
theorem pc_dropBad_I {rn : Nat} {rw : Nat → Int32} {p : Int32} (hp : inR p 0 3 = false) {Q : Int32 → Bool → Prop} (hQ : Q (-1) false) : wp_X0_drop_I rn rw p Q := by
  unfold wp_X0_drop_I
  refine pc_isSheet ?_
  rw [hp]
  exact ⟨fun c => absurd rfl c, fun _ => hQ⟩
theorem pc_itemBad_I {rn : Nat} {rw : Nat → Int32} {p q i : Int32} {v : Int64} (hp : (inR p 0 3 && inR q 0 3) = false) {Q : Int32 → (Nat → Int32) → Prop} (hQ : Q (-1) rw) : wp_X0_item_I rn rw p q i v Q := by
  unfold wp_X0_item_I
  refine pc_isSheet ?_
  rw [hp]
  exact ⟨fun c => absurd rfl c, fun _ => hQ⟩
theorem pc_item_I {n k l : Nat} {rw : Nat → Int32} {f : Nat → Int64} (hr : ∀ i, i < n → Int32.toInt64 (rw i) = f i) (hn : n ≤ 24) (hk : k < 4) (hl : l ≤ 3) {i : Int32} {v : Int64} {Q : Int32 → (Nat → Int32) → Prop}
    (hbad : ¬ barI (some (2, n, f)) (nI l) i 1 = 0 → Q (barI (some (2, n, f)) (nI l) i 1) rw) (hok : barI (some (2, n, f)) (nI l) i 1 = 0 → ∀ (j : Nat) (g : Nat → Int32), i = nI j → j < n → (∀ i, i < n → Int32.toInt64 (g i) = vp_updL f j (cutL 2 v) i) → Q 1 g) : wp_X0_item_I n rw (nI k) (nI l) i v Q := by
  unfold wp_X0_item_I
  refine pc_isSheet ?_
  rw [show inR (nI k) 0 3 = true from inR_t.mpr (by rw [nI_toInt (by omega)]; omega), show inR (nI l) 0 3 = true from inR_t.mpr (by rw [nI_toInt (by omega)]; omega)]
  refine ⟨fun _ => ⟨vp_in_nI hk (by omega), ?_⟩, fun c => absurd c (by decide)⟩
  have q1 : l ≠ 2 → (1 = 0 ∨ 1 = 1 ∨ 1 = 2) ∧ (1 = 0 → Q (-11) rw) ∧ (1 = 1 → Q (-12) rw) ∧ (1 = 2 → Q (-13) rw) := by
    intro hne
    have hb := bar_ne (n0 := n) (f := f) (i := i) (n := 1) (l := 2) (l2 := l) (fun e => hne e.symm) (by omega) hl
    rw [hb] at hbad
    exact ⟨Or.inr (Or.inl rfl), fun c => absurd c (by decide), fun _ => hbad (by decide), fun c => absurd c (by decide)⟩
  have here : l = 2 → ((vp_in i n → ∀ g : Nat → Int32, g = upd rw i.toNatClampNeg (Int64.toInt32 v) → Q 1 g) ∧ (¬ vp_in i n → (n < 2147483648 ∧ ((2 = 0 ∨ 2 = 1 ∨ 2 = 2) ∧ (2 = 0 → Q (-11) rw) ∧ (2 = 1 → Q (-12) rw) ∧ (2 = 2 → Q (-13) rw))))) := by
    intro e
    subst e
    refine ⟨fun hin g hg => ?_, fun hout => ⟨by omega, Or.inr (Or.inr rfl), fun c => absurd c (by decide), fun c => absurd c (by decide), fun _ => ?_⟩⟩
    · have h' : ¬ (i < 0 ∨ n ≤ i.toNatClampNeg) := hin
      obtain ⟨j, hj, rfl⟩ := nI_of (fun c => h' (Or.inl c))
      rw [nI_clamp hj] at h' hg
      refine hok (bar_in hn hin) j g rfl (by omega) (fun q hq => ?_)
      rw [hg]
      by_cases e : q = j
      · subst e
        rw [pk_us, pk_uLs]; rfl
      · exact (congrArg Int32.toInt64 (pk_un e)).trans ((hr q hq).trans (if_neg e).symm)
    · have hb := bar_out (f := f) hn (by omega : 2 ≤ 3) hout
      rw [hb] at hbad
      exact hbad (by decide)
  unfold wp_X8_lay_I_x
  exact ⟨(fun c => q1 (by have := (nI_eq (a := l) (b := 0) (by omega) (by omega)).mp c; omega)), (fun c => q1 (by have := (nI_eq (a := l) (b := 1) (by omega) (by omega)).mp c; omega)), (fun c v2 e2 => by rw [e2]; exact here (by have := (nI_eq (a := l) (b := 2) (by omega) (by omega)).mp c; omega)), (fun c => q1 (fun e => c.2.2 (by rw [e]; rfl)))⟩
theorem pc_drop_J {rn k : Nat} {rw : Nat → Int64} (hk : k < 4) {Q : Int32 → Bool → Prop} (hQ : Q (nI rn) true) : wp_X0_drop_J rn rw (nI k) Q := by
  unfold wp_X0_drop_J
  refine pc_isSheet ?_
  rw [show inR (nI k) 0 3 = true from inR_t.mpr (by rw [nI_toInt (by omega)]; omega), show inR 0 0 3 = true by decide]
  exact ⟨fun _ => ⟨vp_in_nI hk (by omega), vp_in_nI hk (by omega), vp_in_nI hk (by omega), hQ⟩, fun c => absurd c (by decide)⟩
theorem pc_dropBad_J {rn : Nat} {rw : Nat → Int64} {p : Int32} (hp : inR p 0 3 = false) {Q : Int32 → Bool → Prop} (hQ : Q (-1) false) : wp_X0_drop_J rn rw p Q := by
  unfold wp_X0_drop_J
  refine pc_isSheet ?_
  rw [hp]
  exact ⟨fun c => absurd rfl c, fun _ => hQ⟩
theorem pc_itemBad_J {rn : Nat} {rw : Nat → Int64} {p q i : Int32} {v : Int64} (hp : (inR p 0 3 && inR q 0 3) = false) {Q : Int32 → (Nat → Int64) → Prop} (hQ : Q (-1) rw) : wp_X0_item_J rn rw p q i v Q := by
  unfold wp_X0_item_J
  refine pc_isSheet ?_
  rw [hp]
  exact ⟨fun c => absurd rfl c, fun _ => hQ⟩
theorem pc_item_J {n k l : Nat} {rw : Nat → Int64} {f : Nat → Int64} (hr : ∀ i, i < n → rw i = f i) (hn : n ≤ 24) (hk : k < 4) (hl : l ≤ 3) {i : Int32} {v : Int64} {Q : Int32 → (Nat → Int64) → Prop}
    (hbad : ¬ barI (some (3, n, f)) (nI l) i 1 = 0 → Q (barI (some (3, n, f)) (nI l) i 1) rw) (hok : barI (some (3, n, f)) (nI l) i 1 = 0 → ∀ (j : Nat) (g : Nat → Int64), i = nI j → j < n → (∀ i, i < n → g i = vp_updL f j (cutL 3 v) i) → Q 1 g) : wp_X0_item_J n rw (nI k) (nI l) i v Q := by
  unfold wp_X0_item_J
  refine pc_isSheet ?_
  rw [show inR (nI k) 0 3 = true from inR_t.mpr (by rw [nI_toInt (by omega)]; omega), show inR (nI l) 0 3 = true from inR_t.mpr (by rw [nI_toInt (by omega)]; omega)]
  refine ⟨fun _ => ⟨vp_in_nI hk (by omega), ?_⟩, fun c => absurd c (by decide)⟩
  have q1 : l ≠ 3 → (1 = 0 ∨ 1 = 1 ∨ 1 = 2) ∧ (1 = 0 → Q (-11) rw) ∧ (1 = 1 → Q (-12) rw) ∧ (1 = 2 → Q (-13) rw) := by
    intro hne
    have hb := bar_ne (n0 := n) (f := f) (i := i) (n := 1) (l := 3) (l2 := l) (fun e => hne e.symm) (by omega) hl
    rw [hb] at hbad
    exact ⟨Or.inr (Or.inl rfl), fun c => absurd c (by decide), fun _ => hbad (by decide), fun c => absurd c (by decide)⟩
  have here : l = 3 → ((vp_in i n → ∀ g : Nat → Int64, g = vp_updL rw i.toNatClampNeg v → Q 1 g) ∧ (¬ vp_in i n → (n < 2147483648 ∧ ((2 = 0 ∨ 2 = 1 ∨ 2 = 2) ∧ (2 = 0 → Q (-11) rw) ∧ (2 = 1 → Q (-12) rw) ∧ (2 = 2 → Q (-13) rw))))) := by
    intro e
    subst e
    refine ⟨fun hin g hg => ?_, fun hout => ⟨by omega, Or.inr (Or.inr rfl), fun c => absurd c (by decide), fun c => absurd c (by decide), fun _ => ?_⟩⟩
    · have h' : ¬ (i < 0 ∨ n ≤ i.toNatClampNeg) := hin
      obtain ⟨j, hj, rfl⟩ := nI_of (fun c => h' (Or.inl c))
      rw [nI_clamp hj] at h' hg
      refine hok (bar_in hn hin) j g rfl (by omega) (fun q hq => ?_)
      rw [hg]
      by_cases e : q = j
      · subst e
        rw [pk_uLs, pk_uLs]; rfl
      · exact (if_neg e).trans ((hr q hq).trans (if_neg e).symm)
    · have hb := bar_out (f := f) hn (by omega : 3 ≤ 3) hout
      rw [hb] at hbad
      exact hbad (by decide)
  unfold wp_X8_lay_J_x
  exact ⟨(fun c => q1 (by have := (nI_eq (a := l) (b := 0) (by omega) (by omega)).mp c; omega)), (fun c => q1 (by have := (nI_eq (a := l) (b := 1) (by omega) (by omega)).mp c; omega)), (fun c => q1 (by have := (nI_eq (a := l) (b := 2) (by omega) (by omega)).mp c; omega)), (fun c => here (by have c1 : l ≠ 0 := fun e => c.1 (by rw [e]; rfl); have c2 : l ≠ 1 := fun e => c.2.1 (by rw [e]; rfl); have c3 : l ≠ 2 := fun e => c.2.2 (by rw [e]; rfl); omega))⟩
