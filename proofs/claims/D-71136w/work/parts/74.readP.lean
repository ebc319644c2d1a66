/-! pure: reading a bench from the tape -/
set_option maxRecDepth 100000
def lt (tp : List Nat) (k : Nat) : Int32 := if k < tp.length then nI (tp.getD k 0) else (-1)
def digB (tp : List Nat) (k : Nat) : Bool := decide (k < tp.length) && (decide (48 ≤ tp.getD k 0) && decide (tp.getD k 0 ≤ 57))
theorem TpR.le {f : Nat → Int32} {n : Int32} {tp : List Nat} (h : TpR f n tp) {k : Nat} (hk : k < tp.length) : 32 ≤ tp.getD k 0 ∧ tp.getD k 0 ≤ 126 := h.2.2.2 _ (getD_mem hk)
theorem lt_in {tp : List Nat} {k : Nat} (hk : k < tp.length) : lt tp k = nI (tp.getD k 0) := if_pos hk
theorem lt_out {tp : List Nat} {k : Nat} (hk : ¬ k < tp.length) : lt tp k = -1 := if_neg hk
theorem lt_dig {f : Nat → Int32} {n : Int32} {tp : List Nat} (h : TpR f n tp) (k : Nat) : inR (lt tp k) 48 57 = digB tp k := by
  unfold digB inR
  by_cases hk : k < tp.length
  · have := h.le hk
    rw [lt_in hk, nI_toInt (by omega)]
    simp only [hk, decide_true, Bool.true_and]
    congr 1 <;> (rw [decide_eq_decide]; omega)
  · rw [lt_out hk]
    simp only [hk, decide_false, Bool.false_and]
    decide
theorem low48 : ∀ x, x < 48 → inR (nI x - 48) 0 9 = false := by decide +kernel
theorem lt_dig0 {f : Nat → Int32} {n : Int32} {tp : List Nat} (h : TpR f n tp) (k : Nat) : inR (lt tp k - 48) 0 9 = digB tp k := by
  unfold digB
  by_cases hk : k < tp.length
  · have := h.le hk
    rw [lt_in hk]
    by_cases h48 : tp.getD k 0 < 48
    · rw [low48 _ h48, decide_eq_false (show ¬ 48 ≤ tp.getD k 0 by omega), Bool.false_and, Bool.and_false]
    · rw [show (48 : Int32) = nI 48 from rfl, pk_sub (by omega)]
      unfold inR
      rw [nI_toInt (by omega)]
      simp only [hk, decide_true, Bool.true_and]
      congr 1 <;> (rw [decide_eq_decide]; omega)
  · rw [lt_out hk]
    simp only [hk, decide_false, Bool.false_and]
    decide
theorem digB_t {tp : List Nat} {k : Nat} : digB tp k = true ↔ k < tp.length ∧ 48 ≤ tp.getD k 0 ∧ tp.getD k 0 ≤ 57 := by simp [digB]
theorem pc_stay38 {tape : Nat → Int32} {taped : Int32} {tp : List Nat} (h : TpR tape taped tp) {k : Nat} (hk : k ≤ tp.length) {Q : Int32 → Int32 → Prop} (hQ : Q (lt tp k) (nI k)) : wp_X0_nextLetter_38 taped tape Q (nI k) := by
  obtain ⟨h1, h2, h3, h4⟩ := h
  unfold wp_X0_nextLetter_38
  rw [h1]
  refine ⟨fun c => ?_, fun c => ⟨vp_in_nI ?_ (by omega), ?_⟩⟩ <;> simp (disch := omega) only [il0, il1, il2, il3, il4, il5, il6, il7, il8, il9, il10, il15, il16, il22, il24, il30, il31, il40, il41, il60, il70, il146, il161, il9999, pk_mul, nI_add, pk_sub, nI_clamp, nI_leI, nI_ltI, nI_eq] at c
  · rw [lt_out (by omega)] at hQ; exact hQ
  · omega
  · rw [lt_in (by omega)] at hQ
    rw [nI_clamp (by omega), h3 k (by omega)]
    exact hQ
/-- where no space stands nothing is skipped -/
theorem pc_stay {tape : Nat → Int32} {taped : Int32} {tp : List Nat} (h : TpR tape taped tp) {k : Nat} (hk : k ≤ tp.length) (hs : k < tp.length → tp.getD k 0 ≠ 32) {Q : Int32 → Int32 → Prop} (hQ : Q (lt tp k) (nI k)) : wp_X0_nextLetter taped (nI k) tape Q := by
  unfold wp_X0_nextLetter
  refine ⟨1, ?_⟩
  unfold wp_X0_nextLetter_0
  have h' := h
  obtain ⟨h1, h2, h3, h4⟩ := h'
  refine ⟨fun _ => pc_stay38 h hk hQ, fun c => ?_⟩
  rw [h1] at c
  simp (disch := omega) only [il0, il1, il2, il3, il4, il5, il6, il7, il8, il9, il10, il15, il16, il22, il24, il30, il31, il40, il41, il60, il70, il146, il161, il9999, pk_mul, nI_add, pk_sub, nI_clamp, nI_leI, nI_ltI, nI_eq] at c
  refine ⟨vp_in_nI (by omega) (by omega), fun _ => pc_stay38 h hk hQ, fun c2 => ?_⟩
  rw [nI_clamp (by omega), h3 k (by omega), show (32 : Int32) = nI 32 from rfl] at c2
  have := h.le (k := k) (by omega)
  simp (disch := omega) only [il0, il1, il2, il3, il4, il5, il6, il7, il8, il9, il10, il15, il16, il22, il24, il30, il31, il40, il41, il60, il70, il146, il161, il9999, pk_mul, nI_add, pk_sub, nI_clamp, nI_leI, nI_ltI, nI_eq] at c2
  exact absurd c2 (hs (by omega))
theorem pm_letter {tape : Nat → Int32} {taped : Int32} {tp : List Nat} (h : TpR tape taped tp) {k : Nat} (hk : k ≤ tp.length) {Q : Int32 → Prop} (hQ : Q (lt tp k)) : wp_X9_letterAt taped tape (nI k) Q := by
  obtain ⟨h1, h2, h3, h4⟩ := h
  unfold wp_X9_letterAt
  rw [h1]
  refine ⟨fun c => ?_, fun c => ⟨vp_in_nI ?_ (by omega), ?_⟩⟩ <;> simp (disch := omega) only [il0, il1, il2, il3, il4, il5, il6, il7, il8, il9, il10, il15, il16, il22, il24, il30, il31, il40, il41, il60, il70, il146, il161, il9999, pk_mul, nI_add, pk_sub, nI_clamp, nI_leI, nI_ltI, nI_eq] at c
  · rw [lt_out (by omega)] at hQ; exact hQ
  · omega
  · rw [lt_in (by omega)] at hQ
    rw [nI_clamp (by omega), h3 k (by omega)]
    exact hQ
theorem lt_sp {f : Nat → Int32} {n : Int32} {tp : List Nat} (h : TpR f n tp) {k : Nat} : lt tp k = 32 ↔ k < tp.length ∧ tp.getD k 0 = 32 := by
  by_cases hk : k < tp.length
  · have := h.le hk
    rw [lt_in hk, show (32 : Int32) = nI 32 from rfl, nI_eq (by omega) (by omega)]
    exact ⟨fun e => ⟨hk, e⟩, fun e => e.2⟩
  · rw [lt_out hk]
    exact ⟨fun e => absurd e (by decide), fun e => absurd e.1 hk⟩
/-- spaces are skipped alike -/
theorem nx {tape tapeM : Nat → Int32} {taped typed : Int32} {tp : List Nat} (h : TpR tape taped tp) (hM : TpR tapeM typed tp) : ∀ (d k : Nat), k ≤ tp.length → tp.length - k ≤ d → ∃ j, k ≤ j ∧ j ≤ tp.length ∧ (j < tp.length → tp.getD j 0 ≠ 32) ∧
    (∀ Q : Int32 → Int32 → Prop, Q (lt tp j) (nI j) → wp_X0_nextLetter taped (nI k) tape Q) ∧ (∀ Q : Int32 → Int32 → Prop, Q (lt tp j) (nI j) → wp_X9_skips typed (nI k) tapeM Q) := by
  have here : ∀ k, k ≤ tp.length → (k < tp.length → tp.getD k 0 ≠ 32) → ∃ j, k ≤ j ∧ j ≤ tp.length ∧ (j < tp.length → tp.getD j 0 ≠ 32) ∧
    (∀ Q : Int32 → Int32 → Prop, Q (lt tp j) (nI j) → wp_X0_nextLetter taped (nI k) tape Q) ∧ (∀ Q : Int32 → Int32 → Prop, Q (lt tp j) (nI j) → wp_X9_skips typed (nI k) tapeM Q) := by
    intro k hk hs
    refine ⟨k, Nat.le_refl _, hk, hs, fun Q hQ => pc_stay h hk hs hQ, fun Q hQ => ⟨1, ?_⟩⟩
    unfold wp_X9_skips_0
    refine pm_letter hM hk ⟨fun _ => pm_letter hM hk hQ, fun c => ?_⟩
    have := (lt_sp hM).mp c
    exact absurd this.2 (hs this.1)
  intro d
  induction d with
  | zero => intro k hk hd; exact here k hk (fun c => by omega)
  | succ d ih =>
    intro k hk hd
    by_cases hs : k < tp.length ∧ tp.getD k 0 = 32
    · obtain ⟨j, h1, h2, h3, h4, h5⟩ := ih (k + 1) (by omega) (by omega)
      refine ⟨j, by omega, h2, h3, fun Q hQ => ?_, fun Q hQ => ?_⟩
      · obtain ⟨n, hn⟩ := h4 Q hQ
        refine ⟨n + 1, ?_⟩
        unfold wp_X0_nextLetter_0
        have h' := h
        obtain ⟨g1, g2, g3, g4⟩ := h'
        refine ⟨fun c => ?_, fun _ => ⟨vp_in_nI (by omega) (by omega), fun c => ?_, fun _ v hv => ?_⟩⟩
        · rw [g1] at c
          simp (disch := omega) only [il0, il1, il2, il3, il4, il5, il6, il7, il8, il9, il10, il15, il16, il22, il24, il30, il31, il40, il41, il60, il70, il146, il161, il9999, pk_mul, nI_add, pk_sub, nI_clamp, nI_leI, nI_ltI, nI_eq] at c
          omega
        · rw [nI_clamp (by omega), g3 k hs.1, hs.2] at c
          exact absurd rfl c
        · rw [hv, nI_1]; exact hn
      · obtain ⟨n, hn⟩ := h5 Q hQ
        refine ⟨n + 1, ?_⟩
        unfold wp_X9_skips_0
        refine pm_letter hM hk ⟨fun c => absurd ((lt_sp hM).mpr hs) c, fun _ v hv => ?_⟩
        rw [hv, nI_1]; exact hn
    · exact here k hk (fun c e => hs ⟨c, e⟩)
theorem pm_isDigit {f : Nat → Int32} {n : Int32} {tp : List Nat} (h : TpR f n tp) {k : Nat} {Q : Int32 → Prop} (hQ : Q (b2i (digB tp k))) : wp_X9_isDigit (lt tp k) Q := by
  unfold wp_X9_isDigit
  refine pm_in ⟨b2i_z _, ?_⟩
  rw [show (48 : Int32).toInt = 48 by decide, show (57 : Int32).toInt = 57 by decide, lt_dig h]
  exact hQ
theorem pc_dig {f : Nat → Int32} {n : Int32} {tp : List Nat} (h : TpR f n tp) {k : Nat} {Q : Int32 → Prop} (hQ : Q (b2i (digB tp k))) : wp_X0_isIn (Int32.toInt64 (lt tp k)) 48 57 Q := by
  refine pc_isIn (a := 48) (c := 57) rfl rfl ?_
  rw [lt_dig h]; exact hQ
theorem an_kindBy (r : Int32) : ∃ kk : Int32, (kk = -4 ∨ ∃ n, n ≤ 4 ∧ kk = nI n) ∧ (∀ Q : Int32 → Prop, Q kk → wp_X0_kindBy r Q) ∧ (∀ Q : Int32 → Prop, Q kk → wp_X9_kindBy r Q) := by
  unfold wp_X0_kindBy wp_X9_kindBy
  by_cases h1 : r = 112
  · exact ⟨0, Or.inr ⟨0, by omega, rfl⟩, fun Q hQ => ⟨fun c => absurd h1 c, fun _ => hQ⟩, fun Q hQ => ⟨fun c => absurd h1 c, fun _ => hQ⟩⟩
  by_cases h2 : r = 104
  · exact ⟨1, Or.inr ⟨1, by omega, rfl⟩, fun Q hQ => ⟨fun _ => ⟨fun c => absurd h2 c, fun _ => hQ⟩, fun c => absurd c h1⟩, fun Q hQ => ⟨fun _ => ⟨fun c => absurd h2 c, fun _ => hQ⟩, fun c => absurd c h1⟩⟩
  by_cases h3 : r = 117
  · exact ⟨2, Or.inr ⟨2, by omega, rfl⟩, fun Q hQ => ⟨fun _ => ⟨fun _ => ⟨fun c => absurd h3 c, fun _ => hQ⟩, fun c => absurd c h2⟩, fun c => absurd c h1⟩, fun Q hQ => ⟨fun _ => ⟨fun _ => ⟨fun c => absurd h3 c, fun _ => hQ⟩, fun c => absurd c h2⟩, fun c => absurd c h1⟩⟩
  by_cases h4 : r = 100
  · exact ⟨3, Or.inr ⟨3, by omega, rfl⟩, fun Q hQ => ⟨fun _ => ⟨fun _ => ⟨fun _ => ⟨fun c => absurd h4 c, fun _ => hQ⟩, fun c => absurd c h3⟩, fun c => absurd c h2⟩, fun c => absurd c h1⟩, fun Q hQ => ⟨fun _ => ⟨fun _ => ⟨fun _ => ⟨fun c => absurd h4 c, fun _ => hQ⟩, fun c => absurd c h3⟩, fun c => absurd c h2⟩, fun c => absurd c h1⟩⟩
  by_cases h5 : r = 114
  · exact ⟨4, Or.inr ⟨4, by omega, rfl⟩, fun Q hQ => ⟨fun _ => ⟨fun _ => ⟨fun _ => ⟨fun _ => ⟨fun c => absurd h5 c, fun _ => hQ⟩, fun c => absurd c h4⟩, fun c => absurd c h3⟩, fun c => absurd c h2⟩, fun c => absurd c h1⟩, fun Q hQ => ⟨fun _ => ⟨fun _ => ⟨fun _ => ⟨fun _ => ⟨fun c => absurd h5 c, fun _ => hQ⟩, fun c => absurd c h4⟩, fun c => absurd c h3⟩, fun c => absurd c h2⟩, fun c => absurd c h1⟩⟩
  · exact ⟨-4, Or.inl rfl, fun Q hQ => ⟨fun _ => ⟨fun _ => ⟨fun _ => ⟨fun _ => ⟨fun _ => hQ, fun c => absurd c h5⟩, fun c => absurd c h4⟩, fun c => absurd c h3⟩, fun c => absurd c h2⟩, fun c => absurd c h1⟩, fun Q hQ => ⟨fun _ => ⟨fun _ => ⟨fun _ => ⟨fun _ => ⟨fun _ => hQ, fun c => absurd c h5⟩, fun c => absurd c h4⟩, fun c => absurd c h3⟩, fun c => absurd c h2⟩, fun c => absurd c h1⟩⟩
theorem pc_wrong {tape : Nat → Int32} {taped fp : Int32} {tp : List Nat} (h : TpR tape taped tp) {k : Nat} (hk : k ≤ tp.length) (hs : k < tp.length → tp.getD k 0 ≠ 32) {Q : Int32 × Int32 → Prop} (hQ : Q (nI k, nI k)) : wp_X0_wrong taped (nI k) fp tape Q := by
  unfold wp_X0_wrong
  exact pc_stay h hk hs hQ
/-- a life: where it is at fault, or the place behind it and the life -/
def lifeO (o : Nat ⊕ (Nat × Nat)) (tp : List Nat) : Prop := match o with
  | .inl _ => True
  | .inr (k, v) => k ≤ tp.length ∧ 1 ≤ v ∧ v ≤ 60
theorem an_life {tape tapeM : Nat → Int32} {taped typed : Int32} {tp : List Nat} (h : TpR tape taped tp) (hM : TpR tapeM typed tp) {k : Nat} (hk : k ≤ tp.length) : ∃ o : Nat ⊕ (Nat × Nat), lifeO o tp ∧
    (∀ (fp : Int32) (Q : Int32 → Int32 × Int32 → Prop) (QX : Int32 × Int32 → Prop), (match o with | .inl p => ∀ r, QX (r, nI p) | .inr (j, v) => Q (nI v) (nI j, fp)) → wp_X0_readLife taped (nI k) fp tape Q QX) ∧
    (∀ (draft : Nat → Int32) (p1 x2 x3 : Int32) (Q : Int32 → Int32 × (Nat → Int32) → Prop), (match o with | .inl p => Q 0 (nI p, draft) | .inr (j, v) => ∀ x4, wp_X9_readsMan_117 typed tapeM p1 Q (nI j) draft x2 x3 x4 (nI v)) →
      wp_X9_skips typed (nI k) tapeM (fun r_6 u_7 => wp_X9_isDigit r_6 (fun r_8 => ((¬ (r_8 = 0) → (vp_in u_7 70 ∧ (∀ v_11 : Int32, v_11 = ((tapeM u_7.toNatClampNeg) - (48 : Int32)) → (∀ v_12 : Int32, v_12 = (u_7 + (1 : Int32)) → wp_X9_letterAt typed tapeM v_12 (fun r_13 => wp_X9_isDigit r_13 (fun r_14 => (((r_14 = 0) → wp_X9_readsMan_117 typed tapeM p1 Q v_12 draft x2 x3 u_7 v_11) ∧ (¬ (r_14 = 0) → (vp_in v_12 70 ∧ (∀ v_17 : Int32, v_17 = ((((10 : Int32) * v_11) + (tapeM v_12.toNatClampNeg)) - (48 : Int32)) → (∀ v_18 : Int32, v_18 = (v_12 + (1 : Int32)) → wp_X9_readsMan_117 typed tapeM p1 Q v_18 draft x2 x3 u_7 v_17))))))))))) ∧ ((r_8 = 0) → Q (0 : Int32) (u_7, draft)))))) := by
  obtain ⟨j, h1, h2, h3, h4, h5⟩ := nx h hM _ k hk (Nat.le_refl _)
  have H := h
  have HM := hM
  obtain ⟨g1, g2, g3, g4⟩ := H
  obtain ⟨m1, m2, m3, m4⟩ := HM
  have e48 : (48 : Int32) = nI 48 := rfl
  -- the model, where the life is at fault
  have bad117 : ∀ (draft : Nat → Int32) (p1 x2 x3 at1 : Int32) (v : Nat) (Q : Int32 → Int32 × (Nat → Int32) → Prop), inR (nI v) 1 60 = false → Q 0 (nI j, draft) → wp_X9_readsMan_117 typed tapeM p1 Q at1 draft x2 x3 (nI j) (nI v) := by
    intro draft p1 x2 x3 at1 v Q hv hQ
    unfold wp_X9_readsMan_117
    refine pm_in ?_
    rw [show (1 : Int32).toInt = 1 by decide, show (60 : Int32).toInt = 60 by decide, hv]
    exact ⟨fun c => absurd rfl c, fun _ => hQ⟩
  -- the component, at the end of the digits
  have fin : ∀ (fp : Int32) (Q : Int32 → Int32 × Int32 → Prop) (QX : Int32 × Int32 → Prop) (i v : Nat), (inR (nI v) 1 60 = true → Q (nI v) (nI i, fp)) → (inR (nI v) 1 60 = false → QX (nI i, nI j)) → wp_X0_isIn (Int32.toInt64 (nI v)) (1 : Int64) (60 : Int64) (fun r_2 => ((¬ (r_2 = 0) → Q (nI v) (nI i, fp)) ∧ ((r_2 = 0) → wp_X0_wrongAt fp (nI j) (fun u_4 => QX (nI i, u_4))))) := by
    intro fp Q QX i v q1 q2
    exact pc_isIn (a := 1) (c := 60) rfl rfl ⟨fun c => q1 (b2i_n0.mp c), fun c => q2 (b2i_0.mp c)⟩
  by_cases hd : digB tp j = true
  case neg =>
    have hd : digB tp j = false := by cases e : digB tp j <;> simp_all
    refine ⟨.inl j, trivial, fun fp Q QX q => ?_, fun draft p1 x2 x3 Q q => ?_⟩
    · unfold wp_X0_readLife
      refine h4 _ (pc_dig h ?_)
      rw [hd]
      exact ⟨fun c => absurd rfl c, fun _ => pc_wrong h h2 h3 (q _)⟩
    · refine h5 _ (pm_isDigit hM ?_)
      rw [hd]
      exact ⟨fun c => absurd rfl c, fun _ => q⟩
  case pos =>
    have hd' := digB_t.mp hd
    obtain ⟨v1, hv1⟩ : ∃ v1, v1 = tp.getD j 0 - 48 := ⟨_, rfl⟩
    have c1 : ((10 : Int32) * 0 + tape (nI j).toNatClampNeg) - 48 = nI v1 := by
      rw [nI_clamp (by omega), g3 j hd'.1, show (10 : Int32) * 0 = nI 0 by decide, nI_add, e48, pk_sub (by omega), hv1]; congr 1; omega
    have w1 : tapeM (nI j).toNatClampNeg - 48 = nI v1 := by
      rw [nI_clamp (by omega), m3 j hd'.1, e48, pk_sub (by omega), hv1]
    by_cases hd2 : digB tp (j + 1) = true
    case neg =>
      have hd2 : digB tp (j + 1) = false := by cases e : digB tp (j + 1) <;> simp_all
      -- one digit
      refine ⟨if inR (nI v1) 1 60 = true then .inr (j + 1, v1) else .inl j, ?_, fun fp Q QX q => ?_, fun draft p1 x2 x3 Q q => ?_⟩
      · split
        case isTrue hv => obtain ⟨y, y1, y2, y3⟩ := inR_1 hv; rw [nI_eq (by omega) (by omega)] at y3; exact ⟨by omega, by omega, by omega⟩
        case isFalse => trivial
      · have fin1 := fin fp Q QX (j + 1) v1 (fun e => by rw [if_pos e] at q; exact q) (fun e => by rw [if_neg (by rw [e]; decide)] at q; exact q _)
        unfold wp_X0_readLife
        refine h4 _ (pc_dig h ?_)
        rw [hd]
        refine ⟨fun _ => ⟨2, ?_⟩, fun c => absurd c (by decide)⟩
        unfold wp_X0_readLife_29
        refine ⟨fun c => ?_, fun _ => ⟨fun c => ?_, fun _ => ⟨vp_in_nI (by omega) (by omega), ?_⟩⟩⟩
        · rw [g1] at c; simp (disch := omega) only [il0, il1, il2, il3, il4, il5, il6, il7, il8, il9, il10, il15, il16, il22, il24, il30, il31, il40, il41, il60, il70, il146, il161, il9999, pk_mul, nI_add, pk_sub, nI_clamp, nI_leI, nI_ltI, nI_eq] at c; omega
        · rw [il2, nI_add] at c; simp (disch := omega) only [il0, il1, il2, il3, il4, il5, il6, il7, il8, il9, il10, il15, il16, il22, il24, il30, il31, il40, il41, il60, il70, il146, il161, il9999, pk_mul, nI_add, pk_sub, nI_clamp, nI_leI, nI_ltI, nI_eq] at c; omega
        · rw [nI_clamp (by omega), g3 j hd'.1, ← lt_in hd'.1]
          refine pc_dig h ?_
          rw [hd]
          refine ⟨fun c => absurd c (by decide), fun _ => ⟨vp_in_nI (by omega) (by omega), fun v16 e16 v17 e17 => ?_⟩⟩
          have e16 : v16 = nI v1 := by rw [e16, lt_in hd'.1, hv1, show (10 : Int32) * 0 = nI 0 by decide, nI_add, e48, pk_sub (by omega)]; congr 1; omega
          rw [e16, e17, nI_1]
          unfold wp_X0_readLife_29
          refine ⟨fun _ => fin1, fun c => ⟨fun _ => fin1, fun _ => ⟨vp_in_nI ?_ (by omega), ?_⟩⟩⟩
          · rw [g1] at c; simp (disch := omega) only [il0, il1, il2, il3, il4, il5, il6, il7, il8, il9, il10, il15, il16, il22, il24, il30, il31, il40, il41, il60, il70, il146, il161, il9999, pk_mul, nI_add, pk_sub, nI_clamp, nI_leI, nI_ltI, nI_eq] at c; omega
          · rw [g1] at c; simp (disch := omega) only [il0, il1, il2, il3, il4, il5, il6, il7, il8, il9, il10, il15, il16, il22, il24, il30, il31, il40, il41, il60, il70, il146, il161, il9999, pk_mul, nI_add, pk_sub, nI_clamp, nI_leI, nI_ltI, nI_eq] at c
            rw [nI_clamp (by omega), g3 (j + 1) (by omega), ← lt_in (by omega)]
            refine pc_dig h ?_
            rw [hd2]
            exact ⟨fun _ => fin1, fun c => absurd rfl c⟩
      · refine h5 _ (pm_isDigit hM ?_)
        rw [hd]
        refine ⟨fun _ => ⟨vp_in_nI (by omega) (by omega), fun v11 e11 v12 e12 => ?_⟩, fun c => absurd c (by decide)⟩
        rw [e11, e12, w1, nI_1]
        refine pm_letter hM (by omega) (pm_isDigit hM ?_)
        rw [hd2]
        refine ⟨fun _ => ?_, fun c => absurd rfl c⟩
        by_cases hv : inR (nI v1) 1 60 = true
        · rw [if_pos hv] at q; exact q _
        · rw [if_neg hv] at q; exact bad117 _ _ _ _ _ _ _ (by simpa using hv) q
    case pos =>
      have hd2' := digB_t.mp hd2
      obtain ⟨v2, hv2⟩ : ∃ v2, v2 = 10 * v1 + tp.getD (j + 1) 0 - 48 := ⟨_, rfl⟩
      refine ⟨if inR (nI v2) 1 60 = true then .inr (j + 2, v2) else .inl j, ?_, fun fp Q QX q => ?_, fun draft p1 x2 x3 Q q => ?_⟩
      · split
        case isTrue hv => obtain ⟨y, y1, y2, y3⟩ := inR_1 hv; rw [nI_eq (by omega) (by omega)] at y3; exact ⟨by omega, by omega, by omega⟩
        case isFalse => trivial
      · have fin1 := fin fp Q QX (j + 1 + 1) v2 (fun e => by rw [if_pos e] at q; exact q) (fun e => by rw [if_neg (by rw [e]; decide)] at q; exact q _)
        unfold wp_X0_readLife
        refine h4 _ (pc_dig h ?_)
        rw [hd]
        refine ⟨fun _ => ⟨3, ?_⟩, fun c => absurd c (by decide)⟩
        unfold wp_X0_readLife_29
        refine ⟨fun c => ?_, fun _ => ⟨fun c => ?_, fun _ => ⟨vp_in_nI (by omega) (by omega), ?_⟩⟩⟩
        · rw [g1] at c; simp (disch := omega) only [il0, il1, il2, il3, il4, il5, il6, il7, il8, il9, il10, il15, il16, il22, il24, il30, il31, il40, il41, il60, il70, il146, il161, il9999, pk_mul, nI_add, pk_sub, nI_clamp, nI_leI, nI_ltI, nI_eq] at c; omega
        · rw [il2, nI_add] at c; simp (disch := omega) only [il0, il1, il2, il3, il4, il5, il6, il7, il8, il9, il10, il15, il16, il22, il24, il30, il31, il40, il41, il60, il70, il146, il161, il9999, pk_mul, nI_add, pk_sub, nI_clamp, nI_leI, nI_ltI, nI_eq] at c; omega
        · rw [nI_clamp (by omega), g3 j hd'.1, ← lt_in hd'.1]
          refine pc_dig h ?_
          rw [hd]
          refine ⟨fun c => absurd c (by decide), fun _ => ⟨vp_in_nI (by omega) (by omega), fun v16 e16 v17 e17 => ?_⟩⟩
          have e16 : v16 = nI v1 := by rw [e16, lt_in hd'.1, hv1, show (10 : Int32) * 0 = nI 0 by decide, nI_add, e48, pk_sub (by omega)]; congr 1; omega
          rw [e16, e17, nI_1]
          unfold wp_X0_readLife_29
          refine ⟨fun c => ?_, fun _ => ⟨fun c => ?_, fun _ => ⟨vp_in_nI (by omega) (by omega), ?_⟩⟩⟩
          · rw [g1] at c; simp (disch := omega) only [il0, il1, il2, il3, il4, il5, il6, il7, il8, il9, il10, il15, il16, il22, il24, il30, il31, il40, il41, il60, il70, il146, il161, il9999, pk_mul, nI_add, pk_sub, nI_clamp, nI_leI, nI_ltI, nI_eq] at c; omega
          · rw [il2, nI_add] at c; simp (disch := omega) only [il0, il1, il2, il3, il4, il5, il6, il7, il8, il9, il10, il15, il16, il22, il24, il30, il31, il40, il41, il60, il70, il146, il161, il9999, pk_mul, nI_add, pk_sub, nI_clamp, nI_leI, nI_ltI, nI_eq] at c; omega
          · rw [nI_clamp (by omega), g3 (j + 1) hd2'.1, ← lt_in hd2'.1]
            refine pc_dig h ?_
            rw [hd2]
            refine ⟨fun c => absurd c (by decide), fun _ => ⟨vp_in_nI (by omega) (by omega), fun v18 e18 v19 e19 => ?_⟩⟩
            have e18 : v18 = nI v2 := by rw [e18, lt_in hd2'.1, hv2, il10, pk_mul, nI_add, e48, pk_sub (by omega)]
            rw [e18, e19, nI_1]
            unfold wp_X0_readLife_29
            refine ⟨fun _ => fin1, fun _ => ⟨fun _ => fin1, fun c => absurd ?_ c⟩⟩
            rw [il2, nI_add]
            exact Int32.le_refl _
      · refine h5 _ (pm_isDigit hM ?_)
        rw [hd]
        refine ⟨fun _ => ⟨vp_in_nI (by omega) (by omega), fun v11 e11 v12 e12 => ?_⟩, fun c => absurd c (by decide)⟩
        rw [e11, e12, w1, nI_1]
        refine pm_letter hM (by omega) (pm_isDigit hM ?_)
        rw [hd2]
        refine ⟨fun c => absurd c (by decide), fun _ => ⟨vp_in_nI (by omega) (by omega), fun v17 e17 v18 e18 => ?_⟩⟩
        have e17 : v17 = nI v2 := by rw [e17, nI_clamp (by omega), m3 (j + 1) hd2'.1, hv2, il10, pk_mul, nI_add, e48, pk_sub (by omega)]
        rw [e17, e18, nI_1]
        by_cases hv : inR (nI v2) 1 60 = true
        · rw [if_pos hv] at q; exact q _
        · rw [if_neg hv] at q; exact bad117 _ _ _ _ _ _ _ (by simpa using hv) q
/-- the model's draft, as far as the men are told -/
def MD (f : Nat → Int32) (X : AB) : Prop := f 2 = nI (bY X) ∧ (∀ k, k < (bS X).length → f (10 + k) = nI ((bS X).getD k 0)) ∧ (∀ m, m < bM X → f (4 + m) = nI (bL X m)) ∧ (∀ m, m < bM X → f (16 + m) = nI (bK X m)) ∧ (∀ i, i < 3 * bM X → f (22 + i) = nI (bP X i))
/-- and the next man's kind and life -/
def MDm (f : Nat → Int32) (X : AB) (kk v : Nat) : Prop := MD f X ∧ f (16 + bM X) = nI kk ∧ f (4 + bM X) = nI v ∧ f (10 + bM X) = nI (bM X)
def RI (X : AB) : Prop := Inv X ∧ (bS X).length = bM X
theorem pm_isTold {f : Nat → Int32} {X : AB} (h : MD f X) (hI : Inv X) {t p : Nat} (ht : t < 3) (hp : p < 1000) {Q : Int32 → Prop} (hQ : Q (b2i (takenB X t p))) : wp_X9_isTold f (nI (bM X)) (nI t) (nI p) Q := by
  have h6 := hI.1
  unfold wp_X9_isTold
  refine loopF (fun n a k => wp_X9_isTold_6 f (nI (bM X)) (nI t) (nI p) Q n a k) (bM X) (by omega) (fun a k => b2i ((List.range (k + 1)).any (fun m => bP X (3 * m + t) == p))) (fun k a => a = b2i ((List.range k).any (fun m => bP X (3 * m + t) == p))) ?_ ?_ ?_ _ rfl
  · intro n a ha
    unfold wp_X9_isTold_6
    refine ⟨fun c => ⟨by rw [ha]; exact b2i_z _, by rw [ha]; exact hQ⟩, fun c => ?_⟩
    simp (disch := omega) only [il0, il1, il2, il3, il4, il5, il6, il7, il8, il9, il10, il15, il16, il22, il24, il30, il31, il40, il41, il60, il70, il146, il161, il9999, pk_mul, nI_add, pk_sub, nI_clamp, nI_leI, nI_ltI, nI_eq] at c
    omega
  · intro n a k hk ha hn
    have hn := hn rfl
    unfold wp_X9_isTold_6
    have e : (List.range (k + 1)).any (fun m => bP X (3 * m + t) == p) = ((List.range k).any (fun m => bP X (3 * m + t) == p) || (bP X (3 * k + t) == p)) := by
      rw [List.range_succ, List.any_append]; simp
    have hpl := pl_lt hI hk ht
    rw [e] at hn
    rw [nI_1]
    refine ⟨fun c => ?_, fun c => ⟨fun c2 => ?_, fun c2 => ?_⟩⟩
    · simp (disch := omega) only [il0, il1, il2, il3, il4, il5, il6, il7, il8, il9, il10, il15, il16, il22, il24, il30, il31, il40, il41, il60, il70, il146, il161, il9999, pk_mul, nI_add, pk_sub, nI_clamp, nI_leI, nI_ltI, nI_eq] at c
      omega
    · rw [ha, b2i_n0] at c2
      rw [c2] at hn
      exact hn
    · rw [ha, b2i_0] at c2
      rw [c2] at hn
      simp (disch := omega) only [il0, il1, il2, il3, il4, il5, il6, il7, il8, il9, il10, il15, il16, il22, il24, il30, il31, il40, il41, il60, il70, il146, il161, il9999, pk_mul, nI_add, pk_sub, nI_clamp, nI_leI, nI_ltI, nI_eq]
      refine ⟨vp_in_nI (by omega) (by omega), ?_⟩
      rw [Nat.add_assoc, h.2.2.2.2 _ (by omega)]
      refine ⟨fun c3 => ?_, fun c3 => ?_⟩
      · simp (disch := omega) only [il0, il1, il2, il3, il4, il5, il6, il7, il8, il9, il10, il15, il16, il22, il24, il30, il31, il40, il41, il60, il70, il146, il161, il9999, pk_mul, nI_add, pk_sub, nI_clamp, nI_leI, nI_ltI, nI_eq] at c3
        have : (bP X (3 * k + t) == p) = false := by simpa using c3
        rw [this] at hn
        exact hn
      · simp (disch := omega) only [il0, il1, il2, il3, il4, il5, il6, il7, il8, il9, il10, il15, il16, il22, il24, il30, il31, il40, il41, il60, il70, il146, il161, il9999, pk_mul, nI_add, pk_sub, nI_clamp, nI_leI, nI_ltI, nI_eq] at c3
        have : (bP X (3 * k + t) == p) = true := by simpa using c3
        rw [this] at hn
        exact hn
  · intro k a _ _
    rfl
theorem CR_pl {b : BT} {X : AB} {h : Nat} {x : Int32} (hc : CR b X) : CR (kd b, upd (pl b) (3 * bM X + h) x, lf b, se b, mn b, ma b, yr b, dw b) X := by
  obtain ⟨h1, h2, h3, h4, h5, h6, h7, h8⟩ := hc
  refine ⟨h1, h2, h3, h4, h5, h6, h7, fun i hi => ?_⟩
  show upd (pl b) (3 * bM X + h) x i = _
  rw [pk_un (by omega)]
  exact h8 i hi
theorem MDm_pl {f : Nat → Int32} {X : AB} {kk v h : Nat} {x : Int32} (h6 : bM X < 6) (hl : (bS X).length ≤ bM X) (hm : MDm f X kk v) : MDm (upd f (22 + 3 * bM X + h) x) X kk v := by
  obtain ⟨⟨h1, h2, h3, h4, h5⟩, q1, q2, q3⟩ := hm
  have g : ∀ i, i ≠ 22 + 3 * bM X + h → upd f (22 + 3 * bM X + h) x i = f i := fun i hi => pk_un hi
  exact ⟨⟨(g _ (by omega)).trans h1, fun k hk => (g _ (by omega)).trans (h2 k hk), fun k hk => (g _ (by omega)).trans (h3 k hk), fun k hk => (g _ (by omega)).trans (h4 k hk), fun k hk => (g _ (by omega)).trans (h5 k hk)⟩, (g _ (by omega)).trans q1, (g _ (by omega)).trans q2, (g _ (by omega)).trans q3⟩
def addX (X : AB) (k l : Nat) (ps : Nat → Nat) : AB := (bM X + 1, bS X ++ [bM X], bY X, bD X, updN (bL X) (bM X) l, updN (bK X) (bM X) k, fun i => if 3 * bM X ≤ i then ps (i - 3 * bM X) else bP X i)
theorem RI_addX {X : AB} (hI : RI X) (h6' : bM X < 6) {k l : Nat} (hk : k ≤ 4) (hl1 : 1 ≤ l) (hl2 : l ≤ 60) {ps : Nat → Nat} (hps : ∀ j, j < 3 → ps j ≤ 9) : RI (addX X k l ps) ∧ bY (addX X k l ps) = bY X ∧ bM (addX X k l ps) = bM X + 1 ∧ bD (addX X k l ps) = bD X := by
  obtain ⟨⟨h1, h2, h3, h4, h5, h6, h7, h8, h9⟩, hlen⟩ := hI
  refine ⟨⟨⟨by show bM X + 1 ≤ 6; omega, ?_, fun x hx => ?_, fun x hx => ?_, fun m hm => ?_, fun m hm => ?_, fun i hi => ?_, h8, h9⟩, ?_⟩, rfl, rfl, rfl⟩
  · show (bS X ++ [bM X]).Nodup
    rw [List.nodup_append]
    refine ⟨h2, by simp, fun a ha c hc => ?_⟩
    have := h3 a ha
    simp at hc
    omega
  · show x < bM X + 1
    rcases List.mem_append.mp (show x ∈ bS X ++ [bM X] from hx) with h | h
    · have := h3 x h; omega
    · simp at h; omega
  · show 0 < updN (bL X) (bM X) l x
    rcases List.mem_append.mp (show x ∈ bS X ++ [bM X] from hx) with h | h
    · have := h3 x h
      rw [updN_n (by omega)]; exact h4 x h
    · simp at h
      rw [h, updN_s]; omega
  · show updN (bL X) (bM X) l m ≤ 60
    have hm : m < bM X + 1 := hm
    by_cases e : m = bM X
    · rw [e, updN_s]; exact hl2
    · rw [updN_n e]; exact h5 m (by omega)
  · show updN (bK X) (bM X) k m ≤ 4
    have hm : m < bM X + 1 := hm
    by_cases e : m = bM X
    · rw [e, updN_s]; exact hk
    · rw [updN_n e]; exact h6 m (by omega)
  · show (if 3 * bM X ≤ i then ps (i - 3 * bM X) else bP X i) ≤ 9
    have hi : i < 3 * (bM X + 1) := hi
    split
    · exact hps _ (by omega)
    · exact h7 i (by omega)
  · show (bS X ++ [bM X]).length = bM X + 1
    rw [List.length_append, hlen]; rfl
theorem pc_addX {b : BT} {X : AB} (h : CR b X) (hI : RI X) (h6 : bM X < 6) {k l : Nat} {ps : Nat → Nat} (hp : ∀ j, j < 3 → pl b (3 * bM X + j) = nI (ps j)) {Q : BT → Prop} (hQ : ∀ b', CR b' (addX X k l ps) → Q b') : wp_X6_add b (nI k) (nI l) Q := by
  have hl : (bS X).length ≤ bM X := by rw [hI.2]; exact Nat.le_refl _
  unfold wp_X6_add
  have e1 : mn b = nI (bM X) := h.1
  have e2 : ma b = nI (bS X).length := h.2.1
  rw [e1, e2, nI_clamp (by omega), nI_clamp (by omega), nI_1, nI_1]
  refine ⟨vp_in_nI (by omega) (by omega), fun f2 h2 => ⟨vp_in_nI (by omega) (by omega), fun f4 h4 => ⟨vp_in_nI (by omega) (by omega), fun f6 hf6 v7 h7 v8 h8 => ?_⟩⟩⟩
  refine hQ _ ⟨h8, ?_, h.2.2.1, h.2.2.2.1, fun j hj => ?_, fun j hj => ?_, fun j hj => ?_, fun i hi => ?_⟩
  · show v7 = _
    rw [h7]
    show _ = nI (bS X ++ [bM X]).length
    rw [List.length_append]; rfl
  · show f6 j = nI ((bS X ++ [bM X]).getD j 0)
    have hj : j < (bS X ++ [bM X]).length := hj
    rw [getD_snoc hj, hf6]
    rw [List.length_append] at hj
    split
    case isTrue e => rw [e, pk_us]
    case isFalse e => rw [pk_un e]; exact h.2.2.2.2.1 j (by simp at hj; omega)
  · have hj : j < bM X + 1 := hj
    show f4 j = nI (updN (bL X) (bM X) l j)
    rw [h4]
    by_cases e : j = bM X
    · rw [e, pk_us, updN_s]
    · rw [pk_un e, updN_n e]; exact h.2.2.2.2.2.1 j (by omega)
  · have hj : j < bM X + 1 := hj
    show f2 j = nI (updN (bK X) (bM X) k j)
    rw [h2]
    by_cases e : j = bM X
    · rw [e, pk_us, updN_s]
    · rw [pk_un e, updN_n e]; exact h.2.2.2.2.2.2.1 j (by omega)
  · have hi : i < 3 * (bM X + 1) := hi
    show pl b i = nI (if 3 * bM X ≤ i then ps (i - 3 * bM X) else bP X i)
    split
    case isTrue e =>
      have := hp (i - 3 * bM X) (by omega)
      rw [show 3 * bM X + (i - 3 * bM X) = i by omega] at this
      exact this
    case isFalse e => exact h.2.2.2.2.2.2.2 i (by omega)
theorem MD_addX {f : Nat → Int32} {X : AB} {k l : Nat} {ps : Nat → Nat} (h : MDm f X k l) (hI : RI X) (hp : ∀ j, j < 3 → f (22 + 3 * bM X + j) = nI (ps j)) : MD f (addX X k l ps) := by
  obtain ⟨⟨h1, h2, h3, h4, h5⟩, q1, q2, q3⟩ := h
  refine ⟨h1, fun j hj => ?_, fun j hj => ?_, fun j hj => ?_, fun i hi => ?_⟩
  · show f (10 + j) = nI ((bS X ++ [bM X]).getD j 0)
    have hj : j < (bS X ++ [bM X]).length := hj
    rw [getD_snoc hj]
    rw [List.length_append] at hj
    split
    case isTrue e => rw [e, hI.2]; exact q3
    case isFalse e => exact h2 j (by simp at hj; omega)
  · have hj : j < bM X + 1 := hj
    show f (4 + j) = nI (updN (bL X) (bM X) l j)
    by_cases e : j = bM X
    · rw [e, updN_s]; exact q2
    · rw [updN_n e]; exact h3 j (by omega)
  · have hj : j < bM X + 1 := hj
    show f (16 + j) = nI (updN (bK X) (bM X) k j)
    by_cases e : j = bM X
    · rw [e, updN_s]; exact q1
    · rw [updN_n e]; exact h4 j (by omega)
  · have hi : i < 3 * (bM X + 1) := hi
    show f (22 + i) = nI (if 3 * bM X ≤ i then ps (i - 3 * bM X) else bP X i)
    split
    case isTrue e =>
      have := hp (i - 3 * bM X) (by omega)
      rw [show 22 + 3 * bM X + (i - 3 * bM X) = 22 + i by omega] at this
      exact this
    case isFalse e => exact h5 i (by omega)
/-- the places of one man: where they are at fault, or the place behind them and the places -/
def placesO (o : Nat ⊕ (Nat × (Nat → Nat))) (tp : List Nat) : Prop := match o with
  | .inl _ => True
  | .inr (k, ps) => k ≤ tp.length ∧ ∀ j, j < 3 → ps j ≤ 9
def PlC (o : Nat ⊕ (Nat × (Nat → Nat))) (taped : Int32) (tape : Nat → Int32) (X : AB) (x1 x2 x3 x4 : Int32) (n : Nat) (h : Nat) (k : Nat) (ps : Nat → Nat) : Prop :=
  ∀ (got : BT) (fp : Int32) (Q QX : Int32 × Int32 × BT → Prop), CR got X → (∀ j, j < h → pl got (3 * bM X + j) = nI (ps j)) →
    (match o with | .inl p => ∀ r g, QX (r, nI p, g) | .inr (k', ps') => ∀ got', CR got' X → (∀ j, j < 3 → pl got' (3 * bM X + j) = nI (ps' j)) → wp_X6_add got' x1 x3 (fun u => Q (nI k', fp, u))) →
    wp_X0_readMan_48 taped tape Q QX n (nI k) fp got x1 x2 x3 x4 (nI h)
def PlM (o : Nat ⊕ (Nat × (Nat → Nat))) (X : AB) (kk v h : Nat) (ps : Nat → Nat) (Wm : (Int32 → Int32 × (Nat → Int32) → Prop) → (Nat → Int32) → Prop) : Prop :=
  ∀ (draft : Nat → Int32) (Q : Int32 → Int32 × (Nat → Int32) → Prop), MDm draft X kk v → (∀ j, j < h → draft (22 + 3 * bM X + j) = nI (ps j)) →
    (match o with | .inl p => ∀ d, Q 0 (nI p, d) | .inr (k', ps') => ∀ d, MDm d X kk v → (∀ j, j < 3 → d (22 + 3 * bM X + j) = nI (ps' j)) → Q 1 (nI k', d)) → Wm Q draft
theorem an_told {tape tapeM : Nat → Int32} {taped typed : Int32} {tp : List Nat} (h : TpR tape taped tp) (hM : TpR tapeM typed tp) {X : AB} (hI : RI X) (h6 : bM X < 6) {x1 x2 x3 : Int32} {kk v : Nat} : ∀ (d hh k : Nat) (ps : Nat → Nat), hh + d = 3 → k ≤ tp.length → (∀ j, j < hh → ps j ≤ 9) →
    ∃ o, placesO o tp ∧ PlC o taped tape X x1 x2 x3 1 (d + 1) hh k ps ∧ PlM o X kk v hh ps (fun Q draft => wp_X9_readsMan_238 typed tapeM (nI (bM X)) Q (d + 1) (nI k) draft (nI hh)) := by
  have hl : (bS X).length ≤ bM X := by rw [hI.2]; exact Nat.le_refl _
  intro d
  induction d with
  | zero =>
    intro hh k ps hd hk hps
    have e3 : hh = 3 := by omega
    subst e3
    refine ⟨.inr (k, ps), ⟨hk, hps⟩, fun got fp Q QX hc hp q => ?_, fun draft Q hm hp q => ?_⟩
    · unfold wp_X0_readMan_48
      exact ⟨fun _ => q got hc hp, fun c => absurd (by decide) c⟩
    · show wp_X9_readsMan_238 typed tapeM (nI (bM X)) Q (0 + 1) (nI k) draft (nI 3)
      unfold wp_X9_readsMan_238
      exact ⟨fun _ => q draft hm hp, fun c => absurd (by decide) c⟩
  | succ d ih =>
    intro hh k ps hd hk hps
    obtain ⟨j, h1, h2, h3, h4, h5⟩ := nx h hM _ k hk (Nat.le_refl _)
    have nd : ¬ (3 : Int32) ≤ nI hh := by rw [il3, nI_leI (by omega) (by omega)]; omega
    have i1 : ((3 : Int32) * nI (bM X)) + nI hh = nI (3 * bM X + hh) := by rw [il3, pk_mul, nI_add]
    have i2 : ((22 : Int32) + ((3 : Int32) * nI (bM X))) + nI hh = nI (22 + 3 * bM X + hh) := by rw [il3, il22, pk_mul, nI_add, nI_add]
    by_cases hd2 : digB tp j = true
    case neg =>
      have hd2 : digB tp j = false := by cases e : digB tp j <;> simp_all
      refine ⟨.inl j, trivial, fun got fp Q QX hc hp q => ?_, fun draft Q hm hp q => ?_⟩
      · unfold wp_X0_readMan_48
        refine ⟨fun c => absurd c nd, fun _ => ⟨fun c => absurd c (by decide), fun _ => ?_⟩⟩
        unfold wp_X0_readPlace
        refine h4 _ (fun v3 e3 => ?_)
        rw [e3]
        refine pc_isIn (a := 0) (c := 9) rfl rfl ?_
        rw [lt_dig0 h, hd2]
        exact ⟨fun _ => pc_wrong h h2 h3 (q _ _), fun c => absurd rfl c⟩
      · show wp_X9_readsMan_238 typed tapeM (nI (bM X)) Q (d + 1 + 1) (nI k) draft (nI hh)
        unfold wp_X9_readsMan_238
        refine ⟨fun c => absurd c nd, fun _ => h5 _ (pm_isDigit hM ?_)⟩
        rw [hd2]
        exact ⟨fun _ => q _, fun c => absurd rfl c⟩
    case pos =>
      have hd2' := digB_t.mp hd2
      obtain ⟨p, hp⟩ : ∃ p, p = tp.getD j 0 - 48 := ⟨_, rfl⟩
      have hlp : lt tp j - 48 = nI p := by rw [lt_in hd2'.1, show (48 : Int32) = nI 48 from rfl, pk_sub (by omega), hp]
      by_cases ht : takenB X hh p = true
      case pos =>
        refine ⟨.inl j, trivial, fun got fp Q QX hc hp q => ?_, fun draft Q hm hp q => ?_⟩
        · unfold wp_X0_readMan_48
          refine ⟨fun c => absurd c nd, fun _ => ⟨fun c => absurd c (by decide), fun _ => ?_⟩⟩
          unfold wp_X0_readPlace
          refine h4 _ (fun v3 e3 => ?_)
          rw [e3]
          refine pc_isIn (a := 0) (c := 9) rfl rfl ?_
          rw [lt_dig0 h, hd2, hlp]
          refine ⟨fun c => absurd c (by decide), fun _ => pc_manAt hc hI.1 (by omega) (by omega) (fun r hr => ⟨fun c => ?_, fun _ => pc_wrong h h2 h3 (q _ _)⟩)⟩
          exact absurd (hr.mpr ht) (Int32.not_le.mpr c)
        · show wp_X9_readsMan_238 typed tapeM (nI (bM X)) Q (d + 1 + 1) (nI k) draft (nI hh)
          unfold wp_X9_readsMan_238
          refine ⟨fun c => absurd c nd, fun _ => h5 _ (pm_isDigit hM ?_)⟩
          rw [hd2, hlp]
          refine ⟨fun c => absurd c (by decide), fun _ => pm_isTold hm.1 hI.1 (by omega) (by omega) ?_⟩
          rw [ht]
          exact ⟨fun c => absurd c (by decide), fun _ => q _⟩
      case neg =>
        have ht : takenB X hh p = false := by cases e : takenB X hh p <;> simp_all
        obtain ⟨o, q1, q2, q3⟩ := ih (hh + 1) (j + 1) (updN ps hh p) (by omega) (by omega) (fun i hi => by
          by_cases e : i = hh
          · rw [e, updN_s]; omega
          · rw [updN_n e]; exact hps i (by omega))
        refine ⟨o, q1, fun got fp Q QX hc hpp q => ?_, fun draft Q hm hpp q => ?_⟩
        · unfold wp_X0_readMan_48
          refine ⟨fun c => absurd c nd, fun _ => ⟨fun c => absurd c (by decide), fun _ => ?_⟩⟩
          unfold wp_X0_readPlace
          refine h4 _ (fun v3 e3 => ?_)
          rw [e3]
          refine pc_isIn (a := 0) (c := 9) rfl rfl ?_
          rw [lt_dig0 h, hd2, hlp]
          refine ⟨fun c => absurd c (by decide), fun _ => pc_manAt hc hI.1 (by omega) (by omega) (fun r hr => ⟨fun _ v9 e9 => ?_, fun c => ?_⟩)⟩
          · rw [hc.1, i1, nI_clamp (by omega)]
            refine ⟨vp_in_nI (by omega) (by omega), fun f11 e11 => ?_⟩
            rw [e9, nI_1, e11, nI_1]
            have hc2 := CR_pl (h := hh) (x := nI p) hc
            rw [hc.1] at hc2
            refine q2 _ fp Q QX hc2 (fun i hi => ?_) q
            show upd (pl got) (3 * bM X + hh) (nI p) (3 * bM X + i) = _
            by_cases e : i = hh
            · rw [e, pk_us, updN_s]
            · rw [pk_un (by omega), updN_n e]; exact hpp i (by omega)
          · have : 0 ≤ r := Int32.not_lt.mp c
            rw [hr, ht] at this
            exact absurd this (by decide)
        · show wp_X9_readsMan_238 typed tapeM (nI (bM X)) Q (d + 1 + 1) (nI k) draft (nI hh)
          unfold wp_X9_readsMan_238
          refine ⟨fun c => absurd c nd, fun _ => h5 _ (pm_isDigit hM ?_)⟩
          rw [hd2, hlp]
          refine ⟨fun c => absurd c (by decide), fun _ => pm_isTold hm.1 hI.1 (by omega) (by omega) ?_⟩
          rw [ht]
          refine ⟨fun _ v8 e8 => ?_, fun c => absurd rfl c⟩
          rw [i2, nI_clamp (by omega)]
          refine ⟨vp_in_nI (by omega) (by omega), fun f10 e10 v11 e11 => ?_⟩
          rw [e11, nI_1, nI_1, e10, e8]
          refine q3 _ Q (MDm_pl h6 hl hm) (fun i hi => ?_) q
          by_cases e : i = hh
          · rw [e, pk_us, updN_s]
          · rw [pk_un (by omega), updN_n e]; exact hpp i (by omega)
theorem an_untold {tape tapeM : Nat → Int32} {taped typed : Int32} {tp : List Nat} {X : AB} (hI : RI X) (h6 : bM X < 6) {x1 x3 : Int32} {kk v k lp : Nat} (hk : k ≤ tp.length) : ∀ (d hh : Nat) (ps : Nat → Nat), hh + d = 3 → (∀ j, j < hh → ps j ≤ 9) →
    ∃ o, placesO o tp ∧ PlC o taped tape X x1 (nI lp) x3 0 (d + 1) hh k ps ∧ PlM o X kk v hh ps (fun Q draft => wp_X9_readsMan_178 typed tapeM (nI (bM X)) Q (d + 1) (nI k) draft (nI lp) (nI hh)) := by
  have hl : (bS X).length ≤ bM X := by rw [hI.2]; exact Nat.le_refl _
  intro d
  induction d with
  | zero =>
    intro hh ps hd hps
    have e3 : hh = 3 := by omega
    subst e3
    refine ⟨.inr (k, ps), ⟨hk, hps⟩, fun got fp Q QX hc hp q => ?_, fun draft Q hm hp q => ?_⟩
    · unfold wp_X0_readMan_48
      exact ⟨fun _ => q got hc hp, fun c => absurd (by decide) c⟩
    · show wp_X9_readsMan_178 typed tapeM (nI (bM X)) Q (0 + 1) (nI k) draft (nI lp) (nI 3)
      unfold wp_X9_readsMan_178
      exact ⟨fun _ => q draft hm hp, fun c => absurd (by decide) c⟩
  | succ d ih =>
    intro hh ps hd hps
    have nd : ¬ (3 : Int32) ≤ nI hh := by rw [il3, nI_leI (by omega) (by omega)]; omega
    have i1 : ((3 : Int32) * nI (bM X)) + nI hh = nI (3 * bM X + hh) := by rw [il3, pk_mul, nI_add]
    have i2 : ((22 : Int32) + ((3 : Int32) * nI (bM X))) + nI hh = nI (22 + 3 * bM X + hh) := by rw [il3, il22, pk_mul, nI_add, nI_add]
    by_cases ht : takenB X hh (bM X) = true
    case pos =>
      refine ⟨.inl lp, trivial, fun got fp Q QX hc hp q => ?_, fun draft Q hm hp q => ?_⟩
      · unfold wp_X0_readMan_48
        refine ⟨fun c => absurd c nd, fun _ => ⟨fun _ => ?_, fun c => absurd rfl c⟩⟩
        rw [hc.1]
        refine pc_manAt hc hI.1 (by omega) (by omega) (fun r hr => ⟨fun c => ?_, fun _ => q _ _⟩)
        exact absurd (hr.mpr ht) (Int32.not_le.mpr c)
      · show wp_X9_readsMan_178 typed tapeM (nI (bM X)) Q (d + 1 + 1) (nI k) draft (nI lp) (nI hh)
        unfold wp_X9_readsMan_178
        refine ⟨fun c => absurd c nd, fun _ => pm_isTold hm.1 hI.1 (by omega) (by omega) ?_⟩
        rw [ht]
        exact ⟨fun c => absurd c (by decide), fun _ => q _⟩
    case neg =>
      have ht : takenB X hh (bM X) = false := by cases e : takenB X hh (bM X) <;> simp_all
      obtain ⟨o, q1, q2, q3⟩ := ih (hh + 1) (updN ps hh (bM X)) (by omega) (fun i hi => by
        by_cases e : i = hh
        · rw [e, updN_s]; omega
        · rw [updN_n e]; exact hps i (by omega))
      refine ⟨o, q1, fun got fp Q QX hc hpp q => ?_, fun draft Q hm hpp q => ?_⟩
      · unfold wp_X0_readMan_48
        refine ⟨fun c => absurd c nd, fun _ => ⟨fun _ => ?_, fun c => absurd rfl c⟩⟩
        have hc2 := CR_pl (h := hh) (x := nI (bM X)) hc
        rw [hc.1] at hc2 ⊢
        refine pc_manAt hc hI.1 (by omega) (by omega) (fun r hr => ⟨fun _ => ?_, fun c => ?_⟩)
        · rw [i1, nI_clamp (by omega)]
          refine ⟨vp_in_nI (by omega) (by omega), fun f11 e11 => ?_⟩
          rw [e11, nI_1]
          refine q2 _ fp Q QX hc2 (fun i hi => ?_) q
          show upd (pl got) (3 * bM X + hh) (nI (bM X)) (3 * bM X + i) = _
          by_cases e : i = hh
          · rw [e, pk_us, updN_s]
          · rw [pk_un (by omega), updN_n e]; exact hpp i (by omega)
        · have : 0 ≤ r := Int32.not_lt.mp c
          rw [hr, ht] at this
          exact absurd this (by decide)
      · show wp_X9_readsMan_178 typed tapeM (nI (bM X)) Q (d + 1 + 1) (nI k) draft (nI lp) (nI hh)
        unfold wp_X9_readsMan_178
        refine ⟨fun c => absurd c nd, fun _ => pm_isTold hm.1 hI.1 (by omega) (by omega) ?_⟩
        rw [ht]
        refine ⟨fun _ => ?_, fun c => absurd rfl c⟩
        rw [i2, nI_clamp (by omega)]
        refine ⟨vp_in_nI (by omega) (by omega), fun f10 e10 => ?_⟩
        rw [nI_1, e10]
        refine q3 _ Q (MDm_pl h6 hl hm) (fun i hi => ?_) q
        by_cases e : i = hh
        · rw [e, pk_us, updN_s]
        · rw [pk_un (by omega), updN_n e]; exact hpp i (by omega)
/-- one man -/
def manO (o : Nat ⊕ (Nat × AB)) (tp : List Nat) (X : AB) : Prop := match o with
  | .inl _ => True
  | .inr (k, X') => k ≤ tp.length ∧ RI X' ∧ bM X' = bM X + 1 ∧ bY X' = bY X ∧ bD X' = bD X
theorem an_readMan {tape tapeM : Nat → Int32} {taped typed : Int32} {tp : List Nat} (h : TpR tape taped tp) (hM : TpR tapeM typed tp) {X : AB} (hI : RI X) (h6 : bM X < 6) {k : Nat} (hk : k ≤ tp.length) : ∃ o : Nat ⊕ (Nat × AB), manO o tp X ∧
    (∀ (got : BT) (fp : Int32) (Q QX : Int32 × Int32 × BT → Prop), CR got X → (match o with | .inl p => ∀ r g, QX (r, nI p, g) | .inr (k', X') => ∀ got', CR got' X' → Q (nI k', fp, got')) → wp_X0_readMan taped (nI k) fp tape got Q QX) ∧
    (∀ (draft : Nat → Int32) (Q : Int32 → Int32 × (Nat → Int32) → Prop), MD draft X → (match o with | .inl p => ∀ d, Q 0 (nI p, d) | .inr (k', X') => ∀ d, MD d X' → Q 1 (nI k', d)) → wp_X9_readsMan typed (nI k) tapeM draft (nI (bM X)) Q) := by
  have hl : (bS X).length ≤ bM X := by rw [hI.2]; exact Nat.le_refl _
  obtain ⟨j, h1, h2, h3, h4, h5⟩ := nx h hM _ k hk (Nat.le_refl _)
  obtain ⟨kk, hkk, k4, k5⟩ := an_kindBy (lt tp j)
  have H := h
  obtain ⟨g1, g2, g3, g4⟩ := H
  by_cases hn : kk = -4
  · refine ⟨.inl j, trivial, fun got fp Q QX hc q => ?_, fun draft Q hm q => ?_⟩
    · unfold wp_X0_readMan
      refine h4 _ (k4 _ ?_)
      rw [hn]
      exact ⟨fun c => absurd c (by decide), fun _ => pc_wrong h h2 h3 (q _ _)⟩
    · unfold wp_X9_readsMan
      refine h5 _ (k5 _ ?_)
      exact ⟨fun c => absurd hn c, fun _ => q _⟩
  obtain ⟨kn, hk4, ekk⟩ : ∃ n, n ≤ 4 ∧ kk = nI n := by
    rcases hkk with e | e
    · exact absurd e hn
    · exact e
  have hj : j < tp.length := by
    rcases Nat.lt_or_ge j tp.length with e | e
    · exact e
    · exfalso
      have e1 : lt tp j = -1 := lt_out (by omega)
      have e2 : kk = -4 → False := hn
      refine e2 ?_
      have := k4 (fun r => r = -4) 
      rw [e1] at this k4 k5
      by_cases hq : kk = -4
      · exact hq
      · exfalso
        have w : ∀ Q : Int32 → Prop, wp_X0_kindBy (-1) Q → Q (-4) := by
          intro Q hw
          unfold wp_X0_kindBy at hw
          exact (((((hw.1 (by decide)).1 (by decide)).1 (by decide)).1 (by decide)).1 (by decide))
        exact hq ((w (fun r => kk = r) (k4 _ rfl)))
  subst ekk
  obtain ⟨o1, ho1, c1, m1⟩ := an_life h hM (k := j + 1) (by omega)
  cases o1 with
  | inl p =>
    refine ⟨.inl p, trivial, fun got fp Q QX hc q => ?_, fun draft Q hm q => ?_⟩
    · unfold wp_X0_readMan
      refine h4 _ (k4 _ ⟨fun _ v5 e5 => ?_, fun c => absurd (nI_pos' (by omega)) c⟩)
      rw [e5, nI_1]
      exact c1 _ _ _ (fun r => q _ _)
    · unfold wp_X9_readsMan
      refine h5 _ (k5 _ ⟨fun _ v5 e5 => ?_, fun c => absurd c (nI_ne4 (by omega))⟩)
      rw [e5, nI_1]
      exact m1 _ _ _ _ _ (q _)
  | inr q0 =>
    obtain ⟨k1, v⟩ := q0
    obtain ⟨l1, l2, l3⟩ := ho1
    obtain ⟨j2, t1, t2, t3, t4, t5⟩ := nx h hM _ k1 l1 (Nat.le_refl _)
    -- the model, behind the life
    have M117 : ∀ (draft : Nat → Int32) (x4 : Int32) (Q : Int32 → Int32 × (Nat → Int32) → Prop), MD draft X →
        (∀ f8, MDm f8 X kn v → ((lt tp j2 = 46 → ∃ n, wp_X9_readsMan_238 typed tapeM (nI (bM X)) Q n (nI (j2 + 1)) f8 (nI 0)) ∧ (¬ lt tp j2 = 46 → ∃ n, wp_X9_readsMan_178 typed tapeM (nI (bM X)) Q n (nI j2) f8 (nI j) (nI 0)))) →
        wp_X9_readsMan_117 typed tapeM (nI (bM X)) Q (nI k1) draft (nI kn) (nI j) x4 (nI v) := by
      intro draft x4 Q hm q
      unfold wp_X9_readsMan_117
      refine pm_in ?_
      rw [show (1 : Int32).toInt = 1 by decide, show (60 : Int32).toInt = 60 by decide, show inR (nI v) 1 60 = true from inR_t.mpr (by rw [nI_toInt (by omega)]; omega)]
      refine ⟨fun _ => ?_, fun c => absurd c (by decide)⟩
      rw [il16, il4, il10, nI_add, nI_add, nI_add, nI_clamp (by omega), nI_clamp (by omega), nI_clamp (by omega)]
      refine ⟨vp_in_nI (by omega) (by omega), fun f4 e4 => ⟨vp_in_nI (by omega) (by omega), fun f6 e6 => ⟨vp_in_nI (by omega) (by omega), fun f8 e8 => ?_⟩⟩⟩
      have hm8 : MDm f8 X kn v := by
        obtain ⟨a1, a2, a3, a4, a5⟩ := hm
        have g : ∀ i, i ≠ 16 + bM X → i ≠ 4 + bM X → i ≠ 10 + bM X → f8 i = draft i := fun i b1 b2 b3 => by rw [e8, pk_un b3, e6, pk_un b2, e4, pk_un b1]
        refine ⟨⟨(g _ (by omega) (by omega) (by omega)).trans a1, fun i hi => (g _ (by omega) (by omega) (by omega)).trans (a2 i hi), fun i hi => (g _ (by omega) (by omega) (by omega)).trans (a3 i hi), fun i hi => (g _ (by omega) (by omega) (by omega)).trans (a4 i hi), fun i hi => (g _ (by omega) (by omega) (by omega)).trans (a5 i hi)⟩, ?_, ?_, ?_⟩
        · rw [e8, pk_un (by omega), e6, pk_un (by omega), e4, pk_us]
        · rw [e8, pk_un (by omega), e6, pk_us]
        · rw [e8, pk_us]
      obtain ⟨qa, qb⟩ := q f8 hm8
      refine t5 _ ⟨fun c v12 e12 => ?_, fun c => qb c⟩
      rw [e12, nI_1]
      exact qa c
    by_cases hs : lt tp j2 = 46
    case pos =>
      have hj2 : j2 < tp.length := by
        rcases Nat.lt_or_ge j2 tp.length with e | e
        · exact e
        · rw [lt_out (by omega)] at hs
          exact absurd hs (by decide)
      obtain ⟨o2, ho2, c2, m2⟩ := an_told h hM hI h6 (x1 := nI kn) (x2 := nI j) (x3 := nI v) (kk := kn) (v := v) 3 0 (j2 + 1) (fun _ => 0) (by omega) (by omega) (fun i hi => by omega)
      have C : ∀ (got : BT) (fp : Int32) (Q QX : Int32 × Int32 × BT → Prop), CR got X → wp_X0_readMan_48 taped tape Q QX 4 (nI (j2 + 1)) fp got (nI kn) (nI j) (nI v) 1 (nI 0) → wp_X0_readMan taped (nI k) fp tape got Q QX := by
        intro got fp Q QX hc q
        unfold wp_X0_readMan
        refine h4 _ (k4 _ ⟨fun _ v5 e5 => ?_, fun c => absurd (nI_pos' (by omega)) c⟩)
        rw [e5, nI_1]
        refine c1 _ _ _ ?_
        unfold wp_X0_isSign
        refine t4 _ ⟨fun _ v4 e4 => ⟨4, ?_⟩, fun c => absurd hs c⟩
        rw [e4, nI_1]
        exact q
      have Mo : ∀ (draft : Nat → Int32) (Q : Int32 → Int32 × (Nat → Int32) → Prop), MD draft X → (∀ f8, MDm f8 X kn v → wp_X9_readsMan_238 typed tapeM (nI (bM X)) Q 4 (nI (j2 + 1)) f8 (nI 0)) → wp_X9_readsMan typed (nI k) tapeM draft (nI (bM X)) Q := by
        intro draft Q hm q
        unfold wp_X9_readsMan
        refine h5 _ (k5 _ ⟨fun _ v5 e5 => ?_, fun c => absurd c (nI_ne4 (by omega))⟩)
        rw [e5, nI_1]
        refine m1 _ _ _ _ _ (fun x4 => ?_)
        exact M117 draft x4 Q hm (fun f8 hf8 => ⟨fun _ => ⟨4, q f8 hf8⟩, fun c => absurd hs c⟩)
      cases o2 with
      | inl p =>
        refine ⟨.inl p, trivial, fun got fp Q QX hc q => C got fp Q QX hc (c2 got fp Q QX hc (fun i hi => by omega) q), fun draft Q hm q => Mo draft Q hm (fun f8 hf8 => m2 f8 Q hf8 (fun i hi => by omega) q)⟩
      | inr q2 =>
        obtain ⟨k3, ps⟩ := q2
        obtain ⟨z1, z2⟩ := ho2
        obtain ⟨r1, r2, r3, r4⟩ := RI_addX hI h6 hk4 l2 l3 z2
        refine ⟨.inr (k3, addX X kn v ps), ⟨z1, r1, r3, r2, r4⟩, fun got fp Q QX hc q => C got fp Q QX hc (c2 got fp Q QX hc (fun i hi => by omega) (fun got' hc' hp' => pc_addX hc' hI h6 hp' (fun b' hb' => q b' hb'))), fun draft Q hm q => Mo draft Q hm (fun f8 hf8 => m2 f8 Q hf8 (fun i hi => by omega) (fun d hd hp' => q d (MD_addX hd hI hp')))⟩
    case neg =>
      obtain ⟨o2, ho2, c2, m2⟩ := an_untold (tape := tape) (tapeM := tapeM) (taped := taped) (typed := typed) (tp := tp) hI h6 (x1 := nI kn) (x3 := nI v) (kk := kn) (v := v) (k := j2) (lp := j) t2 3 0 (fun _ => 0) (by omega) (fun i hi => by omega)
      have C : ∀ (got : BT) (fp : Int32) (Q QX : Int32 × Int32 × BT → Prop), CR got X → wp_X0_readMan_48 taped tape Q QX 4 (nI j2) fp got (nI kn) (nI j) (nI v) 0 (nI 0) → wp_X0_readMan taped (nI k) fp tape got Q QX := by
        intro got fp Q QX hc q
        unfold wp_X0_readMan
        refine h4 _ (k4 _ ⟨fun _ v5 e5 => ?_, fun c => absurd (nI_pos' (by omega)) c⟩)
        rw [e5, nI_1]
        refine c1 _ _ _ ?_
        unfold wp_X0_isSign
        exact t4 _ ⟨fun c => absurd c hs, fun _ => ⟨4, q⟩⟩
      have Mo : ∀ (draft : Nat → Int32) (Q : Int32 → Int32 × (Nat → Int32) → Prop), MD draft X → (∀ f8, MDm f8 X kn v → wp_X9_readsMan_178 typed tapeM (nI (bM X)) Q 4 (nI j2) f8 (nI j) (nI 0)) → wp_X9_readsMan typed (nI k) tapeM draft (nI (bM X)) Q := by
        intro draft Q hm q
        unfold wp_X9_readsMan
        refine h5 _ (k5 _ ⟨fun _ v5 e5 => ?_, fun c => absurd c (nI_ne4 (by omega))⟩)
        rw [e5, nI_1]
        refine m1 _ _ _ _ _ (fun x4 => ?_)
        exact M117 draft x4 Q hm (fun f8 hf8 => ⟨fun c => absurd c hs, fun _ => ⟨4, q f8 hf8⟩⟩)
      cases o2 with
      | inl p =>
        refine ⟨.inl p, trivial, fun got fp Q QX hc q => C got fp Q QX hc (c2 got fp Q QX hc (fun i hi => by omega) q), fun draft Q hm q => Mo draft Q hm (fun f8 hf8 => m2 f8 Q hf8 (fun i hi => by omega) q)⟩
      | inr q2 =>
        obtain ⟨k3, ps⟩ := q2
        obtain ⟨z1, z2⟩ := ho2
        obtain ⟨r1, r2, r3, r4⟩ := RI_addX hI h6 hk4 l2 l3 z2
        refine ⟨.inr (k3, addX X kn v ps), ⟨z1, r1, r3, r2, r4⟩, fun got fp Q QX hc q => C got fp Q QX hc (c2 got fp Q QX hc (fun i hi => by omega) (fun got' hc' hp' => pc_addX hc' hI h6 hp' (fun b' hb' => q b' hb'))), fun draft Q hm q => Mo draft Q hm (fun f8 hf8 => m2 f8 Q hf8 (fun i hi => by omega) (fun d hd hp' => q d (MD_addX hd hI hp')))⟩
/-- all men -/
def allO (o : Nat ⊕ AB) (X : AB) : Prop := match o with
  | .inl _ => True
  | .inr X' => RI X' ∧ bY X' = bY X ∧ bD X' = bD X
theorem an_readAll {tape tapeM : Nat → Int32} {taped typed : Int32} {tp : List Nat} {now : BT} (h : TpR tape taped tp) (hM : TpR tapeM typed tp) : ∀ (d : Nat) (X : AB) (k : Nat), RI X → bM X + d = 6 → 1 ≤ d → k ≤ tp.length → ∃ o : Nat ⊕ AB, allO o X ∧
    (∀ (got : BT) (fp : Int32) (Q QX K : Int32 × Int32 × BT → Prop), CR got X → (∀ u : Int32 × Int32 × BT, wp_X0_readBench_27 taped now tape Q QX d u.1 u.2.1 u.2.2 → K u) → (match o with | .inl p => ∀ r g, QX (r, nI p, g) | .inr X' => ∀ r f g, CR g X' → Q (r, f, g)) →
      wp_X0_readMan taped (nI k) fp tape got K (fun u => QX (u.1, u.2.1, u.2.2))) ∧
    (∀ (draft : Nat → Int32) (Q : Int32 → Int32 × (Nat → Int32) → Prop), MD draft X → (match o with | .inl p => ∀ g, Q (-1) (nI p, g) | .inr X' => ∀ r g, MD g X' → Q (nI (bM X')) (r, g)) → wp_X9_readsAll_7 typed tapeM Q (d + 1) (nI k) draft (nI (bM X))) := by
  intro d
  induction d with
  | zero => intro X k _ _ hd; omega
  | succ d ih =>
    intro X k hI hmd _ hk
    have h6 : bM X < 6 := by omega
    have n6 : ¬ (6 : Int32) ≤ nI (bM X) := by rw [il6, nI_leI (by omega) (by omega)]; omega
    obtain ⟨o1, ho1, c1, m1⟩ := an_readMan h hM hI h6 hk
    cases o1 with
    | inl p =>
      refine ⟨.inl p, trivial, fun got fp Q QX K hc hK q => c1 _ _ _ _ hc (fun r g => q r g), fun draft Q hm q => ?_⟩
      unfold wp_X9_readsAll_7
      exact ⟨fun c => absurd c n6, fun _ => m1 _ _ hm (fun g => ⟨fun c => absurd rfl c, fun _ => q g⟩)⟩
    | inr q0 =>
      obtain ⟨k1, X1⟩ := q0
      obtain ⟨a1, a2, a3, a4, a5⟩ := ho1
      obtain ⟨j, t1, t2, t3, t4, t5⟩ := nx h hM _ k1 a1 (Nat.le_refl _)
      have hM1 := a2.1.1
      have mo : ∀ (draft : Nat → Int32) (Q : Int32 → Int32 × (Nat → Int32) → Prop), MD draft X → (∀ g, MD g X1 → (((0 ≤ lt tp j) → ((¬ (lt tp j = (44 : Int32)) → Q (-1 : Int32) (nI j, g)) ∧ ((lt tp j = (44 : Int32)) → ((¬ (nI (bM X1) = (6 : Int32)) → wp_X9_readsAll_7 typed tapeM Q (d + 1) (nI (j + 1)) g (nI (bM X1))) ∧ ((nI (bM X1) = (6 : Int32)) → Q (-1 : Int32) (nI j, g)))))) ∧ (¬ (0 ≤ lt tp j) → Q (nI (bM X1)) (nI j, g)))) → wp_X9_readsAll_7 typed tapeM Q (d + 1 + 1) (nI k) draft (nI (bM X)) := by
        intro draft Q hm q
        unfold wp_X9_readsAll_7
        refine ⟨fun c => absurd c n6, fun _ => m1 _ _ hm (fun g hg => ⟨fun _ => t5 _ ?_, fun c => absurd c (by decide)⟩)⟩
        have e1 : nI (bM X) + 1 = nI (bM X1) := by rw [nI_1, a3]
        dsimp only
        rw [e1]
        obtain ⟨qa, qb⟩ := q g hg
        refine ⟨fun c => ⟨(qa c).1, fun c2 => ⟨fun c3 v10 e10 => ?_, ((qa c).2 c2).2⟩⟩, qb⟩
        rw [e10, nI_1]
        exact ((qa c).2 c2).1 c3
      have co : ∀ (got : BT) (fp : Int32) (Q QX K : Int32 × Int32 × BT → Prop), CR got X → (∀ u : Int32 × Int32 × BT, wp_X0_readBench_27 taped now tape Q QX (d + 1) u.1 u.2.1 u.2.2 → K u) → ((∀ g, CR g X1 → wp_X0_readBench_27 taped now tape Q QX (d + 1) (nI k1) fp g)) → wp_X0_readMan taped (nI k) fp tape got K (fun u => QX (u.1, u.2.1, u.2.2)) := by
        intro got fp Q QX K hc hK q
        exact c1 _ _ _ _ hc (fun g hg => hK (nI k1, fp, g) (q g hg))
      -- the end of the component's loop
      have fin : ∀ (fp : Int32) (g : BT) (Q QX : Int32 × Int32 × BT → Prop) (i : Nat), i ≤ tp.length → (∀ Q' : Int32 → Int32 → Prop, Q' (lt tp j) (nI j) → wp_X0_nextLetter taped (nI i) tape Q') → (lt tp j < 0 → Q (nI j, fp, g)) → (¬ lt tp j < 0 → QX (nI j, nI j, g)) → wp_X0_nextLetter taped (nI i) tape (fun r_2 u_3 => (((r_2 < 0) → Q (u_3, fp, g)) ∧ (¬ (r_2 < 0) → wp_X0_wrong taped u_3 fp tape (fun u_5 => QX (u_5.1, u_5.2, g))))) := by
        intro fp g Q QX i hi hn q1 q2
        exact hn _ ⟨q1, fun c => pc_wrong h t2 t3 (q2 c)⟩
      have stay : ∀ Q' : Int32 → Int32 → Prop, Q' (lt tp j) (nI j) → wp_X0_nextLetter taped (nI j) tape Q' := fun Q' hq => pc_stay h t2 t3 hq
      -- one turn of the component's loop where no sign stands
      have noC : (¬ lt tp j = 44 ∨ bM X1 = 6) → ∀ (fp : Int32) (g : BT) (Q QX : Int32 × Int32 × BT → Prop), CR g X1 → (lt tp j < 0 → Q (nI j, fp, g)) → (¬ lt tp j < 0 → QX (nI j, nI j, g)) → wp_X0_readBench_27 taped now tape Q QX (d + 1) (nI k1) fp g := by
        intro hno fp g Q QX hg q1 q2
        unfold wp_X0_readBench_27
        rw [hg.1]
        refine ⟨fun _ => fin fp g Q QX k1 a1 t4 q1 q2, fun c => ?_⟩
        rw [il6] at c
        simp (disch := omega) only [il0, il1, il2, il3, il4, il5, il6, il7, il8, il9, il10, il15, il16, il22, il24, il30, il31, il40, il41, il60, il70, il146, il161, il9999, pk_mul, nI_add, pk_sub, nI_clamp, nI_leI, nI_ltI, nI_eq] at c
        unfold wp_X0_isSign
        refine t4 _ ⟨fun c2 => ?_, fun _ => ⟨fun _ => fin fp g Q QX j t2 stay q1 q2, fun c => absurd rfl c⟩⟩
        rcases hno with e | e
        · exact absurd c2 e
        · omega
      by_cases hj : j < tp.length
      case neg =>
        have e1 : lt tp j = -1 := lt_out hj
        refine ⟨.inr X1, ⟨a2, a4, a5⟩, fun got fp Q QX K hc hK q => co got fp Q QX K hc hK (fun g hg => noC (Or.inl (by rw [e1]; decide)) fp g Q QX hg (fun _ => q _ _ _ hg) (fun c => absurd (by rw [e1]; decide) c)), fun draft Q hm q => mo draft Q hm (fun g hg => ⟨fun c => ?_, fun _ => q _ _ hg⟩)⟩
        rw [e1] at c
        exact absurd c (by decide)
      case pos =>
        have hx := h.le hj
        have e1 : lt tp j = nI (tp.getD j 0) := lt_in hj
        have p0 : 0 ≤ lt tp j := by rw [e1]; exact nI_pos' (by omega)
        have p1 : ¬ lt tp j < 0 := Int32.not_lt.mpr p0
        by_cases hs : lt tp j = 44 ∧ bM X1 < 6
        case neg =>
          have hno : ¬ lt tp j = 44 ∨ bM X1 = 6 := by
            by_cases e : lt tp j = 44
            · right
              have : ¬ bM X1 < 6 := fun h9 => hs ⟨e, h9⟩
              omega
            · exact Or.inl e
          refine ⟨.inl j, trivial, fun got fp Q QX K hc hK q => co got fp Q QX K hc hK (fun g hg => noC hno fp g Q QX hg (fun c => absurd c p1) (fun _ => q _ _)), fun draft Q hm q => mo draft Q hm (fun g hg => ⟨fun _ => ⟨fun _ => q _, fun c2 => ⟨fun c3 => ?_, fun _ => q _⟩⟩, fun c => absurd p0 c⟩)⟩
          rcases hno with e | e
          · exact absurd c2 e
          · exact absurd (by rw [e]; rfl) c3
        case pos =>
          obtain ⟨o2, ho2, c2, m2⟩ := ih X1 (j + 1) a2 (by omega) (by omega) (by omega)
          have n6' : ¬ (6 : Int32) ≤ nI (bM X1) := by rw [il6, nI_leI (by omega) (by omega)]; omega
          refine ⟨o2, ?_, fun got fp Q QX K hc hK q => co got fp Q QX K hc hK (fun g hg => ?_), fun draft Q hm q => mo draft Q hm (fun g hg => ⟨fun _ => ⟨fun c => absurd hs.1 c, fun _ => ⟨fun _ => m2 g Q hg q, fun c => ?_⟩⟩, fun c => absurd p0 c⟩)⟩
          · cases o2 with
            | inl => trivial
            | inr X2 => exact ⟨ho2.1, ho2.2.1.trans a4, ho2.2.2.trans a5⟩
          · have hn := c2 g fp Q QX _ hg (fun u hu => hu) q
            unfold wp_X0_readBench_27
            rw [hg.1]
            refine ⟨fun c => absurd c n6', fun _ => ?_⟩
            unfold wp_X0_isSign
            refine t4 _ ⟨fun _ v4 e4 => ⟨fun c => absurd c (by decide), fun _ => ?_⟩, fun c => absurd hs.1 c⟩
            rw [e4, nI_1]
            exact hn
          · have := (nI_eq (a := bM X1) (b := 6) (by omega) (by omega)).mp c
            omega
/-- a bench is read -/
def readO (o : Nat ⊕ AB) : Prop := match o with
  | .inl _ => True
  | .inr X' => InvP X' []
theorem an_read {tape tapeM : Nat → Int32} {taped typed : Int32} {tp : List Nat} {now : BT} {sv : Nat → Int32} {B : AB} (h : TpR tape taped tp) (hM : TpR tapeM typed tp) (hc : CR now B) (hm : MR sv B) (hI : Inv B) : ∃ o : Nat ⊕ AB, readO o ∧
    (∀ (reads um fp : Int32) (got : BT) (Q : Int32 → Int32 × Int32 × Int32 × BT × Int32 × BT → Prop), (match o with | .inl p => ∀ r f g, Q ((-20 : Int32) - nI p) (0, r, um, now, f, g) | .inr X' => ∀ r b f g, CR b X' → Q (nI (bM X')) (0, r, 0, b, f, g)) → wp_X0_read taped reads um now fp tape got Q) ∧
    (∀ (atv : Int32) (draft : Nat → Int32) (Q : Int32 → Int32 × Int32 × (Nat → Int32) × (Nat → Int32) → Prop), (match o with | .inl p => ∀ a d, Q ((-20 : Int32) - nI p) (0, a, sv, d) | .inr X' => ∀ a s d, MR s X' → s 40 = 0 → Q (nI (bM X')) (0, a, s, d)) → wp_X9_read typed atv sv tapeM draft Q) := by
  obtain ⟨X0, hX0⟩ : ∃ X0 : AB, X0 = (0, [], 0, bD B, fun _ => 0, fun _ => 0, fun _ => 0) := ⟨_, rfl⟩
  have hM0 : bM X0 = 0 := by rw [hX0]
  have hS0 : bS X0 = [] := by rw [hX0]
  have hY0 : bY X0 = 0 := by rw [hX0]
  have hD0 : bD X0 = bD B := by rw [hX0]
  have hR0 : RI X0 := by
    refine ⟨⟨by omega, by rw [hS0]; exact List.nodup_nil, fun x hx => ?_, fun x hx => ?_, fun m hm => ?_, fun m hm => ?_, fun i hi => ?_, by omega, by rw [hD0]; exact hI.2.2.2.2.2.2.2.2⟩, by rw [hS0, hM0]; rfl⟩
    · rw [hS0] at hx; cases hx
    · rw [hS0] at hx; cases hx
    · omega
    · omega
    · omega
  obtain ⟨o, ho, c1, m1⟩ := an_readAll (now := now) h hM 6 X0 0 hR0 (by omega) (by omega) (by omega)
  have bC : ∀ (reads fp : Int32) (got : BT) (Q QX : Int32 × Int32 × BT → Prop), (match (generalizing := false) o with | .inl p => ∀ r g, QX (r, nI p, g) | .inr X' => ∀ r f g, CR g X' → Q (r, f, g)) → wp_X0_readBench taped reads now fp tape got Q QX := by
    intro reads fp got Q QX q
    unfold wp_X0_readBench
    refine pc_takeFromI hc hI (fun b' hb' => ?_)
    unfold wp_X6_begin
    refine c1 _ fp Q QX _ ?_ (fun u hu => ⟨6, hu⟩) q
    obtain ⟨b1, b2, b3, b4, b5, b6, b7, b8⟩ := hb'
    refine ⟨by rw [hM0]; rfl, by rw [hS0]; rfl, by rw [hY0]; rfl, by rw [hD0]; exact b4, fun k hk => ?_, fun k hk => ?_, fun k hk => ?_, fun k hk => ?_⟩
    · rw [hS0] at hk; exact absurd hk (Nat.not_lt_zero _)
    · omega
    · omega
    · omega
  have bM' : ∀ (atv : Int32) (draft : Nat → Int32) (Q : Int32 → Int32 × Int32 × (Nat → Int32) × (Nat → Int32) → Prop), (∀ g, MD g X0 → wp_X9_readsAll typed atv tapeM g (fun r_2 u_3 => (((0 ≤ r_2) → (∀ v_5 : Int32, v_5 = (sv 3) → (∃ j_ : Nat, wp_X9_read_52 tapeM Q j_ (0 : Int32) u_3.1 sv u_3.2 r_2 v_5 (0 : Int32)))) ∧ (¬ (0 ≤ r_2) → Q ((-20 : Int32) - u_3.1) ((0 : Int32), u_3.1, sv, u_3.2))))) → wp_X9_read typed atv sv tapeM draft Q := by
    intro atv draft Q q
    unfold wp_X9_read
    refine loop_0 (σ := Nat → Int32) (fun n i t => wp_X9_read_2 tapeM Q n typed atv sv t (nI i)) (fun k t => ∀ i, i < k → t i = 0) 40 draft (fun i hi => by omega) ?_ ?_
    · intro n t ht
      unfold wp_X9_read_2
      refine ⟨fun _ => q t ?_, fun c => by simp (disch := omega) only [il0, il1, il2, il3, il4, il5, il6, il7, il8, il9, il10, il15, il16, il22, il24, il30, il31, il40, il41, il60, il70, il146, il161, il9999, pk_mul, nI_add, pk_sub, nI_clamp, nI_leI, nI_ltI, nI_eq] at c; omega⟩
      refine ⟨by rw [hY0]; exact ht 2 (by omega), fun k hk => ?_, fun k hk => ?_, fun k hk => ?_, fun k hk => ?_⟩
      · rw [hS0] at hk; exact absurd hk (Nat.not_lt_zero _)
      · omega
      · omega
      · omega
    · intro n k t hk ht ih
      unfold wp_X9_read_2
      rw [nI_clamp (by omega), nI_1]
      refine ⟨fun c => by simp (disch := omega) only [il0, il1, il2, il3, il4, il5, il6, il7, il8, il9, il10, il15, il16, il22, il24, il30, il31, il40, il41, il60, il70, il146, il161, il9999, pk_mul, nI_add, pk_sub, nI_clamp, nI_leI, nI_ltI, nI_eq] at c; omega, fun _ => ⟨vp_in_nI hk (by omega), fun f7 e7 => ih f7 (fun i hi => ?_)⟩⟩
      rw [e7]
      by_cases e : i = k
      · rw [e, pk_us]
      · rw [pk_un e]; exact ht i (by omega)
  cases o with
  | inl p =>
    refine ⟨.inl p, trivial, fun reads um fp got Q q => ?_, fun atv draft Q q => bM' atv draft Q (fun g hg => ?_)⟩
    · unfold wp_X0_read
      exact bC _ _ _ _ _ (fun r g => q _ _ _)
    · refine ⟨7, ?_⟩
      have := m1 g (fun r_2 u_3 => (((0 ≤ r_2) → (∀ v_5 : Int32, v_5 = (sv 3) → (∃ j_ : Nat, wp_X9_read_52 tapeM Q j_ (0 : Int32) u_3.1 sv u_3.2 r_2 v_5 (0 : Int32)))) ∧ (¬ (0 ≤ r_2) → Q ((-20 : Int32) - u_3.1) ((0 : Int32), u_3.1, sv, u_3.2)))) hg (fun d => ⟨fun c => absurd c (by decide), fun _ => q _ _⟩)
      rw [hM0] at this
      exact this
  | inr X1 =>
    obtain ⟨r1, r2, r3⟩ := ho
    have hl1 : (bS X1).length ≤ 6 := by rw [r1.2]; exact r1.1.1
    refine ⟨.inr X1, ⟨r1.1, by omega, fun Y hY => by cases hY⟩, fun reads um fp got Q q => ?_, fun atv draft Q q => bM' atv draft Q (fun g hg => ?_)⟩
    · unfold wp_X0_read
      refine bC _ _ _ _ _ (fun r f g hg => pc_takeFromI hg r1.1 (fun b' hb' => ?_))
      rw [hb'.1]
      exact q _ _ _ _ hb'
    · refine ⟨7, ?_⟩
      have := m1 g (fun r_2 u_3 => (((0 ≤ r_2) → (∀ v_5 : Int32, v_5 = (sv 3) → (∃ j_ : Nat, wp_X9_read_52 tapeM Q j_ (0 : Int32) u_3.1 sv u_3.2 r_2 v_5 (0 : Int32)))) ∧ (¬ (0 ≤ r_2) → Q ((-20 : Int32) - u_3.1) ((0 : Int32), u_3.1, sv, u_3.2)))) hg (fun r d hd => ⟨fun _ v5 e5 => ?_, fun c => absurd (nI_pos' (by have := r1.1.1; omega)) c⟩)
      · rw [hM0] at this
        exact this
      · refine loop_0 (σ := Nat → Int32) (fun n i t => wp_X9_read_52 tapeM Q n 0 r t d (nI (bM X1)) v5 (nI i)) (fun k t => ∀ i, i < k → t i = d i) 40 sv (fun i hi => by omega) ?_ ?_
        · intro n t ht
          unfold wp_X9_read_52
          refine ⟨fun _ f2 e2 f3 e3 f4 e4 f5 e5' => q _ f5 _ ?_ ?_, fun c => by simp (disch := omega) only [il0, il1, il2, il3, il4, il5, il6, il7, il8, il9, il10, il15, il16, il22, il24, il30, il31, il40, il41, il60, il70, il146, il161, il9999, pk_mul, nI_add, pk_sub, nI_clamp, nI_leI, nI_ltI, nI_eq] at c; omega⟩
          · have h6 := r1.1.1
            have g : ∀ i, i ≠ 0 → i ≠ 1 → i ≠ 3 → i < 40 → f5 i = d i := fun i b0 b1 b3 b4 => by rw [e5', pk_un (by omega), e4, pk_un b3, e3, pk_un b1, e2, pk_un b0]; exact ht i b4
            obtain ⟨a1, a2, a3, a4, a5⟩ := hd
            refine ⟨?_, ?_, (g 2 (by omega) (by omega) (by omega) (by omega)).trans a1, ?_, fun k hk => (g _ (by omega) (by omega) (by omega) (by omega)).trans (a2 k hk), fun k hk => (g _ (by omega) (by omega) (by omega) (by omega)).trans (a3 k hk), fun k hk => (g _ (by omega) (by omega) (by omega) (by omega)).trans (a4 k hk), fun k hk => (g _ (by omega) (by omega) (by omega) (by omega)).trans (a5 k hk)⟩
            · rw [e5', pk_un (by omega), e4, pk_un (by omega), e3, pk_un (by omega), e2, pk_us]
            · rw [e5', pk_un (by omega), e4, pk_un (by omega), e3, pk_us, r1.2]
            · rw [e5', pk_un (by omega), e4, pk_us, e5, r3, hD0]; exact hm.2.2.2.1
          · rw [e5', pk_us]
        · intro n k t hk ht ih
          unfold wp_X9_read_52
          rw [nI_clamp (by omega), nI_1]
          refine ⟨fun c => by simp (disch := omega) only [il0, il1, il2, il3, il4, il5, il6, il7, il8, il9, il10, il15, il16, il22, il24, il30, il31, il40, il41, il60, il70, il146, il161, il9999, pk_mul, nI_add, pk_sub, nI_clamp, nI_leI, nI_ltI, nI_eq] at c; omega, fun _ => ⟨vp_in_nI hk (by omega), fun v7 e7 => ⟨vp_in_nI (by omega) (by omega), fun f9 e9 => ih f9 (fun i hi => ?_)⟩⟩⟩
          rw [e9]
          by_cases e : i = k
          · rw [e, pk_us, e7]
          · rw [pk_un e]; exact ht i (by omega)
