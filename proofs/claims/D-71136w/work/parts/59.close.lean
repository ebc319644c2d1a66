/-! pure: close; life of all; wrong pairs -/
set_option maxRecDepth 100000
def byB (m o : Nat) (B : AB) : Bool := hasB (sitI B m) o
theorem pc_closeL {a : BT} {B : AB} (ha : CR a B) (hI : Inv B) {m o : Nat} (hm : m < 6) {Q : Int32 → BT × (Nat → Int32) × BT → Prop} : ∀ (d k : Nat) (B1 : AB) (b1 : BT) (f1 : Nat → Int32), k + d = 60 → CR b1 B1 → Inv B1 → bY B1 + d ≤ 10100 → (∀ b' f', CR b' B → Q (fstI (byB m o) d k B1) (b', f', a)) → wp_X0_close_36 (nI m) (nI o) Q (d + 1) b1 f1 a (nI k) := by
  intro d
  induction d with
  | zero =>
    intro k B1 b1 f1 hk h1 hI1 hy hQ
    unfold wp_X0_close_36 wp_X0_close_67
    refine pc_sitSet h1 hI1 hm (pc_has ⟨fun c => ?_, fun c => ⟨fun c2 => ?_, fun c2 => by simp (disch := omega) only [il0, il1, il2, il3, il4, il5, il6, il7, il8, il9, il10, il15, il16, il22, il24, il30, il31, il40, il41, il60, il70, il146, il161, il9999, pk_mul, nI_add, pk_sub, nI_clamp, nI_leI, nI_ltI, nI_eq] at c2; omega⟩⟩)
    · refine pc_sitSet h1 hI1 hm (pc_has (pc_takeFromI ha hI (fun b' hb' => ⟨fun c2 => absurd c2 c, fun _ => ?_⟩)))
      rw [b2i_n0] at c
      exact fstI_t (d := 0) (show byB m o B1 = true from c) ▸ hQ b' f1 hb'
    · refine pc_sitSet h1 hI1 hm (pc_has (pc_takeFromI ha hI (fun b' hb' => ⟨fun _ => ?_, fun c2 => absurd c c2⟩)))
      rw [b2i_0] at c
      exact fstI_f0 (k := k) (show byB m o B1 = false from c) ▸ hQ b' f1 hb'
  | succ d ih =>
    intro k B1 b1 f1 hk h1 hI1 hy hQ
    unfold wp_X0_close_36 wp_X0_close_67
    refine pc_sitSet h1 hI1 hm (pc_has ⟨fun c => ?_, fun c => ⟨fun c2 => by simp (disch := omega) only [il0, il1, il2, il3, il4, il5, il6, il7, il8, il9, il10, il15, il16, il22, il24, il30, il31, il40, il41, il60, il70, il146, il161, il9999, pk_mul, nI_add, pk_sub, nI_clamp, nI_leI, nI_ltI, nI_eq] at c2; omega, fun c2 => ?_⟩⟩)
    · refine pc_sitSet h1 hI1 hm (pc_has (pc_takeFromI ha hI (fun b' hb' => ⟨fun c2 => absurd c2 c, fun _ => ?_⟩)))
      rw [b2i_n0] at c
      exact fstI_t (d := d + 1) (show byB m o B1 = true from c) ▸ hQ b' f1 hb'
    · rw [b2i_0] at c
      rw [fstI_fs (show byB m o B1 = false from c)] at hQ
      refine pc_oneYear h1 hI1 (fun b' f' hb' => ?_)
      rw [nI_1]
      exact ih (k + 1) (yearB B1) b' f' (by omega) hb' (Inv_year hI1 (by omega)) (by show bY B1 + 1 + d ≤ 10100; omega) hQ
def closeI (B : AB) (p1 p2 : Int32) : Int32 := if (inR p1 0 ((bM B : Int) - 1) && inR p2 0 ((bM B : Int) - 1) && decide (¬ p1 = p2)) = true then fstI (byB p1.toNatClampNeg p2.toNatClampNeg) 60 0 B else (-1)
theorem pc_close {b a : BT} {B : AB} (h : CR b B) (hI : Inv B) (hy : bY B ≤ 9999) {f : Nat → Int32} {p1 p2 : Int32} {Q : Int32 → BT × (Nat → Int32) × BT → Prop} (hQ : ∀ b' f' a', CR b' B → Q (closeI B p1 p2) (b', f', a')) : wp_X0_close b f a p1 p2 Q := by
  have h6 := hI.1
  unfold wp_X0_close
  refine pc_isMan h hI ⟨fun c => ?_, fun c => pc_isMan h hI ⟨fun c2 => ?_, fun c2 => ⟨fun c3 => ?_, fun c3 => ?_⟩⟩⟩
  · rw [b2i_0] at c
    have e : closeI B p1 p2 = -1 := by simp [closeI, c]
    exact e ▸ hQ b f a h
  · rw [b2i_0] at c2
    have e : closeI B p1 p2 = -1 := by simp [closeI, c2]
    exact e ▸ hQ b f a h
  · rw [b2i_n0] at c c2
    have e : closeI B p1 p2 = fstI (byB p1.toNatClampNeg p2.toNatClampNeg) 60 0 B := by rw [closeI, if_pos (by simp [c, c2, c3])]
    rw [e] at hQ
    obtain ⟨m, hm, rfl⟩ := inR_nI (by omega) c
    obtain ⟨o, ho, rfl⟩ := inR_nI (by omega) c2
    rw [nI_clamp (by omega), nI_clamp (by omega)] at hQ
    exact pc_takeFromI h hI (fun a' ha' => ⟨61, pc_closeL ha' hI (by omega) 60 0 B b f rfl h hI (by omega) (fun b' f' hb' => hQ b' f' a' hb')⟩)
  · have e : closeI B p1 p2 = -1 := by simp [closeI, c3]
    exact e ▸ hQ b f a h
theorem pm_closeL {s a : Nat → Int32} {B : AB} (h : MR s B) (ha : ∀ i, i < 40 → a i = s i) (hI : Inv B) {m o : Nat} (hm : m < 6) {Q : Int32 → (Nat → Int32) × (Nat → Int32) × (Nat → Int32) → Prop} : ∀ (d k : Nat) (B1 : AB) (s1 f1 : Nat → Int32), k + d = 60 → MR s1 B1 → Inv B1 → (∀ i, 40 ≤ i → s1 i = s i) → bY B1 + d + 1 ≤ 10100 → (∀ s' f', MR s' B → (∀ i, 40 ≤ i → s' i = s i) → Q (fstI (byB m o) d k B1) (s', f', a)) → wp_X9_close_29 (nI m) (nI o) Q (d + 2) s1 f1 a (nI k) := by
  intro d
  induction d with
  | zero =>
    intro k B1 s1 f1 hk h1 hI1 hs hy hQ
    unfold wp_X9_close_29
    refine ⟨fun c => by simp (disch := omega) only [il0, il1, il2, il3, il4, il5, il6, il7, il8, il9, il10, il15, il16, il22, il24, il30, il31, il40, il41, il60, il70, il146, il161, il9999, pk_mul, nI_add, pk_sub, nI_clamp, nI_leI, nI_ltI, nI_eq] at c; omega, fun _ => pm_allSitBy h1 hI1 hm (pm_has ⟨fun c => ?_, fun c => ?_⟩)⟩
    · rw [b2i_n0] at c
      refine pm_lets (fun s' g1 g2 => ⟨fun _ => ?_, fun c => by simp (disch := omega) only [il0, il1, il2, il3, il4, il5, il6, il7, il8, il9, il10, il15, il16, il22, il24, il30, il31, il40, il41, il60, il70, il146, il161, il9999, pk_mul, nI_add, pk_sub, nI_clamp, nI_leI, nI_ltI, nI_eq] at c; omega⟩)
      exact fstI_t (d := 0) (show byB m o B1 = true from c) ▸ hQ s' f1 (MRlet h hI ha g1) (fun i hi => (g2 i hi).trans (hs i hi))
    · rw [b2i_0] at c
      refine pm_passes h1 hI1 (fun s2 f2 g1 g2 => ?_)
      rw [nI_1]
      unfold wp_X9_close_29
      refine ⟨fun _ => pm_lets (fun s' g3 g4 => ⟨fun c => by simp (disch := omega) only [il0, il1, il2, il3, il4, il5, il6, il7, il8, il9, il10, il15, il16, il22, il24, il30, il31, il40, il41, il60, il70, il146, il161, il9999, pk_mul, nI_add, pk_sub, nI_clamp, nI_leI, nI_ltI, nI_eq] at c; omega, fun _ => ?_⟩), fun c => by simp (disch := omega) only [il0, il1, il2, il3, il4, il5, il6, il7, il8, il9, il10, il15, il16, il22, il24, il30, il31, il40, il41, il60, il70, il146, il161, il9999, pk_mul, nI_add, pk_sub, nI_clamp, nI_leI, nI_ltI, nI_eq] at c; omega⟩
      exact fstI_f0 (k := k) (show byB m o B1 = false from c) ▸ hQ s' f2 (MRlet h hI ha g3) (fun i hi => (g4 i hi).trans ((g2 i hi).trans (hs i hi)))
  | succ d ih =>
    intro k B1 s1 f1 hk h1 hI1 hs hy hQ
    unfold wp_X9_close_29
    refine ⟨fun c => by simp (disch := omega) only [il0, il1, il2, il3, il4, il5, il6, il7, il8, il9, il10, il15, il16, il22, il24, il30, il31, il40, il41, il60, il70, il146, il161, il9999, pk_mul, nI_add, pk_sub, nI_clamp, nI_leI, nI_ltI, nI_eq] at c; omega, fun _ => pm_allSitBy h1 hI1 hm (pm_has ⟨fun c => ?_, fun c => ?_⟩)⟩
    · rw [b2i_n0] at c
      refine pm_lets (fun s' g1 g2 => ⟨fun _ => ?_, fun c => by simp (disch := omega) only [il0, il1, il2, il3, il4, il5, il6, il7, il8, il9, il10, il15, il16, il22, il24, il30, il31, il40, il41, il60, il70, il146, il161, il9999, pk_mul, nI_add, pk_sub, nI_clamp, nI_leI, nI_ltI, nI_eq] at c; omega⟩)
      exact fstI_t (d := d + 1) (show byB m o B1 = true from c) ▸ hQ s' f1 (MRlet h hI ha g1) (fun i hi => (g2 i hi).trans (hs i hi))
    · rw [b2i_0] at c
      rw [fstI_fs (show byB m o B1 = false from c)] at hQ
      refine pm_passes h1 hI1 (fun s2 f2 g1 g2 => ?_)
      rw [nI_1]
      exact ih (k + 1) (yearB B1) s2 f2 (by omega) g1 (Inv_year hI1 (by omega)) (fun i hi => (g2 i hi).trans (hs i hi)) (by show bY B1 + 1 + d + 1 ≤ 10100; omega) hQ
theorem pm_close {s : Nat → Int32} {B : AB} (h : MR s B) (hI : Inv B) (hy : bY B ≤ 9999) {f a : Nat → Int32} {p1 p2 : Int32} {Q : Int32 → (Nat → Int32) × (Nat → Int32) × (Nat → Int32) → Prop} (hQ : ∀ s' f' a', MR s' B → (∀ i, 40 ≤ i → s' i = s i) → Q (closeI B p1 p2) (s', f', a')) : wp_X9_close s f a p1 p2 Q := by
  have h6 := hI.1
  unfold wp_X9_close
  refine pm_isMan h hI ⟨fun c => ?_, fun c => pm_isMan h hI ⟨fun c2 => ?_, fun c2 => ⟨fun c3 => ?_, fun c3 => ?_⟩⟩⟩
  · rw [b2i_0] at c
    have e : closeI B p1 p2 = -1 := by simp [closeI, c]
    exact e ▸ hQ s f a h (fun _ _ => rfl)
  · rw [b2i_0] at c2
    have e : closeI B p1 p2 = -1 := by simp [closeI, c2]
    exact e ▸ hQ s f a h (fun _ _ => rfl)
  · rw [b2i_n0] at c c2
    have e : closeI B p1 p2 = fstI (byB p1.toNatClampNeg p2.toNatClampNeg) 60 0 B := by rw [closeI, if_pos (by simp [c, c2, c3])]
    rw [e] at hQ
    obtain ⟨m, hm, rfl⟩ := inR_nI (by omega) c
    obtain ⟨o, ho, rfl⟩ := inR_nI (by omega) c2
    rw [nI_clamp (by omega), nI_clamp (by omega)] at hQ
    exact pm_holds (fun a' ha' => ⟨62, pm_closeL h ha' hI (by omega) 60 0 B s f rfl h hI (fun _ _ => rfl) (by omega) (fun s' f' h1 h2 => hQ s' f' a' h1 h2)⟩)
  · have e : closeI B p1 p2 = -1 := by simp [closeI, c3]
    exact e ▸ hQ s f a h (fun _ _ => rfl)
/-! the life of all; pairs that sit wrongly -/
def sumN (f : Nat → Nat) (k : Nat) : Nat := (List.range k).foldl (fun a j => a + f j) 0
theorem sumN_succ (f : Nat → Nat) (k : Nat) : sumN f (k + 1) = sumN f k + f k := by
  unfold sumN
  rw [List.range_succ, List.foldl_append]; rfl
def lifeAll (B : AB) : Nat := sumN (bL B) (bM B)
theorem pc_allLife {b : BT} {B : AB} (h : CR b B) (hI : Inv B) {Q : Int32 → Prop} (hQ : Q (nI (lifeAll B))) : wp_X0_allLife b Q := by
  have h6 := hI.1
  unfold wp_X0_allLife
  refine loopF (fun n a k => wp_X0_allLife_4 b Q n a k) (bM B) (by omega) (fun a k => nI (sumN (bL B) (k + 1))) (fun k a => a = nI (sumN (bL B) k)) ?_ ?_ ?_ _ rfl
  · intro n a ha
    unfold wp_X0_allLife_4
    rw [h.1, ha]
    exact ⟨fun _ => hQ, fun c => by simp (disch := omega) only [il0, il1, il2, il3, il4, il5, il6, il7, il8, il9, il10, il15, il16, il22, il24, il30, il31, il40, il41, il60, il70, il146, il161, il9999, pk_mul, nI_add, pk_sub, nI_clamp, nI_leI, nI_ltI, nI_eq] at c; omega⟩
  · intro n a k hk ha hn
    have hn := hn rfl
    unfold wp_X0_allLife_4
    rw [h.1, nI_1]
    refine ⟨fun c => by simp (disch := omega) only [il0, il1, il2, il3, il4, il5, il6, il7, il8, il9, il10, il15, il16, il22, il24, il30, il31, il40, il41, il60, il70, il146, il161, il9999, pk_mul, nI_add, pk_sub, nI_clamp, nI_leI, nI_ltI, nI_eq] at c; omega, fun _ => ⟨vp_in_nI (by omega) (by omega), fun v hv => ?_⟩⟩
    rw [nI_clamp (by omega), h.2.2.2.2.2.1 k hk, ha, nI_add, ← sumN_succ] at hv
    rw [hv]
    exact hn
  · intro k a _ _
    rfl
theorem pm_lives {s : Nat → Int32} {B : AB} (h : MR s B) (hI : Inv B) {Q : Int32 → Prop} (hQ : Q (nI (lifeAll B))) : wp_X9_lives s Q := by
  have h6 := hI.1
  unfold wp_X9_lives
  refine loopF (fun n a k => wp_X9_lives_4 s Q n a k) (bM B) (by omega) (fun a k => nI (sumN (bL B) (k + 1))) (fun k a => a = nI (sumN (bL B) k)) ?_ ?_ ?_ _ rfl
  · intro n a ha
    unfold wp_X9_lives_4
    rw [h.1, ha]
    exact ⟨fun _ => hQ, fun c => by simp (disch := omega) only [il0, il1, il2, il3, il4, il5, il6, il7, il8, il9, il10, il15, il16, il22, il24, il30, il31, il40, il41, il60, il70, il146, il161, il9999, pk_mul, nI_add, pk_sub, nI_clamp, nI_leI, nI_ltI, nI_eq] at c; omega⟩
  · intro n a k hk ha hn
    have hn := hn rfl
    unfold wp_X9_lives_4
    rw [h.1, nI_1, il4, nI_add, nI_clamp (by omega)]
    refine ⟨fun c => by simp (disch := omega) only [il0, il1, il2, il3, il4, il5, il6, il7, il8, il9, il10, il15, il16, il22, il24, il30, il31, il40, il41, il60, il70, il146, il161, il9999, pk_mul, nI_add, pk_sub, nI_clamp, nI_leI, nI_ltI, nI_eq] at c; omega, fun _ => ⟨vp_in_nI (by omega) (by omega), fun v hv => ?_⟩⟩
    rw [h.2.2.2.2.2.1 k hk, ha, nI_add, ← sumN_succ] at hv
    rw [hv]
    exact hn
  · intro k a _ _
    rfl
/-- how many of the first k pairs sit wrongly -/
def wrK (B : AB) (k : Nat) : Nat := sumN (fun j => if sbB B ((bS B).getD j 0) ((bS B).getD (j + 1) 0) = true then 0 else 1) k
def wrongN (B : AB) : Nat := wrK B ((bS B).length - 1)
theorem wrK_le (B : AB) (k : Nat) : wrK B k ≤ k := by
  induction k with
  | zero => exact Nat.le_refl _
  | succ k ih =>
    unfold wrK at ih ⊢
    rw [sumN_succ]
    split <;> omega
theorem pc_wrongMany {b : BT} {B : AB} (h : CR b B) (hI : Inv B) {Q : Int32 → Prop} (hQ : Q (nI (wrongN B))) : wp_X0_wrongMany b Q := by
  have h6 := hI.1
  have hl := hI.len
  unfold wp_X0_wrongMany
  refine ⟨(bS B).length + 1, ?_⟩
  have key : ∀ n k (a : Int32), 1 ≤ k → k ≤ max (bS B).length 1 → max (bS B).length 1 - k < n → a = nI (wrK B (k - 1)) → wp_X0_wrongMany_4 b Q n a (nI k) := by
    intro n
    induction n with
    | zero => intro k a _ _ h2; omega
    | succ n ih =>
      intro k a hk1 hk hn ha
      unfold wp_X0_wrongMany_4
      rw [h.2.1]
      refine ⟨fun c => ?_, fun c => ?_⟩
      · simp (disch := omega) only [il0, il1, il2, il3, il4, il5, il6, il7, il8, il9, il10, il15, il16, il22, il24, il30, il31, il40, il41, il60, il70, il146, il161, il9999, pk_mul, nI_add, pk_sub, nI_clamp, nI_leI, nI_ltI, nI_eq] at c
        rw [ha, show k - 1 = (bS B).length - 1 by omega]
        exact hQ
      · simp (disch := omega) only [il0, il1, il2, il3, il4, il5, il6, il7, il8, il9, il10, il15, il16, il22, il24, il30, il31, il40, il41, il60, il70, il146, il161, il9999, pk_mul, nI_add, pk_sub, nI_clamp, nI_leI, nI_ltI, nI_eq] at c
        have hx1 : (bS B).getD (k - 1) 0 < bM B := hI.2.2.1 _ (getD_mem (by omega))
        have hx2 : (bS B).getD k 0 < bM B := hI.2.2.1 _ (getD_mem (by omega))
        have hne : (bS B).getD (k - 1) 0 ≠ (bS B).getD k 0 := by
          intro e
          have e1 := idxOf_of hI.2.1 (k := k - 1) (by omega)
          have e2 := idxOf_of hI.2.1 (k := k) (by omega)
          rw [e] at e1
          omega
        have hw : wrK B k = wrK B (k - 1) + (if sbB B ((bS B).getD (k - 1) 0) ((bS B).getD k 0) = true then 0 else 1) := by
          unfold wrK
          obtain ⟨j, rfl⟩ : ∃ j, k = j + 1 := ⟨k - 1, by omega⟩
          rw [sumN_succ]; rfl
        rw [il1, pk_sub (by omega), nI_clamp (by omega), nI_clamp (by omega), h.2.2.2.2.1 _ (by omega), h.2.2.2.2.1 _ (by omega), nI_add]
        refine ⟨vp_in_nI (by omega) (by omega), vp_in_nI (by omega) (by omega), pc_stoodBy h hI hx1 hx2 ?_⟩
        have ih' := fun a ha => ih (k + 1) a (by omega) (by omega) (by omega) ha
        rw [show k + 1 - 1 = k by omega, hw] at ih'
        refine ⟨fun c2 v hv => ?_, fun c2 v hv => ?_⟩
        · rw [b2i_0] at c2
          have : sbB B ((bS B).getD (k - 1) 0) ((bS B).getD k 0) = false := by rw [decide_eq_true hne, Bool.true_and] at c2; exact c2
          rw [this] at ih'
          exact ih' v (by rw [hv, ha, nI_add]; rfl)
        · rw [b2i_n0] at c2
          have : sbB B ((bS B).getD (k - 1) 0) ((bS B).getD k 0) = true := by
            have := c2
            simp only [Bool.and_eq_true] at this
            exact this.2
          rw [this] at ih'
          exact ih' v (by rw [hv, ha, il0, nI_add]; rfl)
  exact key _ 1 _ (Nat.le_refl _) (by omega) (by omega) rfl
theorem pm_wrong {s : Nat → Int32} {B : AB} (h : MR s B) (hI : Inv B) {Q : Int32 → Prop} (hQ : Q (nI (wrongN B))) : wp_X9_wrong s Q := by
  have h6 := hI.1
  have hl := hI.len
  unfold wp_X9_wrong
  refine ⟨(bS B).length + 1, ?_⟩
  have key : ∀ n k (a : Int32), 1 ≤ k → k ≤ max (bS B).length 1 → max (bS B).length 1 - k < n → a = nI (wrK B (k - 1)) → wp_X9_wrong_4 s Q n a (nI k) := by
    intro n
    induction n with
    | zero => intro k a _ _ h2; omega
    | succ n ih =>
      intro k a hk1 hk hn ha
      unfold wp_X9_wrong_4
      rw [h.2.1]
      refine ⟨fun c => ?_, fun c => ?_⟩
      · simp (disch := omega) only [il0, il1, il2, il3, il4, il5, il6, il7, il8, il9, il10, il15, il16, il22, il24, il30, il31, il40, il41, il60, il70, il146, il161, il9999, pk_mul, nI_add, pk_sub, nI_clamp, nI_leI, nI_ltI, nI_eq] at c
        rw [ha, show k - 1 = (bS B).length - 1 by omega]
        exact hQ
      · simp (disch := omega) only [il0, il1, il2, il3, il4, il5, il6, il7, il8, il9, il10, il15, il16, il22, il24, il30, il31, il40, il41, il60, il70, il146, il161, il9999, pk_mul, nI_add, pk_sub, nI_clamp, nI_leI, nI_ltI, nI_eq] at c
        have hx1 : (bS B).getD (k - 1) 0 < bM B := hI.2.2.1 _ (getD_mem (by omega))
        have hx2 : (bS B).getD k 0 < bM B := hI.2.2.1 _ (getD_mem (by omega))
        have hw : wrK B k = wrK B (k - 1) + (if sbB B ((bS B).getD (k - 1) 0) ((bS B).getD k 0) = true then 0 else 1) := by
          unfold wrK
          obtain ⟨j, rfl⟩ : ∃ j, k = j + 1 := ⟨k - 1, by omega⟩
          rw [sumN_succ]; rfl
        rw [il10, nI_add, il1, pk_sub (by omega), nI_clamp (by omega), nI_clamp (by omega), h.2.2.2.2.1 k (by omega), show 10 + k - 1 = 10 + (k - 1) by omega, h.2.2.2.2.1 _ (by omega), nI_add]
        refine ⟨vp_in_nI (by omega) (by omega), vp_in_nI (by omega) (by omega), pm_stoodBy h hI hx1 hx2 ?_⟩
        have ih' := fun a ha => ih (k + 1) a (by omega) (by omega) (by omega) ha
        rw [show k + 1 - 1 = k by omega, hw] at ih'
        refine ⟨fun c2 v hv => ?_, fun c2 v hv => ?_⟩
        · rw [b2i_0] at c2
          rw [c2] at ih'
          exact ih' v (by rw [hv, ha, nI_add]; rfl)
        · rw [b2i_n0] at c2
          rw [c2] at ih'
          exact ih' v (by rw [hv, ha, il0, nI_add]; rfl)
  exact key _ 1 _ (Nat.le_refl _) (by omega) (by omega) rfl
