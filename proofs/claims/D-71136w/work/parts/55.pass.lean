/-! pure: a year passes -/
set_option maxRecDepth 100000
def setS (B : AB) (l : List Nat) : AB := (bM B, l, bY B, bD B, bL B, bK B, bP B)
def setL (B : AB) (f : Nat → Nat) : AB := (bM B, bS B, bY B, bD B, f, bK B, bP B)
def setY (B : AB) (y : Nat) : AB := (bM B, bS B, y, bD B, bL B, bK B, bP B)
def alive (B : AB) (l : List Nat) : List Nat := l.filter (fun x => decide (0 < bL B x))
def lifeY (B : AB) (m : Nat) : Nat := bL B m - (if m ∈ bS B then failN B m else 0)
def yearB (B : AB) : AB := (bM B, (bS B).filter (fun x => decide (0 < lifeY B x)), bY B + 1, bD B, lifeY B, bK B, bP B)
theorem jmax_sub {a c : Nat} (ha : a < 2 ^ 30) (hc : c < 2 ^ 30) : jmax 0 (nI a - nI c) = nI (a - c) := by
  unfold jmax
  have e : (nI a - nI c).toInt = (a : Int) - c := pk_sub_toInt ha hc
  have h0 : (0 : Int32).toInt = 0 := by decide
  simp only [Int32.lt_iff_toInt_lt, e, h0]
  split
  · rw [pk_sub (by omega)]
  · rw [show a - c = 0 by omega]; rfl
theorem getD_append_left' {a c : List Nat} {j : Nat} (h : j < a.length) : (a ++ c).getD j 0 = a.getD j 0 := by
  rw [List.getD_eq_getElem?_getD, List.getD_eq_getElem?_getD, List.getElem?_append_left h]
theorem getD_append_len {a : List Nat} {x : Nat} : (a ++ [x]).getD a.length 0 = x := by
  rw [List.getD_eq_getElem?_getD, List.getElem?_append_right (Nat.le_refl _)]; simp
theorem filt_f {p : Nat → Bool} {l : List Nat} {x : Nat} (h : p x = false) : (l ++ [x]).filter p = l.filter p := by
  rw [List.filter_append]; simp [h]
theorem filt_t {p : Nat → Bool} {l : List Nat} {x : Nat} (h : p x = true) : (l ++ [x]).filter p = l.filter p ++ [x] := by
  rw [List.filter_append]; simp [h]
theorem filter_take_len (p : Nat → Bool) (l : List Nat) (k : Nat) (hk : k ≤ l.length) : ((l.take k).filter p).length ≤ k :=
  Nat.le_trans (List.length_filter_le _ _) (by rw [List.length_take]; omega)
theorem pc_closeUp {b : BT} {B : AB} (h : CR b B) (h6 : bM B ≤ 6) (hn : (bS B).Nodup) (hx : ∀ x ∈ bS B, x < bM B) (hlf : ∀ m, m < bM B → bL B m ≤ 60) {Q : BT → Prop} (hQ : ∀ b', CR b' (setS B (alive B (bS B))) → Q b') : wp_X6_closeUp b Q := by
  have hl : (bS B).length ≤ bM B := Nodup_len hn hx
  unfold wp_X6_closeUp
  let p : Nat → Bool := fun x => decide (0 < bL B x)
  refine loop_0 (σ := BT × Int32) (fun n i s => wp_X6_closeUp_4 Q n s.1 s.2 (nI i)) (fun k s => mn s.1 = mn b ∧ ma s.1 = ma b ∧ yr s.1 = yr b ∧ dw s.1 = dw b ∧ lf s.1 = lf b ∧ kd s.1 = kd b ∧ pl s.1 = pl b ∧ s.2 = nI (((bS B).take k).filter p).length ∧ (∀ j, j < (((bS B).take k).filter p).length → se s.1 j = nI ((((bS B).take k).filter p).getD j 0)) ∧ ∀ j, k ≤ j → j < (bS B).length → se s.1 j = nI ((bS B).getD j 0)) (bS B).length (b, 0) ?_ ?_ ?_
  · exact ⟨rfl, rfl, rfl, rfl, rfl, rfl, rfl, rfl, fun j hj => by simp at hj, fun j _ hj => h.2.2.2.2.1 j hj⟩
  · rintro n ⟨b1, x⟩ ⟨e1, e2, e3, e4, e5, e6, e7, e8, e9, -⟩
    dsimp only at e1 e2 e3 e4 e5 e6 e7 e8 e9
    dsimp only
    unfold wp_X6_closeUp_4
    rw [List.take_length] at e8 e9
    refine ⟨fun _ => hQ _ ⟨?_, ?_, ?_, ?_, ?_, ?_, ?_, ?_⟩, fun c => ?_⟩
    · exact e1.trans h.1
    · exact e8
    · exact e3.trans h.2.2.1
    · exact e4.trans h.2.2.2.1
    · exact e9
    · intro m hm; exact (congrFun e5 m).trans (h.2.2.2.2.2.1 m hm)
    · intro m hm; exact (congrFun e6 m).trans (h.2.2.2.2.2.2.1 m hm)
    · intro m hm; exact (congrFun e7 m).trans (h.2.2.2.2.2.2.2 m hm)
    · rw [e2, h.2.1] at c
      simp (disch := omega) only [il0, il1, il2, il3, il4, il5, il6, il7, il8, il9, il10, il15, il16, il22, il24, il30, il31, il40, il41, il60, il70, il146, il161, il9999, pk_mul, nI_add, pk_sub, nI_clamp, nI_leI, nI_ltI, nI_eq] at c
      omega
  · rintro n k ⟨b1, x⟩ hk ⟨e1, e2, e3, e4, e5, e6, e7, e8, e9, e10⟩ ih
    dsimp only at e1 e2 e3 e4 e5 e6 e7 e8 e9 e10
    dsimp only at ih ⊢
    have hfl := filter_take_len p (bS B) k (by omega)
    have hxk : (bS B).getD k 0 < bM B := hx _ (getD_mem hk)
    have hlk := hlf _ hxk
    have hts := take_succ' hk
    unfold wp_X6_closeUp_4
    rw [e2, h.2.1, nI_1]
    refine ⟨fun c => by simp (disch := omega) only [il0, il1, il2, il3, il4, il5, il6, il7, il8, il9, il10, il15, il16, il22, il24, il30, il31, il40, il41, il60, il70, il146, il161, il9999, pk_mul, nI_add, pk_sub, nI_clamp, nI_leI, nI_ltI, nI_eq] at c; omega, fun _ => ⟨vp_in_nI (by omega) (by omega), ?_⟩⟩
    rw [nI_clamp (by omega), e10 k (Nat.le_refl _) hk]
    refine ⟨vp_in_nI (by omega) (by omega), ?_⟩
    rw [nI_clamp (by omega), e5, h.2.2.2.2.2.1 _ hxk]
    refine ⟨fun c => ?_, fun c => ?_⟩
    · simp (disch := omega) only [il0, il1, il2, il3, il4, il5, il6, il7, il8, il9, il10, il15, il16, il22, il24, il30, il31, il40, il41, il60, il70, il146, il161, il9999, pk_mul, nI_add, pk_sub, nI_clamp, nI_leI, nI_ltI, nI_eq] at c
      have hp : p ((bS B).getD k 0) = false := decide_eq_false (by omega)
      have hf : ((bS B).take (k + 1)).filter p = ((bS B).take k).filter p := by rw [hts, filt_f hp]
      refine ih (b1, x) ⟨e1, e2, e3, e4, e5, e6, e7, ?_, ?_, fun j h1 h2 => e10 j (by omega) h2⟩
      · rw [hf]; exact e8
      · rw [hf]; exact e9
    · simp (disch := omega) only [il0, il1, il2, il3, il4, il5, il6, il7, il8, il9, il10, il15, il16, il22, il24, il30, il31, il40, il41, il60, il70, il146, il161, il9999, pk_mul, nI_add, pk_sub, nI_clamp, nI_leI, nI_ltI, nI_eq] at c
      have hp : p ((bS B).getD k 0) = true := decide_eq_true (by omega)
      have hf : ((bS B).take (k + 1)).filter p = ((bS B).take k).filter p ++ [(bS B).getD k 0] := by rw [hts, filt_t hp]
      refine ⟨vp_in_nI (by omega) (by omega), ?_⟩
      intro v hv
      rw [e8]
      refine ⟨vp_in_nI (by omega) (by omega), ?_⟩
      intro f hf8
      rw [nI_clamp (by omega)] at hf8
      rw [nI_1]
      refine ih ((kd b1, pl b1, lf b, f, mn b1, nI (bS B).length, yr b1, dw b1), nI ((((bS B).take k).filter p).length + 1)) ⟨e1, h.2.1.symm, e3, e4, rfl, e6, e7, ?_, ?_, ?_⟩
      · dsimp only; rw [hf, List.length_append]; rfl
      · rw [hf, List.length_append]
        intro j hj
        show f j = _
        rw [hf8]
        by_cases hj2 : j = (((bS B).take k).filter p).length
        · rw [hj2, pk_us, hv, getD_append_len]
        · rw [pk_un hj2, getD_append_left' (by simp at hj; omega)]
          exact e9 j (by simp at hj; omega)
      · intro j h1 h2
        show f j = _
        rw [hf8, pk_un (by omega)]
        exact e10 j (by omega) h2
theorem CR_setL {b : BT} {B : AB} (h : CR b B) {f : Nat → Int32} {g : Nat → Nat} (hf : ∀ m, m < bM B → f m = nI (g m)) : CR (kd b, pl b, f, se b, mn b, ma b, yr b, dw b) (setL B g) := ⟨h.1, h.2.1, h.2.2.1, h.2.2.2.1, h.2.2.2.2.1, hf, h.2.2.2.2.2.2.1, h.2.2.2.2.2.2.2⟩
theorem lifeY_le {B : AB} (hI : Inv B) {m : Nat} (hm : m < bM B) : lifeY B m ≤ 60 := by
  have := hI.2.2.2.2.1 m hm
  unfold lifeY
  omega
theorem pc_oneYear {b : BT} {B : AB} (h : CR b B) (hI : Inv B) {f : Nat → Int32} {Q : BT × (Nat → Int32) → Prop} (hQ : ∀ b' f', CR b' (yearB B) → Q (b', f')) : wp_X0_oneYear b f Q := by
  have h6 := hI.1
  have hl := hI.len
  have hy := hI.2.2.2.2.2.2.2.1
  unfold wp_X0_oneYear
  refine loop_0 (σ := Nat → Int32) (fun n i s => wp_X0_oneYear_2 Q n b s (nI i)) (fun k s => ∀ j, j < k → s j = if j ∈ bS B then nI (failN B j) else 0) (bM B) f ?_ ?_ ?_
  · intro j hj; omega
  · intro n g hg
    unfold wp_X0_oneYear_2
    rw [h.1]
    refine ⟨fun _ => ?_, fun c => by simp (disch := omega) only [il0, il1, il2, il3, il4, il5, il6, il7, il8, il9, il10, il15, il16, il22, il24, il30, il31, il40, il41, il60, il70, il146, il161, il9999, pk_mul, nI_add, pk_sub, nI_clamp, nI_leI, nI_ltI, nI_eq] at c; omega⟩
    refine loop_0 (σ := BT) (fun n i s => wp_X0_oneYear_32 Q n s g (nI i)) (fun k s => ∃ ff : Nat → Int32, s = (kd b, pl b, ff, se b, mn b, ma b, yr b, dw b) ∧ (∀ j, j < k → ff j = nI (lifeY B j)) ∧ ∀ j, k ≤ j → ff j = lf b j) (bM B) b ?_ ?_ ?_
    · exact ⟨lf b, rfl, fun j hj => by omega, fun _ _ => rfl⟩
    · rintro n s ⟨ff, rfl, h1, -⟩
      unfold wp_X0_oneYear_32
      refine ⟨fun _ => ?_, fun c => by have c : ¬ mn b ≤ nI (bM B) := c; rw [h.1] at c; simp (disch := omega) only [il0, il1, il2, il3, il4, il5, il6, il7, il8, il9, il10, il15, il16, il22, il24, il30, il31, il40, il41, il60, il70, il146, il161, il9999, pk_mul, nI_add, pk_sub, nI_clamp, nI_leI, nI_ltI, nI_eq] at c; omega⟩
      refine pc_closeUp (B := setL B (lifeY B)) (CR_setL h h1) h6 hI.2.1 hI.2.2.1 (fun m hm => lifeY_le hI hm) ?_
      intro b' hb' v hv
      refine hQ _ _ ⟨hb'.1, hb'.2.1, ?_, hb'.2.2.2.1, hb'.2.2.2.2.1, hb'.2.2.2.2.2.1, hb'.2.2.2.2.2.2.1, hb'.2.2.2.2.2.2.2⟩
      show v = nI (bY B + 1)
      rw [hv, hb'.2.2.1, nI_1]; rfl
    · rintro n k s hk ⟨ff, rfl, h1, h2⟩ ih
      unfold wp_X0_oneYear_32
      rw [nI_1]
      refine ⟨fun c => by have c : mn b ≤ nI k := c; rw [h.1] at c; simp (disch := omega) only [il0, il1, il2, il3, il4, il5, il6, il7, il8, il9, il10, il15, il16, il22, il24, il30, il31, il40, il41, il60, il70, il146, il161, il9999, pk_mul, nI_add, pk_sub, nI_clamp, nI_leI, nI_ltI, nI_eq] at c; omega, fun _ => ⟨vp_in_nI (by omega) (by omega), vp_in_nI (by omega) (by omega), ?_⟩⟩
      intro v hv
      refine ⟨vp_in_nI (by omega) (by omega), ?_⟩
      intro f8 hf8
      rw [nI_clamp (by omega)] at hv hf8
      have hlk := hI.2.2.2.2.1 k hk
      have hfk := failN_le hI hk
      have hv2 : v = nI (lifeY B k) := by
        rw [hv, show lf (kd b, pl b, ff, se b, mn b, ma b, yr b, dw b) k = nI (bL B k) from (h2 k (Nat.le_refl _)).trans (h.2.2.2.2.2.1 k hk), hg k hk]
        unfold lifeY
        split
        · exact jmax_sub (by omega) (by omega)
        · exact jmax_sub (c := 0) (by omega) (by omega)
      refine ih _ ⟨f8, rfl, ?_, ?_⟩
      · intro j hj
        rw [hf8]
        by_cases hjk : j = k
        · rw [hjk, pk_us, hv2]
        · rw [pk_un hjk]; exact h1 j (by omega)
      · intro j hj
        rw [hf8, pk_un (by omega)]; exact h2 j (by omega)
  · intro n k s hk hs ih
    unfold wp_X0_oneYear_2
    rw [h.1, nI_1]
    refine ⟨fun c => by simp (disch := omega) only [il0, il1, il2, il3, il4, il5, il6, il7, il8, il9, il10, il15, il16, il22, il24, il30, il31, il40, il41, il60, il70, il146, il161, il9999, pk_mul, nI_add, pk_sub, nI_clamp, nI_leI, nI_ltI, nI_eq] at c; omega, fun _ => pc_failsOf h hI hk ⟨vp_in_nI (by omega) (by omega), ?_⟩⟩
    intro f4 hf4
    rw [nI_clamp (by omega)] at hf4
    refine ih f4 ?_
    intro j hj
    rw [hf4]
    by_cases hjk : j = k
    · rw [hjk, pk_us]
    · rw [pk_un hjk]; exact hs j (by omega)

theorem MRx {s s' : Nat → Int32} {B : AB} (h : MR s B) (h6 : bM B ≤ 6) (hl : (bS B).length ≤ bM B) (he : ∀ i, i < 40 → s' i = s i) : MR s' B :=
  ⟨(he 0 (by omega)).trans h.1, (he 1 (by omega)).trans h.2.1, (he 2 (by omega)).trans h.2.2.1, (he 3 (by omega)).trans h.2.2.2.1, fun k hk => (he _ (by omega)).trans (h.2.2.2.2.1 k hk), fun m hm => (he _ (by omega)).trans (h.2.2.2.2.2.1 m hm), fun m hm => (he _ (by omega)).trans (h.2.2.2.2.2.2.1 m hm), fun i hi => (he _ (by omega)).trans (h.2.2.2.2.2.2.2 i hi)⟩
