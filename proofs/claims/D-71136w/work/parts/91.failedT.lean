/-! pure: failed, as a whole -/
set_option maxRecDepth 100000
/-- whether it is asked rightly -/
def failG (B : AB) (p1 p2 p3 p5 p6 : Int32) : Bool := inR p1 0 ((bM B : Int) - 1) && (inR p2 0 3 && inR p3 0 3) && inR p5 1 8 && inR p6 0 2
def failV (f : Nat → Int64) (B : AB) (m i n : Nat) (p6 : Int32) : Int32 := if p6 = 0 then kdI f m i n B 5 else if p6 = 1 then (lvI f m i n B 60).1 else (lvI f m i n B 60).2
theorem inR8 {x : Int32} (h : inR x 1 8 = true) : ∃ j, 1 ≤ j ∧ j ≤ 8 ∧ x = nI j := by
  rw [inR_t] at h
  refine ⟨x.toInt.toNat, by omega, by omega, Int32.toInt_inj.mp ?_⟩
  rw [nI_toInt (by omega)]; omega
theorem seat_nn {B : AB} (hI : Inv B) {m : Nat} : (0 ≤ seatI B m ↔ m ∈ bS B) ∧ (seatI B m = -4 ↔ ¬ m ∈ bS B) := by
  have h6 := hI.1
  have hl := hI.len
  unfold seatI
  by_cases h : m ∈ bS B
  · rw [if_pos h]
    have := idx_lt h
    exact ⟨⟨fun _ => h, fun _ => nI_pos' (by omega)⟩, ⟨fun c => absurd c (nI_ne4 (by omega)), fun c => absurd h c⟩⟩
  · rw [if_neg h]
    exact ⟨⟨fun c => absurd c (by decide), fun c => absurd c h⟩, ⟨fun _ => h, fun _ => rfl⟩⟩
theorem sh_ext {f f' : Nat → Int64} {m i n : Nat} (h : ∀ q, q < i + n → f q = f' q) : ∀ (d k : Nat) (B : AB), k + d = n → soB f m i d k B = soB f' m i d k B := by
  intro d
  induction d with
  | zero => intro k B _; rfl
  | succ d ih =>
    intro k B hd
    show (decide (f (i + k) = _) && soB f m i d (k + 1) (yearB B)) = (decide (f' (i + k) = _) && soB f' m i d (k + 1) (yearB B))
    rw [h (i + k) (by omega), ih (k + 1) (yearB B) (by omega)]
theorem pm_failed {s a : Nat → Int32} {less sizes lanes : Nat → Int32} {items : Nat → Int64} {B : AB} (hs : MR s B) (hI : Inv B) (hy : bY B ≤ 9999) {p1 p2 p3 p4 p5 p6 : Int32} {Q : Int32 → (Nat → Int32) × (Nat → Int32) × (Nat → Int32) → Prop}
    {S : Nat → SH} (hS : ∀ k, k < 4 → shOk (S k) ∧ SMd sizes lanes items k (S k))
    (hbad : failG B p1 p2 p3 p5 p6 = false → Q (-1) (s, less, a))
    (hbar : failG B p1 p2 p3 p5 p6 = true → ¬ barI (S p2.toNatClampNeg) p3 p4 p5 = 0 → Q (barI (S p2.toNatClampNeg) p3 p4 p5) (s, less, a))
    (hnot : failG B p1 p2 p3 p5 p6 = true → barI (S p2.toNatClampNeg) p3 p4 p5 = 0 → ¬ p1.toNatClampNeg ∈ bS B → Q (-2) (s, less, a))
    (hok : ∀ m k l i n n0 f, p1 = nI m → m < bM B → m ∈ bS B → p2 = nI k → k < 4 → p3 = nI l → p4 = nI i → p5 = nI n → S k = some (l, n0, f) → i + n ≤ n0 → ∀ s' less' a', MR s' B → (∀ j, 40 ≤ j → s' j = s j) → Q (failV f B m i n p6) (s', less', a')) : wp_X9_failed s items sizes lanes less a p1 p2 p3 p4 p5 p6 Q := by
  have h6 := hI.1
  unfold wp_X9_failed
  unfold failG at hbad hbar hnot
  refine pm_isMan hs hI ⟨fun c => ?_, fun c => pm_isSheet ⟨fun c2 => ?_, fun c2 => pm_in ⟨fun c3 => ?_, fun c3 => pm_in ⟨fun c4 => ?_, fun c4 => pm_in ⟨fun c5 => ?_, fun c5 => ?_⟩⟩⟩⟩⟩
  · rw [b2i_0] at c; rw [c] at hbad; exact hbad (by simp)
  · rw [b2i_0] at c2; rw [c2] at hbad; exact hbad (by simp)
  · have c3 : inR p3 0 3 = false := b2i_0.mp c3
    rw [c3] at hbad; exact hbad (by simp)
  · have c4 : inR p5 1 8 = false := b2i_0.mp c4
    rw [c4] at hbad; exact hbad (by simp)
  · rw [b2i_n0] at c c2
    have c3 : inR p3 0 3 = true := b2i_n0.mp c3
    have c4 : inR p5 1 8 = true := b2i_n0.mp c4
    have c5 : inR p6 0 2 = true := b2i_n0.mp c5
    replace hbar := hbar (by rw [c, c2, c3, c4, c5]; rfl)
    replace hnot := hnot (by rw [c, c2, c3, c4, c5]; rfl)
    obtain ⟨m, hm, rfl⟩ := inR_nI (by omega) c
    obtain ⟨n, hn1, hn2, rfl⟩ := inR8 c4
    obtain ⟨k, hk, rfl⟩ := inR3 c2
    obtain ⟨l, hl, rfl⟩ := inR3 c3
    rw [nI_clamp (by omega)] at hbar hnot
    rw [nI_clamp (by omega)] at hnot
    obtain ⟨o, hd⟩ := hS k (by omega)
    refine pm_barred (by omega) o hd ⟨fun e => ?_, fun e => hbar e⟩
    refine pm_seatOf hs hI (by omega) ⟨fun e2 => ?_, fun e2 => hnot e ((seat_nn hI).2.mp e2)⟩
    have hmem : m ∈ bS B := Classical.byContradiction (fun c => e2 ((seat_nn hI).2.mpr c))
    obtain ⟨l0, n0, f, i', n', e1, e2', rfl, e4, e5, e6, e7⟩ := barI_0 o e
    have hnn : n = n' := (nI_eq (by omega) (by omega)).mp e4
    subst hnn
    have hll : l = l0 := (nI_eq (by omega) (by omega)).mp e2'
    subst hll
    rw [e1] at hd
    refine pm_holds (fun a' ha' v16 e16 => ?_)
    rw [e16, il24, pk_mul, nI_add]
    exact pm_kinds (by omega) hs hI hy ha' hm (by omega) (fun q hq => hd.2.2 q (by omega)) (fun s' l' g1 g2 => hok m k _ i' _ n0 f rfl hm hmem rfl (by omega) rfl rfl rfl e1 e5 s' l' a' g1 g2)
  · have c5 : inR p6 0 2 = false := b2i_0.mp c5
    rw [c5] at hbad; exact hbad (by simp)
theorem pc_failed_B {b a : BT} {fl : Nat → Int32} {B : AB} (hb : CR b B) (hI : Inv B) (hy : bY B ≤ 9999) {n0 : Nat} {rw : Nat → Int32} {f : Nat → Int64} (hr : ∀ q, q < n0 → Int32.toInt64 (rw q) = f q) (hn0 : n0 ≤ 24) {p1 p2 p3 p4 p5 p6 : Int32} {Q : Int32 → BT × (Nat → Int32) × BT → Prop}
    (hbad : failG B p1 p2 p3 p5 p6 = false → Q (-1) (b, fl, a))
    (hbar : failG B p1 p2 p3 p5 p6 = true → ¬ barI (some (0, n0, f)) p3 p4 p5 = 0 → Q (barI (some (0, n0, f)) p3 p4 p5) (b, fl, a))
    (hnot : failG B p1 p2 p3 p5 p6 = true → barI (some (0, n0, f)) p3 p4 p5 = 0 → ¬ p1.toNatClampNeg ∈ bS B → Q (-2) (b, fl, a))
    (hok : ∀ m i n, p1 = nI m → m ∈ bS B → p4 = nI i → p5 = nI n → i + n ≤ n0 → ∀ b' fl' a', CR b' B → Q (failV f B m i n p6) (b', fl', a')) : wp_X0_failed_B b fl a n0 rw p1 p2 p3 p4 p5 p6 Q := by
  have h6 := hI.1
  unfold wp_X0_failed_B
  unfold failG at hbad hbar hnot
  refine pc_isMan hb hI ⟨fun c => ?_, fun c => pc_isSheet ⟨fun c2 => ?_, fun c2 => pc_isIn (a := 1) (c := 8) rfl rfl ⟨fun c3 => ?_, fun c3 => pc_isIn (a := 0) (c := 2) rfl rfl ⟨fun c4 => ?_, fun c4 => ?_⟩⟩⟩⟩
  · rw [b2i_0] at c; rw [c] at hbad; exact hbad (by simp)
  · rw [b2i_0] at c2; rw [c2] at hbad; exact hbad (by simp)
  · rw [b2i_0] at c3; rw [c3] at hbad; exact hbad (by simp)
  · rw [b2i_n0] at c c2 c3 c4
    replace hbar := hbar (by rw [c, c2, c3, c4]; rfl)
    replace hnot := hnot (by rw [c, c2, c3, c4]; rfl)
    rw [Bool.and_eq_true] at c2
    obtain ⟨m, hm, rfl⟩ := inR_nI (by omega) c
    obtain ⟨n, hn1, hn2, rfl⟩ := inR8 c3
    obtain ⟨k, hk, rfl⟩ := inR3 c2.1
    obtain ⟨l, hl, rfl⟩ := inR3 c2.2
    rw [nI_clamp (by omega)] at hnot
    refine pc_lacks_B hn0 (by omega) hl hn1 (by omega) (f := f) ⟨fun e => ?_, fun e => hbar (fun e2 => e (bar_nn.mpr e2))⟩
    have e := bar_nn.mp e
    refine ps_X6_seatOf hb hI (by omega) ⟨fun e2 => ?_, fun e2 => hnot e (fun c => e2 ((seat_nn hI).1.mpr c))⟩
    have hmem := (seat_nn hI).1.mp e2
    have el : 0 = l := by
      rcases Nat.decEq 0 l with h | h
      · rw [bar_ne h (by omega) hl] at e
        exact absurd e (by decide)
      · exact h
    subst el
    have hc : cpOk p4 p4 (nI n) n0 n0 := (cp_iff (l := 0) (f1 := f) (f2 := f) hn0 hn0 (by omega)).mpr ⟨e, e⟩
    obtain ⟨a1, -, -, a4, -⟩ := hc
    obtain ⟨i, hi, rfl⟩ := nI_of a1
    rw [nI_clamp hi, nI_clamp (by omega)] at a4
    refine pc_takeFromI hb hI (fun a' ha' => ⟨fun c6 => ?_, fun c6 => ⟨vp_in_nI (by omega) (by omega), ?_⟩⟩)
    · refine pc_lives_B hr hn0 a4 (by omega) hb ha' hI hy hm (fun b' fl' g1 => ?_)
      have := hok m i n rfl hmem rfl rfl a4 b' fl' a' g1
      rw [failV, if_neg c6] at this
      exact this
    · refine pc_kindsBy_B hr hn0 a4 hb ha' hI hy hm (fun b' fl' g1 => ?_)
      have := hok m i n rfl hmem rfl rfl a4 b' fl' a' g1
      rw [failV, if_pos c6] at this
      exact this
  · rw [b2i_0] at c4; rw [c4] at hbad; exact hbad (by simp)
theorem pc_failed_S {b a : BT} {fl : Nat → Int32} {B : AB} (hb : CR b B) (hI : Inv B) (hy : bY B ≤ 9999) {n0 : Nat} {rw : Nat → Int32} {f : Nat → Int64} (hr : ∀ q, q < n0 → Int32.toInt64 (rw q) = f q) (hn0 : n0 ≤ 24) {p1 p2 p3 p4 p5 p6 : Int32} {Q : Int32 → BT × (Nat → Int32) × BT → Prop}
    (hbad : failG B p1 p2 p3 p5 p6 = false → Q (-1) (b, fl, a))
    (hbar : failG B p1 p2 p3 p5 p6 = true → ¬ barI (some (1, n0, f)) p3 p4 p5 = 0 → Q (barI (some (1, n0, f)) p3 p4 p5) (b, fl, a))
    (hnot : failG B p1 p2 p3 p5 p6 = true → barI (some (1, n0, f)) p3 p4 p5 = 0 → ¬ p1.toNatClampNeg ∈ bS B → Q (-2) (b, fl, a))
    (hok : ∀ m i n, p1 = nI m → m ∈ bS B → p4 = nI i → p5 = nI n → i + n ≤ n0 → ∀ b' fl' a', CR b' B → Q (failV f B m i n p6) (b', fl', a')) : wp_X0_failed_S b fl a n0 rw p1 p2 p3 p4 p5 p6 Q := by
  have h6 := hI.1
  unfold wp_X0_failed_S
  unfold failG at hbad hbar hnot
  refine pc_isMan hb hI ⟨fun c => ?_, fun c => pc_isSheet ⟨fun c2 => ?_, fun c2 => pc_isIn (a := 1) (c := 8) rfl rfl ⟨fun c3 => ?_, fun c3 => pc_isIn (a := 0) (c := 2) rfl rfl ⟨fun c4 => ?_, fun c4 => ?_⟩⟩⟩⟩
  · rw [b2i_0] at c; rw [c] at hbad; exact hbad (by simp)
  · rw [b2i_0] at c2; rw [c2] at hbad; exact hbad (by simp)
  · rw [b2i_0] at c3; rw [c3] at hbad; exact hbad (by simp)
  · rw [b2i_n0] at c c2 c3 c4
    replace hbar := hbar (by rw [c, c2, c3, c4]; rfl)
    replace hnot := hnot (by rw [c, c2, c3, c4]; rfl)
    rw [Bool.and_eq_true] at c2
    obtain ⟨m, hm, rfl⟩ := inR_nI (by omega) c
    obtain ⟨n, hn1, hn2, rfl⟩ := inR8 c3
    obtain ⟨k, hk, rfl⟩ := inR3 c2.1
    obtain ⟨l, hl, rfl⟩ := inR3 c2.2
    rw [nI_clamp (by omega)] at hnot
    refine pc_lacks_S hn0 (by omega) hl hn1 (by omega) (f := f) ⟨fun e => ?_, fun e => hbar (fun e2 => e (bar_nn.mpr e2))⟩
    have e := bar_nn.mp e
    refine ps_X6_seatOf hb hI (by omega) ⟨fun e2 => ?_, fun e2 => hnot e (fun c => e2 ((seat_nn hI).1.mpr c))⟩
    have hmem := (seat_nn hI).1.mp e2
    have el : 1 = l := by
      rcases Nat.decEq 1 l with h | h
      · rw [bar_ne h (by omega) hl] at e
        exact absurd e (by decide)
      · exact h
    subst el
    have hc : cpOk p4 p4 (nI n) n0 n0 := (cp_iff (l := 1) (f1 := f) (f2 := f) hn0 hn0 (by omega)).mpr ⟨e, e⟩
    obtain ⟨a1, -, -, a4, -⟩ := hc
    obtain ⟨i, hi, rfl⟩ := nI_of a1
    rw [nI_clamp hi, nI_clamp (by omega)] at a4
    refine pc_takeFromI hb hI (fun a' ha' => ⟨fun c6 => ?_, fun c6 => ⟨vp_in_nI (by omega) (by omega), ?_⟩⟩)
    · refine pc_lives_S hr hn0 a4 (by omega) hb ha' hI hy hm (fun b' fl' g1 => ?_)
      have := hok m i n rfl hmem rfl rfl a4 b' fl' a' g1
      rw [failV, if_neg c6] at this
      exact this
    · refine pc_kindsBy_S hr hn0 a4 hb ha' hI hy hm (fun b' fl' g1 => ?_)
      have := hok m i n rfl hmem rfl rfl a4 b' fl' a' g1
      rw [failV, if_pos c6] at this
      exact this
  · rw [b2i_0] at c4; rw [c4] at hbad; exact hbad (by simp)
theorem pc_failed_I {b a : BT} {fl : Nat → Int32} {B : AB} (hb : CR b B) (hI : Inv B) (hy : bY B ≤ 9999) {n0 : Nat} {rw : Nat → Int32} {f : Nat → Int64} (hr : ∀ q, q < n0 → Int32.toInt64 (rw q) = f q) (hn0 : n0 ≤ 24) {p1 p2 p3 p4 p5 p6 : Int32} {Q : Int32 → BT × (Nat → Int32) × BT → Prop}
    (hbad : failG B p1 p2 p3 p5 p6 = false → Q (-1) (b, fl, a))
    (hbar : failG B p1 p2 p3 p5 p6 = true → ¬ barI (some (2, n0, f)) p3 p4 p5 = 0 → Q (barI (some (2, n0, f)) p3 p4 p5) (b, fl, a))
    (hnot : failG B p1 p2 p3 p5 p6 = true → barI (some (2, n0, f)) p3 p4 p5 = 0 → ¬ p1.toNatClampNeg ∈ bS B → Q (-2) (b, fl, a))
    (hok : ∀ m i n, p1 = nI m → m ∈ bS B → p4 = nI i → p5 = nI n → i + n ≤ n0 → ∀ b' fl' a', CR b' B → Q (failV f B m i n p6) (b', fl', a')) : wp_X0_failed_I b fl a n0 rw p1 p2 p3 p4 p5 p6 Q := by
  have h6 := hI.1
  unfold wp_X0_failed_I
  unfold failG at hbad hbar hnot
  refine pc_isMan hb hI ⟨fun c => ?_, fun c => pc_isSheet ⟨fun c2 => ?_, fun c2 => pc_isIn (a := 1) (c := 8) rfl rfl ⟨fun c3 => ?_, fun c3 => pc_isIn (a := 0) (c := 2) rfl rfl ⟨fun c4 => ?_, fun c4 => ?_⟩⟩⟩⟩
  · rw [b2i_0] at c; rw [c] at hbad; exact hbad (by simp)
  · rw [b2i_0] at c2; rw [c2] at hbad; exact hbad (by simp)
  · rw [b2i_0] at c3; rw [c3] at hbad; exact hbad (by simp)
  · rw [b2i_n0] at c c2 c3 c4
    replace hbar := hbar (by rw [c, c2, c3, c4]; rfl)
    replace hnot := hnot (by rw [c, c2, c3, c4]; rfl)
    rw [Bool.and_eq_true] at c2
    obtain ⟨m, hm, rfl⟩ := inR_nI (by omega) c
    obtain ⟨n, hn1, hn2, rfl⟩ := inR8 c3
    obtain ⟨k, hk, rfl⟩ := inR3 c2.1
    obtain ⟨l, hl, rfl⟩ := inR3 c2.2
    rw [nI_clamp (by omega)] at hnot
    refine pc_lacks_I hn0 (by omega) hl hn1 (by omega) (f := f) ⟨fun e => ?_, fun e => hbar (fun e2 => e (bar_nn.mpr e2))⟩
    have e := bar_nn.mp e
    refine ps_X6_seatOf hb hI (by omega) ⟨fun e2 => ?_, fun e2 => hnot e (fun c => e2 ((seat_nn hI).1.mpr c))⟩
    have hmem := (seat_nn hI).1.mp e2
    have el : 2 = l := by
      rcases Nat.decEq 2 l with h | h
      · rw [bar_ne h (by omega) hl] at e
        exact absurd e (by decide)
      · exact h
    subst el
    have hc : cpOk p4 p4 (nI n) n0 n0 := (cp_iff (l := 2) (f1 := f) (f2 := f) hn0 hn0 (by omega)).mpr ⟨e, e⟩
    obtain ⟨a1, -, -, a4, -⟩ := hc
    obtain ⟨i, hi, rfl⟩ := nI_of a1
    rw [nI_clamp hi, nI_clamp (by omega)] at a4
    refine pc_takeFromI hb hI (fun a' ha' => ⟨fun c6 => ?_, fun c6 => ⟨vp_in_nI (by omega) (by omega), ?_⟩⟩)
    · refine pc_lives_I hr hn0 a4 (by omega) hb ha' hI hy hm (fun b' fl' g1 => ?_)
      have := hok m i n rfl hmem rfl rfl a4 b' fl' a' g1
      rw [failV, if_neg c6] at this
      exact this
    · refine pc_kindsBy_I hr hn0 a4 hb ha' hI hy hm (fun b' fl' g1 => ?_)
      have := hok m i n rfl hmem rfl rfl a4 b' fl' a' g1
      rw [failV, if_pos c6] at this
      exact this
  · rw [b2i_0] at c4; rw [c4] at hbad; exact hbad (by simp)
theorem pc_failed_J {b a : BT} {fl : Nat → Int32} {B : AB} (hb : CR b B) (hI : Inv B) (hy : bY B ≤ 9999) {n0 : Nat} {rw : Nat → Int64} {f : Nat → Int64} (hr : ∀ q, q < n0 → rw q = f q) (hn0 : n0 ≤ 24) {p1 p2 p3 p4 p5 p6 : Int32} {Q : Int32 → BT × (Nat → Int32) × BT → Prop}
    (hbad : failG B p1 p2 p3 p5 p6 = false → Q (-1) (b, fl, a))
    (hbar : failG B p1 p2 p3 p5 p6 = true → ¬ barI (some (3, n0, f)) p3 p4 p5 = 0 → Q (barI (some (3, n0, f)) p3 p4 p5) (b, fl, a))
    (hnot : failG B p1 p2 p3 p5 p6 = true → barI (some (3, n0, f)) p3 p4 p5 = 0 → ¬ p1.toNatClampNeg ∈ bS B → Q (-2) (b, fl, a))
    (hok : ∀ m i n, p1 = nI m → m ∈ bS B → p4 = nI i → p5 = nI n → i + n ≤ n0 → ∀ b' fl' a', CR b' B → Q (failV f B m i n p6) (b', fl', a')) : wp_X0_failed_J b fl a n0 rw p1 p2 p3 p4 p5 p6 Q := by
  have h6 := hI.1
  unfold wp_X0_failed_J
  unfold failG at hbad hbar hnot
  refine pc_isMan hb hI ⟨fun c => ?_, fun c => pc_isSheet ⟨fun c2 => ?_, fun c2 => pc_isIn (a := 1) (c := 8) rfl rfl ⟨fun c3 => ?_, fun c3 => pc_isIn (a := 0) (c := 2) rfl rfl ⟨fun c4 => ?_, fun c4 => ?_⟩⟩⟩⟩
  · rw [b2i_0] at c; rw [c] at hbad; exact hbad (by simp)
  · rw [b2i_0] at c2; rw [c2] at hbad; exact hbad (by simp)
  · rw [b2i_0] at c3; rw [c3] at hbad; exact hbad (by simp)
  · rw [b2i_n0] at c c2 c3 c4
    replace hbar := hbar (by rw [c, c2, c3, c4]; rfl)
    replace hnot := hnot (by rw [c, c2, c3, c4]; rfl)
    rw [Bool.and_eq_true] at c2
    obtain ⟨m, hm, rfl⟩ := inR_nI (by omega) c
    obtain ⟨n, hn1, hn2, rfl⟩ := inR8 c3
    obtain ⟨k, hk, rfl⟩ := inR3 c2.1
    obtain ⟨l, hl, rfl⟩ := inR3 c2.2
    rw [nI_clamp (by omega)] at hnot
    refine pc_lacks_J hn0 (by omega) hl hn1 (by omega) (f := f) ⟨fun e => ?_, fun e => hbar (fun e2 => e (bar_nn.mpr e2))⟩
    have e := bar_nn.mp e
    refine ps_X6_seatOf hb hI (by omega) ⟨fun e2 => ?_, fun e2 => hnot e (fun c => e2 ((seat_nn hI).1.mpr c))⟩
    have hmem := (seat_nn hI).1.mp e2
    have el : 3 = l := by
      rcases Nat.decEq 3 l with h | h
      · rw [bar_ne h (by omega) hl] at e
        exact absurd e (by decide)
      · exact h
    subst el
    have hc : cpOk p4 p4 (nI n) n0 n0 := (cp_iff (l := 3) (f1 := f) (f2 := f) hn0 hn0 (by omega)).mpr ⟨e, e⟩
    obtain ⟨a1, -, -, a4, -⟩ := hc
    obtain ⟨i, hi, rfl⟩ := nI_of a1
    rw [nI_clamp hi, nI_clamp (by omega)] at a4
    refine pc_takeFromI hb hI (fun a' ha' => ⟨fun c6 => ?_, fun c6 => ⟨vp_in_nI (by omega) (by omega), ?_⟩⟩)
    · refine pc_lives_J hr hn0 a4 (by omega) hb ha' hI hy hm (fun b' fl' g1 => ?_)
      have := hok m i n rfl hmem rfl rfl a4 b' fl' a' g1
      rw [failV, if_neg c6] at this
      exact this
    · refine pc_kindsBy_J hr hn0 a4 hb ha' hI hy hm (fun b' fl' g1 => ?_)
      have := hok m i n rfl hmem rfl rfl a4 b' fl' a' g1
      rw [failV, if_pos c6] at this
      exact this
  · rw [b2i_0] at c4; rw [c4] at hbad; exact hbad (by simp)
theorem pc_failed_N {b a : BT} {B : AB} (hb : CR b B) (hI : Inv B) (hy : bY B ≤ 9999) {p1 p2 p3 p4 p5 p6 : Int32} {Q : Int32 → BT × BT → Prop}
    (hbad : failG B p1 p2 p3 p5 p6 = false → Q (-1) (b, a))
    (hbar : failG B p1 p2 p3 p5 p6 = true → ¬ barI none p3 p4 p5 = 0 → Q (barI none p3 p4 p5) (b, a)) : wp_X0_failed_N b a p1 p2 p3 p4 p5 p6 Q := by
  have h6 := hI.1
  unfold wp_X0_failed_N
  unfold failG at hbad hbar
  refine pc_isMan hb hI ⟨fun c => ?_, fun c => pc_isSheet ⟨fun c2 => ?_, fun c2 => pc_isIn (a := 1) (c := 8) rfl rfl ⟨fun c3 => ?_, fun c3 => pc_isIn (a := 0) (c := 2) rfl rfl ⟨fun c4 => ?_, fun c4 => ?_⟩⟩⟩⟩
  · rw [b2i_0] at c; rw [c] at hbad; exact hbad (by simp)
  · rw [b2i_0] at c2; rw [c2] at hbad; exact hbad (by simp)
  · rw [b2i_0] at c3; rw [c3] at hbad; exact hbad (by simp)
  · rw [b2i_n0] at c c2 c3 c4
    replace hbar := hbar (by rw [c, c2, c3, c4]; rfl)
    rw [Bool.and_eq_true] at c2
    obtain ⟨k, hk, rfl⟩ := inR3 c2.1
    unfold wp_X0_lacks_N
    exact ⟨vp_in_nI (by omega) (by omega), fun e => absurd e (by decide), fun _ => hbar (show ¬ (-11 : Int32) = 0 by decide)⟩
  · rw [b2i_0] at c4; rw [c4] at hbad; exact hbad (by simp)
