/-! pure: sets, who sits by whom, by how much one fails -/
set_option maxRecDepth 100000
theorem or64 : ∀ a, a < 64 → ∀ c, c < 64 → nI a ||| nI c = nI (a ||| c) := by decide +kernel
theorem and64 : ∀ a, a < 64 → ∀ c, c < 64 → nI a &&& nI c = nI (a &&& c) := by decide +kernel
theorem bit6 : ∀ q, q < 6 → ((1 : Int32) <<< (nI q &&& 31)) = nI (2 ^ q) := by decide +kernel
theorem or0 (x : Int32) : x ||| 0 = x := Int32.or_zero
theorem zor (x : Int32) : 0 ||| x = x := Int32.zero_or
def isSet (x : Int32) : Prop := ∃ w, w < 64 ∧ x = nI w
theorem isSet_0 : isSet 0 := ⟨0, by omega, rfl⟩
theorem isSet_bit {q : Nat} (h : q < 6) : isSet ((1 : Int32) <<< (nI q &&& 31)) := ⟨2 ^ q, Nat.lt_of_le_of_lt (Nat.pow_le_pow_right (by omega) (show q ≤ 5 by omega)) (by decide), bit6 q h⟩
theorem isSet_or {x y : Int32} (hx : isSet x) (hy : isSet y) : isSet (x ||| y) := by
  obtain ⟨a, ha, rfl⟩ := hx
  obtain ⟨c, hc, rfl⟩ := hy
  exact ⟨a ||| c, Nat.or_lt_two_pow (n := 6) ha hc, or64 a ha c hc⟩
theorem isSet_and {x y : Int32} (hx : isSet x) (hy : isSet y) : isSet (x &&& y) := by
  obtain ⟨a, ha, rfl⟩ := hx
  obtain ⟨c, hc, rfl⟩ := hy
  exact ⟨a &&& c, Nat.and_lt_two_pow (n := 6) _ hc, and64 a ha c hc⟩
def onesN (w : Nat) : Nat := (List.range 6).foldl (fun a k => a + (w >>> k) % 2) 0
def onesF (x : Int32) : Int32 := (List.range 6).foldl (fun a k => a + ((x >>> (nI k &&& 31)) &&& 1)) 0
theorem onesF_N : ∀ w, w < 64 → onesF (nI w) = nI (onesN w) := by decide +kernel
def bcI (x : Int32) : Int32 :=
  let v1 := x - (((x).toUInt32 >>> (((1 : Int32)).toUInt32 &&& Int32.toUInt32 31)).toInt32 &&& (1431655765 : Int32))
  let v2 := (v1 &&& (858993459 : Int32)) + (((v1).toUInt32 >>> (((2 : Int32)).toUInt32 &&& Int32.toUInt32 31)).toInt32 &&& (858993459 : Int32))
  let v3 := (v2 + ((v2).toUInt32 >>> (((4 : Int32)).toUInt32 &&& Int32.toUInt32 31)).toInt32) &&& (252645135 : Int32)
  let v4 := v3 + ((v3).toUInt32 >>> (((8 : Int32)).toUInt32 &&& Int32.toUInt32 31)).toInt32
  let v5 := v4 + ((v4).toUInt32 >>> (((16 : Int32)).toUInt32 &&& Int32.toUInt32 31)).toInt32
  v5 &&& (63 : Int32)
theorem bcI_N : ∀ w, w < 64 → bcI (nI w) = nI (onesN w) := by decide +kernel
theorem pj_bitCount {w : Nat} (hw : w < 64) {Q : Int32 → Prop} (hQ : Q (nI (onesN w))) : wp_J3_bitCount (nI w) Q := by
  unfold wp_J3_bitCount
  rw [← bcI_N w hw] at hQ
  intro v1 h1 v2 h2 v3 h3 v4 h4 v5 h5
  subst h1 h2 h3 h4 h5
  exact hQ
theorem pm_ones {w : Nat} (hw : w < 64) {Q : Int32 → Prop} (hQ : Q (nI (onesN w))) : wp_X9_ones (nI w) Q := by
  unfold wp_X9_ones
  rw [← onesF_N w hw] at hQ
  refine loopF (fun n a k => wp_X9_ones_4 (nI w) Q n a k) 6 (by omega) (fun a k => a + ((nI w >>> (nI k &&& 31)) &&& 1)) (fun k a => a = (List.range k).foldl (fun a k => a + ((nI w >>> (nI k &&& 31)) &&& 1)) 0) ?_ ?_ ?_ _ rfl
  · intro n a ha
    unfold wp_X9_ones_4
    exact ⟨fun _ => by rw [ha]; exact hQ, fun c => absurd (by decide) c⟩
  · intro n a k hk ha hn
    have hn := hn (by rw [ha, List.range_succ, List.foldl_append]; rfl)
    unfold wp_X9_ones_4
    rw [nI_1]
    exact ⟨fun c => by simp (disch := omega) only [il0, il1, il2, il3, il4, il5, il6, il7, il8, il9, il10, il15, il16, il22, il24, il30, il31, il40, il41, il60, il70, il146, il161, il9999, pk_mul, nI_add, pk_sub, nI_clamp, nI_leI, nI_ltI, nI_eq] at c; omega, fun _ v hv => by rw [hv]; exact hn⟩
  · intro k a _ ha
    rw [ha, List.range_succ, List.foldl_append]; rfl
def hasB (x : Int32) (k : Nat) : Bool := decide (((x >>> (nI k &&& 31)) &&& 1) = 1)
theorem pm_has {x : Int32} {k : Nat} {Q : Int32 → Prop} (hQ : Q (b2i (hasB x k))) : wp_X9_has x (nI k) Q := by
  unfold wp_X9_has
  refine ⟨fun c => ?_, fun c => ?_⟩
  · have : hasB x k = false := by simp [hasB, c]
    rw [this] at hQ; exact hQ
  · have : hasB x k = true := by simp [hasB, c]
    rw [this] at hQ; exact hQ
theorem pc_has {x : Int32} {k : Nat} {Q : Int32 → Prop} (hQ : Q (b2i (hasB x k))) : wp_X0_has x (nI k) Q := pm_has hQ
/-! ranges -/
def inR (x : Int32) (lo hi : Int) : Bool := decide (lo ≤ x.toInt) && decide (x.toInt ≤ hi)
theorem inR_t {x : Int32} {lo hi : Int} : inR x lo hi = true ↔ lo ≤ x.toInt ∧ x.toInt ≤ hi := by simp [inR]
theorem inR_f {x : Int32} {lo hi : Int} : inR x lo hi = false ↔ ¬ (lo ≤ x.toInt ∧ x.toInt ≤ hi) := by simp [inR]
theorem inR_nI {x : Int32} {n : Nat} (hn : n < 2 ^ 31) (h : inR x 0 ((n : Int) - 1) = true) : ∃ j, j < n ∧ x = nI j := by
  rw [inR_t] at h
  refine ⟨x.toInt.toNat, by omega, Int32.toInt_inj.mp ?_⟩
  rw [nI_toInt (by omega)]; omega
theorem inR_of {n j : Nat} (hn : n < 2 ^ 31) (h : j < n) : inR (nI j) 0 ((n : Int) - 1) = true := by
  rw [inR_t, nI_toInt (by omega)]; omega
theorem pm_in {x lo hi : Int32} {Q : Int32 → Prop} (hQ : Q (b2i (inR x lo.toInt hi.toInt))) : wp_X9_in x lo hi Q := by
  unfold wp_X9_in
  simp only [Int32.lt_iff_toInt_lt]
  refine ⟨fun c => ?_, fun c => ⟨fun c2 => ?_, fun c2 => ?_⟩⟩
  · rw [show inR x lo.toInt hi.toInt = false from inR_f.mpr (by omega)] at hQ; exact hQ
  · rw [show inR x lo.toInt hi.toInt = false from inR_f.mpr (by omega)] at hQ; exact hQ
  · rw [show inR x lo.toInt hi.toInt = true from inR_t.mpr (by omega)] at hQ; exact hQ
theorem lg_lt0 (x y : Int64) : lg_cmp x y < 0 ↔ x.toInt < y.toInt := by
  unfold lg_cmp
  simp only [gt_iff_lt, Int64.lt_iff_toInt_lt, ← Int64.toInt_inj]
  split
  · simp; omega
  · split
    · simp; omega
    · have : (-1 : Int32) < 0 := by decide
      simp only [this, true_iff]; omega
theorem lg_gt0 (x y : Int64) : 0 < lg_cmp x y ↔ y.toInt < x.toInt := by
  unfold lg_cmp
  simp only [gt_iff_lt, Int64.lt_iff_toInt_lt, ← Int64.toInt_inj]
  split
  · have : (0 : Int32) < 1 := by decide
    simp only [this, true_iff]; omega
  · split
    · simp; omega
    · have : ¬ (0 : Int32) < -1 := by decide
      simp only [this, false_iff]; omega
theorem pc_isInL {x lo hi : Int64} {Q : Int32 → Prop} (hQ : Q (b2i (decide (lo.toInt ≤ x.toInt) && decide (x.toInt ≤ hi.toInt)))) : wp_X0_isIn x lo hi Q := by
  unfold wp_X0_isIn
  simp only [lg_lt0, lg_gt0]
  refine ⟨fun c => ?_, fun c => ⟨fun c2 => ?_, fun c2 => ?_⟩⟩
  · rw [show (decide (lo.toInt ≤ x.toInt) && decide (x.toInt ≤ hi.toInt)) = false by simp; omega] at hQ; exact hQ
  · rw [show (decide (lo.toInt ≤ x.toInt) && decide (x.toInt ≤ hi.toInt)) = false by simp; omega] at hQ; exact hQ
  · rw [show (decide (lo.toInt ≤ x.toInt) && decide (x.toInt ≤ hi.toInt)) = true by simp; omega] at hQ; exact hQ
theorem pc_isIn {x : Int32} {lo hi : Int64} {a c : Int} (ha : lo.toInt = a) (hc : hi.toInt = c) {Q : Int32 → Prop} (hQ : Q (b2i (inR x a c))) : wp_X0_isIn (Int32.toInt64 x) lo hi Q := by
  refine pc_isInL ?_
  rw [Int32.toInt_toInt64, ha, hc]
  exact hQ
theorem nI_m1 {n : Nat} (hn : n < 2 ^ 30) : (nI n - 1).toInt = (n : Int) - 1 := by
  rw [il1, pk_sub_toInt (by omega) (by omega)]; rfl
theorem pc_isMan {b : BT} {B : AB} (h : CR b B) (hI : Inv B) {x : Int32} {Q : Int32 → Prop} (hQ : Q (b2i (inR x 0 ((bM B : Int) - 1)))) : wp_X0_isMan b x Q := by
  have h6 := hI.1
  unfold wp_X0_isMan
  exact pc_isIn (a := 0) (c := (bM B : Int) - 1) rfl (by rw [h.1, Int32.toInt_toInt64, nI_m1 (by omega)]) ⟨b2i_z _, hQ⟩
theorem pm_isMan {s : Nat → Int32} {B : AB} (h : MR s B) (hI : Inv B) {x : Int32} {Q : Int32 → Prop} (hQ : Q (b2i (inR x 0 ((bM B : Int) - 1)))) : wp_X9_isMan s x Q := by
  have h6 := hI.1
  unfold wp_X9_isMan
  refine pm_in ?_
  rw [h.1, nI_m1 (by omega)]
  exact ⟨b2i_z _, hQ⟩
/-! who sits by whom -/
def sitL (l : List Nat) (k : Nat) : Int32 := if 0 < k then ((1 : Int32) <<< (nI (l.getD (k - 1) 0) &&& 31)) else 0
def sitR (l : List Nat) (k : Nat) : Int32 := if k + 1 < l.length then ((1 : Int32) <<< (nI (l.getD (k + 1) 0) &&& 31)) else 0
def sitI (B : AB) (m : Nat) : Int32 := if m ∈ bS B then sitL (bS B) ((bS B).idxOf m) ||| sitR (bS B) ((bS B).idxOf m) else 0
theorem idx_lt {l : List Nat} {m : Nat} (h : m ∈ l) : l.idxOf m < l.length := List.idxOf_lt_length_iff.mpr h
theorem nI_ne4 {n : Nat} (h : n < 2 ^ 31) : ¬ nI n = (-4 : Int32) := by
  intro e
  have := congrArg Int32.toInt e
  rw [nI_toInt h] at this
  have h4 : (-4 : Int32).toInt = -4 := by decide
  omega
theorem pc_sitSet {b : BT} {B : AB} (h : CR b B) (hI : Inv B) {m : Nat} (hm : m < 6) {Q : Int32 → Prop} (hQ : Q (sitI B m)) : wp_X6_sitSet b (nI m) Q := by
  have h6 := hI.1
  have hl := hI.len
  unfold wp_X6_sitSet
  refine ps_X6_seatOf h hI hm ?_
  by_cases hmem : m ∈ bS B
  · have hk := idx_lt hmem
    obtain ⟨k, hke⟩ : ∃ k, k = (bS B).idxOf m := ⟨_, rfl⟩
    simp only [sitI, if_pos hmem, ← hke] at hQ
    simp only [seatI, if_pos hmem, ← hke]
    rw [← hke] at hk
    have fin : ∀ y : Int32, y = sitL (bS B) k → wp_X6_sitSet_24 b (nI m) Q (nI k) y := by
      intro y hy
      unfold wp_X6_sitSet_24
      rw [h.2.1]
      refine ⟨fun c => absurd c (nI_pos (by omega)), fun _ => ⟨fun c => ?_, fun c => ?_⟩⟩
      · simp (disch := omega) only [il0, il1, il2, il3, il4, il5, il6, il7, il8, il9, il10, il15, il16, il22, il24, il30, il31, il40, il41, il60, il70, il146, il161, il9999, pk_mul, nI_add, pk_sub, nI_clamp, nI_leI, nI_ltI, nI_eq] at c
        rw [sitR, if_neg (by omega), or0, ← hy] at hQ
        exact hQ
      · simp (disch := omega) only [il0, il1, il2, il3, il4, il5, il6, il7, il8, il9, il10, il15, il16, il22, il24, il30, il31, il40, il41, il60, il70, il146, il161, il9999, pk_mul, nI_add, pk_sub, nI_clamp, nI_leI, nI_ltI, nI_eq] at c
        simp (disch := omega) only [il0, il1, il2, il3, il4, il5, il6, il7, il8, il9, il10, il15, il16, il22, il24, il30, il31, il40, il41, il60, il70, il146, il161, il9999, pk_mul, nI_add, pk_sub, nI_clamp, nI_leI, nI_ltI, nI_eq]
        refine ⟨vp_in_nI (by omega) (by omega), ?_⟩
        rw [h.2.2.2.2.1 _ (by omega), ← il1, ← il31, hy]
        rw [sitR, if_pos (by omega)] at hQ
        exact hQ
    refine ⟨fun c => fin 0 ?_, fun c => ?_⟩
    · simp (disch := omega) only [il0, il1, il2, il3, il4, il5, il6, il7, il8, il9, il10, il15, il16, il22, il24, il30, il31, il40, il41, il60, il70, il146, il161, il9999, pk_mul, nI_add, pk_sub, nI_clamp, nI_leI, nI_ltI, nI_eq] at c
      rw [sitL, if_neg (by omega)]
    · simp (disch := omega) only [il0, il1, il2, il3, il4, il5, il6, il7, il8, il9, il10, il15, il16, il22, il24, il30, il31, il40, il41, il60, il70, il146, il161, il9999, pk_mul, nI_add, pk_sub, nI_clamp, nI_leI, nI_ltI, nI_eq] at c
      simp (disch := omega) only [il0, il1, il2, il3, il4, il5, il6, il7, il8, il9, il10, il15, il16, il22, il24, il30, il31, il40, il41, il60, il70, il146, il161, il9999, pk_mul, nI_add, pk_sub, nI_clamp, nI_leI, nI_ltI, nI_eq]
      refine ⟨vp_in_nI (by omega) (by omega), ?_⟩
      rw [h.2.2.2.2.1 _ (by omega), ← il1, ← il31]
      exact fin _ (by rw [sitL, if_pos (by omega)])
  · simp only [sitI, if_neg hmem] at hQ
    simp only [seatI, if_neg hmem]
    refine ⟨fun _ => ?_, fun c => absurd (by decide) c⟩
    unfold wp_X6_sitSet_24
    exact ⟨fun _ => hQ, fun c => absurd (by decide) c⟩
def onSeatI (l : List Nat) (k : Int) : Int32 := if 0 ≤ k ∧ k < (l.length : Int) then nI (l.getD k.toNat 0) else (-4)
theorem pm_onSeat {s : Nat → Int32} {B : AB} (h : MR s B) (hI : Inv B) {x : Int32} {Q : Int32 → Prop} (hQ : Q (onSeatI (bS B) x.toInt)) : wp_X9_onSeat s x Q := by
  have h6 := hI.1
  have hl := hI.len
  unfold wp_X9_onSeat
  refine pm_in ?_
  rw [h.2.1, nI_m1 (by omega)]
  refine ⟨fun c => ?_, fun c => ?_⟩
  · rw [b2i_0, inR_f] at c
    rw [onSeatI, if_neg (by have : (0 : Int32).toInt = 0 := by decide
                            omega)] at hQ
    exact hQ
  · rw [b2i_n0] at c
    obtain ⟨k, hk, rfl⟩ := inR_nI (n := (bS B).length) (by omega) c
    rw [onSeatI, nI_toInt (by omega), if_pos (by omega), Int.toNat_natCast] at hQ
    simp (disch := omega) only [il0, il1, il2, il3, il4, il5, il6, il7, il8, il9, il10, il15, il16, il22, il24, il30, il31, il40, il41, il60, il70, il146, il161, il9999, pk_mul, nI_add, pk_sub, nI_clamp, nI_leI, nI_ltI, nI_eq]
    refine ⟨vp_in_nI (by omega) (by omega), ?_⟩
    rw [h.2.2.2.2.1 _ (by omega)]
    exact hQ
theorem pm_allSitBy {s : Nat → Int32} {B : AB} (h : MR s B) (hI : Inv B) {m : Nat} (hm : m < 6) {Q : Int32 → Prop} (hQ : Q (sitI B m)) : wp_X9_allSitBy s (nI m) Q := by
  have h6 := hI.1
  have hl := hI.len
  unfold wp_X9_allSitBy
  refine pm_seatOf h hI hm ?_
  by_cases hmem : m ∈ bS B
  · have hk := idx_lt hmem
    obtain ⟨k, hke⟩ : ∃ k, k = (bS B).idxOf m := ⟨_, rfl⟩
    simp only [sitI, if_pos hmem, ← hke] at hQ
    simp only [seatI, if_pos hmem, ← hke]
    rw [← hke] at hk
    refine ⟨fun _ => pm_onSeat h hI (pm_onSeat h hI ?_), fun c => absurd c (nI_ne4 (by omega))⟩
    have e1 : (nI k - 1).toInt = (k : Int) - 1 := nI_m1 (by omega)
    have e2 : (nI k + 1).toInt = (k : Int) + 1 := by rw [nI_1, nI_toInt (by omega)]; rfl
    rw [e1, e2]
    have hR : (onSeatI (bS B) ((k : Int) + 1) = -4 ∧ sitR (bS B) k = 0) ∨ (¬ onSeatI (bS B) ((k : Int) + 1) = -4 ∧ sitR (bS B) k = (1 : Int32) <<< (onSeatI (bS B) ((k : Int) + 1) &&& 31)) := by
      unfold onSeatI sitR
      by_cases c : k + 1 < (bS B).length
      · have hx : (bS B).getD (k + 1) 0 < bM B := hI.2.2.1 _ (getD_mem c)
        rw [if_pos c, if_pos (by omega)]
        refine Or.inr ⟨?_, ?_⟩
        · rw [show ((k : Int) + 1).toNat = k + 1 by omega]; exact nI_ne4 (by omega)
        · rw [show ((k : Int) + 1).toNat = k + 1 by omega]
      · rw [if_neg c, if_neg (by omega)]
        exact Or.inl ⟨rfl, rfl⟩
    have hL : (onSeatI (bS B) ((k : Int) - 1) = -4 ∧ sitL (bS B) k = 0) ∨ (¬ onSeatI (bS B) ((k : Int) - 1) = -4 ∧ sitL (bS B) k = (1 : Int32) <<< (onSeatI (bS B) ((k : Int) - 1) &&& 31)) := by
      unfold onSeatI sitL
      by_cases c : 0 < k
      · have hx : (bS B).getD (k - 1) 0 < bM B := hI.2.2.1 _ (getD_mem (by omega))
        rw [if_pos c, if_pos (by omega)]
        refine Or.inr ⟨?_, ?_⟩
        · rw [show ((k : Int) - 1).toNat = k - 1 by omega]; exact nI_ne4 (by omega)
        · rw [show ((k : Int) - 1).toNat = k - 1 by omega]
      · rw [if_neg c, if_neg (by omega)]
        exact Or.inl ⟨rfl, rfl⟩
    rcases hL with ⟨l1, l2⟩ | ⟨l1, l2⟩ <;> rcases hR with ⟨r1, r2⟩ | ⟨r1, r2⟩ <;> rw [l2, r2] at hQ
    · exact ⟨fun c => absurd l1 c, fun _ => ⟨fun c => absurd r1 c, fun _ => hQ⟩⟩
    · exact ⟨fun c => absurd l1 c, fun _ => ⟨fun _ => hQ, fun c => absurd c r1⟩⟩
    · exact ⟨fun _ => ⟨fun c => absurd r1 c, fun _ => hQ⟩, fun c => absurd c l1⟩
    · exact ⟨fun _ => ⟨fun _ => hQ, fun c => absurd c r1⟩, fun c => absurd c l1⟩
  · simp only [sitI, if_neg hmem] at hQ
    simp only [seatI, if_neg hmem]
    exact ⟨fun c => absurd trivial c, fun _ => hQ⟩
