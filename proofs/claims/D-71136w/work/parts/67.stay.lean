/-! pure: swaps, stay: both sides answer alike -/
set_option maxRecDepth 100000
/-- both answer the same -/
def Ans (WC WM : (Int32 → Prop) → Prop) : Prop := ∃ r : Int32, (∀ Q : Int32 → Prop, Q r → WC Q) ∧ (∀ Q : Int32 → Prop, Q r → WM Q)
theorem Ans.of {WC WM : (Int32 → Prop) → Prop} (r : Int32) (h1 : ∀ Q : Int32 → Prop, Q r → WC Q) (h2 : ∀ Q : Int32 → Prop, Q r → WM Q) : Ans WC WM := ⟨r, h1, h2⟩
/-- the place of the one on a seat at an hour -/
def pOn (B : AB) (k t : Nat) : Nat := bP B (3 * (bS B).getD k 0 + t)
theorem pOn_le {B : AB} (hI : Inv B) {k t : Nat} (hk : k < (bS B).length) (ht : t < 3) : pOn B k t ≤ 9 := pl_lt hI (hI.2.2.1 _ (getD_mem hk)) ht
theorem pc_placeOn {b : BT} {B : AB} (h : CR b B) (hI : Inv B) {k t : Nat} (hk : k < (bS B).length) (ht : t < 3) {Q : Int32 → Prop} (hQ : Q (nI (pOn B k t))) : wp_X0_placeOn b (nI k) (nI t) Q := by
  have h6 := hI.1
  have hl := hI.len
  have hx : (bS B).getD k 0 < bM B := hI.2.2.1 _ (getD_mem hk)
  unfold wp_X0_placeOn
  rw [nI_clamp (by omega), h.2.2.2.2.1 k hk]
  exact ⟨vp_in_nI (by omega) (by omega), pc_placeOf h hI hx ht hQ⟩
theorem pm_placeOn {s : Nat → Int32} {B : AB} (h : MR s B) (hI : Inv B) {k t : Nat} (hk : k < (bS B).length) (ht : t < 3) {Q : Int32 → Prop} (hQ : Q (nI (pOn B k t))) : wp_X9_placeOn s (nI k) (nI t) Q := by
  have h6 := hI.1
  have hl := hI.len
  have hx : (bS B).getD k 0 < bM B := hI.2.2.1 _ (getD_mem hk)
  unfold wp_X9_placeOn
  rw [il10, nI_add, nI_clamp (by omega), h.2.2.2.2.1 k hk]
  simp (disch := omega) only [il0, il1, il2, il3, il4, il5, il6, il7, il8, il9, il10, il15, il16, il22, il24, il30, il31, il40, il41, il60, il70, il146, il161, il9999, pk_mul, nI_add, pk_sub, nI_clamp, nI_leI, nI_ltI, nI_eq]
  refine ⟨vp_in_nI (by omega) (by omega), vp_in_nI (by omega) (by omega), ?_⟩
  rw [Nat.add_assoc, h.2.2.2.2.2.2.2 _ (by omega)]
  exact hQ
theorem sw_in {b : BT} {s : Nat → Int32} {B : AB} (hc : CR b B) (hm : MR s B) (hI : Inv B) {t i : Nat} (ht : t < 3) (hi : i < (bS B).length) : ∀ (d j : Nat) (acc : Int32), j + d = (bS B).length →
    ∃ r : Int32, (∀ Q (K : Int32 → Int32 → Prop), K r (nI i + 1) → wp_X0_swaps_29 b (nI t) Q K (d + 1) acc (nI i) (nI j)) ∧ (∀ Q (K : Int32 → Int32 → Prop), K r (nI i + 1) → wp_X9_swaps_30 s (nI t) Q K (d + 1) acc (nI i) (nI j)) := by
  have h6 := hI.1
  have hl := hI.len
  intro d
  induction d with
  | zero =>
    intro j acc hj
    refine ⟨acc, fun Q K hK => ?_, fun Q K hK => ?_⟩
    · unfold wp_X0_swaps_29
      rw [hc.2.1]
      exact ⟨fun _ => hK, fun c => by simp (disch := omega) only [il0, il1, il2, il3, il4, il5, il6, il7, il8, il9, il10, il15, il16, il22, il24, il30, il31, il40, il41, il60, il70, il146, il161, il9999, pk_mul, nI_add, pk_sub, nI_clamp, nI_leI, nI_ltI, nI_eq] at c; omega⟩
    · unfold wp_X9_swaps_30
      rw [hm.2.1]
      exact ⟨fun _ => hK, fun c => by simp (disch := omega) only [il0, il1, il2, il3, il4, il5, il6, il7, il8, il9, il10, il15, il16, il22, il24, il30, il31, il40, il41, il60, il70, il146, il161, il9999, pk_mul, nI_add, pk_sub, nI_clamp, nI_leI, nI_ltI, nI_eq] at c; omega⟩
  | succ d ih =>
    intro j acc hj
    have b1 := pOn_le hI hi ht
    have b2 := pOn_le hI (k := j) (by omega) ht
    obtain ⟨r, r1, r2⟩ := ih (j + 1) (acc + if pOn B i t ≤ pOn B j t then 0 else 1) (by omega)
    refine ⟨r, fun Q K hK => ?_, fun Q K hK => ?_⟩
    · unfold wp_X0_swaps_29
      rw [hc.2.1, nI_1 j]
      refine ⟨fun c => by simp (disch := omega) only [il0, il1, il2, il3, il4, il5, il6, il7, il8, il9, il10, il15, il16, il22, il24, il30, il31, il40, il41, il60, il70, il146, il161, il9999, pk_mul, nI_add, pk_sub, nI_clamp, nI_leI, nI_ltI, nI_eq] at c; omega, fun _ => pc_placeOn hc hI hi ht (pc_placeOn hc hI (by omega) ht ⟨fun c v hv => ?_, fun c v hv => ?_⟩)⟩
      · simp (disch := omega) only [il0, il1, il2, il3, il4, il5, il6, il7, il8, il9, il10, il15, il16, il22, il24, il30, il31, il40, il41, il60, il70, il146, il161, il9999, pk_mul, nI_add, pk_sub, nI_clamp, nI_leI, nI_ltI, nI_eq] at c
        rw [if_pos c] at r1
        rw [hv]; exact r1 Q K hK
      · simp (disch := omega) only [il0, il1, il2, il3, il4, il5, il6, il7, il8, il9, il10, il15, il16, il22, il24, il30, il31, il40, il41, il60, il70, il146, il161, il9999, pk_mul, nI_add, pk_sub, nI_clamp, nI_leI, nI_ltI, nI_eq] at c
        rw [if_neg c] at r1
        rw [hv]; exact r1 Q K hK
    · unfold wp_X9_swaps_30
      rw [hm.2.1, nI_1 j]
      refine ⟨fun c => by simp (disch := omega) only [il0, il1, il2, il3, il4, il5, il6, il7, il8, il9, il10, il15, il16, il22, il24, il30, il31, il40, il41, il60, il70, il146, il161, il9999, pk_mul, nI_add, pk_sub, nI_clamp, nI_leI, nI_ltI, nI_eq] at c; omega, fun _ => pm_placeOn hm hI hi ht (pm_placeOn hm hI (by omega) ht ⟨fun c v hv => ?_, fun c v hv => ?_⟩)⟩
      · simp (disch := omega) only [il0, il1, il2, il3, il4, il5, il6, il7, il8, il9, il10, il15, il16, il22, il24, il30, il31, il40, il41, il60, il70, il146, il161, il9999, pk_mul, nI_add, pk_sub, nI_clamp, nI_leI, nI_ltI, nI_eq] at c
        rw [if_pos c] at r2
        rw [hv]; exact r2 Q K hK
      · simp (disch := omega) only [il0, il1, il2, il3, il4, il5, il6, il7, il8, il9, il10, il15, il16, il22, il24, il30, il31, il40, il41, il60, il70, il146, il161, il9999, pk_mul, nI_add, pk_sub, nI_clamp, nI_leI, nI_ltI, nI_eq] at c
        rw [if_neg c] at r2
        rw [hv]; exact r2 Q K hK
theorem sw_out {b : BT} {s : Nat → Int32} {B : AB} (hc : CR b B) (hm : MR s B) (hI : Inv B) {t : Nat} (ht : t < 3) : ∀ (d i : Nat) (acc : Int32), i + d = (bS B).length →
    ∃ r : Int32, (∀ Q, Q r → wp_X0_swaps_13 b (nI t) Q (d + 1) acc (nI i)) ∧ (∀ Q, Q r → wp_X9_swaps_15 s (nI t) Q (d + 1) acc (nI i)) := by
  have h6 := hI.1
  have hl := hI.len
  intro d
  induction d with
  | zero =>
    intro i acc hi
    refine ⟨acc, fun Q hQ => ?_, fun Q hQ => ?_⟩
    · unfold wp_X0_swaps_13
      rw [hc.2.1]
      exact ⟨fun _ => hQ, fun c => by simp (disch := omega) only [il0, il1, il2, il3, il4, il5, il6, il7, il8, il9, il10, il15, il16, il22, il24, il30, il31, il40, il41, il60, il70, il146, il161, il9999, pk_mul, nI_add, pk_sub, nI_clamp, nI_leI, nI_ltI, nI_eq] at c; omega⟩
    · unfold wp_X9_swaps_15
      rw [hm.2.1]
      exact ⟨fun _ => hQ, fun c => by simp (disch := omega) only [il0, il1, il2, il3, il4, il5, il6, il7, il8, il9, il10, il15, il16, il22, il24, il30, il31, il40, il41, il60, il70, il146, il161, il9999, pk_mul, nI_add, pk_sub, nI_clamp, nI_leI, nI_ltI, nI_eq] at c; omega⟩
  | succ d ih =>
    intro i acc hi
    obtain ⟨a1, p1, p2⟩ := sw_in hc hm hI ht (i := i) (by omega) d (i + 1) acc (by omega)
    obtain ⟨r, r1, r2⟩ := ih (i + 1) a1 (by omega)
    refine ⟨r, fun Q hQ => ?_, fun Q hQ => ?_⟩
    · unfold wp_X0_swaps_13
      rw [hc.2.1]
      refine ⟨fun c => by simp (disch := omega) only [il0, il1, il2, il3, il4, il5, il6, il7, il8, il9, il10, il15, il16, il22, il24, il30, il31, il40, il41, il60, il70, il146, il161, il9999, pk_mul, nI_add, pk_sub, nI_clamp, nI_leI, nI_ltI, nI_eq] at c; omega, fun _ v hv => ⟨d + 1, ?_⟩⟩
      rw [hv, nI_1]
      exact p1 Q _ (by rw [nI_1]; exact r1 Q hQ)
    · unfold wp_X9_swaps_15
      rw [hm.2.1]
      refine ⟨fun c => by simp (disch := omega) only [il0, il1, il2, il3, il4, il5, il6, il7, il8, il9, il10, il15, il16, il22, il24, il30, il31, il40, il41, il60, il70, il146, il161, il9999, pk_mul, nI_add, pk_sub, nI_clamp, nI_leI, nI_ltI, nI_eq] at c; omega, fun _ v hv => ⟨d + 1, ?_⟩⟩
      rw [hv, nI_1]
      exact p2 Q _ (by rw [nI_1]; exact r2 Q hQ)
theorem inR2 {x : Int32} (h : inR x 0 2 = true) : ∃ j, j < 3 ∧ x = nI j := by
  obtain ⟨j, hj, e⟩ := inRn (n := 2) (by omega) h
  exact ⟨j, by omega, e⟩
theorem an_swaps {b : BT} {s : Nat → Int32} {B : AB} (hc : CR b B) (hm : MR s B) (hI : Inv B) (p1 : Int32) : Ans (wp_X0_swaps b p1) (wp_X9_swaps s p1) := by
  by_cases c : inR p1 0 2 = true
  · obtain ⟨t, ht, rfl⟩ := inR2 c
    obtain ⟨r, r1, r2⟩ := sw_out hc hm hI ht (bS B).length 0 0 (by omega)
    refine Ans.of r (fun Q hQ => ?_) (fun Q hQ => ?_)
    · unfold wp_X0_swaps
      refine pc_isHour ?_
      rw [c]
      exact ⟨fun _ => ⟨_, r1 Q hQ⟩, fun c => absurd c (by decide)⟩
    · unfold wp_X9_swaps
      refine pm_in ?_
      have c : inR (nI t) (0 : Int32).toInt (2 : Int32).toInt = true := c
      rw [c]
      exact ⟨fun _ => ⟨_, r2 Q hQ⟩, fun c => absurd c (by decide)⟩
  · have c : inR p1 0 2 = false := by simpa using c
    refine Ans.of (-1) (fun Q hQ => ?_) (fun Q hQ => ?_)
    · unfold wp_X0_swaps
      refine pc_isHour ?_
      rw [c]
      exact ⟨fun c => absurd rfl c, fun _ => hQ⟩
    · unfold wp_X9_swaps
      refine pm_in ?_
      have c : inR p1 (0 : Int32).toInt (2 : Int32).toInt = false := c
      rw [c]
      exact ⟨fun c => absurd rfl c, fun _ => hQ⟩
/-! whether seats are in the order of an hour -/
theorem or_L {b : BT} {s : Nat → Int32} {B : AB} (hc : CR b B) (hm : MR s B) (hI : Inv B) {t : Nat} (ht : t < 3) (set : Int32) : ∀ (d k : Nat) (is last : Int32), k + d = (bS B).length → z01 is →
    ∃ r : Int32, z01 r ∧ (∀ Q, Q r → wp_X0_isInOrder_8 b set (nI t) Q (d + 1) last is (nI k)) ∧ (∀ Q, Q r → wp_X9_isOrder_8 s set (nI t) Q (d + 1) is last (nI k)) := by
  have h6 := hI.1
  have hl := hI.len
  intro d
  induction d with
  | zero =>
    intro k is last hk hz
    refine ⟨is, hz, fun Q hQ => ?_, fun Q hQ => ?_⟩
    · unfold wp_X0_isInOrder_8
      rw [hc.2.1]
      exact ⟨fun _ => ⟨hz, hQ⟩, fun c => by simp (disch := omega) only [il0, il1, il2, il3, il4, il5, il6, il7, il8, il9, il10, il15, il16, il22, il24, il30, il31, il40, il41, il60, il70, il146, il161, il9999, pk_mul, nI_add, pk_sub, nI_clamp, nI_leI, nI_ltI, nI_eq] at c; omega⟩
    · unfold wp_X9_isOrder_8
      rw [hm.2.1]
      exact ⟨fun _ => ⟨hz, hQ⟩, fun c => by simp (disch := omega) only [il0, il1, il2, il3, il4, il5, il6, il7, il8, il9, il10, il15, il16, il22, il24, il30, il31, il40, il41, il60, il70, il146, il161, il9999, pk_mul, nI_add, pk_sub, nI_clamp, nI_leI, nI_ltI, nI_eq] at c; omega⟩
  | succ d ih =>
    intro k is last hk hz
    have hkl : k < (bS B).length := by omega
    have hk1 : nI k + 1 = nI (k + 1) := nI_1 k
    by_cases hh : hasB set k = true
    · obtain ⟨is1, hz1, e1⟩ : ∃ is1 : Int32, z01 is1 ∧ is1 = (if is = 0 then 0 else if nI (pOn B k t) ≤ last then 0 else 1) := by
        refine ⟨_, ?_, rfl⟩
        split
        · exact Or.inl rfl
        · split
          · exact Or.inl rfl
          · exact Or.inr rfl
      obtain ⟨r, rz, r1, r2⟩ := ih (k + 1) is1 (nI (pOn B k t)) (by omega) hz1
      refine ⟨r, rz, fun Q hQ => ?_, fun Q hQ => ?_⟩
      · unfold wp_X0_isInOrder_8
        rw [hc.2.1, hk1]
        refine ⟨fun c => by simp (disch := omega) only [il0, il1, il2, il3, il4, il5, il6, il7, il8, il9, il10, il15, il16, il22, il24, il30, il31, il40, il41, il60, il70, il146, il161, il9999, pk_mul, nI_add, pk_sub, nI_clamp, nI_leI, nI_ltI, nI_eq] at c; omega, fun _ => pc_has ?_⟩
        rw [hh]
        refine ⟨fun c => absurd c (by decide), fun _ => ⟨fun c => pc_placeOn hc hI hkl ht ?_, fun c => pc_placeOn hc hI hkl ht ⟨fun c2 => pc_placeOn hc hI hkl ht ?_, fun c2 => pc_placeOn hc hI hkl ht ?_⟩⟩⟩
        · rw [if_pos c] at e1; rw [← e1]; exact r1 Q hQ
        · rw [if_neg c, if_pos c2] at e1; rw [← e1]; exact r1 Q hQ
        · rw [if_neg c, if_neg c2] at e1; rw [← e1]; exact r1 Q hQ
      · unfold wp_X9_isOrder_8
        rw [hm.2.1, hk1]
        refine ⟨fun c => by simp (disch := omega) only [il0, il1, il2, il3, il4, il5, il6, il7, il8, il9, il10, il15, il16, il22, il24, il30, il31, il40, il41, il60, il70, il146, il161, il9999, pk_mul, nI_add, pk_sub, nI_clamp, nI_leI, nI_ltI, nI_eq] at c; omega, fun _ => pm_has ?_⟩
        rw [hh]
        refine ⟨fun c => absurd c (by decide), fun _ => ⟨fun c => pm_placeOn hm hI hkl ht ?_, fun c => pm_placeOn hm hI hkl ht ⟨fun c2 => pm_placeOn hm hI hkl ht ?_, fun c2 => pm_placeOn hm hI hkl ht ?_⟩⟩⟩
        · rw [if_pos c] at e1; rw [← e1]; exact r2 Q hQ
        · rw [if_neg c, if_pos c2] at e1; rw [← e1]; exact r2 Q hQ
        · rw [if_neg c, if_neg c2] at e1; rw [← e1]; exact r2 Q hQ
    · have hh : hasB set k = false := by simpa using hh
      obtain ⟨r, rz, r1, r2⟩ := ih (k + 1) is last (by omega) hz
      refine ⟨r, rz, fun Q hQ => ?_, fun Q hQ => ?_⟩
      · unfold wp_X0_isInOrder_8
        rw [hc.2.1, hk1]
        refine ⟨fun c => by simp (disch := omega) only [il0, il1, il2, il3, il4, il5, il6, il7, il8, il9, il10, il15, il16, il22, il24, il30, il31, il40, il41, il60, il70, il146, il161, il9999, pk_mul, nI_add, pk_sub, nI_clamp, nI_leI, nI_ltI, nI_eq] at c; omega, fun _ => pc_has ?_⟩
        rw [hh]
        exact ⟨fun _ => r1 Q hQ, fun c => absurd rfl c⟩
      · unfold wp_X9_isOrder_8
        rw [hm.2.1, hk1]
        refine ⟨fun c => by simp (disch := omega) only [il0, il1, il2, il3, il4, il5, il6, il7, il8, il9, il10, il15, il16, il22, il24, il30, il31, il40, il41, il60, il70, il146, il161, il9999, pk_mul, nI_add, pk_sub, nI_clamp, nI_leI, nI_ltI, nI_eq] at c; omega, fun _ => pm_has ?_⟩
        rw [hh]
        exact ⟨fun _ => r2 Q hQ, fun c => absurd rfl c⟩
theorem an_order {b : BT} {s : Nat → Int32} {B : AB} (hc : CR b B) (hm : MR s B) (hI : Inv B) {t : Nat} (ht : t < 3) (set : Int32) : Ans (wp_X0_isInOrder b set (nI t)) (wp_X9_isOrder s set (nI t)) := by
  obtain ⟨r, -, r1, r2⟩ := or_L hc hm hI ht set (bS B).length 0 1 (-1) (by omega) (Or.inr rfl)
  exact Ans.of r (fun Q hQ => ⟨_, r1 Q hQ⟩) (fun Q hQ => ⟨_, r2 Q hQ⟩)
theorem bit7 : ∀ q, q < 7 → ((1 : Int32) <<< (nI q &&& 31)) = nI (2 ^ q) := by decide +kernel
theorem pow7 {q : Nat} (h : q < 7) : 2 ^ q ≤ 64 := Nat.le_trans (Nat.pow_le_pow_right (by omega) (show q ≤ 6 by omega)) (by decide)
theorem sub_pos {a c : Nat} (ha : a < 2 ^ 30) (hc : c < 2 ^ 30) : 0 < nI a - nI c ↔ c < a := by
  have e : (nI a - nI c).toInt = (a : Int) - c := pk_sub_toInt ha hc
  have h0 : (0 : Int32).toInt = 0 := by decide
  rw [Int32.lt_iff_toInt_lt, e, h0]; omega
theorem sub_eq0 {a c : Nat} (ha : a < 2 ^ 30) (hc : c < 2 ^ 30) : nI a - nI c = 0 ↔ a = c := by
  have e : (nI a - nI c).toInt = (a : Int) - c := pk_sub_toInt ha hc
  have h0 : (0 : Int32).toInt = 0 := by decide
  rw [← Int32.toInt_inj, e, h0]; omega
theorem onesN_le : ∀ w, w < 64 → onesN w ≤ 6 := by decide +kernel
theorem and_rot (x v : Int32) : (v &&& (-v)) &&& x = (x &&& v) &&& (-v) := by
  rw [Int32.and_comm (v &&& (-v)) x, Int32.and_assoc]
/-- who stays, by the best seats -/
theorem st_who {b : BT} {s : Nat → Int32} {B : AB} (hc : CR b B) (hm : MR s B) (hI : Inv B) {t : Nat} (p2 : Int32) {v : Nat} (hv : v < 64) : ∀ (d k : Nat) (acc : Int32), k + d = (bS B).length →
    ∃ r : Int32, (∀ Q, Q r → wp_X0_stay_116 b (nI t) p2 Q (d + 1) (nI v) acc (nI k)) ∧ (∀ Q, Q r → wp_X9_stay_112 s (nI t) p2 Q (d + 1) (nI v) acc (nI k)) := by
  have h6 := hI.1
  have hl := hI.len
  intro d
  induction d with
  | zero =>
    intro k acc hk
    by_cases c2 : p2 = 0
    · refine ⟨nI (onesN v), fun Q hQ => ?_, fun Q hQ => ?_⟩
      · unfold wp_X0_stay_116
        rw [hc.2.1]
        exact ⟨fun _ => ⟨fun c => absurd c2 c, fun _ => pj_bitCount hv hQ⟩, fun c => by simp (disch := omega) only [il0, il1, il2, il3, il4, il5, il6, il7, il8, il9, il10, il15, il16, il22, il24, il30, il31, il40, il41, il60, il70, il146, il161, il9999, pk_mul, nI_add, pk_sub, nI_clamp, nI_leI, nI_ltI, nI_eq] at c; omega⟩
      · unfold wp_X9_stay_112
        rw [hm.2.1]
        exact ⟨fun _ => ⟨fun c => absurd c2 c, fun _ => pm_ones hv hQ⟩, fun c => by simp (disch := omega) only [il0, il1, il2, il3, il4, il5, il6, il7, il8, il9, il10, il15, il16, il22, il24, il30, il31, il40, il41, il60, il70, il146, il161, il9999, pk_mul, nI_add, pk_sub, nI_clamp, nI_leI, nI_ltI, nI_eq] at c; omega⟩
    · refine ⟨acc, fun Q hQ => ?_, fun Q hQ => ?_⟩
      · unfold wp_X0_stay_116
        rw [hc.2.1]
        exact ⟨fun _ => ⟨fun _ => hQ, fun c => absurd c c2⟩, fun c => by simp (disch := omega) only [il0, il1, il2, il3, il4, il5, il6, il7, il8, il9, il10, il15, il16, il22, il24, il30, il31, il40, il41, il60, il70, il146, il161, il9999, pk_mul, nI_add, pk_sub, nI_clamp, nI_leI, nI_ltI, nI_eq] at c; omega⟩
      · unfold wp_X9_stay_112
        rw [hm.2.1]
        exact ⟨fun _ => ⟨fun _ => hQ, fun c => absurd c c2⟩, fun c => by simp (disch := omega) only [il0, il1, il2, il3, il4, il5, il6, il7, il8, il9, il10, il15, il16, il22, il24, il30, il31, il40, il41, il60, il70, il146, il161, il9999, pk_mul, nI_add, pk_sub, nI_clamp, nI_leI, nI_ltI, nI_eq] at c; omega⟩
  | succ d ih =>
    intro k acc hk
    have hkl : k < (bS B).length := by omega
    have hk1 : nI k + 1 = nI (k + 1) := nI_1 k
    obtain ⟨r, r1, r2⟩ := ih (k + 1) (if hasB (nI v) k = true then acc ||| ((1 : Int32) <<< (nI ((bS B).getD k 0) &&& 31)) else acc ||| 0) (by omega)
    refine ⟨r, fun Q hQ => ?_, fun Q hQ => ?_⟩
    · unfold wp_X0_stay_116
      rw [hc.2.1, hk1]
      refine ⟨fun c => by simp (disch := omega) only [il0, il1, il2, il3, il4, il5, il6, il7, il8, il9, il10, il15, il16, il22, il24, il30, il31, il40, il41, il60, il70, il146, il161, il9999, pk_mul, nI_add, pk_sub, nI_clamp, nI_leI, nI_ltI, nI_eq] at c; omega, fun _ => pc_has ⟨fun c w hw => ?_, fun c => ⟨vp_in_nI (by omega) (by omega), fun w hw => ?_⟩⟩⟩
      · rw [b2i_0] at c
        rw [c] at r1
        rw [hw]; exact r1 Q hQ
      · rw [b2i_n0] at c
        rw [c] at r1
        rw [hw, nI_clamp (by omega), hc.2.2.2.2.1 k hkl]; exact r1 Q hQ
    · unfold wp_X9_stay_112
      rw [hm.2.1, hk1, il10, nI_add, nI_clamp (by omega), hm.2.2.2.2.1 k hkl]
      refine ⟨fun c => by simp (disch := omega) only [il0, il1, il2, il3, il4, il5, il6, il7, il8, il9, il10, il15, il16, il22, il24, il30, il31, il40, il41, il60, il70, il146, il161, il9999, pk_mul, nI_add, pk_sub, nI_clamp, nI_leI, nI_ltI, nI_eq] at c; omega, fun _ => pm_has ⟨fun c w hw => ?_, fun c => ⟨vp_in_nI (by omega) (by omega), fun w hw => ?_⟩⟩⟩
      · rw [b2i_0] at c
        rw [c] at r2
        rw [hw]; exact r2 Q hQ
      · rw [b2i_n0] at c
        rw [c] at r2
        rw [hw]; exact r2 Q hQ
theorem st_out {b : BT} {s : Nat → Int32} {B : AB} (hc : CR b B) (hm : MR s B) (hI : Inv B) {t : Nat} (ht : t < 3) (p2 : Int32) : ∀ (d w v : Nat), w + d = 2 ^ (bS B).length → v < 64 →
    ∃ r : Int32, (∀ Q, Q r → wp_X0_stay_21 b (nI t) p2 Q (d + 1) (nI v) (nI w)) ∧ (∀ Q, Q r → wp_X9_stay_25 s (nI t) p2 Q (d + 1) (nI v) (nI w)) := by
  have h6 := hI.1
  have hl := hI.len
  have hp := pow7 (q := (bS B).length) (by omega)
  intro d
  induction d with
  | zero =>
    intro w v hw hv
    obtain ⟨r, r1, r2⟩ := st_who hc hm hI (t := t) p2 hv (bS B).length 0 0 (by omega)
    refine ⟨r, fun Q hQ => ?_, fun Q hQ => ?_⟩
    · unfold wp_X0_stay_21
      rw [hc.2.1, bit7 _ (by omega)]
      exact ⟨fun _ => ⟨_, r1 Q hQ⟩, fun c => by simp (disch := omega) only [il0, il1, il2, il3, il4, il5, il6, il7, il8, il9, il10, il15, il16, il22, il24, il30, il31, il40, il41, il60, il70, il146, il161, il9999, pk_mul, nI_add, pk_sub, nI_clamp, nI_leI, nI_ltI, nI_eq] at c; omega⟩
    · unfold wp_X9_stay_25
      rw [hm.2.1, bit7 _ (by omega)]
      exact ⟨fun _ => ⟨_, r2 Q hQ⟩, fun c => by simp (disch := omega) only [il0, il1, il2, il3, il4, il5, il6, il7, il8, il9, il10, il15, il16, il22, il24, il30, il31, il40, il41, il60, il70, il146, il161, il9999, pk_mul, nI_add, pk_sub, nI_clamp, nI_leI, nI_ltI, nI_eq] at c; omega⟩
  | succ d ih =>
    intro w v hw hv
    have hw64 : w < 64 := by omega
    have o1 := onesN_le w hw64
    have o2 := onesN_le v hv
    have hw1 : nI w + 1 = nI (w + 1) := nI_1 w
    obtain ⟨o, oc, om⟩ := an_order hc hm hI ht (nI w)
    obtain ⟨ra, ra1, ra2⟩ := ih (w + 1) v (by omega) hv
    obtain ⟨rb, rb1, rb2⟩ := ih (w + 1) w (by omega) hw64
    -- which of the two it is
    by_cases htk : onesN v < onesN w ∨ (onesN w = onesN v ∧ ¬ (nI w &&& (nI w ^^^ nI v)) &&& (-(nI w ^^^ nI v)) = 0)
    · by_cases ho : o = 0
      · refine ⟨ra, fun Q hQ => ?_, fun Q hQ => ?_⟩
        · have K := ra1 Q hQ
          have t75 : ∀ y6 y0 : Int32, (0 < y6 ∨ ¬ y0 = 0) → wp_X0_stay_75 b (nI t) p2 Q (fun a0_ a1_ => wp_X0_stay_21 b (nI t) p2 Q (d + 1) a0_ a1_) (nI v) (nI w) y6 y0 := by
            intro y6 y0 hy
            unfold wp_X0_stay_75
            rw [hw1]
            refine ⟨fun _ => oc _ ⟨fun _ => K, fun c => absurd ho c⟩, fun c6 => ⟨fun c0 => ?_, fun _ => oc _ ⟨fun _ => K, fun c => absurd ho c⟩⟩⟩
            rcases hy with hy | hy
            · exact absurd hy c6
            · exact absurd c0 hy
          unfold wp_X0_stay_21
          rw [hc.2.1, bit7 _ (by omega)]
          refine ⟨fun c => by simp (disch := omega) only [il0, il1, il2, il3, il4, il5, il6, il7, il8, il9, il10, il15, il16, il22, il24, il30, il31, il40, il41, il60, il70, il146, il161, il9999, pk_mul, nI_add, pk_sub, nI_clamp, nI_leI, nI_ltI, nI_eq] at c; omega, fun _ v2 e2 => pj_bitCount hw64 (pj_bitCount hv (fun v5 e5 => ?_))⟩
          rw [e2, e5, sub_eq0 (by omega) (by omega)]
          refine ⟨fun c => t75 _ _ (Or.inl ?_), fun c => ⟨fun c3 => t75 _ _ ?_, fun c3 => t75 _ _ (Or.inr (by decide))⟩⟩
          · rw [sub_pos (by omega) (by omega)]; omega
          · rcases htk with h | ⟨-, h⟩
            · omega
            · exact absurd c3 h
        · have K := ra2 Q hQ
          have t76 : wp_X9_stay_76 s (nI t) p2 Q (fun a0_ a1_ => wp_X9_stay_25 s (nI t) p2 Q (d + 1) a0_ a1_) (nI v) (nI w) 1 := by
            unfold wp_X9_stay_76
            rw [hw1]
            exact ⟨fun c => absurd c (by decide), fun _ => om _ ⟨fun _ => K, fun c => absurd ho c⟩⟩
          unfold wp_X9_stay_25
          rw [hm.2.1, bit7 _ (by omega)]
          refine ⟨fun c => by simp (disch := omega) only [il0, il1, il2, il3, il4, il5, il6, il7, il8, il9, il10, il15, il16, il22, il24, il30, il31, il40, il41, il60, il70, il146, il161, il9999, pk_mul, nI_add, pk_sub, nI_clamp, nI_leI, nI_ltI, nI_eq] at c; omega, fun _ => pm_ones hw64 (pm_ones hv ⟨fun _ => t76, fun c => pm_ones hw64 (pm_ones hv ⟨fun c3 => ?_, fun c3 => ?_⟩)⟩)⟩
          · simp (disch := omega) only [il0, il1, il2, il3, il4, il5, il6, il7, il8, il9, il10, il15, il16, il22, il24, il30, il31, il40, il41, il60, il70, il146, il161, il9999, pk_mul, nI_add, pk_sub, nI_clamp, nI_leI, nI_ltI, nI_eq] at c c3
            omega
          · unfold wp_X9_isAhead
            intro v1 e1
            rw [e1, and_rot]
            refine ⟨fun c4 => ?_, fun _ => ⟨fun c => absurd c (by decide), fun _ => t76⟩⟩
            simp (disch := omega) only [il0, il1, il2, il3, il4, il5, il6, il7, il8, il9, il10, il15, il16, il22, il24, il30, il31, il40, il41, il60, il70, il146, il161, il9999, pk_mul, nI_add, pk_sub, nI_clamp, nI_leI, nI_ltI, nI_eq] at c
            rcases htk with h | ⟨-, h⟩
            · omega
            · exact absurd c4 h
      · refine ⟨rb, fun Q hQ => ?_, fun Q hQ => ?_⟩
        · have K := rb1 Q hQ
          have t75 : ∀ y6 y0 : Int32, (0 < y6 ∨ ¬ y0 = 0) → wp_X0_stay_75 b (nI t) p2 Q (fun a0_ a1_ => wp_X0_stay_21 b (nI t) p2 Q (d + 1) a0_ a1_) (nI v) (nI w) y6 y0 := by
            intro y6 y0 hy
            unfold wp_X0_stay_75
            rw [hw1]
            refine ⟨fun _ => oc _ ⟨fun c => absurd c ho, fun _ => K⟩, fun c6 => ⟨fun c0 => ?_, fun _ => oc _ ⟨fun c => absurd c ho, fun _ => K⟩⟩⟩
            rcases hy with hy | hy
            · exact absurd hy c6
            · exact absurd c0 hy
          unfold wp_X0_stay_21
          rw [hc.2.1, bit7 _ (by omega)]
          refine ⟨fun c => by simp (disch := omega) only [il0, il1, il2, il3, il4, il5, il6, il7, il8, il9, il10, il15, il16, il22, il24, il30, il31, il40, il41, il60, il70, il146, il161, il9999, pk_mul, nI_add, pk_sub, nI_clamp, nI_leI, nI_ltI, nI_eq] at c; omega, fun _ v2 e2 => pj_bitCount hw64 (pj_bitCount hv (fun v5 e5 => ?_))⟩
          rw [e2, e5, sub_eq0 (by omega) (by omega)]
          refine ⟨fun c => t75 _ _ (Or.inl ?_), fun c => ⟨fun c3 => t75 _ _ ?_, fun c3 => t75 _ _ (Or.inr (by decide))⟩⟩
          · rw [sub_pos (by omega) (by omega)]; omega
          · rcases htk with h | ⟨-, h⟩
            · omega
            · exact absurd c3 h
        · have K := rb2 Q hQ
          have t76 : wp_X9_stay_76 s (nI t) p2 Q (fun a0_ a1_ => wp_X9_stay_25 s (nI t) p2 Q (d + 1) a0_ a1_) (nI v) (nI w) 1 := by
            unfold wp_X9_stay_76
            rw [hw1]
            exact ⟨fun c => absurd c (by decide), fun _ => om _ ⟨fun c => absurd c ho, fun _ => K⟩⟩
          unfold wp_X9_stay_25
          rw [hm.2.1, bit7 _ (by omega)]
          refine ⟨fun c => by simp (disch := omega) only [il0, il1, il2, il3, il4, il5, il6, il7, il8, il9, il10, il15, il16, il22, il24, il30, il31, il40, il41, il60, il70, il146, il161, il9999, pk_mul, nI_add, pk_sub, nI_clamp, nI_leI, nI_ltI, nI_eq] at c; omega, fun _ => pm_ones hw64 (pm_ones hv ⟨fun _ => t76, fun c => pm_ones hw64 (pm_ones hv ⟨fun c3 => ?_, fun c3 => ?_⟩)⟩)⟩
          · simp (disch := omega) only [il0, il1, il2, il3, il4, il5, il6, il7, il8, il9, il10, il15, il16, il22, il24, il30, il31, il40, il41, il60, il70, il146, il161, il9999, pk_mul, nI_add, pk_sub, nI_clamp, nI_leI, nI_ltI, nI_eq] at c c3
            omega
          · unfold wp_X9_isAhead
            intro v1 e1
            rw [e1, and_rot]
            refine ⟨fun c4 => ?_, fun _ => ⟨fun c => absurd c (by decide), fun _ => t76⟩⟩
            simp (disch := omega) only [il0, il1, il2, il3, il4, il5, il6, il7, il8, il9, il10, il15, il16, il22, il24, il30, il31, il40, il41, il60, il70, il146, il161, il9999, pk_mul, nI_add, pk_sub, nI_clamp, nI_leI, nI_ltI, nI_eq] at c
            rcases htk with h | ⟨-, h⟩
            · omega
            · exact absurd c4 h
    · have hno : ¬ onesN v < onesN w ∧ (onesN w = onesN v → (nI w &&& (nI w ^^^ nI v)) &&& (-(nI w ^^^ nI v)) = 0) :=
        ⟨fun h => htk (Or.inl h), fun h => Classical.byContradiction (fun h2 => htk (Or.inr ⟨h, h2⟩))⟩
      refine ⟨ra, fun Q hQ => ?_, fun Q hQ => ?_⟩
      · have K := ra1 Q hQ
        have t75 : ∀ y6 : Int32, ¬ 0 < y6 → wp_X0_stay_75 b (nI t) p2 Q (fun a0_ a1_ => wp_X0_stay_21 b (nI t) p2 Q (d + 1) a0_ a1_) (nI v) (nI w) y6 0 := by
          intro y6 hy
          unfold wp_X0_stay_75
          rw [hw1]
          exact ⟨fun c => absurd c hy, fun _ => ⟨fun _ => K, fun c => absurd rfl c⟩⟩
        unfold wp_X0_stay_21
        rw [hc.2.1, bit7 _ (by omega)]
        refine ⟨fun c => by simp (disch := omega) only [il0, il1, il2, il3, il4, il5, il6, il7, il8, il9, il10, il15, il16, il22, il24, il30, il31, il40, il41, il60, il70, il146, il161, il9999, pk_mul, nI_add, pk_sub, nI_clamp, nI_leI, nI_ltI, nI_eq] at c; omega, fun _ v2 e2 => pj_bitCount hw64 (pj_bitCount hv (fun v5 e5 => ?_))⟩
        rw [e2, e5, sub_eq0 (by omega) (by omega)]
        refine ⟨fun c => t75 _ ?_, fun c => ⟨fun c3 => t75 _ ?_, fun c3 => absurd (hno.2 c) c3⟩⟩
        · rw [sub_pos (by omega) (by omega)]; exact hno.1
        · rw [sub_pos (by omega) (by omega)]; exact hno.1
      · have K := ra2 Q hQ
        have t76 : wp_X9_stay_76 s (nI t) p2 Q (fun a0_ a1_ => wp_X9_stay_25 s (nI t) p2 Q (d + 1) a0_ a1_) (nI v) (nI w) 0 := by
          unfold wp_X9_stay_76
          rw [hw1]
          exact ⟨fun _ => K, fun c => absurd rfl c⟩
        unfold wp_X9_stay_25
        rw [hm.2.1, bit7 _ (by omega)]
        refine ⟨fun c => by simp (disch := omega) only [il0, il1, il2, il3, il4, il5, il6, il7, il8, il9, il10, il15, il16, il22, il24, il30, il31, il40, il41, il60, il70, il146, il161, il9999, pk_mul, nI_add, pk_sub, nI_clamp, nI_leI, nI_ltI, nI_eq] at c; omega, fun _ => pm_ones hw64 (pm_ones hv ⟨fun c => ?_, fun c => pm_ones hw64 (pm_ones hv ⟨fun _ => t76, fun c3 => ?_⟩)⟩)⟩
        · simp (disch := omega) only [il0, il1, il2, il3, il4, il5, il6, il7, il8, il9, il10, il15, il16, il22, il24, il30, il31, il40, il41, il60, il70, il146, il161, il9999, pk_mul, nI_add, pk_sub, nI_clamp, nI_leI, nI_ltI, nI_eq] at c
          exact absurd c hno.1
        · simp (disch := omega) only [il0, il1, il2, il3, il4, il5, il6, il7, il8, il9, il10, il15, il16, il22, il24, il30, il31, il40, il41, il60, il70, il146, il161, il9999, pk_mul, nI_add, pk_sub, nI_clamp, nI_leI, nI_ltI, nI_eq] at c3
          unfold wp_X9_isAhead
          intro v1 e1
          rw [e1, and_rot]
          exact ⟨fun _ => ⟨fun _ => t76, fun c => absurd rfl c⟩, fun c4 => absurd (hno.2 c3) c4⟩
theorem pc_isWhat {x : Int32} {Q : Int32 → Prop} (hQ : Q (b2i (inR x 0 1))) : wp_X0_isWhat x Q := by
  unfold wp_X0_isWhat
  exact pc_isIn (a := 0) (c := 1) rfl rfl ⟨b2i_z _, hQ⟩
theorem an_stay {b : BT} {s : Nat → Int32} {B : AB} (hc : CR b B) (hm : MR s B) (hI : Inv B) (p1 p2 : Int32) : Ans (wp_X0_stay b p1 p2) (wp_X9_stay s p1 p2) := by
  have h6 := hI.1
  have hl := hI.len
  by_cases c : inR p1 0 2 = true
  · by_cases c2 : inR p2 0 1 = true
    · obtain ⟨t, ht, rfl⟩ := inR2 c
      obtain ⟨r, r1, r2⟩ := st_out hc hm hI ht p2 (2 ^ (bS B).length - 1) 1 0 (by have := Nat.one_le_two_pow (n := (bS B).length); omega) (by omega)
      refine Ans.of r (fun Q hQ => ?_) (fun Q hQ => ?_)
      · unfold wp_X0_stay
        refine pc_isHour ?_
        rw [c]
        refine ⟨fun c => absurd c (by decide), fun _ => pc_isWhat ?_⟩
        rw [c2]
        exact ⟨fun _ => ⟨_, r1 Q hQ⟩, fun c => absurd c (by decide)⟩
      · unfold wp_X9_stay
        refine pm_in ?_
        have c : inR (nI t) (0 : Int32).toInt (2 : Int32).toInt = true := c
        rw [c]
        refine ⟨fun c => absurd c (by decide), fun _ => pm_in ?_⟩
        have c2 : inR p2 (0 : Int32).toInt (1 : Int32).toInt = true := c2
        rw [c2]
        exact ⟨fun _ => ⟨_, r2 Q hQ⟩, fun c => absurd c (by decide)⟩
    · have c2 : inR p2 0 1 = false := by simpa using c2
      refine Ans.of (-1) (fun Q hQ => ?_) (fun Q hQ => ?_)
      · unfold wp_X0_stay
        refine pc_isHour ?_
        rw [c]
        refine ⟨fun c => absurd c (by decide), fun _ => pc_isWhat ?_⟩
        rw [c2]
        exact ⟨fun c => absurd rfl c, fun _ => hQ⟩
      · unfold wp_X9_stay
        refine pm_in ?_
        have c : inR p1 (0 : Int32).toInt (2 : Int32).toInt = true := c
        rw [c]
        refine ⟨fun c => absurd c (by decide), fun _ => pm_in ?_⟩
        have c2 : inR p2 (0 : Int32).toInt (1 : Int32).toInt = false := c2
        rw [c2]
        exact ⟨fun c => absurd rfl c, fun _ => hQ⟩
  · have c : inR p1 0 2 = false := by simpa using c
    refine Ans.of (-1) (fun Q hQ => ?_) (fun Q hQ => ?_)
    · unfold wp_X0_stay
      refine pc_isHour ?_
      rw [c]
      exact ⟨fun _ => hQ, fun c => absurd rfl c⟩
    · unfold wp_X9_stay
      refine pm_in ?_
      have c : inR p1 (0 : Int32).toInt (2 : Int32).toInt = false := c
      rw [c]
      exact ⟨fun _ => hQ, fun c => absurd rfl c⟩
