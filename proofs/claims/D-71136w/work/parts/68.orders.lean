/-! pure: orders, one behind the other: the first one, the next one -/
set_option maxRecDepth 100000
def swp (l : List Nat) (i j : Nat) : List Nat := (l.set i (l.getD j 0)).set j (l.getD i 0)
theorem getD_el {l : List Nat} {k : Nat} (h : k < l.length) : l.getD k 0 = l[k] := by
  rw [List.getD_eq_getElem?_getD, List.getElem?_eq_getElem h]; rfl
theorem swp_perm {l : List Nat} {i j : Nat} (hi : i < l.length) (hj : j < l.length) : (swp l i j).Perm l := by
  unfold swp
  rw [getD_el hi, getD_el hj]
  exact List.set_set_perm hi hj
theorem swp_len {l : List Nat} {i j : Nat} : (swp l i j).length = l.length := by
  unfold swp
  rw [List.length_set, List.length_set]
theorem swp_get {l : List Nat} {i j k : Nat} (hi : i < l.length) (hj : j < l.length) : (swp l i j).getD k 0 = if k = j then l.getD i 0 else if k = i then l.getD j 0 else l.getD k 0 := by
  have e1 : (swp l i j).getD k 0 = ((swp l i j)[k]?).getD 0 := List.getD_eq_getElem?_getD
  rw [e1]
  unfold swp
  rw [List.getElem?_set]
  by_cases h1 : j = k
  · rw [if_pos h1, if_pos (by rw [List.length_set]; exact hj), if_pos h1.symm]; rfl
  · rw [if_neg h1, if_neg (fun h => h1 h.symm), List.getElem?_set]
    by_cases h2 : i = k
    · rw [if_pos h2, if_pos hi, if_pos h2.symm]; rfl
    · rw [if_neg h2, if_neg (fun h => h2 h.symm), List.getD_eq_getElem?_getD]
theorem nI_dec {n : Nat} (h : 1 ≤ n) : nI n + (-1) = nI (n - 1) := by
  obtain ⟨c, rfl⟩ : ∃ c, n = c + 1 := ⟨n - 1, by omega⟩
  rw [show c + 1 - 1 = c by omega, ← nI_1 c, Int32.add_assoc, show (1 : Int32) + (-1) = 0 by decide, Int32.add_zero]
theorem pc_swapR {b : BT} {B : AB} {l : List Nat} (h : CR b (setS B l)) (h6 : l.length ≤ 6) {i j : Nat} (hi : i < l.length) (hj : j < l.length) {Q : (Nat → Int32) → Prop} (hQ : ∀ f, CR (kd b, pl b, lf b, f, mn b, ma b, yr b, dw b) (setS B (swp l i j)) → Q f) : wp_X0_swap (se b) (nI i) (nI j) Q := by
  have hse : ∀ k, k < l.length → se b k = nI (l.getD k 0) := h.2.2.2.2.1
  unfold wp_X0_swap
  rw [nI_clamp (by omega), nI_clamp (by omega)]
  refine ⟨vp_in_nI (by omega) (by omega), fun v2 e2 => ⟨vp_in_nI (by omega) (by omega), fun v4 e4 => ⟨vp_in_nI (by omega) (by omega), fun f6 e6 => ⟨vp_in_nI (by omega) (by omega), fun f8 e8 => ?_⟩⟩⟩⟩
  refine hQ f8 ⟨h.1, ?_, h.2.2.1, h.2.2.2.1, fun k hk => ?_, h.2.2.2.2.2.1, h.2.2.2.2.2.2.1, h.2.2.2.2.2.2.2⟩
  · show ma b = nI (swp l i j).length
    rw [swp_len]; exact h.2.1
  · have hk : k < (swp l i j).length := hk
    rw [swp_len] at hk
    show f8 k = nI ((swp l i j).getD k 0)
    rw [swp_get hi hj, e8, e6, e2, e4]
    by_cases h1 : k = j
    · rw [if_pos h1, h1, pk_us]; exact hse i hi
    · rw [if_neg h1, pk_un h1]
      by_cases h2 : k = i
      · rw [if_pos h2, h2, pk_us]; exact hse j hj
      · rw [if_neg h2, pk_un h2]; exact hse k hk
theorem MR_swapR {s f7 f9 : Nat → Int32} {B : AB} {l : List Nat} (h : MR s (setS B l)) (h6 : l.length ≤ 6) (hM : bM B ≤ 6) {i j : Nat} (hi : i < l.length) (hj : j < l.length) (e7 : f7 = upd s (10 + i) (s (10 + j))) (e9 : f9 = upd f7 (10 + j) (s (10 + i))) : MR f9 (setS B (swp l i j)) ∧ ∀ k, 40 ≤ k → f9 k = s k := by
  have hse : ∀ k, k < l.length → s (10 + k) = nI (l.getD k 0) := h.2.2.2.2.1
  have g : ∀ k, (k < 10 ∨ 16 ≤ k) → f9 k = s k := fun k hk => by rw [e9, pk_un (by omega), e7, pk_un (by omega)]
  refine ⟨⟨(g 0 (by omega)).trans h.1, ?_, (g 2 (by omega)).trans h.2.2.1, (g 3 (by omega)).trans h.2.2.2.1, fun k hk => ?_, fun k hk => (g _ (by have : k < bM B := hk; omega)).trans (h.2.2.2.2.2.1 k hk), fun k hk => (g _ (by omega)).trans (h.2.2.2.2.2.2.1 k hk), fun k hk => (g _ (by omega)).trans (h.2.2.2.2.2.2.2 k hk)⟩, fun k hk => g k (by omega)⟩
  · show f9 1 = nI (swp l i j).length
    rw [swp_len, g 1 (by omega)]; exact h.2.1
  · have hk : k < (swp l i j).length := hk
    rw [swp_len] at hk
    show f9 (10 + k) = nI ((swp l i j).getD k 0)
    rw [swp_get hi hj, e9, e7]
    by_cases h1 : k = j
    · rw [if_pos h1, h1, pk_us]; exact hse i hi
    · rw [if_neg h1, pk_un (by omega)]
      by_cases h2 : k = i
      · rw [if_pos h2, h2, pk_us]; exact hse j hj
      · rw [if_neg h2, pk_un (by omega)]; exact hse k hk
/-- the row behind a place, turned round -/
theorem rv_L {B : AB} (hM : bM B ≤ 6) : ∀ (d : Nat) (l : List Nat) (a c : Nat), l.length ≤ 6 → a ≤ 6 → c - a < d → c < l.length →
    ∃ l' : List Nat, l'.Perm l ∧ (∀ k, k < a → l'.getD k 0 = l.getD k 0) ∧
      (∀ (b : BT) (Q : Int32 → BT → Prop), CR b (setS B l) → (∀ b', CR b' (setS B l') → Q 1 b') → wp_X0_isNextOrder_92 Q d b (nI a) (nI c)) ∧
      (∀ (s : Nat → Int32) (Q : Int32 → (Nat → Int32) → Prop), MR s (setS B l) → (∀ s', MR s' (setS B l') → (∀ i, 40 ≤ i → s' i = s i) → Q 1 s') → wp_X9_nextOrder_137 Q d s (nI a) (nI c)) := by
  intro d
  induction d with
  | zero => intro l a c _ _ h; omega
  | succ d ih =>
    intro l a c h6 ha6 hd hc
    by_cases hca : c ≤ a
    · refine ⟨l, List.Perm.refl _, fun _ _ => rfl, fun b Q h hQ => ?_, fun s Q h hQ => ?_⟩
      · unfold wp_X0_isNextOrder_92
        exact ⟨fun _ => hQ b h, fun c => by simp (disch := omega) only [il0, il1, il2, il3, il4, il5, il6, il7, il8, il9, il10, il15, il16, il22, il24, il30, il31, il40, il41, il60, il70, il146, il161, il9999, pk_mul, nI_add, pk_sub, nI_clamp, nI_leI, nI_ltI, nI_eq] at c; omega⟩
      · unfold wp_X9_nextOrder_137
        exact ⟨fun _ => hQ s h (fun _ _ => rfl), fun c => by simp (disch := omega) only [il0, il1, il2, il3, il4, il5, il6, il7, il8, il9, il10, il15, il16, il22, il24, il30, il31, il40, il41, il60, il70, il146, il161, il9999, pk_mul, nI_add, pk_sub, nI_clamp, nI_leI, nI_ltI, nI_eq] at c; omega⟩
    · obtain ⟨l', p1, p2, p3, p4⟩ := ih (swp l a c) (a + 1) (c - 1) (by rw [swp_len]; exact h6) (by omega) (by omega) (by rw [swp_len]; omega)
      refine ⟨l', p1.trans (swp_perm (by omega) hc), fun k hk => ?_, fun b Q h hQ => ?_, fun s Q h hQ => ?_⟩
      · rw [p2 k (by omega), swp_get (by omega) hc, if_neg (by omega), if_neg (by omega)]
      · unfold wp_X0_isNextOrder_92
        refine ⟨fun c => by simp (disch := omega) only [il0, il1, il2, il3, il4, il5, il6, il7, il8, il9, il10, il15, il16, il22, il24, il30, il31, il40, il41, il60, il70, il146, il161, il9999, pk_mul, nI_add, pk_sub, nI_clamp, nI_leI, nI_ltI, nI_eq] at c; omega, fun _ => pc_swapR h h6 (by omega) hc (fun f hf => ?_)⟩
        rw [nI_1, nI_dec (by omega)]
        exact p3 _ Q hf hQ
      · unfold wp_X9_nextOrder_137
        rw [il10, nI_add, nI_add, nI_clamp (by omega), nI_clamp (by omega), nI_1, nI_dec (by omega)]
        refine ⟨fun c => by simp (disch := omega) only [il0, il1, il2, il3, il4, il5, il6, il7, il8, il9, il10, il15, il16, il22, il24, il30, il31, il40, il41, il60, il70, il146, il161, il9999, pk_mul, nI_add, pk_sub, nI_clamp, nI_leI, nI_ltI, nI_eq] at c; omega, fun _ => ⟨vp_in_nI (by omega) (by omega), fun v3 e3 => ⟨vp_in_nI (by omega) (by omega), fun v5 e5 => ⟨vp_in_nI (by omega) (by omega), fun f7 e7 => ⟨vp_in_nI (by omega) (by omega), fun f9 e9 => ?_⟩⟩⟩⟩⟩
        obtain ⟨g1, g2⟩ := MR_swapR (f7 := f7) (f9 := f9) h h6 hM (i := a) (j := c) (by omega) hc (by rw [e7, e5]) (by rw [e9, e3])
        exact p4 f9 Q g1 (fun s' k1 k2 => hQ s' k1 (fun i hi => (k2 i hi).trans (g2 i hi)))
theorem getD_ne {l : List Nat} (hn : l.Nodup) {i j : Nat} (hi : i < l.length) (hj : j < l.length) (hij : i ≠ j) : l.getD i 0 ≠ l.getD j 0 := by
  intro e
  have e1 := idxOf_of hn hi
  have e2 := idxOf_of hn hj
  rw [e] at e1
  omega
/-- the one to be put there, from behind -/
theorem jl_L {B : AB} (hM : bM B ≤ 6) {l : List Nat} (h6 : l.length ≤ 6) (hn : l.Nodup) (hx : ∀ x ∈ l, x < 6) {i : Nat} (hi : i + 1 < l.length) (hlt : l.getD i 0 < l.getD (i + 1) 0) : ∀ (d c : Nat), i < c → c < l.length → c - i = d + 1 →
    ∃ l' : List Nat, l'.Perm l ∧ (∀ k, k < i → l'.getD k 0 = l.getD k 0) ∧ l.getD i 0 < l'.getD i 0 ∧
      (∀ (b : BT) (Q : Int32 → BT → Prop), CR b (setS B l) → (∀ b', CR b' (setS B l') → Q 1 b') → wp_X0_isNextOrder_55 Q (d + 1) b (nI i) (nI c)) ∧
      (∀ (s : Nat → Int32) (Q : Int32 → (Nat → Int32) → Prop), MR s (setS B l) → (∀ s', MR s' (setS B l') → (∀ i, 40 ≤ i → s' i = s i) → Q 1 s') → wp_X9_nextOrder_57 Q (d + 1) s (nI i) (nI c)) := by
  have hb : ∀ k, k < l.length → l.getD k 0 < 6 := fun k hk => hx _ (getD_mem hk)
  have put : ∀ (d c : Nat), i < c → c < l.length → l.getD i 0 ≤ l.getD c 0 → ∃ l' : List Nat, l'.Perm l ∧ (∀ k, k < i → l'.getD k 0 = l.getD k 0) ∧ l.getD i 0 < l'.getD i 0 ∧
      (∀ (b : BT) (Q : Int32 → BT → Prop), CR b (setS B l) → (∀ b', CR b' (setS B l') → Q 1 b') → wp_X0_isNextOrder_55 Q (d + 1) b (nI i) (nI c)) ∧
      (∀ (s : Nat → Int32) (Q : Int32 → (Nat → Int32) → Prop), MR s (setS B l) → (∀ s', MR s' (setS B l') → (∀ i, 40 ≤ i → s' i = s i) → Q 1 s') → wp_X9_nextOrder_57 Q (d + 1) s (nI i) (nI c)) := by
    intro d c hic hc hle
    have hbi := hb i (by omega)
    have hbc := hb c hc
    have hne := getD_ne hn (i := i) (j := c) (by omega) hc (by omega)
    obtain ⟨l', p1, p2, p3, p4⟩ := rv_L (B := B) hM 7 (swp l i c) (i + 1) (l.length - 1) (by rw [swp_len]; exact h6) (by omega) (by omega) (by rw [swp_len]; omega)
    refine ⟨l', p1.trans (swp_perm (by omega) hc), fun k hk => ?_, ?_, fun b Q h hQ => ?_, fun s Q h hQ => ?_⟩
    · rw [p2 k (by omega), swp_get (by omega) hc, if_neg (by omega), if_neg (by omega)]
    · rw [p2 i (by omega), swp_get (by omega) hc, if_neg (by omega), if_pos rfl]; omega
    · have hse : ∀ k, k < l.length → se b k = nI (l.getD k 0) := h.2.2.2.2.1
      have hma : ma b = nI l.length := h.2.1
      unfold wp_X0_isNextOrder_55
      rw [nI_clamp (by omega), nI_clamp (by omega), hse i (by omega), hse c hc]
      refine ⟨vp_in_nI (by omega) (by omega), vp_in_nI (by omega) (by omega), fun _ => pc_swapR h h6 (by omega) hc (fun f hf v5 e5 v6 e6 => ⟨7, ?_⟩), fun c => ?_⟩
      · have e6' : v6 = nI (l.length - 1) := by
          rw [e6]
          show ma b - 1 = _
          rw [hma, il1, pk_sub (by omega)]
        rw [e5, nI_1, e6']
        exact p3 _ Q hf hQ
      · simp (disch := omega) only [il0, il1, il2, il3, il4, il5, il6, il7, il8, il9, il10, il15, il16, il22, il24, il30, il31, il40, il41, il60, il70, il146, il161, il9999, pk_mul, nI_add, pk_sub, nI_clamp, nI_leI, nI_ltI, nI_eq] at c
        omega
    · have hse : ∀ k, k < l.length → s (10 + k) = nI (l.getD k 0) := h.2.2.2.2.1
      unfold wp_X9_nextOrder_57
      rw [il10, nI_add, nI_add, nI_clamp (by omega), nI_clamp (by omega)]
      refine ⟨vp_in_nI (by omega) (by omega), vp_in_nI (by omega) (by omega), fun _ => ⟨vp_in_nI (by omega) (by omega), fun v5 e5 => ⟨vp_in_nI (by omega) (by omega), fun v7 e7 => ⟨vp_in_nI (by omega) (by omega), fun f9 e9 => ⟨vp_in_nI (by omega) (by omega), fun f11 e11 v12 e12 v13 e13 => ⟨7, ?_⟩⟩⟩⟩⟩, fun cc => ?_⟩
      · obtain ⟨g1, g2⟩ := MR_swapR (f7 := f9) (f9 := f11) h h6 hM (i := i) (j := c) (by omega) hc (by rw [e9, e7]) (by rw [e11, e5])
        have h1 : f11 1 = nI (swp l i c).length := g1.2.1
        rw [swp_len] at h1
        rw [e12, nI_1, e13, h1, il1, pk_sub (by omega)]
        exact p4 f11 Q g1 (fun s' k1 k2 => hQ s' k1 (fun i hi => (k2 i hi).trans (g2 i hi)))
      · rw [hse i (by omega), hse c hc] at cc
        simp (disch := omega) only [il0, il1, il2, il3, il4, il5, il6, il7, il8, il9, il10, il15, il16, il22, il24, il30, il31, il40, il41, il60, il70, il146, il161, il9999, pk_mul, nI_add, pk_sub, nI_clamp, nI_leI, nI_ltI, nI_eq] at cc
        omega
  intro d
  induction d with
  | zero =>
    intro c hic hc hd
    have e : c = i + 1 := by omega
    subst e
    exact put 0 (i + 1) (by omega) hc (by omega)
  | succ d ih =>
    intro c hic hc hd
    by_cases hle : l.getD i 0 ≤ l.getD c 0
    · exact put (d + 1) c hic hc hle
    · have hbi := hb i (by omega)
      have hbc := hb c hc
      obtain ⟨l', p1, p2, p3, p4, p5⟩ := ih (c - 1) (by omega) (by omega) (by omega)
      refine ⟨l', p1, p2, p3, fun b Q h hQ => ?_, fun s Q h hQ => ?_⟩
      · have hse : ∀ k, k < l.length → se b k = nI (l.getD k 0) := h.2.2.2.2.1
        unfold wp_X0_isNextOrder_55
        rw [nI_clamp (by omega), nI_clamp (by omega), hse i (by omega), hse c hc, nI_dec (by omega)]
        refine ⟨vp_in_nI (by omega) (by omega), vp_in_nI (by omega) (by omega), fun c => ?_, fun _ => p4 b Q h hQ⟩
        simp (disch := omega) only [il0, il1, il2, il3, il4, il5, il6, il7, il8, il9, il10, il15, il16, il22, il24, il30, il31, il40, il41, il60, il70, il146, il161, il9999, pk_mul, nI_add, pk_sub, nI_clamp, nI_leI, nI_ltI, nI_eq] at c
        omega
      · have hse : ∀ k, k < l.length → s (10 + k) = nI (l.getD k 0) := h.2.2.2.2.1
        unfold wp_X9_nextOrder_57
        rw [il10, nI_add, nI_add, nI_clamp (by omega), nI_clamp (by omega), nI_dec (by omega)]
        refine ⟨vp_in_nI (by omega) (by omega), vp_in_nI (by omega) (by omega), fun cc => ?_, fun _ => p5 s Q h hQ⟩
        rw [hse i (by omega), hse c hc] at cc
        simp (disch := omega) only [il0, il1, il2, il3, il4, il5, il6, il7, il8, il9, il10, il15, il16, il22, il24, il30, il31, il40, il41, il60, il70, il146, il161, il9999, pk_mul, nI_add, pk_sub, nI_clamp, nI_leI, nI_ltI, nI_eq] at cc
        omega
def num (l : List Nat) : Nat := l.foldl (fun a x => 6 * a + x) 0
theorem num_lt : ∀ (l l' : List Nat) (i a a' : Nat), l.length = l'.length → (∀ x ∈ l, x < 6) → (a < a' ∨ (a = a' ∧ i < l.length ∧ (∀ k, k < i → l'.getD k 0 = l.getD k 0) ∧ l.getD i 0 < l'.getD i 0)) → l.foldl (fun a x => 6 * a + x) a < l'.foldl (fun a x => 6 * a + x) a'
  | [], [], i, a, a', _, _, h => by
    rcases h with h | ⟨-, h, -⟩
    · exact h
    · simp at h
  | x :: l, y :: l', i, a, a', hl, hx, h => by
    have hx6 : x < 6 := hx x List.mem_cons_self
    rw [List.foldl_cons, List.foldl_cons]
    have hl' : l.length = l'.length := by simpa using hl
    have hx' : ∀ z ∈ l, z < 6 := fun z hz => hx z (List.mem_cons_of_mem _ hz)
    rcases h with h | ⟨rfl, h1, h2, h3⟩
    · exact num_lt l l' 0 _ _ hl' hx' (Or.inl (by omega))
    · cases i with
      | zero =>
        have h3 : x < y := h3
        exact num_lt l l' 0 _ _ hl' hx' (Or.inl (by omega))
      | succ i =>
        have e : y = x := h2 0 (by omega)
        refine num_lt l l' i _ _ hl' hx' (Or.inr ⟨by rw [e], by simpa using h1, fun k hk => h2 (k + 1) (by omega), h3⟩)
  | [], y :: l', _, _, _, hl, _, _ => by simp at hl
  | x :: l, [], _, _, _, hl, _, _ => by simp at hl
theorem num_bd : ∀ (l : List Nat) (a : Nat), (∀ x ∈ l, x < 6) → l.foldl (fun a x => 6 * a + x) a < (a + 1) * 6 ^ l.length
  | [], a, _ => by simp
  | x :: l, a, hx => by
    have hx6 : x < 6 := hx x List.mem_cons_self
    have ih := num_bd l (6 * a + x) (fun z hz => hx z (List.mem_cons_of_mem _ hz))
    rw [List.foldl_cons, List.length_cons, Nat.pow_succ]
    refine Nat.lt_of_lt_of_le ih ?_
    rw [Nat.mul_comm (6 ^ l.length) 6, ← Nat.mul_assoc]
    exact Nat.mul_le_mul_right _ (by omega)
theorem num_le {l : List Nat} (h6 : l.length ≤ 6) (hx : ∀ x ∈ l, x < 6) : num l < 46656 := by
  have h := num_bd l 0 hx
  have h2 : 6 ^ l.length ≤ 6 ^ 6 := Nat.pow_le_pow_right (by omega) h6
  unfold num
  omega
/-- the next order, or none -/
def NextIs (B : AB) (l : List Nat) (o : Option (List Nat)) : Prop := match o with
  | some l' => l'.Perm l ∧ num l < num l' ∧ (∀ (b : BT) (Q : Int32 → BT → Prop), CR b (setS B l) → (∀ b', CR b' (setS B l') → Q 1 b') → wp_X0_isNextOrder b Q) ∧ (∀ (s : Nat → Int32) (Q : Int32 → (Nat → Int32) → Prop), MR s (setS B l) → (∀ s', MR s' (setS B l') → (∀ i, 40 ≤ i → s' i = s i) → Q 1 s') → wp_X9_nextOrder s Q)
  | none => (∀ (b : BT) (Q : Int32 → BT → Prop), CR b (setS B l) → Q 0 b → wp_X0_isNextOrder b Q) ∧ (∀ (s : Nat → Int32) (Q : Int32 → (Nat → Int32) → Prop), MR s (setS B l) → Q 0 s → wp_X9_nextOrder s Q)
theorem il_L {B : AB} (hM : bM B ≤ 6) {l : List Nat} (h6 : l.length ≤ 6) (hn : l.Nodup) (hx : ∀ x ∈ l, x < 6) : ∀ (i : Nat), i + 1 < l.length →
    (∃ l' : List Nat, l'.Perm l ∧ num l < num l' ∧
      (∀ (b : BT) (Q : Int32 → BT → Prop), CR b (setS B l) → (∀ b', CR b' (setS B l') → Q 1 b') → wp_X0_isNextOrder_18 Q (i + 1) b (nI i)) ∧
      (∀ (s : Nat → Int32) (Q : Int32 → (Nat → Int32) → Prop), MR s (setS B l) → (∀ s', MR s' (setS B l') → (∀ i, 40 ≤ i → s' i = s i) → Q 1 s') → wp_X9_nextOrder_9 Q (i + 1) s (nI i))) ∨
    ((∀ (b : BT) (Q : Int32 → BT → Prop), CR b (setS B l) → Q 0 b → wp_X0_isNextOrder_18 Q (i + 2) b (nI i)) ∧
      (∀ (s : Nat → Int32) (Q : Int32 → (Nat → Int32) → Prop), MR s (setS B l) → Q 0 s → wp_X9_nextOrder_9 Q (i + 2) s (nI i))) := by
  have hb : ∀ k, k < l.length → l.getD k 0 < 6 := fun k hk => hx _ (getD_mem hk)
  intro i
  induction i with
  | zero =>
    intro hi
    have b0 := hb 0 (by omega)
    have b1 := hb 1 (by omega)
    by_cases hle : l.getD 0 0 ≤ l.getD 1 0
    · have hne := getD_ne hn (i := 0) (j := 1) (by omega) (by omega) (by omega)
      obtain ⟨l', p1, p2, p3, p4, p5⟩ := jl_L (B := B) hM h6 hn hx (i := 0) hi (by show l.getD 0 0 < l.getD 1 0; omega) (l.length - 2) (l.length - 1) (by omega) (by omega) (by omega)
      refine Or.inl ⟨l', p1, num_lt l l' 0 0 0 p1.length_eq.symm hx (Or.inr ⟨rfl, by omega, p2, p3⟩), fun b Q h hQ => ?_, fun s Q h hQ => ?_⟩
      · have hse : ∀ k, k < l.length → se b k = nI (l.getD k 0) := h.2.2.2.2.1
        have hma : ma b = nI l.length := h.2.1
        unfold wp_X0_isNextOrder_18
        rw [nI_1, nI_clamp (by omega), nI_clamp (by omega), hse 0 (by omega), hse (0 + 1) (by omega)]
        refine ⟨fun c => absurd c (nI_pos (by omega)), fun _ => ⟨vp_in_nI (by omega) (by omega), vp_in_nI (by omega) (by omega), fun _ => ⟨fun _ v hv => ⟨l.length - 2 + 1, ?_⟩, fun c => absurd (nI_pos' (by omega)) c⟩, fun c => ?_⟩⟩
        · rw [hv, hma, il1, pk_sub (by omega)]
          exact p4 b Q h hQ
        · rw [show (0 : Nat) + 1 = 1 from rfl] at c
          simp (disch := omega) only [il0, il1, il2, il3, il4, il5, il6, il7, il8, il9, il10, il15, il16, il22, il24, il30, il31, il40, il41, il60, il70, il146, il161, il9999, pk_mul, nI_add, pk_sub, nI_clamp, nI_leI, nI_ltI, nI_eq] at c
          omega
      · have hse : ∀ k, k < l.length → s (10 + k) = nI (l.getD k 0) := h.2.2.2.2.1
        have hma : s 1 = nI l.length := h.2.1
        unfold wp_X9_nextOrder_9
        rw [il10, nI_add, nI_1, nI_clamp (by omega), nI_clamp (by omega)]
        refine ⟨fun c => absurd c (nI_pos (by omega)), fun _ => ⟨vp_in_nI (by omega) (by omega), vp_in_nI (by omega) (by omega), fun _ => ⟨fun _ v hv => ⟨l.length - 2 + 1, ?_⟩, fun c => absurd (nI_pos' (by omega)) c⟩, fun c => ?_⟩⟩
        · rw [hv, hma, il1, pk_sub (by omega)]
          exact p5 s Q h hQ
        · rw [hse 0 (by omega), show 10 + 0 + 1 = 10 + 1 from rfl, hse 1 (by omega)] at c
          simp (disch := omega) only [il0, il1, il2, il3, il4, il5, il6, il7, il8, il9, il10, il15, il16, il22, il24, il30, il31, il40, il41, il60, il70, il146, il161, il9999, pk_mul, nI_add, pk_sub, nI_clamp, nI_leI, nI_ltI, nI_eq] at c
          omega
    · refine Or.inr ⟨fun b Q h hQ => ?_, fun s Q h hQ => ?_⟩
      · have hse : ∀ k, k < l.length → se b k = nI (l.getD k 0) := h.2.2.2.2.1
        unfold wp_X0_isNextOrder_18
        rw [nI_1, nI_clamp (by omega), nI_clamp (by omega), hse 0 (by omega), hse (0 + 1) (by omega)]
        refine ⟨fun c => absurd c (nI_pos (by omega)), fun _ => ⟨vp_in_nI (by omega) (by omega), vp_in_nI (by omega) (by omega), fun c => ?_, fun _ => ?_⟩⟩
        · rw [show (0 : Nat) + 1 = 1 from rfl] at c
          simp (disch := omega) only [il0, il1, il2, il3, il4, il5, il6, il7, il8, il9, il10, il15, il16, il22, il24, il30, il31, il40, il41, il60, il70, il146, il161, il9999, pk_mul, nI_add, pk_sub, nI_clamp, nI_leI, nI_ltI, nI_eq] at c
          omega
        · unfold wp_X0_isNextOrder_18
          exact ⟨fun _ => ⟨fun c => absurd c (by decide), fun _ => hQ⟩, fun c => absurd (by decide) c⟩
      · have hse : ∀ k, k < l.length → s (10 + k) = nI (l.getD k 0) := h.2.2.2.2.1
        unfold wp_X9_nextOrder_9
        rw [il10, nI_add, nI_1, nI_clamp (by omega), nI_clamp (by omega)]
        refine ⟨fun c => absurd c (nI_pos (by omega)), fun _ => ⟨vp_in_nI (by omega) (by omega), vp_in_nI (by omega) (by omega), fun c => ?_, fun _ => ?_⟩⟩
        · rw [hse 0 (by omega), show 10 + 0 + 1 = 10 + 1 from rfl, hse 1 (by omega)] at c
          simp (disch := omega) only [il0, il1, il2, il3, il4, il5, il6, il7, il8, il9, il10, il15, il16, il22, il24, il30, il31, il40, il41, il60, il70, il146, il161, il9999, pk_mul, nI_add, pk_sub, nI_clamp, nI_leI, nI_ltI, nI_eq] at c
          omega
        · unfold wp_X9_nextOrder_9
          exact ⟨fun _ => ⟨fun c => absurd c (by decide), fun _ => hQ⟩, fun c => absurd (by decide) c⟩
  | succ i ih =>
    intro hi
    have b0 := hb (i + 1) (by omega)
    have b1 := hb (i + 1 + 1) (by omega)
    by_cases hle : l.getD (i + 1) 0 ≤ l.getD (i + 1 + 1) 0
    · have hne := getD_ne hn (i := i + 1) (j := i + 1 + 1) (by omega) (by omega) (by omega)
      obtain ⟨l', p1, p2, p3, p4, p5⟩ := jl_L (B := B) hM h6 hn hx (i := i + 1) hi (by omega) (l.length - 1 - (i + 1) - 1) (l.length - 1) (by omega) (by omega) (by omega)
      refine Or.inl ⟨l', p1, num_lt l l' (i + 1) 0 0 p1.length_eq.symm hx (Or.inr ⟨rfl, by omega, p2, p3⟩), fun b Q h hQ => ?_, fun s Q h hQ => ?_⟩
      · have hse : ∀ k, k < l.length → se b k = nI (l.getD k 0) := h.2.2.2.2.1
        have hma : ma b = nI l.length := h.2.1
        unfold wp_X0_isNextOrder_18
        rw [nI_1, nI_clamp (by omega), nI_clamp (by omega), hse (i + 1) (by omega), hse (i + 1 + 1) (by omega)]
        refine ⟨fun c => absurd c (nI_pos (by omega)), fun _ => ⟨vp_in_nI (by omega) (by omega), vp_in_nI (by omega) (by omega), fun _ => ⟨fun _ v hv => ⟨l.length - 1 - (i + 1) - 1 + 1, ?_⟩, fun c => absurd (nI_pos' (by omega)) c⟩, fun c => ?_⟩⟩
        · rw [hv, hma, il1, pk_sub (by omega)]
          exact p4 b Q h hQ
        · simp (disch := omega) only [il0, il1, il2, il3, il4, il5, il6, il7, il8, il9, il10, il15, il16, il22, il24, il30, il31, il40, il41, il60, il70, il146, il161, il9999, pk_mul, nI_add, pk_sub, nI_clamp, nI_leI, nI_ltI, nI_eq] at c
          omega
      · have hse : ∀ k, k < l.length → s (10 + k) = nI (l.getD k 0) := h.2.2.2.2.1
        have hma : s 1 = nI l.length := h.2.1
        unfold wp_X9_nextOrder_9
        rw [il10, nI_add, nI_1, nI_clamp (by omega), nI_clamp (by omega)]
        refine ⟨fun c => absurd c (nI_pos (by omega)), fun _ => ⟨vp_in_nI (by omega) (by omega), vp_in_nI (by omega) (by omega), fun _ => ⟨fun _ v hv => ⟨l.length - 1 - (i + 1) - 1 + 1, ?_⟩, fun c => absurd (nI_pos' (by omega)) c⟩, fun c => ?_⟩⟩
        · rw [hv, hma, il1, pk_sub (by omega)]
          exact p5 s Q h hQ
        · rw [hse (i + 1) (by omega), show 10 + (i + 1) + 1 = 10 + (i + 1 + 1) by omega, hse (i + 1 + 1) (by omega)] at c
          simp (disch := omega) only [il0, il1, il2, il3, il4, il5, il6, il7, il8, il9, il10, il15, il16, il22, il24, il30, il31, il40, il41, il60, il70, il146, il161, il9999, pk_mul, nI_add, pk_sub, nI_clamp, nI_leI, nI_ltI, nI_eq] at c
          omega
    · have goC : ∀ (n : Nat) (b : BT) (Q : Int32 → BT → Prop), CR b (setS B l) → wp_X0_isNextOrder_18 Q n b (nI i) → wp_X0_isNextOrder_18 Q (n + 1) b (nI (i + 1)) := by
        intro n b Q h hw
        have hse : ∀ k, k < l.length → se b k = nI (l.getD k 0) := h.2.2.2.2.1
        unfold wp_X0_isNextOrder_18
        rw [nI_1, nI_clamp (by omega), nI_clamp (by omega), hse (i + 1) (by omega), hse (i + 1 + 1) (by omega), nI_dec (by omega)]
        refine ⟨fun c => absurd c (nI_pos (by omega)), fun _ => ⟨vp_in_nI (by omega) (by omega), vp_in_nI (by omega) (by omega), fun c => ?_, fun _ => hw⟩⟩
        simp (disch := omega) only [il0, il1, il2, il3, il4, il5, il6, il7, il8, il9, il10, il15, il16, il22, il24, il30, il31, il40, il41, il60, il70, il146, il161, il9999, pk_mul, nI_add, pk_sub, nI_clamp, nI_leI, nI_ltI, nI_eq] at c
        omega
      have goM : ∀ (n : Nat) (s : Nat → Int32) (Q : Int32 → (Nat → Int32) → Prop), MR s (setS B l) → wp_X9_nextOrder_9 Q n s (nI i) → wp_X9_nextOrder_9 Q (n + 1) s (nI (i + 1)) := by
        intro n s Q h hw
        have hse : ∀ k, k < l.length → s (10 + k) = nI (l.getD k 0) := h.2.2.2.2.1
        unfold wp_X9_nextOrder_9
        rw [il10, nI_add, nI_1, nI_clamp (by omega), nI_clamp (by omega), nI_dec (by omega)]
        refine ⟨fun c => absurd c (nI_pos (by omega)), fun _ => ⟨vp_in_nI (by omega) (by omega), vp_in_nI (by omega) (by omega), fun c => ?_, fun _ => hw⟩⟩
        rw [hse (i + 1) (by omega), show 10 + (i + 1) + 1 = 10 + (i + 1 + 1) by omega, hse (i + 1 + 1) (by omega)] at c
        simp (disch := omega) only [il0, il1, il2, il3, il4, il5, il6, il7, il8, il9, il10, il15, il16, il22, il24, il30, il31, il40, il41, il60, il70, il146, il161, il9999, pk_mul, nI_add, pk_sub, nI_clamp, nI_leI, nI_ltI, nI_eq] at c
        omega
      rcases ih (by omega) with ⟨l', p1, p2, p3, p4⟩ | ⟨p1, p2⟩
      · exact Or.inl ⟨l', p1, p2, fun b Q h hQ => goC _ b Q h (p3 b Q h hQ), fun s Q h hQ => goM _ s Q h (p4 s Q h hQ)⟩
      · exact Or.inr ⟨fun b Q h hQ => goC _ b Q h (p1 b Q h hQ), fun s Q h hQ => goM _ s Q h (p2 s Q h hQ)⟩
theorem next_L {B : AB} (hM : bM B ≤ 6) {l : List Nat} (h6 : l.length ≤ 6) (hn : l.Nodup) (hx : ∀ x ∈ l, x < 6) : ∃ o, NextIs B l o := by
  by_cases h2 : 2 ≤ l.length
  · rcases il_L (B := B) hM h6 hn hx (l.length - 2) (by omega) with ⟨l', p1, p2, p3, p4⟩ | ⟨p1, p2⟩
    · refine ⟨some l', p1, p2, fun b Q h hQ => ?_, fun s Q h hQ => ?_⟩
      · have hma : ma b = nI l.length := h.2.1
        unfold wp_X0_isNextOrder
        intro v hv
        rw [hv, hma, il2, pk_sub h2]
        exact ⟨_, p3 b Q h hQ⟩
      · have hma : s 1 = nI l.length := h.2.1
        unfold wp_X9_nextOrder
        intro v hv
        rw [hv, hma, il2, pk_sub h2]
        exact ⟨_, p4 s Q h hQ⟩
    · refine ⟨none, fun b Q h hQ => ?_, fun s Q h hQ => ?_⟩
      · have hma : ma b = nI l.length := h.2.1
        unfold wp_X0_isNextOrder
        intro v hv
        rw [hv, hma, il2, pk_sub h2]
        exact ⟨_, p1 b Q h hQ⟩
      · have hma : s 1 = nI l.length := h.2.1
        unfold wp_X9_nextOrder
        intro v hv
        rw [hv, hma, il2, pk_sub h2]
        exact ⟨_, p2 s Q h hQ⟩
  · have hlen : l.length = 0 ∨ l.length = 1 := by omega
    have neg : nI l.length - 2 < 0 ∧ ¬ (0 : Int32) ≤ nI l.length - 2 := by
      rcases hlen with e | e <;> rw [e] <;> decide
    refine ⟨none, fun b Q h hQ => ?_, fun s Q h hQ => ?_⟩
    · have hma : ma b = nI l.length := h.2.1
      unfold wp_X0_isNextOrder
      intro v hv
      rw [hma] at hv
      refine ⟨1, ?_⟩
      unfold wp_X0_isNextOrder_18
      rw [hv]
      exact ⟨fun _ => ⟨fun c => absurd c neg.2, fun _ => hQ⟩, fun c => absurd neg.1 c⟩
    · have hma : s 1 = nI l.length := h.2.1
      unfold wp_X9_nextOrder
      intro v hv
      rw [hma] at hv
      refine ⟨1, ?_⟩
      unfold wp_X9_nextOrder_9
      rw [hv]
      exact ⟨fun _ => ⟨fun c => absurd c neg.2, fun _ => hQ⟩, fun c => absurd neg.1 c⟩
/-! the first order -/
def srt (B : AB) : List Nat := (List.range (bM B)).filter (fun m => decide (m ∈ bS B))
theorem srt_perm {B : AB} (hI : Inv B) : (srt B).Perm (bS B) := by
  refine (List.perm_ext_iff_of_nodup (List.Pairwise.filter _ List.nodup_range) hI.2.1).mpr (fun x => ?_)
  rw [List.mem_filter, List.mem_range, decide_eq_true_eq]
  exact ⟨fun h => h.2, fun h => ⟨hI.2.2.1 x h, h⟩⟩
theorem range_filt {p : Nat → Bool} {n : Nat} (hp : ∀ x, p x = true → x < n) : ∀ d, (List.range (n + d)).filter p = (List.range n).filter p
  | 0 => rfl
  | d + 1 => by
    have hf : p (n + d) = false := by
      cases h : p (n + d) with
      | false => rfl
      | true => have := hp _ h; omega
    rw [show n + (d + 1) = n + d + 1 by omega, List.range_succ, filt_f hf]
    exact range_filt hp d
theorem filt_len (p : Nat → Bool) (n : Nat) : ((List.range n).filter p).length ≤ n :=
  Nat.le_trans (List.length_filter_le _ _) (by rw [List.length_range]; exact Nat.le_refl n)
theorem pc_beginOrders {b a : BT} {B : AB} (h : CR b B) (hI : Inv B) {Q : BT × BT → Prop} (hQ : ∀ b' a', CR b' (setS B (srt B)) → CR a' B → Q (b', a')) : wp_X0_beginOrders b a Q := by
  have h6 := hI.1
  have hl := hI.len
  let p : Nat → Bool := fun m => decide (m ∈ bS B)
  unfold wp_X0_beginOrders
  refine pc_takeFromI h hI (fun a' ha' => ?_)
  refine loop_0 (σ := BT × Int32) (fun n i t => wp_X0_beginOrders_15 Q n t.1 a' t.2 (nI i)) (fun k t => ∃ f : Nat → Int32, t.1 = (kd b, pl b, lf b, f, mn b, ma b, yr b, dw b) ∧ t.2 = nI ((List.range k).filter p).length ∧ ∀ j, j < ((List.range k).filter p).length → f j = nI (((List.range k).filter p).getD j 0)) (bM B) (b, 0) ⟨se b, rfl, rfl, fun j hj => by simp at hj⟩ ?_ ?_
  · rintro n ⟨t, x⟩ ⟨f, e1, e2, e3⟩
    dsimp only at e1 e2 ⊢
    subst e1
    unfold wp_X0_beginOrders_15
    refine ⟨fun _ => hQ _ _ ⟨h.1, ?_, h.2.2.1, h.2.2.2.1, e3, h.2.2.2.2.2.1, h.2.2.2.2.2.2.1, h.2.2.2.2.2.2.2⟩ ha', fun c => ?_⟩
    · show ma b = nI (srt B).length
      rw [(srt_perm hI).length_eq]; exact h.2.1
    · have c : ¬ mn b ≤ nI (bM B) := c
      rw [h.1] at c
      simp (disch := omega) only [il0, il1, il2, il3, il4, il5, il6, il7, il8, il9, il10, il15, il16, il22, il24, il30, il31, il40, il41, il60, il70, il146, il161, il9999, pk_mul, nI_add, pk_sub, nI_clamp, nI_leI, nI_ltI, nI_eq] at c
      omega
  · rintro n k ⟨t, x⟩ hk ⟨f, e1, e2, e3⟩ ih
    dsimp only at e1 e2 ih ⊢
    subst e1
    have hfl := filt_len p k
    unfold wp_X0_beginOrders_15
    rw [nI_1]
    refine ⟨fun c => ?_, fun _ => ps_X6_seatOf ha' hI (by omega) ?_⟩
    · have c : mn b ≤ nI k := c
      rw [h.1] at c
      simp (disch := omega) only [il0, il1, il2, il3, il4, il5, il6, il7, il8, il9, il10, il15, il16, il22, il24, il30, il31, il40, il41, il60, il70, il146, il161, il9999, pk_mul, nI_add, pk_sub, nI_clamp, nI_leI, nI_ltI, nI_eq] at c
      omega
    · by_cases hmem : k ∈ bS B
      · have hk2 := idx_lt hmem
        have hp : p k = true := decide_eq_true hmem
        have hf : (List.range (k + 1)).filter p = (List.range k).filter p ++ [k] := by rw [List.range_succ, filt_t hp]
        simp only [seatI, if_pos hmem]
        refine ⟨fun c => absurd c (nI_pos (by omega)), fun _ => ?_⟩
        rw [e2]
        refine ⟨vp_in_nI (by omega) (by omega), fun f5 e5 => ?_⟩
        rw [nI_clamp (by omega)] at e5
        rw [nI_1]
        refine ih (_, _) ⟨f5, rfl, ?_, fun j hj => ?_⟩
        · dsimp only
          rw [hf, List.length_append]; rfl
        · rw [hf] at hj ⊢
          rw [getD_snoc hj, e5]
          rw [List.length_append] at hj
          have hj : j < ((List.range k).filter p).length + 1 := hj
          split
          case isTrue e => rw [e, pk_us]
          case isFalse e => rw [pk_un e]; exact e3 j (by omega)
      · have hp : p k = false := decide_eq_false hmem
        have hf : (List.range (k + 1)).filter p = (List.range k).filter p := by rw [List.range_succ, filt_f hp]
        simp only [seatI, if_neg hmem]
        refine ⟨fun _ => ih (_, x) ⟨f, rfl, by rw [hf]; exact e2, by rw [hf]; exact e3⟩, fun c => absurd neg4.1 c⟩
theorem pm_firstOrder {s : Nat → Int32} {B : AB} (h : MR s B) (hI : Inv B) {Q : (Nat → Int32) → Prop} (hQ : ∀ s', MR s' (setS B (srt B)) → (∀ i, 40 ≤ i → s' i = s i) → Q s') : wp_X9_firstOrder s Q := by
  have h6 := hI.1
  have hl := hI.len
  let p : Nat → Bool := fun m => decide (m ∈ bS B)
  have hpb : ∀ x, p x = true → x < bM B := fun x hx => hI.2.2.1 x (of_decide_eq_true hx)
  unfold wp_X9_firstOrder
  refine pm_bench h hI ?_
  refine loop_0 (σ := (Nat → Int32) × Int32) (fun n i t => wp_X9_firstOrder_9 Q n t.1 (benchI (bS B)) t.2 (nI i)) (fun k t => (∀ i, (i < 10 ∨ 16 ≤ i) → t.1 i = s i) ∧ t.2 = nI ((List.range k).filter p).length ∧ ∀ j, j < ((List.range k).filter p).length → t.1 (10 + j) = nI (((List.range k).filter p).getD j 0)) 6 (s, 0) ⟨fun _ _ => rfl, rfl, fun j hj => by simp at hj⟩ ?_ ?_
  · rintro n ⟨t, x⟩ ⟨e1, e2, e3⟩
    dsimp only at e1 e2 e3 ⊢
    have es : (List.range 6).filter p = srt B := by
      have := range_filt hpb (6 - bM B)
      rw [show bM B + (6 - bM B) = 6 by omega] at this
      exact this
    rw [es] at e3
    unfold wp_X9_firstOrder_9
    refine ⟨fun _ => hQ t ⟨(e1 0 (by omega)).trans h.1, ?_, (e1 2 (by omega)).trans h.2.2.1, (e1 3 (by omega)).trans h.2.2.2.1, e3, fun m hm => (e1 _ (by have : m < bM B := hm; omega)).trans (h.2.2.2.2.2.1 m hm), fun m hm => (e1 _ (by omega)).trans (h.2.2.2.2.2.2.1 m hm), fun m hm => (e1 _ (by omega)).trans (h.2.2.2.2.2.2.2 m hm)⟩ (fun i hi => e1 i (by omega)), fun c => absurd (by decide) c⟩
    show t 1 = nI (srt B).length
    rw [(srt_perm hI).length_eq, e1 1 (by omega)]; exact h.2.1
  · rintro n k ⟨t, x⟩ hk ⟨e1, e2, e3⟩ ih
    dsimp only at e1 e2 e3 ih ⊢
    have hfl := filt_len p k
    have hx6 : ∀ x ∈ bS B, x < 6 := fun x hx => Nat.lt_of_lt_of_le (hI.2.2.1 x hx) h6
    unfold wp_X9_firstOrder_9
    rw [nI_1]
    refine ⟨fun c => by simp (disch := omega) only [il0, il1, il2, il3, il4, il5, il6, il7, il8, il9, il10, il15, il16, il22, il24, il30, il31, il40, il41, il60, il70, il146, il161, il9999, pk_mul, nI_add, pk_sub, nI_clamp, nI_leI, nI_ltI, nI_eq] at c; omega, fun _ => pm_has ?_⟩
    rw [hasBench hx6 hk]
    by_cases hmem : k ∈ bS B
    · have hp : p k = true := decide_eq_true hmem
      have hf : (List.range (k + 1)).filter p = (List.range k).filter p ++ [k] := by rw [List.range_succ, filt_t hp]
      refine ⟨fun c => ?_, fun _ => ?_⟩
      · rw [b2i_0] at c
        simp [hmem] at c
      · rw [e2, il10, nI_add, nI_clamp (by omega), nI_1]
        refine ⟨vp_in_nI (by omega) (by omega), fun f5 e5 => ih (f5, _) ⟨fun i hi => ?_, ?_, fun j hj => ?_⟩⟩
        · show f5 i = s i
          rw [e5, pk_un (by omega)]; exact e1 i hi
        · dsimp only
          rw [hf, List.length_append]; rfl
        · rw [hf] at hj ⊢
          show f5 (10 + j) = _
          rw [getD_snoc hj, e5]
          rw [List.length_append] at hj
          have hj : j < ((List.range k).filter p).length + 1 := hj
          split
          case isTrue e => rw [e, pk_us]
          case isFalse e => rw [pk_un (by omega)]; exact e3 j (by omega)
    · have hp : p k = false := decide_eq_false hmem
      have hf : (List.range (k + 1)).filter p = (List.range k).filter p := by rw [List.range_succ, filt_f hp]
      refine ⟨fun _ => ih (t, x) ⟨e1, by rw [hf]; exact e2, by rw [hf]; exact e3⟩, fun c => ?_⟩
      rw [b2i_n0] at c
      simp [hmem] at c
theorem Inv_perm {B : AB} (hI : Inv B) {l : List Nat} (hp : l.Perm (bS B)) : Inv (setS B l) := by
  obtain ⟨h1, h2, h3, h4, h5, h6, h7, h8, h9⟩ := hI
  exact ⟨h1, hp.nodup_iff.mpr h2, fun x hx => h3 x (hp.mem_iff.mp hx), fun x hx => h4 x (hp.mem_iff.mp hx), h5, h6, h7, h8, h9⟩
