/-! pure: winter: the sum over all sets, the one side counts the dead, the other those that live -/
set_option maxRecDepth 100000
theorem compl6 : ∀ n, n < 7 → ∀ d, d < 2 ^ n → ∀ k, k < n → (2 ^ n - 1 - d).testBit k = !d.testBit k := by decide +kernel
def cnt (w n : Nat) : Nat := ((List.range n).filter (fun k => w.testBit k)).length
theorem cnt6 : ∀ n, n < 7 → ∀ w, w < 2 ^ n → cnt w n = onesN w := by decide +kernel
/-- those of the first k seats whose bit is set -/
def alW (l : List Nat) (w : Nat) : Nat → List Nat
  | 0 => []
  | k + 1 => alW l w k ++ (if w.testBit k = true then [l.getD k 0] else [])
theorem alW_len (l : List Nat) (w : Nat) : ∀ k, (alW l w k).length = cnt w k
  | 0 => rfl
  | k + 1 => by
    have ih := alW_len l w k
    unfold cnt at ih ⊢
    rw [List.range_succ, alW, List.length_append, ih]
    by_cases h : w.testBit k = true
    · rw [if_pos h, filt_t h, List.length_append]; rfl
    · have h : w.testBit k = false := by simpa using h
      rw [if_neg (by rw [h]; decide), filt_f h]; rfl
theorem cnt_le (w : Nat) (n : Nat) : cnt w n ≤ n := filt_len _ n
def prW (c w : Nat) : Nat → Nat
  | 0 => 1
  | k + 1 => prW c w k * (if w.testBit k = true then 10 - c else c)
theorem prW_le {c : Nat} (hc : c ≤ 10) (w : Nat) : ∀ k, k ≤ 6 → prW c w k ≤ 10 ^ k
  | 0, _ => Nat.le_refl 1
  | k + 1, hk => by
    have ih := prW_le hc w k (by omega)
    rw [prW, Nat.pow_succ]
    refine Nat.mul_le_mul ih ?_
    split <;> omega
theorem pw6 {k : Nat} (h : k ≤ 6) : 10 ^ k ≤ 1000000 := Nat.le_trans (Nat.pow_le_pow_right (by omega) h) (by decide)
/-- the wrong pairs of a row that grows by one -/
theorem wrong_snoc (B : AB) (l : List Nat) (x : Nat) : wrongN (setS B (l ++ [x])) = wrongN (setS B l) + (if l = [] then 0 else if sbB B (l.getD (l.length - 1) 0) x = true then 0 else 1) := by
  have key : ∀ k, k + 1 ≤ l.length → wrK (setS B (l ++ [x])) k = wrK (setS B l) k := by
    intro k
    induction k with
    | zero => intro _; rfl
    | succ k ih =>
      intro hk
      have ih := ih (by omega)
      unfold wrK at ih ⊢
      rw [sumN_succ, sumN_succ, ih]
      show _ + (if sbB B ((l ++ [x]).getD k 0) ((l ++ [x]).getD (k + 1) 0) = true then 0 else 1) = _ + (if sbB B (l.getD k 0) (l.getD (k + 1) 0) = true then 0 else 1)
      rw [getD_append_left' (by omega), getD_append_left' (by omega)]
  unfold wrongN
  show wrK (setS B (l ++ [x])) ((l ++ [x]).length - 1) = wrK (setS B l) (l.length - 1) + _
  rw [List.length_append, show l.length + [x].length - 1 = l.length by simp]
  by_cases h0 : l = []
  · subst h0
    rw [if_pos rfl]; rfl
  · have hl : 0 < l.length := List.length_pos_iff.mpr h0
    rw [if_neg h0]
    obtain ⟨q, hq⟩ : ∃ q, l.length = q + 1 := ⟨l.length - 1, by omega⟩
    rw [hq, show q + 1 - 1 = q by omega, ← key q (by omega)]
    unfold wrK
    rw [sumN_succ]
    show _ + (if sbB B ((l ++ [x]).getD q 0) ((l ++ [x]).getD (q + 1) 0) = true then 0 else 1) = _
    rw [getD_append_left' (by omega), ← hq, getD_append_len]
/-- what a set adds -/
def gW (B : AB) (m c w : Nat) : Nat := if m ≤ cnt w (bS B).length ∧ wrongN (setS B (alW (bS B) w (bS B).length)) = 0 then prW c w (bS B).length else 0
theorem gW_le {B : AB} (hI : Inv B) (m : Nat) {c : Nat} (hc : c ≤ 10) (w : Nat) : gW B m c w ≤ 1000000 := by
  have h6 := hI.1
  have hl := hI.len
  have h1 := prW_le hc w (bS B).length (by omega)
  have h2 := pw6 (k := (bS B).length) (by omega)
  unfold gW
  split <;> omega
theorem sumN_bd {f : Nat → Nat} {M : Nat} (h : ∀ k, f k ≤ M) : ∀ n, sumN f n ≤ n * M
  | 0 => by simp [sumN]
  | n + 1 => by
    rw [sumN_succ, Nat.succ_mul]
    exact Nat.add_le_add (sumN_bd h n) (h n)
theorem sumN_front (f : Nat → Nat) : ∀ n, sumN f (n + 1) = f 0 + sumN (fun i => f (i + 1)) n
  | 0 => by rw [sumN_succ]; simp [sumN]
  | n + 1 => by rw [sumN_succ, sumN_front f n, sumN_succ (fun i => f (i + 1)) n]; omega
theorem sumN_rev (f : Nat → Nat) : ∀ n, sumN (fun i => f (n - 1 - i)) n = sumN f n
  | 0 => rfl
  | n + 1 => by
    rw [sumN_front, sumN_succ f n]
    have e : (fun i => f (n + 1 - 1 - (i + 1))) = (fun i => f (n - 1 - i)) := by
      funext i
      congr 1
      omega
    rw [e, sumN_rev f n, Nat.add_comm]
    rfl
/-- lives, with the dead of the first k seats gone -/
def lifeW (B : AB) (w : Nat) : Nat → Nat → Nat
  | 0 => bL B
  | k + 1 => updN (lifeW B w k) ((bS B).getD k 0) (if w.testBit k = true then bL B ((bS B).getD k 0) else 0)
theorem lifeW_seat {B : AB} (hI : Inv B) (w : Nat) : ∀ k, k ≤ (bS B).length → ∀ j, j < k → lifeW B w k ((bS B).getD j 0) = if w.testBit j = true then bL B ((bS B).getD j 0) else 0
  | 0, _, j, hj => by omega
  | k + 1, hk, j, hj => by
    rw [lifeW]
    by_cases e : j = k
    · rw [e, updN_s]
    · rw [updN_n (getD_ne hI.2.1 (by omega) (by omega) e)]
      exact lifeW_seat hI w k (by omega) j (by omega)
theorem lifeW_le {B : AB} (hI : Inv B) (w : Nat) : ∀ k, k ≤ (bS B).length → ∀ m, m < bM B → lifeW B w k m ≤ 60
  | 0, _, m, hm => hI.2.2.2.2.1 m hm
  | k + 1, hk, m, hm => by
    rw [lifeW]
    unfold updN
    split
    · split
      · exact hI.2.2.2.2.1 _ (hI.2.2.1 _ (getD_mem (by omega)))
      · omega
    · exact lifeW_le hI w k (by omega) m hm
theorem aliveW {B : AB} (hI : Inv B) (w : Nat) : alive (setL B (lifeW B w (bS B).length)) (bS B) = alW (bS B) w (bS B).length := by
  have key : ∀ k, k ≤ (bS B).length → ((bS B).take k).filter (fun x => decide (0 < lifeW B w (bS B).length x)) = alW (bS B) w k := by
    intro k
    induction k with
    | zero => intro _; simp [alW]
    | succ k ih =>
      intro hk
      rw [take_succ' (by omega), alW, ← ih (by omega)]
      have e := lifeW_seat hI w (bS B).length (Nat.le_refl _) k (by omega)
      have hpos := hI.2.2.2.1 _ (getD_mem (l := bS B) (k := k) (by omega))
      by_cases h : w.testBit k = true
      · rw [if_pos h] at e
        rw [if_pos h, filt_t (by rw [e]; exact decide_eq_true hpos)]
      · rw [if_neg h] at e
        rw [if_neg h, filt_f (by rw [e]; decide), List.append_nil]
  have := key (bS B).length (Nat.le_refl _)
  rw [List.take_length] at this
  exact this
theorem alW_sub {B : AB} (w : Nat) : ∀ k, k ≤ (bS B).length → ∀ x ∈ alW (bS B) w k, x ∈ bS B
  | 0, _, x, hx => by simp [alW] at hx
  | k + 1, hk, x, hx => by
    rw [alW] at hx
    rcases List.mem_append.mp hx with h | h
    · exact alW_sub w k (by omega) x h
    · split at h
      · simp at h
        rw [h]
        exact getD_mem (by omega)
      · simp at h
theorem Inv_alive {B : AB} (hI : Inv B) {f : Nat → Nat} (hf : ∀ m, m < bM B → f m ≤ 60) : Inv (setS (setL B f) (alive (setL B f) (bS B))) := by
  obtain ⟨h1, h2, h3, h4, h5, h6, h7, h8, h9⟩ := hI
  refine ⟨h1, List.Pairwise.filter _ h2, fun x hx => h3 x (List.mem_filter.mp hx).1, fun x hx => of_decide_eq_true (List.mem_filter.mp hx).2, hf, h6, h7, h8, h9⟩
/-! the component -/
theorem wc_101 {b a : BT} {B : AB} (h : CR b B) (ha : CR a B) (hI : Inv B) {m c d : Nat} (hm : m ≤ 6) (hc : c ≤ 10) (hd : d < 2 ^ (bS B).length) {p3 x5 : Int32} {x4 : Nat} {Q : Int32 → BT × BT → Prop} {K : BT → BT → Int32 → Int32 → Int32 → Prop} (hK : ∀ b', CR b' B → K b' a (nI (x4 + gW B m c (2 ^ (bS B).length - 1 - d))) x5 (nI (d + 1))) :
    ∃ n, wp_X0_winter_101 (nI m) (nI c) p3 Q K n b a (nI x4) x5 (nI d) 1 0 := by
  have h6 := hI.1
  have hl := hI.len
  have hp := pow7 (q := (bS B).length) (by omega)
  obtain ⟨w, hw⟩ : ∃ w, w = 2 ^ (bS B).length - 1 - d := ⟨_, rfl⟩
  rw [← hw] at hK
  have hbit : ∀ k, k < (bS B).length → hasB (nI d) k = !w.testBit k := by
    intro k hk
    rw [has64 d (by omega) k (by omega), hw, compl6 _ (by omega) d hd k hk, Bool.not_not]
  refine loop_0 (σ := BT × Int32) (fun n i t => wp_X0_winter_101 (nI m) (nI c) p3 Q K n t.1 a (nI x4) x5 (nI d) t.2 (nI i)) (fun k t => (∃ ff : Nat → Int32, t.1 = (kd b, pl b, ff, se b, mn b, ma b, yr b, dw b) ∧ ∀ x, x < bM B → ff x = nI (lifeW B w k x)) ∧ t.2 = nI (prW c w k)) (bS B).length (b, 1) ⟨⟨lf b, rfl, h.2.2.2.2.2.1⟩, rfl⟩ ?_ ?_
  · rintro n ⟨t, x7⟩ ⟨⟨ff, e1, e2⟩, e3⟩
    dsimp only at e1 e3 ⊢
    subst e1
    unfold wp_X0_winter_101
    rw [ha.2.1]
    refine ⟨fun _ => ?_, fun c => by simp (disch := omega) only [il0, il1, il2, il3, il4, il5, il6, il7, il8, il9, il10, il15, il16, il22, il24, il30, il31, il40, il41, il60, il70, il146, il161, il9999, pk_mul, nI_add, pk_sub, nI_clamp, nI_leI, nI_ltI, nI_eq] at c; omega⟩
    have hIa := Inv_alive hI (f := lifeW B w (bS B).length) (lifeW_le hI w _ (Nat.le_refl _))
    refine pc_closeUp (B := setL B (lifeW B w (bS B).length)) (CR_setL h e2) h6 hI.2.1 hI.2.2.1 (lifeW_le hI w _ (Nat.le_refl _)) (fun b2 hb2 => ?_)
    have e4 : alive (setL B (lifeW B w (bS B).length)) (bS (setL B (lifeW B w (bS B).length))) = alW (bS B) w (bS B).length := aliveW hI w
    have hma : ma b2 = nI (cnt w (bS B).length) := by
      have := hb2.2.1
      rw [e4] at this
      rw [this]
      show nI (alW (bS B) w (bS B).length).length = _
      rw [alW_len]
    have hcl := cnt_le w (bS B).length
    rw [hma]
    have hwr : wrongN (setS (setL B (lifeW B w (bS B).length)) (alive (setL B (lifeW B w (bS B).length)) (bS (setL B (lifeW B w (bS B).length))))) = wrongN (setS B (alW (bS B) w (bS B).length)) := by
      rw [e4]; rfl
    have hwl : wrongN (setS B (alW (bS B) w (bS B).length)) ≤ 5 := wrong_le (by rw [alW_len]; omega)
    have fin : ∀ v : Int32, v = nI (x4 + gW B m c w) → wp_X6_takeFrom b2 a (fun u => K u a v x5 (nI d + 1)) := by
      intro v hv
      rw [nI_1, hv]
      exact pc_takeFromI ha hI (fun b' hb' => hK b' hb')
    refine ⟨fun c1 v hv => fin v ?_, fun c1 => pc_wrongMany hb2 hIa ?_⟩
    · simp (disch := omega) only [il0, il1, il2, il3, il4, il5, il6, il7, il8, il9, il10, il15, il16, il22, il24, il30, il31, il40, il41, il60, il70, il146, il161, il9999, pk_mul, nI_add, pk_sub, nI_clamp, nI_leI, nI_ltI, nI_eq] at c1
      rw [hv, il0, nI_add, gW, if_neg (by omega)]
    · simp (disch := omega) only [il0, il1, il2, il3, il4, il5, il6, il7, il8, il9, il10, il15, il16, il22, il24, il30, il31, il40, il41, il60, il70, il146, il161, il9999, pk_mul, nI_add, pk_sub, nI_clamp, nI_leI, nI_ltI, nI_eq] at c1
      rw [hwr]
      refine ⟨fun c2 v hv => fin v ?_, fun c2 v hv => fin v ?_⟩ <;> simp (disch := omega) only [il0, il1, il2, il3, il4, il5, il6, il7, il8, il9, il10, il15, il16, il22, il24, il30, il31, il40, il41, il60, il70, il146, il161, il9999, pk_mul, nI_add, pk_sub, nI_clamp, nI_leI, nI_ltI, nI_eq] at c2
      · rw [hv, il0, nI_add, gW, if_neg (fun h => c2 h.2)]
      · rw [hv, e3, nI_add, gW, if_pos ⟨by omega, c2⟩]
  · rintro n k ⟨t, x7⟩ hk ⟨⟨ff, e1, e2⟩, e3⟩ ih
    dsimp only at e1 e3 ih ⊢
    subst e1
    have hx : (bS B).getD k 0 < bM B := hI.2.2.1 _ (getD_mem hk)
    have hpr := prW_le hc w k (by omega)
    unfold wp_X0_winter_101
    rw [ha.2.1]
    refine ⟨fun c => by simp (disch := omega) only [il0, il1, il2, il3, il4, il5, il6, il7, il8, il9, il10, il15, il16, il22, il24, il30, il31, il40, il41, il60, il70, il146, il161, il9999, pk_mul, nI_add, pk_sub, nI_clamp, nI_leI, nI_ltI, nI_eq] at c; omega, fun _ => pc_has ?_⟩
    rw [hbit k hk]
    have eb := hbit k hk
    by_cases hbk : w.testBit k = true
    · rw [hbk]
      refine ⟨fun _ => ?_, fun c => absurd rfl c⟩
      unfold wp_X0_winter_133
      intro v1 hv1
      refine ⟨vp_in_nI (by omega) (by omega), pc_has ?_⟩
      rw [eb, hbk]
      refine ⟨fun _ => ⟨vp_in_nI (by omega) (by omega), ?_⟩, fun c => absurd rfl c⟩
      rw [nI_clamp (show k < 2 ^ 31 by omega), ha.2.2.2.2.1 k hk, nI_clamp (by omega), nI_1]
      refine ⟨vp_in_nI (by omega) (by omega), fun v7 hv7 => ⟨vp_in_nI (by omega) (by omega), fun f9 e9 => ?_⟩⟩
      refine ih (_, v1) ⟨⟨f9, rfl, fun x hx2 => ?_⟩, ?_⟩
      · rw [e9, lifeW]
        by_cases e : x = (bS B).getD k 0
        · rw [e, pk_us, updN_s, if_pos hbk, hv7]; exact ha.2.2.2.2.2.1 _ hx
        · rw [pk_un e, updN_n e]; exact e2 x hx2
      · dsimp only
        rw [hv1, e3, prW, if_pos hbk, il10, pk_sub hc, pk_mul]
    · have hbk : w.testBit k = false := by simpa using hbk
      rw [hbk]
      refine ⟨fun c => absurd c (by decide), fun _ => ?_⟩
      unfold wp_X0_winter_133
      intro v1 hv1
      refine ⟨vp_in_nI (by omega) (by omega), pc_has ?_⟩
      rw [eb, hbk]
      refine ⟨fun c => absurd c (by decide), fun _ => ?_⟩
      rw [nI_clamp (show k < 2 ^ 31 by omega), ha.2.2.2.2.1 k hk, nI_clamp (by omega), nI_1]
      refine ⟨vp_in_nI (by omega) (by omega), fun f11 e11 => ?_⟩
      refine ih (_, v1) ⟨⟨f11, rfl, fun x hx2 => ?_⟩, ?_⟩
      · rw [e11, lifeW]
        by_cases e : x = (bS B).getD k 0
        · rw [e, pk_us, updN_s, if_neg (by rw [hbk]; decide)]; rfl
        · rw [pk_un e, updN_n e]; exact e2 x hx2
      · dsimp only
        rw [hv1, e3, prW, if_neg (by rw [hbk]; decide), pk_mul]
theorem wc_81 {a : BT} {B : AB} (ha : CR a B) (hI : Inv B) {m c : Nat} (hm : m ≤ 6) (hc : c ≤ 10) {p3 x5 : Int32} {Q : Int32 → BT × BT → Prop} (hK : ∀ b', CR b' B → ∃ j, wp_X0_winter_253 (nI m) (nI c) p3 Q j b' a (nI (sumN (gW B m c) (2 ^ (bS B).length))) x5 (nI (sumN (gW B m c) (2 ^ (bS B).length))) x5) :
    ∀ b, CR b B → ∃ n, wp_X0_winter_81 (nI m) (nI c) p3 Q n b a 0 x5 0 := by
  have h6 := hI.1
  have hl := hI.len
  have hp := pow7 (q := (bS B).length) (by omega)
  intro b hb
  rw [← sumN_rev] at hK
  refine loop_0 (σ := BT × Int32) (fun n i t => wp_X0_winter_81 (nI m) (nI c) p3 Q n t.1 a t.2 x5 (nI i)) (fun k t => CR t.1 B ∧ t.2 = nI (sumN (fun i => gW B m c (2 ^ (bS B).length - 1 - i)) k)) (2 ^ (bS B).length) (b, 0) ⟨hb, rfl⟩ ?_ ?_
  · rintro n ⟨t, x4⟩ ⟨e1, e2⟩
    dsimp only at e1 e2 ⊢
    unfold wp_X0_winter_81
    rw [ha.2.1, bit7 _ (by omega)]
    refine ⟨fun _ => ?_, fun c => by simp (disch := omega) only [il0, il1, il2, il3, il4, il5, il6, il7, il8, il9, il10, il15, il16, il22, il24, il30, il31, il40, il41, il60, il70, il146, il161, il9999, pk_mul, nI_add, pk_sub, nI_clamp, nI_leI, nI_ltI, nI_eq] at c; omega⟩
    rw [e2]
    exact hK t e1
  · rintro n k ⟨t, x4⟩ hk ⟨e1, e2⟩ ih
    dsimp only at e1 e2 ih ⊢
    unfold wp_X0_winter_81
    rw [ha.2.1, bit7 _ (by omega)]
    refine ⟨fun c => by simp (disch := omega) only [il0, il1, il2, il3, il4, il5, il6, il7, il8, il9, il10, il15, il16, il22, il24, il30, il31, il40, il41, il60, il70, il146, il161, il9999, pk_mul, nI_add, pk_sub, nI_clamp, nI_leI, nI_ltI, nI_eq] at c; omega, fun _ => ?_⟩
    rw [e2]
    refine wc_101 e1 ha hI hm hc hk (fun b' hb' => ih (b', _) ⟨hb', ?_⟩)
    dsimp only
    rw [sumN_succ]
    rfl
theorem wc_53 {b a : BT} {B : AB} (hb : CR b B) (ha : CR a B) (hI : Inv B) {m c : Nat} {p3 : Int32} {Q : Int32 → BT × BT → Prop} (hK : ∃ n, wp_X0_winter_81 (nI m) (nI c) p3 Q n b a 0 (nI (10 ^ (bS B).length)) 0) : ∃ n, wp_X0_winter_53 (nI m) (nI c) p3 Q n b a 0 1 0 := by
  have h6 := hI.1
  have hl := hI.len
  refine loop_0 (σ := Int32) (fun n i t => wp_X0_winter_53 (nI m) (nI c) p3 Q n b a 0 t (nI i)) (fun k t => t = nI (10 ^ k)) (bS B).length 1 rfl ?_ ?_
  · intro n t ht
    unfold wp_X0_winter_53
    rw [ha.2.1, ht]
    exact ⟨fun _ => hK, fun c => by simp (disch := omega) only [il0, il1, il2, il3, il4, il5, il6, il7, il8, il9, il10, il15, il16, il22, il24, il30, il31, il40, il41, il60, il70, il146, il161, il9999, pk_mul, nI_add, pk_sub, nI_clamp, nI_leI, nI_ltI, nI_eq] at c; omega⟩
  · intro n k t hk ht ih
    unfold wp_X0_winter_53
    rw [ha.2.1, nI_1]
    refine ⟨fun c => by simp (disch := omega) only [il0, il1, il2, il3, il4, il5, il6, il7, il8, il9, il10, il15, il16, il22, il24, il30, il31, il40, il41, il60, il70, il146, il161, il9999, pk_mul, nI_add, pk_sub, nI_clamp, nI_leI, nI_ltI, nI_eq] at c; omega, fun _ v hv => ih v ?_⟩
    rw [hv, ht, il10, pk_mul, Nat.pow_succ]
/-! the model -/
theorem wm_106 {s : Nat → Int32} {B : AB} (h : MR s B) (hI : Inv B) {m c w : Nat} (hm : m ≤ 6) (hc : c ≤ 10) (hw : w < 2 ^ (bS B).length) {p3 x5 : Int32} {x4 : Nat} {Q : Int32 → Prop} {K : Int32 → Int32 → Int32 → Prop} (hK : K (nI (x4 + gW B m c w)) x5 (nI (w + 1))) (x9 : Int32) (hx9 : x9 = if m ≤ onesN w then 1 else 0) :
    ∃ n, wp_X9_winter_106 s (nI m) (nI c) p3 Q K n (nI x4) x5 (nI w) 1 (-4) x9 0 := by
  have h6 := hI.1
  have hl := hI.len
  have hp := pow7 (q := (bS B).length) (by omega)
  have hcn := cnt6 (bS B).length (by omega) w hw
  have hbit : ∀ k, k < (bS B).length → hasB (nI w) k = w.testBit k := fun k hk => has64 w (by omega) k (by omega)
  let ok : Nat → Bool := fun k => decide (m ≤ onesN w) && decide (wrongN (setS B (alW (bS B) w k)) = 0)
  refine loop_0 (σ := Int32 × Int32 × Int32) (fun n i t => wp_X9_winter_106 s (nI m) (nI c) p3 Q K n (nI x4) x5 (nI w) t.1 t.2.1 t.2.2 (nI i)) (fun k t => t.1 = nI (prW c w k) ∧ t.2.1 = (if alW (bS B) w k = [] then (-4) else nI ((alW (bS B) w k).getD ((alW (bS B) w k).length - 1) 0)) ∧ t.2.2 = b2i (ok k)) (bS B).length (1, -4, x9) ⟨rfl, rfl, ?_⟩ ?_ ?_
  · show x9 = b2i (decide (m ≤ onesN w) && decide (wrongN (setS B (alW (bS B) w 0)) = 0))
    rw [hx9, show wrongN (setS B (alW (bS B) w 0)) = 0 from rfl]
    by_cases hmo : m ≤ onesN w
    · rw [if_pos hmo]; simp [hmo, b2i]
    · rw [if_neg hmo]; simp [hmo, b2i]
  · rintro n ⟨x7, x8, y9⟩ ⟨e1, e2, e3⟩
    dsimp only at e1 e2 e3 ⊢
    unfold wp_X9_winter_106
    rw [h.2.1, nI_1]
    have e3 : y9 = b2i (decide (m ≤ onesN w) && decide (wrongN (setS B (alW (bS B) w (bS B).length)) = 0)) := e3
    refine ⟨fun _ => ⟨fun c0 v hv => ?_, fun c0 v hv => ?_⟩, fun c => by simp (disch := omega) only [il0, il1, il2, il3, il4, il5, il6, il7, il8, il9, il10, il15, il16, il22, il24, il30, il31, il40, il41, il60, il70, il146, il161, il9999, pk_mul, nI_add, pk_sub, nI_clamp, nI_leI, nI_ltI, nI_eq] at c; omega⟩
    · rw [e3, b2i_0] at c0
      rw [hv, il0, nI_add]
      rw [gW, if_neg (fun hh => by simp [← hcn, hh.1, hh.2] at c0)] at hK
      exact hK
    · rw [e3, b2i_n0] at c0
      simp only [Bool.and_eq_true, decide_eq_true_eq] at c0
      rw [hv, e1, nI_add]
      rw [gW, if_pos ⟨by rw [hcn]; exact c0.1, c0.2⟩] at hK
      exact hK
  · rintro n k ⟨x7, x8, y9⟩ hk ⟨e1, e2, e3⟩ ih
    dsimp only at e1 e2 e3 ih ⊢
    have hx : (bS B).getD k 0 < bM B := hI.2.2.1 _ (getD_mem hk)
    have hpr := prW_le hc w k (by omega)
    unfold wp_X9_winter_106
    rw [h.2.1]
    refine ⟨fun c => by simp (disch := omega) only [il0, il1, il2, il3, il4, il5, il6, il7, il8, il9, il10, il15, il16, il22, il24, il30, il31, il40, il41, il60, il70, il146, il161, il9999, pk_mul, nI_add, pk_sub, nI_clamp, nI_leI, nI_ltI, nI_eq] at c; omega, fun _ => pm_has ?_⟩
    rw [hbit k hk]
    by_cases hbk : w.testBit k = true
    · rw [hbk]
      refine ⟨fun c => absurd c (by decide), fun _ => ?_⟩
      unfold wp_X9_winter_137
      intro v1 hv1
      refine pm_has ?_
      rw [hbit k hk, hbk]
      refine ⟨fun c => absurd c (by decide), fun _ => ?_⟩
      rw [il10, nI_add, nI_clamp (by omega), h.2.2.2.2.1 k hk, nI_1]
      have hv1' : v1 = nI (prW c w (k + 1)) := by rw [hv1, e1, prW, if_pos hbk, il10, pk_sub hc, pk_mul]
      have eal : alW (bS B) w (k + 1) = alW (bS B) w k ++ [(bS B).getD k 0] := by rw [alW, if_pos hbk]
      have fin : ∀ (v8 z : Int32), v8 = nI ((bS B).getD k 0) → z = b2i (ok (k + 1)) → wp_X9_winter_106 s (nI m) (nI c) p3 Q K n (nI x4) x5 (nI w) v1 v8 z (nI (k + 1)) := by
        intro v8 z h8 hz
        refine ih (v1, v8, z) ⟨hv1', ?_, hz⟩
        dsimp only
        rw [eal, if_neg (by simp), List.length_append, show (alW (bS B) w k).length + [(bS B).getD k 0].length - 1 = (alW (bS B) w k).length by simp, getD_append_len]
        exact h8
      have hok : ok (k + 1) = (ok k && (decide (alW (bS B) w k = []) || sbB B ((alW (bS B) w k).getD ((alW (bS B) w k).length - 1) 0) ((bS B).getD k 0))) := by
        show (decide (m ≤ onesN w) && decide (wrongN (setS B (alW (bS B) w (k + 1))) = 0)) = _
        rw [eal, wrong_snoc]
        show _ = (decide (m ≤ onesN w) && decide (wrongN (setS B (alW (bS B) w k)) = 0) && _)
        by_cases h0 : alW (bS B) w k = []
        · rw [if_pos h0]; simp [h0]
        · rw [if_neg h0]
          by_cases hs : sbB B ((alW (bS B) w k).getD ((alW (bS B) w k).length - 1) 0) ((bS B).getD k 0) = true
          · rw [if_pos hs, hs]; simp
          · have hs : sbB B ((alW (bS B) w k).getD ((alW (bS B) w k).length - 1) 0) ((bS B).getD k 0) = false := by simpa using hs
            rw [hs]; simp [h0]
      refine ⟨fun c0 => ⟨vp_in_nI (by omega) (by omega), fun v6 h6' => fin v6 0 h6' ?_⟩, fun c0 => ⟨fun c1 => ⟨vp_in_nI (by omega) (by omega), fun v9 h9 => fin v9 1 h9 ?_⟩, fun c1 => ⟨vp_in_nI (by omega) (by omega), ?_⟩⟩⟩
      · rw [e3, b2i_0] at c0
        rw [hok, c0]; rfl
      · rw [e3, b2i_n0] at c0
        have h0 : alW (bS B) w k = [] := by
          apply Classical.byContradiction
          intro hne
          rw [e2, if_neg hne] at c1
          have hl2 : 0 < (alW (bS B) w k).length := List.length_pos_iff.mpr hne
          have hmm := hI.2.2.1 _ (alW_sub w k (by omega) _ (getD_mem (l := alW (bS B) w k) (k := (alW (bS B) w k).length - 1) (by omega)))
          exact nI_ne4 (by omega) c1
        rw [hok, c0, h0]; rfl
      · rw [e3, b2i_n0] at c0
        have h0 : ¬ alW (bS B) w k = [] := by
          intro he
          rw [e2, if_pos he] at c1
          exact c1 rfl
        rw [if_neg h0] at e2
        have hl2 : 0 < (alW (bS B) w k).length := List.length_pos_iff.mpr h0
        have hmm := hI.2.2.1 _ (alW_sub w k (by omega) _ (getD_mem (l := alW (bS B) w k) (k := (alW (bS B) w k).length - 1) (by omega)))
        rw [e2]
        refine pm_stoodBy h hI hmm hx ⟨fun c2 => ⟨vp_in_nI (by omega) (by omega), fun v14 h14 => fin v14 0 h14 ?_⟩, fun c2 => ⟨vp_in_nI (by omega) (by omega), fun v16 h16 => fin v16 1 h16 ?_⟩⟩
        · rw [b2i_0] at c2
          rw [hok, c0, c2]; simp [h0, b2i]
        · rw [b2i_n0] at c2
          rw [hok, c0, c2]; simp [b2i]
    · have hbk : w.testBit k = false := by simpa using hbk
      rw [hbk]
      refine ⟨fun _ => ?_, fun c => absurd rfl c⟩
      unfold wp_X9_winter_137
      intro v1 hv1
      refine pm_has ?_
      rw [hbit k hk, hbk, nI_1]
      refine ⟨fun _ => ?_, fun c => absurd rfl c⟩
      have eal : alW (bS B) w (k + 1) = alW (bS B) w k := by rw [alW, if_neg (by rw [hbk]; decide), List.append_nil]
      refine ih (v1, x8, y9) ⟨?_, ?_, ?_⟩
      · dsimp only
        rw [hv1, e1, prW, if_neg (by rw [hbk]; decide), pk_mul]
      · dsimp only
        rw [eal]; exact e2
      · show y9 = b2i (decide (m ≤ onesN w) && decide (wrongN (setS B (alW (bS B) w (k + 1))) = 0))
        rw [eal]; exact e3
theorem wm_67 {s : Nat → Int32} {B : AB} (h : MR s B) (hI : Inv B) {m c : Nat} (hm : m ≤ 6) (hc : c ≤ 10) {p3 x5 : Int32} {Q : Int32 → Prop} (hK : ∃ j, wp_X9_winter_236 s (nI m) (nI c) p3 Q j (nI (sumN (gW B m c) (2 ^ (bS B).length))) x5 (nI (sumN (gW B m c) (2 ^ (bS B).length))) x5) : ∃ n, wp_X9_winter_67 s (nI m) (nI c) p3 Q n 0 x5 0 := by
  have h6 := hI.1
  have hl := hI.len
  have hp := pow7 (q := (bS B).length) (by omega)
  refine loop_0 (σ := Int32) (fun n i t => wp_X9_winter_67 s (nI m) (nI c) p3 Q n t x5 (nI i)) (fun k t => t = nI (sumN (gW B m c) k)) (2 ^ (bS B).length) 0 rfl ?_ ?_
  · intro n t ht
    unfold wp_X9_winter_67
    rw [h.2.1, bit7 _ (by omega), ht]
    exact ⟨fun _ => hK, fun c => by simp (disch := omega) only [il0, il1, il2, il3, il4, il5, il6, il7, il8, il9, il10, il15, il16, il22, il24, il30, il31, il40, il41, il60, il70, il146, il161, il9999, pk_mul, nI_add, pk_sub, nI_clamp, nI_leI, nI_ltI, nI_eq] at c; omega⟩
  · intro n k t hk ht ih
    have ho := onesN_le k (by omega)
    have nxt := ih (nI (sumN (gW B m c) k + gW B m c k)) (by rw [sumN_succ])
    unfold wp_X9_winter_67
    rw [h.2.1, bit7 _ (by omega), ht]
    refine ⟨fun c => by simp (disch := omega) only [il0, il1, il2, il3, il4, il5, il6, il7, il8, il9, il10, il15, il16, il22, il24, il30, il31, il40, il41, il60, il70, il146, il161, il9999, pk_mul, nI_add, pk_sub, nI_clamp, nI_leI, nI_ltI, nI_eq] at c; omega, fun _ => pm_ones (by omega) ⟨fun c1 => ?_, fun c1 => ?_⟩⟩ <;> simp (disch := omega) only [il0, il1, il2, il3, il4, il5, il6, il7, il8, il9, il10, il15, il16, il22, il24, il30, il31, il40, il41, il60, il70, il146, il161, il9999, pk_mul, nI_add, pk_sub, nI_clamp, nI_leI, nI_ltI, nI_eq] at c1
    · exact wm_106 h hI hm hc hk nxt 0 (by rw [if_neg (by omega)])
    · exact wm_106 h hI hm hc hk nxt 1 (by rw [if_pos (by omega)])
theorem wm_40 {s : Nat → Int32} {B : AB} (h : MR s B) (hI : Inv B) {m c : Nat} {p3 : Int32} {Q : Int32 → Prop} (hK : ∃ n, wp_X9_winter_67 s (nI m) (nI c) p3 Q n 0 (nI (10 ^ (bS B).length)) 0) : ∃ n, wp_X9_winter_40 s (nI m) (nI c) p3 Q n 0 1 0 := by
  have h6 := hI.1
  have hl := hI.len
  refine loop_0 (σ := Int32) (fun n i t => wp_X9_winter_40 s (nI m) (nI c) p3 Q n 0 t (nI i)) (fun k t => t = nI (10 ^ k)) (bS B).length 1 rfl ?_ ?_
  · intro n t ht
    unfold wp_X9_winter_40
    rw [h.2.1, ht]
    exact ⟨fun _ => hK, fun c => by simp (disch := omega) only [il0, il1, il2, il3, il4, il5, il6, il7, il8, il9, il10, il15, il16, il22, il24, il30, il31, il40, il41, il60, il70, il146, il161, il9999, pk_mul, nI_add, pk_sub, nI_clamp, nI_leI, nI_ltI, nI_eq] at c; omega⟩
  · intro n k t hk ht ih
    unfold wp_X9_winter_40
    rw [h.2.1, nI_1]
    refine ⟨fun c => by simp (disch := omega) only [il0, il1, il2, il3, il4, il5, il6, il7, il8, il9, il10, il15, il16, il22, il24, il30, il31, il40, il41, il60, il70, il146, il161, il9999, pk_mul, nI_add, pk_sub, nI_clamp, nI_leI, nI_ltI, nI_eq] at c; omega, fun _ v hv => ih v ?_⟩
    rw [hv, ht, il10, pk_mul, Nat.pow_succ]
/-! the greatest number that divides both -/
theorem gc_L {s : Nat → Int32} {m c : Nat} (p3 x4 x5 : Int32) : ∀ (d x y : Nat), y ≤ d → x < 2 ^ 31 → y < 2 ^ 31 → (x ≠ 0 ∨ y ≠ 0) →
    ∃ r : Int32, (∀ (b a : BT) (Q : Int32 → BT × BT → Prop), Q r (b, a) → wp_X0_winter_253 (nI m) (nI c) p3 Q (d + 1) b a x4 x5 (nI x) (nI y)) ∧ (∀ Q : Int32 → Prop, Q r → wp_X9_winter_236 s (nI m) (nI c) p3 Q (d + 1) x4 x5 (nI x) (nI y)) := by
  have base : ∀ (d x : Nat), x < 2 ^ 31 → x ≠ 0 → ∃ r : Int32, (∀ (b a : BT) (Q : Int32 → BT × BT → Prop), Q r (b, a) → wp_X0_winter_253 (nI m) (nI c) p3 Q (d + 1) b a x4 x5 (nI x) (nI 0)) ∧ (∀ Q : Int32 → Prop, Q r → wp_X9_winter_236 s (nI m) (nI c) p3 Q (d + 1) x4 x5 (nI x) (nI 0)) := by
    intro d x hx h0
    have hx0 : ¬ nI x = 0 := by
      rw [il0, nI_eq hx (by omega)]; exact h0
    refine ⟨if p3 = 0 then x4 / nI x else x5 / nI x, fun b a Q hQ => ?_, fun Q hQ => ?_⟩
    · unfold wp_X0_winter_253
      refine ⟨fun _ => ⟨fun c1 => ⟨hx0, ?_⟩, fun c1 => ⟨hx0, ?_⟩⟩, fun c1 => absurd rfl c1⟩
      · rw [if_neg c1] at hQ; exact hQ
      · rw [if_pos c1] at hQ; exact hQ
    · unfold wp_X9_winter_236
      refine ⟨fun _ => ⟨fun c1 => ⟨hx0, ?_⟩, fun c1 => ⟨hx0, ?_⟩⟩, fun c1 => absurd (by decide) c1⟩
      · rw [if_neg c1] at hQ; exact hQ
      · rw [if_pos c1] at hQ; exact hQ
  intro d
  induction d with
  | zero =>
    intro x y hy hx _ h0
    have e : y = 0 := by omega
    subst e
    exact base 0 x hx (by omega)
  | succ d ih =>
    intro x y hy hx hy31 h0
    by_cases e : y = 0
    · subst e
      exact base (d + 1) x hx (by omega)
    · have hlt := Nat.mod_lt x (show 0 < y by omega)
      obtain ⟨r, r1, r2⟩ := ih y (x % y) (by omega) hy31 (by omega) (Or.inl e)
      have hy0 : ¬ nI y = 0 := by
        rw [il0, nI_eq hy31 (by omega)]; exact e
      refine ⟨r, fun b a Q hQ => ?_, fun Q hQ => ?_⟩
      · unfold wp_X0_winter_253
        refine ⟨fun c1 => absurd c1 hy0, fun _ => ⟨hy0, fun v hv => ?_⟩⟩
        rw [hv, pk_rem hx (by omega) hy31]
        exact r1 b a Q hQ
      · unfold wp_X9_winter_236
        refine ⟨fun c1 => ?_, fun _ => ⟨hy0, fun v hv => ?_⟩⟩
        · rw [il0, nI_leI hy31 (by omega)] at c1
          omega
        · rw [hv, pk_rem hx (by omega) hy31]
          exact r2 Q hQ
theorem an_winter {b : BT} {s : Nat → Int32} {B : AB} (hb : CR b B) (hm : MR s B) (hI : Inv B) (p1 p2 p3 : Int32) : ∃ r : Int32, (∀ (a : BT) (Q : Int32 → BT × BT → Prop), (∀ b' a', CR b' B → Q r (b', a')) → wp_X0_winter b a p1 p2 p3 Q) ∧ (∀ Q : Int32 → Prop, Q r → wp_X9_winter s p1 p2 p3 Q) := by
  have h6 := hI.1
  have hl := hI.len
  by_cases c1 : inR p1 0 6 = true
  · by_cases c2 : inR p2 0 10 = true
    · by_cases c3 : inR p3 0 1 = true
      · obtain ⟨m, hm6, rfl⟩ := inRn (n := 6) (by omega) c1
        obtain ⟨c, hc, rfl⟩ := inRn (n := 10) (by omega) c2
        have hpw := pw6 (k := (bS B).length) (by omega)
        have hp2 := pow7 (q := (bS B).length) (by omega)
        have hsum := sumN_bd (fun k => gW_le hI m hc k) (2 ^ (bS B).length)
        have hs2 : 2 ^ (bS B).length * 1000000 ≤ 64 * 1000000 := Nat.mul_le_mul_right _ hp2
        have h10 : 0 < 10 ^ (bS B).length := Nat.pow_pos (by omega)
        obtain ⟨r, r1, r2⟩ := gc_L (s := s) (m := m) (c := c) p3 (nI (sumN (gW B m c) (2 ^ (bS B).length))) (nI (10 ^ (bS B).length)) (10 ^ (bS B).length) (sumN (gW B m c) (2 ^ (bS B).length)) (10 ^ (bS B).length) (Nat.le_refl _) (by omega) (by omega) (Or.inr (by omega))
        refine ⟨r, fun a Q hQ => ?_, fun Q hQ => ?_⟩
        · unfold wp_X0_winter
          refine pc_isIn (a := 0) (c := 6) rfl rfl ?_
          rw [c1]
          refine ⟨fun c => absurd c (by decide), fun _ => pc_isIn (a := 0) (c := 10) rfl rfl ?_⟩
          rw [c2]
          refine ⟨fun c => absurd c (by decide), fun _ => pc_isWhat ?_⟩
          rw [c3]
          refine ⟨fun _ => pc_takeFromI hb hI (fun a' ha' => wc_53 hb ha' hI (wc_81 ha' hI hm6 hc (fun b' hb' => ⟨_, r1 b' a' Q (hQ b' a' hb')⟩) b hb)), fun c => absurd c (by decide)⟩
        · unfold wp_X9_winter
          refine pm_in ?_
          have c1 : inR (nI m) (0 : Int32).toInt (6 : Int32).toInt = true := c1
          rw [c1]
          refine ⟨fun c => absurd c (by decide), fun _ => pm_in ?_⟩
          have c2 : inR (nI c) (0 : Int32).toInt (10 : Int32).toInt = true := c2
          rw [c2]
          refine ⟨fun c => absurd c (by decide), fun _ => pm_in ?_⟩
          have c3 : inR p3 (0 : Int32).toInt (1 : Int32).toInt = true := c3
          rw [c3]
          exact ⟨fun _ => wm_40 hm hI (wm_67 hm hI hm6 hc ⟨_, r2 Q hQ⟩), fun c => absurd c (by decide)⟩
      · have c3 : inR p3 0 1 = false := by simpa using c3
        refine ⟨-1, fun a Q hQ => ?_, fun Q hQ => ?_⟩
        · unfold wp_X0_winter
          refine pc_isIn (a := 0) (c := 6) rfl rfl ?_
          rw [c1]
          refine ⟨fun c => absurd c (by decide), fun _ => pc_isIn (a := 0) (c := 10) rfl rfl ?_⟩
          rw [c2]
          refine ⟨fun c => absurd c (by decide), fun _ => pc_isWhat ?_⟩
          rw [c3]
          exact ⟨fun c => absurd rfl c, fun _ => hQ b a hb⟩
        · unfold wp_X9_winter
          refine pm_in ?_
          have c1 : inR p1 (0 : Int32).toInt (6 : Int32).toInt = true := c1
          rw [c1]
          refine ⟨fun c => absurd c (by decide), fun _ => pm_in ?_⟩
          have c2 : inR p2 (0 : Int32).toInt (10 : Int32).toInt = true := c2
          rw [c2]
          refine ⟨fun c => absurd c (by decide), fun _ => pm_in ?_⟩
          have c3 : inR p3 (0 : Int32).toInt (1 : Int32).toInt = false := c3
          rw [c3]
          exact ⟨fun c => absurd rfl c, fun _ => hQ⟩
    · have c2 : inR p2 0 10 = false := by simpa using c2
      refine ⟨-1, fun a Q hQ => ?_, fun Q hQ => ?_⟩
      · unfold wp_X0_winter
        refine pc_isIn (a := 0) (c := 6) rfl rfl ?_
        rw [c1]
        refine ⟨fun c => absurd c (by decide), fun _ => pc_isIn (a := 0) (c := 10) rfl rfl ?_⟩
        rw [c2]
        exact ⟨fun _ => hQ b a hb, fun c => absurd rfl c⟩
      · unfold wp_X9_winter
        refine pm_in ?_
        have c1 : inR p1 (0 : Int32).toInt (6 : Int32).toInt = true := c1
        rw [c1]
        refine ⟨fun c => absurd c (by decide), fun _ => pm_in ?_⟩
        have c2 : inR p2 (0 : Int32).toInt (10 : Int32).toInt = false := c2
        rw [c2]
        exact ⟨fun _ => hQ, fun c => absurd rfl c⟩
  · have c1 : inR p1 0 6 = false := by simpa using c1
    refine ⟨-1, fun a Q hQ => ?_, fun Q hQ => ?_⟩
    · unfold wp_X0_winter
      refine pc_isIn (a := 0) (c := 6) rfl rfl ?_
      rw [c1]
      exact ⟨fun _ => hQ b a hb, fun c => absurd rfl c⟩
    · unfold wp_X9_winter
      refine pm_in ?_
      have c1 : inR p1 (0 : Int32).toInt (6 : Int32).toInt = false := c1
      rw [c1]
      exact ⟨fun _ => hQ, fun c => absurd rfl c⟩
