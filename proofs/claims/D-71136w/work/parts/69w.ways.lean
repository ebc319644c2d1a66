/-! pure: ways, ease, left: over all orders -/
set_option maxRecDepth 100000
theorem perm_small {B : AB} (hI : Inv B) {l : List Nat} (hp : l.Perm (bS B)) : l.length ≤ 6 ∧ l.Nodup ∧ ∀ x ∈ l, x < 6 := by
  have h6 := hI.1
  have hl := hI.len
  exact ⟨by rw [hp.length_eq]; omega, hp.nodup_iff.mpr hI.2.1, fun x hx => Nat.lt_of_lt_of_le (hI.2.2.1 x (hp.mem_iff.mp hx)) h6⟩
theorem wrong_le {B : AB} {l : List Nat} (h6 : l.length ≤ 6) : wrongN (setS B l) ≤ 5 := by
  have := wrK_le (setS B l) ((bS (setS B l)).length - 1)
  have e : (bS (setS B l)).length = l.length := rfl
  unfold wrongN
  omega
theorem wy_L {B : AB} (hI : Inv B) : ∀ (N : Nat) (l : List Nat) (acc : Int32), 46656 - num l ≤ N → l.Perm (bS B) →
    ∃ r : Int32, (∀ (b a : BT) (Q : Int32 → BT × BT → Prop), CR b (setS B l) → CR a B → (∀ b', CR b' B → Q r (b', a)) → wp_X0_ways_8 Q (N + 1) b a acc 1) ∧
      (∀ (s s0 a : Nat → Int32) (Q : Int32 → (Nat → Int32) × (Nat → Int32) → Prop), MR s (setS B l) → MR s0 B → (∀ i, i < 40 → a i = s0 i) → (∀ i, 40 ≤ i → s i = s0 i) → (∀ s', MR s' B → (∀ i, 40 ≤ i → s' i = s0 i) → Q r (s', a)) → wp_X9_ways_12 Q (N + 1) s a acc 1) := by
  intro N
  induction N with
  | zero =>
    intro l acc hN hp
    obtain ⟨h6, hn, hx⟩ := perm_small hI hp
    have := num_le h6 hx
    omega
  | succ N ih =>
    intro l acc hN hp
    obtain ⟨h6, hn, hx⟩ := perm_small hI hp
    have hI' := Inv_perm hI hp
    have hwl := wrong_le (B := B) h6
    obtain ⟨o, ho⟩ := next_L (B := B) hI.1 h6 hn hx
    obtain ⟨acc1, ea⟩ : ∃ acc1 : Int32, acc1 = if wrongN (setS B l) = 0 then acc + 1 else acc + 0 := ⟨_, rfl⟩
    have stC : ∀ (b a : BT) (Q : Int32 → BT × BT → Prop), CR b (setS B l) → wp_X0_isNextOrder b (fun r u => wp_X0_ways_8 Q (N + 1) u a acc1 r) → wp_X0_ways_8 Q (N + 1 + 1) b a acc 1 := by
      intro b a Q hb hw
      unfold wp_X0_ways_8
      refine ⟨fun c => absurd c (by decide), fun _ => pc_wrongMany hb hI' ?_⟩
      refine ⟨fun c v hv => ?_, fun c v hv => ?_⟩ <;> simp (disch := omega) only [il0, il1, il2, il3, il4, il5, il6, il7, il8, il9, il10, il15, il16, il22, il24, il30, il31, il40, il41, il60, il70, il146, il161, il9999, pk_mul, nI_add, pk_sub, nI_clamp, nI_leI, nI_ltI, nI_eq] at c
      · rw [if_neg c] at ea
        rw [hv, ← ea]; exact hw
      · rw [if_pos c] at ea
        rw [hv, ← ea]; exact hw
    have stM : ∀ (s a : Nat → Int32) (Q : Int32 → (Nat → Int32) × (Nat → Int32) → Prop), MR s (setS B l) → wp_X9_nextOrder s (fun r u => wp_X9_ways_12 Q (N + 1) u a acc1 r) → wp_X9_ways_12 Q (N + 1 + 1) s a acc 1 := by
      intro s a Q hb hw
      unfold wp_X9_ways_12
      refine ⟨fun c => absurd c (by decide), fun _ => pm_wrong hb hI' ?_⟩
      refine ⟨fun c v hv => ?_, fun c v hv => ?_⟩ <;> simp (disch := omega) only [il0, il1, il2, il3, il4, il5, il6, il7, il8, il9, il10, il15, il16, il22, il24, il30, il31, il40, il41, il60, il70, il146, il161, il9999, pk_mul, nI_add, pk_sub, nI_clamp, nI_leI, nI_ltI, nI_eq] at c
      · rw [if_neg c] at ea
        rw [hv, ← ea]; exact hw
      · rw [if_pos c] at ea
        rw [hv, ← ea]; exact hw
    cases o with
    | some l' =>
      obtain ⟨p1, p2, p3, p4⟩ := ho
      have hp' := p1.trans hp
      obtain ⟨h6', hn', hx'⟩ := perm_small hI hp'
      have hb' := num_le h6' hx'
      obtain ⟨r, r1, r2⟩ := ih l' acc1 (by omega) hp'
      refine ⟨r, fun b a Q hb ha hQ => ?_, fun s s0 a Q hs h0 ha hk hQ => ?_⟩
      · exact stC b a Q hb (p3 b _ hb (fun b' hb' => r1 b' a Q hb' ha hQ))
      · exact stM s a Q hs (p4 s _ hs (fun s' hs' hk' => r2 s' s0 a Q hs' h0 ha (fun i hi => (hk' i hi).trans (hk i hi)) hQ))
    | none =>
      obtain ⟨p1, p2⟩ := ho
      refine ⟨acc1, fun b a Q hb ha hQ => ?_, fun s s0 a Q hs h0 ha hk hQ => ?_⟩
      · refine stC b a Q hb (p1 b _ hb ?_)
        unfold wp_X0_ways_8
        exact ⟨fun _ => pc_takeFromI ha hI (fun b' hb' => hQ b' hb'), fun c => absurd rfl c⟩
      · refine stM s a Q hs (p2 s _ hs ?_)
        unfold wp_X9_ways_12
        exact ⟨fun _ => pm_lets (fun s' g1 g2 => hQ s' (MRlet h0 hI ha g1) (fun i hi => (g2 i hi).trans (hk i hi))), fun c => absurd rfl c⟩
theorem an_ways {b : BT} {s : Nat → Int32} {B : AB} (hc : CR b B) (hm : MR s B) (hI : Inv B) : ∃ r : Int32, (∀ (a : BT) (Q : Int32 → BT × BT → Prop), (∀ b' a', CR b' B → Q r (b', a')) → wp_X0_ways b a Q) ∧
    (∀ (a : Nat → Int32) (Q : Int32 → (Nat → Int32) × (Nat → Int32) → Prop), (∀ s' a', MR s' B → (∀ i, 40 ≤ i → s' i = s i) → Q r (s', a')) → wp_X9_ways s a Q) := by
  obtain ⟨r, r1, r2⟩ := wy_L hI (46656 - num (srt B)) (srt B) 0 (Nat.le_refl _) (srt_perm hI)
  refine ⟨r, fun a Q hQ => ?_, fun a Q hQ => ?_⟩
  · unfold wp_X0_ways
    exact pc_beginOrders hc hI (fun b' a' hb' ha' => ⟨_, r1 b' a' Q hb' ha' (fun b2 hb2 => hQ b2 a' hb2)⟩)
  · unfold wp_X9_ways
    exact pm_holds (fun a' ha' => pm_firstOrder hm hI (fun s' hs' hk => ⟨_, r2 s' s a' Q hs' hm ha' hk (fun s2 h2 k2 => hQ s2 a' h2 k2)⟩))
/-! ease: the first order of those with the fewest wrong pairs -/
/-- what is known of the best so far, both sides: nothing yet; the number, the row -/
def EaB (o : Option (Nat × List Nat)) (n : Nat) (p1 : Int32) (best : Nat → Int32) (fc fm who : Int32) : Prop := match o with
  | none => fc = 6 ∧ fm = 99 ∧ who = -4
  | some (f, bl) => f ≤ 5 ∧ fc = nI f ∧ fm = nI f ∧ bl.length = n ∧ (∀ j, j < n → best j = nI (bl.getD j 0)) ∧ who = onSeatI bl p1.toInt
theorem told_eq {b : BT} {B : AB} (h : CR b B) (hI : Inv B) {bl : List Nat} (hl : bl.length = (bS B).length) {best : Nat → Int32} (hb : ∀ j, j < (bS B).length → best j = nI (bl.getD j 0)) {p1 : Int32} (h0 : 0 ≤ p1) {Q : Int32 → Prop} (hQ : Q (onSeatI bl p1.toInt)) : wp_X0_told b best p1 Q := by
  have h6 := hI.1
  have hl2 := hI.len
  have z0 : (0 : Int32).toInt = 0 := by decide
  have h0' : 0 ≤ p1.toInt := by
    have := Int32.le_iff_toInt_le.mp h0
    rw [z0] at this
    exact this
  unfold wp_X0_told
  rw [h.2.1]
  have et : (nI (bS B).length).toInt = ((bS B).length : Int) := nI_toInt (by omega)
  refine ⟨fun c => ?_, fun c => ?_⟩
  · have c := Int32.le_iff_toInt_le.mp c
    rw [et] at c
    rw [onSeatI, if_neg (by omega)] at hQ
    exact hQ
  · have c : ¬ ((bS B).length : Int) ≤ p1.toInt := by
      rw [← et]
      exact fun h => c (Int32.le_iff_toInt_le.mpr h)
    rw [onSeatI, if_pos (by omega)] at hQ
    have ep : p1 = nI p1.toInt.toNat := by
      apply Int32.toInt_inj.mp
      rw [nI_toInt (by omega)]; omega
    rw [ep]
    rw [nI_clamp (by omega)]
    refine ⟨vp_in_nI (by omega) (by omega), ?_⟩
    rw [hb _ (by omega)]
    exact hQ
theorem cpy6 {f g : Nat → Int32} {j : Nat} (h : j < 6) : va_cpy f g 0 0 6 j = f j := cpy0 h
theorem ea_L {B : AB} (hI : Inv B) {p1 : Int32} (hp1 : (-1 : Int32) ≤ p1) : ∀ (N : Nat) (l : List Nat) (o : Option (Nat × List Nat)) , 46656 - num l ≤ N → l.Perm (bS B) →
    ∃ r : Int32, ∀ (best : Nat → Int32) (fc fm who : Int32), EaB o (bS B).length p1 best fc fm who → (∀ (b a : BT) (Q : Int32 → BT × BT × (Nat → Int32) → Prop), CR b (setS B l) → CR a B → (∀ b' best', CR b' B → Q r (b', a, best')) → wp_X0_ease_16 p1 Q (N + 1) b a best fc 1) ∧
      (∀ (s s0 a : Nat → Int32) (Q : Int32 → (Nat → Int32) × (Nat → Int32) → Prop), MR s (setS B l) → MR s0 B → (∀ i, i < 40 → a i = s0 i) → (∀ i, 40 ≤ i → s i = s0 i) → (∀ s', MR s' B → (∀ i, 40 ≤ i → s' i = s0 i) → Q r (s', a)) → wp_X9_ease_24 p1 Q (N + 1) s a fm who 1) := by
  have z0 : (0 : Int32).toInt = 0 := by decide
  have zm : (-1 : Int32).toInt = -1 := by decide
  intro N
  induction N with
  | zero =>
    intro l o hN hp
    obtain ⟨h6, hn, hx⟩ := perm_small hI hp
    have := num_le h6 hx
    omega
  | succ N ih =>
    intro l o hN hp
    obtain ⟨h6, hn, hx⟩ := perm_small hI hp
    have hI' := Inv_perm hI hp
    have hwl := wrong_le (B := B) h6
    have hlen := hp.length_eq
    obtain ⟨w, hw⟩ : ∃ w, w = wrongN (setS B l) := ⟨_, rfl⟩
    rw [← hw] at hwl
    -- whether this order is taken
    obtain ⟨o1, ho1⟩ : ∃ o1 : Option (Nat × List Nat), o1 = (match o with | none => some (w, l) | some (f, bl) => if f ≤ w then some (f, bl) else some (w, l)) := ⟨_, rfl⟩
    have stC : ∀ (b a : BT) (Q : Int32 → BT × BT × (Nat → Int32) → Prop) (best : Nat → Int32) (fc fm who : Int32), EaB o (bS B).length p1 best fc fm who → CR b (setS B l) → (∀ best1 fc1, (∃ fm1 who1, EaB o1 (bS B).length p1 best1 fc1 fm1 who1) → wp_X0_isNextOrder b (fun r u => wp_X0_ease_16 p1 Q (N + 1) u a best1 fc1 r)) → wp_X0_ease_16 p1 Q (N + 1 + 1) b a best fc 1 := by
      intro b a Q best fc fm who he hb hnx
      have hse : ∀ k, k < l.length → se b k = nI (l.getD k 0) := hb.2.2.2.2.1
      unfold wp_X0_ease_16
      refine ⟨fun c => absurd c (by decide), fun _ => pc_wrongMany hb hI' ?_⟩
      rw [← hw]
      have take : ∀ f9 : Nat → Int32, f9 = va_cpy (se b) best 0 0 6 → o1 = some (w, l) → wp_X0_isNextOrder b (fun r u => wp_X0_ease_16 p1 Q (N + 1) u a f9 (nI w) r) := by
        intro f9 e9 eo
        refine hnx f9 (nI w) ⟨nI w, onSeatI l p1.toInt, ?_⟩
        rw [eo]
        exact ⟨by omega, rfl, rfl, hlen, fun j hj => by rw [e9, cpy6 (by omega)]; exact hse j (by omega), rfl⟩
      cases o with
      | none =>
        obtain ⟨e1, e2, e3⟩ := he
        rw [e1]
        refine ⟨fun c => ?_, fun _ f9 e9 => take f9 e9 ho1⟩
        simp (disch := omega) only [il0, il1, il2, il3, il4, il5, il6, il7, il8, il9, il10, il15, il16, il22, il24, il30, il31, il40, il41, il60, il70, il146, il161, il9999, pk_mul, nI_add, pk_sub, nI_clamp, nI_leI, nI_ltI, nI_eq] at c
        omega
      | some q =>
        obtain ⟨f, bl⟩ := q
        obtain ⟨f5, e1, e2, e3, e4, e5⟩ := he
        rw [e1]
        refine ⟨fun c => ?_, fun c f9 e9 => take f9 e9 ?_⟩ <;> simp (disch := omega) only [il0, il1, il2, il3, il4, il5, il6, il7, il8, il9, il10, il15, il16, il22, il24, il30, il31, il40, il41, il60, il70, il146, il161, il9999, pk_mul, nI_add, pk_sub, nI_clamp, nI_leI, nI_ltI, nI_eq] at c
        · refine hnx best (nI f) ⟨nI f, onSeatI bl p1.toInt, ?_⟩
          rw [ho1]
          dsimp only
          rw [if_pos c]
          exact ⟨f5, rfl, rfl, e3, e4, rfl⟩
        · rw [ho1]
          dsimp only
          rw [if_neg c]
    have stM : ∀ (s a : Nat → Int32) (Q : Int32 → (Nat → Int32) × (Nat → Int32) → Prop) (best : Nat → Int32) (fc fm who : Int32), EaB o (bS B).length p1 best fc fm who → MR s (setS B l) → (∀ fm1 who1, (∃ best1 fc1, EaB o1 (bS B).length p1 best1 fc1 fm1 who1) → wp_X9_nextOrder s (fun r u => wp_X9_ease_24 p1 Q (N + 1) u a fm1 who1 r)) → wp_X9_ease_24 p1 Q (N + 1 + 1) s a fm who 1 := by
      intro s a Q best fc fm who he hs hnx
      unfold wp_X9_ease_24
      refine ⟨fun c => absurd c (by decide), fun _ => pm_wrong hs hI' ?_⟩
      rw [← hw]
      have take : o1 = some (w, l) → wp_X9_nextOrder s (fun r u => wp_X9_ease_24 p1 Q (N + 1) u a (nI w) (onSeatI l p1.toInt) r) := by
        intro eo
        refine hnx (nI w) (onSeatI l p1.toInt) ⟨fun j => nI (l.getD j 0), nI w, ?_⟩
        rw [eo]
        exact ⟨by omega, rfl, rfl, hlen, fun j _ => rfl, rfl⟩
      cases o with
      | none =>
        obtain ⟨e1, e2, e3⟩ := he
        have hlt : ¬ fm ≤ nI w := by
          rw [e2, show (99 : Int32) = nI 99 from rfl, nI_leI (by omega) (by omega)]; omega
        exact ⟨fun c => absurd c hlt, fun _ => pm_onSeat hs hI' ⟨fun c => absurd c hlt, fun _ => take ho1⟩⟩
      | some q =>
        obtain ⟨f, bl⟩ := q
        obtain ⟨f5, e1, e2, e3, e4, e5⟩ := he
        by_cases hle : f ≤ w
        · have hle2 : fm ≤ nI w := by rw [e2, nI_leI (by omega) (by omega)]; exact hle
          refine ⟨fun _ => ⟨fun _ => ?_, fun c => absurd hle2 c⟩, fun c => absurd hle2 c⟩
          refine hnx fm who ⟨best, fc, ?_⟩
          rw [ho1]
          dsimp only
          rw [if_pos hle]
          exact ⟨f5, e1, e2, e3, e4, e5⟩
        · have hlt : ¬ fm ≤ nI w := by rw [e2, nI_leI (by omega) (by omega)]; exact hle
          refine ⟨fun c => absurd c hlt, fun _ => pm_onSeat hs hI' ⟨fun c => absurd c hlt, fun _ => take ?_⟩⟩
          rw [ho1]
          dsimp only
          rw [if_neg hle]
    obtain ⟨w1, l1, hs1⟩ : ∃ w1 l1, o1 = some (w1, l1) := by
      rw [ho1]
      cases o with
      | none => exact ⟨_, _, rfl⟩
      | some q =>
        obtain ⟨f, bl⟩ := q
        by_cases hle : f ≤ w
        · exact ⟨f, bl, by dsimp only; rw [if_pos hle]⟩
        · exact ⟨w, l, by dsimp only; rw [if_neg hle]⟩
    obtain ⟨nx, hnx⟩ := next_L (B := B) hI.1 h6 hn hx
    cases nx with
    | some l' =>
      obtain ⟨p1', p2, p3, p4⟩ := hnx
      have hp' := p1'.trans hp
      obtain ⟨h6', hn', hx'⟩ := perm_small hI hp'
      have hb' := num_le h6' hx'
      obtain ⟨r, hr⟩ := ih l' o1 (by omega) hp'
      refine ⟨r, fun best fc fm who he => ⟨fun b a Q hb ha hQ => ?_, fun s s0 a Q hs h0 ha hk hQ => ?_⟩⟩
      · refine stC b a Q best fc fm who he hb (fun best1 fc1 hE => ?_)
        obtain ⟨fm1, who1, hE⟩ := hE
        exact p3 b _ hb (fun b' hb' => (hr best1 fc1 fm1 who1 hE).1 b' a Q hb' ha hQ)
      · refine stM s a Q best fc fm who he hs (fun fm1 who1 hE => ?_)
        obtain ⟨best1, fc1, hE⟩ := hE
        exact p4 s _ hs (fun s' hs' hk' => (hr best1 fc1 fm1 who1 hE).2 s' s0 a Q hs' h0 ha (fun i hi => (hk' i hi).trans (hk i hi)) hQ)
    | none =>
      obtain ⟨q1, q2⟩ := hnx
      refine ⟨if 0 ≤ p1 then onSeatI l1 p1.toInt else nI w1, fun best fc fm who he => ⟨fun b a Q hb ha hQ => ?_, fun s s0 a Q hs h0 ha hk hQ => ?_⟩⟩
      · refine stC b a Q best fc fm who he hb (fun best1 fc1 hE => q1 b _ hb ?_)
        obtain ⟨fm1, who1, hE⟩ := hE
        rw [hs1] at hE
        obtain ⟨-, e1, e2, e3, e4, e5⟩ := hE
        unfold wp_X0_ease_16
        refine ⟨fun _ => pc_takeFromI ha hI (fun b' hb' => ⟨fun c => told_eq hb' hI e3 e4 c ?_, fun c => ?_⟩), fun c => absurd rfl c⟩
        · rw [if_pos c] at hQ
          exact hQ b' best1 hb'
        · rw [if_neg c] at hQ
          rw [e1]
          exact hQ b' best1 hb'
      · refine stM s a Q best fc fm who he hs (fun fm1 who1 hE => q2 s _ hs ?_)
        obtain ⟨best1, fc1, hE⟩ := hE
        rw [hs1] at hE
        obtain ⟨-, e1, e2, e3, e4, e5⟩ := hE
        unfold wp_X9_ease_24
        refine ⟨fun _ => pm_lets (fun s' g1 g2 => ?_), fun c => absurd rfl c⟩
        have hfin := hQ s' (MRlet h0 hI ha g1) (fun i hi => (g2 i hi).trans (hk i hi))
        refine ⟨fun c => ?_, fun c => ?_⟩
        · have hge : 0 ≤ p1 := by
            rw [Int32.le_iff_toInt_le, z0]
            have h1 := Int32.le_iff_toInt_le.mp hp1
            rw [zm] at h1
            have h2 : p1.toInt ≠ -1 := fun h => c (Int32.toInt_inj.mp (h.trans zm.symm))
            omega
          rw [if_pos hge] at hfin
          rw [e5]; exact hfin
        · have hge : ¬ 0 ≤ p1 := by rw [c]; decide
          rw [if_neg hge] at hfin
          rw [e2]; exact hfin
theorem an_ease {b : BT} {s : Nat → Int32} {B : AB} (hc : CR b B) (hm : MR s B) (hI : Inv B) (p1 : Int32) : ∃ r : Int32, (∀ (a : BT) (best : Nat → Int32) (Q : Int32 → BT × BT × (Nat → Int32) → Prop), (∀ b' a' best', CR b' B → Q r (b', a', best')) → wp_X0_ease b a best p1 Q) ∧
    (∀ (a : Nat → Int32) (Q : Int32 → (Nat → Int32) × (Nat → Int32) → Prop), (∀ s' a', MR s' B → (∀ i, 40 ≤ i → s' i = s i) → Q r (s', a')) → wp_X9_ease s a p1 Q) := by
  by_cases hp1 : (-1 : Int32) ≤ p1
  · obtain ⟨r, hr⟩ := ea_L hI hp1 (46656 - num (srt B)) (srt B) none (Nat.le_refl _) (srt_perm hI)
    refine ⟨r, fun a best Q hQ => ?_, fun a Q hQ => ?_⟩
    · unfold wp_X0_ease
      exact ⟨fun _ => pc_beginOrders hc hI (fun b' a' hb' ha' => ⟨_, (hr best 6 99 (-4) ⟨rfl, rfl, rfl⟩).1 b' a' Q hb' ha' (fun b2 best2 hb2 => hQ b2 a' best2 hb2)⟩), fun c => absurd hp1 c⟩
    · unfold wp_X9_ease
      exact ⟨fun _ => pm_holds (fun a' ha' => pm_firstOrder hm hI (fun s' hs' hk => ⟨_, (hr (fun _ => 0) 6 99 (-4) ⟨rfl, rfl, rfl⟩).2 s' s a' Q hs' hm ha' hk (fun s2 h2 k2 => hQ s2 a' h2 k2)⟩)), fun c => absurd hp1 c⟩
  · refine ⟨-1, fun a best Q hQ => ?_, fun a Q hQ => ?_⟩
    · unfold wp_X0_ease
      exact ⟨fun c => absurd c hp1, fun _ => hQ b a best hc⟩
    · unfold wp_X9_ease
      exact ⟨fun c => absurd c hp1, fun _ => hQ s a hm (fun _ _ => rfl)⟩
