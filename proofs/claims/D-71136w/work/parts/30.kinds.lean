set_option maxRecDepth 100000
/-! BattleBench.Plain.fails(LBattleBench$Bench;I)I -/
def wp_X1_fails (p2 : Int32) (Q : Int32 → Prop) : Prop :=
  Q (2 : Int32)
set_option maxHeartbeats 4000000 in
theorem mt_X1_fails (l : Launch) (G : GT) (h a1 : Nat) (sz : Nat) (p2 : Int32) (Q : Int32 → Prop) (hw : wp_X1_fails p2 Q) : Met l yX1_fails (ws_ yX1_fails cX1_fails 3 (some .int)) ({ frames := 0, cells := 0, slots := 0, locals := 0 } : Room) (va_Pc [.ref h, .ref a1, .int p2] (fun U => U.heap.size = sz ∧ va_P G.1 gCl [] U.heap ∧ gK G U ∧ va_D (fun _ => True) [])) ((fun A => (va_Qi (fun (r : Int32) (u : Unit) => Q r ) (fun u t => va_P G.1 gCl [] t.heap ∧ va_D A []) A)) (va_A [] sz)) 0 0 (va_A [] sz) := by
  refine Met.ofW (cc := cX1_fails) (maxL := 3) (ret := (some .int)) (by decide) rfl ?_
  intro p e s m args below meth c s₁ B hml hv
  obtain ⟨rfl, hsz, hP, hK, hD0⟩ := hv
  have hx := B.exec
  have hb := B.bytes
  have hr := B.returns
  have hts := atoms_spec (ws := (ws_ yX1_fails cX1_fails 3 (some .int))) B.pre
  have hts : ∀ w ∈ lw_all, w.before _ s = true := fun w h => hts w (List.mem_cons_of_mem _ h)
  have hown : s.vm.findClass RX1 = some m.cls := findClass_of_methodNamed B.named
  have hlocks := B.notSynchronized
  subst hsz
  have hD := hD0.self (sz := s.heap.size)
  generalize hAe : va_A [] s.heap.size = A at hD ⊢
  have hA : ∀ q : Nat, s.heap.size ≤ q → A q := fun q h => by rw [← hAe]; exact Or.inr h
  have hS : va_S A s.heap s.heap [] := va_S.rf
  have C : Cx p s m meth c cX1_fails 3 (some .int) RX1 ([.ref h, .ref a1, .int p2] : List Value).toArray G A := ⟨hx, hb, hr, hlocks, hml, hown, hts, hK, hA⟩
  have hl := lv_entry ([.ref h, .ref a1, .int p2]) (n := 3) (Nat.le_of_ble_eq_true rfl)
  rw [lg_entry_eq]
  generalize (lg_sl ([.ref h, .ref a1, .int p2]) ++ List.replicate (3 - (lg_sl ([.ref h, .ref a1, .int p2])).length) Slot.unset).toArray = ls at hl ⊢
  have hl : lv_has ls 3 [(0, .ref h), (1, .ref a1), (2, .int p2)] := hl
  unfold wp_X1_fails at hw
  refine lv_iconst (v := (2 : Int32)) hx hb dX1_fails_0 (by decide) ?_
  have hP9 := hP
  have hD9 := hD
  exact W.iret (v := (2 : Int32)) hx hb hr (fun t ht hW => ⟨⟨(2 : Int32), (), rfl, hw, by rw [ht]; exact hP9, hD9⟩, hS.F ht⟩) hS.2.2 dX1_fails_1
/-! BattleBench.Hale.fails(LBattleBench$Bench;I)I -/
def wp_X2_fails (ba1 : BT) (p2 : Int32) (Q : Int32 → Prop) : Prop :=
  ((¬ (((yr ba1) - (yr ba1) / (2 : Int32) * (2 : Int32)) = 0) → Q (0 : Int32)) ∧ ((((yr ba1) - (yr ba1) / (2 : Int32) * (2 : Int32)) = 0) → wp_X1_fails  p2 (fun r_2 => Q r_2)))
set_option maxHeartbeats 4000000 in
theorem mt_X2_fails (l : Launch) (G : GT) (h a1 a1_0 a1_1 a1_2 a1_3 : Nat) (sz : Nat) (ba1 : BT) (p2 : Int32) (Q : Int32 → Prop) (hw : wp_X2_fails ba1 p2 Q) : Met l yX2_fails (ws_ yX2_fails cX2_fails 3 (some .int)) ({ frames := 1, cells := 0, slots := 0, locals := 22 } : Room) (va_Pc [.ref h, .ref a1, .int p2] (fun U => U.heap.size = sz ∧ va_P G.1 gCl [oc h 2 [], oc a1 6 [.ref a1_0, .ref a1_1, .ref a1_2, .ref a1_3, .int (mn ba1), .int (ma ba1), .int (yr ba1), .int (dw ba1)], ai G a1_0 6 (kd ba1), ai G a1_1 18 (pl ba1), ai G a1_2 6 (lf ba1), ai G a1_3 6 (se ba1)] U.heap ∧ gK G U ∧ va_D (fun _ => True) [oc h 2 [], oc a1 6 [.ref a1_0, .ref a1_1, .ref a1_2, .ref a1_3, .int (mn ba1), .int (ma ba1), .int (yr ba1), .int (dw ba1)], ai G a1_0 6 (kd ba1), ai G a1_1 18 (pl ba1), ai G a1_2 6 (lf ba1), ai G a1_3 6 (se ba1)])) ((fun A => (va_Qi (fun (r : Int32) (u : Unit) => Q r ) (fun u t => va_P G.1 gCl [oc h 2 [], oc a1 6 [.ref a1_0, .ref a1_1, .ref a1_2, .ref a1_3, .int (mn ba1), .int (ma ba1), .int (yr ba1), .int (dw ba1)], ai G a1_0 6 (kd ba1), ai G a1_1 18 (pl ba1), ai G a1_2 6 (lf ba1), ai G a1_3 6 (se ba1)] t.heap ∧ va_D A [oc h 2 [], oc a1 6 [.ref a1_0, .ref a1_1, .ref a1_2, .ref a1_3, .int (mn ba1), .int (ma ba1), .int (yr ba1), .int (dw ba1)], ai G a1_0 6 (kd ba1), ai G a1_1 18 (pl ba1), ai G a1_2 6 (lf ba1), ai G a1_3 6 (se ba1)]) A)) (va_A [oc h 2 [], oc a1 6 [.ref a1_0, .ref a1_1, .ref a1_2, .ref a1_3, .int (mn ba1), .int (ma ba1), .int (yr ba1), .int (dw ba1)], ai G a1_0 6 (kd ba1), ai G a1_1 18 (pl ba1), ai G a1_2 6 (lf ba1), ai G a1_3 6 (se ba1)] sz)) 0 0 (va_A [oc h 2 [], oc a1 6 [.ref a1_0, .ref a1_1, .ref a1_2, .ref a1_3, .int (mn ba1), .int (ma ba1), .int (yr ba1), .int (dw ba1)], ai G a1_0 6 (kd ba1), ai G a1_1 18 (pl ba1), ai G a1_2 6 (lf ba1), ai G a1_3 6 (se ba1)] sz) := by
  refine Met.ofW (cc := cX2_fails) (maxL := 3) (ret := (some .int)) (by decide) rfl ?_
  intro p e s m args below meth c s₁ B hml hv
  obtain ⟨rfl, hsz, hP, hK, hD0⟩ := hv
  have hx := B.exec
  have hb := B.bytes
  have hr := B.returns
  have hts := atoms_spec (ws := (ws_ yX2_fails cX2_fails 3 (some .int))) B.pre
  have hts : ∀ w ∈ lw_all, w.before _ s = true := fun w h => hts w (List.mem_cons_of_mem _ h)
  have hown : s.vm.findClass RX2 = some m.cls := findClass_of_methodNamed B.named
  have hlocks := B.notSynchronized
  subst hsz
  have hD := hD0.self (sz := s.heap.size)
  generalize hAe : va_A [oc h 2 [], oc a1 6 [.ref a1_0, .ref a1_1, .ref a1_2, .ref a1_3, .int (mn ba1), .int (ma ba1), .int (yr ba1), .int (dw ba1)], ai G a1_0 6 (kd ba1), ai G a1_1 18 (pl ba1), ai G a1_2 6 (lf ba1), ai G a1_3 6 (se ba1)] s.heap.size = A at hD ⊢
  have hA : ∀ q : Nat, s.heap.size ≤ q → A q := fun q h => by rw [← hAe]; exact Or.inr h
  have hS : va_S A s.heap s.heap [] := va_S.rf
  have C : Cx p s m meth c cX2_fails 3 (some .int) RX2 ([.ref h, .ref a1, .int p2] : List Value).toArray G A := ⟨hx, hb, hr, hlocks, hml, hown, hts, hK, hA⟩
  have hl := lv_entry ([.ref h, .ref a1, .int p2]) (n := 3) (Nat.le_of_ble_eq_true rfl)
  rw [lg_entry_eq]
  generalize (lg_sl ([.ref h, .ref a1, .int p2]) ++ List.replicate (3 - (lg_sl ([.ref h, .ref a1, .int p2])).length) Slot.unset).toArray = ls at hl ⊢
  have hl : lv_has ls 3 [(0, .ref h), (1, .ref a1), (2, .int p2)] := hl
  unfold wp_X2_fails at hw
  refine lv_aload_n hx hb dX2_fails_0 rfl (lv_at hl 1 rfl) ?_
  refine va_getN (D := G.1) (ci := 6) (v := .int (yr ba1)) (C := RX6) (T := TX6) (N := 8) hx hb hts in_X6 hown hK.1 hP 1 rfl rfl 6 (by decide) (hK.n q139 rfl) (fun _ h9 => h9) rfl dX2_fails_1 ?_
  refine lv_iconst (v := (2 : Int32)) hx hb dX2_fails_4 (by decide) ?_
  refine lv_irem hx hb dX2_fails_5 (by decide) ?_
  refine lv_if_ne (tgt := 18) hx hb dX2_fails_6 (by decide) (fun c_1 => ?_) (fun c_1 => ?_)
  · replace hw := hw.1 c_1
    refine lv_iconst (v := (0 : Int32)) hx hb dX2_fails_18 (by decide) ?_
    have hP9 := hP
    have hD9 := hD
    exact W.iret (v := (0 : Int32)) hx hb hr (fun t ht hW => ⟨⟨(0 : Int32), (), rfl, hw, by rw [ht]; exact hP9, hD9⟩, hS.F ht⟩) hS.2.2 dX2_fails_19
  · replace hw := hw.2 c_1
    refine lv_aload_n hx hb dX2_fails_9 rfl (lv_at hl 0 rfl) ?_
    refine lv_aload_n hx hb dX2_fails_10 rfl (lv_at hl 1 rfl) ?_
    refine lv_iload_n hx hb dX2_fails_11 rfl (lv_at hl 2 rfl) ?_
    have hPc := hP.sub (ws' := []) [] rfl
    have hDc := hD.sub (ws' := []) [] (by decide) rfl
    have hFc := va_free (wc := []) hD hS hA [] rfl
    refine va_calli (va_runSU (As := [.ref a1, .int p2]) (rest := []) (hK.1.1 2 _ rfl).2 ⟨hx, hb, hml, hown, hts⟩ (mt_X1_fails l G h a1 s.heap.size  p2 _ hw) (va_cwSU 2 hts (lw_app (List.forall_mem_cons.mpr ⟨q392, List.forall_mem_cons.mpr ⟨q385, List.forall_mem_cons.mpr ⟨q99, List.forall_mem_cons.mpr ⟨q383, List.forall_mem_cons.mpr ⟨q55, fun _ h9 => absurd h9 List.not_mem_nil⟩⟩⟩⟩⟩) (lw_meth q415)) rfl rfl rfl (by decide +kernel) ⟨Nat.le_of_ble_eq_true rfl, Nat.le_of_ble_eq_true rfl⟩) ⟨fun a U g mk q => by obtain ⟨q0, q1, qP, qK, qD⟩ := q; exact ⟨q0, q1, qP, qK.call, qD⟩, va_recv hK.1 hP (ci := 2) (q0 := 0) rfl rfl, fun U hU hW => ⟨rfl, by rw [hU], by rw [hU]; exact hPc, hK.warm hW, hDc.weaken (fun _ _ _ _ => trivial)⟩⟩ rfl rfl hl.1 rfl (lv_room (Nat.le_of_ble_eq_true rfl)) dX2_fails_12 ⟨Nat.le_of_ble_eq_true rfl, Nat.le_of_ble_eq_true rfl⟩) hS (fun q _ h => hFc q h) hFc (fun r_2 _ t H1 locs ht hvm hw hB hz1 hk1 hS => ?_)
    obtain ⟨hP1, hD1⟩ := hB
    rw [ht] at hP1
    obtain ⟨hP, hD⟩ := va_join (wr := [oc h 2 [], oc a1 6 [.ref a1_0, .ref a1_1, .ref a1_2, .ref a1_3, .int (mn ba1), .int (ma ba1), .int (yr ba1), .int (dw ba1)], ai G a1_0 6 (kd ba1), ai G a1_1 18 (pl ba1), ai G a1_2 6 (lf ba1), ai G a1_3 6 (se ba1)]) (w1 := []) hP hD [] [0, 1, 2, 3, 4, 5] rfl rfl (by decide) (by decide) hk1 hFc hP1 hD1
    clear hPc hDc hFc hP1 hD1 hz1 hk1 hvm
    generalize H1 = H at hP hS ⊢
    have hP : va_P G.1 gCl [oc h 2 [], oc a1 6 [.ref a1_0, .ref a1_1, .ref a1_2, .ref a1_3, .int (mn ba1), .int (ma ba1), .int (yr ba1), .int (dw ba1)], ai G a1_0 6 (kd ba1), ai G a1_1 18 (pl ba1), ai G a1_2 6 (lf ba1), ai G a1_3 6 (se ba1)] H := hP
    have hD : va_D A [oc h 2 [], oc a1 6 [.ref a1_0, .ref a1_1, .ref a1_2, .ref a1_3, .int (mn ba1), .int (ma ba1), .int (yr ba1), .int (dw ba1)], ai G a1_0 6 (kd ba1), ai G a1_1 18 (pl ba1), ai G a1_2 6 (lf ba1), ai G a1_3 6 (se ba1)] := hD
    refine lv_goto (tgt := 19) hx hb dX2_fails_15 (by decide) ?_
    have hP9 := hP
    have hD9 := hD
    exact W.iret (v := r_2) hx hb hr (fun t ht hW => ⟨⟨r_2, (), rfl, hw, by rw [ht]; exact hP9, hD9⟩, hS.F ht⟩) hS.2.2 dX2_fails_19
/-! BattleBench.Hale.fails(LBattleBench$Bench;I)I -/
def wp_X2_fails_4 (ba1 : BT) (p2 : Int32) (Q : Int32 → Prop) : Prop :=
  ((¬ (((yr ba1) - (yr ba1) / (2 : Int32) * (2 : Int32)) = 0) → Q (0 : Int32)) ∧ ((((yr ba1) - (yr ba1) / (2 : Int32) * (2 : Int32)) = 0) → wp_X1_fails  p2 (fun r_2 => Q r_2)))
set_option maxHeartbeats 4000000 in
theorem mt_X2_fails_4 (l : Launch) (G : GT) (h a1 a1_0 a1_1 a1_2 a1_3 : Nat) (sz : Nat) (ba1 : BT) (p2 : Int32) (Q : Int32 → Prop) (hw : wp_X2_fails_4 ba1 p2 Q) : Met l yX2_fails (ws_ yX2_fails cX2_fails 3 (some .int)) ({ frames := 1, cells := 0, slots := 0, locals := 22 } : Room) (va_Pc [.ref h, .ref a1, .int p2] (fun U => U.heap.size = sz ∧ va_P G.1 gCl [oc h 4 [], oc a1 6 [.ref a1_0, .ref a1_1, .ref a1_2, .ref a1_3, .int (mn ba1), .int (ma ba1), .int (yr ba1), .int (dw ba1)], ai G a1_0 6 (kd ba1), ai G a1_1 18 (pl ba1), ai G a1_2 6 (lf ba1), ai G a1_3 6 (se ba1)] U.heap ∧ gK G U ∧ va_D (fun _ => True) [oc h 4 [], oc a1 6 [.ref a1_0, .ref a1_1, .ref a1_2, .ref a1_3, .int (mn ba1), .int (ma ba1), .int (yr ba1), .int (dw ba1)], ai G a1_0 6 (kd ba1), ai G a1_1 18 (pl ba1), ai G a1_2 6 (lf ba1), ai G a1_3 6 (se ba1)])) ((fun A => (va_Qi (fun (r : Int32) (u : Unit) => Q r ) (fun u t => va_P G.1 gCl [oc h 4 [], oc a1 6 [.ref a1_0, .ref a1_1, .ref a1_2, .ref a1_3, .int (mn ba1), .int (ma ba1), .int (yr ba1), .int (dw ba1)], ai G a1_0 6 (kd ba1), ai G a1_1 18 (pl ba1), ai G a1_2 6 (lf ba1), ai G a1_3 6 (se ba1)] t.heap ∧ va_D A [oc h 4 [], oc a1 6 [.ref a1_0, .ref a1_1, .ref a1_2, .ref a1_3, .int (mn ba1), .int (ma ba1), .int (yr ba1), .int (dw ba1)], ai G a1_0 6 (kd ba1), ai G a1_1 18 (pl ba1), ai G a1_2 6 (lf ba1), ai G a1_3 6 (se ba1)]) A)) (va_A [oc h 4 [], oc a1 6 [.ref a1_0, .ref a1_1, .ref a1_2, .ref a1_3, .int (mn ba1), .int (ma ba1), .int (yr ba1), .int (dw ba1)], ai G a1_0 6 (kd ba1), ai G a1_1 18 (pl ba1), ai G a1_2 6 (lf ba1), ai G a1_3 6 (se ba1)] sz)) 0 0 (va_A [oc h 4 [], oc a1 6 [.ref a1_0, .ref a1_1, .ref a1_2, .ref a1_3, .int (mn ba1), .int (ma ba1), .int (yr ba1), .int (dw ba1)], ai G a1_0 6 (kd ba1), ai G a1_1 18 (pl ba1), ai G a1_2 6 (lf ba1), ai G a1_3 6 (se ba1)] sz) := by
  refine Met.ofW (cc := cX2_fails) (maxL := 3) (ret := (some .int)) (by decide) rfl ?_
  intro p e s m args below meth c s₁ B hml hv
  obtain ⟨rfl, hsz, hP, hK, hD0⟩ := hv
  have hx := B.exec
  have hb := B.bytes
  have hr := B.returns
  have hts := atoms_spec (ws := (ws_ yX2_fails cX2_fails 3 (some .int))) B.pre
  have hts : ∀ w ∈ lw_all, w.before _ s = true := fun w h => hts w (List.mem_cons_of_mem _ h)
  have hown : s.vm.findClass RX2 = some m.cls := findClass_of_methodNamed B.named
  have hlocks := B.notSynchronized
  subst hsz
  have hD := hD0.self (sz := s.heap.size)
  generalize hAe : va_A [oc h 4 [], oc a1 6 [.ref a1_0, .ref a1_1, .ref a1_2, .ref a1_3, .int (mn ba1), .int (ma ba1), .int (yr ba1), .int (dw ba1)], ai G a1_0 6 (kd ba1), ai G a1_1 18 (pl ba1), ai G a1_2 6 (lf ba1), ai G a1_3 6 (se ba1)] s.heap.size = A at hD ⊢
  have hA : ∀ q : Nat, s.heap.size ≤ q → A q := fun q h => by rw [← hAe]; exact Or.inr h
  have hS : va_S A s.heap s.heap [] := va_S.rf
  have C : Cx p s m meth c cX2_fails 3 (some .int) RX2 ([.ref h, .ref a1, .int p2] : List Value).toArray G A := ⟨hx, hb, hr, hlocks, hml, hown, hts, hK, hA⟩
  have hl := lv_entry ([.ref h, .ref a1, .int p2]) (n := 3) (Nat.le_of_ble_eq_true rfl)
  rw [lg_entry_eq]
  generalize (lg_sl ([.ref h, .ref a1, .int p2]) ++ List.replicate (3 - (lg_sl ([.ref h, .ref a1, .int p2])).length) Slot.unset).toArray = ls at hl ⊢
  have hl : lv_has ls 3 [(0, .ref h), (1, .ref a1), (2, .int p2)] := hl
  unfold wp_X2_fails_4 at hw
  refine lv_aload_n hx hb dX2_fails_0 rfl (lv_at hl 1 rfl) ?_
  refine va_getN (D := G.1) (ci := 6) (v := .int (yr ba1)) (C := RX6) (T := TX6) (N := 8) hx hb hts in_X6 hown hK.1 hP 1 rfl rfl 6 (by decide) (hK.n q139 rfl) (fun _ h9 => h9) rfl dX2_fails_1 ?_
  refine lv_iconst (v := (2 : Int32)) hx hb dX2_fails_4 (by decide) ?_
  refine lv_irem hx hb dX2_fails_5 (by decide) ?_
  refine lv_if_ne (tgt := 18) hx hb dX2_fails_6 (by decide) (fun c_1 => ?_) (fun c_1 => ?_)
  · replace hw := hw.1 c_1
    refine lv_iconst (v := (0 : Int32)) hx hb dX2_fails_18 (by decide) ?_
    have hP9 := hP
    have hD9 := hD
    exact W.iret (v := (0 : Int32)) hx hb hr (fun t ht hW => ⟨⟨(0 : Int32), (), rfl, hw, by rw [ht]; exact hP9, hD9⟩, hS.F ht⟩) hS.2.2 dX2_fails_19
  · replace hw := hw.2 c_1
    refine lv_aload_n hx hb dX2_fails_9 rfl (lv_at hl 0 rfl) ?_
    refine lv_aload_n hx hb dX2_fails_10 rfl (lv_at hl 1 rfl) ?_
    refine lv_iload_n hx hb dX2_fails_11 rfl (lv_at hl 2 rfl) ?_
    have hPc := hP.sub (ws' := []) [] rfl
    have hDc := hD.sub (ws' := []) [] (by decide) rfl
    have hFc := va_free (wc := []) hD hS hA [] rfl
    refine va_calli (va_runSU (As := [.ref a1, .int p2]) (rest := []) (hK.1.1 4 _ rfl).2 ⟨hx, hb, hml, hown, hts⟩ (mt_X1_fails l G h a1 s.heap.size  p2 _ hw) (va_cwSU 2 hts (lw_app (List.forall_mem_cons.mpr ⟨q392, List.forall_mem_cons.mpr ⟨q385, List.forall_mem_cons.mpr ⟨q99, List.forall_mem_cons.mpr ⟨q383, List.forall_mem_cons.mpr ⟨q55, fun _ h9 => absurd h9 List.not_mem_nil⟩⟩⟩⟩⟩) (lw_meth q415)) rfl rfl rfl (by decide +kernel) ⟨Nat.le_of_ble_eq_true rfl, Nat.le_of_ble_eq_true rfl⟩) ⟨fun a U g mk q => by obtain ⟨q0, q1, qP, qK, qD⟩ := q; exact ⟨q0, q1, qP, qK.call, qD⟩, va_recv hK.1 hP (ci := 4) (q0 := 0) rfl rfl, fun U hU hW => ⟨rfl, by rw [hU], by rw [hU]; exact hPc, hK.warm hW, hDc.weaken (fun _ _ _ _ => trivial)⟩⟩ rfl rfl hl.1 rfl (lv_room (Nat.le_of_ble_eq_true rfl)) dX2_fails_12 ⟨Nat.le_of_ble_eq_true rfl, Nat.le_of_ble_eq_true rfl⟩) hS (fun q _ h => hFc q h) hFc (fun r_2 _ t H1 locs ht hvm hw hB hz1 hk1 hS => ?_)
    obtain ⟨hP1, hD1⟩ := hB
    rw [ht] at hP1
    obtain ⟨hP, hD⟩ := va_join (wr := [oc h 4 [], oc a1 6 [.ref a1_0, .ref a1_1, .ref a1_2, .ref a1_3, .int (mn ba1), .int (ma ba1), .int (yr ba1), .int (dw ba1)], ai G a1_0 6 (kd ba1), ai G a1_1 18 (pl ba1), ai G a1_2 6 (lf ba1), ai G a1_3 6 (se ba1)]) (w1 := []) hP hD [] [0, 1, 2, 3, 4, 5] rfl rfl (by decide) (by decide) hk1 hFc hP1 hD1
    clear hPc hDc hFc hP1 hD1 hz1 hk1 hvm
    generalize H1 = H at hP hS ⊢
    have hP : va_P G.1 gCl [oc h 4 [], oc a1 6 [.ref a1_0, .ref a1_1, .ref a1_2, .ref a1_3, .int (mn ba1), .int (ma ba1), .int (yr ba1), .int (dw ba1)], ai G a1_0 6 (kd ba1), ai G a1_1 18 (pl ba1), ai G a1_2 6 (lf ba1), ai G a1_3 6 (se ba1)] H := hP
    have hD : va_D A [oc h 4 [], oc a1 6 [.ref a1_0, .ref a1_1, .ref a1_2, .ref a1_3, .int (mn ba1), .int (ma ba1), .int (yr ba1), .int (dw ba1)], ai G a1_0 6 (kd ba1), ai G a1_1 18 (pl ba1), ai G a1_2 6 (lf ba1), ai G a1_3 6 (se ba1)] := hD
    refine lv_goto (tgt := 19) hx hb dX2_fails_15 (by decide) ?_
    have hP9 := hP
    have hD9 := hD
    exact W.iret (v := r_2) hx hb hr (fun t ht hW => ⟨⟨r_2, (), rfl, hw, by rw [ht]; exact hP9, hD9⟩, hS.F ht⟩) hS.2.2 dX2_fails_19
/-! BattleBench.Hurt.fails(LBattleBench$Bench;I)I -/
def wp_X3_fails (p2 : Int32) (Q : Int32 → Prop) : Prop :=
  wp_X1_fails  p2 (fun r_1 => Q ((2 : Int32) * r_1))
set_option maxHeartbeats 4000000 in
theorem mt_X3_fails (l : Launch) (G : GT) (h a1 : Nat) (sz : Nat) (p2 : Int32) (Q : Int32 → Prop) (hw : wp_X3_fails p2 Q) : Met l yX3_fails (ws_ yX3_fails cX3_fails 3 (some .int)) ({ frames := 1, cells := 0, slots := 0, locals := 22 } : Room) (va_Pc [.ref h, .ref a1, .int p2] (fun U => U.heap.size = sz ∧ va_P G.1 gCl [oc h 3 []] U.heap ∧ gK G U ∧ va_D (fun _ => True) [oc h 3 []])) ((fun A => (va_Qi (fun (r : Int32) (u : Unit) => Q r ) (fun u t => va_P G.1 gCl [oc h 3 []] t.heap ∧ va_D A [oc h 3 []]) A)) (va_A [oc h 3 []] sz)) 0 0 (va_A [oc h 3 []] sz) := by
  refine Met.ofW (cc := cX3_fails) (maxL := 3) (ret := (some .int)) (by decide) rfl ?_
  intro p e s m args below meth c s₁ B hml hv
  obtain ⟨rfl, hsz, hP, hK, hD0⟩ := hv
  have hx := B.exec
  have hb := B.bytes
  have hr := B.returns
  have hts := atoms_spec (ws := (ws_ yX3_fails cX3_fails 3 (some .int))) B.pre
  have hts : ∀ w ∈ lw_all, w.before _ s = true := fun w h => hts w (List.mem_cons_of_mem _ h)
  have hown : s.vm.findClass RX3 = some m.cls := findClass_of_methodNamed B.named
  have hlocks := B.notSynchronized
  subst hsz
  have hD := hD0.self (sz := s.heap.size)
  generalize hAe : va_A [oc h 3 []] s.heap.size = A at hD ⊢
  have hA : ∀ q : Nat, s.heap.size ≤ q → A q := fun q h => by rw [← hAe]; exact Or.inr h
  have hS : va_S A s.heap s.heap [] := va_S.rf
  have C : Cx p s m meth c cX3_fails 3 (some .int) RX3 ([.ref h, .ref a1, .int p2] : List Value).toArray G A := ⟨hx, hb, hr, hlocks, hml, hown, hts, hK, hA⟩
  have hl := lv_entry ([.ref h, .ref a1, .int p2]) (n := 3) (Nat.le_of_ble_eq_true rfl)
  rw [lg_entry_eq]
  generalize (lg_sl ([.ref h, .ref a1, .int p2]) ++ List.replicate (3 - (lg_sl ([.ref h, .ref a1, .int p2])).length) Slot.unset).toArray = ls at hl ⊢
  have hl : lv_has ls 3 [(0, .ref h), (1, .ref a1), (2, .int p2)] := hl
  unfold wp_X3_fails at hw
  refine lv_iconst (v := (2 : Int32)) hx hb dX3_fails_0 (by decide) ?_
  refine lv_aload_n hx hb dX3_fails_1 rfl (lv_at hl 0 rfl) ?_
  refine lv_aload_n hx hb dX3_fails_2 rfl (lv_at hl 1 rfl) ?_
  refine lv_iload_n hx hb dX3_fails_3 rfl (lv_at hl 2 rfl) ?_
  have hPc := hP.sub (ws' := []) [] rfl
  have hDc := hD.sub (ws' := []) [] (by decide) rfl
  have hFc := va_free (wc := []) hD hS hA [] rfl
  refine va_calli (va_runSU (As := [.ref a1, .int p2]) (rest := [.int (2 : Int32)]) (hK.1.1 3 _ rfl).2 ⟨hx, hb, hml, hown, hts⟩ (mt_X1_fails l G h a1 s.heap.size  p2 _ hw) (va_cwSU 2 hts (lw_app (List.forall_mem_cons.mpr ⟨q401, List.forall_mem_cons.mpr ⟨q385, List.forall_mem_cons.mpr ⟨q106, List.forall_mem_cons.mpr ⟨q383, List.forall_mem_cons.mpr ⟨q55, fun _ h9 => absurd h9 List.not_mem_nil⟩⟩⟩⟩⟩) (lw_meth q415)) rfl rfl rfl (by decide +kernel) ⟨Nat.le_of_ble_eq_true rfl, Nat.le_of_ble_eq_true rfl⟩) ⟨fun a U g mk q => by obtain ⟨q0, q1, qP, qK, qD⟩ := q; exact ⟨q0, q1, qP, qK.call, qD⟩, va_recv hK.1 hP (ci := 3) (q0 := 0) rfl rfl, fun U hU hW => ⟨rfl, by rw [hU], by rw [hU]; exact hPc, hK.warm hW, hDc.weaken (fun _ _ _ _ => trivial)⟩⟩ rfl rfl hl.1 rfl (lv_room (Nat.le_of_ble_eq_true rfl)) dX3_fails_4 ⟨Nat.le_of_ble_eq_true rfl, Nat.le_of_ble_eq_true rfl⟩) hS (fun q _ h => hFc q h) hFc (fun r_1 _ t H1 locs ht hvm hw hB hz1 hk1 hS => ?_)
  obtain ⟨hP1, hD1⟩ := hB
  rw [ht] at hP1
  obtain ⟨hP, hD⟩ := va_join (wr := [oc h 3 []]) (w1 := []) hP hD [] [0] rfl rfl (by decide) (by decide) hk1 hFc hP1 hD1
  clear hPc hDc hFc hP1 hD1 hz1 hk1 hvm
  generalize H1 = H at hP hS ⊢
  have hP : va_P G.1 gCl [oc h 3 []] H := hP
  have hD : va_D A [oc h 3 []] := hD
  refine lv_imul hx hb dX3_fails_7 ?_
  have hP9 := hP
  have hD9 := hD
  exact W.iret (v := ((2 : Int32) * r_1)) hx hb hr (fun t ht hW => ⟨⟨((2 : Int32) * r_1), (), rfl, hw, by rw [ht]; exact hP9, hD9⟩, hS.F ht⟩) hS.2.2 dX3_fails_8
/-! BattleBench.Hurt.fails(LBattleBench$Bench;I)I -/
def wp_X3_fails_5 (p2 : Int32) (Q : Int32 → Prop) : Prop :=
  wp_X1_fails  p2 (fun r_1 => Q ((2 : Int32) * r_1))
set_option maxHeartbeats 4000000 in
theorem mt_X3_fails_5 (l : Launch) (G : GT) (h a1 : Nat) (sz : Nat) (p2 : Int32) (Q : Int32 → Prop) (hw : wp_X3_fails_5 p2 Q) : Met l yX3_fails (ws_ yX3_fails cX3_fails 3 (some .int)) ({ frames := 1, cells := 0, slots := 0, locals := 22 } : Room) (va_Pc [.ref h, .ref a1, .int p2] (fun U => U.heap.size = sz ∧ va_P G.1 gCl [oc h 5 []] U.heap ∧ gK G U ∧ va_D (fun _ => True) [oc h 5 []])) ((fun A => (va_Qi (fun (r : Int32) (u : Unit) => Q r ) (fun u t => va_P G.1 gCl [oc h 5 []] t.heap ∧ va_D A [oc h 5 []]) A)) (va_A [oc h 5 []] sz)) 0 0 (va_A [oc h 5 []] sz) := by
  refine Met.ofW (cc := cX3_fails) (maxL := 3) (ret := (some .int)) (by decide) rfl ?_
  intro p e s m args below meth c s₁ B hml hv
  obtain ⟨rfl, hsz, hP, hK, hD0⟩ := hv
  have hx := B.exec
  have hb := B.bytes
  have hr := B.returns
  have hts := atoms_spec (ws := (ws_ yX3_fails cX3_fails 3 (some .int))) B.pre
  have hts : ∀ w ∈ lw_all, w.before _ s = true := fun w h => hts w (List.mem_cons_of_mem _ h)
  have hown : s.vm.findClass RX3 = some m.cls := findClass_of_methodNamed B.named
  have hlocks := B.notSynchronized
  subst hsz
  have hD := hD0.self (sz := s.heap.size)
  generalize hAe : va_A [oc h 5 []] s.heap.size = A at hD ⊢
  have hA : ∀ q : Nat, s.heap.size ≤ q → A q := fun q h => by rw [← hAe]; exact Or.inr h
  have hS : va_S A s.heap s.heap [] := va_S.rf
  have C : Cx p s m meth c cX3_fails 3 (some .int) RX3 ([.ref h, .ref a1, .int p2] : List Value).toArray G A := ⟨hx, hb, hr, hlocks, hml, hown, hts, hK, hA⟩
  have hl := lv_entry ([.ref h, .ref a1, .int p2]) (n := 3) (Nat.le_of_ble_eq_true rfl)
  rw [lg_entry_eq]
  generalize (lg_sl ([.ref h, .ref a1, .int p2]) ++ List.replicate (3 - (lg_sl ([.ref h, .ref a1, .int p2])).length) Slot.unset).toArray = ls at hl ⊢
  have hl : lv_has ls 3 [(0, .ref h), (1, .ref a1), (2, .int p2)] := hl
  unfold wp_X3_fails_5 at hw
  refine lv_iconst (v := (2 : Int32)) hx hb dX3_fails_0 (by decide) ?_
  refine lv_aload_n hx hb dX3_fails_1 rfl (lv_at hl 0 rfl) ?_
  refine lv_aload_n hx hb dX3_fails_2 rfl (lv_at hl 1 rfl) ?_
  refine lv_iload_n hx hb dX3_fails_3 rfl (lv_at hl 2 rfl) ?_
  have hPc := hP.sub (ws' := []) [] rfl
  have hDc := hD.sub (ws' := []) [] (by decide) rfl
  have hFc := va_free (wc := []) hD hS hA [] rfl
  refine va_calli (va_runSU (As := [.ref a1, .int p2]) (rest := [.int (2 : Int32)]) (hK.1.1 5 _ rfl).2 ⟨hx, hb, hml, hown, hts⟩ (mt_X1_fails l G h a1 s.heap.size  p2 _ hw) (va_cwSU 2 hts (lw_app (List.forall_mem_cons.mpr ⟨q401, List.forall_mem_cons.mpr ⟨q385, List.forall_mem_cons.mpr ⟨q106, List.forall_mem_cons.mpr ⟨q383, List.forall_mem_cons.mpr ⟨q55, fun _ h9 => absurd h9 List.not_mem_nil⟩⟩⟩⟩⟩) (lw_meth q415)) rfl rfl rfl (by decide +kernel) ⟨Nat.le_of_ble_eq_true rfl, Nat.le_of_ble_eq_true rfl⟩) ⟨fun a U g mk q => by obtain ⟨q0, q1, qP, qK, qD⟩ := q; exact ⟨q0, q1, qP, qK.call, qD⟩, va_recv hK.1 hP (ci := 5) (q0 := 0) rfl rfl, fun U hU hW => ⟨rfl, by rw [hU], by rw [hU]; exact hPc, hK.warm hW, hDc.weaken (fun _ _ _ _ => trivial)⟩⟩ rfl rfl hl.1 rfl (lv_room (Nat.le_of_ble_eq_true rfl)) dX3_fails_4 ⟨Nat.le_of_ble_eq_true rfl, Nat.le_of_ble_eq_true rfl⟩) hS (fun q _ h => hFc q h) hFc (fun r_1 _ t H1 locs ht hvm hw hB hz1 hk1 hS => ?_)
  obtain ⟨hP1, hD1⟩ := hB
  rw [ht] at hP1
  obtain ⟨hP, hD⟩ := va_join (wr := [oc h 5 []]) (w1 := []) hP hD [] [0] rfl rfl (by decide) (by decide) hk1 hFc hP1 hD1
  clear hPc hDc hFc hP1 hD1 hz1 hk1 hvm
  generalize H1 = H at hP hS ⊢
  have hP : va_P G.1 gCl [oc h 5 []] H := hP
  have hD : va_D A [oc h 5 []] := hD
  refine lv_imul hx hb dX3_fails_7 ?_
  have hP9 := hP
  have hD9 := hD
  exact W.iret (v := ((2 : Int32) * r_1)) hx hb hr (fun t ht hW => ⟨⟨((2 : Int32) * r_1), (), rfl, hw, by rw [ht]; exact hP9, hD9⟩, hS.F ht⟩) hS.2.2 dX3_fails_8
/-! BattleBench.Drummer.fails(LBattleBench$Bench;I)I -/
def wp_X4_fails (ba1 : BT) (p2 : Int32) (Q : Int32 → Prop) : Prop :=
  wp_X2_fails_4 ba1 p2 (fun r_1 => wp_X6_isAtEnd ba1 p2 (fun r_2 => (((r_2 = 0) → Q r_1) ∧ (¬ (r_2 = 0) → Q (r_1 + (1 : Int32))))))
set_option maxHeartbeats 4000000 in
theorem mt_X4_fails (l : Launch) (G : GT) (h a1 a1_0 a1_1 a1_2 a1_3 : Nat) (sz : Nat) (ba1 : BT) (p2 : Int32) (Q : Int32 → Prop) (hw : wp_X4_fails ba1 p2 Q) : Met l yX4_fails (ws_ yX4_fails cX4_fails 4 (some .int)) ({ frames := 2, cells := 0, slots := 0, locals := 44 } : Room) (va_Pc [.ref h, .ref a1, .int p2] (fun U => U.heap.size = sz ∧ va_P G.1 gCl [oc h 4 [], oc a1 6 [.ref a1_0, .ref a1_1, .ref a1_2, .ref a1_3, .int (mn ba1), .int (ma ba1), .int (yr ba1), .int (dw ba1)], ai G a1_0 6 (kd ba1), ai G a1_1 18 (pl ba1), ai G a1_2 6 (lf ba1), ai G a1_3 6 (se ba1)] U.heap ∧ gK G U ∧ va_D (fun _ => True) [oc h 4 [], oc a1 6 [.ref a1_0, .ref a1_1, .ref a1_2, .ref a1_3, .int (mn ba1), .int (ma ba1), .int (yr ba1), .int (dw ba1)], ai G a1_0 6 (kd ba1), ai G a1_1 18 (pl ba1), ai G a1_2 6 (lf ba1), ai G a1_3 6 (se ba1)])) ((fun A => (va_Qi (fun (r : Int32) (u : Unit) => Q r ) (fun u t => va_P G.1 gCl [oc h 4 [], oc a1 6 [.ref a1_0, .ref a1_1, .ref a1_2, .ref a1_3, .int (mn ba1), .int (ma ba1), .int (yr ba1), .int (dw ba1)], ai G a1_0 6 (kd ba1), ai G a1_1 18 (pl ba1), ai G a1_2 6 (lf ba1), ai G a1_3 6 (se ba1)] t.heap ∧ va_D A [oc h 4 [], oc a1 6 [.ref a1_0, .ref a1_1, .ref a1_2, .ref a1_3, .int (mn ba1), .int (ma ba1), .int (yr ba1), .int (dw ba1)], ai G a1_0 6 (kd ba1), ai G a1_1 18 (pl ba1), ai G a1_2 6 (lf ba1), ai G a1_3 6 (se ba1)]) A)) (va_A [oc h 4 [], oc a1 6 [.ref a1_0, .ref a1_1, .ref a1_2, .ref a1_3, .int (mn ba1), .int (ma ba1), .int (yr ba1), .int (dw ba1)], ai G a1_0 6 (kd ba1), ai G a1_1 18 (pl ba1), ai G a1_2 6 (lf ba1), ai G a1_3 6 (se ba1)] sz)) 0 0 (va_A [oc h 4 [], oc a1 6 [.ref a1_0, .ref a1_1, .ref a1_2, .ref a1_3, .int (mn ba1), .int (ma ba1), .int (yr ba1), .int (dw ba1)], ai G a1_0 6 (kd ba1), ai G a1_1 18 (pl ba1), ai G a1_2 6 (lf ba1), ai G a1_3 6 (se ba1)] sz) := by
  refine Met.ofW (cc := cX4_fails) (maxL := 4) (ret := (some .int)) (by decide) rfl ?_
  intro p e s m args below meth c s₁ B hml hv
  obtain ⟨rfl, hsz, hP, hK, hD0⟩ := hv
  have hx := B.exec
  have hb := B.bytes
  have hr := B.returns
  have hts := atoms_spec (ws := (ws_ yX4_fails cX4_fails 4 (some .int))) B.pre
  have hts : ∀ w ∈ lw_all, w.before _ s = true := fun w h => hts w (List.mem_cons_of_mem _ h)
  have hown : s.vm.findClass RX4 = some m.cls := findClass_of_methodNamed B.named
  have hlocks := B.notSynchronized
  subst hsz
  have hD := hD0.self (sz := s.heap.size)
  generalize hAe : va_A [oc h 4 [], oc a1 6 [.ref a1_0, .ref a1_1, .ref a1_2, .ref a1_3, .int (mn ba1), .int (ma ba1), .int (yr ba1), .int (dw ba1)], ai G a1_0 6 (kd ba1), ai G a1_1 18 (pl ba1), ai G a1_2 6 (lf ba1), ai G a1_3 6 (se ba1)] s.heap.size = A at hD ⊢
  have hA : ∀ q : Nat, s.heap.size ≤ q → A q := fun q h => by rw [← hAe]; exact Or.inr h
  have hS : va_S A s.heap s.heap [] := va_S.rf
  have C : Cx p s m meth c cX4_fails 4 (some .int) RX4 ([.ref h, .ref a1, .int p2] : List Value).toArray G A := ⟨hx, hb, hr, hlocks, hml, hown, hts, hK, hA⟩
  have hl := lv_entry ([.ref h, .ref a1, .int p2]) (n := 4) (Nat.le_of_ble_eq_true rfl)
  rw [lg_entry_eq]
  generalize (lg_sl ([.ref h, .ref a1, .int p2]) ++ List.replicate (4 - (lg_sl ([.ref h, .ref a1, .int p2])).length) Slot.unset).toArray = ls at hl ⊢
  have hl : lv_has ls 4 [(0, .ref h), (1, .ref a1), (2, .int p2)] := hl
  unfold wp_X4_fails at hw
  refine lv_aload_n hx hb dX4_fails_0 rfl (lv_at hl 0 rfl) ?_
  refine lv_aload_n hx hb dX4_fails_1 rfl (lv_at hl 1 rfl) ?_
  refine lv_iload_n hx hb dX4_fails_2 rfl (lv_at hl 2 rfl) ?_
  have hPc := hP.sub (ws' := [oc h 4 [], oc a1 6 [.ref a1_0, .ref a1_1, .ref a1_2, .ref a1_3, .int (mn ba1), .int (ma ba1), .int (yr ba1), .int (dw ba1)], ai G a1_0 6 (kd ba1), ai G a1_1 18 (pl ba1), ai G a1_2 6 (lf ba1), ai G a1_3 6 (se ba1)]) [0, 1, 2, 3, 4, 5] rfl
  have hDc := hD.sub (ws' := [oc h 4 [], oc a1 6 [.ref a1_0, .ref a1_1, .ref a1_2, .ref a1_3, .int (mn ba1), .int (ma ba1), .int (yr ba1), .int (dw ba1)], ai G a1_0 6 (kd ba1), ai G a1_1 18 (pl ba1), ai G a1_2 6 (lf ba1), ai G a1_3 6 (se ba1)]) [0, 1, 2, 3, 4, 5] (by decide) rfl
  have hFc := va_free (wc := [oc h 4 [], oc a1 6 [.ref a1_0, .ref a1_1, .ref a1_2, .ref a1_3, .int (mn ba1), .int (ma ba1), .int (yr ba1), .int (dw ba1)], ai G a1_0 6 (kd ba1), ai G a1_1 18 (pl ba1), ai G a1_2 6 (lf ba1), ai G a1_3 6 (se ba1)]) hD hS hA [0, 1, 2, 3, 4, 5] rfl
  refine va_calli (va_runSU (As := [.ref a1, .int p2]) (rest := []) (hK.1.1 4 _ rfl).2 ⟨hx, hb, hml, hown, hts⟩ (mt_X2_fails_4 l G h a1 a1_0 a1_1 a1_2 a1_3 s.heap.size ba1 p2 _ hw) (va_cwSU 2 hts (lw_app (List.forall_mem_cons.mpr ⟨q389, List.forall_mem_cons.mpr ⟨q1125, List.forall_mem_cons.mpr ⟨q113, List.forall_mem_cons.mpr ⟨q390, List.forall_mem_cons.mpr ⟨q56, fun _ h9 => absurd h9 List.not_mem_nil⟩⟩⟩⟩⟩) (lw_meth q391)) rfl rfl rfl (by decide +kernel) ⟨Nat.le_of_ble_eq_true rfl, Nat.le_of_ble_eq_true rfl⟩) ⟨fun a U g mk q => by obtain ⟨q0, q1, qP, qK, qD⟩ := q; exact ⟨q0, q1, qP, qK.call, qD⟩, va_recv hK.1 hP (ci := 4) (q0 := 0) rfl rfl, fun U hU hW => ⟨rfl, by rw [hU], by rw [hU]; exact hPc, hK.warm hW, hDc.weaken (fun _ _ _ _ => trivial)⟩⟩ rfl rfl hl.1 rfl (lv_room (Nat.le_of_ble_eq_true rfl)) dX4_fails_3 ⟨Nat.le_of_ble_eq_true rfl, Nat.le_of_ble_eq_true rfl⟩) hS (fun q _ h => hFc q h) hFc (fun r_1 _ t H1 locs ht hvm hw hB hz1 hk1 hS => ?_)
  obtain ⟨hP1, hD1⟩ := hB
  rw [ht] at hP1
  obtain ⟨hP, hD⟩ := va_join (wr := []) (w1 := [oc h 4 [], oc a1 6 [.ref a1_0, .ref a1_1, .ref a1_2, .ref a1_3, .int (mn ba1), .int (ma ba1), .int (yr ba1), .int (dw ba1)], ai G a1_0 6 (kd ba1), ai G a1_1 18 (pl ba1), ai G a1_2 6 (lf ba1), ai G a1_3 6 (se ba1)]) hP hD [0, 1, 2, 3, 4, 5] [] rfl rfl (by decide) (by decide) hk1 hFc hP1 hD1
  clear hPc hDc hFc hP1 hD1 hz1 hk1 hvm
  generalize H1 = H at hP hS ⊢
  have hP : va_P G.1 gCl [oc h 4 [], oc a1 6 [.ref a1_0, .ref a1_1, .ref a1_2, .ref a1_3, .int (mn ba1), .int (ma ba1), .int (yr ba1), .int (dw ba1)], ai G a1_0 6 (kd ba1), ai G a1_1 18 (pl ba1), ai G a1_2 6 (lf ba1), ai G a1_3 6 (se ba1)] H := hP
  have hD : va_D A [oc h 4 [], oc a1 6 [.ref a1_0, .ref a1_1, .ref a1_2, .ref a1_3, .int (mn ba1), .int (ma ba1), .int (yr ba1), .int (dw ba1)], ai G a1_0 6 (kd ba1), ai G a1_1 18 (pl ba1), ai G a1_2 6 (lf ba1), ai G a1_3 6 (se ba1)] := hD
  refine lv_istore_n (lv' := [(3, .int r_1), (0, .ref h), (1, .ref a1), (2, .int p2)]) hx hb dX4_fails_6 rfl hl (by decide) rfl (fun ls hl => ?_)
  refine lv_aload_n hx hb dX4_fails_7 rfl (lv_at hl 2 rfl) ?_
  refine lv_iload_n hx hb dX4_fails_8 rfl (lv_at hl 3 rfl) ?_
  have hPc := hP.sub (ws' := [oc a1 6 [.ref a1_0, .ref a1_1, .ref a1_2, .ref a1_3, .int (mn ba1), .int (ma ba1), .int (yr ba1), .int (dw ba1)], ai G a1_0 6 (kd ba1), ai G a1_1 18 (pl ba1), ai G a1_2 6 (lf ba1), ai G a1_3 6 (se ba1)]) [1, 2, 3, 4, 5] rfl
  have hDc := hD.sub (ws' := [oc a1 6 [.ref a1_0, .ref a1_1, .ref a1_2, .ref a1_3, .int (mn ba1), .int (ma ba1), .int (yr ba1), .int (dw ba1)], ai G a1_0 6 (kd ba1), ai G a1_1 18 (pl ba1), ai G a1_2 6 (lf ba1), ai G a1_3 6 (se ba1)]) [1, 2, 3, 4, 5] (by decide) rfl
  have hFc := va_free (wc := [oc a1 6 [.ref a1_0, .ref a1_1, .ref a1_2, .ref a1_3, .int (mn ba1), .int (ma ba1), .int (yr ba1), .int (dw ba1)], ai G a1_0 6 (kd ba1), ai G a1_1 18 (pl ba1), ai G a1_2 6 (lf ba1), ai G a1_3 6 (se ba1)]) hD hS hA [1, 2, 3, 4, 5] rfl
  refine va_calli (va_runV (As := [.int p2]) (rest := []) ⟨hx, hb, hml, hown, hts⟩ (mt_X6_isAtEnd l G a1 a1_0 a1_1 a1_2 a1_3 H.size ba1 p2 _ hw) (cwV 1 hts (lw_V q393 q394 q395 q60 q396) rfl rfl rfl (by decide +kernel) ⟨Nat.le_of_ble_eq_true rfl, Nat.le_of_ble_eq_true rfl⟩) ⟨fun a U g mk q => by obtain ⟨q0, q1, qP, qK, qD⟩ := q; exact ⟨q0, q1, qP, qK.call, qD⟩, va_recv hK.1 hP (ci := 6) (q0 := 1) rfl rfl, fun U hU hW => ⟨rfl, by rw [hU], by rw [hU]; exact hPc, hK.warm hW, hDc.weaken (fun _ _ _ _ => trivial)⟩⟩ rfl rfl hl.1 rfl (lv_room (Nat.le_of_ble_eq_true rfl)) dX4_fails_9 ⟨Nat.le_of_ble_eq_true rfl, Nat.le_of_ble_eq_true rfl⟩) hS (fun q _ h => hFc q h) hFc (fun r_2 _ t H1 locs ht hvm hw hB hz1 hk1 hS => ?_)
  obtain ⟨hP1, hD1⟩ := hB
  rw [ht] at hP1
  obtain ⟨hP, hD⟩ := va_join (wr := [oc h 4 []]) (w1 := [oc a1 6 [.ref a1_0, .ref a1_1, .ref a1_2, .ref a1_3, .int (mn ba1), .int (ma ba1), .int (yr ba1), .int (dw ba1)], ai G a1_0 6 (kd ba1), ai G a1_1 18 (pl ba1), ai G a1_2 6 (lf ba1), ai G a1_3 6 (se ba1)]) hP hD [1, 2, 3, 4, 5] [0] rfl rfl (by decide) (by decide) hk1 hFc hP1 hD1
  clear hPc hDc hFc hP1 hD1 hz1 hk1 hvm
  generalize H1 = H at hP hS ⊢
  have hP : va_P G.1 gCl [oc h 4 [], oc a1 6 [.ref a1_0, .ref a1_1, .ref a1_2, .ref a1_3, .int (mn ba1), .int (ma ba1), .int (yr ba1), .int (dw ba1)], ai G a1_0 6 (kd ba1), ai G a1_1 18 (pl ba1), ai G a1_2 6 (lf ba1), ai G a1_3 6 (se ba1)] H := hP
  have hD : va_D A [oc h 4 [], oc a1 6 [.ref a1_0, .ref a1_1, .ref a1_2, .ref a1_3, .int (mn ba1), .int (ma ba1), .int (yr ba1), .int (dw ba1)], ai G a1_0 6 (kd ba1), ai G a1_1 18 (pl ba1), ai G a1_2 6 (lf ba1), ai G a1_3 6 (se ba1)] := hD
  refine lv_if_eq (tgt := 21) hx hb dX4_fails_12 (by decide) (fun c_3 => ?_) (fun c_3 => ?_)
  · replace hw := hw.1 c_3
    refine lv_iload_n hx hb dX4_fails_21 rfl (lv_at hl 0 rfl) ?_
    have hP9 := hP
    have hD9 := hD
    exact W.iret (v := r_1) hx hb hr (fun t ht hW => ⟨⟨r_1, (), rfl, hw, by rw [ht]; exact hP9, hD9⟩, hS.F ht⟩) hS.2.2 dX4_fails_22
  · replace hw := hw.2 c_3
    refine lv_iload_n hx hb dX4_fails_15 rfl (lv_at hl 0 rfl) ?_
    refine lv_iconst (v := (1 : Int32)) hx hb dX4_fails_16 (by decide) ?_
    refine lv_iadd hx hb dX4_fails_17 ?_
    refine lv_goto (tgt := 22) hx hb dX4_fails_18 (by decide) ?_
    have hP9 := hP
    have hD9 := hD
    exact W.iret (v := (r_1 + (1 : Int32))) hx hb hr (fun t ht hW => ⟨⟨(r_1 + (1 : Int32)), (), rfl, hw, by rw [ht]; exact hP9, hD9⟩, hS.F ht⟩) hS.2.2 dX4_fails_22
/-! BattleBench.Runner.fails(LBattleBench$Bench;I)I -/
def wp_X5_fails (ba1 : BT) (p2 : Int32) (Q : Int32 → Prop) : Prop :=
  wp_X3_fails_5  p2 (fun r_1 => wp_X6_sitSet ba1 p2 (fun r_2 => wp_X6_stoodSet ba1 p2 (fun r_3 => wp_J3_bitCount  (r_2 &&& r_3) (fun r_4 => Q (jmax (0 : Int32) (r_1 - r_4))))))
set_option maxHeartbeats 4000000 in
theorem mt_X5_fails (l : Launch) (G : GT) (h a1 a1_0 a1_1 a1_2 a1_3 : Nat) (sz : Nat) (ba1 : BT) (p2 : Int32) (Q : Int32 → Prop) (hw : wp_X5_fails ba1 p2 Q) : Met l yX5_fails (ws_ yX5_fails cX5_fails 3 (some .int)) ({ frames := 5, cells := 0, slots := 0, locals := 138 } : Room) (va_Pc [.ref h, .ref a1, .int p2] (fun U => U.heap.size = sz ∧ va_P G.1 gCl [oc h 5 [], oc a1 6 [.ref a1_0, .ref a1_1, .ref a1_2, .ref a1_3, .int (mn ba1), .int (ma ba1), .int (yr ba1), .int (dw ba1)], ai G a1_0 6 (kd ba1), ai G a1_1 18 (pl ba1), ai G a1_2 6 (lf ba1), ai G a1_3 6 (se ba1)] U.heap ∧ gK G U ∧ va_D (fun _ => True) [oc h 5 [], oc a1 6 [.ref a1_0, .ref a1_1, .ref a1_2, .ref a1_3, .int (mn ba1), .int (ma ba1), .int (yr ba1), .int (dw ba1)], ai G a1_0 6 (kd ba1), ai G a1_1 18 (pl ba1), ai G a1_2 6 (lf ba1), ai G a1_3 6 (se ba1)])) ((fun A => (va_Qi (fun (r : Int32) (u : Unit) => Q r ) (fun u t => va_P G.1 gCl [oc h 5 [], oc a1 6 [.ref a1_0, .ref a1_1, .ref a1_2, .ref a1_3, .int (mn ba1), .int (ma ba1), .int (yr ba1), .int (dw ba1)], ai G a1_0 6 (kd ba1), ai G a1_1 18 (pl ba1), ai G a1_2 6 (lf ba1), ai G a1_3 6 (se ba1)] t.heap ∧ va_D A [oc h 5 [], oc a1 6 [.ref a1_0, .ref a1_1, .ref a1_2, .ref a1_3, .int (mn ba1), .int (ma ba1), .int (yr ba1), .int (dw ba1)], ai G a1_0 6 (kd ba1), ai G a1_1 18 (pl ba1), ai G a1_2 6 (lf ba1), ai G a1_3 6 (se ba1)]) A)) (va_A [oc h 5 [], oc a1 6 [.ref a1_0, .ref a1_1, .ref a1_2, .ref a1_3, .int (mn ba1), .int (ma ba1), .int (yr ba1), .int (dw ba1)], ai G a1_0 6 (kd ba1), ai G a1_1 18 (pl ba1), ai G a1_2 6 (lf ba1), ai G a1_3 6 (se ba1)] sz)) 0 0 (va_A [oc h 5 [], oc a1 6 [.ref a1_0, .ref a1_1, .ref a1_2, .ref a1_3, .int (mn ba1), .int (ma ba1), .int (yr ba1), .int (dw ba1)], ai G a1_0 6 (kd ba1), ai G a1_1 18 (pl ba1), ai G a1_2 6 (lf ba1), ai G a1_3 6 (se ba1)] sz) := by
  refine Met.ofW (cc := cX5_fails) (maxL := 3) (ret := (some .int)) (by decide) rfl ?_
  intro p e s m args below meth c s₁ B hml hv
  obtain ⟨rfl, hsz, hP, hK, hD0⟩ := hv
  have hx := B.exec
  have hb := B.bytes
  have hr := B.returns
  have hts := atoms_spec (ws := (ws_ yX5_fails cX5_fails 3 (some .int))) B.pre
  have hts : ∀ w ∈ lw_all, w.before _ s = true := fun w h => hts w (List.mem_cons_of_mem _ h)
  have hown : s.vm.findClass RX5 = some m.cls := findClass_of_methodNamed B.named
  have hlocks := B.notSynchronized
  subst hsz
  have hD := hD0.self (sz := s.heap.size)
  generalize hAe : va_A [oc h 5 [], oc a1 6 [.ref a1_0, .ref a1_1, .ref a1_2, .ref a1_3, .int (mn ba1), .int (ma ba1), .int (yr ba1), .int (dw ba1)], ai G a1_0 6 (kd ba1), ai G a1_1 18 (pl ba1), ai G a1_2 6 (lf ba1), ai G a1_3 6 (se ba1)] s.heap.size = A at hD ⊢
  have hA : ∀ q : Nat, s.heap.size ≤ q → A q := fun q h => by rw [← hAe]; exact Or.inr h
  have hS : va_S A s.heap s.heap [] := va_S.rf
  have C : Cx p s m meth c cX5_fails 3 (some .int) RX5 ([.ref h, .ref a1, .int p2] : List Value).toArray G A := ⟨hx, hb, hr, hlocks, hml, hown, hts, hK, hA⟩
  have hl := lv_entry ([.ref h, .ref a1, .int p2]) (n := 3) (Nat.le_of_ble_eq_true rfl)
  rw [lg_entry_eq]
  generalize (lg_sl ([.ref h, .ref a1, .int p2]) ++ List.replicate (3 - (lg_sl ([.ref h, .ref a1, .int p2])).length) Slot.unset).toArray = ls at hl ⊢
  have hl : lv_has ls 3 [(0, .ref h), (1, .ref a1), (2, .int p2)] := hl
  unfold wp_X5_fails at hw
  refine lv_iconst (v := (0 : Int32)) hx hb dX5_fails_0 (by decide) ?_
  refine lv_aload_n hx hb dX5_fails_1 rfl (lv_at hl 0 rfl) ?_
  refine lv_aload_n hx hb dX5_fails_2 rfl (lv_at hl 1 rfl) ?_
  refine lv_iload_n hx hb dX5_fails_3 rfl (lv_at hl 2 rfl) ?_
  have hPc := hP.sub (ws' := [oc h 5 []]) [0] rfl
  have hDc := hD.sub (ws' := [oc h 5 []]) [0] (by decide) rfl
  have hFc := va_free (wc := [oc h 5 []]) hD hS hA [0] rfl
  refine va_calli (va_runSU (As := [.ref a1, .int p2]) (rest := [.int (0 : Int32)]) (hK.1.1 5 _ rfl).2 ⟨hx, hb, hml, hown, hts⟩ (mt_X3_fails_5 l G h a1 s.heap.size  p2 _ hw) (va_cwSU 2 hts (lw_app (List.forall_mem_cons.mpr ⟨q405, List.forall_mem_cons.mpr ⟨q1126, List.forall_mem_cons.mpr ⟨q120, List.forall_mem_cons.mpr ⟨q399, List.forall_mem_cons.mpr ⟨q57, fun _ h9 => absurd h9 List.not_mem_nil⟩⟩⟩⟩⟩) (lw_meth q400)) rfl rfl rfl (by decide +kernel) ⟨Nat.le_of_ble_eq_true rfl, Nat.le_of_ble_eq_true rfl⟩) ⟨fun a U g mk q => by obtain ⟨q0, q1, qP, qK, qD⟩ := q; exact ⟨q0, q1, qP, qK.call, qD⟩, va_recv hK.1 hP (ci := 5) (q0 := 0) rfl rfl, fun U hU hW => ⟨rfl, by rw [hU], by rw [hU]; exact hPc, hK.warm hW, hDc.weaken (fun _ _ _ _ => trivial)⟩⟩ rfl rfl hl.1 rfl (lv_room (Nat.le_of_ble_eq_true rfl)) dX5_fails_4 ⟨Nat.le_of_ble_eq_true rfl, Nat.le_of_ble_eq_true rfl⟩) hS (fun q _ h => hFc q h) hFc (fun r_1 _ t H1 locs ht hvm hw hB hz1 hk1 hS => ?_)
  obtain ⟨hP1, hD1⟩ := hB
  rw [ht] at hP1
  obtain ⟨hP, hD⟩ := va_join (wr := [oc a1 6 [.ref a1_0, .ref a1_1, .ref a1_2, .ref a1_3, .int (mn ba1), .int (ma ba1), .int (yr ba1), .int (dw ba1)], ai G a1_0 6 (kd ba1), ai G a1_1 18 (pl ba1), ai G a1_2 6 (lf ba1), ai G a1_3 6 (se ba1)]) (w1 := [oc h 5 []]) hP hD [0] [1, 2, 3, 4, 5] rfl rfl (by decide) (by decide) hk1 hFc hP1 hD1
  clear hPc hDc hFc hP1 hD1 hz1 hk1 hvm
  generalize H1 = H at hP hS ⊢
  have hP : va_P G.1 gCl [oc a1 6 [.ref a1_0, .ref a1_1, .ref a1_2, .ref a1_3, .int (mn ba1), .int (ma ba1), .int (yr ba1), .int (dw ba1)], ai G a1_0 6 (kd ba1), ai G a1_1 18 (pl ba1), ai G a1_2 6 (lf ba1), ai G a1_3 6 (se ba1), oc h 5 []] H := hP
  have hD : va_D A [oc a1 6 [.ref a1_0, .ref a1_1, .ref a1_2, .ref a1_3, .int (mn ba1), .int (ma ba1), .int (yr ba1), .int (dw ba1)], ai G a1_0 6 (kd ba1), ai G a1_1 18 (pl ba1), ai G a1_2 6 (lf ba1), ai G a1_3 6 (se ba1), oc h 5 []] := hD
  refine lv_aload_n hx hb dX5_fails_7 rfl (lv_at hl 1 rfl) ?_
  refine lv_iload_n hx hb dX5_fails_8 rfl (lv_at hl 2 rfl) ?_
  have hPc := hP.sub (ws' := [oc a1 6 [.ref a1_0, .ref a1_1, .ref a1_2, .ref a1_3, .int (mn ba1), .int (ma ba1), .int (yr ba1), .int (dw ba1)], ai G a1_0 6 (kd ba1), ai G a1_1 18 (pl ba1), ai G a1_2 6 (lf ba1), ai G a1_3 6 (se ba1)]) [0, 1, 2, 3, 4] rfl
  have hDc := hD.sub (ws' := [oc a1 6 [.ref a1_0, .ref a1_1, .ref a1_2, .ref a1_3, .int (mn ba1), .int (ma ba1), .int (yr ba1), .int (dw ba1)], ai G a1_0 6 (kd ba1), ai G a1_1 18 (pl ba1), ai G a1_2 6 (lf ba1), ai G a1_3 6 (se ba1)]) [0, 1, 2, 3, 4] (by decide) rfl
  have hFc := va_free (wc := [oc a1 6 [.ref a1_0, .ref a1_1, .ref a1_2, .ref a1_3, .int (mn ba1), .int (ma ba1), .int (yr ba1), .int (dw ba1)], ai G a1_0 6 (kd ba1), ai G a1_1 18 (pl ba1), ai G a1_2 6 (lf ba1), ai G a1_3 6 (se ba1)]) hD hS hA [0, 1, 2, 3, 4] rfl
  refine va_calli (va_runV (As := [.int p2]) (rest := [.int r_1, .int (0 : Int32)]) ⟨hx, hb, hml, hown, hts⟩ (mt_X6_sitSet l G a1 a1_0 a1_1 a1_2 a1_3 H.size ba1 p2 _ hw) (cwV 1 hts (lw_V q406 q374 q375 q60 q376) rfl rfl rfl (by decide +kernel) ⟨Nat.le_of_ble_eq_true rfl, Nat.le_of_ble_eq_true rfl⟩) ⟨fun a U g mk q => by obtain ⟨q0, q1, qP, qK, qD⟩ := q; exact ⟨q0, q1, qP, qK.call, qD⟩, va_recv hK.1 hP (ci := 6) (q0 := 0) rfl rfl, fun U hU hW => ⟨rfl, by rw [hU], by rw [hU]; exact hPc, hK.warm hW, hDc.weaken (fun _ _ _ _ => trivial)⟩⟩ rfl rfl hl.1 rfl (lv_room (Nat.le_of_ble_eq_true rfl)) dX5_fails_9 ⟨Nat.le_of_ble_eq_true rfl, Nat.le_of_ble_eq_true rfl⟩) hS (fun q _ h => hFc q h) hFc (fun r_2 _ t H1 locs ht hvm hw hB hz1 hk1 hS => ?_)
  obtain ⟨hP1, hD1⟩ := hB
  rw [ht] at hP1
  obtain ⟨hP, hD⟩ := va_join (wr := [oc h 5 []]) (w1 := [oc a1 6 [.ref a1_0, .ref a1_1, .ref a1_2, .ref a1_3, .int (mn ba1), .int (ma ba1), .int (yr ba1), .int (dw ba1)], ai G a1_0 6 (kd ba1), ai G a1_1 18 (pl ba1), ai G a1_2 6 (lf ba1), ai G a1_3 6 (se ba1)]) hP hD [0, 1, 2, 3, 4] [5] rfl rfl (by decide) (by decide) hk1 hFc hP1 hD1
  clear hPc hDc hFc hP1 hD1 hz1 hk1 hvm
  generalize H1 = H at hP hS ⊢
  have hP : va_P G.1 gCl [oc h 5 [], oc a1 6 [.ref a1_0, .ref a1_1, .ref a1_2, .ref a1_3, .int (mn ba1), .int (ma ba1), .int (yr ba1), .int (dw ba1)], ai G a1_0 6 (kd ba1), ai G a1_1 18 (pl ba1), ai G a1_2 6 (lf ba1), ai G a1_3 6 (se ba1)] H := hP
  have hD : va_D A [oc h 5 [], oc a1 6 [.ref a1_0, .ref a1_1, .ref a1_2, .ref a1_3, .int (mn ba1), .int (ma ba1), .int (yr ba1), .int (dw ba1)], ai G a1_0 6 (kd ba1), ai G a1_1 18 (pl ba1), ai G a1_2 6 (lf ba1), ai G a1_3 6 (se ba1)] := hD
  refine lv_aload_n hx hb dX5_fails_12 rfl (lv_at hl 1 rfl) ?_
  refine lv_iload_n hx hb dX5_fails_13 rfl (lv_at hl 2 rfl) ?_
  have hPc := hP.sub (ws' := [oc a1 6 [.ref a1_0, .ref a1_1, .ref a1_2, .ref a1_3, .int (mn ba1), .int (ma ba1), .int (yr ba1), .int (dw ba1)], ai G a1_0 6 (kd ba1), ai G a1_1 18 (pl ba1), ai G a1_2 6 (lf ba1), ai G a1_3 6 (se ba1)]) [1, 2, 3, 4, 5] rfl
  have hDc := hD.sub (ws' := [oc a1 6 [.ref a1_0, .ref a1_1, .ref a1_2, .ref a1_3, .int (mn ba1), .int (ma ba1), .int (yr ba1), .int (dw ba1)], ai G a1_0 6 (kd ba1), ai G a1_1 18 (pl ba1), ai G a1_2 6 (lf ba1), ai G a1_3 6 (se ba1)]) [1, 2, 3, 4, 5] (by decide) rfl
  have hFc := va_free (wc := [oc a1 6 [.ref a1_0, .ref a1_1, .ref a1_2, .ref a1_3, .int (mn ba1), .int (ma ba1), .int (yr ba1), .int (dw ba1)], ai G a1_0 6 (kd ba1), ai G a1_1 18 (pl ba1), ai G a1_2 6 (lf ba1), ai G a1_3 6 (se ba1)]) hD hS hA [1, 2, 3, 4, 5] rfl
  refine va_calli (va_runV (As := [.int p2]) (rest := [.int r_2, .int r_1, .int (0 : Int32)]) ⟨hx, hb, hml, hown, hts⟩ (mt_X6_stoodSet l G a1 a1_0 a1_1 a1_2 a1_3 H.size ba1 p2 _ hw) (cwV 1 hts (lw_V q407 q355 q356 q60 q357) rfl rfl rfl (by decide +kernel) ⟨Nat.le_of_ble_eq_true rfl, Nat.le_of_ble_eq_true rfl⟩) ⟨fun a U g mk q => by obtain ⟨q0, q1, qP, qK, qD⟩ := q; exact ⟨q0, q1, qP, qK.call, qD⟩, va_recv hK.1 hP (ci := 6) (q0 := 1) rfl rfl, fun U hU hW => ⟨rfl, by rw [hU], by rw [hU]; exact hPc, hK.warm hW, hDc.weaken (fun _ _ _ _ => trivial)⟩⟩ rfl rfl hl.1 rfl (lv_room (Nat.le_of_ble_eq_true rfl)) dX5_fails_14 ⟨Nat.le_of_ble_eq_true rfl, Nat.le_of_ble_eq_true rfl⟩) hS (fun q _ h => hFc q h) hFc (fun r_3 _ t H1 locs ht hvm hw hB hz1 hk1 hS => ?_)
  obtain ⟨hP1, hD1⟩ := hB
  rw [ht] at hP1
  obtain ⟨hP, hD⟩ := va_join (wr := [oc h 5 []]) (w1 := [oc a1 6 [.ref a1_0, .ref a1_1, .ref a1_2, .ref a1_3, .int (mn ba1), .int (ma ba1), .int (yr ba1), .int (dw ba1)], ai G a1_0 6 (kd ba1), ai G a1_1 18 (pl ba1), ai G a1_2 6 (lf ba1), ai G a1_3 6 (se ba1)]) hP hD [1, 2, 3, 4, 5] [0] rfl rfl (by decide) (by decide) hk1 hFc hP1 hD1
  clear hPc hDc hFc hP1 hD1 hz1 hk1 hvm
  generalize H1 = H at hP hS ⊢
  have hP : va_P G.1 gCl [oc h 5 [], oc a1 6 [.ref a1_0, .ref a1_1, .ref a1_2, .ref a1_3, .int (mn ba1), .int (ma ba1), .int (yr ba1), .int (dw ba1)], ai G a1_0 6 (kd ba1), ai G a1_1 18 (pl ba1), ai G a1_2 6 (lf ba1), ai G a1_3 6 (se ba1)] H := hP
  have hD : va_D A [oc h 5 [], oc a1 6 [.ref a1_0, .ref a1_1, .ref a1_2, .ref a1_3, .int (mn ba1), .int (ma ba1), .int (yr ba1), .int (dw ba1)], ai G a1_0 6 (kd ba1), ai G a1_1 18 (pl ba1), ai G a1_2 6 (lf ba1), ai G a1_3 6 (se ba1)] := hD
  refine lv_iand hx hb dX5_fails_17 ?_
  have hPc := hP.sub (ws' := []) [] rfl
  have hDc := hD.sub (ws' := []) [] (by decide) rfl
  have hFc := va_free (wc := []) hD hS hA [] rfl
  refine va_calli (va_runS (As := [.int (r_2 &&& r_3)]) (rest := [.int r_1, .int (0 : Int32)]) ⟨hx, hb, hml, hown, hts⟩ (mt_J3_bitCount l G  H.size  (r_2 &&& r_3) _ hw) (va_cwS 1 hts (lw_S q408 q409 q67 q410) rfl rfl rfl (by decide +kernel) ⟨Nat.le_of_ble_eq_true rfl, Nat.le_of_ble_eq_true rfl⟩) ⟨fun a U g mk q => by obtain ⟨q0, q1, qP, qK, qD⟩ := q; exact ⟨q0, q1, qP, qK.call, qD⟩, fun U hU hW => ⟨rfl, by rw [hU], by rw [hU]; exact hPc, hK.warm hW, hDc.weaken (fun _ _ _ _ => trivial)⟩⟩ rfl rfl hl.1 rfl (lv_room (Nat.le_of_ble_eq_true rfl)) dX5_fails_18 ⟨Nat.le_of_ble_eq_true rfl, Nat.le_of_ble_eq_true rfl⟩) hS (fun q _ h => hFc q h) hFc (fun r_4 _ t H1 locs ht hvm hw hB hz1 hk1 hS => ?_)
  obtain ⟨hP1, hD1⟩ := hB
  rw [ht] at hP1
  obtain ⟨hP, hD⟩ := va_join (wr := [oc h 5 [], oc a1 6 [.ref a1_0, .ref a1_1, .ref a1_2, .ref a1_3, .int (mn ba1), .int (ma ba1), .int (yr ba1), .int (dw ba1)], ai G a1_0 6 (kd ba1), ai G a1_1 18 (pl ba1), ai G a1_2 6 (lf ba1), ai G a1_3 6 (se ba1)]) (w1 := []) hP hD [] [0, 1, 2, 3, 4, 5] rfl rfl (by decide) (by decide) hk1 hFc hP1 hD1
  clear hPc hDc hFc hP1 hD1 hz1 hk1 hvm
  generalize H1 = H at hP hS ⊢
  have hP : va_P G.1 gCl [oc h 5 [], oc a1 6 [.ref a1_0, .ref a1_1, .ref a1_2, .ref a1_3, .int (mn ba1), .int (ma ba1), .int (yr ba1), .int (dw ba1)], ai G a1_0 6 (kd ba1), ai G a1_1 18 (pl ba1), ai G a1_2 6 (lf ba1), ai G a1_3 6 (se ba1)] H := hP
  have hD : va_D A [oc h 5 [], oc a1 6 [.ref a1_0, .ref a1_1, .ref a1_2, .ref a1_3, .int (mn ba1), .int (ma ba1), .int (yr ba1), .int (dw ba1)], ai G a1_0 6 (kd ba1), ai G a1_1 18 (pl ba1), ai G a1_2 6 (lf ba1), ai G a1_3 6 (se ba1)] := hD
  refine lv_isub hx hb dX5_fails_21 ?_
  refine va_mmax hx hb (hml.trans hl.1.symm) hown (hts _ q414) (hts _ q370) (hts _ q66) (hts _ q371) (Nat.le_of_ble_eq_true rfl) (Nat.le_of_ble_eq_true rfl) (Nat.le_of_ble_eq_true rfl) (Nat.le_of_ble_eq_true rfl) dX5_fails_22 ?_
  have hP9 := hP
  have hD9 := hD
  exact W.iret (v := (jmax (0 : Int32) (r_1 - r_4))) hx hb hr (fun t ht hW => ⟨⟨(jmax (0 : Int32) (r_1 - r_4)), (), rfl, hw, by rw [ht]; exact hP9, hD9⟩, hS.F ht⟩) hS.2.2 dX5_fails_25
